/-! rows of sheets; the machine's own throws over the system's world -/
/-- the contracts' start of methods that may meet a throw -/
def zPc (D : va_G) (T ad ra : Nat → Nat) (As : List Value) (M : Mem) (sz : Nat) : Array Value → State → Prop := va_Pc As (fun U => U.heap.size = sz ∧ fP D vwCl (cX T ad ra M) U.heap ∧ va_K D vwCl (tyL T) U ∧ fD (fun _ => True) (cX T ad ra M) ∧ NW U ∧ XT (fA (cX T ad ra M) sz) U U.heap ∧ NX U)
theorem XT.moved {A : Nat → Prop} {u U : State} {H : Heap} (hvm : u.vm.Alike U.vm) (h : XT A u H) : XT A U H := ⟨vx_Zq.moved hvm h.1, vx_Zq.moved hvm h.2⟩
theorem XT.kept {A : Nat → Prop} {U : State} {H H1 : Heap} (h : XT A U H) (hq : ∀ a : Nat, a < H.size → ¬ A a → H1[a]? = H[a]?) : XT A U H1 := ⟨h.1.kept hq, h.2.kept hq⟩
theorem XT.narrow {A B : Nat → Prop} {U : State} {H : Heap} (h : XT A U H) (hAB : ∀ q, B q → A q) : XT B U H := ⟨h.1.narrow hAB, h.2.narrow hAB⟩
theorem zPc_blind (D : va_G) (T ad ra : Nat → Nat) (As : List Value) (M : Mem) (sz : Nat) : FrameBlind (zPc D T ad ra As M sz) := fun a U g mk q => by
  obtain ⟨q0, q1, qP, qK, qD, qN, qT, qX⟩ := q
  exact ⟨q0, q1, qP, va_K.moved (u := U) (U := U.calling g mk a) (Vm.Alike.refl U.vm) qK, qD, qN.calling, qT.moved (u := U) (U := U.calling g mk a) (Vm.Alike.refl U.vm), qX.calling⟩
theorem XJ.kept {D : va_G} {T ad ra : Nat → Nat} {A : Nat → Prop} {H0 H H1 : Heap} {M : Mem} {locs locs1 : List Loc} (h : XJ D T ad A H0 ra M H locs) (hk : ∀ q : Nat, q < H.size → H1[q]? = H[q]?) (hS : va_S A H0 H1 locs1) : XJ D T ad A H0 ra M H1 locs1 :=
  ⟨h.1.kept (fun _ _ hq => hk _ (h.1.lt hq)), h.2.1, hS, h.2.2.2⟩
section XZ
variable {p : Program} {l : Launch} {e : Env} {R : Room} {s : State} {m : MethodId} {args : Array Value} {below : List Frame} {meth : Method} {c : Code} {H : Heap} {locs : List Loc} {cells slots : Nat} {Q : State → Prop}
variable {cc bytes : ByteArray} {pc nL maxL n idx : Nat} {ls : Array Slot} {rest st0 As : List Value} {A : Nat → Prop} {D : va_G} {T ad ra : Nat → Nat} {M : Mem} {own : String}
theorem x_vm {E text : String} {names : List String} {ng : List Cond} (C : XC D T own p m c cc nL s args) (J : XJ D T ad A s.heap ra M H locs) (hl : l.stackTraces = false) (hlocks : meth.locks = false) (hX : XT A s s.heap) (hN : NX s) (hls : ls.size = nL)
    (hcls : Bundle.fit E = true) (hnames : ∀ n ∈ names, Bundle.fit n = true) (hsoe : (E == "java/lang/StackOverflowError") = false) (hoom : (E == "java/lang/OutOfMemoryError") = false) (hlen : names.length ≤ 3)
    (hng : (vx_atM E names).filter (fun w => !goodWord w) = ng) (hn : ∀ w ∈ ng, w ∈ nxw) (hg : ∀ w ∈ (vx_atM E names).filter goodWord, w ∈ lw_all) (hot : (vx_atM E names).all vx_ot = true)
    (htext : (text == notModelled) = false) (hnb : (stringBytes (stringToUtf16 text)).size ≤ 1000) (hRf : 8 ≤ R.frames) (hRl : (rest.map fun v => v.category).sum + 10240 ≤ R.locals) (hRc : cells + 3 ≤ R.cells) (hRs : slots + 1010 ≤ R.slots)
    (k : ∀ (H1 : Heap) (q9 : Addr) (ce : Cell), XJ D T ad A s.heap ra M H1 locs → H1[q9]? = some ce → ce.vm = .none → s.vm.findClass E = some ce.cls → vx_W p l e R s m args below meth c H1 locs (cells + 3) (slots + 1010) Q (F0 m pc ls rest) q9) :
    vx_Note p l e R s m args below meth c H locs cells slots Q (F0 m pc ls rest) E text :=
  vx_vm C.1.1 hl hcls hnames hsoe hoom (vx_atM_words E names ng hng hn hg C.1.2.2.2.2 hN) (vx_atM_ot E names hot) hX.1 hX.2 J.2.2.1 (hls.trans C.1.2.2.1.symm) htext hnb (Nat.le_refl 1000) (by omega) hRl (by omega) hRc hRs hlocks
    (fun H1 q9 ce h1 h2 h3 h4 h5 h6 => k H1 q9 ce (J.kept h2 h3) h4 h5 h6)
theorem x_npe (C : XC D T own p m c cc nL s args) (J : XJ D T ad A s.heap ra M H locs) (hl : l.stackTraces = false) (hlocks : meth.locks = false) (hX : XT A s s.heap) (hN : NX s) (hls : ls.size = nL)
    (hRf : 8 ≤ R.frames) (hRl : (rest.map fun v => v.category).sum + 10240 ≤ R.locals) (hRc : cells + 3 ≤ R.cells) (hRs : slots + 1010 ≤ R.slots)
    (k : ∀ (H1 : Heap) (q9 : Addr) (ce : Cell), XJ D T ad A s.heap ra M H1 locs → H1[q9]? = some ce → ce.vm = .none → s.vm.findClass nNPE = some ce.cls → vx_W p l e R s m args below meth c H1 locs (cells + 3) (slots + 1010) Q (F0 m pc ls rest) q9) :
    vx_NoteN p l e R s m args below meth c H locs cells slots Q (F0 m pc ls rest) := by
  have hw : ∀ w ∈ vx_atN 8, w.before args s = true := by
    refine vx_hat (fun w hw => C.1.2.2.2.2 w (gdNPE w hw)) (B := [.castable nRT nTh, .declares ⟨nRT, "<init>", "()V"⟩, .declares ⟨nEx, "<init>", "()V"⟩, .declares ⟨nTh, "<init>", "()V"⟩, .castable nNPE nNPE]) (fun w hw => by rw [← ngNPE]; exact hw) (fun w hw => ?_)
    have hm : w ∈ nxw := by
      simp only [List.mem_cons, List.not_mem_nil, or_false] at hw
      simp only [nxw, List.mem_cons, List.not_mem_nil, or_false]
      rcases hw with e | e | e | e | e <;> simp [e]
    exact (hN.1 w hm).use (nxw_ot w hm)
  exact vx_npe C.1.1 hl hw (List.all_eq_true.mp otNPE) hX.1 hX.2 J.2.2.1 (hls.trans C.1.2.2.1.symm) (by omega) hRl (by omega) (by omega) hlocks
    (fun H1 q9 ce h1 h2 h3 h4 h5 h6 => vx_widen (by omega) (by omega) (k H1 q9 ce (J.kept h2 h3) h4 h5 h6))
/-- a sheet's row, read from the object's class -/
theorem x_rowN (C : XC D T RX0 p m c cc nL s args) {H0 : Heap} (J : XJ D T ad A H0 ra M H locs) {o : Nat} (ho : isSh o) (hdg : decode cc pc = .ok (.getfield 160, 3))
    (kk : W p l e R s m args below meth c H locs cells slots Q (F0 m (pc + 3) ls (rowX ra (M 124) (o - 110) :: rest))) : W p l e R s m args below meth c H locs cells slots Q (F0 m pc ls (.ref (ad o) :: rest)) :=
  va_getN C.1.1 C.1.2.1 (C := RX4) (T := TX4) (N := 2) (ci := 4) C.1.2.2.2.2 in_X4 C.1.2.2.2.1 C.2.1 (J.1.one (cX_sh ho)) 0 rfl rfl 1 (by decide) (C.2.2.2.1.use rfl) (fun _ h => h) rfl hdg kk
theorem cX_row {k : Nat} (hk : k < 4) (h : ¬ M 124 k < 0) : cX T ad ra M (120 + k) = some (ra k, .inl (T (rowT (M 124 k)), ci (M 125 k), .inl (M (120 + k)))) := by
  unfold cX cXf
  rw [if_neg (by omega), if_neg (by omega), if_pos (by omega), show 120 + k - 120 = k by omega, if_neg h]
/-- 'checkcast' of a row to its own class -/
theorem x_castYes {H0 : Heap} (C : XC D T own p m c cc nL s args) (J : XJ D T ad A H0 ra M H locs) {k : Nat} (hk : k < 4) (h : ¬ M 124 k < 0) {nm : String} {tt : Nat} {ty : FieldType} (htt : rowT (M 124 k) = tt) (hty : (tyL T)[tt]? = some (T tt, ty)) (hra : ∀ U : State, va_RA U (T tt) ty → U.vm.findClass nm = some (T tt)) (hlk : Cond.classLink own idx nm ∈ lw_all) (hdg : decode cc pc = .ok (.checkcast idx, 3))
    (kk : W p l e R s m args below meth c H locs cells slots Q (F0 m (pc + 3) ls (.ref (ra k) :: rest))) : W p l e R s m args below meth c H locs cells slots Q (F0 m pc ls (.ref (ra k) :: rest)) := by
  subst htt
  exact va_castA C.1.1 C.1.2.1 C.1.2.2.2.1 (C.1.2.2.2.2 _ hlk) (J.1.one (cX_row hk h)) 0 rfl (hra s (C.2.1.2 _ _ hty).2) hdg kk
end XZ
