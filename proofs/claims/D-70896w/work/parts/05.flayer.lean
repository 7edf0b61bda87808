/-! WORLDS BY A FUNCTION: a world's cells by a number, each present or not; the kit's rows over lists are taken over -/
abbrev fC : Type := Nat → Option (Nat × va_E)
def fP (D : va_G) (cl : List vw_C) (w : fC) (H : Heap) : Prop := ∀ (k : Nat) (q : Nat × va_E), w k = some q → va_at D cl q H
def fD (A : Nat → Prop) (w : fC) : Prop := (∀ (i j : Nat) (p q : Nat × va_E), w i = some p → w j = some q → p.1 = q.1 → i = j) ∧ ∀ (k : Nat) (q : Nat × va_E), w k = some q → A q.1
def fA (w : fC) (sz : Nat) : Nat → Prop := fun q => (∃ (k : Nat) (e : va_E), w k = some (q, e)) ∨ sz ≤ q
def fN (w : fC) (N : Nat) : Prop := ∀ k, N ≤ k → w k = none
def fL (w : fC) (N : Nat) : va_W := (List.range N).filterMap w
theorem fL_mem {w : fC} {N : Nat} {q : Nat × va_E} : q ∈ fL w N ↔ ∃ k, k < N ∧ w k = some q := by simp [fL, List.mem_filterMap]
theorem fL_P {D : va_G} {cl : List vw_C} {w : fC} {H : Heap} {N : Nat} (h : fP D cl w H) : va_P D cl (fL w N) H := by
  intro k q hk
  obtain ⟨j, -, hj⟩ := fL_mem.mp (List.mem_of_getElem? hk)
  exact h j q hj
theorem fL_pw {A : Nat → Prop} {w : fC} {N : Nat} (hD : fD A w) : (fL w N).Pairwise (fun p q => p.1 ≠ q.1) := by
  rw [fL, List.pairwise_filterMap]
  refine List.Pairwise.imp ?_ (List.nodup_range (n := N))
  intro i j hij p hp q hq he
  exact hij (hD.1 i j p q hp hq he)
theorem fL_D {A : Nat → Prop} {w : fC} {N : Nat} (hD : fD A w) : va_D A (fL w N) := by
  refine ⟨fun i j p q hi hj he => ?_, fun k q hk => ?_⟩
  · obtain ⟨hil, rfl⟩ := List.getElem?_eq_some_iff.mp hi
    obtain ⟨hjl, rfl⟩ := List.getElem?_eq_some_iff.mp hj
    have hp := List.pairwise_iff_getElem.mp (fL_pw (N := N) hD)
    rcases Nat.lt_trichotomy i j with h | h | h
    · exact absurd he (hp i j hil hjl h)
    · exact h
    · exact absurd he.symm (hp j i hjl hil h)
  · obtain ⟨j, -, hj⟩ := fL_mem.mp (List.mem_of_getElem? hk)
    exact hD.2 j q hj
theorem fL_at {w : fC} {N k : Nat} {q : Nat × va_E} (hN : fN w N) (hk : w k = some q) : ∃ q0 : Nat, (fL w N)[q0]? = some q := by
  have hl : k < N := Nat.lt_of_not_le fun h => by rw [hN k h] at hk; cases hk
  exact List.getElem?_of_mem (fL_mem.mpr ⟨k, hl, hk⟩)
theorem fL_back {D : va_G} {cl : List vw_C} {A : Nat → Prop} {w w' : fC} {N k q0 a : Nat} {e0 e : va_E} {H1 : Heap} (hN : fN w N) (hD : fD A w) (hq : (fL w N)[q0]? = some (a, e0)) (hk : w k = some (a, e0)) (hk' : w' k = some (a, e)) (ho : ∀ j, j ≠ k → w' j = w j) (hp : va_P D cl ((fL w N).set q0 (a, e)) H1) : fP D cl w' H1 := by
  have hl := (List.getElem?_eq_some_iff.mp hq).1
  intro j q hj
  by_cases hjk : j = k
  · subst hjk
    rw [hk'] at hj
    cases hj
    exact hp q0 _ (List.getElem?_set_self hl)
  · rw [ho j hjk] at hj
    obtain ⟨i, hi⟩ := fL_at hN hj
    have hne : i ≠ q0 := by
      intro h
      subst h
      rw [hq] at hi
      cases hi
      exact hjk (hD.1 j k _ _ hj hk rfl)
    exact hp i q (by rw [List.getElem?_set_ne (Ne.symm hne)]; exact hi)
theorem fD.set {A : Nat → Prop} {w w' : fC} {k a : Nat} {e0 e : va_E} (hD : fD A w) (hk : w k = some (a, e0)) (hk' : w' k = some (a, e)) (ho : ∀ j, j ≠ k → w' j = w j) : fD A w' := by
  have key : ∀ (j : Nat) (q : Nat × va_E), w' j = some q → ∃ q1, w j = some q1 ∧ q1.1 = q.1 := by
    intro j q hj
    by_cases hjk : j = k
    · subst hjk
      rw [hk'] at hj
      cases hj
      exact ⟨_, hk, rfl⟩
    · rw [ho j hjk] at hj
      exact ⟨q, hj, rfl⟩
  refine ⟨fun i j p q hi hj he => ?_, fun j q hj => ?_⟩
  · obtain ⟨p1, h1, h2⟩ := key i p hi
    obtain ⟨q1, h3, h4⟩ := key j q hj
    exact hD.1 i j p1 q1 h1 h3 (h2.trans (he.trans h4.symm))
  · obtain ⟨q1, h1, h2⟩ := key j q hj
    rw [← h2]
    exact hD.2 j q1 h1
theorem fD.self {A : Nat → Prop} {w : fC} {sz : Nat} (h : fD A w) : fD (fA w sz) w := ⟨h.1, fun k q hk => Or.inl ⟨k, q.2, hk⟩⟩
theorem fD.weaken {A B : Nat → Prop} {w : fC} (h : fD A w) (hAB : ∀ (k : Nat) (q : Nat × va_E), w k = some q → A q.1 → B q.1) : fD B w := ⟨h.1, fun k q hk => hAB k q hk (h.2 k q hk)⟩
theorem fP.kept {D : va_G} {cl : List vw_C} {w : fC} {H H1 : Heap} (h : fP D cl w H) (hq : ∀ (k : Nat) (q : Nat × va_E), w k = some q → H1[q.1]? = H[q.1]?) : fP D cl w H1 := fun k q hk => (h k q hk).kept (hq k q hk)
theorem fP.one {D : va_G} {cl : List vw_C} {w : fC} {H : Heap} (h : fP D cl w H) {k : Nat} {q : Nat × va_E} (hk : w k = some q) : va_P D cl [q] H := by
  intro j x hx
  have hz : j < 1 := (List.getElem?_eq_some_iff.mp hx).1
  rw [show j = 0 by omega] at hx
  cases hx
  exact h k _ hk
theorem fP.lt {D : va_G} {cl : List vw_C} {w : fC} {H : Heap} (h : fP D cl w H) {k : Nat} {q : Nat × va_E} (hk : w k = some q) : q.1 < H.size := (h k q hk).lt
theorem fA.in {A : Nat → Prop} {w : fC} {H0 H : Heap} {locs : List Loc} (hD : fD A w) (hS : va_S A H0 H locs) (hA : ∀ q, H0.size ≤ q → A q) : ∀ q, fA w H.size q → A q := by
  intro q h
  rcases h with ⟨k, e, h⟩ | h
  · exact hD.2 k _ h
  · exact hA q (Nat.le_trans hS.1 h)
/-! memories of ints: a cell's number, a place in it -/
abbrev Mem : Type := Nat → Nat → Int32
abbrev ci (i : Int32) : Nat := i.toNatClampNeg
def mset (M : Mem) (k i : Nat) (v : Int32) : Mem := fun j => if j = k then upd (M k) i v else M j
theorem mset_same (M : Mem) (k i : Nat) (v : Int32) : mset M k i v k = upd (M k) i v := if_pos rfl
theorem mset_ne (M : Mem) {k j : Nat} (i : Nat) (v : Int32) (h : j ≠ k) : mset M k i v j = M j := if_neg h
def isB (v : Int32) : Prop := v = 0 ∨ v = 1
theorem ii_1 (x : Int32) : x + Int32.ofInt 1 = x + 1 := rfl
theorem ii_m1 (x : Int32) : x + Int32.ofInt (-1) = x + (-1) := rfl
theorem ii_6 (x : Int32) : x + Int32.ofInt 6 = x + 6 := rfl
section FR
variable {p : Program} {l : Launch} {e : Env} {R : Room} {s : State} {m : MethodId} {args : Array Value} {below : List Frame} {meth : Method} {c : Code} {H : Heap} {locs : List Loc} {cells slots : Nat} {Q : State → Prop}
variable {cc : ByteArray} {pc : Nat} {ls : Array Slot} {rest : List Value} {D : va_G} {cl : List vw_C} {A : Nat → Prop} {a : Nat} {tys : List (ClassId × FieldType)} {w w' : fC} {H0 : Heap} {N : Nat}
theorem f_get (hexec : p.tables.exec = Jvm.exec) (hb : c.code = cc) {own ref C : String} {T : u_T} {N ci index : Nat} {Ts : List Cond} (hts : ∀ w ∈ Ts, w.before args s = true) (hin : ∀ w ∈ u_ws C T N, w ∈ Ts) (hown : s.vm.findClass own = some m.cls) (hK : va_K D cl tys s) (hP : fP D cl w H) {k0 : Nat} {fs : List Value} (he : w k0 = some (a, .inr (ci, fs))) (hc : cl[ci]? = some (C, T, N)) (k : Nat) (hk : k < N) (hlink : (Cond.fieldLink own index ref (T k).2.1 (T k).2.2.1).before args s = true) (hsame : ∀ x, s.fieldFound? (T k).1 (T k).2.1 (T k).2.2.1 = some x → s.fieldFound? ref (T k).2.1 (T k).2.2.1 = some x) {v : Value} (hv : fs[k]? = some v) (hdg : decode cc pc = .ok (.getfield index, 3))
    (kk : W p l e R s m args below meth c H locs cells slots Q (F0 m (pc + 3) ls (v :: rest))) : W p l e R s m args below meth c H locs cells slots Q (F0 m pc ls (.ref a :: rest)) :=
  va_get hexec hb hts hin hown hK (hP.one he) 0 rfl hc k hk hlink hsame hv hdg kk
theorem f_put (hexec : p.tables.exec = Jvm.exec) (hb : c.code = cc) {own ref C : String} {T : u_T} {Nf ci index : Nat} {Ts : List Cond} (hts : ∀ w ∈ Ts, w.before args s = true) (hin : ∀ w ∈ u_ws C T Nf, w ∈ Ts) (ty0 : Nat → FieldType) (hty : ∀ k, k < Nf → parseFieldDescriptor (T k).2.2.1 = some (ty0 k)) (hnm : ∀ a, a < Nf → ∀ b, b < Nf → a ≠ b → (T a).2.1 ≠ (T b).2.1) (hown : s.vm.findClass own = some m.cls) (hK : va_K D cl tys s) (hN : fN w N) (hP : fP D cl w H) (hD : fD A w) (hS0 : va_S A H0 H locs) {k0 : Nat} {fs : List Value} (he : w k0 = some (a, .inr (ci, fs))) (hc : cl[ci]? = some (C, T, Nf)) (k : Nat) (hk : k < Nf) (hlink : (Cond.fieldLink own index ref (T k).2.1 (T k).2.2.1).before args s = true) (hsame : ∀ x, s.fieldFound? (T k).1 (T k).2.1 (T k).2.2.1 = some x → s.fieldFound? ref (T k).2.1 (T k).2.2.1 = some x) (hfin : (T k).2.2.2 = false) {ty : FieldType} {v : Value} (hd : parseFieldDescriptor (T k).2.2.1 = some ty) (hn : narrow ty v = v) (hfit : fits ty v = true) (hl : k < fs.length)
    (he' : w' k0 = some (a, .inr (ci, fs.set k v))) (ho : ∀ j, j ≠ k0 → w' j = w j)
    (hdg : decode cc pc = .ok (.putfield index, 3)) (kk : ∀ (H1 : Heap) (locs1 : List Loc), fP D cl w' H1 → fD A w' → va_S A H0 H1 locs1 → W p l e R s m args below meth c H1 locs1 cells slots Q (F0 m (pc + 3) ls rest)) : W p l e R s m args below meth c H locs cells slots Q (F0 m pc ls (v :: .ref a :: rest)) := by
  obtain ⟨q0, hq⟩ := fL_at hN he
  exact va_put hexec hb hts hin ty0 hty hnm hown hK (fL_P hP) (fL_D hD) hS0 q0 hq hc k hk hlink hsame hfin hd hn hfit hl hdg (fun H1 locs1 hP1 _ hS1 => kk H1 locs1 (fL_back hN hD hq he he' ho hP1) (hD.set he he' ho) hS1)
theorem f_iald (hexec : p.tables.exec = Jvm.exec) (hb : c.code = cc) (hK : va_K D cl tys s) (hP : fP D cl w H) {k0 : Nat} (t0 : Nat) {cA : ClassId} {n : Nat} {f : Nat → Int32} (ha : w k0 = some (a, .inl (cA, n, .inl f))) (ht : tys[t0]? = some (cA, .int)) {i : Int32} (hin : vp_in i n) (hdg : decode cc pc = .ok (.iaload, 1))
    (kk : W p l e R s m args below meth c H locs cells slots Q (F0 m (pc + 1) ls (.int (f i.toNatClampNeg) :: rest))) : W p l e R s m args below meth c H locs cells slots Q (F0 m pc ls (.int i :: .ref a :: rest)) :=
  va_iald hexec hb hK (hP.one ha) 0 t0 rfl ht hin hdg kk
theorem f_bald (hexec : p.tables.exec = Jvm.exec) (hb : c.code = cc) (hK : va_K D cl tys s) (hP : fP D cl w H) {k0 : Nat} (t0 : Nat) {cA : ClassId} {n : Nat} {f : Nat → Int32} (ha : w k0 = some (a, .inl (cA, n, .inl f))) (ht : tys[t0]? = some (cA, .byte)) {i : Int32} (hin : vp_in i n) (hdg : decode cc pc = .ok (.baload, 1))
    (kk : W p l e R s m args below meth c H locs cells slots Q (F0 m (pc + 1) ls (.int (f i.toNatClampNeg) :: rest))) : W p l e R s m args below meth c H locs cells slots Q (F0 m pc ls (.int i :: .ref a :: rest)) :=
  va_bald hexec hb hK (hP.one ha) 0 t0 rfl ht hin hdg kk
theorem f_sald (hexec : p.tables.exec = Jvm.exec) (hb : c.code = cc) (hK : va_K D cl tys s) (hP : fP D cl w H) {k0 : Nat} (t0 : Nat) {cA : ClassId} {n : Nat} {f : Nat → Int32} (ha : w k0 = some (a, .inl (cA, n, .inl f))) (ht : tys[t0]? = some (cA, .short)) {i : Int32} (hin : vp_in i n) (hdg : decode cc pc = .ok (.saload, 1))
    (kk : W p l e R s m args below meth c H locs cells slots Q (F0 m (pc + 1) ls (.int (f i.toNatClampNeg) :: rest))) : W p l e R s m args below meth c H locs cells slots Q (F0 m pc ls (.int i :: .ref a :: rest)) :=
  va_sald hexec hb hK (hP.one ha) 0 t0 rfl ht hin hdg kk
theorem f_iast (hexec : p.tables.exec = Jvm.exec) (hb : c.code = cc) (hK : va_K D cl tys s) (hN : fN w N) (hP : fP D cl w H) (hD : fD A w) (hS : va_S A H0 H locs) {k0 : Nat} (t0 : Nat) {cA : ClassId} {n : Nat} {f : Nat → Int32} (ha : w k0 = some (a, .inl (cA, n, .inl f))) (ht : tys[t0]? = some (cA, .int)) {i : Int32} {x : Int32} (hin : vp_in i n)
    (ha' : w' k0 = some (a, .inl (cA, n, .inl (upd f i.toNatClampNeg x)))) (ho : ∀ j, j ≠ k0 → w' j = w j) (hdg : decode cc pc = .ok (.iastore, 1))
    (kk : ∀ (H1 : Heap) (locs1 : List Loc), fP D cl w' H1 → fD A w' → va_S A H0 H1 locs1 → W p l e R s m args below meth c H1 locs1 cells slots Q (F0 m (pc + 1) ls rest)) : W p l e R s m args below meth c H locs cells slots Q (F0 m pc ls (.int x :: .int i :: .ref a :: rest)) := by
  obtain ⟨q0, hq⟩ := fL_at hN ha
  exact va_iast hexec hb hK (fL_P hP) (fL_D hD) hS q0 t0 hq ht hin hdg (fun H1 locs1 hP1 _ hS1 => kk H1 locs1 (fL_back hN hD hq ha ha' ho hP1) (hD.set ha ha' ho) hS1)
theorem f_bast (hexec : p.tables.exec = Jvm.exec) (hb : c.code = cc) (hK : va_K D cl tys s) (hN : fN w N) (hP : fP D cl w H) (hD : fD A w) (hS : va_S A H0 H locs) {k0 : Nat} (t0 : Nat) {cA : ClassId} {n : Nat} {f : Nat → Int32} (ha : w k0 = some (a, .inl (cA, n, .inl f))) (ht : tys[t0]? = some (cA, .byte)) {i : Int32} {x : Int32} (hin : vp_in i n)
    (ha' : w' k0 = some (a, .inl (cA, n, .inl (upd f i.toNatClampNeg (vp_nar .byte x))))) (ho : ∀ j, j ≠ k0 → w' j = w j) (hdg : decode cc pc = .ok (.bastore, 1))
    (kk : ∀ (H1 : Heap) (locs1 : List Loc), fP D cl w' H1 → fD A w' → va_S A H0 H1 locs1 → W p l e R s m args below meth c H1 locs1 cells slots Q (F0 m (pc + 1) ls rest)) : W p l e R s m args below meth c H locs cells slots Q (F0 m pc ls (.int x :: .int i :: .ref a :: rest)) := by
  obtain ⟨q0, hq⟩ := fL_at hN ha
  exact va_bast hexec hb hK (fL_P hP) (fL_D hD) hS q0 t0 hq ht hin hdg (fun H1 locs1 hP1 _ hS1 => kk H1 locs1 (fL_back hN hD hq ha ha' ho hP1) (hD.set ha ha' ho) hS1)
theorem f_sast (hexec : p.tables.exec = Jvm.exec) (hb : c.code = cc) (hK : va_K D cl tys s) (hN : fN w N) (hP : fP D cl w H) (hD : fD A w) (hS : va_S A H0 H locs) {k0 : Nat} (t0 : Nat) {cA : ClassId} {n : Nat} {f : Nat → Int32} (ha : w k0 = some (a, .inl (cA, n, .inl f))) (ht : tys[t0]? = some (cA, .short)) {i : Int32} {x : Int32} (hin : vp_in i n)
    (ha' : w' k0 = some (a, .inl (cA, n, .inl (upd f i.toNatClampNeg (vp_nar .short x))))) (ho : ∀ j, j ≠ k0 → w' j = w j) (hdg : decode cc pc = .ok (.sastore, 1))
    (kk : ∀ (H1 : Heap) (locs1 : List Loc), fP D cl w' H1 → fD A w' → va_S A H0 H1 locs1 → W p l e R s m args below meth c H1 locs1 cells slots Q (F0 m (pc + 1) ls rest)) : W p l e R s m args below meth c H locs cells slots Q (F0 m pc ls (.int x :: .int i :: .ref a :: rest)) := by
  obtain ⟨q0, hq⟩ := fL_at hN ha
  exact va_sast hexec hb hK (fL_P hP) (fL_D hD) hS q0 t0 hq ht hin hdg (fun H1 locs1 hP1 _ hS1 => kk H1 locs1 (fL_back hN hD hq ha ha' ho hP1) (hD.set ha ha' ho) hS1)
theorem f_alen (hexec : p.tables.exec = Jvm.exec) (hb : c.code = cc) (hK : va_K D cl tys s) (hP : fP D cl w H) {k0 : Nat} (t0 : Nat) {cA : ClassId} {x : vp_A} (ha : w k0 = some (a, .inl (cA, x))) {ty : FieldType} (ht : tys[t0]? = some (cA, ty)) {v : Int32} (hv : Int32.ofNat x.1 = v) (hdg : decode cc pc = .ok (.arraylength, 1))
    (kk : W p l e R s m args below meth c H locs cells slots Q (F0 m (pc + 1) ls (.int v :: rest))) : W p l e R s m args below meth c H locs cells slots Q (F0 m pc ls (.ref a :: rest)) :=
  va_alen hexec hb hK (hP.one ha) 0 t0 rfl ht hv hdg kk
end FR
/-! pure static methods: nothing read, nothing written -/
def pPc (As : List Value) (sz : Nat) : Array Value → State → Prop := va_Pc As (fun U => U.heap.size = sz)
def pA (sz : Nat) : Nat → Prop := fun q => sz ≤ q
def pQi (Qp : Int32 → Prop) (sz : Nat) : Array Value → State → Outcome → State → Prop := va_Qi (S := Unit) (fun r _ => Qp r) (fun _ _ => True) (pA sz)
def pQl (Qp : Int64 → Prop) (sz : Nat) : Array Value → State → Outcome → State → Prop := va_Ql (S := Unit) (fun r _ => Qp r) (fun _ _ => True) (pA sz)
section PS
variable {p : Program} {l : Launch} {e : Env} {R : Room} {s : State} {m : MethodId} {args : Array Value} {below : List Frame} {meth : Method} {c : Code} {H : Heap} {locs : List Loc} {cells slots : Nat} {Q : State → Prop}
variable {cc bytes : ByteArray} {pc nL maxL n idx : Nat} {ls : Array Slot} {rest st0 As : List Value} {A : Nat → Prop} {H0 : Heap} {own : String} {y : MethodName} {rm : Room} {rt : Option FieldType}
theorem pPc_blind (As : List Value) (sz : Nat) : FrameBlind (pPc As sz) := fun _ _ _ _ q => q
theorem p_calli {Qp : Int32 → Prop} (S : CallFix p m c cc nL s args lw_all own) (hS : va_S A H0 H locs) (hA : ∀ q, H0.size ≤ q → A q) (hM : ∀ sz, Met l y (ws_ y bytes maxL rt) rm (pPc As sz) (pQi Qp sz) 0 0 (pA sz)) (cw : CallB R s args own idx y bytes maxL rt (ws_ y bytes maxL rt) rm 0 0 n ∧ (Cond.static y).before args s = true) (hn : As.length = n) (hls : ls.size = nL) (hst : st0 = As.reverse ++ rest) (hr : (rest.map fun v => v.category).sum ≤ 8) (hcs : cells ≤ R.cells ∧ slots ≤ R.slots) (hdg : decode cc pc = .ok (.invokestatic idx, 3))
    (kk : ∀ (r : Int32) (H1 : Heap) (locs1 : List Loc), Qp r → (∀ q : Nat, q < H.size → H1[q]? = H[q]?) → va_S A H0 H1 locs1 → W p l e R s m args below meth c H1 locs1 cells slots Q (F0 m (pc + 3) ls (.int r :: rest))) : W p l e R s m args below meth c H locs cells slots Q (F0 m pc ls st0) := by
  subst hst
  exact va_calli (A0 := A) (A1 := pA H.size) (va_runS (rest := rest) S (hM H.size) cw ⟨pPc_blind As H.size, fun U hU hW => ⟨rfl, congrArg Array.size hU⟩⟩ rfl hn hls rfl (lv_room hr) hdg hcs) hS (fun q h1 h2 => absurd h1 (Nat.not_lt.mpr h2)) (fun q h => hA q (Nat.le_trans hS.1 h)) (fun r u t H1 locs1 ht hvm hw hB hz hk hS1 => kk r H1 locs1 hw (fun q hq => hk q hq (Nat.not_le.mpr hq)) hS1)
theorem p_calll {Qp : Int64 → Prop} (S : CallFix p m c cc nL s args lw_all own) (hS : va_S A H0 H locs) (hA : ∀ q, H0.size ≤ q → A q) (hM : ∀ sz, Met l y (ws_ y bytes maxL rt) rm (pPc As sz) (pQl Qp sz) 0 0 (pA sz)) (cw : CallB R s args own idx y bytes maxL rt (ws_ y bytes maxL rt) rm 0 0 n ∧ (Cond.static y).before args s = true) (hn : As.length = n) (hls : ls.size = nL) (hst : st0 = As.reverse ++ rest) (hr : (rest.map fun v => v.category).sum ≤ 8) (hcs : cells ≤ R.cells ∧ slots ≤ R.slots) (hdg : decode cc pc = .ok (.invokestatic idx, 3))
    (kk : ∀ (r : Int64) (H1 : Heap) (locs1 : List Loc), Qp r → (∀ q : Nat, q < H.size → H1[q]? = H[q]?) → va_S A H0 H1 locs1 → W p l e R s m args below meth c H1 locs1 cells slots Q (F0 m (pc + 3) ls (.long r :: rest))) : W p l e R s m args below meth c H locs cells slots Q (F0 m pc ls st0) := by
  subst hst
  exact va_calll (A0 := A) (A1 := pA H.size) (va_runS (rest := rest) S (hM H.size) cw ⟨pPc_blind As H.size, fun U hU hW => ⟨rfl, congrArg Array.size hU⟩⟩ rfl hn hls rfl (lv_room hr) hdg hcs) hS (fun q h1 h2 => absurd h1 (Nat.not_lt.mpr h2)) (fun q h => hA q (Nat.le_trans hS.1 h)) (fun r u t H1 locs1 ht hvm hw hB hz hk hS1 => kk r H1 locs1 hw (fun q hq => hk q hq (Nat.not_le.mpr hq)) hS1)
end PS
/-- a pure method's end -/
def pExi (p : Program) (l : Launch) (e : Env) (R : Room) (s : State) (m : MethodId) (args : Array Value) (below : List Frame) (meth : Method) (c : Code) (cc : ByteArray) (A : Nat → Prop) (H0 : Heap) (Qs : State → Prop) (Qp : Int32 → Prop) : Prop := ∀ (r : Int32) (H1 : Heap) (locs1 : List Loc) (pc1 : Nat) (ls1 : Array Slot), Qp r → va_S A H0 H1 locs1 → decode cc pc1 = .ok (.ireturn, 1) → W p l e R s m args below meth c H1 locs1 0 0 Qs (F0 m pc1 ls1 [.int r])
def pExl (p : Program) (l : Launch) (e : Env) (R : Room) (s : State) (m : MethodId) (args : Array Value) (below : List Frame) (meth : Method) (c : Code) (cc : ByteArray) (A : Nat → Prop) (H0 : Heap) (Qs : State → Prop) (Qp : Int64 → Prop) : Prop := ∀ (r : Int64) (H1 : Heap) (locs1 : List Loc) (pc1 : Nat) (ls1 : Array Slot), Qp r → va_S A H0 H1 locs1 → decode cc pc1 = .ok (.lreturn, 1) → W p l e R s m args below meth c H1 locs1 0 0 Qs (F0 m pc1 ls1 [.long r])
theorem ent_eq (As : List Value) (m : MethodId) (n : Nat) (h : (lg_sl As).length ≤ n) : ∃ ls : Array Slot, entryFrame m As.toArray n = F0 m 0 ls [] ∧ lv_has ls n (lv_args 0 As) := by
  refine ⟨(lg_sl As ++ List.replicate (n - (lg_sl As).length) Slot.unset).toArray, ?_, lv_entry As h⟩
  rw [lg_entry_eq]
theorem isB_nar {v : Int32} (h : isB v) : narrow .boolean (.int v) = .int v := by
  rcases h with rfl | rfl <;> rfl
theorem p_metI {l : Launch} {y : MethodName} {cc : ByteArray} {maxL : Nat} {rm : Room} {As : List Value} {Qp : Int32 → Prop} (hy : plainName y.cls = true) (hlen : (lg_sl As).length ≤ maxL)
    (body : ∀ (p : Program) (e : Env) (s : State) (m : MethodId) (args : Array Value) (below : List Frame) (meth : Method) (c : Code) (Qs : State → Prop) (ls : Array Slot), CallFix p m c cc maxL s args lw_all y.cls → pExi p l e rm s m args below meth c cc (pA s.heap.size) s.heap Qs Qp → lv_has ls maxL (lv_args 0 As) → W p l e rm s m args below meth c s.heap [] 0 0 Qs (F0 m 0 ls [])) (sz : Nat) : Met l y (ws_ y cc maxL (some .int)) rm (pPc As sz) (pQi Qp sz) 0 0 (pA sz) := by
  refine Met.ofW (cc := cc) (maxL := maxL) (ret := some .int) hy rfl ?_
  intro p e s m args below meth c s₁ B hml hv
  obtain ⟨rfl, hsz⟩ := hv
  subst hsz
  have hts := atoms_spec (ws := ws_ y cc maxL (some .int)) B.pre
  have hts : ∀ w ∈ lw_all, w.before _ s = true := fun w h => hts w (List.mem_cons_of_mem _ h)
  have hlocks := B.notSynchronized
  obtain ⟨ls, e1, e2⟩ := ent_eq As m maxL hlen
  rw [e1]
  refine body p e s m _ below meth c _ ls ⟨B.exec, B.bytes, hml, findClass_of_methodNamed B.named, hts⟩ ?_ e2
  intro r H1 locs1 pc1 ls1 hq hS hdg
  exact W.iret (v := r) B.exec B.bytes B.returns (fun t ht hW => ⟨⟨r, (), rfl, hq, trivial⟩, hS.F ht⟩) hS.2.2 hdg
theorem p_metZ {l : Launch} {y : MethodName} {cc : ByteArray} {maxL : Nat} {rm : Room} {As : List Value} {Qp : Int32 → Prop} (hy : plainName y.cls = true) (hlen : (lg_sl As).length ≤ maxL)
    (body : ∀ (p : Program) (e : Env) (s : State) (m : MethodId) (args : Array Value) (below : List Frame) (meth : Method) (c : Code) (Qs : State → Prop) (ls : Array Slot), CallFix p m c cc maxL s args lw_all y.cls → pExi p l e rm s m args below meth c cc (pA s.heap.size) s.heap Qs (fun r => isB r ∧ Qp r) → lv_has ls maxL (lv_args 0 As) → W p l e rm s m args below meth c s.heap [] 0 0 Qs (F0 m 0 ls [])) (sz : Nat) : Met l y (ws_ y cc maxL (some .boolean)) rm (pPc As sz) (pQi Qp sz) 0 0 (pA sz) := by
  refine Met.ofW (cc := cc) (maxL := maxL) (ret := some .boolean) hy rfl ?_
  intro p e s m args below meth c s₁ B hml hv
  obtain ⟨rfl, hsz⟩ := hv
  subst hsz
  have hts := atoms_spec (ws := ws_ y cc maxL (some .boolean)) B.pre
  have hts : ∀ w ∈ lw_all, w.before _ s = true := fun w h => hts w (List.mem_cons_of_mem _ h)
  have hlocks := B.notSynchronized
  obtain ⟨ls, e1, e2⟩ := ent_eq As m maxL hlen
  rw [e1]
  refine body p e s m _ below meth c _ ls ⟨B.exec, B.bytes, hml, findClass_of_methodNamed B.named, hts⟩ ?_ e2
  intro r H1 locs1 pc1 ls1 hq hS hdg
  exact W.zret (v := r) B.exec B.bytes B.returns (isB_nar hq.1) (fun t ht hW => ⟨⟨r, (), rfl, hq.2, trivial⟩, hS.F ht⟩) hS.2.2 hdg
theorem p_metL {l : Launch} {y : MethodName} {cc : ByteArray} {maxL : Nat} {rm : Room} {As : List Value} {Qp : Int64 → Prop} (hy : plainName y.cls = true) (hlen : (lg_sl As).length ≤ maxL)
    (body : ∀ (p : Program) (e : Env) (s : State) (m : MethodId) (args : Array Value) (below : List Frame) (meth : Method) (c : Code) (Qs : State → Prop) (ls : Array Slot), CallFix p m c cc maxL s args lw_all y.cls → pExl p l e rm s m args below meth c cc (pA s.heap.size) s.heap Qs Qp → lv_has ls maxL (lv_args 0 As) → W p l e rm s m args below meth c s.heap [] 0 0 Qs (F0 m 0 ls [])) (sz : Nat) : Met l y (ws_ y cc maxL (some .long)) rm (pPc As sz) (pQl Qp sz) 0 0 (pA sz) := by
  refine Met.ofW (cc := cc) (maxL := maxL) (ret := some .long) hy rfl ?_
  intro p e s m args below meth c s₁ B hml hv
  obtain ⟨rfl, hsz⟩ := hv
  subst hsz
  have hts := atoms_spec (ws := ws_ y cc maxL (some .long)) B.pre
  have hts : ∀ w ∈ lw_all, w.before _ s = true := fun w h => hts w (List.mem_cons_of_mem _ h)
  have hlocks := B.notSynchronized
  obtain ⟨ls, e1, e2⟩ := ent_eq As m maxL hlen
  rw [e1]
  refine body p e s m _ below meth c _ ls ⟨B.exec, B.bytes, hml, findClass_of_methodNamed B.named, hts⟩ ?_ e2
  intro r H1 locs1 pc1 ls1 hq hS hdg
  exact W.lret (v := r) B.exec B.bytes B.returns (fun t ht hW => ⟨⟨r, (), rfl, hq, trivial⟩, hS.F ht⟩) hS.2.2 hdg
/-! switches: none of the cases -/
theorem sw_eq {x k : Int32} (h : x.toInt = k.toInt) : x = k := Int32.toInt_inj.mp h
theorem sw_out4 {x : Int32} (c0 : ¬ x = 0) (c1 : ¬ x = 1) (c2 : ¬ x = 2) (c3 : ¬ x = 3) : x.toInt < 0 ∨ 3 < x.toInt := by
  rcases Int.lt_or_le x.toInt 0 with h | h
  · exact Or.inl h
  · rcases Int.lt_or_le 3 x.toInt with h2 | h2
    · exact Or.inr h2
    · rcases (show x.toInt = 0 ∨ x.toInt = 1 ∨ x.toInt = 2 ∨ x.toInt = 3 by omega) with q | q | q | q
      · exact absurd (sw_eq (k := 0) q) c0
      · exact absurd (sw_eq (k := 1) q) c1
      · exact absurd (sw_eq (k := 2) q) c2
      · exact absurd (sw_eq (k := 3) q) c3
theorem sw_out6 {x : Int32} (c0 : ¬ x = 0) (c1 : ¬ x = 1) (c2 : ¬ x = 2) (c3 : ¬ x = 3) (c4 : ¬ x = 4) (c5 : ¬ x = 5) : x.toInt < 0 ∨ 5 < x.toInt := by
  rcases Int.lt_or_le x.toInt 0 with h | h
  · exact Or.inl h
  · rcases Int.lt_or_le 5 x.toInt with h2 | h2
    · exact Or.inr h2
    · rcases (show x.toInt = 0 ∨ x.toInt = 1 ∨ x.toInt = 2 ∨ x.toInt = 3 ∨ x.toInt = 4 ∨ x.toInt = 5 by omega) with q | q | q | q | q | q
      · exact absurd (sw_eq (k := 0) q) c0
      · exact absurd (sw_eq (k := 1) q) c1
      · exact absurd (sw_eq (k := 2) q) c2
      · exact absurd (sw_eq (k := 3) q) c3
      · exact absurd (sw_eq (k := 4) q) c4
      · exact absurd (sw_eq (k := 5) q) c5
theorem sw_out9 {x : Int32} (c0 : ¬ x = 0) (c1 : ¬ x = 1) (c2 : ¬ x = 2) (c3 : ¬ x = 3) (c4 : ¬ x = 4) (c5 : ¬ x = 5) (c6 : ¬ x = 6) (c7 : ¬ x = 7) (c8 : ¬ x = 8) : x.toInt < 0 ∨ 8 < x.toInt := by
  rcases Int.lt_or_le x.toInt 0 with h | h
  · exact Or.inl h
  · rcases Int.lt_or_le 8 x.toInt with h2 | h2
    · exact Or.inr h2
    · rcases (show x.toInt = 0 ∨ x.toInt = 1 ∨ x.toInt = 2 ∨ x.toInt = 3 ∨ x.toInt = 4 ∨ x.toInt = 5 ∨ x.toInt = 6 ∨ x.toInt = 7 ∨ x.toInt = 8 by omega) with q | q | q | q | q | q | q | q | q
      · exact absurd (sw_eq (k := 0) q) c0
      · exact absurd (sw_eq (k := 1) q) c1
      · exact absurd (sw_eq (k := 2) q) c2
      · exact absurd (sw_eq (k := 3) q) c3
      · exact absurd (sw_eq (k := 4) q) c4
      · exact absurd (sw_eq (k := 5) q) c5
      · exact absurd (sw_eq (k := 6) q) c6
      · exact absurd (sw_eq (k := 7) q) c7
      · exact absurd (sw_eq (k := 8) q) c8
theorem sw_out36 {x : Int32} (c0 : ¬ x = 0) (c1 : ¬ x = 1) (c2 : ¬ x = 2) (c3 : ¬ x = 3) (c4 : ¬ x = 4) (c5 : ¬ x = 5) (c6 : ¬ x = 6) (c7 : ¬ x = 7) (c8 : ¬ x = 8) (c9 : ¬ x = 9) (c10 : ¬ x = 10) (c11 : ¬ x = 11) (c12 : ¬ x = 12) (c13 : ¬ x = 13) (c14 : ¬ x = 14) (c15 : ¬ x = 15) (c16 : ¬ x = 16) (c17 : ¬ x = 17) (c18 : ¬ x = 18) (c19 : ¬ x = 19) (c20 : ¬ x = 20) (c21 : ¬ x = 21) (c22 : ¬ x = 22) (c23 : ¬ x = 23) (c24 : ¬ x = 24) (c25 : ¬ x = 25) (c26 : ¬ x = 26) (c27 : ¬ x = 27) (c28 : ¬ x = 28) (c29 : ¬ x = 29) (c30 : ¬ x = 30) (c31 : ¬ x = 31) (c32 : ¬ x = 32) (c33 : ¬ x = 33) (c34 : ¬ x = 34) (c35 : ¬ x = 35) : x.toInt < 0 ∨ 35 < x.toInt := by
  rcases Int.lt_or_le x.toInt 0 with h | h
  · exact Or.inl h
  · rcases Int.lt_or_le 35 x.toInt with h2 | h2
    · exact Or.inr h2
    · rcases (show x.toInt = 0 ∨ x.toInt = 1 ∨ x.toInt = 2 ∨ x.toInt = 3 ∨ x.toInt = 4 ∨ x.toInt = 5 ∨ x.toInt = 6 ∨ x.toInt = 7 ∨ x.toInt = 8 ∨ x.toInt = 9 ∨ x.toInt = 10 ∨ x.toInt = 11 ∨ x.toInt = 12 ∨ x.toInt = 13 ∨ x.toInt = 14 ∨ x.toInt = 15 ∨ x.toInt = 16 ∨ x.toInt = 17 ∨ x.toInt = 18 ∨ x.toInt = 19 ∨ x.toInt = 20 ∨ x.toInt = 21 ∨ x.toInt = 22 ∨ x.toInt = 23 ∨ x.toInt = 24 ∨ x.toInt = 25 ∨ x.toInt = 26 ∨ x.toInt = 27 ∨ x.toInt = 28 ∨ x.toInt = 29 ∨ x.toInt = 30 ∨ x.toInt = 31 ∨ x.toInt = 32 ∨ x.toInt = 33 ∨ x.toInt = 34 ∨ x.toInt = 35 by omega) with q | q | q | q | q | q | q | q | q | q | q | q | q | q | q | q | q | q | q | q | q | q | q | q | q | q | q | q | q | q | q | q | q | q | q | q
      · exact absurd (sw_eq (k := 0) q) c0
      · exact absurd (sw_eq (k := 1) q) c1
      · exact absurd (sw_eq (k := 2) q) c2
      · exact absurd (sw_eq (k := 3) q) c3
      · exact absurd (sw_eq (k := 4) q) c4
      · exact absurd (sw_eq (k := 5) q) c5
      · exact absurd (sw_eq (k := 6) q) c6
      · exact absurd (sw_eq (k := 7) q) c7
      · exact absurd (sw_eq (k := 8) q) c8
      · exact absurd (sw_eq (k := 9) q) c9
      · exact absurd (sw_eq (k := 10) q) c10
      · exact absurd (sw_eq (k := 11) q) c11
      · exact absurd (sw_eq (k := 12) q) c12
      · exact absurd (sw_eq (k := 13) q) c13
      · exact absurd (sw_eq (k := 14) q) c14
      · exact absurd (sw_eq (k := 15) q) c15
      · exact absurd (sw_eq (k := 16) q) c16
      · exact absurd (sw_eq (k := 17) q) c17
      · exact absurd (sw_eq (k := 18) q) c18
      · exact absurd (sw_eq (k := 19) q) c19
      · exact absurd (sw_eq (k := 20) q) c20
      · exact absurd (sw_eq (k := 21) q) c21
      · exact absurd (sw_eq (k := 22) q) c22
      · exact absurd (sw_eq (k := 23) q) c23
      · exact absurd (sw_eq (k := 24) q) c24
      · exact absurd (sw_eq (k := 25) q) c25
      · exact absurd (sw_eq (k := 26) q) c26
      · exact absurd (sw_eq (k := 27) q) c27
      · exact absurd (sw_eq (k := 28) q) c28
      · exact absurd (sw_eq (k := 29) q) c29
      · exact absurd (sw_eq (k := 30) q) c30
      · exact absurd (sw_eq (k := 31) q) c31
      · exact absurd (sw_eq (k := 32) q) c32
      · exact absurd (sw_eq (k := 33) q) c33
      · exact absurd (sw_eq (k := 34) q) c34
      · exact absurd (sw_eq (k := 35) q) c35
