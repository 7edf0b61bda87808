/-! THE SYSTEM'S WORLD: the object, its arrays, carters (30..37), questions (25..27), sheets (110..113), rows of sheets (120..123: present or not) -/
def lenX (k : Nat) : Nat := ([0, 0, 49, 55, 2, 2, 10, 10, 10, 10, 0, 0, 8, 8, 0, 0, 8, 8, 0, 8, 8, 8, 0, 8, 0, 0, 0, 0, 0, 0, 0, 0, 0, 0, 0, 0, 0, 0, 0, 0, 8, 8, 8, 8, 8, 8, 8, 8, 0, 0, 8, 8, 8, 8, 8, 8, 8, 8, 0, 0, 8, 8, 8, 8, 8, 8, 8, 8, 8, 8, 8, 8, 8, 8, 8, 8, 8, 8, 8, 8, 8, 8, 8, 8, 8, 8, 8, 8, 8, 8, 8, 8, 8, 8, 8, 8, 8, 8, 8, 8, 40, 40, 40, 0, 0, 0, 0, 0, 0, 0, 0, 0, 0, 0, 0, 0, 0, 0, 0, 0, 0, 0, 0, 0] : List Nat).getD k 0
def refX (k : Nat) : Option (Nat × Nat × Nat) := if k = 1 then some (1, 2, 2) else if k = 10 then some (2, 8, 30) else if k = 11 then some (3, 3, 25) else if k = 14 then some (1, 8, 40) else if k = 15 then some (1, 8, 50) else if k = 18 then some (1, 40, 60) else if k = 22 then some (1, 3, 100) else if k = 24 then some (4, 4, 110) else none
def objX (ad : Nat → Nat) (f : Nat → Int32) : List Value := [.ref (ad 1), .ref (ad 4), .int (f 2), .ref (ad 5), .int (f 4), .ref (ad 6), .ref (ad 7), .ref (ad 8), .ref (ad 9), .int (f 9), .ref (ad 10), .ref (ad 11), .int (f 12), .ref (ad 12), .ref (ad 13), .ref (ad 14), .ref (ad 15), .int (f 17), .ref (ad 16), .ref (ad 17), .int (f 20), .int (f 21), .ref (ad 18), .int (f 23), .ref (ad 19), .ref (ad 20), .ref (ad 21), .ref (ad 22), .ref (ad 23), .ref (ad 24), .int (f 30)]
def qv (ad : Nat → Nat) (q : Int32) : Value := if q < 0 then .null else .ref (ad (25 + ci q))
def carX (ad : Nat → Nat) (f : Nat → Int32) : List Value := [.int (f 0), .int (f 1), qv ad (f 2), .int (f 3), .int (f 4), .int (f 5), .int (f 6), .int (f 7), .int (f 8), .int (f 9), .int (f 10), .int (f 11)]
def rowX (ra : Nat → Nat) (f1 : Nat → Int32) (s : Nat) : Value := if f1 s < 0 then .null else .ref (ra s)
def rowT (q : Int32) : Nat := if q = 0 then 5 else if q = 1 then 6 else 0
def isCar (k : Nat) : Prop := 30 ≤ k ∧ k < 38
def isSh (k : Nat) : Prop := 110 ≤ k ∧ k < 114
def cXf (T ad ra : Nat → Nat) (f f1 f2 : Nat → Int32) (k : Nat) : Option (Nat × va_E) :=
  if 30 ≤ k ∧ k < 38 then some (ad k, .inr (5, carX ad f))
  else if 110 ≤ k ∧ k < 114 then some (ad k, .inr (4, [.int (f 0), rowX ra f1 (k - 110)]))
  else if 120 ≤ k ∧ k < 124 then (if f1 (k - 120) < 0 then none else some (ra (k - 120), .inl (T (rowT (f1 (k - 120))), ci (f2 (k - 120)), .inl f)))
  else if k = 0 then some (ad 0, .inr (0, objX ad f))
  else if k = 25 then some (ad 25, .inr (2, []))
  else if k = 26 then some (ad 26, .inr (3, []))
  else if k = 27 then some (ad 27, .inr (1, []))
  else match refX k with
    | some r => some (ad k, .inl (T r.1, r.2.1, .inr (.inr (.inr (.inr (fun i => some (ad (r.2.2 + i))))))))
    | none => if lenX k = 0 then none else some (ad k, .inl (T 0, lenX k, .inl f))
def cX (T ad ra : Nat → Nat) (M : Mem) : fC := fun k => cXf T ad ra (M k) (M 124) (M 125) k
theorem cX_same {T ad ra : Nat → Nat} {M M' : Mem} {j : Nat} (h : M' j = M j) (h1 : M' 124 = M 124) (h2 : M' 125 = M 125) : cX T ad ra M' j = cX T ad ra M j := by
  unfold cX
  rw [h, h1, h2]
theorem cX_0 (T ad ra : Nat → Nat) (M : Mem) : cX T ad ra M 0 = some (ad 0, .inr (0, objX ad (M 0))) := rfl
theorem cX_25 (T ad ra : Nat → Nat) (M : Mem) : cX T ad ra M 25 = some (ad 25, .inr (2, [])) := rfl
theorem cX_26 (T ad ra : Nat → Nat) (M : Mem) : cX T ad ra M 26 = some (ad 26, .inr (3, [])) := rfl
theorem cX_27 (T ad ra : Nat → Nat) (M : Mem) : cX T ad ra M 27 = some (ad 27, .inr (1, [])) := rfl
theorem cX_car {T ad ra : Nat → Nat} {M : Mem} {k : Nat} (h : isCar k) : cX T ad ra M k = some (ad k, .inr (5, carX ad (M k))) := if_pos h
theorem cX_sh {T ad ra : Nat → Nat} {M : Mem} {k : Nat} (h : isSh k) : cX T ad ra M k = some (ad k, .inr (4, [.int (M k 0), rowX ra (M 124) (k - 110)])) := by
  unfold cX cXf
  unfold isSh at h
  rw [if_neg (by omega), if_pos h]
theorem lenX_big {k : Nat} (h : 124 ≤ k) : lenX k = 0 := by
  unfold lenX
  rw [List.getD_eq_getElem?_getD, List.getElem?_eq_none (by simpa using h)]
  rfl
theorem refX_big {k : Nat} (h : 124 ≤ k) : refX k = none := by
  unfold refX
  simp only [show k ≠ 1 by omega, show k ≠ 10 by omega, show k ≠ 11 by omega, show k ≠ 14 by omega, show k ≠ 15 by omega, show k ≠ 18 by omega, show k ≠ 22 by omega, show k ≠ 24 by omega, if_false]
theorem lenX_arr : ∀ k, k < 124 → lenX k ≠ 0 → ¬ (30 ≤ k ∧ k < 38) ∧ ¬ (110 ≤ k ∧ k < 114) ∧ ¬ (120 ≤ k ∧ k < 124) ∧ k ≠ 0 ∧ k ≠ 25 ∧ k ≠ 26 ∧ k ≠ 27 ∧ refX k = none := by decide +kernel
theorem cX_arr {T ad ra : Nat → Nat} {M : Mem} {k n : Nat} (hk : lenX k = n) (hn : n ≠ 0) : cX T ad ra M k = some (ad k, .inl (T 0, n, .inl (M k))) := by
  have hlt : k < 124 := Nat.lt_of_not_le fun h => hn (hk.symm.trans (lenX_big h))
  obtain ⟨h1, h2, h3, h4, h5, h6, h7, h8⟩ := lenX_arr k hlt (by rw [hk]; exact hn)
  unfold cX cXf
  rw [if_neg h1, if_neg h2, if_neg h3, if_neg h4, if_neg h5, if_neg h6, if_neg h7, h8, hk]
  exact if_neg hn
theorem cX_fN (T ad ra : Nat → Nat) (M : Mem) : fN (cX T ad ra M) 124 := by
  intro k hk
  unfold cX cXf
  rw [if_neg (by omega), if_neg (by omega), if_neg (by omega), if_neg (by omega), if_neg (by omega), if_neg (by omega), if_neg (by omega), refX_big hk, lenX_big hk]
  rfl
theorem cX_1 (T ad ra : Nat → Nat) (M : Mem) : cX T ad ra M 1 = some (ad 1, .inl (T 1, 2, .inr (.inr (.inr (.inr (fun i => some (ad (2 + i)))))))) := rfl
theorem cX_10 (T ad ra : Nat → Nat) (M : Mem) : cX T ad ra M 10 = some (ad 10, .inl (T 2, 8, .inr (.inr (.inr (.inr (fun i => some (ad (30 + i)))))))) := rfl
theorem cX_11 (T ad ra : Nat → Nat) (M : Mem) : cX T ad ra M 11 = some (ad 11, .inl (T 3, 3, .inr (.inr (.inr (.inr (fun i => some (ad (25 + i)))))))) := rfl
theorem cX_14 (T ad ra : Nat → Nat) (M : Mem) : cX T ad ra M 14 = some (ad 14, .inl (T 1, 8, .inr (.inr (.inr (.inr (fun i => some (ad (40 + i)))))))) := rfl
theorem cX_15 (T ad ra : Nat → Nat) (M : Mem) : cX T ad ra M 15 = some (ad 15, .inl (T 1, 8, .inr (.inr (.inr (.inr (fun i => some (ad (50 + i)))))))) := rfl
theorem cX_18 (T ad ra : Nat → Nat) (M : Mem) : cX T ad ra M 18 = some (ad 18, .inl (T 1, 40, .inr (.inr (.inr (.inr (fun i => some (ad (60 + i)))))))) := rfl
theorem cX_22 (T ad ra : Nat → Nat) (M : Mem) : cX T ad ra M 22 = some (ad 22, .inl (T 1, 3, .inr (.inr (.inr (.inr (fun i => some (ad (100 + i)))))))) := rfl
theorem cX_24 (T ad ra : Nat → Nat) (M : Mem) : cX T ad ra M 24 = some (ad 24, .inl (T 4, 4, .inr (.inr (.inr (.inr (fun i => some (ad (110 + i)))))))) := rfl
/-- words of nest mates, that ride along -/
def NW (U : State) : Prop := va_Nw (.fieldLinkNest RX0 406 RX4 "form" "I" RX0) U ∧ va_Nw (.fieldLinkNest RX0 160 RX4 "row" "Ljava/lang/Object;" RX0) U ∧ va_Nw (.methodLinkNest RX4 23 yX0_taken RX0) U
theorem NW.warm {s U : State} (hW : s.WarmedH U.vm) (h : NW s) : NW U := ⟨h.1.warmF hW, h.2.1.warmF hW, h.2.2.warmM hW⟩
theorem NW.calling {U : State} {g : JFrame} {mk : MethodId} {a : Array Value} (h : NW U) : NW (U.calling g mk a) := ⟨va_Nw.same rfl rfl h.1, va_Nw.same rfl rfl h.2.1, va_Nw.same rfl rfl h.2.2⟩
def XC (D : va_G) (T : Nat → Nat) (own : String) (p : Program) (m : MethodId) (c : Code) (cc : ByteArray) (nL : Nat) (s : State) (args : Array Value) : Prop := CallFix p m c cc nL s args lw_all own ∧ va_K D vwCl (tyL T) s ∧ NW s
/-- the world at given rows -/
def XJ (D : va_G) (T ad : Nat → Nat) (A : Nat → Prop) (H0 : Heap) (ra : Nat → Nat) (M : Mem) (H : Heap) (locs : List Loc) : Prop := fP D vwCl (cX T ad ra M) H ∧ fD A (cX T ad ra M) ∧ va_S A H0 H locs ∧ ∀ q, H0.size ≤ q → A q
def XI (D : va_G) (T ad : Nat → Nat) (A : Nat → Prop) (H0 : Heap) (M : Mem) (H : Heap) (locs : List Loc) : Prop := ∃ ra, XJ D T ad A H0 ra M H locs
def xPc (D : va_G) (T ad ra : Nat → Nat) (o : Nat) (As : List Value) (M : Mem) (sz : Nat) : Array Value → State → Prop := va_Pc (.ref (ad o) :: As) (fun U => U.heap.size = sz ∧ fP D vwCl (cX T ad ra M) U.heap ∧ va_K D vwCl (tyL T) U ∧ fD (fun _ => True) (cX T ad ra M) ∧ NW U)
def xB (D : va_G) (T ad ra : Nat → Nat) (M0 : Mem) (sz : Nat) (M1 : Mem) (t : State) : Prop := ∃ ra1, fP D vwCl (cX T ad ra1 M1) t.heap ∧ fD (fA (cX T ad ra M0) sz) (cX T ad ra1 M1)
def xQi (D : va_G) (T ad ra : Nat → Nat) (M0 : Mem) (Qp : Int32 → Mem → Prop) (sz : Nat) : Array Value → State → Outcome → State → Prop := va_Qi (S := Mem) Qp (xB D T ad ra M0 sz) (fA (cX T ad ra M0) sz)
def xQl (D : va_G) (T ad ra : Nat → Nat) (M0 : Mem) (Qp : Int64 → Mem → Prop) (sz : Nat) : Array Value → State → Outcome → State → Prop := va_Ql (S := Mem) Qp (xB D T ad ra M0 sz) (fA (cX T ad ra M0) sz)
def xQv (D : va_G) (T ad ra : Nat → Nat) (M0 : Mem) (Qp : Mem → Prop) (sz : Nat) : Array Value → State → Outcome → State → Prop := va_Qv (S := Mem) Qp (xB D T ad ra M0 sz) (fA (cX T ad ra M0) sz)
theorem xPc_blind (D : va_G) (T ad ra : Nat → Nat) (o : Nat) (As : List Value) (M : Mem) (sz : Nat) : FrameBlind (xPc D T ad ra o As M sz) := fun a U g mk q => by
  obtain ⟨q0, q1, qP, qK, qD, qN⟩ := q
  exact ⟨q0, q1, qP, va_K.moved (u := U) (U := U.calling g mk a) (Vm.Alike.refl U.vm) qK, qD, qN.calling⟩
theorem XI.pure {D : va_G} {T ad : Nat → Nat} {A : Nat → Prop} {H0 H H1 : Heap} {M : Mem} {locs locs1 : List Loc} (h : XI D T ad A H0 M H locs) (hk : ∀ q : Nat, q < H.size → H1[q]? = H[q]?) (hS : va_S A H0 H1 locs1) : XI D T ad A H0 M H1 locs1 := by
  obtain ⟨ra, h1, h2, h3, h4⟩ := h
  exact ⟨ra, h1.kept (fun _ _ hq => hk _ (h1.lt hq)), h2, hS, h4⟩
theorem XI.S {D : va_G} {T ad : Nat → Nat} {A : Nat → Prop} {H0 H : Heap} {M : Mem} {locs : List Loc} (h : XI D T ad A H0 M H locs) : va_S A H0 H locs := by
  obtain ⟨ra, h1, h2, h3, h4⟩ := h
  exact h3
theorem XI.A {D : va_G} {T ad : Nat → Nat} {A : Nat → Prop} {H0 H : Heap} {M : Mem} {locs : List Loc} (h : XI D T ad A H0 M H locs) : ∀ q, H0.size ≤ q → A q := by
  obtain ⟨ra, h1, h2, h3, h4⟩ := h
  exact h4
theorem isCar_of {i : Int32} (h : vp_in i 8) : isCar (30 + ci i) := by
  have h2 : i.toNatClampNeg < 8 := Nat.not_le.mp fun q => h (Or.inr q)
  exact ⟨Nat.le_add_right _ _, by show 30 + i.toNatClampNeg < 38; omega⟩
theorem isSh_of {i : Int32} (h : vp_in i 4) : isSh (110 + ci i) := by
  have h2 : i.toNatClampNeg < 4 := Nat.not_le.mp fun q => h (Or.inr q)
  exact ⟨Nat.le_add_right _ _, by show 110 + i.toNatClampNeg < 114; omega⟩
theorem qv_of {ad : Nat → Nat} {q : Int32} {n : Nat} (h : vp_in q n) : qv ad q = .ref (ad (25 + ci q)) := if_neg fun z => h (Or.inl z)
theorem vp_ne0 {i : Int32} {n : Nat} (h : vp_in i n) : n ≠ 0 := fun z => by subst z; exact h (Or.inr (Nat.zero_le _))
theorem isB_fit {v : Int32} (h : isB v) : fits .boolean (.int v) = true := by
  rcases h with rfl | rfl <;> rfl
def imin (x y : Int32) : Int32 := if y < x then y else x
def imax (x y : Int32) : Int32 := if x < y then y else x
/-- n places of cell k0 from place a on, into cell k1 from place b on -/
def mcpy (M : Mem) (k0 k1 a b n : Nat) : Mem := fun j => if j = k1 then va_cpy (M k0) (M k1) a b n else M j
theorem mcpy_same (M : Mem) (k0 k1 a b n : Nat) : mcpy M k0 k1 a b n k1 = va_cpy (M k0) (M k1) a b n := if_pos rfl
theorem mcpy_ne (M : Mem) (k0 : Nat) {k1 j : Nat} (a b n : Nat) (h : j ≠ k1) : mcpy M k0 k1 a b n j = M j := if_neg h
section XR
variable {p : Program} {l : Launch} {e : Env} {R : Room} {s : State} {m : MethodId} {args : Array Value} {below : List Frame} {meth : Method} {c : Code} {H : Heap} {locs : List Loc} {cells slots : Nat} {Q : State → Prop}
variable {cc bytes : ByteArray} {pc nL maxL n idx : Nat} {ls : Array Slot} {rest st0 As : List Value} {A : Nat → Prop} {H0 : Heap} {y : MethodName} {rm : Room} {rt : Option FieldType} {D : va_G} {T ad : Nat → Nat} {M : Mem} {own ref : String}
theorem x_iald (C : XC D T own p m c cc nL s args) (I : XI D T ad A H0 M H locs) (k n : Nat) (hk : lenX k = n) {i : Int32} (hin : vp_in i n) (hdg : decode cc pc = .ok (.iaload, 1))
    (kk : W p l e R s m args below meth c H locs cells slots Q (F0 m (pc + 1) ls (.int (M k (ci i)) :: rest))) : W p l e R s m args below meth c H locs cells slots Q (F0 m pc ls (.int i :: .ref (ad k) :: rest)) := by
  obtain ⟨ra, I⟩ := I
  exact f_iald C.1.1 C.1.2.1 C.2.1 I.1 0 (cX_arr hk (vp_ne0 hin)) rfl hin hdg kk
theorem x_alen (C : XC D T own p m c cc nL s args) (I : XI D T ad A H0 M H locs) (k n : Nat) (hk : lenX k = n) (hn : n ≠ 0) (hdg : decode cc pc = .ok (.arraylength, 1))
    (kk : W p l e R s m args below meth c H locs cells slots Q (F0 m (pc + 1) ls (.int (Int32.ofNat n) :: rest))) : W p l e R s m args below meth c H locs cells slots Q (F0 m pc ls (.ref (ad k) :: rest)) := by
  obtain ⟨ra, I⟩ := I
  exact f_alen C.1.1 C.1.2.1 C.2.1 I.1 0 (cX_arr hk hn) rfl rfl hdg kk
theorem x_iast (C : XC D T own p m c cc nL s args) (I : XI D T ad A H0 M H locs) (k n : Nat) (hk : lenX k = n) {i x : Int32} (hin : vp_in i n) (hdg : decode cc pc = .ok (.iastore, 1))
    (kk : ∀ (M1 : Mem) (H1 : Heap) (locs1 : List Loc), M1 = mset M k (ci i) x → XI D T ad A H0 M1 H1 locs1 → W p l e R s m args below meth c H1 locs1 cells slots Q (F0 m (pc + 1) ls rest)) : W p l e R s m args below meth c H locs cells slots Q (F0 m pc ls (.int x :: .int i :: .ref (ad k) :: rest)) := by
  obtain ⟨ra, I⟩ := I
  have hn := vp_ne0 hin
  have hlt : k < 124 := Nat.lt_of_not_le fun h => hn (hk.symm.trans (lenX_big h))
  refine f_iast (w' := cX T ad ra (mset M k (ci i) x)) C.1.1 C.1.2.1 C.2.1 (cX_fN T ad ra M) I.1 I.2.1 I.2.2.1 0 (cX_arr hk hn) rfl hin ?_ ?_ hdg (fun H1 locs1 hP hD hS => kk _ H1 locs1 rfl ⟨ra, hP, hD, hS, I.2.2.2⟩)
  · rw [cX_arr hk hn, mset_same]
  · intro j hj
    exact cX_same (mset_ne M _ _ hj) (mset_ne M _ _ (by omega)) (mset_ne M _ _ (by omega))
theorem f_aald {w : fC} {tys : List (ClassId × FieldType)} {cl : List vw_C} {a : Nat} (hexec : p.tables.exec = Jvm.exec) (hb : c.code = cc) (hK : va_K D cl tys s) (hP : fP D cl w H) {k0 : Nat} (t0 : Nat) {cA : ClassId} {ty : FieldType} (hty : ty.isReference = true) {n : Nat} {f : Nat → Option Nat} (ha : w k0 = some (a, .inl (cA, n, .inr (.inr (.inr (.inr f)))))) (ht : tys[t0]? = some (cA, ty)) {i : Int32} (hin : vp_in i n) (hdg : decode cc pc = .ok (.aaload, 1))
    (kk : W p l e R s m args below meth c H locs cells slots Q (F0 m (pc + 1) ls (va_rf (f i.toNatClampNeg) :: rest))) : W p l e R s m args below meth c H locs cells slots Q (F0 m pc ls (.int i :: .ref a :: rest)) := by
  have hlt : i.toNatClampNeg < n := Nat.not_le.mp fun q => hin (Or.inr q)
  exact W.aald (v := va_rf (f i.toNatClampNeg)) hexec hb (hP k0 _ ha) ((hK.2 t0 _ ht).1 n (fun j => va_rf (f j))) hty (fun q => by cases q) (by show ¬ (i < 0 ∨ (arrV _ _ _).slots.size ≤ _); rw [arrV_size]; exact hin) (by show (arrV _ _ _).slots[_]? = _; rw [arrV_read _ _ hlt]) rfl rfl hdg kk
theorem x_get0 (C : XC D T RX0 p m c cc nL s args) (I : XI D T ad A H0 M H locs) (j : Nat) (hj : j < 31) (hl : Cond.fieldLink RX0 idx RX0 (TX0 j).2.1 (TX0 j).2.2.1 ∈ lw_all) (h1 : (TX0 j).1 = RX0) {v : Value} (hv : (objX ad (M 0))[j]? = some v) (hdg : decode cc pc = .ok (.getfield idx, 3))
    (kk : W p l e R s m args below meth c H locs cells slots Q (F0 m (pc + 3) ls (v :: rest))) : W p l e R s m args below meth c H locs cells slots Q (F0 m pc ls (.ref (ad 0) :: rest)) := by
  obtain ⟨ra, I⟩ := I
  exact f_get C.1.1 C.1.2.1 (C := RX0) (T := TX0) (N := 31) (ci := 0) C.1.2.2.2.2 in_X0 C.1.2.2.2.1 C.2.1 I.1 (cX_0 T ad ra M) rfl j hj (C.1.2.2.2.2 _ hl) (fun _ h => by rw [h1] at h; exact h) hv hdg kk
theorem x_put0 (C : XC D T RX0 p m c cc nL s args) (I : XI D T ad A H0 M H locs) (j : Nat) (hj : j < 31) (hl : Cond.fieldLink RX0 idx RX0 (TX0 j).2.1 (TX0 j).2.2.1 ∈ lw_all) (h1 : (TX0 j).1 = RX0) (hfin : (TX0 j).2.2.2 = false) {ty : FieldType} (hd : parseFieldDescriptor (TX0 j).2.2.1 = some ty) {x : Int32} (hn : narrow ty (.int x) = .int x) (hfit : fits ty (.int x) = true) (he : objX ad (upd (M 0) j x) = (objX ad (M 0)).set j (.int x)) (hdg : decode cc pc = .ok (.putfield idx, 3))
    (kk : ∀ (M1 : Mem) (H1 : Heap) (locs1 : List Loc), M1 = mset M 0 j x → XI D T ad A H0 M1 H1 locs1 → W p l e R s m args below meth c H1 locs1 cells slots Q (F0 m (pc + 3) ls rest)) : W p l e R s m args below meth c H locs cells slots Q (F0 m pc ls (.int x :: .ref (ad 0) :: rest)) := by
  obtain ⟨ra, I⟩ := I
  refine f_put (w' := cX T ad ra (mset M 0 j x)) C.1.1 C.1.2.1 (C := RX0) (T := TX0) (Nf := 31) (ci := 0) C.1.2.2.2.2 in_X0 tyX0 tyX0_ok nmX0 C.1.2.2.2.1 C.2.1 (cX_fN T ad ra M) I.1 I.2.1 I.2.2.1 (cX_0 T ad ra M) rfl j hj (C.1.2.2.2.2 _ hl) (fun _ h => by rw [h1] at h; exact h) hfin hd hn hfit (by show j < 31; exact hj) ?_ ?_ hdg (fun H1 locs1 hP hD hS => kk _ H1 locs1 rfl ⟨ra, hP, hD, hS, I.2.2.2⟩)
  · rw [cX_0, mset_same, he]
  · intro k hk
    exact cX_same (mset_ne M _ _ hk) (mset_ne M _ _ (by decide)) (mset_ne M _ _ (by decide))
theorem x_getC (C : XC D T own p m c cc nL s args) (I : XI D T ad A H0 M H locs) {o : Nat} (ho : isCar o) (j : Nat) (hj : j < 12) (hl : Cond.fieldLink own idx RX5 (TX5 j).2.1 (TX5 j).2.2.1 ∈ lw_all) (h1 : (TX5 j).1 = RX5) {v : Value} (hv : (carX ad (M o))[j]? = some v) (hdg : decode cc pc = .ok (.getfield idx, 3))
    (kk : W p l e R s m args below meth c H locs cells slots Q (F0 m (pc + 3) ls (v :: rest))) : W p l e R s m args below meth c H locs cells slots Q (F0 m pc ls (.ref (ad o) :: rest)) := by
  obtain ⟨ra, I⟩ := I
  exact f_get C.1.1 C.1.2.1 (C := RX5) (T := TX5) (N := 12) (ci := 5) C.1.2.2.2.2 in_X5 C.1.2.2.2.1 C.2.1 I.1 (cX_car ho) rfl j hj (C.1.2.2.2.2 _ hl) (fun _ h => by rw [h1] at h; exact h) hv hdg kk
theorem x_putC (C : XC D T own p m c cc nL s args) (I : XI D T ad A H0 M H locs) {o : Nat} (ho : isCar o) (j : Nat) (hj : j < 12) (hl : Cond.fieldLink own idx RX5 (TX5 j).2.1 (TX5 j).2.2.1 ∈ lw_all) (h1 : (TX5 j).1 = RX5) (hfin : (TX5 j).2.2.2 = false) {ty : FieldType} (hd : parseFieldDescriptor (TX5 j).2.2.1 = some ty) {x : Int32} {v : Value} (hn : narrow ty v = v) (hfit : fits ty v = true) (he : carX ad (upd (M o) j x) = (carX ad (M o)).set j v) (hdg : decode cc pc = .ok (.putfield idx, 3))
    (kk : ∀ (M1 : Mem) (H1 : Heap) (locs1 : List Loc), M1 = mset M o j x → XI D T ad A H0 M1 H1 locs1 → W p l e R s m args below meth c H1 locs1 cells slots Q (F0 m (pc + 3) ls rest)) : W p l e R s m args below meth c H locs cells slots Q (F0 m pc ls (v :: .ref (ad o) :: rest)) := by
  obtain ⟨ra, I⟩ := I
  have ho2 := ho
  unfold isCar at ho2
  refine f_put (w' := cX T ad ra (mset M o j x)) C.1.1 C.1.2.1 (C := RX5) (T := TX5) (Nf := 12) (ci := 5) C.1.2.2.2.2 in_X5 tyX5 tyX5_ok nmX5 C.1.2.2.2.1 C.2.1 (cX_fN T ad ra M) I.1 I.2.1 I.2.2.1 (cX_car ho) rfl j hj (C.1.2.2.2.2 _ hl) (fun _ h => by rw [h1] at h; exact h) hfin hd hn hfit (by show j < 12; exact hj) ?_ ?_ hdg (fun H1 locs1 hP hD hS => kk _ H1 locs1 rfl ⟨ra, hP, hD, hS, I.2.2.2⟩)
  · rw [cX_car ho, mset_same, he]
  · intro k hk
    exact cX_same (mset_ne M _ _ hk) (mset_ne M _ _ (by omega)) (mset_ne M _ _ (by omega))
theorem x_formN (C : XC D T RX0 p m c cc nL s args) (I : XI D T ad A H0 M H locs) {o : Nat} (ho : isSh o) (hdg : decode cc pc = .ok (.getfield 406, 3))
    (kk : W p l e R s m args below meth c H locs cells slots Q (F0 m (pc + 3) ls (.int (M o 0) :: rest))) : W p l e R s m args below meth c H locs cells slots Q (F0 m pc ls (.ref (ad o) :: rest)) := by
  obtain ⟨ra, I⟩ := I
  exact va_getN C.1.1 C.1.2.1 (C := RX4) (T := TX4) (N := 2) (ci := 4) C.1.2.2.2.2 in_X4 C.1.2.2.2.1 C.2.1 (I.1.one (cX_sh ho)) 0 rfl rfl 0 (by decide) (C.2.2.1.use rfl) (fun _ h => h) rfl hdg kk
theorem xg_texts (C : XC D T RX0 p m c cc nL s args) (I : XI D T ad A H0 M H locs) (hdg : decode cc pc = .ok (.getfield 17, 3)) (kk : W p l e R s m args below meth c H locs cells slots Q (F0 m (pc + 3) ls (.ref (ad 1) :: rest))) : W p l e R s m args below meth c H locs cells slots Q (F0 m pc ls (.ref (ad 0) :: rest)) := x_get0 C I 0 (by decide) q612 rfl rfl hdg kk
theorem xg_typed (C : XC D T RX0 p m c cc nL s args) (I : XI D T ad A H0 M H locs) (hdg : decode cc pc = .ok (.getfield 13, 3)) (kk : W p l e R s m args below meth c H locs cells slots Q (F0 m (pc + 3) ls (.ref (ad 4) :: rest))) : W p l e R s m args below meth c H locs cells slots Q (F0 m pc ls (.ref (ad 0) :: rest)) := x_get0 C I 1 (by decide) q613 rfl rfl hdg kk
theorem xg_isRead (C : XC D T RX0 p m c cc nL s args) (I : XI D T ad A H0 M H locs) (hdg : decode cc pc = .ok (.getfield 21, 3)) (kk : W p l e R s m args below meth c H locs cells slots Q (F0 m (pc + 3) ls (.int (M 0 2) :: rest))) : W p l e R s m args below meth c H locs cells slots Q (F0 m pc ls (.ref (ad 0) :: rest)) := x_get0 C I 2 (by decide) q614 rfl rfl hdg kk
theorem xp_isRead (C : XC D T RX0 p m c cc nL s args) (I : XI D T ad A H0 M H locs) {x : Int32} (hz : isB x) (hdg : decode cc pc = .ok (.putfield 21, 3)) (kk : ∀ (M1 : Mem) (H1 : Heap) (locs1 : List Loc), M1 = mset M 0 2 x → XI D T ad A H0 M1 H1 locs1 → W p l e R s m args below meth c H1 locs1 cells slots Q (F0 m (pc + 3) ls rest)) : W p l e R s m args below meth c H locs cells slots Q (F0 m pc ls (.int x :: .ref (ad 0) :: rest)) := x_put0 C I 2 (by decide) q614 rfl rfl (tyX0_ok 2 (by decide)) (isB_nar hz) (isB_fit hz) rfl hdg kk
theorem xg_faults (C : XC D T RX0 p m c cc nL s args) (I : XI D T ad A H0 M H locs) (hdg : decode cc pc = .ok (.getfield 101, 3)) (kk : W p l e R s m args below meth c H locs cells slots Q (F0 m (pc + 3) ls (.ref (ad 5) :: rest))) : W p l e R s m args below meth c H locs cells slots Q (F0 m pc ls (.ref (ad 0) :: rest)) := x_get0 C I 3 (by decide) q615 rfl rfl hdg kk
theorem xg_ways (C : XC D T RX0 p m c cc nL s args) (I : XI D T ad A H0 M H locs) (hdg : decode cc pc = .ok (.getfield 95, 3)) (kk : W p l e R s m args below meth c H locs cells slots Q (F0 m (pc + 3) ls (.int (M 0 4) :: rest))) : W p l e R s m args below meth c H locs cells slots Q (F0 m pc ls (.ref (ad 0) :: rest)) := x_get0 C I 4 (by decide) q616 rfl rfl hdg kk
theorem xp_ways (C : XC D T RX0 p m c cc nL s args) (I : XI D T ad A H0 M H locs) {x : Int32} (hdg : decode cc pc = .ok (.putfield 95, 3)) (kk : ∀ (M1 : Mem) (H1 : Heap) (locs1 : List Loc), M1 = mset M 0 4 x → XI D T ad A H0 M1 H1 locs1 → W p l e R s m args below meth c H1 locs1 cells slots Q (F0 m (pc + 3) ls rest)) : W p l e R s m args below meth c H locs cells slots Q (F0 m pc ls (.int x :: .ref (ad 0) :: rest)) := x_put0 C I 4 (by decide) q616 rfl rfl (tyX0_ok 4 (by decide)) rfl rfl rfl hdg kk
theorem xg_wayFrom (C : XC D T RX0 p m c cc nL s args) (I : XI D T ad A H0 M H locs) (hdg : decode cc pc = .ok (.getfield 43, 3)) (kk : W p l e R s m args below meth c H locs cells slots Q (F0 m (pc + 3) ls (.ref (ad 6) :: rest))) : W p l e R s m args below meth c H locs cells slots Q (F0 m pc ls (.ref (ad 0) :: rest)) := x_get0 C I 5 (by decide) q617 rfl rfl hdg kk
theorem xg_wayTo (C : XC D T RX0 p m c cc nL s args) (I : XI D T ad A H0 M H locs) (hdg : decode cc pc = .ok (.getfield 46, 3)) (kk : W p l e R s m args below meth c H locs cells slots Q (F0 m (pc + 3) ls (.ref (ad 7) :: rest))) : W p l e R s m args below meth c H locs cells slots Q (F0 m pc ls (.ref (ad 0) :: rest)) := x_get0 C I 6 (by decide) q618 rfl rfl hdg kk
theorem xg_wayLong (C : XC D T RX0 p m c cc nL s args) (I : XI D T ad A H0 M H locs) (hdg : decode cc pc = .ok (.getfield 49, 3)) (kk : W p l e R s m args below meth c H locs cells slots Q (F0 m (pc + 3) ls (.ref (ad 8) :: rest))) : W p l e R s m args below meth c H locs cells slots Q (F0 m pc ls (.ref (ad 0) :: rest)) := x_get0 C I 7 (by decide) q619 rfl rfl hdg kk
theorem xg_waySlope (C : XC D T RX0 p m c cc nL s args) (I : XI D T ad A H0 M H locs) (hdg : decode cc pc = .ok (.getfield 52, 3)) (kk : W p l e R s m args below meth c H locs cells slots Q (F0 m (pc + 3) ls (.ref (ad 9) :: rest))) : W p l e R s m args below meth c H locs cells slots Q (F0 m pc ls (.ref (ad 0) :: rest)) := x_get0 C I 8 (by decide) q620 rfl rfl hdg kk
theorem xg_carters (C : XC D T RX0 p m c cc nL s args) (I : XI D T ad A H0 M H locs) (hdg : decode cc pc = .ok (.getfield 98, 3)) (kk : W p l e R s m args below meth c H locs cells slots Q (F0 m (pc + 3) ls (.int (M 0 9) :: rest))) : W p l e R s m args below meth c H locs cells slots Q (F0 m pc ls (.ref (ad 0) :: rest)) := x_get0 C I 9 (by decide) q621 rfl rfl hdg kk
theorem xp_carters (C : XC D T RX0 p m c cc nL s args) (I : XI D T ad A H0 M H locs) {x : Int32} (hdg : decode cc pc = .ok (.putfield 98, 3)) (kk : ∀ (M1 : Mem) (H1 : Heap) (locs1 : List Loc), M1 = mset M 0 9 x → XI D T ad A H0 M1 H1 locs1 → W p l e R s m args below meth c H1 locs1 cells slots Q (F0 m (pc + 3) ls rest)) : W p l e R s m args below meth c H locs cells slots Q (F0 m pc ls (.int x :: .ref (ad 0) :: rest)) := x_put0 C I 9 (by decide) q621 rfl rfl (tyX0_ok 9 (by decide)) rfl rfl rfl hdg kk
theorem xg_all (C : XC D T RX0 p m c cc nL s args) (I : XI D T ad A H0 M H locs) (hdg : decode cc pc = .ok (.getfield 62, 3)) (kk : W p l e R s m args below meth c H locs cells slots Q (F0 m (pc + 3) ls (.ref (ad 10) :: rest))) : W p l e R s m args below meth c H locs cells slots Q (F0 m pc ls (.ref (ad 0) :: rest)) := x_get0 C I 10 (by decide) q622 rfl rfl hdg kk
theorem xg_kinds (C : XC D T RX0 p m c cc nL s args) (I : XI D T ad A H0 M H locs) (hdg : decode cc pc = .ok (.getfield 75, 3)) (kk : W p l e R s m args below meth c H locs cells slots Q (F0 m (pc + 3) ls (.ref (ad 11) :: rest))) : W p l e R s m args below meth c H locs cells slots Q (F0 m pc ls (.ref (ad 0) :: rest)) := x_get0 C I 11 (by decide) q623 rfl rfl hdg kk
theorem xg_answers (C : XC D T RX0 p m c cc nL s args) (I : XI D T ad A H0 M H locs) (hdg : decode cc pc = .ok (.getfield 141, 3)) (kk : W p l e R s m args below meth c H locs cells slots Q (F0 m (pc + 3) ls (.int (M 0 12) :: rest))) : W p l e R s m args below meth c H locs cells slots Q (F0 m pc ls (.ref (ad 0) :: rest)) := x_get0 C I 12 (by decide) q624 rfl rfl hdg kk
theorem xp_answers (C : XC D T RX0 p m c cc nL s args) (I : XI D T ad A H0 M H locs) {x : Int32} (hdg : decode cc pc = .ok (.putfield 141, 3)) (kk : ∀ (M1 : Mem) (H1 : Heap) (locs1 : List Loc), M1 = mset M 0 12 x → XI D T ad A H0 M1 H1 locs1 → W p l e R s m args below meth c H1 locs1 cells slots Q (F0 m (pc + 3) ls rest)) : W p l e R s m args below meth c H locs cells slots Q (F0 m pc ls (.int x :: .ref (ad 0) :: rest)) := x_put0 C I 12 (by decide) q624 rfl rfl (tyX0_ok 12 (by decide)) rfl rfl rfl hdg kk
theorem xg_answerHour (C : XC D T RX0 p m c cc nL s args) (I : XI D T ad A H0 M H locs) (hdg : decode cc pc = .ok (.getfield 144, 3)) (kk : W p l e R s m args below meth c H locs cells slots Q (F0 m (pc + 3) ls (.ref (ad 12) :: rest))) : W p l e R s m args below meth c H locs cells slots Q (F0 m pc ls (.ref (ad 0) :: rest)) := x_get0 C I 13 (by decide) q625 rfl rfl hdg kk
theorem xg_answerPlace (C : XC D T RX0 p m c cc nL s args) (I : XI D T ad A H0 M H locs) (hdg : decode cc pc = .ok (.getfield 147, 3)) (kk : W p l e R s m args below meth c H locs cells slots Q (F0 m (pc + 3) ls (.ref (ad 13) :: rest))) : W p l e R s m args below meth c H locs cells slots Q (F0 m pc ls (.ref (ad 0) :: rest)) := x_get0 C I 14 (by decide) q626 rfl rfl hdg kk
theorem xg_beside (C : XC D T RX0 p m c cc nL s args) (I : XI D T ad A H0 M H locs) (hdg : decode cc pc = .ok (.getfield 175, 3)) (kk : W p l e R s m args below meth c H locs cells slots Q (F0 m (pc + 3) ls (.ref (ad 14) :: rest))) : W p l e R s m args below meth c H locs cells slots Q (F0 m pc ls (.ref (ad 0) :: rest)) := x_get0 C I 15 (by decide) q627 rfl rfl hdg kk
theorem xg_farNow (C : XC D T RX0 p m c cc nL s args) (I : XI D T ad A H0 M H locs) (hdg : decode cc pc = .ok (.getfield 187, 3)) (kk : W p l e R s m args below meth c H locs cells slots Q (F0 m (pc + 3) ls (.ref (ad 15) :: rest))) : W p l e R s m args below meth c H locs cells slots Q (F0 m pc ls (.ref (ad 0) :: rest)) := x_get0 C I 16 (by decide) q628 rfl rfl hdg kk
theorem xg_notAnswers (C : XC D T RX0 p m c cc nL s args) (I : XI D T ad A H0 M H locs) (hdg : decode cc pc = .ok (.getfield 203, 3)) (kk : W p l e R s m args below meth c H locs cells slots Q (F0 m (pc + 3) ls (.int (M 0 17) :: rest))) : W p l e R s m args below meth c H locs cells slots Q (F0 m pc ls (.ref (ad 0) :: rest)) := x_get0 C I 17 (by decide) q629 rfl rfl hdg kk
theorem xp_notAnswers (C : XC D T RX0 p m c cc nL s args) (I : XI D T ad A H0 M H locs) {x : Int32} (hdg : decode cc pc = .ok (.putfield 203, 3)) (kk : ∀ (M1 : Mem) (H1 : Heap) (locs1 : List Loc), M1 = mset M 0 17 x → XI D T ad A H0 M1 H1 locs1 → W p l e R s m args below meth c H1 locs1 cells slots Q (F0 m (pc + 3) ls rest)) : W p l e R s m args below meth c H locs cells slots Q (F0 m pc ls (.int x :: .ref (ad 0) :: rest)) := x_put0 C I 17 (by decide) q629 rfl rfl (tyX0_ok 17 (by decide)) rfl rfl rfl hdg kk
theorem xg_present (C : XC D T RX0 p m c cc nL s args) (I : XI D T ad A H0 M H locs) (hdg : decode cc pc = .ok (.getfield 227, 3)) (kk : W p l e R s m args below meth c H locs cells slots Q (F0 m (pc + 3) ls (.ref (ad 16) :: rest))) : W p l e R s m args below meth c H locs cells slots Q (F0 m pc ls (.ref (ad 0) :: rest)) := x_get0 C I 18 (by decide) q630 rfl rfl hdg kk
theorem xg_arrivals (C : XC D T RX0 p m c cc nL s args) (I : XI D T ad A H0 M H locs) (hdg : decode cc pc = .ok (.getfield 212, 3)) (kk : W p l e R s m args below meth c H locs cells slots Q (F0 m (pc + 3) ls (.ref (ad 17) :: rest))) : W p l e R s m args below meth c H locs cells slots Q (F0 m pc ls (.ref (ad 0) :: rest)) := x_get0 C I 19 (by decide) q631 rfl rfl hdg kk
theorem xg_metHour (C : XC D T RX0 p m c cc nL s args) (I : XI D T ad A H0 M H locs) (hdg : decode cc pc = .ok (.getfield 215, 3)) (kk : W p l e R s m args below meth c H locs cells slots Q (F0 m (pc + 3) ls (.int (M 0 20) :: rest))) : W p l e R s m args below meth c H locs cells slots Q (F0 m pc ls (.ref (ad 0) :: rest)) := x_get0 C I 20 (by decide) q632 rfl rfl hdg kk
theorem xp_metHour (C : XC D T RX0 p m c cc nL s args) (I : XI D T ad A H0 M H locs) {x : Int32} (hdg : decode cc pc = .ok (.putfield 215, 3)) (kk : ∀ (M1 : Mem) (H1 : Heap) (locs1 : List Loc), M1 = mset M 0 20 x → XI D T ad A H0 M1 H1 locs1 → W p l e R s m args below meth c H1 locs1 cells slots Q (F0 m (pc + 3) ls rest)) : W p l e R s m args below meth c H locs cells slots Q (F0 m pc ls (.int x :: .ref (ad 0) :: rest)) := x_put0 C I 20 (by decide) q632 rfl rfl (tyX0_ok 20 (by decide)) rfl rfl rfl hdg kk
theorem xg_metPlace (C : XC D T RX0 p m c cc nL s args) (I : XI D T ad A H0 M H locs) (hdg : decode cc pc = .ok (.getfield 218, 3)) (kk : W p l e R s m args below meth c H locs cells slots Q (F0 m (pc + 3) ls (.int (M 0 21) :: rest))) : W p l e R s m args below meth c H locs cells slots Q (F0 m pc ls (.ref (ad 0) :: rest)) := x_get0 C I 21 (by decide) q633 rfl rfl hdg kk
theorem xp_metPlace (C : XC D T RX0 p m c cc nL s args) (I : XI D T ad A H0 M H locs) {x : Int32} (hdg : decode cc pc = .ok (.putfield 218, 3)) (kk : ∀ (M1 : Mem) (H1 : Heap) (locs1 : List Loc), M1 = mset M 0 21 x → XI D T ad A H0 M1 H1 locs1 → W p l e R s m args below meth c H1 locs1 cells slots Q (F0 m (pc + 3) ls rest)) : W p l e R s m args below meth c H locs cells slots Q (F0 m pc ls (.int x :: .ref (ad 0) :: rest)) := x_put0 C I 21 (by decide) q633 rfl rfl (tyX0_ok 21 (by decide)) rfl rfl rfl hdg kk
theorem xg_placeAt (C : XC D T RX0 p m c cc nL s args) (I : XI D T ad A H0 M H locs) (hdg : decode cc pc = .ok (.getfield 267, 3)) (kk : W p l e R s m args below meth c H locs cells slots Q (F0 m (pc + 3) ls (.ref (ad 18) :: rest))) : W p l e R s m args below meth c H locs cells slots Q (F0 m pc ls (.ref (ad 0) :: rest)) := x_get0 C I 22 (by decide) q634 rfl rfl hdg kk
theorem xg_sights (C : XC D T RX0 p m c cc nL s args) (I : XI D T ad A H0 M H locs) (hdg : decode cc pc = .ok (.getfield 328, 3)) (kk : W p l e R s m args below meth c H locs cells slots Q (F0 m (pc + 3) ls (.int (M 0 23) :: rest))) : W p l e R s m args below meth c H locs cells slots Q (F0 m pc ls (.ref (ad 0) :: rest)) := x_get0 C I 23 (by decide) q635 rfl rfl hdg kk
theorem xp_sights (C : XC D T RX0 p m c cc nL s args) (I : XI D T ad A H0 M H locs) {x : Int32} (hdg : decode cc pc = .ok (.putfield 328, 3)) (kk : ∀ (M1 : Mem) (H1 : Heap) (locs1 : List Loc), M1 = mset M 0 23 x → XI D T ad A H0 M1 H1 locs1 → W p l e R s m args below meth c H1 locs1 cells slots Q (F0 m (pc + 3) ls rest)) : W p l e R s m args below meth c H locs cells slots Q (F0 m pc ls (.int x :: .ref (ad 0) :: rest)) := x_put0 C I 23 (by decide) q635 rfl rfl (tyX0_ok 23 (by decide)) rfl rfl rfl hdg kk
theorem xg_seenHour (C : XC D T RX0 p m c cc nL s args) (I : XI D T ad A H0 M H locs) (hdg : decode cc pc = .ok (.getfield 331, 3)) (kk : W p l e R s m args below meth c H locs cells slots Q (F0 m (pc + 3) ls (.ref (ad 19) :: rest))) : W p l e R s m args below meth c H locs cells slots Q (F0 m pc ls (.ref (ad 0) :: rest)) := x_get0 C I 24 (by decide) q636 rfl rfl hdg kk
theorem xg_seenWho (C : XC D T RX0 p m c cc nL s args) (I : XI D T ad A H0 M H locs) (hdg : decode cc pc = .ok (.getfield 334, 3)) (kk : W p l e R s m args below meth c H locs cells slots Q (F0 m (pc + 3) ls (.ref (ad 20) :: rest))) : W p l e R s m args below meth c H locs cells slots Q (F0 m pc ls (.ref (ad 0) :: rest)) := x_get0 C I 25 (by decide) q637 rfl rfl hdg kk
theorem xg_seenPlace (C : XC D T RX0 p m c cc nL s args) (I : XI D T ad A H0 M H locs) (hdg : decode cc pc = .ok (.getfield 337, 3)) (kk : W p l e R s m args below meth c H locs cells slots Q (F0 m (pc + 3) ls (.ref (ad 21) :: rest))) : W p l e R s m args below meth c H locs cells slots Q (F0 m pc ls (.ref (ad 0) :: rest)) := x_get0 C I 26 (by decide) q638 rfl rfl hdg kk
theorem xg_placeBy (C : XC D T RX0 p m c cc nL s args) (I : XI D T ad A H0 M H locs) (hdg : decode cc pc = .ok (.getfield 347, 3)) (kk : W p l e R s m args below meth c H locs cells slots Q (F0 m (pc + 3) ls (.ref (ad 22) :: rest))) : W p l e R s m args below meth c H locs cells slots Q (F0 m pc ls (.ref (ad 0) :: rest)) := x_get0 C I 27 (by decide) q639 rfl rfl hdg kk
theorem xg_ownStrengths (C : XC D T RX0 p m c cc nL s args) (I : XI D T ad A H0 M H locs) (hdg : decode cc pc = .ok (.getfield 374, 3)) (kk : W p l e R s m args below meth c H locs cells slots Q (F0 m (pc + 3) ls (.ref (ad 23) :: rest))) : W p l e R s m args below meth c H locs cells slots Q (F0 m pc ls (.ref (ad 0) :: rest)) := x_get0 C I 28 (by decide) q640 rfl rfl hdg kk
theorem xg_sheets (C : XC D T RX0 p m c cc nL s args) (I : XI D T ad A H0 M H locs) (hdg : decode cc pc = .ok (.getfield 156, 3)) (kk : W p l e R s m args below meth c H locs cells slots Q (F0 m (pc + 3) ls (.ref (ad 24) :: rest))) : W p l e R s m args below meth c H locs cells slots Q (F0 m pc ls (.ref (ad 0) :: rest)) := x_get0 C I 29 (by decide) q641 rfl rfl hdg kk
theorem xg_finding (C : XC D T RX0 p m c cc nL s args) (I : XI D T ad A H0 M H locs) (hdg : decode cc pc = .ok (.getfield 397, 3)) (kk : W p l e R s m args below meth c H locs cells slots Q (F0 m (pc + 3) ls (.int (M 0 30) :: rest))) : W p l e R s m args below meth c H locs cells slots Q (F0 m pc ls (.ref (ad 0) :: rest)) := x_get0 C I 30 (by decide) q642 rfl rfl hdg kk
theorem xp_finding (C : XC D T RX0 p m c cc nL s args) (I : XI D T ad A H0 M H locs) {x : Int32} (hdg : decode cc pc = .ok (.putfield 397, 3)) (kk : ∀ (M1 : Mem) (H1 : Heap) (locs1 : List Loc), M1 = mset M 0 30 x → XI D T ad A H0 M1 H1 locs1 → W p l e R s m args below meth c H1 locs1 cells slots Q (F0 m (pc + 3) ls rest)) : W p l e R s m args below meth c H locs cells slots Q (F0 m pc ls (.int x :: .ref (ad 0) :: rest)) := x_put0 C I 30 (by decide) q642 rfl rfl (tyX0_ok 30 (by decide)) rfl rfl rfl hdg kk
theorem xcg0_from (C : XC D T RX0 p m c cc nL s args) (I : XI D T ad A H0 M H locs) {o : Nat} (ho : isCar o) (hdg : decode cc pc = .ok (.getfield 66, 3)) (kk : W p l e R s m args below meth c H locs cells slots Q (F0 m (pc + 3) ls (.int (M o 0) :: rest))) : W p l e R s m args below meth c H locs cells slots Q (F0 m pc ls (.ref (ad o) :: rest)) := x_getC C I ho 0 (by decide) q566 rfl rfl hdg kk
theorem xcp0_from (C : XC D T RX0 p m c cc nL s args) (I : XI D T ad A H0 M H locs) {o : Nat} (ho : isCar o) {x : Int32} (hdg : decode cc pc = .ok (.putfield 66, 3)) (kk : ∀ (M1 : Mem) (H1 : Heap) (locs1 : List Loc), M1 = mset M o 0 x → XI D T ad A H0 M1 H1 locs1 → W p l e R s m args below meth c H1 locs1 cells slots Q (F0 m (pc + 3) ls rest)) : W p l e R s m args below meth c H locs cells slots Q (F0 m pc ls (.int x :: .ref (ad o) :: rest)) := x_putC C I ho 0 (by decide) q566 rfl rfl (tyX5_ok 0 (by decide)) rfl rfl rfl hdg kk
theorem xcg0_goal (C : XC D T RX0 p m c cc nL s args) (I : XI D T ad A H0 M H locs) {o : Nat} (ho : isCar o) (hdg : decode cc pc = .ok (.getfield 72, 3)) (kk : W p l e R s m args below meth c H locs cells slots Q (F0 m (pc + 3) ls (.int (M o 1) :: rest))) : W p l e R s m args below meth c H locs cells slots Q (F0 m pc ls (.ref (ad o) :: rest)) := x_getC C I ho 1 (by decide) q567 rfl rfl hdg kk
theorem xcp0_goal (C : XC D T RX0 p m c cc nL s args) (I : XI D T ad A H0 M H locs) {o : Nat} (ho : isCar o) {x : Int32} (hdg : decode cc pc = .ok (.putfield 72, 3)) (kk : ∀ (M1 : Mem) (H1 : Heap) (locs1 : List Loc), M1 = mset M o 1 x → XI D T ad A H0 M1 H1 locs1 → W p l e R s m args below meth c H1 locs1 cells slots Q (F0 m (pc + 3) ls rest)) : W p l e R s m args below meth c H locs cells slots Q (F0 m pc ls (.int x :: .ref (ad o) :: rest)) := x_putC C I ho 1 (by decide) q567 rfl rfl (tyX5_ok 1 (by decide)) rfl rfl rfl hdg kk
theorem xcg0_question (C : XC D T RX0 p m c cc nL s args) (I : XI D T ad A H0 M H locs) {o : Nat} (ho : isCar o) (hg : vp_in (M o 2) 3) (hdg : decode cc pc = .ok (.getfield 79, 3)) (kk : W p l e R s m args below meth c H locs cells slots Q (F0 m (pc + 3) ls (.ref (ad (25 + ci (M o 2))) :: rest))) : W p l e R s m args below meth c H locs cells slots Q (F0 m pc ls (.ref (ad o) :: rest)) := x_getC C I ho 2 (by decide) q568 rfl (by show some (qv ad (M o 2)) = _; rw [qv_of hg]) hdg kk
theorem xcp0_question (C : XC D T RX0 p m c cc nL s args) (I : XI D T ad A H0 M H locs) {o : Nat} (ho : isCar o) {x : Int32} (hg : vp_in x 3) (hdg : decode cc pc = .ok (.putfield 79, 3)) (kk : ∀ (M1 : Mem) (H1 : Heap) (locs1 : List Loc), M1 = mset M o 2 x → XI D T ad A H0 M1 H1 locs1 → W p l e R s m args below meth c H1 locs1 cells slots Q (F0 m (pc + 3) ls rest)) : W p l e R s m args below meth c H locs cells slots Q (F0 m pc ls (.ref (ad (25 + ci x)) :: .ref (ad o) :: rest)) := x_putC C I ho 2 (by decide) q568 rfl rfl (tyX5_ok 2 (by decide)) rfl rfl (by show carX ad (upd (M o) 2 x) = (carX ad (M o)).set 2 _; rw [← qv_of (ad := ad) hg]; rfl) hdg kk
theorem xcg0_strength (C : XC D T RX0 p m c cc nL s args) (I : XI D T ad A H0 M H locs) {o : Nat} (ho : isCar o) (hdg : decode cc pc = .ok (.getfield 83, 3)) (kk : W p l e R s m args below meth c H locs cells slots Q (F0 m (pc + 3) ls (.int (M o 3) :: rest))) : W p l e R s m args below meth c H locs cells slots Q (F0 m pc ls (.ref (ad o) :: rest)) := x_getC C I ho 3 (by decide) q570 rfl rfl hdg kk
theorem xcp0_strength (C : XC D T RX0 p m c cc nL s args) (I : XI D T ad A H0 M H locs) {o : Nat} (ho : isCar o) {x : Int32} (hdg : decode cc pc = .ok (.putfield 83, 3)) (kk : ∀ (M1 : Mem) (H1 : Heap) (locs1 : List Loc), M1 = mset M o 3 x → XI D T ad A H0 M1 H1 locs1 → W p l e R s m args below meth c H1 locs1 cells slots Q (F0 m (pc + 3) ls rest)) : W p l e R s m args below meth c H locs cells slots Q (F0 m pc ls (.int x :: .ref (ad o) :: rest)) := x_putC C I ho 3 (by decide) q570 rfl rfl (tyX5_ok 3 (by decide)) rfl rfl rfl hdg kk
theorem xcg0_load (C : XC D T RX0 p m c cc nL s args) (I : XI D T ad A H0 M H locs) {o : Nat} (ho : isCar o) (hdg : decode cc pc = .ok (.getfield 86, 3)) (kk : W p l e R s m args below meth c H locs cells slots Q (F0 m (pc + 3) ls (.int (M o 4) :: rest))) : W p l e R s m args below meth c H locs cells slots Q (F0 m pc ls (.ref (ad o) :: rest)) := x_getC C I ho 4 (by decide) q572 rfl rfl hdg kk
theorem xcp0_load (C : XC D T RX0 p m c cc nL s args) (I : XI D T ad A H0 M H locs) {o : Nat} (ho : isCar o) {x : Int32} (hdg : decode cc pc = .ok (.putfield 86, 3)) (kk : ∀ (M1 : Mem) (H1 : Heap) (locs1 : List Loc), M1 = mset M o 4 x → XI D T ad A H0 M1 H1 locs1 → W p l e R s m args below meth c H1 locs1 cells slots Q (F0 m (pc + 3) ls rest)) : W p l e R s m args below meth c H locs cells slots Q (F0 m pc ls (.int x :: .ref (ad o) :: rest)) := x_putC C I ho 4 (by decide) q572 rfl rfl (tyX5_ok 4 (by decide)) rfl rfl rfl hdg kk
theorem xcg0_late (C : XC D T RX0 p m c cc nL s args) (I : XI D T ad A H0 M H locs) {o : Nat} (ho : isCar o) (hdg : decode cc pc = .ok (.getfield 135, 3)) (kk : W p l e R s m args below meth c H locs cells slots Q (F0 m (pc + 3) ls (.int (M o 5) :: rest))) : W p l e R s m args below meth c H locs cells slots Q (F0 m pc ls (.ref (ad o) :: rest)) := x_getC C I ho 5 (by decide) q574 rfl rfl hdg kk
theorem xcp0_late (C : XC D T RX0 p m c cc nL s args) (I : XI D T ad A H0 M H locs) {o : Nat} (ho : isCar o) {x : Int32} (hdg : decode cc pc = .ok (.putfield 135, 3)) (kk : ∀ (M1 : Mem) (H1 : Heap) (locs1 : List Loc), M1 = mset M o 5 x → XI D T ad A H0 M1 H1 locs1 → W p l e R s m args below meth c H1 locs1 cells slots Q (F0 m (pc + 3) ls rest)) : W p l e R s m args below meth c H locs cells slots Q (F0 m pc ls (.int x :: .ref (ad o) :: rest)) := x_putC C I ho 5 (by decide) q574 rfl rfl (tyX5_ok 5 (by decide)) rfl rfl rfl hdg kk
theorem xcg0_is (C : XC D T RX0 p m c cc nL s args) (I : XI D T ad A H0 M H locs) {o : Nat} (ho : isCar o) (hdg : decode cc pc = .ok (.getfield 221, 3)) (kk : W p l e R s m args below meth c H locs cells slots Q (F0 m (pc + 3) ls (.int (M o 6) :: rest))) : W p l e R s m args below meth c H locs cells slots Q (F0 m pc ls (.ref (ad o) :: rest)) := x_getC C I ho 6 (by decide) q576 rfl rfl hdg kk
theorem xcp0_is (C : XC D T RX0 p m c cc nL s args) (I : XI D T ad A H0 M H locs) {o : Nat} (ho : isCar o) {x : Int32} (hdg : decode cc pc = .ok (.putfield 221, 3)) (kk : ∀ (M1 : Mem) (H1 : Heap) (locs1 : List Loc), M1 = mset M o 6 x → XI D T ad A H0 M1 H1 locs1 → W p l e R s m args below meth c H1 locs1 cells slots Q (F0 m (pc + 3) ls rest)) : W p l e R s m args below meth c H locs cells slots Q (F0 m pc ls (.int x :: .ref (ad o) :: rest)) := x_putC C I ho 6 (by decide) q576 rfl rfl (tyX5_ok 6 (by decide)) rfl rfl rfl hdg kk
theorem xcg0_arrives (C : XC D T RX0 p m c cc nL s args) (I : XI D T ad A H0 M H locs) {o : Nat} (ho : isCar o) (hdg : decode cc pc = .ok (.getfield 224, 3)) (kk : W p l e R s m args below meth c H locs cells slots Q (F0 m (pc + 3) ls (.int (M o 10) :: rest))) : W p l e R s m args below meth c H locs cells slots Q (F0 m pc ls (.ref (ad o) :: rest)) := x_getC C I ho 10 (by decide) q584 rfl rfl hdg kk
theorem xcp0_arrives (C : XC D T RX0 p m c cc nL s args) (I : XI D T ad A H0 M H locs) {o : Nat} (ho : isCar o) {x : Int32} (hdg : decode cc pc = .ok (.putfield 224, 3)) (kk : ∀ (M1 : Mem) (H1 : Heap) (locs1 : List Loc), M1 = mset M o 10 x → XI D T ad A H0 M1 H1 locs1 → W p l e R s m args below meth c H1 locs1 cells slots Q (F0 m (pc + 3) ls rest)) : W p l e R s m args below meth c H locs cells slots Q (F0 m pc ls (.int x :: .ref (ad o) :: rest)) := x_putC C I ho 10 (by decide) q584 rfl rfl (tyX5_ok 10 (by decide)) rfl rfl rfl hdg kk
theorem xcg0_whither (C : XC D T RX0 p m c cc nL s args) (I : XI D T ad A H0 M H locs) {o : Nat} (ho : isCar o) (hdg : decode cc pc = .ok (.getfield 234, 3)) (kk : W p l e R s m args below meth c H locs cells slots Q (F0 m (pc + 3) ls (.int (M o 9) :: rest))) : W p l e R s m args below meth c H locs cells slots Q (F0 m pc ls (.ref (ad o) :: rest)) := x_getC C I ho 9 (by decide) q582 rfl rfl hdg kk
theorem xcp0_whither (C : XC D T RX0 p m c cc nL s args) (I : XI D T ad A H0 M H locs) {o : Nat} (ho : isCar o) {x : Int32} (hdg : decode cc pc = .ok (.putfield 234, 3)) (kk : ∀ (M1 : Mem) (H1 : Heap) (locs1 : List Loc), M1 = mset M o 9 x → XI D T ad A H0 M1 H1 locs1 → W p l e R s m args below meth c H1 locs1 cells slots Q (F0 m (pc + 3) ls rest)) : W p l e R s m args below meth c H locs cells slots Q (F0 m pc ls (.int x :: .ref (ad o) :: rest)) := x_putC C I ho 9 (by decide) q582 rfl rfl (tyX5_ok 9 (by decide)) rfl rfl rfl hdg kk
theorem xcg0_place (C : XC D T RX0 p m c cc nL s args) (I : XI D T ad A H0 M H locs) {o : Nat} (ho : isCar o) (hdg : decode cc pc = .ok (.getfield 237, 3)) (kk : W p l e R s m args below meth c H locs cells slots Q (F0 m (pc + 3) ls (.int (M o 7) :: rest))) : W p l e R s m args below meth c H locs cells slots Q (F0 m pc ls (.ref (ad o) :: rest)) := x_getC C I ho 7 (by decide) q578 rfl rfl hdg kk
theorem xcp0_place (C : XC D T RX0 p m c cc nL s args) (I : XI D T ad A H0 M H locs) {o : Nat} (ho : isCar o) {x : Int32} (hdg : decode cc pc = .ok (.putfield 237, 3)) (kk : ∀ (M1 : Mem) (H1 : Heap) (locs1 : List Loc), M1 = mset M o 7 x → XI D T ad A H0 M1 H1 locs1 → W p l e R s m args below meth c H1 locs1 cells slots Q (F0 m (pc + 3) ls rest)) : W p l e R s m args below meth c H locs cells slots Q (F0 m pc ls (.int x :: .ref (ad o) :: rest)) := x_putC C I ho 7 (by decide) q578 rfl rfl (tyX5_ok 7 (by decide)) rfl rfl rfl hdg kk
theorem xcg0_left (C : XC D T RX0 p m c cc nL s args) (I : XI D T ad A H0 M H locs) {o : Nat} (ho : isCar o) (hdg : decode cc pc = .ok (.getfield 254, 3)) (kk : W p l e R s m args below meth c H locs cells slots Q (F0 m (pc + 3) ls (.int (M o 8) :: rest))) : W p l e R s m args below meth c H locs cells slots Q (F0 m pc ls (.ref (ad o) :: rest)) := x_getC C I ho 8 (by decide) q580 rfl rfl hdg kk
theorem xcp0_left (C : XC D T RX0 p m c cc nL s args) (I : XI D T ad A H0 M H locs) {o : Nat} (ho : isCar o) {x : Int32} (hdg : decode cc pc = .ok (.putfield 254, 3)) (kk : ∀ (M1 : Mem) (H1 : Heap) (locs1 : List Loc), M1 = mset M o 8 x → XI D T ad A H0 M1 H1 locs1 → W p l e R s m args below meth c H1 locs1 cells slots Q (F0 m (pc + 3) ls rest)) : W p l e R s m args below meth c H locs cells slots Q (F0 m pc ls (.int x :: .ref (ad o) :: rest)) := x_putC C I ho 8 (by decide) q580 rfl rfl (tyX5_ok 8 (by decide)) rfl rfl rfl hdg kk
theorem xcg0_ended (C : XC D T RX0 p m c cc nL s args) (I : XI D T ad A H0 M H locs) {o : Nat} (ho : isCar o) (hdg : decode cc pc = .ok (.getfield 282, 3)) (kk : W p l e R s m args below meth c H locs cells slots Q (F0 m (pc + 3) ls (.int (M o 11) :: rest))) : W p l e R s m args below meth c H locs cells slots Q (F0 m pc ls (.ref (ad o) :: rest)) := x_getC C I ho 11 (by decide) q586 rfl rfl hdg kk
theorem xcp0_ended (C : XC D T RX0 p m c cc nL s args) (I : XI D T ad A H0 M H locs) {o : Nat} (ho : isCar o) {x : Int32} (hdg : decode cc pc = .ok (.putfield 282, 3)) (kk : ∀ (M1 : Mem) (H1 : Heap) (locs1 : List Loc), M1 = mset M o 11 x → XI D T ad A H0 M1 H1 locs1 → W p l e R s m args below meth c H1 locs1 cells slots Q (F0 m (pc + 3) ls rest)) : W p l e R s m args below meth c H locs cells slots Q (F0 m pc ls (.int x :: .ref (ad o) :: rest)) := x_putC C I ho 11 (by decide) q586 rfl rfl (tyX5_ok 11 (by decide)) rfl rfl rfl hdg kk
theorem xcg5_is (C : XC D T RX5 p m c cc nL s args) (I : XI D T ad A H0 M H locs) {o : Nat} (ho : isCar o) (hdg : decode cc pc = .ok (.getfield 9, 3)) (kk : W p l e R s m args below meth c H locs cells slots Q (F0 m (pc + 3) ls (.int (M o 6) :: rest))) : W p l e R s m args below meth c H locs cells slots Q (F0 m pc ls (.ref (ad o) :: rest)) := x_getC C I ho 6 (by decide) q575 rfl rfl hdg kk
theorem xcp5_is (C : XC D T RX5 p m c cc nL s args) (I : XI D T ad A H0 M H locs) {o : Nat} (ho : isCar o) {x : Int32} (hdg : decode cc pc = .ok (.putfield 9, 3)) (kk : ∀ (M1 : Mem) (H1 : Heap) (locs1 : List Loc), M1 = mset M o 6 x → XI D T ad A H0 M1 H1 locs1 → W p l e R s m args below meth c H1 locs1 cells slots Q (F0 m (pc + 3) ls rest)) : W p l e R s m args below meth c H locs cells slots Q (F0 m pc ls (.int x :: .ref (ad o) :: rest)) := x_putC C I ho 6 (by decide) q575 rfl rfl (tyX5_ok 6 (by decide)) rfl rfl rfl hdg kk
theorem xcg5_place (C : XC D T RX5 p m c cc nL s args) (I : XI D T ad A H0 M H locs) {o : Nat} (ho : isCar o) (hdg : decode cc pc = .ok (.getfield 15, 3)) (kk : W p l e R s m args below meth c H locs cells slots Q (F0 m (pc + 3) ls (.int (M o 7) :: rest))) : W p l e R s m args below meth c H locs cells slots Q (F0 m pc ls (.ref (ad o) :: rest)) := x_getC C I ho 7 (by decide) q577 rfl rfl hdg kk
theorem xcp5_place (C : XC D T RX5 p m c cc nL s args) (I : XI D T ad A H0 M H locs) {o : Nat} (ho : isCar o) {x : Int32} (hdg : decode cc pc = .ok (.putfield 15, 3)) (kk : ∀ (M1 : Mem) (H1 : Heap) (locs1 : List Loc), M1 = mset M o 7 x → XI D T ad A H0 M1 H1 locs1 → W p l e R s m args below meth c H1 locs1 cells slots Q (F0 m (pc + 3) ls rest)) : W p l e R s m args below meth c H locs cells slots Q (F0 m pc ls (.int x :: .ref (ad o) :: rest)) := x_putC C I ho 7 (by decide) q577 rfl rfl (tyX5_ok 7 (by decide)) rfl rfl rfl hdg kk
theorem xcg5_strength (C : XC D T RX5 p m c cc nL s args) (I : XI D T ad A H0 M H locs) {o : Nat} (ho : isCar o) (hdg : decode cc pc = .ok (.getfield 18, 3)) (kk : W p l e R s m args below meth c H locs cells slots Q (F0 m (pc + 3) ls (.int (M o 3) :: rest))) : W p l e R s m args below meth c H locs cells slots Q (F0 m pc ls (.ref (ad o) :: rest)) := x_getC C I ho 3 (by decide) q569 rfl rfl hdg kk
theorem xcp5_strength (C : XC D T RX5 p m c cc nL s args) (I : XI D T ad A H0 M H locs) {o : Nat} (ho : isCar o) {x : Int32} (hdg : decode cc pc = .ok (.putfield 18, 3)) (kk : ∀ (M1 : Mem) (H1 : Heap) (locs1 : List Loc), M1 = mset M o 3 x → XI D T ad A H0 M1 H1 locs1 → W p l e R s m args below meth c H1 locs1 cells slots Q (F0 m (pc + 3) ls rest)) : W p l e R s m args below meth c H locs cells slots Q (F0 m pc ls (.int x :: .ref (ad o) :: rest)) := x_putC C I ho 3 (by decide) q569 rfl rfl (tyX5_ok 3 (by decide)) rfl rfl rfl hdg kk
theorem xcg5_left (C : XC D T RX5 p m c cc nL s args) (I : XI D T ad A H0 M H locs) {o : Nat} (ho : isCar o) (hdg : decode cc pc = .ok (.getfield 21, 3)) (kk : W p l e R s m args below meth c H locs cells slots Q (F0 m (pc + 3) ls (.int (M o 8) :: rest))) : W p l e R s m args below meth c H locs cells slots Q (F0 m pc ls (.ref (ad o) :: rest)) := x_getC C I ho 8 (by decide) q579 rfl rfl hdg kk
theorem xcp5_left (C : XC D T RX5 p m c cc nL s args) (I : XI D T ad A H0 M H locs) {o : Nat} (ho : isCar o) {x : Int32} (hdg : decode cc pc = .ok (.putfield 21, 3)) (kk : ∀ (M1 : Mem) (H1 : Heap) (locs1 : List Loc), M1 = mset M o 8 x → XI D T ad A H0 M1 H1 locs1 → W p l e R s m args below meth c H1 locs1 cells slots Q (F0 m (pc + 3) ls rest)) : W p l e R s m args below meth c H locs cells slots Q (F0 m pc ls (.int x :: .ref (ad o) :: rest)) := x_putC C I ho 8 (by decide) q579 rfl rfl (tyX5_ok 8 (by decide)) rfl rfl rfl hdg kk
theorem xcg5_from (C : XC D T RX5 p m c cc nL s args) (I : XI D T ad A H0 M H locs) {o : Nat} (ho : isCar o) (hdg : decode cc pc = .ok (.getfield 24, 3)) (kk : W p l e R s m args below meth c H locs cells slots Q (F0 m (pc + 3) ls (.int (M o 0) :: rest))) : W p l e R s m args below meth c H locs cells slots Q (F0 m pc ls (.ref (ad o) :: rest)) := x_getC C I ho 0 (by decide) q565 rfl rfl hdg kk
theorem xcp5_from (C : XC D T RX5 p m c cc nL s args) (I : XI D T ad A H0 M H locs) {o : Nat} (ho : isCar o) {x : Int32} (hdg : decode cc pc = .ok (.putfield 24, 3)) (kk : ∀ (M1 : Mem) (H1 : Heap) (locs1 : List Loc), M1 = mset M o 0 x → XI D T ad A H0 M1 H1 locs1 → W p l e R s m args below meth c H1 locs1 cells slots Q (F0 m (pc + 3) ls rest)) : W p l e R s m args below meth c H locs cells slots Q (F0 m pc ls (.int x :: .ref (ad o) :: rest)) := x_putC C I ho 0 (by decide) q565 rfl rfl (tyX5_ok 0 (by decide)) rfl rfl rfl hdg kk
theorem xcg5_whither (C : XC D T RX5 p m c cc nL s args) (I : XI D T ad A H0 M H locs) {o : Nat} (ho : isCar o) (hdg : decode cc pc = .ok (.getfield 27, 3)) (kk : W p l e R s m args below meth c H locs cells slots Q (F0 m (pc + 3) ls (.int (M o 9) :: rest))) : W p l e R s m args below meth c H locs cells slots Q (F0 m pc ls (.ref (ad o) :: rest)) := x_getC C I ho 9 (by decide) q581 rfl rfl hdg kk
theorem xcp5_whither (C : XC D T RX5 p m c cc nL s args) (I : XI D T ad A H0 M H locs) {o : Nat} (ho : isCar o) {x : Int32} (hdg : decode cc pc = .ok (.putfield 27, 3)) (kk : ∀ (M1 : Mem) (H1 : Heap) (locs1 : List Loc), M1 = mset M o 9 x → XI D T ad A H0 M1 H1 locs1 → W p l e R s m args below meth c H1 locs1 cells slots Q (F0 m (pc + 3) ls rest)) : W p l e R s m args below meth c H locs cells slots Q (F0 m pc ls (.int x :: .ref (ad o) :: rest)) := x_putC C I ho 9 (by decide) q581 rfl rfl (tyX5_ok 9 (by decide)) rfl rfl rfl hdg kk
theorem xcg5_late (C : XC D T RX5 p m c cc nL s args) (I : XI D T ad A H0 M H locs) {o : Nat} (ho : isCar o) (hdg : decode cc pc = .ok (.getfield 30, 3)) (kk : W p l e R s m args below meth c H locs cells slots Q (F0 m (pc + 3) ls (.int (M o 5) :: rest))) : W p l e R s m args below meth c H locs cells slots Q (F0 m pc ls (.ref (ad o) :: rest)) := x_getC C I ho 5 (by decide) q573 rfl rfl hdg kk
theorem xcp5_late (C : XC D T RX5 p m c cc nL s args) (I : XI D T ad A H0 M H locs) {o : Nat} (ho : isCar o) {x : Int32} (hdg : decode cc pc = .ok (.putfield 30, 3)) (kk : ∀ (M1 : Mem) (H1 : Heap) (locs1 : List Loc), M1 = mset M o 5 x → XI D T ad A H0 M1 H1 locs1 → W p l e R s m args below meth c H1 locs1 cells slots Q (F0 m (pc + 3) ls rest)) : W p l e R s m args below meth c H locs cells slots Q (F0 m pc ls (.int x :: .ref (ad o) :: rest)) := x_putC C I ho 5 (by decide) q573 rfl rfl (tyX5_ok 5 (by decide)) rfl rfl rfl hdg kk
theorem xcg5_arrives (C : XC D T RX5 p m c cc nL s args) (I : XI D T ad A H0 M H locs) {o : Nat} (ho : isCar o) (hdg : decode cc pc = .ok (.getfield 33, 3)) (kk : W p l e R s m args below meth c H locs cells slots Q (F0 m (pc + 3) ls (.int (M o 10) :: rest))) : W p l e R s m args below meth c H locs cells slots Q (F0 m pc ls (.ref (ad o) :: rest)) := x_getC C I ho 10 (by decide) q583 rfl rfl hdg kk
theorem xcp5_arrives (C : XC D T RX5 p m c cc nL s args) (I : XI D T ad A H0 M H locs) {o : Nat} (ho : isCar o) {x : Int32} (hdg : decode cc pc = .ok (.putfield 33, 3)) (kk : ∀ (M1 : Mem) (H1 : Heap) (locs1 : List Loc), M1 = mset M o 10 x → XI D T ad A H0 M1 H1 locs1 → W p l e R s m args below meth c H1 locs1 cells slots Q (F0 m (pc + 3) ls rest)) : W p l e R s m args below meth c H locs cells slots Q (F0 m pc ls (.int x :: .ref (ad o) :: rest)) := x_putC C I ho 10 (by decide) q583 rfl rfl (tyX5_ok 10 (by decide)) rfl rfl rfl hdg kk
theorem xcg5_ended (C : XC D T RX5 p m c cc nL s args) (I : XI D T ad A H0 M H locs) {o : Nat} (ho : isCar o) (hdg : decode cc pc = .ok (.getfield 36, 3)) (kk : W p l e R s m args below meth c H locs cells slots Q (F0 m (pc + 3) ls (.int (M o 11) :: rest))) : W p l e R s m args below meth c H locs cells slots Q (F0 m pc ls (.ref (ad o) :: rest)) := x_getC C I ho 11 (by decide) q585 rfl rfl hdg kk
theorem xcp5_ended (C : XC D T RX5 p m c cc nL s args) (I : XI D T ad A H0 M H locs) {o : Nat} (ho : isCar o) {x : Int32} (hdg : decode cc pc = .ok (.putfield 36, 3)) (kk : ∀ (M1 : Mem) (H1 : Heap) (locs1 : List Loc), M1 = mset M o 11 x → XI D T ad A H0 M1 H1 locs1 → W p l e R s m args below meth c H1 locs1 cells slots Q (F0 m (pc + 3) ls rest)) : W p l e R s m args below meth c H locs cells slots Q (F0 m pc ls (.int x :: .ref (ad o) :: rest)) := x_putC C I ho 11 (by decide) q585 rfl rfl (tyX5_ok 11 (by decide)) rfl rfl rfl hdg kk
theorem xcg5_load (C : XC D T RX5 p m c cc nL s args) (I : XI D T ad A H0 M H locs) {o : Nat} (ho : isCar o) (hdg : decode cc pc = .ok (.getfield 39, 3)) (kk : W p l e R s m args below meth c H locs cells slots Q (F0 m (pc + 3) ls (.int (M o 4) :: rest))) : W p l e R s m args below meth c H locs cells slots Q (F0 m pc ls (.ref (ad o) :: rest)) := x_getC C I ho 4 (by decide) q571 rfl rfl hdg kk
theorem xcp5_load (C : XC D T RX5 p m c cc nL s args) (I : XI D T ad A H0 M H locs) {o : Nat} (ho : isCar o) {x : Int32} (hdg : decode cc pc = .ok (.putfield 39, 3)) (kk : ∀ (M1 : Mem) (H1 : Heap) (locs1 : List Loc), M1 = mset M o 4 x → XI D T ad A H0 M1 H1 locs1 → W p l e R s m args below meth c H1 locs1 cells slots Q (F0 m (pc + 3) ls rest)) : W p l e R s m args below meth c H locs cells slots Q (F0 m pc ls (.int x :: .ref (ad o) :: rest)) := x_putC C I ho 4 (by decide) q571 rfl rfl (tyX5_ok 4 (by decide)) rfl rfl rfl hdg kk
theorem xa_texts (C : XC D T RX0 p m c cc nL s args) (I : XI D T ad A H0 M H locs) {i : Int32} (hin : vp_in i 2) (hdg : decode cc pc = .ok (.aaload, 1)) (kk : W p l e R s m args below meth c H locs cells slots Q (F0 m (pc + 1) ls (.ref (ad (2 + ci i)) :: rest))) : W p l e R s m args below meth c H locs cells slots Q (F0 m pc ls (.int i :: .ref (ad 1) :: rest)) := by
  obtain ⟨ra, I⟩ := I
  exact f_aald C.1.1 C.1.2.1 C.2.1 I.1 1 rfl (cX_1 T ad ra M) rfl hin hdg kk
theorem xa_all (C : XC D T RX0 p m c cc nL s args) (I : XI D T ad A H0 M H locs) {i : Int32} (hin : vp_in i 8) (hdg : decode cc pc = .ok (.aaload, 1)) (kk : W p l e R s m args below meth c H locs cells slots Q (F0 m (pc + 1) ls (.ref (ad (30 + ci i)) :: rest))) : W p l e R s m args below meth c H locs cells slots Q (F0 m pc ls (.int i :: .ref (ad 10) :: rest)) := by
  obtain ⟨ra, I⟩ := I
  exact f_aald C.1.1 C.1.2.1 C.2.1 I.1 2 rfl (cX_10 T ad ra M) rfl hin hdg kk
theorem xa_kinds (C : XC D T RX0 p m c cc nL s args) (I : XI D T ad A H0 M H locs) {i : Int32} (hin : vp_in i 3) (hdg : decode cc pc = .ok (.aaload, 1)) (kk : W p l e R s m args below meth c H locs cells slots Q (F0 m (pc + 1) ls (.ref (ad (25 + ci i)) :: rest))) : W p l e R s m args below meth c H locs cells slots Q (F0 m pc ls (.int i :: .ref (ad 11) :: rest)) := by
  obtain ⟨ra, I⟩ := I
  exact f_aald C.1.1 C.1.2.1 C.2.1 I.1 3 rfl (cX_11 T ad ra M) rfl hin hdg kk
theorem xa_beside (C : XC D T RX0 p m c cc nL s args) (I : XI D T ad A H0 M H locs) {i : Int32} (hin : vp_in i 8) (hdg : decode cc pc = .ok (.aaload, 1)) (kk : W p l e R s m args below meth c H locs cells slots Q (F0 m (pc + 1) ls (.ref (ad (40 + ci i)) :: rest))) : W p l e R s m args below meth c H locs cells slots Q (F0 m pc ls (.int i :: .ref (ad 14) :: rest)) := by
  obtain ⟨ra, I⟩ := I
  exact f_aald C.1.1 C.1.2.1 C.2.1 I.1 1 rfl (cX_14 T ad ra M) rfl hin hdg kk
theorem xa_farNow (C : XC D T RX0 p m c cc nL s args) (I : XI D T ad A H0 M H locs) {i : Int32} (hin : vp_in i 8) (hdg : decode cc pc = .ok (.aaload, 1)) (kk : W p l e R s m args below meth c H locs cells slots Q (F0 m (pc + 1) ls (.ref (ad (50 + ci i)) :: rest))) : W p l e R s m args below meth c H locs cells slots Q (F0 m pc ls (.int i :: .ref (ad 15) :: rest)) := by
  obtain ⟨ra, I⟩ := I
  exact f_aald C.1.1 C.1.2.1 C.2.1 I.1 1 rfl (cX_15 T ad ra M) rfl hin hdg kk
theorem xa_placeAt (C : XC D T RX0 p m c cc nL s args) (I : XI D T ad A H0 M H locs) {i : Int32} (hin : vp_in i 40) (hdg : decode cc pc = .ok (.aaload, 1)) (kk : W p l e R s m args below meth c H locs cells slots Q (F0 m (pc + 1) ls (.ref (ad (60 + ci i)) :: rest))) : W p l e R s m args below meth c H locs cells slots Q (F0 m pc ls (.int i :: .ref (ad 18) :: rest)) := by
  obtain ⟨ra, I⟩ := I
  exact f_aald C.1.1 C.1.2.1 C.2.1 I.1 1 rfl (cX_18 T ad ra M) rfl hin hdg kk
theorem xa_placeBy (C : XC D T RX0 p m c cc nL s args) (I : XI D T ad A H0 M H locs) {i : Int32} (hin : vp_in i 3) (hdg : decode cc pc = .ok (.aaload, 1)) (kk : W p l e R s m args below meth c H locs cells slots Q (F0 m (pc + 1) ls (.ref (ad (100 + ci i)) :: rest))) : W p l e R s m args below meth c H locs cells slots Q (F0 m pc ls (.int i :: .ref (ad 22) :: rest)) := by
  obtain ⟨ra, I⟩ := I
  exact f_aald C.1.1 C.1.2.1 C.2.1 I.1 1 rfl (cX_22 T ad ra M) rfl hin hdg kk
theorem xa_sheets (C : XC D T RX0 p m c cc nL s args) (I : XI D T ad A H0 M H locs) {i : Int32} (hin : vp_in i 4) (hdg : decode cc pc = .ok (.aaload, 1)) (kk : W p l e R s m args below meth c H locs cells slots Q (F0 m (pc + 1) ls (.ref (ad (110 + ci i)) :: rest))) : W p l e R s m args below meth c H locs cells slots Q (F0 m pc ls (.int i :: .ref (ad 24) :: rest)) := by
  obtain ⟨ra, I⟩ := I
  exact f_aald C.1.1 C.1.2.1 C.2.1 I.1 4 rfl (cX_24 T ad ra M) rfl hin hdg kk
theorem x_calli {Qp : Int32 → Mem → Prop} (C : XC D T own p m c cc nL s args) (I : XI D T ad A H0 M H locs) (hM : ∀ ra sz, Met l y (ws_ y bytes maxL rt) rm (xPc D T ad ra 0 As M sz) (xQi D T ad ra M Qp sz) 0 0 (fA (cX T ad ra M) sz)) (cw : CallW R s args own RX0 idx y bytes maxL rt (ws_ y bytes maxL rt) rm 0 0 n) (hn : As.length = n) (hls : ls.size = nL) (hst : st0 = As.reverse ++ .ref (ad 0) :: rest) (hr : (rest.map fun v => v.category).sum ≤ 8) (hcs : cells ≤ R.cells ∧ slots ≤ R.slots) (hdg : decode cc pc = .ok (.invokevirtual idx, 3))
    (kk : ∀ (r : Int32) (M1 : Mem) (H1 : Heap) (locs1 : List Loc), Qp r M1 → XI D T ad A H0 M1 H1 locs1 → W p l e R s m args below meth c H1 locs1 cells slots Q (F0 m (pc + 3) ls (.int r :: rest))) : W p l e R s m args below meth c H locs cells slots Q (F0 m pc ls st0) := by
  subst hst
  obtain ⟨ra, I⟩ := I
  have hF := fA.in I.2.1 I.2.2.1 I.2.2.2
  have hrec : ∃ cell : Cell, H[ad 0]? = some cell ∧ cell.vm.isStatics = false ∧ s.vm.findClass RX0 = some cell.cls := va_recv C.2.1 (I.1.one (cX_0 T ad ra M)) (ci := 0) (q0 := 0) rfl rfl
  exact va_calli (A0 := A) (A1 := fA (cX T ad ra M) H.size) (va_runV (rest := rest) C.1 (hM ra H.size) cw ⟨xPc_blind D T ad ra 0 As M H.size, hrec, fun U hU hW => ⟨rfl, congrArg Array.size hU, by rw [hU]; exact I.1, va_K.moved hW.alike C.2.1, I.2.1.weaken (fun _ _ _ _ => trivial), NW.warm hW C.2.2⟩⟩ rfl hn hls rfl (lv_room hr) hdg hcs) I.2.2.1 (fun q _ h => hF q h) hF (fun r u t H1 locs1 ht hvm hw hB hz hk hS1 => by
    obtain ⟨ra1, hB1, hB2⟩ := hB
    exact kk r u H1 locs1 hw ⟨ra1, by rw [← ht]; exact hB1, hB2.weaken (fun _ _ _ h => hF _ h), hS1, I.2.2.2⟩)
theorem x_callCi {Qp : Int32 → Mem → Prop} (C : XC D T own p m c cc nL s args) (I : XI D T ad A H0 M H locs) {o : Nat} (ho : isCar o) (hM : ∀ ra sz, Met l y (ws_ y bytes maxL rt) rm (xPc D T ad ra o As M sz) (xQi D T ad ra M Qp sz) 0 0 (fA (cX T ad ra M) sz)) (cw : CallW R s args own RX5 idx y bytes maxL rt (ws_ y bytes maxL rt) rm 0 0 n) (hn : As.length = n) (hls : ls.size = nL) (hst : st0 = As.reverse ++ .ref (ad o) :: rest) (hr : (rest.map fun v => v.category).sum ≤ 8) (hcs : cells ≤ R.cells ∧ slots ≤ R.slots) (hdg : decode cc pc = .ok (.invokevirtual idx, 3))
    (kk : ∀ (r : Int32) (M1 : Mem) (H1 : Heap) (locs1 : List Loc), Qp r M1 → XI D T ad A H0 M1 H1 locs1 → W p l e R s m args below meth c H1 locs1 cells slots Q (F0 m (pc + 3) ls (.int r :: rest))) : W p l e R s m args below meth c H locs cells slots Q (F0 m pc ls st0) := by
  subst hst
  obtain ⟨ra, I⟩ := I
  have hF := fA.in I.2.1 I.2.2.1 I.2.2.2
  have hrec : ∃ cell : Cell, H[ad o]? = some cell ∧ cell.vm.isStatics = false ∧ s.vm.findClass RX5 = some cell.cls := va_recv C.2.1 (I.1.one (cX_car ho)) (ci := 5) (q0 := 0) rfl rfl
  exact va_calli (A0 := A) (A1 := fA (cX T ad ra M) H.size) (va_runV (rest := rest) C.1 (hM ra H.size) cw ⟨xPc_blind D T ad ra o As M H.size, hrec, fun U hU hW => ⟨rfl, congrArg Array.size hU, by rw [hU]; exact I.1, va_K.moved hW.alike C.2.1, I.2.1.weaken (fun _ _ _ _ => trivial), NW.warm hW C.2.2⟩⟩ rfl hn hls rfl (lv_room hr) hdg hcs) I.2.2.1 (fun q _ h => hF q h) hF (fun r u t H1 locs1 ht hvm hw hB hz hk hS1 => by
    obtain ⟨ra1, hB1, hB2⟩ := hB
    exact kk r u H1 locs1 hw ⟨ra1, by rw [← ht]; exact hB1, hB2.weaken (fun _ _ _ h => hF _ h), hS1, I.2.2.2⟩)
theorem x_calll {Qp : Int64 → Mem → Prop} (C : XC D T own p m c cc nL s args) (I : XI D T ad A H0 M H locs) (hM : ∀ ra sz, Met l y (ws_ y bytes maxL rt) rm (xPc D T ad ra 0 As M sz) (xQl D T ad ra M Qp sz) 0 0 (fA (cX T ad ra M) sz)) (cw : CallW R s args own RX0 idx y bytes maxL rt (ws_ y bytes maxL rt) rm 0 0 n) (hn : As.length = n) (hls : ls.size = nL) (hst : st0 = As.reverse ++ .ref (ad 0) :: rest) (hr : (rest.map fun v => v.category).sum ≤ 8) (hcs : cells ≤ R.cells ∧ slots ≤ R.slots) (hdg : decode cc pc = .ok (.invokevirtual idx, 3))
    (kk : ∀ (r : Int64) (M1 : Mem) (H1 : Heap) (locs1 : List Loc), Qp r M1 → XI D T ad A H0 M1 H1 locs1 → W p l e R s m args below meth c H1 locs1 cells slots Q (F0 m (pc + 3) ls (.long r :: rest))) : W p l e R s m args below meth c H locs cells slots Q (F0 m pc ls st0) := by
  subst hst
  obtain ⟨ra, I⟩ := I
  have hF := fA.in I.2.1 I.2.2.1 I.2.2.2
  have hrec : ∃ cell : Cell, H[ad 0]? = some cell ∧ cell.vm.isStatics = false ∧ s.vm.findClass RX0 = some cell.cls := va_recv C.2.1 (I.1.one (cX_0 T ad ra M)) (ci := 0) (q0 := 0) rfl rfl
  exact va_calll (A0 := A) (A1 := fA (cX T ad ra M) H.size) (va_runV (rest := rest) C.1 (hM ra H.size) cw ⟨xPc_blind D T ad ra 0 As M H.size, hrec, fun U hU hW => ⟨rfl, congrArg Array.size hU, by rw [hU]; exact I.1, va_K.moved hW.alike C.2.1, I.2.1.weaken (fun _ _ _ _ => trivial), NW.warm hW C.2.2⟩⟩ rfl hn hls rfl (lv_room hr) hdg hcs) I.2.2.1 (fun q _ h => hF q h) hF (fun r u t H1 locs1 ht hvm hw hB hz hk hS1 => by
    obtain ⟨ra1, hB1, hB2⟩ := hB
    exact kk r u H1 locs1 hw ⟨ra1, by rw [← ht]; exact hB1, hB2.weaken (fun _ _ _ h => hF _ h), hS1, I.2.2.2⟩)
theorem x_callCl {Qp : Int64 → Mem → Prop} (C : XC D T own p m c cc nL s args) (I : XI D T ad A H0 M H locs) {o : Nat} (ho : isCar o) (hM : ∀ ra sz, Met l y (ws_ y bytes maxL rt) rm (xPc D T ad ra o As M sz) (xQl D T ad ra M Qp sz) 0 0 (fA (cX T ad ra M) sz)) (cw : CallW R s args own RX5 idx y bytes maxL rt (ws_ y bytes maxL rt) rm 0 0 n) (hn : As.length = n) (hls : ls.size = nL) (hst : st0 = As.reverse ++ .ref (ad o) :: rest) (hr : (rest.map fun v => v.category).sum ≤ 8) (hcs : cells ≤ R.cells ∧ slots ≤ R.slots) (hdg : decode cc pc = .ok (.invokevirtual idx, 3))
    (kk : ∀ (r : Int64) (M1 : Mem) (H1 : Heap) (locs1 : List Loc), Qp r M1 → XI D T ad A H0 M1 H1 locs1 → W p l e R s m args below meth c H1 locs1 cells slots Q (F0 m (pc + 3) ls (.long r :: rest))) : W p l e R s m args below meth c H locs cells slots Q (F0 m pc ls st0) := by
  subst hst
  obtain ⟨ra, I⟩ := I
  have hF := fA.in I.2.1 I.2.2.1 I.2.2.2
  have hrec : ∃ cell : Cell, H[ad o]? = some cell ∧ cell.vm.isStatics = false ∧ s.vm.findClass RX5 = some cell.cls := va_recv C.2.1 (I.1.one (cX_car ho)) (ci := 5) (q0 := 0) rfl rfl
  exact va_calll (A0 := A) (A1 := fA (cX T ad ra M) H.size) (va_runV (rest := rest) C.1 (hM ra H.size) cw ⟨xPc_blind D T ad ra o As M H.size, hrec, fun U hU hW => ⟨rfl, congrArg Array.size hU, by rw [hU]; exact I.1, va_K.moved hW.alike C.2.1, I.2.1.weaken (fun _ _ _ _ => trivial), NW.warm hW C.2.2⟩⟩ rfl hn hls rfl (lv_room hr) hdg hcs) I.2.2.1 (fun q _ h => hF q h) hF (fun r u t H1 locs1 ht hvm hw hB hz hk hS1 => by
    obtain ⟨ra1, hB1, hB2⟩ := hB
    exact kk r u H1 locs1 hw ⟨ra1, by rw [← ht]; exact hB1, hB2.weaken (fun _ _ _ h => hF _ h), hS1, I.2.2.2⟩)
theorem x_callv {Qp : Mem → Prop} (C : XC D T own p m c cc nL s args) (I : XI D T ad A H0 M H locs) (hM : ∀ ra sz, Met l y (ws_ y bytes maxL rt) rm (xPc D T ad ra 0 As M sz) (xQv D T ad ra M Qp sz) 0 0 (fA (cX T ad ra M) sz)) (cw : CallW R s args own RX0 idx y bytes maxL rt (ws_ y bytes maxL rt) rm 0 0 n) (hn : As.length = n) (hls : ls.size = nL) (hst : st0 = As.reverse ++ .ref (ad 0) :: rest) (hr : (rest.map fun v => v.category).sum ≤ 8) (hcs : cells ≤ R.cells ∧ slots ≤ R.slots) (hdg : decode cc pc = .ok (.invokevirtual idx, 3))
    (kk : ∀ (M1 : Mem) (H1 : Heap) (locs1 : List Loc), Qp M1 → XI D T ad A H0 M1 H1 locs1 → W p l e R s m args below meth c H1 locs1 cells slots Q (F0 m (pc + 3) ls rest)) : W p l e R s m args below meth c H locs cells slots Q (F0 m pc ls st0) := by
  subst hst
  obtain ⟨ra, I⟩ := I
  have hF := fA.in I.2.1 I.2.2.1 I.2.2.2
  have hrec : ∃ cell : Cell, H[ad 0]? = some cell ∧ cell.vm.isStatics = false ∧ s.vm.findClass RX0 = some cell.cls := va_recv C.2.1 (I.1.one (cX_0 T ad ra M)) (ci := 0) (q0 := 0) rfl rfl
  exact va_callv (A0 := A) (A1 := fA (cX T ad ra M) H.size) (va_runV (rest := rest) C.1 (hM ra H.size) cw ⟨xPc_blind D T ad ra 0 As M H.size, hrec, fun U hU hW => ⟨rfl, congrArg Array.size hU, by rw [hU]; exact I.1, va_K.moved hW.alike C.2.1, I.2.1.weaken (fun _ _ _ _ => trivial), NW.warm hW C.2.2⟩⟩ rfl hn hls rfl (lv_room hr) hdg hcs) I.2.2.1 (fun q _ h => hF q h) hF (fun u t H1 locs1 ht hvm hw hB hz hk hS1 => by
    obtain ⟨ra1, hB1, hB2⟩ := hB
    exact kk u H1 locs1 hw ⟨ra1, by rw [← ht]; exact hB1, hB2.weaken (fun _ _ _ h => hF _ h), hS1, I.2.2.2⟩)
theorem x_callCv {Qp : Mem → Prop} (C : XC D T own p m c cc nL s args) (I : XI D T ad A H0 M H locs) {o : Nat} (ho : isCar o) (hM : ∀ ra sz, Met l y (ws_ y bytes maxL rt) rm (xPc D T ad ra o As M sz) (xQv D T ad ra M Qp sz) 0 0 (fA (cX T ad ra M) sz)) (cw : CallW R s args own RX5 idx y bytes maxL rt (ws_ y bytes maxL rt) rm 0 0 n) (hn : As.length = n) (hls : ls.size = nL) (hst : st0 = As.reverse ++ .ref (ad o) :: rest) (hr : (rest.map fun v => v.category).sum ≤ 8) (hcs : cells ≤ R.cells ∧ slots ≤ R.slots) (hdg : decode cc pc = .ok (.invokevirtual idx, 3))
    (kk : ∀ (M1 : Mem) (H1 : Heap) (locs1 : List Loc), Qp M1 → XI D T ad A H0 M1 H1 locs1 → W p l e R s m args below meth c H1 locs1 cells slots Q (F0 m (pc + 3) ls rest)) : W p l e R s m args below meth c H locs cells slots Q (F0 m pc ls st0) := by
  subst hst
  obtain ⟨ra, I⟩ := I
  have hF := fA.in I.2.1 I.2.2.1 I.2.2.2
  have hrec : ∃ cell : Cell, H[ad o]? = some cell ∧ cell.vm.isStatics = false ∧ s.vm.findClass RX5 = some cell.cls := va_recv C.2.1 (I.1.one (cX_car ho)) (ci := 5) (q0 := 0) rfl rfl
  exact va_callv (A0 := A) (A1 := fA (cX T ad ra M) H.size) (va_runV (rest := rest) C.1 (hM ra H.size) cw ⟨xPc_blind D T ad ra o As M H.size, hrec, fun U hU hW => ⟨rfl, congrArg Array.size hU, by rw [hU]; exact I.1, va_K.moved hW.alike C.2.1, I.2.1.weaken (fun _ _ _ _ => trivial), NW.warm hW C.2.2⟩⟩ rfl hn hls rfl (lv_room hr) hdg hcs) I.2.2.1 (fun q _ h => hF q h) hF (fun u t H1 locs1 ht hvm hw hB hz hk hS1 => by
    obtain ⟨ra1, hB1, hB2⟩ := hB
    exact kk u H1 locs1 hw ⟨ra1, by rw [← ht]; exact hB1, hB2.weaken (fun _ _ _ h => hF _ h), hS1, I.2.2.2⟩)
theorem x_purei {Qp : Int32 → Prop} (C : XC D T own p m c cc nL s args) (I : XI D T ad A H0 M H locs) (hM : ∀ sz, Met l y (ws_ y bytes maxL rt) rm (pPc As sz) (pQi Qp sz) 0 0 (pA sz)) (cw : CallB R s args own idx y bytes maxL rt (ws_ y bytes maxL rt) rm 0 0 n ∧ (Cond.static y).before args s = true) (hn : As.length = n) (hls : ls.size = nL) (hst : st0 = As.reverse ++ rest) (hr : (rest.map fun v => v.category).sum ≤ 8) (hcs : cells ≤ R.cells ∧ slots ≤ R.slots) (hdg : decode cc pc = .ok (.invokestatic idx, 3))
    (kk : ∀ (r : Int32) (H1 : Heap) (locs1 : List Loc), Qp r → XI D T ad A H0 M H1 locs1 → W p l e R s m args below meth c H1 locs1 cells slots Q (F0 m (pc + 3) ls (.int r :: rest))) : W p l e R s m args below meth c H locs cells slots Q (F0 m pc ls st0) :=
  p_calli C.1 I.S I.A hM cw hn hls hst hr hcs hdg (fun r H1 locs1 hq hk hS => kk r H1 locs1 hq (I.pure hk hS))
theorem x_purel {Qp : Int64 → Prop} (C : XC D T own p m c cc nL s args) (I : XI D T ad A H0 M H locs) (hM : ∀ sz, Met l y (ws_ y bytes maxL rt) rm (pPc As sz) (pQl Qp sz) 0 0 (pA sz)) (cw : CallB R s args own idx y bytes maxL rt (ws_ y bytes maxL rt) rm 0 0 n ∧ (Cond.static y).before args s = true) (hn : As.length = n) (hls : ls.size = nL) (hst : st0 = As.reverse ++ rest) (hr : (rest.map fun v => v.category).sum ≤ 8) (hcs : cells ≤ R.cells ∧ slots ≤ R.slots) (hdg : decode cc pc = .ok (.invokestatic idx, 3))
    (kk : ∀ (r : Int64) (H1 : Heap) (locs1 : List Loc), Qp r → XI D T ad A H0 M H1 locs1 → W p l e R s m args below meth c H1 locs1 cells slots Q (F0 m (pc + 3) ls (.long r :: rest))) : W p l e R s m args below meth c H locs cells slots Q (F0 m pc ls st0) :=
  p_calll C.1 I.S I.A hM cw hn hls hst hr hcs hdg (fun r H1 locs1 hq hk hS => kk r H1 locs1 hq (I.pure hk hS))
theorem x_callSv {Qp : Mem → Prop} {o : Nat} (C : XC D T own p m c cc nL s args) (I : XI D T ad A H0 M H locs) (hM : ∀ ra sz, Met l y (ws_ y bytes maxL rt) rm (xPc D T ad ra o As M sz) (xQv D T ad ra M Qp sz) 0 0 (fA (cX T ad ra M) sz)) (cw : CallB R s args own idx y bytes maxL rt (ws_ y bytes maxL rt) rm 0 0 n ∧ (Cond.static y).before args s = true) (hn : (Value.ref (ad o) :: As).length = n) (hls : ls.size = nL) (hst : st0 = (Value.ref (ad o) :: As).reverse ++ rest) (hr : (rest.map fun v => v.category).sum ≤ 8) (hcs : cells ≤ R.cells ∧ slots ≤ R.slots) (hdg : decode cc pc = .ok (.invokestatic idx, 3))
    (kk : ∀ (M1 : Mem) (H1 : Heap) (locs1 : List Loc), Qp M1 → XI D T ad A H0 M1 H1 locs1 → W p l e R s m args below meth c H1 locs1 cells slots Q (F0 m (pc + 3) ls rest)) : W p l e R s m args below meth c H locs cells slots Q (F0 m pc ls st0) := by
  subst hst
  obtain ⟨ra, I⟩ := I
  have hF := fA.in I.2.1 I.2.2.1 I.2.2.2
  exact va_callv (A0 := A) (A1 := fA (cX T ad ra M) H.size) (va_runS (rest := rest) C.1 (hM ra H.size) cw ⟨xPc_blind D T ad ra o As M H.size, fun U hU hW => ⟨rfl, congrArg Array.size hU, by rw [hU]; exact I.1, va_K.moved hW.alike C.2.1, I.2.1.weaken (fun _ _ _ _ => trivial), NW.warm hW C.2.2⟩⟩ rfl hn hls rfl (lv_room hr) hdg hcs) I.2.2.1 (fun q _ h => hF q h) hF (fun u t H1 locs1 ht hvm hw hB hz hk hS1 => by
    obtain ⟨ra1, hB1, hB2⟩ := hB
    exact kk u H1 locs1 hw ⟨ra1, by rw [← ht]; exact hB1, hB2.weaken (fun _ _ _ h => hF _ h), hS1, I.2.2.2⟩)
theorem x_min (C : XC D T RX0 p m c cc nL s args) (hls : ls.size = nL) (hframes : 1 ≤ R.frames) (hlocals : (rest.map fun v => v.category).sum + 13 ≤ R.locals) (hcs : cells ≤ R.cells ∧ slots ≤ R.slots) {x z : Int32} (hdg : decode cc pc = .ok (.invokestatic 178, 3)) (kk : W p l e R s m args below meth c H locs cells slots Q (F0 m (pc + 3) ls (.int (imin x z) :: rest))) : W p l e R s m args below meth c H locs cells slots Q (F0 m pc ls (.int z :: .int x :: rest)) := va_mmin C.1.1 C.1.2.1 (C.1.2.2.1.trans hls.symm) C.1.2.2.2.1 (C.1.2.2.2.2 _ q276) (C.1.2.2.2.2 _ q277) (C.1.2.2.2.2 _ q96) (C.1.2.2.2.2 _ q278) hframes hlocals hcs.1 hcs.2 hdg kk
theorem x_max (C : XC D T RX0 p m c cc nL s args) (hls : ls.size = nL) (hframes : 1 ≤ R.frames) (hlocals : (rest.map fun v => v.category).sum + 13 ≤ R.locals) (hcs : cells ≤ R.cells ∧ slots ≤ R.slots) {x z : Int32} (hdg : decode cc pc = .ok (.invokestatic 316, 3)) (kk : W p l e R s m args below meth c H locs cells slots Q (F0 m (pc + 3) ls (.int (imax x z) :: rest))) : W p l e R s m args below meth c H locs cells slots Q (F0 m pc ls (.int z :: .int x :: rest)) := va_mmax C.1.1 C.1.2.1 (C.1.2.2.1.trans hls.symm) C.1.2.2.2.1 (C.1.2.2.2.2 _ q421) (C.1.2.2.2.2 _ q422) (C.1.2.2.2.2 _ q96) (C.1.2.2.2.2 _ q423) hframes hlocals hcs.1 hcs.2 hdg kk
theorem x_copy (C : XC D T RX0 p m c cc nL s args) (I : XI D T ad A H0 M H locs) (k0 k1 : Nat) (hne : k0 ≠ k1) {sp dp n : Int32} (g1 : ¬ sp < 0) (g2 : ¬ dp < 0) (g3 : ¬ n < 0) (g4 : ci sp + ci n ≤ lenX k0) (g5 : ci dp + ci n ≤ lenX k1) (g6 : lenX k0 ≠ 0) (g7 : lenX k1 ≠ 0) (hls : ls.size = nL) (hframes : 1 ≤ R.frames) (hlocals : (rest.map fun v => v.category).sum + (nativeFrameWords "java/lang/System" "arraycopy" 5 + 11) ≤ R.locals) (hdg : decode cc pc = .ok (.invokestatic 190, 3))
    (kk : ∀ (M1 : Mem) (H1 : Heap) (locs1 : List Loc), M1 = mcpy M k0 k1 (ci sp) (ci dp) (ci n) → XI D T ad A H0 M1 H1 locs1 → W p l e R s m args below meth c H1 locs1 cells slots Q (F0 m (pc + 3) ls rest)) : W p l e R s m args below meth c H locs cells slots Q (F0 m pc ls (.int n :: .int dp :: .ref (ad k1) :: .int sp :: .ref (ad k0) :: rest)) := by
  obtain ⟨ra, I⟩ := I
  have e0 := cX_arr (T := T) (ad := ad) (ra := ra) (M := M) (k := k0) rfl g6
  have e1 := cX_arr (T := T) (ad := ad) (ra := ra) (M := M) (k := k1) rfl g7
  have hlt : k1 < 124 := Nat.lt_of_not_le fun h => g7 (lenX_big h)
  obtain ⟨q0, hq0⟩ := fL_at (cX_fN T ad ra M) e0
  obtain ⟨q1, hq1⟩ := fL_at (cX_fN T ad ra M) e1
  have w1 : cX T ad ra (mcpy M k0 k1 (ci sp) (ci dp) (ci n)) k1 = some (ad k1, .inl (T 0, lenX k1, .inl (va_cpy (M k0) (M k1) (ci sp) (ci dp) (ci n)))) := by rw [cX_arr rfl g7, mcpy_same]
  have w2 : ∀ j, j ≠ k1 → cX T ad ra (mcpy M k0 k1 (ci sp) (ci dp) (ci n)) j = cX T ad ra M j := fun j hj => cX_same (mcpy_ne M k0 _ _ _ hj) (mcpy_ne M k0 _ _ _ (by omega)) (mcpy_ne M k0 _ _ _ (by omega))
  exact va_copyi C.1.1 C.1.2.1 (C.1.2.2.1.trans hls.symm) C.1.2.2.2.1 (C.1.2.2.2.2 _ q279) (C.1.2.2.2.2 _ q281) (C.1.2.2.2.2 _ q280) (C.1.2.2.2.2 _ q97) C.2.1 (fL_P I.1) (fL_D I.2.1) I.2.2.1 q0 q1 0 0 hq0 hq1 rfl rfl rfl g1 g2 g3 g4 g5 (fun i hi => rfl) hframes hlocals hdg (fun H1 locs1 hP _ hS => kk _ H1 locs1 rfl ⟨ra, fL_back (cX_fN T ad ra M) I.2.1 hq1 e1 w1 w2 hP, I.2.1.set e1 w1 w2, hS, I.2.2.2⟩)
/-! questions: kind, isAnswered -/
abbrev r_q0 : Room := { frames := 0, cells := 0, slots := 0, locals := 0 }
theorem met1_kind (l : Launch) (a : Nat) {Qp : Int32 → Prop} (h : Qp 2) (sz : Nat) : Met l yX1_kind (ws_ yX1_kind cX1_kind 1 (some .int)) r_q0 (pPc [.ref a] sz) (pQi Qp sz) 0 0 (pA sz) :=
  p_metI (As := [.ref a]) rfl (Nat.le_of_ble_eq_true rfl) (fun p e s m args below meth c Qs ls S hQ hl => by
    refine lv_iconst (v := 2) S.1 S.2.1 dX1_kind_0 (by decide) ?_
    exact hQ _ _ _ _ _ h va_S.rf dX1_kind_1) sz
theorem met2_kind (l : Launch) (a : Nat) {Qp : Int32 → Prop} (h : Qp 0) (sz : Nat) : Met l yX2_kind (ws_ yX2_kind cX2_kind 1 (some .int)) r_q0 (pPc [.ref a] sz) (pQi Qp sz) 0 0 (pA sz) :=
  p_metI (As := [.ref a]) rfl (Nat.le_of_ble_eq_true rfl) (fun p e s m args below meth c Qs ls S hQ hl => by
    refine lv_iconst (v := 0) S.1 S.2.1 dX2_kind_0 (by decide) ?_
    exact hQ _ _ _ _ _ h va_S.rf dX2_kind_1) sz
theorem met3_kind (l : Launch) (a : Nat) {Qp : Int32 → Prop} (h : Qp 1) (sz : Nat) : Met l yX3_kind (ws_ yX3_kind cX3_kind 1 (some .int)) r_q0 (pPc [.ref a] sz) (pQi Qp sz) 0 0 (pA sz) :=
  p_metI (As := [.ref a]) rfl (Nat.le_of_ble_eq_true rfl) (fun p e s m args below meth c Qs ls S hQ hl => by
    refine lv_iconst (v := 1) S.1 S.2.1 dX3_kind_0 (by decide) ?_
    exact hQ _ _ _ _ _ h va_S.rf dX3_kind_1) sz
theorem met1_isAnswered (l : Launch) (a : Nat) (x z : Int32) {Qp : Int32 → Prop} (h : Qp 0) (sz : Nat) : Met l yX1_isAnswered (ws_ yX1_isAnswered cX1_isAnswered 3 (some .boolean)) r_q0 (pPc [.ref a, .int x, .int z] sz) (pQi Qp sz) 0 0 (pA sz) :=
  p_metZ (As := [.ref a, .int x, .int z]) rfl (Nat.le_of_ble_eq_true rfl) (fun p e s m args below meth c Qs ls S hQ hl => by
    refine lv_iconst (v := 0) S.1 S.2.1 dX1_isAnswered_0 (by decide) ?_
    exact hQ _ _ _ _ _ ⟨Or.inl rfl, h⟩ va_S.rf dX1_isAnswered_1) sz
abbrev r_q1 : Room := { frames := 1, cells := 0, slots := 0, locals := 22 }
abbrev r_q2 : Room := { frames := 2, cells := 0, slots := 0, locals := 44 }
def qPc (D : va_G) (ci : Nat) (a : Nat) (As : List Value) (sz : Nat) : Array Value → State → Prop := va_Pc (.ref a :: As) (fun U => U.heap.size = sz ∧ va_at D vwCl (a, .inr (ci, [])) U.heap ∧ va_K D vwCl [] U)
theorem qPc_blind (D : va_G) (ci a : Nat) (As : List Value) (sz : Nat) : FrameBlind (qPc D ci a As sz) := fun b U g mk q => by
  obtain ⟨q0, q1, qP, qK⟩ := q
  exact ⟨q0, q1, qP, va_K.moved (u := U) (U := U.calling g mk b) (Vm.Alike.refl U.vm) qK⟩
theorem q_recv {D : va_G} {tys : List (ClassId × FieldType)} {s : State} {ci a : Nat} {q : vw_C} {H : Heap} (hK : va_K D vwCl tys s) (h : va_at D vwCl (a, .inr (ci, [])) H) (hc : vwCl[ci]? = some q) : ∃ cell : Cell, H[a]? = some cell ∧ cell.vm.isStatics = false ∧ s.vm.findClass q.1 = some cell.cls := by
  obtain ⟨q1, h1, cell, g1, g2, g3, -⟩ := h
  exact ⟨cell, g1, by rw [g3]; rfl, by rw [g2]; exact (hK.1 ci q hc).2.1⟩
theorem cwS2 {R : Room} {s : State} {args : Array Value} (hts : ∀ w ∈ lw_all, w.before args s = true) (hR : r_q0.frames + 1 ≤ R.frames ∧ 8 + (3 + 11) + r_q0.locals ≤ R.locals) : va_CS R s args RX2 7 yX1_isAnswered cX1_isAnswered 3 (some .boolean) (ws_ yX1_isAnswered cX1_isAnswered 3 (some .boolean)) r_q0 0 0 2 := va_cwSU 2 hts (lw_app (by
    intro w hw
    simp only [List.mem_cons, List.not_mem_nil, or_false] at hw
    rcases hw with e | e | e | e | e
    · rw [e]; exact q344
    · rw [e]; exact q336
    · rw [e]; exact q345
    · rw [e]; exact q334
    · rw [e]; exact q90) (lw_meth q346)) rfl rfl rfl (by decide +kernel) hR
theorem met2_isAnswered (l : Launch) (D : va_G) (a : Nat) (x z : Int32) {Qp : Int32 → Prop} (h : Qp (if x = 0 then 0 else 1)) (sz : Nat) : Met l yX2_isAnswered (ws_ yX2_isAnswered cX2_isAnswered 3 (some .boolean)) r_q1 (qPc D 2 a [.int x, .int z] sz) (pQi Qp sz) 0 0 (pA sz) := by
  refine Met.ofW (cc := cX2_isAnswered) (maxL := 3) (ret := some .boolean) rfl rfl ?_
  intro p e s m args below meth c s₁ B hml hv
  obtain ⟨rfl, hsz, hat, hK⟩ := hv
  subst hsz
  have hts := atoms_spec (ws := ws_ yX2_isAnswered cX2_isAnswered 3 (some .boolean)) B.pre
  have hts : ∀ w ∈ lw_all, w.before _ s = true := fun w h => hts w (List.mem_cons_of_mem _ h)
  have hlocks := B.notSynchronized
  have hx := B.exec
  have hb := B.bytes
  have S : CallFix p m c cX2_isAnswered 3 s _ lw_all RX2 := ⟨hx, hb, hml, findClass_of_methodNamed B.named, hts⟩
  obtain ⟨ls, e1, hl⟩ := ent_eq [.ref a, .int x, .int z] m 3 (Nat.le_of_ble_eq_true rfl)
  rw [e1]
  have hl : lv_has ls 3 [(0, .ref a), (1, .int x), (2, .int z)] := hl
  have fin : ∀ (r : Int32) (H1 : Heap) (locs1 : List Loc), isB r → Qp r → va_S (pA s.heap.size) s.heap H1 locs1 → W p l e r_q1 s m _ below meth c H1 locs1 0 0 (MQ below (pQi Qp s.heap.size) [.ref a, .int x, .int z].toArray s 0 0 (pA s.heap.size)) (F0 m 18 ls [.int r]) := fun r H1 locs1 hz hq hS => W.zret (v := r) hx hb B.returns (isB_nar hz) (fun t ht hW => ⟨⟨r, (), rfl, hq, trivial⟩, hS.F ht⟩) hS.2.2 dX2_isAnswered_18
  refine lv_iload_n hx hb dX2_isAnswered_0 rfl (lv_at hl 1 rfl) ?_
  refine lv_if_ne (tgt := 13) hx hb dX2_isAnswered_1 (by decide) (fun c1 => ?_) (fun c1 => ?_)
  · refine lv_iconst (v := 1) hx hb dX2_isAnswered_13 (by decide) ?_
    refine lv_goto (tgt := 18) hx hb dX2_isAnswered_14 (by decide) ?_
    rw [if_neg c1] at h
    exact fin 1 _ _ (Or.inr rfl) h va_S.rf
  · rw [if_pos c1] at h
    refine lv_aload_n hx hb dX2_isAnswered_4 rfl (lv_at hl 0 rfl) ?_
    refine lv_iload_n hx hb dX2_isAnswered_5 rfl (lv_at hl 1 rfl) ?_
    refine lv_iload_n hx hb dX2_isAnswered_6 rfl (lv_at hl 2 rfl) ?_
    refine va_calli (A0 := pA s.heap.size) (A1 := pA s.heap.size) (va_runSU (C := RX2) (As := [.int x, .int z]) (rest := []) (hK.1 2 _ rfl).2 S (met1_isAnswered l a x z (Qp := fun r => r = 0) rfl s.heap.size) (cwS2 hts ⟨Nat.le_of_ble_eq_true rfl, Nat.le_of_ble_eq_true rfl⟩) ⟨pPc_blind [.ref a, .int x, .int z] s.heap.size, q_recv hK hat rfl, fun U hU hW => ⟨rfl, congrArg Array.size hU⟩⟩ rfl rfl hl.1 rfl (lv_room (Nat.le_of_ble_eq_true rfl)) dX2_isAnswered_7 ⟨Nat.zero_le _, Nat.zero_le _⟩) va_S.rf (fun q _ h => h) (fun q h => h) (fun r u t H1 locs1 ht hvm hw hB hz hk hS1 => ?_)
    have hw : r = 0 := hw
    refine lv_if_eq (tgt := 17) hx hb dX2_isAnswered_10 (by decide) (fun c2 => ?_) (fun c2 => ?_)
    · refine lv_iconst (v := 0) hx hb dX2_isAnswered_17 (by decide) ?_
      rw [← hw.symm.trans c2]
      exact fin _ _ _ (by rw [← hw, c2]; exact Or.inl rfl) h hS1
    · refine lv_iconst (v := 1) hx hb dX2_isAnswered_13 (by decide) ?_
      refine lv_goto (tgt := 18) hx hb dX2_isAnswered_14 (by decide) ?_
      exact absurd hw c2
theorem met2_isAnswered_c3 (l : Launch) (D : va_G) (a : Nat) (x z : Int32) {Qp : Int32 → Prop} (h : Qp (if x = 0 then 0 else 1)) (sz : Nat) : Met l yX2_isAnswered (ws_ yX2_isAnswered cX2_isAnswered 3 (some .boolean)) r_q1 (qPc D 3 a [.int x, .int z] sz) (pQi Qp sz) 0 0 (pA sz) := by
  refine Met.ofW (cc := cX2_isAnswered) (maxL := 3) (ret := some .boolean) rfl rfl ?_
  intro p e s m args below meth c s₁ B hml hv
  obtain ⟨rfl, hsz, hat, hK⟩ := hv
  subst hsz
  have hts := atoms_spec (ws := ws_ yX2_isAnswered cX2_isAnswered 3 (some .boolean)) B.pre
  have hts : ∀ w ∈ lw_all, w.before _ s = true := fun w h => hts w (List.mem_cons_of_mem _ h)
  have hlocks := B.notSynchronized
  have hx := B.exec
  have hb := B.bytes
  have S : CallFix p m c cX2_isAnswered 3 s _ lw_all RX2 := ⟨hx, hb, hml, findClass_of_methodNamed B.named, hts⟩
  obtain ⟨ls, e1, hl⟩ := ent_eq [.ref a, .int x, .int z] m 3 (Nat.le_of_ble_eq_true rfl)
  rw [e1]
  have hl : lv_has ls 3 [(0, .ref a), (1, .int x), (2, .int z)] := hl
  have fin : ∀ (r : Int32) (H1 : Heap) (locs1 : List Loc), isB r → Qp r → va_S (pA s.heap.size) s.heap H1 locs1 → W p l e r_q1 s m _ below meth c H1 locs1 0 0 (MQ below (pQi Qp s.heap.size) [.ref a, .int x, .int z].toArray s 0 0 (pA s.heap.size)) (F0 m 18 ls [.int r]) := fun r H1 locs1 hz hq hS => W.zret (v := r) hx hb B.returns (isB_nar hz) (fun t ht hW => ⟨⟨r, (), rfl, hq, trivial⟩, hS.F ht⟩) hS.2.2 dX2_isAnswered_18
  refine lv_iload_n hx hb dX2_isAnswered_0 rfl (lv_at hl 1 rfl) ?_
  refine lv_if_ne (tgt := 13) hx hb dX2_isAnswered_1 (by decide) (fun c1 => ?_) (fun c1 => ?_)
  · refine lv_iconst (v := 1) hx hb dX2_isAnswered_13 (by decide) ?_
    refine lv_goto (tgt := 18) hx hb dX2_isAnswered_14 (by decide) ?_
    rw [if_neg c1] at h
    exact fin 1 _ _ (Or.inr rfl) h va_S.rf
  · rw [if_pos c1] at h
    refine lv_aload_n hx hb dX2_isAnswered_4 rfl (lv_at hl 0 rfl) ?_
    refine lv_iload_n hx hb dX2_isAnswered_5 rfl (lv_at hl 1 rfl) ?_
    refine lv_iload_n hx hb dX2_isAnswered_6 rfl (lv_at hl 2 rfl) ?_
    refine va_calli (A0 := pA s.heap.size) (A1 := pA s.heap.size) (va_runSU (C := RX3) (As := [.int x, .int z]) (rest := []) (hK.1 3 _ rfl).2 S (met1_isAnswered l a x z (Qp := fun r => r = 0) rfl s.heap.size) (cwS2 hts ⟨Nat.le_of_ble_eq_true rfl, Nat.le_of_ble_eq_true rfl⟩) ⟨pPc_blind [.ref a, .int x, .int z] s.heap.size, q_recv hK hat rfl, fun U hU hW => ⟨rfl, congrArg Array.size hU⟩⟩ rfl rfl hl.1 rfl (lv_room (Nat.le_of_ble_eq_true rfl)) dX2_isAnswered_7 ⟨Nat.zero_le _, Nat.zero_le _⟩) va_S.rf (fun q _ h => h) (fun q h => h) (fun r u t H1 locs1 ht hvm hw hB hz hk hS1 => ?_)
    have hw : r = 0 := hw
    refine lv_if_eq (tgt := 17) hx hb dX2_isAnswered_10 (by decide) (fun c2 => ?_) (fun c2 => ?_)
    · refine lv_iconst (v := 0) hx hb dX2_isAnswered_17 (by decide) ?_
      rw [← hw.symm.trans c2]
      exact fin _ _ _ (by rw [← hw, c2]; exact Or.inl rfl) h hS1
    · refine lv_iconst (v := 1) hx hb dX2_isAnswered_13 (by decide) ?_
      refine lv_goto (tgt := 18) hx hb dX2_isAnswered_14 (by decide) ?_
      exact absurd hw c2
theorem cwS3 {R : Room} {s : State} {args : Array Value} (hts : ∀ w ∈ lw_all, w.before args s = true) (hR : r_q1.frames + 1 ≤ R.frames ∧ 8 + (3 + 11) + r_q1.locals ≤ R.locals) : va_CS R s args RX3 7 yX2_isAnswered cX2_isAnswered 3 (some .boolean) (ws_ yX2_isAnswered cX2_isAnswered 3 (some .boolean)) r_q1 0 0 2 := va_cwSU 2 hts (lw_app (by
    intro w hw
    simp only [List.mem_cons, List.not_mem_nil, or_false] at hw
    rcases hw with e | e | e | e | e
    · rw [e]; exact q340
    · rw [e]; exact q1369
    · rw [e]; exact q341
    · rw [e]; exact q342
    · rw [e]; exact q91) (lw_meth q343)) rfl rfl rfl (by decide +kernel) hR
theorem met3_isAnswered (l : Launch) (D : va_G) (a : Nat) (x z : Int32) {Qp : Int32 → Prop} (h : Qp (if z = 0 then (if x = 0 then 0 else 1) else 1)) (sz : Nat) : Met l yX3_isAnswered (ws_ yX3_isAnswered cX3_isAnswered 3 (some .boolean)) r_q2 (qPc D 3 a [.int x, .int z] sz) (pQi Qp sz) 0 0 (pA sz) := by
  refine Met.ofW (cc := cX3_isAnswered) (maxL := 3) (ret := some .boolean) rfl rfl ?_
  intro p e s m args below meth c s₁ B hml hv
  obtain ⟨rfl, hsz, hat, hK⟩ := hv
  subst hsz
  have hts := atoms_spec (ws := ws_ yX3_isAnswered cX3_isAnswered 3 (some .boolean)) B.pre
  have hts : ∀ w ∈ lw_all, w.before _ s = true := fun w h => hts w (List.mem_cons_of_mem _ h)
  have hlocks := B.notSynchronized
  have hx := B.exec
  have hb := B.bytes
  have S : CallFix p m c cX3_isAnswered 3 s _ lw_all RX3 := ⟨hx, hb, hml, findClass_of_methodNamed B.named, hts⟩
  obtain ⟨ls, e1, hl⟩ := ent_eq [.ref a, .int x, .int z] m 3 (Nat.le_of_ble_eq_true rfl)
  rw [e1]
  have hl : lv_has ls 3 [(0, .ref a), (1, .int x), (2, .int z)] := hl
  have fin : ∀ (r : Int32) (H1 : Heap) (locs1 : List Loc), isB r → Qp r → va_S (pA s.heap.size) s.heap H1 locs1 → W p l e r_q2 s m _ below meth c H1 locs1 0 0 (MQ below (pQi Qp s.heap.size) [.ref a, .int x, .int z].toArray s 0 0 (pA s.heap.size)) (F0 m 18 ls [.int r]) := fun r H1 locs1 hz hq hS => W.zret (v := r) hx hb B.returns (isB_nar hz) (fun t ht hW => ⟨⟨r, (), rfl, hq, trivial⟩, hS.F ht⟩) hS.2.2 dX3_isAnswered_18
  refine lv_iload_n hx hb dX3_isAnswered_0 rfl (lv_at hl 2 rfl) ?_
  refine lv_if_ne (tgt := 13) hx hb dX3_isAnswered_1 (by decide) (fun c1 => ?_) (fun c1 => ?_)
  · refine lv_iconst (v := 1) hx hb dX3_isAnswered_13 (by decide) ?_
    refine lv_goto (tgt := 18) hx hb dX3_isAnswered_14 (by decide) ?_
    rw [if_neg c1] at h
    exact fin 1 _ _ (Or.inr rfl) h va_S.rf
  · rw [if_pos c1] at h
    refine lv_aload_n hx hb dX3_isAnswered_4 rfl (lv_at hl 0 rfl) ?_
    refine lv_iload_n hx hb dX3_isAnswered_5 rfl (lv_at hl 1 rfl) ?_
    refine lv_iload_n hx hb dX3_isAnswered_6 rfl (lv_at hl 2 rfl) ?_
    refine va_calli (A0 := pA s.heap.size) (A1 := pA s.heap.size) (va_runSU (C := RX3) (As := [.int x, .int z]) (rest := []) (hK.1 3 _ rfl).2 S (met2_isAnswered_c3 l D a x z (Qp := fun r => r = (if x = 0 then 0 else 1)) rfl s.heap.size) (cwS3 hts ⟨Nat.le_of_ble_eq_true rfl, Nat.le_of_ble_eq_true rfl⟩) ⟨qPc_blind D 3 a [.int x, .int z] s.heap.size, q_recv hK hat rfl, fun U hU hW => ⟨rfl, congrArg Array.size hU, by rw [hU]; exact hat, va_K.moved hW.alike hK⟩⟩ rfl rfl hl.1 rfl (lv_room (Nat.le_of_ble_eq_true rfl)) dX3_isAnswered_7 ⟨Nat.zero_le _, Nat.zero_le _⟩) va_S.rf (fun q _ h => h) (fun q h => h) (fun r u t H1 locs1 ht hvm hw hB hz hk hS1 => ?_)
    have hw : r = (if x = 0 then 0 else 1) := hw
    refine lv_if_eq (tgt := 17) hx hb dX3_isAnswered_10 (by decide) (fun c2 => ?_) (fun c2 => ?_)
    · refine lv_iconst (v := 0) hx hb dX3_isAnswered_17 (by decide) ?_
      rw [← hw.symm.trans c2]
      exact fin _ _ _ (by rw [← hw, c2]; exact Or.inl rfl) h hS1
    · refine lv_iconst (v := 1) hx hb dX3_isAnswered_13 (by decide) ?_
      refine lv_goto (tgt := 18) hx hb dX3_isAnswered_14 (by decide) ?_
      by_cases cx : x = 0
      · rw [if_pos cx] at hw; exact absurd hw c2
      · rw [if_neg cx] at h; exact fin 1 _ _ (Or.inr rfl) h hS1
theorem cwQ1_kind {R : Room} {s : State} {args : Array Value} (hts : ∀ w ∈ lw_all, w.before args s = true) (hR : r_q0.frames + 1 ≤ R.frames ∧ 8 + (1 + 11) + r_q0.locals ≤ R.locals) : va_CU R s args RX0 RX1 RX1 120 yX1_kind yX1_kind cX1_kind 1 (some .int) (ws_ yX1_kind cX1_kind 1 (some .int)) r_q0 0 0 0 := va_cwO 0 hts (lw_app (by
    intro w hw
    simp only [List.mem_cons, List.not_mem_nil, or_false] at hw
    rcases hw with e | e | e | e | e | e
    · rw [e]; exact q199
    · rw [e]; exact q202
    · rw [e]; exact q200
    · rw [e]; exact q201
    · rw [e]; exact q200
    · rw [e]; exact q90) (lw_meth q209)) rfl rfl rfl q209 (by decide +kernel) hR
theorem cwQ2_kind {R : Room} {s : State} {args : Array Value} (hts : ∀ w ∈ lw_all, w.before args s = true) (hR : r_q0.frames + 1 ≤ R.frames ∧ 8 + (1 + 11) + r_q0.locals ≤ R.locals) : va_CU R s args RX0 RX2 RX1 120 yX1_kind yX2_kind cX2_kind 1 (some .int) (ws_ yX2_kind cX2_kind 1 (some .int)) r_q0 0 0 0 := va_cwO 0 hts (lw_app (by
    intro w hw
    simp only [List.mem_cons, List.not_mem_nil, or_false] at hw
    rcases hw with e | e | e | e | e | e
    · rw [e]; exact q199
    · rw [e]; exact q202
    · rw [e]; exact q200
    · rw [e]; exact q206
    · rw [e]; exact q207
    · rw [e]; exact q91) (lw_meth q208)) rfl rfl rfl q209 (by decide +kernel) hR
theorem cwQ3_kind {R : Room} {s : State} {args : Array Value} (hts : ∀ w ∈ lw_all, w.before args s = true) (hR : r_q0.frames + 1 ≤ R.frames ∧ 8 + (1 + 11) + r_q0.locals ≤ R.locals) : va_CU R s args RX0 RX3 RX1 120 yX1_kind yX3_kind cX3_kind 1 (some .int) (ws_ yX3_kind cX3_kind 1 (some .int)) r_q0 0 0 0 := va_cwO 0 hts (lw_app (by
    intro w hw
    simp only [List.mem_cons, List.not_mem_nil, or_false] at hw
    rcases hw with e | e | e | e | e | e
    · rw [e]; exact q199
    · rw [e]; exact q202
    · rw [e]; exact q200
    · rw [e]; exact q203
    · rw [e]; exact q204
    · rw [e]; exact q92) (lw_meth q205)) rfl rfl rfl q209 (by decide +kernel) hR
theorem cwQ1_isAnswered {R : Room} {s : State} {args : Array Value} (hts : ∀ w ∈ lw_all, w.before args s = true) (hR : r_q0.frames + 1 ≤ R.frames ∧ 8 + (3 + 11) + r_q0.locals ≤ R.locals) : va_CU R s args RX0 RX1 RX1 247 yX1_isAnswered yX1_isAnswered cX1_isAnswered 3 (some .boolean) (ws_ yX1_isAnswered cX1_isAnswered 3 (some .boolean)) r_q0 0 0 2 := va_cwO 2 hts (lw_app (by
    intro w hw
    simp only [List.mem_cons, List.not_mem_nil, or_false] at hw
    rcases hw with e | e | e | e | e | e
    · rw [e]; exact q333
    · rw [e]; exact q336
    · rw [e]; exact q334
    · rw [e]; exact q335
    · rw [e]; exact q334
    · rw [e]; exact q90) (lw_meth q346)) rfl rfl rfl q346 (by decide +kernel) hR
theorem cwQ2_isAnswered {R : Room} {s : State} {args : Array Value} (hts : ∀ w ∈ lw_all, w.before args s = true) (hR : r_q1.frames + 1 ≤ R.frames ∧ 8 + (3 + 11) + r_q1.locals ≤ R.locals) : va_CU R s args RX0 RX2 RX1 247 yX1_isAnswered yX2_isAnswered cX2_isAnswered 3 (some .boolean) (ws_ yX2_isAnswered cX2_isAnswered 3 (some .boolean)) r_q1 0 0 2 := va_cwO 2 hts (lw_app (by
    intro w hw
    simp only [List.mem_cons, List.not_mem_nil, or_false] at hw
    rcases hw with e | e | e | e | e | e
    · rw [e]; exact q333
    · rw [e]; exact q336
    · rw [e]; exact q334
    · rw [e]; exact q347
    · rw [e]; exact q342
    · rw [e]; exact q91) (lw_meth q343)) rfl rfl rfl q346 (by decide +kernel) hR
theorem cwQ3_isAnswered {R : Room} {s : State} {args : Array Value} (hts : ∀ w ∈ lw_all, w.before args s = true) (hR : r_q2.frames + 1 ≤ R.frames ∧ 8 + (3 + 11) + r_q2.locals ≤ R.locals) : va_CU R s args RX0 RX3 RX1 247 yX1_isAnswered yX3_isAnswered cX3_isAnswered 3 (some .boolean) (ws_ yX3_isAnswered cX3_isAnswered 3 (some .boolean)) r_q2 0 0 2 := va_cwO 2 hts (lw_app (by
    intro w hw
    simp only [List.mem_cons, List.not_mem_nil, or_false] at hw
    rcases hw with e | e | e | e | e | e
    · rw [e]; exact q333
    · rw [e]; exact q336
    · rw [e]; exact q334
    · rw [e]; exact q337
    · rw [e]; exact q338
    · rw [e]; exact q92) (lw_meth q339)) rfl rfl rfl q346 (by decide +kernel) hR
def qkind (q : Int32) : Int32 := if q = 0 then 0 else if q = 1 then 1 else 2
def qans (q x z : Int32) : Int32 := if q = 0 then (if x = 0 then 0 else 1) else if q = 1 then (if z = 0 then (if x = 0 then 0 else 1) else 1) else 0
theorem vp_in3 {q : Int32} (h : vp_in q 3) : q = 0 ∨ q = 1 ∨ q = 2 := by
  obtain ⟨j, hj, rfl⟩ := vp_in_of h (by decide)
  match j, hj with
  | 0, _ => exact Or.inl rfl
  | 1, _ => exact Or.inr (Or.inl rfl)
  | 2, _ => exact Or.inr (Or.inr rfl)
theorem x_kind (C : XC D T RX0 p m c cc nL s args) (I : XI D T ad A H0 M H locs) {q : Int32} (hq : vp_in q 3) (hR1 : 1 ≤ R.frames) (hR2 : 20 ≤ R.locals) (hls : ls.size = nL) (hr : (rest.map fun v => v.category).sum ≤ 8) (hcs : cells ≤ R.cells ∧ slots ≤ R.slots) (hdg : decode cc pc = .ok (.invokevirtual 120, 3))
    (kk : ∀ (H1 : Heap) (locs1 : List Loc), XI D T ad A H0 M H1 locs1 → W p l e R s m args below meth c H1 locs1 cells slots Q (F0 m (pc + 3) ls (.int (qkind q) :: rest))) : W p l e R s m args below meth c H locs cells slots Q (F0 m pc ls (.ref (ad (25 + ci q)) :: rest)) := by
  obtain ⟨ra, J⟩ := I
  have I : XI D T ad A H0 M H locs := ⟨ra, J⟩
  rcases vp_in3 hq with rfl | rfl | rfl
  · exact va_calli (A0 := A) (A1 := pA H.size) (va_runU (C := RX2) (As := []) (rest := rest) C.1 ((met2_kind l (ad 25) (Qp := fun r => r = qkind 0) rfl) H.size) (cwQ2_kind C.1.2.2.2.2 ⟨Nat.le_trans (Nat.le_of_ble_eq_true rfl) hR1, Nat.le_trans (Nat.le_of_ble_eq_true rfl) hR2⟩) ⟨pPc_blind [.ref (ad 25)] H.size, va_recv C.2.1 (J.1.one (cX_25 T ad ra M)) (ci := 2) (q0 := 0) rfl rfl, fun U hU hW => ⟨rfl, congrArg Array.size hU⟩⟩ rfl rfl hls rfl (lv_room hr) hdg hcs) J.2.2.1 (fun q h1 h2 => absurd h1 (Nat.not_lt.mpr h2)) (fun q h => J.2.2.2 q (Nat.le_trans J.2.2.1.1 h)) (fun r u t H1 locs1 ht hvm hw hB hz hk hS1 => by rw [show r = _ from hw]; exact kk H1 locs1 (I.pure (fun q hq => hk q hq (Nat.not_le.mpr hq)) hS1))
  · exact va_calli (A0 := A) (A1 := pA H.size) (va_runU (C := RX3) (As := []) (rest := rest) C.1 ((met3_kind l (ad 26) (Qp := fun r => r = qkind 1) rfl) H.size) (cwQ3_kind C.1.2.2.2.2 ⟨Nat.le_trans (Nat.le_of_ble_eq_true rfl) hR1, Nat.le_trans (Nat.le_of_ble_eq_true rfl) hR2⟩) ⟨pPc_blind [.ref (ad 26)] H.size, va_recv C.2.1 (J.1.one (cX_26 T ad ra M)) (ci := 3) (q0 := 0) rfl rfl, fun U hU hW => ⟨rfl, congrArg Array.size hU⟩⟩ rfl rfl hls rfl (lv_room hr) hdg hcs) J.2.2.1 (fun q h1 h2 => absurd h1 (Nat.not_lt.mpr h2)) (fun q h => J.2.2.2 q (Nat.le_trans J.2.2.1.1 h)) (fun r u t H1 locs1 ht hvm hw hB hz hk hS1 => by rw [show r = _ from hw]; exact kk H1 locs1 (I.pure (fun q hq => hk q hq (Nat.not_le.mpr hq)) hS1))
  · exact va_calli (A0 := A) (A1 := pA H.size) (va_runU (C := RX1) (As := []) (rest := rest) C.1 ((met1_kind l (ad 27) (Qp := fun r => r = qkind 2) rfl) H.size) (cwQ1_kind C.1.2.2.2.2 ⟨Nat.le_trans (Nat.le_of_ble_eq_true rfl) hR1, Nat.le_trans (Nat.le_of_ble_eq_true rfl) hR2⟩) ⟨pPc_blind [.ref (ad 27)] H.size, va_recv C.2.1 (J.1.one (cX_27 T ad ra M)) (ci := 1) (q0 := 0) rfl rfl, fun U hU hW => ⟨rfl, congrArg Array.size hU⟩⟩ rfl rfl hls rfl (lv_room hr) hdg hcs) J.2.2.1 (fun q h1 h2 => absurd h1 (Nat.not_lt.mpr h2)) (fun q h => J.2.2.2 q (Nat.le_trans J.2.2.1.1 h)) (fun r u t H1 locs1 ht hvm hw hB hz hk hS1 => by rw [show r = _ from hw]; exact kk H1 locs1 (I.pure (fun q hq => hk q hq (Nat.not_le.mpr hq)) hS1))
theorem x_isAnswered (C : XC D T RX0 p m c cc nL s args) (I : XI D T ad A H0 M H locs) {q : Int32} {x z : Int32} (hq : vp_in q 3) (hR1 : 3 ≤ R.frames) (hR2 : 66 ≤ R.locals) (hls : ls.size = nL) (hr : (rest.map fun v => v.category).sum ≤ 8) (hcs : cells ≤ R.cells ∧ slots ≤ R.slots) (hdg : decode cc pc = .ok (.invokevirtual 247, 3))
    (kk : ∀ (H1 : Heap) (locs1 : List Loc), XI D T ad A H0 M H1 locs1 → W p l e R s m args below meth c H1 locs1 cells slots Q (F0 m (pc + 3) ls (.int (qans q x z) :: rest))) : W p l e R s m args below meth c H locs cells slots Q (F0 m pc ls (.int z :: .int x :: .ref (ad (25 + ci q)) :: rest)) := by
  obtain ⟨ra, J⟩ := I
  have I : XI D T ad A H0 M H locs := ⟨ra, J⟩
  rcases vp_in3 hq with rfl | rfl | rfl
  · exact va_calli (A0 := A) (A1 := pA H.size) (va_runU (C := RX2) (As := [.int x, .int z]) (rest := rest) C.1 ((met2_isAnswered l D (ad 25) x z (Qp := fun r => r = qans 0 x z) rfl) H.size) (cwQ2_isAnswered C.1.2.2.2.2 ⟨Nat.le_trans (Nat.le_of_ble_eq_true rfl) hR1, Nat.le_trans (Nat.le_of_ble_eq_true rfl) hR2⟩) ⟨qPc_blind D 2 (ad 25) [.int x, .int z] H.size, va_recv C.2.1 (J.1.one (cX_25 T ad ra M)) (ci := 2) (q0 := 0) rfl rfl, fun U hU hW => ⟨rfl, congrArg Array.size hU, by rw [hU]; exact J.1 25 _ (cX_25 T ad ra M), va_K.moved hW.alike (C.2.1.sub (tys' := []) [] rfl)⟩⟩ rfl rfl hls rfl (lv_room hr) hdg hcs) J.2.2.1 (fun q h1 h2 => absurd h1 (Nat.not_lt.mpr h2)) (fun q h => J.2.2.2 q (Nat.le_trans J.2.2.1.1 h)) (fun r u t H1 locs1 ht hvm hw hB hz hk hS1 => by rw [show r = _ from hw]; exact kk H1 locs1 (I.pure (fun q hq => hk q hq (Nat.not_le.mpr hq)) hS1))
  · exact va_calli (A0 := A) (A1 := pA H.size) (va_runU (C := RX3) (As := [.int x, .int z]) (rest := rest) C.1 ((met3_isAnswered l D (ad 26) x z (Qp := fun r => r = qans 1 x z) rfl) H.size) (cwQ3_isAnswered C.1.2.2.2.2 ⟨Nat.le_trans (Nat.le_of_ble_eq_true rfl) hR1, Nat.le_trans (Nat.le_of_ble_eq_true rfl) hR2⟩) ⟨qPc_blind D 3 (ad 26) [.int x, .int z] H.size, va_recv C.2.1 (J.1.one (cX_26 T ad ra M)) (ci := 3) (q0 := 0) rfl rfl, fun U hU hW => ⟨rfl, congrArg Array.size hU, by rw [hU]; exact J.1 26 _ (cX_26 T ad ra M), va_K.moved hW.alike (C.2.1.sub (tys' := []) [] rfl)⟩⟩ rfl rfl hls rfl (lv_room hr) hdg hcs) J.2.2.1 (fun q h1 h2 => absurd h1 (Nat.not_lt.mpr h2)) (fun q h => J.2.2.2 q (Nat.le_trans J.2.2.1.1 h)) (fun r u t H1 locs1 ht hvm hw hB hz hk hS1 => by rw [show r = _ from hw]; exact kk H1 locs1 (I.pure (fun q hq => hk q hq (Nat.not_le.mpr hq)) hS1))
  · exact va_calli (A0 := A) (A1 := pA H.size) (va_runU (C := RX1) (As := [.int x, .int z]) (rest := rest) C.1 ((met1_isAnswered l (ad 27) x z (Qp := fun r => r = qans 2 x z) rfl) H.size) (cwQ1_isAnswered C.1.2.2.2.2 ⟨Nat.le_trans (Nat.le_of_ble_eq_true rfl) hR1, Nat.le_trans (Nat.le_of_ble_eq_true rfl) hR2⟩) ⟨pPc_blind [.ref (ad 27), .int x, .int z] H.size, va_recv C.2.1 (J.1.one (cX_27 T ad ra M)) (ci := 1) (q0 := 0) rfl rfl, fun U hU hW => ⟨rfl, congrArg Array.size hU⟩⟩ rfl rfl hls rfl (lv_room hr) hdg hcs) J.2.2.1 (fun q h1 h2 => absurd h1 (Nat.not_lt.mpr h2)) (fun q h => J.2.2.2 q (Nat.le_trans J.2.2.1.1 h)) (fun r u t H1 locs1 ht hvm hw hB hz hk hS1 => by rw [show r = _ from hw]; exact kk H1 locs1 (I.pure (fun q hq => hk q hq (Nat.not_le.mpr hq)) hS1))
end XR
def xExi (p : Program) (l : Launch) (e : Env) (R : Room) (s : State) (m : MethodId) (args : Array Value) (below : List Frame) (meth : Method) (c : Code) (cc : ByteArray) (D : va_G) (T ad : Nat → Nat) (A : Nat → Prop) (H0 : Heap) (Qs : State → Prop) (Qp : Int32 → Mem → Prop) : Prop := ∀ (r : Int32) (M1 : Mem) (H1 : Heap) (locs1 : List Loc) (pc1 : Nat) (ls1 : Array Slot), Qp r M1 → XI D T ad A H0 M1 H1 locs1 → decode cc pc1 = .ok (.ireturn, 1) → W p l e R s m args below meth c H1 locs1 0 0 Qs (F0 m pc1 ls1 [.int r])
def xExl (p : Program) (l : Launch) (e : Env) (R : Room) (s : State) (m : MethodId) (args : Array Value) (below : List Frame) (meth : Method) (c : Code) (cc : ByteArray) (D : va_G) (T ad : Nat → Nat) (A : Nat → Prop) (H0 : Heap) (Qs : State → Prop) (Qp : Int64 → Mem → Prop) : Prop := ∀ (r : Int64) (M1 : Mem) (H1 : Heap) (locs1 : List Loc) (pc1 : Nat) (ls1 : Array Slot), Qp r M1 → XI D T ad A H0 M1 H1 locs1 → decode cc pc1 = .ok (.lreturn, 1) → W p l e R s m args below meth c H1 locs1 0 0 Qs (F0 m pc1 ls1 [.long r])
def xExv (p : Program) (l : Launch) (e : Env) (R : Room) (s : State) (m : MethodId) (args : Array Value) (below : List Frame) (meth : Method) (c : Code) (cc : ByteArray) (D : va_G) (T ad : Nat → Nat) (A : Nat → Prop) (H0 : Heap) (Qs : State → Prop) (Qp : Mem → Prop) : Prop := ∀ (M1 : Mem) (H1 : Heap) (locs1 : List Loc) (pc1 : Nat) (ls1 : Array Slot), Qp M1 → XI D T ad A H0 M1 H1 locs1 → decode cc pc1 = .ok (.return_, 1) → W p l e R s m args below meth c H1 locs1 0 0 Qs (F0 m pc1 ls1 [])
theorem x_metI {own : String} {l : Launch} {D : va_G} {T ad ra : Nat → Nat} {o : Nat} {y : MethodName} {cc : ByteArray} {maxL : Nat} {rm : Room} {As : List Value} {M : Mem} {Qp : Int32 → Mem → Prop} (hy : plainName y.cls = true) (hcl : y.cls = own) (hlen : (lg_sl (.ref (ad o) :: As)).length ≤ maxL)
    (body : ∀ (p : Program) (e : Env) (s : State) (m : MethodId) (args : Array Value) (below : List Frame) (meth : Method) (c : Code) (A : Nat → Prop) (Qs : State → Prop) (ls : Array Slot), XC D T own p m c cc maxL s args → xExi p l e rm s m args below meth c cc D T ad A s.heap Qs Qp → XI D T ad A s.heap M s.heap [] → lv_has ls maxL (lv_args 0 (.ref (ad o) :: As)) → W p l e rm s m args below meth c s.heap [] 0 0 Qs (F0 m 0 ls [])) (sz : Nat) : Met l y (ws_ y cc maxL (some .int)) rm (xPc D T ad ra o As M sz) (xQi D T ad ra M Qp sz) 0 0 (fA (cX T ad ra M) sz) := by
  refine Met.ofW (cc := cc) (maxL := maxL) (ret := (some .int)) hy rfl ?_
  intro p e s m args below meth c s₁ B hml hv
  obtain ⟨rfl, hsz, hP, hK, hD0, hN⟩ := hv
  subst hsz
  have hts := atoms_spec (ws := ws_ y cc maxL (some .int)) B.pre
  have hts : ∀ w ∈ lw_all, w.before _ s = true := fun w h => hts w (List.mem_cons_of_mem _ h)
  have hlocks := B.notSynchronized
  have hown : s.vm.findClass own = some m.cls := by rw [← hcl]; exact findClass_of_methodNamed B.named
  obtain ⟨ls, e1, e2⟩ := ent_eq (.ref (ad o) :: As) m maxL hlen
  rw [e1]
  refine body p e s m _ below meth c (fA (cX T ad ra M) s.heap.size) _ ls ⟨⟨B.exec, B.bytes, hml, hown, hts⟩, hK, hN⟩ ?_ ⟨ra, hP, hD0.self, va_S.rf, fun q h => Or.inr h⟩ e2
  intro r M1 H1 locs1 pc1 ls1 hq I hdg
  obtain ⟨ra1, I⟩ := I
  exact W.iret (v := r) B.exec B.bytes B.returns (fun t ht hW => ⟨⟨r, M1, rfl, hq, ra1, by rw [ht]; exact I.1, I.2.1⟩, I.2.2.1.F ht⟩) I.2.2.1.2.2 hdg
theorem x_metZ {own : String} {l : Launch} {D : va_G} {T ad ra : Nat → Nat} {o : Nat} {y : MethodName} {cc : ByteArray} {maxL : Nat} {rm : Room} {As : List Value} {M : Mem} {Qp : Int32 → Mem → Prop} (hy : plainName y.cls = true) (hcl : y.cls = own) (hlen : (lg_sl (.ref (ad o) :: As)).length ≤ maxL)
    (body : ∀ (p : Program) (e : Env) (s : State) (m : MethodId) (args : Array Value) (below : List Frame) (meth : Method) (c : Code) (A : Nat → Prop) (Qs : State → Prop) (ls : Array Slot), XC D T own p m c cc maxL s args → xExi p l e rm s m args below meth c cc D T ad A s.heap Qs (fun r M1 => isB r ∧ Qp r M1) → XI D T ad A s.heap M s.heap [] → lv_has ls maxL (lv_args 0 (.ref (ad o) :: As)) → W p l e rm s m args below meth c s.heap [] 0 0 Qs (F0 m 0 ls [])) (sz : Nat) : Met l y (ws_ y cc maxL (some .boolean)) rm (xPc D T ad ra o As M sz) (xQi D T ad ra M Qp sz) 0 0 (fA (cX T ad ra M) sz) := by
  refine Met.ofW (cc := cc) (maxL := maxL) (ret := (some .boolean)) hy rfl ?_
  intro p e s m args below meth c s₁ B hml hv
  obtain ⟨rfl, hsz, hP, hK, hD0, hN⟩ := hv
  subst hsz
  have hts := atoms_spec (ws := ws_ y cc maxL (some .boolean)) B.pre
  have hts : ∀ w ∈ lw_all, w.before _ s = true := fun w h => hts w (List.mem_cons_of_mem _ h)
  have hlocks := B.notSynchronized
  have hown : s.vm.findClass own = some m.cls := by rw [← hcl]; exact findClass_of_methodNamed B.named
  obtain ⟨ls, e1, e2⟩ := ent_eq (.ref (ad o) :: As) m maxL hlen
  rw [e1]
  refine body p e s m _ below meth c (fA (cX T ad ra M) s.heap.size) _ ls ⟨⟨B.exec, B.bytes, hml, hown, hts⟩, hK, hN⟩ ?_ ⟨ra, hP, hD0.self, va_S.rf, fun q h => Or.inr h⟩ e2
  intro r M1 H1 locs1 pc1 ls1 hq I hdg
  obtain ⟨ra1, I⟩ := I
  exact W.zret (v := r) B.exec B.bytes B.returns (isB_nar hq.1) (fun t ht hW => ⟨⟨r, M1, rfl, hq.2, ra1, by rw [ht]; exact I.1, I.2.1⟩, I.2.2.1.F ht⟩) I.2.2.1.2.2 hdg
theorem x_metL {own : String} {l : Launch} {D : va_G} {T ad ra : Nat → Nat} {o : Nat} {y : MethodName} {cc : ByteArray} {maxL : Nat} {rm : Room} {As : List Value} {M : Mem} {Qp : Int64 → Mem → Prop} (hy : plainName y.cls = true) (hcl : y.cls = own) (hlen : (lg_sl (.ref (ad o) :: As)).length ≤ maxL)
    (body : ∀ (p : Program) (e : Env) (s : State) (m : MethodId) (args : Array Value) (below : List Frame) (meth : Method) (c : Code) (A : Nat → Prop) (Qs : State → Prop) (ls : Array Slot), XC D T own p m c cc maxL s args → xExl p l e rm s m args below meth c cc D T ad A s.heap Qs Qp → XI D T ad A s.heap M s.heap [] → lv_has ls maxL (lv_args 0 (.ref (ad o) :: As)) → W p l e rm s m args below meth c s.heap [] 0 0 Qs (F0 m 0 ls [])) (sz : Nat) : Met l y (ws_ y cc maxL (some .long)) rm (xPc D T ad ra o As M sz) (xQl D T ad ra M Qp sz) 0 0 (fA (cX T ad ra M) sz) := by
  refine Met.ofW (cc := cc) (maxL := maxL) (ret := (some .long)) hy rfl ?_
  intro p e s m args below meth c s₁ B hml hv
  obtain ⟨rfl, hsz, hP, hK, hD0, hN⟩ := hv
  subst hsz
  have hts := atoms_spec (ws := ws_ y cc maxL (some .long)) B.pre
  have hts : ∀ w ∈ lw_all, w.before _ s = true := fun w h => hts w (List.mem_cons_of_mem _ h)
  have hlocks := B.notSynchronized
  have hown : s.vm.findClass own = some m.cls := by rw [← hcl]; exact findClass_of_methodNamed B.named
  obtain ⟨ls, e1, e2⟩ := ent_eq (.ref (ad o) :: As) m maxL hlen
  rw [e1]
  refine body p e s m _ below meth c (fA (cX T ad ra M) s.heap.size) _ ls ⟨⟨B.exec, B.bytes, hml, hown, hts⟩, hK, hN⟩ ?_ ⟨ra, hP, hD0.self, va_S.rf, fun q h => Or.inr h⟩ e2
  intro r M1 H1 locs1 pc1 ls1 hq I hdg
  obtain ⟨ra1, I⟩ := I
  exact W.lret (v := r) B.exec B.bytes B.returns (fun t ht hW => ⟨⟨r, M1, rfl, hq, ra1, by rw [ht]; exact I.1, I.2.1⟩, I.2.2.1.F ht⟩) I.2.2.1.2.2 hdg
theorem x_metV {own : String} {l : Launch} {D : va_G} {T ad ra : Nat → Nat} {o : Nat} {y : MethodName} {cc : ByteArray} {maxL : Nat} {rm : Room} {As : List Value} {M : Mem} {Qp : Mem → Prop} (hy : plainName y.cls = true) (hcl : y.cls = own) (hlen : (lg_sl (.ref (ad o) :: As)).length ≤ maxL)
    (body : ∀ (p : Program) (e : Env) (s : State) (m : MethodId) (args : Array Value) (below : List Frame) (meth : Method) (c : Code) (A : Nat → Prop) (Qs : State → Prop) (ls : Array Slot), XC D T own p m c cc maxL s args → xExv p l e rm s m args below meth c cc D T ad A s.heap Qs Qp → XI D T ad A s.heap M s.heap [] → lv_has ls maxL (lv_args 0 (.ref (ad o) :: As)) → W p l e rm s m args below meth c s.heap [] 0 0 Qs (F0 m 0 ls [])) (sz : Nat) : Met l y (ws_ y cc maxL none) rm (xPc D T ad ra o As M sz) (xQv D T ad ra M Qp sz) 0 0 (fA (cX T ad ra M) sz) := by
  refine Met.ofW (cc := cc) (maxL := maxL) (ret := none) hy rfl ?_
  intro p e s m args below meth c s₁ B hml hv
  obtain ⟨rfl, hsz, hP, hK, hD0, hN⟩ := hv
  subst hsz
  have hts := atoms_spec (ws := ws_ y cc maxL none) B.pre
  have hts : ∀ w ∈ lw_all, w.before _ s = true := fun w h => hts w (List.mem_cons_of_mem _ h)
  have hlocks := B.notSynchronized
  have hown : s.vm.findClass own = some m.cls := by rw [← hcl]; exact findClass_of_methodNamed B.named
  obtain ⟨ls, e1, e2⟩ := ent_eq (.ref (ad o) :: As) m maxL hlen
  rw [e1]
  refine body p e s m _ below meth c (fA (cX T ad ra M) s.heap.size) _ ls ⟨⟨B.exec, B.bytes, hml, hown, hts⟩, hK, hN⟩ ?_ ⟨ra, hP, hD0.self, va_S.rf, fun q h => Or.inr h⟩ e2
  intro M1 H1 locs1 pc1 ls1 hq I hdg
  obtain ⟨ra1, I⟩ := I
  exact W.vret B.exec B.bytes B.returns (fun t ht hW => ⟨⟨M1, rfl, hq, ra1, by rw [ht]; exact I.1, I.2.1⟩, I.2.2.1.F ht⟩) I.2.2.1.2.2 hdg
