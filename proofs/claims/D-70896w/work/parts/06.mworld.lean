/-! THE REFERENCE'S WORLD: one object, its arrays of ints; cell 0 the object, cell f+1 the array of field f -/
def TX1 : u_T := fun _ => ("QuestionRoad$Question", "", "I", false)
def TX2 : u_T := fun _ => ("QuestionRoad$Open", "", "I", false)
def TX3 : u_T := fun _ => ("QuestionRoad$Common", "", "I", false)
abbrev vwCl : List vw_C := [(RX0, TX0, 31), (RX1, TX1, 0), (RX2, TX2, 0), (RX3, TX3, 0), (RX4, TX4, 2), (RX5, TX5, 12), (RX6, TX6, 32)]
/-- the array types: int, int[], Carter, Question, Sheet, byte, short -/
abbrev tyL (T : Nat → ClassId) : List (ClassId × FieldType) := [(T 0, .int), (T 1, .array .int), (T 2, .object RX5), (T 3, .object RX1), (T 4, .object RX4), (T 5, .byte), (T 6, .short)]
def lenM (k : Nat) : Nat := ([0, 4, 4, 240, 60, 0, 112, 2, 0, 40, 0, 40, 8, 0, 16, 0, 64, 64, 8, 8, 8, 8, 8, 8, 1280, 8, 8, 0, 0, 0, 24, 120, 0] : List Nat).getD k 0
def objM (ad : Nat → Nat) (M : Mem) : List Value := [.ref (ad 1), .ref (ad 2), .ref (ad 3), .ref (ad 4), .int (M 0 4), .ref (ad 6), .ref (ad 7), .int (M 0 7), .ref (ad 9), .int (M 0 9), .ref (ad 11), .ref (ad 12), .int (M 0 12), .ref (ad 14), .int (M 0 14), .ref (ad 16), .ref (ad 17), .ref (ad 18), .ref (ad 19), .ref (ad 20), .ref (ad 21), .ref (ad 22), .ref (ad 23), .ref (ad 24), .ref (ad 25), .ref (ad 26), .int (M 0 26), .int (M 0 27), .int (M 0 28), .ref (ad 30), .ref (ad 31), .int (M 0 31)]
def cM (T ad : Nat → Nat) (M : Mem) : fC := fun k => if k = 0 then some (ad 0, .inr (6, objM ad M)) else if lenM k = 0 then none else some (ad k, .inl (T 0, lenM k, .inl (M k)))
theorem cM_0 (T ad : Nat → Nat) (M : Mem) : cM T ad M 0 = some (ad 0, .inr (6, objM ad M)) := rfl
theorem lenM_0 : lenM 0 = 0 := rfl
theorem cM_arr {T ad : Nat → Nat} {M : Mem} {k n : Nat} (hk : lenM k = n) (hn : n ≠ 0) : cM T ad M k = some (ad k, .inl (T 0, n, .inl (M k))) := by
  have h0 : k ≠ 0 := fun h => by subst h; exact hn (hk.symm.trans lenM_0)
  unfold cM
  rw [if_neg h0, hk, if_neg hn]
theorem cM_same {T ad : Nat → Nat} {M M' : Mem} {j : Nat} (h : M' j = M j) : cM T ad M' j = cM T ad M j := by
  unfold cM
  by_cases h0 : j = 0
  · subst h0
    rw [if_pos rfl, if_pos rfl]
    unfold objM
    rw [h]
  · rw [if_neg h0, if_neg h0, h]
theorem cM_fN (T ad : Nat → Nat) (M : Mem) : fN (cM T ad M) 33 := by
  intro k hk
  unfold cM
  rw [if_neg (by omega), if_pos]
  unfold lenM
  rw [List.getD_eq_getElem?_getD, List.getElem?_eq_none (by simpa using hk)]
  rfl
/-- what stays: the machine, the words, the classes -/
def MC (D : va_G) (T : Nat → Nat) (p : Program) (m : MethodId) (c : Code) (cc : ByteArray) (nL : Nat) (s : State) (args : Array Value) : Prop := CallFix p m c cc nL s args lw_all RX6 ∧ va_K D vwCl (tyL T) s
/-- the world in the course of a method -/
def MI (D : va_G) (T ad : Nat → Nat) (A : Nat → Prop) (H0 : Heap) (M : Mem) (H : Heap) (locs : List Loc) : Prop := fP D vwCl (cM T ad M) H ∧ fD A (cM T ad M) ∧ va_S A H0 H locs ∧ ∀ q, H0.size ≤ q → A q
def mPc (D : va_G) (T ad : Nat → Nat) (As : List Value) (M : Mem) (sz : Nat) : Array Value → State → Prop := va_Pc (.ref (ad 0) :: As) (fun U => U.heap.size = sz ∧ fP D vwCl (cM T ad M) U.heap ∧ va_K D vwCl (tyL T) U ∧ fD (fun _ => True) (cM T ad M))
def mB (D : va_G) (T ad : Nat → Nat) (M0 : Mem) (sz : Nat) (M1 : Mem) (t : State) : Prop := fP D vwCl (cM T ad M1) t.heap ∧ fD (fA (cM T ad M0) sz) (cM T ad M1)
def mQi (D : va_G) (T ad : Nat → Nat) (M0 : Mem) (Qp : Int32 → Mem → Prop) (sz : Nat) : Array Value → State → Outcome → State → Prop := va_Qi (S := Mem) Qp (mB D T ad M0 sz) (fA (cM T ad M0) sz)
def mQl (D : va_G) (T ad : Nat → Nat) (M0 : Mem) (Qp : Int64 → Mem → Prop) (sz : Nat) : Array Value → State → Outcome → State → Prop := va_Ql (S := Mem) Qp (mB D T ad M0 sz) (fA (cM T ad M0) sz)
def mQv (D : va_G) (T ad : Nat → Nat) (M0 : Mem) (Qp : Mem → Prop) (sz : Nat) : Array Value → State → Outcome → State → Prop := va_Qv (S := Mem) Qp (mB D T ad M0 sz) (fA (cM T ad M0) sz)
theorem mPc_blind (D : va_G) (T ad : Nat → Nat) (As : List Value) (M : Mem) (sz : Nat) : FrameBlind (mPc D T ad As M sz) := fun a U g mk q => by
  obtain ⟨q0, q1, qP, qK, qD⟩ := q
  exact ⟨q0, q1, qP, va_K.moved (u := U) (U := U.calling g mk a) (Vm.Alike.refl U.vm) qK, qD⟩
theorem MI.pure {D : va_G} {T ad : Nat → Nat} {A : Nat → Prop} {H0 H H1 : Heap} {M : Mem} {locs locs1 : List Loc} (h : MI D T ad A H0 M H locs) (hk : ∀ q : Nat, q < H.size → H1[q]? = H[q]?) (hS : va_S A H0 H1 locs1) : MI D T ad A H0 M H1 locs1 :=
  ⟨h.1.kept (fun _ _ hq => hk _ (h.1.lt hq)), h.2.1, hS, h.2.2.2⟩
section MR
variable {p : Program} {l : Launch} {e : Env} {R : Room} {s : State} {m : MethodId} {args : Array Value} {below : List Frame} {meth : Method} {c : Code} {H : Heap} {locs : List Loc} {cells slots : Nat} {Q : State → Prop}
variable {cc bytes : ByteArray} {pc nL maxL n idx : Nat} {ls : Array Slot} {rest st0 As : List Value} {A : Nat → Prop} {H0 : Heap} {y : MethodName} {rm : Room} {rt : Option FieldType} {D : va_G} {T ad : Nat → Nat} {M : Mem}
theorem m_iald (C : MC D T p m c cc nL s args) (I : MI D T ad A H0 M H locs) (k n : Nat) (hk : lenM k = n) (hn : n ≠ 0) {i : Int32} (hin : vp_in i n) (hdg : decode cc pc = .ok (.iaload, 1))
    (kk : W p l e R s m args below meth c H locs cells slots Q (F0 m (pc + 1) ls (.int (M k (ci i)) :: rest))) : W p l e R s m args below meth c H locs cells slots Q (F0 m pc ls (.int i :: .ref (ad k) :: rest)) :=
  f_iald C.1.1 C.1.2.1 C.2 I.1 0 (cM_arr hk hn) rfl hin hdg kk
theorem m_alen (C : MC D T p m c cc nL s args) (I : MI D T ad A H0 M H locs) (k n : Nat) (hk : lenM k = n) (hn : n ≠ 0) (hdg : decode cc pc = .ok (.arraylength, 1))
    (kk : W p l e R s m args below meth c H locs cells slots Q (F0 m (pc + 1) ls (.int (Int32.ofNat n) :: rest))) : W p l e R s m args below meth c H locs cells slots Q (F0 m pc ls (.ref (ad k) :: rest)) :=
  f_alen C.1.1 C.1.2.1 C.2 I.1 0 (cM_arr hk hn) rfl rfl hdg kk
theorem m_iast (C : MC D T p m c cc nL s args) (I : MI D T ad A H0 M H locs) (k n : Nat) (hk : lenM k = n) (hn : n ≠ 0) {i x : Int32} (hin : vp_in i n) (hdg : decode cc pc = .ok (.iastore, 1))
    (kk : ∀ (M1 : Mem) (H1 : Heap) (locs1 : List Loc), M1 = mset M k (ci i) x → MI D T ad A H0 M1 H1 locs1 → W p l e R s m args below meth c H1 locs1 cells slots Q (F0 m (pc + 1) ls rest)) : W p l e R s m args below meth c H locs cells slots Q (F0 m pc ls (.int x :: .int i :: .ref (ad k) :: rest)) := by
  refine f_iast (w' := cM T ad (mset M k (ci i) x)) C.1.1 C.1.2.1 C.2 (cM_fN T ad M) I.1 I.2.1 I.2.2.1 0 (cM_arr hk hn) rfl hin ?_ ?_ hdg (fun H1 locs1 hP hD hS => kk _ H1 locs1 rfl ⟨hP, hD, hS, I.2.2.2⟩)
  · rw [cM_arr hk hn, mset_same]
  · intro j hj
    exact cM_same (mset_ne M _ _ hj)
theorem m_get (C : MC D T p m c cc nL s args) (I : MI D T ad A H0 M H locs) (j : Nat) (hj : j < 32) (hl : Cond.fieldLink RX6 idx RX6 (TX6 j).2.1 (TX6 j).2.2.1 ∈ lw_all) (h1 : (TX6 j).1 = RX6) {v : Value} (hv : (objM ad M)[j]? = some v) (hdg : decode cc pc = .ok (.getfield idx, 3))
    (kk : W p l e R s m args below meth c H locs cells slots Q (F0 m (pc + 3) ls (v :: rest))) : W p l e R s m args below meth c H locs cells slots Q (F0 m pc ls (.ref (ad 0) :: rest)) :=
  f_get C.1.1 C.1.2.1 (C := RX6) (T := TX6) (N := 32) (ci := 6) C.1.2.2.2.2 in_X6 C.1.2.2.2.1 C.2 I.1 (cM_0 T ad M) rfl j hj (C.1.2.2.2.2 _ hl) (fun _ h => by rw [h1] at h; exact h) hv hdg kk
theorem m_put (C : MC D T p m c cc nL s args) (I : MI D T ad A H0 M H locs) (j : Nat) (hj : j < 32) (hl : Cond.fieldLink RX6 idx RX6 (TX6 j).2.1 (TX6 j).2.2.1 ∈ lw_all) (h1 : (TX6 j).1 = RX6) (hfin : (TX6 j).2.2.2 = false) (hd : parseFieldDescriptor (TX6 j).2.2.1 = some .int) {x : Int32} (he : objM ad (mset M 0 j x) = (objM ad M).set j (.int x)) (hdg : decode cc pc = .ok (.putfield idx, 3))
    (kk : ∀ (M1 : Mem) (H1 : Heap) (locs1 : List Loc), M1 = mset M 0 j x → MI D T ad A H0 M1 H1 locs1 → W p l e R s m args below meth c H1 locs1 cells slots Q (F0 m (pc + 3) ls rest)) : W p l e R s m args below meth c H locs cells slots Q (F0 m pc ls (.int x :: .ref (ad 0) :: rest)) := by
  refine f_put (w' := cM T ad (mset M 0 j x)) C.1.1 C.1.2.1 (C := RX6) (T := TX6) (Nf := 32) (ci := 6) C.1.2.2.2.2 in_X6 tyX6 tyX6_ok nmX6 C.1.2.2.2.1 C.2 (cM_fN T ad M) I.1 I.2.1 I.2.2.1 (cM_0 T ad M) rfl j hj (C.1.2.2.2.2 _ hl) (fun _ h => by rw [h1] at h; exact h) hfin hd rfl rfl (by show j < 32; exact hj) ?_ ?_ hdg (fun H1 locs1 hP hD hS => kk _ H1 locs1 rfl ⟨hP, hD, hS, I.2.2.2⟩)
  · rw [cM_0, he]
  · intro k hk
    exact cM_same (mset_ne M _ _ hk)

theorem mg_forms (C : MC D T p m c cc nL s args) (I : MI D T ad A H0 M H locs) (hdg : decode cc pc = .ok (.getfield 7, 3)) (kk : W p l e R s m args below meth c H locs cells slots Q (F0 m (pc + 3) ls (.ref (ad 1) :: rest))) : W p l e R s m args below meth c H locs cells slots Q (F0 m pc ls (.ref (ad 0) :: rest)) := m_get C I 0 (by decide) q912 rfl rfl hdg kk
theorem mg_sizes (C : MC D T p m c cc nL s args) (I : MI D T ad A H0 M H locs) (hdg : decode cc pc = .ok (.getfield 13, 3)) (kk : W p l e R s m args below meth c H locs cells slots Q (F0 m (pc + 3) ls (.ref (ad 2) :: rest))) : W p l e R s m args below meth c H locs cells slots Q (F0 m pc ls (.ref (ad 0) :: rest)) := m_get C I 1 (by decide) q913 rfl rfl hdg kk
theorem mg_items (C : MC D T p m c cc nL s args) (I : MI D T ad A H0 M H locs) (hdg : decode cc pc = .ok (.getfield 16, 3)) (kk : W p l e R s m args below meth c H locs cells slots Q (F0 m (pc + 3) ls (.ref (ad 3) :: rest))) : W p l e R s m args below meth c H locs cells slots Q (F0 m pc ls (.ref (ad 0) :: rest)) := m_get C I 2 (by decide) q914 rfl rfl hdg kk
theorem mg_moved (C : MC D T p m c cc nL s args) (I : MI D T ad A H0 M H locs) (hdg : decode cc pc = .ok (.getfield 19, 3)) (kk : W p l e R s m args below meth c H locs cells slots Q (F0 m (pc + 3) ls (.ref (ad 4) :: rest))) : W p l e R s m args below meth c H locs cells slots Q (F0 m pc ls (.ref (ad 0) :: rest)) := m_get C I 3 (by decide) q915 rfl rfl hdg kk
theorem mg_latest (C : MC D T p m c cc nL s args) (I : MI D T ad A H0 M H locs) (hdg : decode cc pc = .ok (.getfield 85, 3)) (kk : W p l e R s m args below meth c H locs cells slots Q (F0 m (pc + 3) ls (.int (M 0 4) :: rest))) : W p l e R s m args below meth c H locs cells slots Q (F0 m pc ls (.ref (ad 0) :: rest)) := m_get C I 4 (by decide) q916 rfl rfl hdg kk
theorem mp_latest (C : MC D T p m c cc nL s args) (I : MI D T ad A H0 M H locs) {x : Int32} (hdg : decode cc pc = .ok (.putfield 85, 3)) (kk : ∀ (M1 : Mem) (H1 : Heap) (locs1 : List Loc), M1 = mset M 0 4 x → MI D T ad A H0 M1 H1 locs1 → W p l e R s m args below meth c H1 locs1 cells slots Q (F0 m (pc + 3) ls rest)) : W p l e R s m args below meth c H locs cells slots Q (F0 m pc ls (.int x :: .ref (ad 0) :: rest)) := m_put C I 4 (by decide) q916 rfl rfl (tyX6_ok 4 (by decide)) rfl hdg kk
theorem mg_bytes (C : MC D T p m c cc nL s args) (I : MI D T ad A H0 M H locs) (hdg : decode cc pc = .ok (.getfield 22, 3)) (kk : W p l e R s m args below meth c H locs cells slots Q (F0 m (pc + 3) ls (.ref (ad 6) :: rest))) : W p l e R s m args below meth c H locs cells slots Q (F0 m pc ls (.ref (ad 0) :: rest)) := m_get C I 5 (by decide) q917 rfl rfl hdg kk
theorem mg_typed (C : MC D T p m c cc nL s args) (I : MI D T ad A H0 M H locs) (hdg : decode cc pc = .ok (.getfield 25, 3)) (kk : W p l e R s m args below meth c H locs cells slots Q (F0 m (pc + 3) ls (.ref (ad 7) :: rest))) : W p l e R s m args below meth c H locs cells slots Q (F0 m pc ls (.ref (ad 0) :: rest)) := m_get C I 6 (by decide) q918 rfl rfl hdg kk
theorem mg_ways (C : MC D T p m c cc nL s args) (I : MI D T ad A H0 M H locs) (hdg : decode cc pc = .ok (.getfield 127, 3)) (kk : W p l e R s m args below meth c H locs cells slots Q (F0 m (pc + 3) ls (.int (M 0 7) :: rest))) : W p l e R s m args below meth c H locs cells slots Q (F0 m pc ls (.ref (ad 0) :: rest)) := m_get C I 7 (by decide) q919 rfl rfl hdg kk
theorem mp_ways (C : MC D T p m c cc nL s args) (I : MI D T ad A H0 M H locs) {x : Int32} (hdg : decode cc pc = .ok (.putfield 127, 3)) (kk : ∀ (M1 : Mem) (H1 : Heap) (locs1 : List Loc), M1 = mset M 0 7 x → MI D T ad A H0 M1 H1 locs1 → W p l e R s m args below meth c H1 locs1 cells slots Q (F0 m (pc + 3) ls rest)) : W p l e R s m args below meth c H locs cells slots Q (F0 m pc ls (.int x :: .ref (ad 0) :: rest)) := m_put C I 7 (by decide) q919 rfl rfl (tyX6_ok 7 (by decide)) rfl hdg kk
theorem mg_way (C : MC D T p m c cc nL s args) (I : MI D T ad A H0 M H locs) (hdg : decode cc pc = .ok (.getfield 28, 3)) (kk : W p l e R s m args below meth c H locs cells slots Q (F0 m (pc + 3) ls (.ref (ad 9) :: rest))) : W p l e R s m args below meth c H locs cells slots Q (F0 m pc ls (.ref (ad 0) :: rest)) := m_get C I 8 (by decide) q920 rfl rfl hdg kk
theorem mg_carters (C : MC D T p m c cc nL s args) (I : MI D T ad A H0 M H locs) (hdg : decode cc pc = .ok (.getfield 133, 3)) (kk : W p l e R s m args below meth c H locs cells slots Q (F0 m (pc + 3) ls (.int (M 0 9) :: rest))) : W p l e R s m args below meth c H locs cells slots Q (F0 m pc ls (.ref (ad 0) :: rest)) := m_get C I 9 (by decide) q921 rfl rfl hdg kk
theorem mp_carters (C : MC D T p m c cc nL s args) (I : MI D T ad A H0 M H locs) {x : Int32} (hdg : decode cc pc = .ok (.putfield 133, 3)) (kk : ∀ (M1 : Mem) (H1 : Heap) (locs1 : List Loc), M1 = mset M 0 9 x → MI D T ad A H0 M1 H1 locs1 → W p l e R s m args below meth c H1 locs1 cells slots Q (F0 m (pc + 3) ls rest)) : W p l e R s m args below meth c H locs cells slots Q (F0 m pc ls (.int x :: .ref (ad 0) :: rest)) := m_put C I 9 (by decide) q921 rfl rfl (tyX6_ok 9 (by decide)) rfl hdg kk
theorem mg_carter (C : MC D T p m c cc nL s args) (I : MI D T ad A H0 M H locs) (hdg : decode cc pc = .ok (.getfield 31, 3)) (kk : W p l e R s m args below meth c H locs cells slots Q (F0 m (pc + 3) ls (.ref (ad 11) :: rest))) : W p l e R s m args below meth c H locs cells slots Q (F0 m pc ls (.ref (ad 0) :: rest)) := m_get C I 10 (by decide) q922 rfl rfl hdg kk
theorem mg_late (C : MC D T p m c cc nL s args) (I : MI D T ad A H0 M H locs) (hdg : decode cc pc = .ok (.getfield 34, 3)) (kk : W p l e R s m args below meth c H locs cells slots Q (F0 m (pc + 3) ls (.ref (ad 12) :: rest))) : W p l e R s m args below meth c H locs cells slots Q (F0 m pc ls (.ref (ad 0) :: rest)) := m_get C I 11 (by decide) q923 rfl rfl hdg kk
theorem mg_answers (C : MC D T p m c cc nL s args) (I : MI D T ad A H0 M H locs) (hdg : decode cc pc = .ok (.getfield 166, 3)) (kk : W p l e R s m args below meth c H locs cells slots Q (F0 m (pc + 3) ls (.int (M 0 12) :: rest))) : W p l e R s m args below meth c H locs cells slots Q (F0 m pc ls (.ref (ad 0) :: rest)) := m_get C I 12 (by decide) q924 rfl rfl hdg kk
theorem mp_answers (C : MC D T p m c cc nL s args) (I : MI D T ad A H0 M H locs) {x : Int32} (hdg : decode cc pc = .ok (.putfield 166, 3)) (kk : ∀ (M1 : Mem) (H1 : Heap) (locs1 : List Loc), M1 = mset M 0 12 x → MI D T ad A H0 M1 H1 locs1 → W p l e R s m args below meth c H1 locs1 cells slots Q (F0 m (pc + 3) ls rest)) : W p l e R s m args below meth c H locs cells slots Q (F0 m pc ls (.int x :: .ref (ad 0) :: rest)) := m_put C I 12 (by decide) q924 rfl rfl (tyX6_ok 12 (by decide)) rfl hdg kk
theorem mg_answer (C : MC D T p m c cc nL s args) (I : MI D T ad A H0 M H locs) (hdg : decode cc pc = .ok (.getfield 37, 3)) (kk : W p l e R s m args below meth c H locs cells slots Q (F0 m (pc + 3) ls (.ref (ad 14) :: rest))) : W p l e R s m args below meth c H locs cells slots Q (F0 m pc ls (.ref (ad 0) :: rest)) := m_get C I 13 (by decide) q925 rfl rfl hdg kk
theorem mg_gone (C : MC D T p m c cc nL s args) (I : MI D T ad A H0 M H locs) (hdg : decode cc pc = .ok (.getfield 174, 3)) (kk : W p l e R s m args below meth c H locs cells slots Q (F0 m (pc + 3) ls (.int (M 0 14) :: rest))) : W p l e R s m args below meth c H locs cells slots Q (F0 m pc ls (.ref (ad 0) :: rest)) := m_get C I 14 (by decide) q926 rfl rfl hdg kk
theorem mp_gone (C : MC D T p m c cc nL s args) (I : MI D T ad A H0 M H locs) {x : Int32} (hdg : decode cc pc = .ok (.putfield 174, 3)) (kk : ∀ (M1 : Mem) (H1 : Heap) (locs1 : List Loc), M1 = mset M 0 14 x → MI D T ad A H0 M1 H1 locs1 → W p l e R s m args below meth c H1 locs1 cells slots Q (F0 m (pc + 3) ls rest)) : W p l e R s m args below meth c H locs cells slots Q (F0 m pc ls (.int x :: .ref (ad 0) :: rest)) := m_put C I 14 (by decide) q926 rfl rfl (tyX6_ok 14 (by decide)) rfl hdg kk
theorem mg_step (C : MC D T p m c cc nL s args) (I : MI D T ad A H0 M H locs) (hdg : decode cc pc = .ok (.getfield 40, 3)) (kk : W p l e R s m args below meth c H locs cells slots Q (F0 m (pc + 3) ls (.ref (ad 16) :: rest))) : W p l e R s m args below meth c H locs cells slots Q (F0 m pc ls (.ref (ad 0) :: rest)) := m_get C I 15 (by decide) q927 rfl rfl hdg kk
theorem mg_far (C : MC D T p m c cc nL s args) (I : MI D T ad A H0 M H locs) (hdg : decode cc pc = .ok (.getfield 43, 3)) (kk : W p l e R s m args below meth c H locs cells slots Q (F0 m (pc + 3) ls (.ref (ad 17) :: rest))) : W p l e R s m args below meth c H locs cells slots Q (F0 m pc ls (.ref (ad 0) :: rest)) := m_get C I 16 (by decide) q928 rfl rfl hdg kk
theorem mg_state (C : MC D T p m c cc nL s args) (I : MI D T ad A H0 M H locs) (hdg : decode cc pc = .ok (.getfield 46, 3)) (kk : W p l e R s m args below meth c H locs cells slots Q (F0 m (pc + 3) ls (.ref (ad 18) :: rest))) : W p l e R s m args below meth c H locs cells slots Q (F0 m pc ls (.ref (ad 0) :: rest)) := m_get C I 17 (by decide) q929 rfl rfl hdg kk
theorem mg_place (C : MC D T p m c cc nL s args) (I : MI D T ad A H0 M H locs) (hdg : decode cc pc = .ok (.getfield 49, 3)) (kk : W p l e R s m args below meth c H locs cells slots Q (F0 m (pc + 3) ls (.ref (ad 19) :: rest))) : W p l e R s m args below meth c H locs cells slots Q (F0 m pc ls (.ref (ad 0) :: rest)) := m_get C I 18 (by decide) q930 rfl rfl hdg kk
theorem mg_strength (C : MC D T p m c cc nL s args) (I : MI D T ad A H0 M H locs) (hdg : decode cc pc = .ok (.getfield 52, 3)) (kk : W p l e R s m args below meth c H locs cells slots Q (F0 m (pc + 3) ls (.ref (ad 20) :: rest))) : W p l e R s m args below meth c H locs cells slots Q (F0 m pc ls (.ref (ad 0) :: rest)) := m_get C I 19 (by decide) q931 rfl rfl hdg kk
theorem mg_whither (C : MC D T p m c cc nL s args) (I : MI D T ad A H0 M H locs) (hdg : decode cc pc = .ok (.getfield 55, 3)) (kk : W p l e R s m args below meth c H locs cells slots Q (F0 m (pc + 3) ls (.ref (ad 21) :: rest))) : W p l e R s m args below meth c H locs cells slots Q (F0 m pc ls (.ref (ad 0) :: rest)) := m_get C I 20 (by decide) q932 rfl rfl hdg kk
theorem mg_arrives (C : MC D T p m c cc nL s args) (I : MI D T ad A H0 M H locs) (hdg : decode cc pc = .ok (.getfield 58, 3)) (kk : W p l e R s m args below meth c H locs cells slots Q (F0 m (pc + 3) ls (.ref (ad 22) :: rest))) : W p l e R s m args below meth c H locs cells slots Q (F0 m pc ls (.ref (ad 0) :: rest)) := m_get C I 21 (by decide) q933 rfl rfl hdg kk
theorem mg_ends (C : MC D T p m c cc nL s args) (I : MI D T ad A H0 M H locs) (hdg : decode cc pc = .ok (.getfield 61, 3)) (kk : W p l e R s m args below meth c H locs cells slots Q (F0 m (pc + 3) ls (.ref (ad 23) :: rest))) : W p l e R s m args below meth c H locs cells slots Q (F0 m pc ls (.ref (ad 0) :: rest)) := m_get C I 22 (by decide) q934 rfl rfl hdg kk
theorem mg_kept (C : MC D T p m c cc nL s args) (I : MI D T ad A H0 M H locs) (hdg : decode cc pc = .ok (.getfield 64, 3)) (kk : W p l e R s m args below meth c H locs cells slots Q (F0 m (pc + 3) ls (.ref (ad 24) :: rest))) : W p l e R s m args below meth c H locs cells slots Q (F0 m pc ls (.ref (ad 0) :: rest)) := m_get C I 23 (by decide) q935 rfl rfl hdg kk
theorem mg_present (C : MC D T p m c cc nL s args) (I : MI D T ad A H0 M H locs) (hdg : decode cc pc = .ok (.getfield 67, 3)) (kk : W p l e R s m args below meth c H locs cells slots Q (F0 m (pc + 3) ls (.ref (ad 25) :: rest))) : W p l e R s m args below meth c H locs cells slots Q (F0 m pc ls (.ref (ad 0) :: rest)) := m_get C I 24 (by decide) q936 rfl rfl hdg kk
theorem mg_arrivals (C : MC D T p m c cc nL s args) (I : MI D T ad A H0 M H locs) (hdg : decode cc pc = .ok (.getfield 70, 3)) (kk : W p l e R s m args below meth c H locs cells slots Q (F0 m (pc + 3) ls (.ref (ad 26) :: rest))) : W p l e R s m args below meth c H locs cells slots Q (F0 m pc ls (.ref (ad 0) :: rest)) := m_get C I 25 (by decide) q937 rfl rfl hdg kk
theorem mg_metOn (C : MC D T p m c cc nL s args) (I : MI D T ad A H0 M H locs) (hdg : decode cc pc = .ok (.getfield 195, 3)) (kk : W p l e R s m args below meth c H locs cells slots Q (F0 m (pc + 3) ls (.int (M 0 26) :: rest))) : W p l e R s m args below meth c H locs cells slots Q (F0 m pc ls (.ref (ad 0) :: rest)) := m_get C I 26 (by decide) q938 rfl rfl hdg kk
theorem mp_metOn (C : MC D T p m c cc nL s args) (I : MI D T ad A H0 M H locs) {x : Int32} (hdg : decode cc pc = .ok (.putfield 195, 3)) (kk : ∀ (M1 : Mem) (H1 : Heap) (locs1 : List Loc), M1 = mset M 0 26 x → MI D T ad A H0 M1 H1 locs1 → W p l e R s m args below meth c H1 locs1 cells slots Q (F0 m (pc + 3) ls rest)) : W p l e R s m args below meth c H locs cells slots Q (F0 m pc ls (.int x :: .ref (ad 0) :: rest)) := m_put C I 26 (by decide) q938 rfl rfl (tyX6_ok 26 (by decide)) rfl hdg kk
theorem mg_metAt (C : MC D T p m c cc nL s args) (I : MI D T ad A H0 M H locs) (hdg : decode cc pc = .ok (.getfield 198, 3)) (kk : W p l e R s m args below meth c H locs cells slots Q (F0 m (pc + 3) ls (.int (M 0 27) :: rest))) : W p l e R s m args below meth c H locs cells slots Q (F0 m pc ls (.ref (ad 0) :: rest)) := m_get C I 27 (by decide) q939 rfl rfl hdg kk
theorem mp_metAt (C : MC D T p m c cc nL s args) (I : MI D T ad A H0 M H locs) {x : Int32} (hdg : decode cc pc = .ok (.putfield 198, 3)) (kk : ∀ (M1 : Mem) (H1 : Heap) (locs1 : List Loc), M1 = mset M 0 27 x → MI D T ad A H0 M1 H1 locs1 → W p l e R s m args below meth c H1 locs1 cells slots Q (F0 m (pc + 3) ls rest)) : W p l e R s m args below meth c H locs cells slots Q (F0 m pc ls (.int x :: .ref (ad 0) :: rest)) := m_put C I 27 (by decide) q939 rfl rfl (tyX6_ok 27 (by decide)) rfl hdg kk
theorem mg_sights (C : MC D T p m c cc nL s args) (I : MI D T ad A H0 M H locs) (hdg : decode cc pc = .ok (.getfield 258, 3)) (kk : W p l e R s m args below meth c H locs cells slots Q (F0 m (pc + 3) ls (.int (M 0 28) :: rest))) : W p l e R s m args below meth c H locs cells slots Q (F0 m pc ls (.ref (ad 0) :: rest)) := m_get C I 28 (by decide) q940 rfl rfl hdg kk
theorem mp_sights (C : MC D T p m c cc nL s args) (I : MI D T ad A H0 M H locs) {x : Int32} (hdg : decode cc pc = .ok (.putfield 258, 3)) (kk : ∀ (M1 : Mem) (H1 : Heap) (locs1 : List Loc), M1 = mset M 0 28 x → MI D T ad A H0 M1 H1 locs1 → W p l e R s m args below meth c H1 locs1 cells slots Q (F0 m (pc + 3) ls rest)) : W p l e R s m args below meth c H locs cells slots Q (F0 m pc ls (.int x :: .ref (ad 0) :: rest)) := m_put C I 28 (by decide) q940 rfl rfl (tyX6_ok 28 (by decide)) rfl hdg kk
theorem mg_sight (C : MC D T p m c cc nL s args) (I : MI D T ad A H0 M H locs) (hdg : decode cc pc = .ok (.getfield 73, 3)) (kk : W p l e R s m args below meth c H locs cells slots Q (F0 m (pc + 3) ls (.ref (ad 30) :: rest))) : W p l e R s m args below meth c H locs cells slots Q (F0 m pc ls (.ref (ad 0) :: rest)) := m_get C I 29 (by decide) q941 rfl rfl hdg kk
theorem mg_places (C : MC D T p m c cc nL s args) (I : MI D T ad A H0 M H locs) (hdg : decode cc pc = .ok (.getfield 76, 3)) (kk : W p l e R s m args below meth c H locs cells slots Q (F0 m (pc + 3) ls (.ref (ad 31) :: rest))) : W p l e R s m args below meth c H locs cells slots Q (F0 m pc ls (.ref (ad 0) :: rest)) := m_get C I 30 (by decide) q942 rfl rfl hdg kk
theorem mg_drawn (C : MC D T p m c cc nL s args) (I : MI D T ad A H0 M H locs) (hdg : decode cc pc = .ok (.getfield 295, 3)) (kk : W p l e R s m args below meth c H locs cells slots Q (F0 m (pc + 3) ls (.int (M 0 31) :: rest))) : W p l e R s m args below meth c H locs cells slots Q (F0 m pc ls (.ref (ad 0) :: rest)) := m_get C I 31 (by decide) q943 rfl rfl hdg kk
theorem mp_drawn (C : MC D T p m c cc nL s args) (I : MI D T ad A H0 M H locs) {x : Int32} (hdg : decode cc pc = .ok (.putfield 295, 3)) (kk : ∀ (M1 : Mem) (H1 : Heap) (locs1 : List Loc), M1 = mset M 0 31 x → MI D T ad A H0 M1 H1 locs1 → W p l e R s m args below meth c H1 locs1 cells slots Q (F0 m (pc + 3) ls rest)) : W p l e R s m args below meth c H locs cells slots Q (F0 m pc ls (.int x :: .ref (ad 0) :: rest)) := m_put C I 31 (by decide) q943 rfl rfl (tyX6_ok 31 (by decide)) rfl hdg kk
theorem m_calli {Qp : Int32 → Mem → Prop} (C : MC D T p m c cc nL s args) (I : MI D T ad A H0 M H locs) (hM : ∀ sz, Met l y (ws_ y bytes maxL rt) rm (mPc D T ad As M sz) (mQi D T ad M Qp sz) 0 0 (fA (cM T ad M) sz)) (cw : CallW R s args RX6 RX6 idx y bytes maxL rt (ws_ y bytes maxL rt) rm 0 0 n) (hn : As.length = n) (hls : ls.size = nL) (hst : st0 = As.reverse ++ .ref (ad 0) :: rest) (hr : (rest.map fun v => v.category).sum ≤ 8) (hcs : cells ≤ R.cells ∧ slots ≤ R.slots) (hdg : decode cc pc = .ok (.invokevirtual idx, 3))
    (kk : ∀ (r : Int32) (M1 : Mem) (H1 : Heap) (locs1 : List Loc), Qp r M1 → MI D T ad A H0 M1 H1 locs1 → W p l e R s m args below meth c H1 locs1 cells slots Q (F0 m (pc + 3) ls (.int r :: rest))) : W p l e R s m args below meth c H locs cells slots Q (F0 m pc ls st0) := by
  subst hst
  have hF := fA.in I.2.1 I.2.2.1 I.2.2.2
  have hrec : ∃ cell : Cell, H[ad 0]? = some cell ∧ cell.vm.isStatics = false ∧ s.vm.findClass RX6 = some cell.cls := va_recv C.2 (I.1.one (cM_0 T ad M)) (ci := 6) (q0 := 0) rfl rfl
  exact va_calli (A0 := A) (A1 := fA (cM T ad M) H.size) (va_runV (rest := rest) C.1 (hM H.size) cw ⟨mPc_blind D T ad As M H.size, hrec, fun U hU hW => ⟨rfl, congrArg Array.size hU, by rw [hU]; exact I.1, va_K.moved hW.alike C.2, I.2.1.weaken (fun _ _ _ _ => trivial)⟩⟩ rfl hn hls rfl (lv_room hr) hdg hcs) I.2.2.1 (fun q _ h => hF q h) hF (fun r u t H1 locs1 ht hvm hw hB hz hk hS1 => kk r u H1 locs1 hw ⟨by rw [← ht]; exact hB.1, hB.2.weaken (fun _ _ _ h => hF _ h), hS1, I.2.2.2⟩)
theorem m_calll {Qp : Int64 → Mem → Prop} (C : MC D T p m c cc nL s args) (I : MI D T ad A H0 M H locs) (hM : ∀ sz, Met l y (ws_ y bytes maxL rt) rm (mPc D T ad As M sz) (mQl D T ad M Qp sz) 0 0 (fA (cM T ad M) sz)) (cw : CallW R s args RX6 RX6 idx y bytes maxL rt (ws_ y bytes maxL rt) rm 0 0 n) (hn : As.length = n) (hls : ls.size = nL) (hst : st0 = As.reverse ++ .ref (ad 0) :: rest) (hr : (rest.map fun v => v.category).sum ≤ 8) (hcs : cells ≤ R.cells ∧ slots ≤ R.slots) (hdg : decode cc pc = .ok (.invokevirtual idx, 3))
    (kk : ∀ (r : Int64) (M1 : Mem) (H1 : Heap) (locs1 : List Loc), Qp r M1 → MI D T ad A H0 M1 H1 locs1 → W p l e R s m args below meth c H1 locs1 cells slots Q (F0 m (pc + 3) ls (.long r :: rest))) : W p l e R s m args below meth c H locs cells slots Q (F0 m pc ls st0) := by
  subst hst
  have hF := fA.in I.2.1 I.2.2.1 I.2.2.2
  have hrec : ∃ cell : Cell, H[ad 0]? = some cell ∧ cell.vm.isStatics = false ∧ s.vm.findClass RX6 = some cell.cls := va_recv C.2 (I.1.one (cM_0 T ad M)) (ci := 6) (q0 := 0) rfl rfl
  exact va_calll (A0 := A) (A1 := fA (cM T ad M) H.size) (va_runV (rest := rest) C.1 (hM H.size) cw ⟨mPc_blind D T ad As M H.size, hrec, fun U hU hW => ⟨rfl, congrArg Array.size hU, by rw [hU]; exact I.1, va_K.moved hW.alike C.2, I.2.1.weaken (fun _ _ _ _ => trivial)⟩⟩ rfl hn hls rfl (lv_room hr) hdg hcs) I.2.2.1 (fun q _ h => hF q h) hF (fun r u t H1 locs1 ht hvm hw hB hz hk hS1 => kk r u H1 locs1 hw ⟨by rw [← ht]; exact hB.1, hB.2.weaken (fun _ _ _ h => hF _ h), hS1, I.2.2.2⟩)
theorem m_callv {Qp : Mem → Prop} (C : MC D T p m c cc nL s args) (I : MI D T ad A H0 M H locs) (hM : ∀ sz, Met l y (ws_ y bytes maxL rt) rm (mPc D T ad As M sz) (mQv D T ad M Qp sz) 0 0 (fA (cM T ad M) sz)) (cw : CallW R s args RX6 RX6 idx y bytes maxL rt (ws_ y bytes maxL rt) rm 0 0 n) (hn : As.length = n) (hls : ls.size = nL) (hst : st0 = As.reverse ++ .ref (ad 0) :: rest) (hr : (rest.map fun v => v.category).sum ≤ 8) (hcs : cells ≤ R.cells ∧ slots ≤ R.slots) (hdg : decode cc pc = .ok (.invokevirtual idx, 3))
    (kk : ∀ (M1 : Mem) (H1 : Heap) (locs1 : List Loc), Qp M1 → MI D T ad A H0 M1 H1 locs1 → W p l e R s m args below meth c H1 locs1 cells slots Q (F0 m (pc + 3) ls rest)) : W p l e R s m args below meth c H locs cells slots Q (F0 m pc ls st0) := by
  subst hst
  have hF := fA.in I.2.1 I.2.2.1 I.2.2.2
  have hrec : ∃ cell : Cell, H[ad 0]? = some cell ∧ cell.vm.isStatics = false ∧ s.vm.findClass RX6 = some cell.cls := va_recv C.2 (I.1.one (cM_0 T ad M)) (ci := 6) (q0 := 0) rfl rfl
  exact va_callv (A0 := A) (A1 := fA (cM T ad M) H.size) (va_runV (rest := rest) C.1 (hM H.size) cw ⟨mPc_blind D T ad As M H.size, hrec, fun U hU hW => ⟨rfl, congrArg Array.size hU, by rw [hU]; exact I.1, va_K.moved hW.alike C.2, I.2.1.weaken (fun _ _ _ _ => trivial)⟩⟩ rfl hn hls rfl (lv_room hr) hdg hcs) I.2.2.1 (fun q _ h => hF q h) hF (fun u t H1 locs1 ht hvm hw hB hz hk hS1 => kk u H1 locs1 hw ⟨by rw [← ht]; exact hB.1, hB.2.weaken (fun _ _ _ h => hF _ h), hS1, I.2.2.2⟩)
theorem m_purei {Qp : Int32 → Prop} (C : MC D T p m c cc nL s args) (I : MI D T ad A H0 M H locs) (hM : ∀ sz, Met l y (ws_ y bytes maxL rt) rm (pPc As sz) (pQi Qp sz) 0 0 (pA sz)) (cw : CallB R s args RX6 idx y bytes maxL rt (ws_ y bytes maxL rt) rm 0 0 n ∧ (Cond.static y).before args s = true) (hn : As.length = n) (hls : ls.size = nL) (hst : st0 = As.reverse ++ rest) (hr : (rest.map fun v => v.category).sum ≤ 8) (hcs : cells ≤ R.cells ∧ slots ≤ R.slots) (hdg : decode cc pc = .ok (.invokestatic idx, 3))
    (kk : ∀ (r : Int32) (H1 : Heap) (locs1 : List Loc), Qp r → MI D T ad A H0 M H1 locs1 → W p l e R s m args below meth c H1 locs1 cells slots Q (F0 m (pc + 3) ls (.int r :: rest))) : W p l e R s m args below meth c H locs cells slots Q (F0 m pc ls st0) :=
  p_calli C.1 I.2.2.1 I.2.2.2 hM cw hn hls hst hr hcs hdg (fun r H1 locs1 hq hk hS => kk r H1 locs1 hq (I.pure hk hS))
theorem m_purel {Qp : Int64 → Prop} (C : MC D T p m c cc nL s args) (I : MI D T ad A H0 M H locs) (hM : ∀ sz, Met l y (ws_ y bytes maxL rt) rm (pPc As sz) (pQl Qp sz) 0 0 (pA sz)) (cw : CallB R s args RX6 idx y bytes maxL rt (ws_ y bytes maxL rt) rm 0 0 n ∧ (Cond.static y).before args s = true) (hn : As.length = n) (hls : ls.size = nL) (hst : st0 = As.reverse ++ rest) (hr : (rest.map fun v => v.category).sum ≤ 8) (hcs : cells ≤ R.cells ∧ slots ≤ R.slots) (hdg : decode cc pc = .ok (.invokestatic idx, 3))
    (kk : ∀ (r : Int64) (H1 : Heap) (locs1 : List Loc), Qp r → MI D T ad A H0 M H1 locs1 → W p l e R s m args below meth c H1 locs1 cells slots Q (F0 m (pc + 3) ls (.long r :: rest))) : W p l e R s m args below meth c H locs cells slots Q (F0 m pc ls st0) :=
  p_calll C.1 I.2.2.1 I.2.2.2 hM cw hn hls hst hr hcs hdg (fun r H1 locs1 hq hk hS => kk r H1 locs1 hq (I.pure hk hS))
end MR
def mExi (p : Program) (l : Launch) (e : Env) (R : Room) (s : State) (m : MethodId) (args : Array Value) (below : List Frame) (meth : Method) (c : Code) (cc : ByteArray) (D : va_G) (T ad : Nat → Nat) (A : Nat → Prop) (H0 : Heap) (Qs : State → Prop) (Qp : Int32 → Mem → Prop) : Prop := ∀ (r : Int32) (M1 : Mem) (H1 : Heap) (locs1 : List Loc) (pc1 : Nat) (ls1 : Array Slot), Qp r M1 → MI D T ad A H0 M1 H1 locs1 → decode cc pc1 = .ok (.ireturn, 1) → W p l e R s m args below meth c H1 locs1 0 0 Qs (F0 m pc1 ls1 [.int r])
def mExl (p : Program) (l : Launch) (e : Env) (R : Room) (s : State) (m : MethodId) (args : Array Value) (below : List Frame) (meth : Method) (c : Code) (cc : ByteArray) (D : va_G) (T ad : Nat → Nat) (A : Nat → Prop) (H0 : Heap) (Qs : State → Prop) (Qp : Int64 → Mem → Prop) : Prop := ∀ (r : Int64) (M1 : Mem) (H1 : Heap) (locs1 : List Loc) (pc1 : Nat) (ls1 : Array Slot), Qp r M1 → MI D T ad A H0 M1 H1 locs1 → decode cc pc1 = .ok (.lreturn, 1) → W p l e R s m args below meth c H1 locs1 0 0 Qs (F0 m pc1 ls1 [.long r])
def mExv (p : Program) (l : Launch) (e : Env) (R : Room) (s : State) (m : MethodId) (args : Array Value) (below : List Frame) (meth : Method) (c : Code) (cc : ByteArray) (D : va_G) (T ad : Nat → Nat) (A : Nat → Prop) (H0 : Heap) (Qs : State → Prop) (Qp : Mem → Prop) : Prop := ∀ (M1 : Mem) (H1 : Heap) (locs1 : List Loc) (pc1 : Nat) (ls1 : Array Slot), Qp M1 → MI D T ad A H0 M1 H1 locs1 → decode cc pc1 = .ok (.return_, 1) → W p l e R s m args below meth c H1 locs1 0 0 Qs (F0 m pc1 ls1 [])
theorem m_metI {l : Launch} {D : va_G} {T ad : Nat → Nat} {y : MethodName} {cc : ByteArray} {maxL : Nat} {rm : Room} {As : List Value} {M : Mem} {Qp : Int32 → Mem → Prop} (hy : plainName y.cls = true) (hcl : y.cls = RX6) (hlen : (lg_sl (.ref (ad 0) :: As)).length ≤ maxL)
    (body : ∀ (p : Program) (e : Env) (s : State) (m : MethodId) (args : Array Value) (below : List Frame) (meth : Method) (c : Code) (A : Nat → Prop) (Qs : State → Prop) (ls : Array Slot), MC D T p m c cc maxL s args → mExi p l e rm s m args below meth c cc D T ad A s.heap Qs Qp → MI D T ad A s.heap M s.heap [] → lv_has ls maxL (lv_args 0 (.ref (ad 0) :: As)) → W p l e rm s m args below meth c s.heap [] 0 0 Qs (F0 m 0 ls [])) (sz : Nat) : Met l y (ws_ y cc maxL (some .int)) rm (mPc D T ad As M sz) (mQi D T ad M Qp sz) 0 0 (fA (cM T ad M) sz) := by
  refine Met.ofW (cc := cc) (maxL := maxL) (ret := (some .int)) hy rfl ?_
  intro p e s m args below meth c s₁ B hml hv
  obtain ⟨rfl, hsz, hP, hK, hD0⟩ := hv
  subst hsz
  have hts := atoms_spec (ws := ws_ y cc maxL (some .int)) B.pre
  have hts : ∀ w ∈ lw_all, w.before _ s = true := fun w h => hts w (List.mem_cons_of_mem _ h)
  have hlocks := B.notSynchronized
  have hown : s.vm.findClass RX6 = some m.cls := by rw [← hcl]; exact findClass_of_methodNamed B.named
  obtain ⟨ls, e1, e2⟩ := ent_eq (.ref (ad 0) :: As) m maxL hlen
  rw [e1]
  refine body p e s m _ below meth c (fA (cM T ad M) s.heap.size) _ ls ⟨⟨B.exec, B.bytes, hml, hown, hts⟩, hK⟩ ?_ ⟨hP, hD0.self, va_S.rf, fun q h => Or.inr h⟩ e2
  intro r M1 H1 locs1 pc1 ls1 hq I hdg
  exact W.iret (v := r) B.exec B.bytes B.returns (fun t ht hW => ⟨⟨r, M1, rfl, hq, by rw [ht]; exact I.1, I.2.1⟩, I.2.2.1.F ht⟩) I.2.2.1.2.2 hdg
theorem m_metZ {l : Launch} {D : va_G} {T ad : Nat → Nat} {y : MethodName} {cc : ByteArray} {maxL : Nat} {rm : Room} {As : List Value} {M : Mem} {Qp : Int32 → Mem → Prop} (hy : plainName y.cls = true) (hcl : y.cls = RX6) (hlen : (lg_sl (.ref (ad 0) :: As)).length ≤ maxL)
    (body : ∀ (p : Program) (e : Env) (s : State) (m : MethodId) (args : Array Value) (below : List Frame) (meth : Method) (c : Code) (A : Nat → Prop) (Qs : State → Prop) (ls : Array Slot), MC D T p m c cc maxL s args → mExi p l e rm s m args below meth c cc D T ad A s.heap Qs (fun r M1 => isB r ∧ Qp r M1) → MI D T ad A s.heap M s.heap [] → lv_has ls maxL (lv_args 0 (.ref (ad 0) :: As)) → W p l e rm s m args below meth c s.heap [] 0 0 Qs (F0 m 0 ls [])) (sz : Nat) : Met l y (ws_ y cc maxL (some .boolean)) rm (mPc D T ad As M sz) (mQi D T ad M Qp sz) 0 0 (fA (cM T ad M) sz) := by
  refine Met.ofW (cc := cc) (maxL := maxL) (ret := (some .boolean)) hy rfl ?_
  intro p e s m args below meth c s₁ B hml hv
  obtain ⟨rfl, hsz, hP, hK, hD0⟩ := hv
  subst hsz
  have hts := atoms_spec (ws := ws_ y cc maxL (some .boolean)) B.pre
  have hts : ∀ w ∈ lw_all, w.before _ s = true := fun w h => hts w (List.mem_cons_of_mem _ h)
  have hlocks := B.notSynchronized
  have hown : s.vm.findClass RX6 = some m.cls := by rw [← hcl]; exact findClass_of_methodNamed B.named
  obtain ⟨ls, e1, e2⟩ := ent_eq (.ref (ad 0) :: As) m maxL hlen
  rw [e1]
  refine body p e s m _ below meth c (fA (cM T ad M) s.heap.size) _ ls ⟨⟨B.exec, B.bytes, hml, hown, hts⟩, hK⟩ ?_ ⟨hP, hD0.self, va_S.rf, fun q h => Or.inr h⟩ e2
  intro r M1 H1 locs1 pc1 ls1 hq I hdg
  exact W.zret (v := r) B.exec B.bytes B.returns (isB_nar hq.1) (fun t ht hW => ⟨⟨r, M1, rfl, hq.2, by rw [ht]; exact I.1, I.2.1⟩, I.2.2.1.F ht⟩) I.2.2.1.2.2 hdg
theorem m_metL {l : Launch} {D : va_G} {T ad : Nat → Nat} {y : MethodName} {cc : ByteArray} {maxL : Nat} {rm : Room} {As : List Value} {M : Mem} {Qp : Int64 → Mem → Prop} (hy : plainName y.cls = true) (hcl : y.cls = RX6) (hlen : (lg_sl (.ref (ad 0) :: As)).length ≤ maxL)
    (body : ∀ (p : Program) (e : Env) (s : State) (m : MethodId) (args : Array Value) (below : List Frame) (meth : Method) (c : Code) (A : Nat → Prop) (Qs : State → Prop) (ls : Array Slot), MC D T p m c cc maxL s args → mExl p l e rm s m args below meth c cc D T ad A s.heap Qs Qp → MI D T ad A s.heap M s.heap [] → lv_has ls maxL (lv_args 0 (.ref (ad 0) :: As)) → W p l e rm s m args below meth c s.heap [] 0 0 Qs (F0 m 0 ls [])) (sz : Nat) : Met l y (ws_ y cc maxL (some .long)) rm (mPc D T ad As M sz) (mQl D T ad M Qp sz) 0 0 (fA (cM T ad M) sz) := by
  refine Met.ofW (cc := cc) (maxL := maxL) (ret := (some .long)) hy rfl ?_
  intro p e s m args below meth c s₁ B hml hv
  obtain ⟨rfl, hsz, hP, hK, hD0⟩ := hv
  subst hsz
  have hts := atoms_spec (ws := ws_ y cc maxL (some .long)) B.pre
  have hts : ∀ w ∈ lw_all, w.before _ s = true := fun w h => hts w (List.mem_cons_of_mem _ h)
  have hlocks := B.notSynchronized
  have hown : s.vm.findClass RX6 = some m.cls := by rw [← hcl]; exact findClass_of_methodNamed B.named
  obtain ⟨ls, e1, e2⟩ := ent_eq (.ref (ad 0) :: As) m maxL hlen
  rw [e1]
  refine body p e s m _ below meth c (fA (cM T ad M) s.heap.size) _ ls ⟨⟨B.exec, B.bytes, hml, hown, hts⟩, hK⟩ ?_ ⟨hP, hD0.self, va_S.rf, fun q h => Or.inr h⟩ e2
  intro r M1 H1 locs1 pc1 ls1 hq I hdg
  exact W.lret (v := r) B.exec B.bytes B.returns (fun t ht hW => ⟨⟨r, M1, rfl, hq, by rw [ht]; exact I.1, I.2.1⟩, I.2.2.1.F ht⟩) I.2.2.1.2.2 hdg
theorem m_metV {l : Launch} {D : va_G} {T ad : Nat → Nat} {y : MethodName} {cc : ByteArray} {maxL : Nat} {rm : Room} {As : List Value} {M : Mem} {Qp : Mem → Prop} (hy : plainName y.cls = true) (hcl : y.cls = RX6) (hlen : (lg_sl (.ref (ad 0) :: As)).length ≤ maxL)
    (body : ∀ (p : Program) (e : Env) (s : State) (m : MethodId) (args : Array Value) (below : List Frame) (meth : Method) (c : Code) (A : Nat → Prop) (Qs : State → Prop) (ls : Array Slot), MC D T p m c cc maxL s args → mExv p l e rm s m args below meth c cc D T ad A s.heap Qs Qp → MI D T ad A s.heap M s.heap [] → lv_has ls maxL (lv_args 0 (.ref (ad 0) :: As)) → W p l e rm s m args below meth c s.heap [] 0 0 Qs (F0 m 0 ls [])) (sz : Nat) : Met l y (ws_ y cc maxL none) rm (mPc D T ad As M sz) (mQv D T ad M Qp sz) 0 0 (fA (cM T ad M) sz) := by
  refine Met.ofW (cc := cc) (maxL := maxL) (ret := none) hy rfl ?_
  intro p e s m args below meth c s₁ B hml hv
  obtain ⟨rfl, hsz, hP, hK, hD0⟩ := hv
  subst hsz
  have hts := atoms_spec (ws := ws_ y cc maxL none) B.pre
  have hts : ∀ w ∈ lw_all, w.before _ s = true := fun w h => hts w (List.mem_cons_of_mem _ h)
  have hlocks := B.notSynchronized
  have hown : s.vm.findClass RX6 = some m.cls := by rw [← hcl]; exact findClass_of_methodNamed B.named
  obtain ⟨ls, e1, e2⟩ := ent_eq (.ref (ad 0) :: As) m maxL hlen
  rw [e1]
  refine body p e s m _ below meth c (fA (cM T ad M) s.heap.size) _ ls ⟨⟨B.exec, B.bytes, hml, hown, hts⟩, hK⟩ ?_ ⟨hP, hD0.self, va_S.rf, fun q h => Or.inr h⟩ e2
  intro M1 H1 locs1 pc1 ls1 hq I hdg
  exact W.vret B.exec B.bytes B.returns (fun t ht hW => ⟨⟨M1, rfl, hq, by rw [ht]; exact I.1, I.2.1⟩, I.2.2.1.F ht⟩) I.2.2.1.2.2 hdg
