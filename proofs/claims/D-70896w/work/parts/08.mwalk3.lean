/-! the reference: walks, printed by gen.py -/
/-! busiest -/
abbrev rX6_busiest : Room := { frames := 6, cells := 0, slots := 0, locals := 137 }
theorem cw6_232 {R : Room} {s : State} {args : Array Value} (hts : ∀ w ∈ lw_all, w.before args s = true) (hR : rX6_busiestNow.frames + 1 ≤ R.frames ∧ 8 + (4 + 11) + rX6_busiestNow.locals ≤ R.locals) : CallW R s args RX6 RX6 232 yX6_busiestNow cX6_busiestNow 4 (some .int) (ws_ yX6_busiestNow cX6_busiestNow 4 (some .int)) rX6_busiestNow 0 0 0 := cwV 0 hts (lw_V q1214 q1216 qs69 q95 q1217) rfl rfl rfl (by decide +kernel) hR
theorem t6_busiest {p : Program} {l : Launch} {e : Env} {s : State} {m : MethodId} {args : Array Value} {below : List Frame} {meth : Method} {c : Code} {D : va_G} {T ad : Nat → Nat} {A : Nat → Prop} {H0 : Heap} {Qs : State → Prop} {Q : Int32 → Mem → Prop} (C : MC D T p m c cX6_busiest 1 s args) (hQ : mExi p l e rX6_busiest s m args below meth c cX6_busiest D T ad A H0 Qs Q)  (M : Mem) (H : Heap) (locs : List Loc) (ls : Array Slot) (h : w6_busiest M Q) (I : MI D T ad A H0 M H locs) (hl : lv_has ls 1 [(0, .ref (ad 0))]) : W p l e rX6_busiest s m args below meth c H locs 0 0 Qs (F0 m 0 ls []) := by
  have hx := C.1.1
  have hb := C.1.2.1
  have how := C.1.2.2.2.1
  have hts := C.1.2.2.2.2
  unfold w6_busiest at h
  refine lv_aload_n hx hb dX6_busiest_0 rfl (lv_at hl 0 rfl) ?_
  refine m_callv (As := []) (rest := []) C I (met6_find l D T ad M h) (cw6_218 hts ⟨Nat.le_of_ble_eq_true rfl, Nat.le_of_ble_eq_true rfl⟩) rfl hl.1 rfl (Nat.le_of_ble_eq_true rfl) ⟨Nat.zero_le _, Nat.zero_le _⟩ dX6_busiest_1 (fun M1 H locs h I => ?_)
  refine lv_aload_n hx hb dX6_busiest_4 rfl (lv_at hl 0 rfl) ?_
  refine m_calli (As := []) (rest := []) C I (met6_busiestNow l D T ad M1 h) (cw6_232 hts ⟨Nat.le_of_ble_eq_true rfl, Nat.le_of_ble_eq_true rfl⟩) rfl hl.1 rfl (Nat.le_of_ble_eq_true rfl) ⟨Nat.zero_le _, Nat.zero_le _⟩ dX6_busiest_5 (fun r2 M3 H locs h I => ?_)
  exact hQ _ _ _ _ _ _ h I dX6_busiest_8
theorem met6_busiest (l : Launch) (D : va_G) (T ad : Nat → Nat)  (M : Mem) {Qp : Int32 → Mem → Prop} (h : w6_busiest M Qp) (sz : Nat) : Met l yX6_busiest (ws_ yX6_busiest cX6_busiest 1 (some .int)) rX6_busiest (mPc D T ad [] M sz) (mQi D T ad M Qp sz) 0 0 (fA (cM T ad M) sz) :=
  m_metI (As := []) rfl rfl (Nat.le_of_ble_eq_true rfl) (fun p e s m args below meth c A Qs ls C hQ I hl => t6_busiest C hQ M _ _ ls h I hl) sz
/-! needsOf -/
abbrev rX6_needsOf : Room := { frames := 5, cells := 0, slots := 0, locals := 117 }
theorem t6_needsOf_b54 {p : Program} {l : Launch} {e : Env} {s : State} {m : MethodId} {args : Array Value} {below : List Frame} {meth : Method} {c : Code} {D : va_G} {T ad : Nat → Nat} {A : Nat → Prop} {H0 : Heap} {Qs : State → Prop} {Q : Int32 → Mem → Prop} {K17 : Int32 → Int32 → Int32 → Int32 → Mem → Prop} (C : MC D T p m c cX6_needsOf 5 s args) (hQ : mExi p l e rX6_needsOf s m args below meth c cX6_needsOf D T ad A H0 Qs Q) (hK17 : ∀ (v1 : Int32) (v2 : Int32) (v3 : Int32) (v4 : Int32) (M : Mem) (H : Heap) (locs : List Loc) (ls : Array Slot), K17 v1 v2 v3 v4 M → MI D T ad A H0 M H locs → lv_has ls 5 [(0, .ref (ad 0)), (1, .int v1), (2, .int v2), (3, .int v3), (4, .int v4)] → W p l e rX6_needsOf s m args below meth c H locs 0 0 Qs (F0 m 17 ls [])) (v1 : Int32) (v2 : Int32) (v4 : Int32) (s0 : Int32) (M : Mem) (H : Heap) (locs : List Loc) (ls : Array Slot) (h : w6_needsOf_b54 Q K17 v1 v2 v4 s0 M) (I : MI D T ad A H0 M H locs) (hl : lv_has ls 5 [(0, .ref (ad 0)), (1, .int v1), (2, .int v2), (4, .int v4)]) : W p l e rX6_needsOf s m args below meth c H locs 0 0 Qs (F0 m 54 ls [.int s0]) := by
  have hx := C.1.1
  have hb := C.1.2.1
  have how := C.1.2.2.2.1
  have hts := C.1.2.2.2.2
  unfold w6_needsOf_b54 at h
  refine lv_istore_n (lv' := [(3, .int s0), (0, .ref (ad 0)), (1, .int v1), (2, .int v2), (4, .int v4)]) hx hb dX6_needsOf_54 rfl hl (by decide) rfl (fun ls hl => ?_)
  refine lv_iinc (v := (v4 + (-1))) (lv' := [(4, .int (v4 + (-1))), (3, .int s0), (0, .ref (ad 0)), (1, .int v1), (2, .int v2)]) hx hb dX6_needsOf_55 hl (k := 4) rfl (ii_m1 _) (by decide) rfl (fun ls hl => ?_)
  refine lv_goto (tgt := 17) hx hb dX6_needsOf_58 (by decide) ?_
  exact hK17 v1 v2 s0 (v4 + (-1)) M _ _ _ h I (lv_sub hl [2, 3, 4, 1, 0] rfl)
theorem t6_needsOf_b17_f {p : Program} {l : Launch} {e : Env} {s : State} {m : MethodId} {args : Array Value} {below : List Frame} {meth : Method} {c : Code} {D : va_G} {T ad : Nat → Nat} {A : Nat → Prop} {H0 : Heap} {Qs : State → Prop} {Q : Int32 → Mem → Prop} {K17 : Int32 → Int32 → Int32 → Int32 → Mem → Prop} (C : MC D T p m c cX6_needsOf 5 s args) (hQ : mExi p l e rX6_needsOf s m args below meth c cX6_needsOf D T ad A H0 Qs Q) (hK17 : ∀ (v1 : Int32) (v2 : Int32) (v3 : Int32) (v4 : Int32) (M : Mem) (H : Heap) (locs : List Loc) (ls : Array Slot), K17 v1 v2 v3 v4 M → MI D T ad A H0 M H locs → lv_has ls 5 [(0, .ref (ad 0)), (1, .int v1), (2, .int v2), (3, .int v3), (4, .int v4)] → W p l e rX6_needsOf s m args below meth c H locs 0 0 Qs (F0 m 17 ls [])) (v1 : Int32) (v2 : Int32) (v3 : Int32) (v4 : Int32) (M : Mem) (H : Heap) (locs : List Loc) (ls : Array Slot) (h : w6_needsOf_b17_f Q K17 v1 v2 v3 v4 M) (I : MI D T ad A H0 M H locs) (hl : lv_has ls 5 [(0, .ref (ad 0)), (1, .int v1), (2, .int v2), (3, .int v3), (4, .int v4)]) : W p l e rX6_needsOf s m args below meth c H locs 0 0 Qs (F0 m 17 ls []) := by
  have hx := C.1.1
  have hb := C.1.2.1
  have how := C.1.2.2.2.1
  have hts := C.1.2.2.2.2
  unfold w6_needsOf_b17_f at h
  refine lv_iload hx hb dX6_needsOf_17 (lv_at hl 4 rfl) ?_
  refine lv_if_lt (tgt := 61) hx hb dX6_needsOf_19 (by decide) (fun c => ?_) (fun c => ?_)
  · have h := h.1 c
    refine lv_aload_n hx hb dX6_needsOf_61 rfl (lv_at hl 0 rfl) ?_
    refine mg_carter C I dX6_needsOf_62 ?_
    refine lv_iconst (v := 5) hx hb dX6_needsOf_65 (by decide) ?_
    refine lv_iload_n hx hb dX6_needsOf_66 rfl (lv_at hl 1 rfl) ?_
    refine lv_imul hx hb dX6_needsOf_67 ?_
    refine lv_iconst (v := 3) hx hb dX6_needsOf_68 (by decide) ?_
    refine lv_iadd hx hb dX6_needsOf_69 ?_
    refine lv_iload_n hx hb dX6_needsOf_70 rfl (lv_at hl 2 rfl) ?_
    obtain ⟨hg1, h⟩ := h
    refine m_iast C I 11 40 rfl (by decide) hg1 dX6_needsOf_71 (fun M2 H locs eM2 I => ?_)
    have h := h M2 eM2
    refine lv_iload_n hx hb dX6_needsOf_72 rfl (lv_at hl 3 rfl) ?_
    exact hQ _ _ _ _ _ _ h I dX6_needsOf_73
  · have h := h.2 c
    refine lv_aload_n hx hb dX6_needsOf_22 rfl (lv_at hl 0 rfl) ?_
    refine mg_carter C I dX6_needsOf_23 ?_
    refine lv_iconst (v := 5) hx hb dX6_needsOf_26 (by decide) ?_
    refine lv_iload_n hx hb dX6_needsOf_27 rfl (lv_at hl 1 rfl) ?_
    refine lv_imul hx hb dX6_needsOf_28 ?_
    refine lv_iconst (v := 3) hx hb dX6_needsOf_29 (by decide) ?_
    refine lv_iadd hx hb dX6_needsOf_30 ?_
    refine lv_iload hx hb dX6_needsOf_31 (lv_at hl 4 rfl) ?_
    obtain ⟨hg3, h⟩ := h
    refine m_iast C I 11 40 rfl (by decide) hg3 dX6_needsOf_33 (fun M4 H locs eM4 I => ?_)
    have h := h M4 eM4
    refine lv_aload_n hx hb dX6_needsOf_34 rfl (lv_at hl 0 rfl) ?_
    refine m_callv (As := []) (rest := []) C I (met6_lives l D T ad M4 h) (cw6_215 hts ⟨Nat.le_of_ble_eq_true rfl, Nat.le_of_ble_eq_true rfl⟩) rfl hl.1 rfl (Nat.le_of_ble_eq_true rfl) ⟨Nat.zero_le _, Nat.zero_le _⟩ dX6_needsOf_35 (fun M5 H locs h I => ?_)
    refine lv_aload_n hx hb dX6_needsOf_38 rfl (lv_at hl 0 rfl) ?_
    refine mg_state C I dX6_needsOf_39 ?_
    refine lv_iload_n hx hb dX6_needsOf_42 rfl (lv_at hl 1 rfl) ?_
    obtain ⟨hg6, h⟩ := h
    refine m_iald C I 18 8 rfl (by decide) hg6 dX6_needsOf_43 ?_
    refine lv_iconst (v := 2) hx hb dX6_needsOf_44 (by decide) ?_
    refine lv_icmp_ne (tgt := 53) hx hb dX6_needsOf_45 (by decide) (fun c => ?_) (fun c => ?_)
    · have h := h.2 c
      refine lv_iload_n hx hb dX6_needsOf_53 rfl (lv_at hl 3 rfl) ?_
      exact t6_needsOf_b54 C hQ hK17 v1 v2 v4 v3 M5 _ _ _ h I (lv_sub hl [0, 1, 2, 4] rfl)
    · have h := h.1 c
      refine lv_iload hx hb dX6_needsOf_48 (lv_at hl 4 rfl) ?_
      refine lv_goto (tgt := 54) hx hb dX6_needsOf_50 (by decide) ?_
      exact t6_needsOf_b54 C hQ hK17 v1 v2 v4 v4 M5 _ _ _ h I (lv_sub hl [0, 1, 2, 4] rfl)
theorem t6_needsOf_b17 {p : Program} {l : Launch} {e : Env} {s : State} {m : MethodId} {args : Array Value} {below : List Frame} {meth : Method} {c : Code} {D : va_G} {T ad : Nat → Nat} {A : Nat → Prop} {H0 : Heap} {Qs : State → Prop} {Q : Int32 → Mem → Prop}  (C : MC D T p m c cX6_needsOf 5 s args) (hQ : mExi p l e rX6_needsOf s m args below meth c cX6_needsOf D T ad A H0 Qs Q)  : ∀ (n : Nat) (v1 : Int32) (v2 : Int32) (v3 : Int32) (v4 : Int32) (M : Mem) (H : Heap) (locs : List Loc) (ls : Array Slot), w6_needsOf_b17 Q n v1 v2 v3 v4 M → MI D T ad A H0 M H locs → lv_has ls 5 [(0, .ref (ad 0)), (1, .int v1), (2, .int v2), (3, .int v3), (4, .int v4)] → W p l e rX6_needsOf s m args below meth c H locs 0 0 Qs (F0 m 17 ls []) := by
  intro n
  induction n with
  | zero => intro v1 v2 v3 v4 M H locs ls h; exact h.elim
  | succ n ih => intro v1 v2 v3 v4 M H locs ls h I hl; exact t6_needsOf_b17_f C hQ  ih v1 v2 v3 v4 M H locs ls h I hl
theorem t6_needsOf {p : Program} {l : Launch} {e : Env} {s : State} {m : MethodId} {args : Array Value} {below : List Frame} {meth : Method} {c : Code} {D : va_G} {T ad : Nat → Nat} {A : Nat → Prop} {H0 : Heap} {Qs : State → Prop} {Q : Int32 → Mem → Prop} (C : MC D T p m c cX6_needsOf 5 s args) (hQ : mExi p l e rX6_needsOf s m args below meth c cX6_needsOf D T ad A H0 Qs Q) (v1 : Int32) (M : Mem) (H : Heap) (locs : List Loc) (ls : Array Slot) (h : w6_needsOf v1 M Q) (I : MI D T ad A H0 M H locs) (hl : lv_has ls 5 [(0, .ref (ad 0)), (1, .int v1)]) : W p l e rX6_needsOf s m args below meth c H locs 0 0 Qs (F0 m 0 ls []) := by
  have hx := C.1.1
  have hb := C.1.2.1
  have how := C.1.2.2.2.1
  have hts := C.1.2.2.2.2
  unfold w6_needsOf at h
  refine lv_aload_n hx hb dX6_needsOf_0 rfl (lv_at hl 0 rfl) ?_
  refine mg_carter C I dX6_needsOf_1 ?_
  refine lv_iconst (v := 5) hx hb dX6_needsOf_4 (by decide) ?_
  refine lv_iload_n hx hb dX6_needsOf_5 rfl (lv_at hl 1 rfl) ?_
  refine lv_imul hx hb dX6_needsOf_6 ?_
  refine lv_iconst (v := 3) hx hb dX6_needsOf_7 (by decide) ?_
  refine lv_iadd hx hb dX6_needsOf_8 ?_
  obtain ⟨hg7, h⟩ := h
  refine m_iald C I 11 40 rfl (by decide) hg7 dX6_needsOf_9 ?_
  refine lv_topi (fun x8 ex8 => ?_)
  have h := h x8 ex8
  refine lv_istore_n (lv' := [(2, .int x8), (0, .ref (ad 0)), (1, .int v1)]) hx hb dX6_needsOf_10 rfl hl (by decide) rfl (fun ls hl => ?_)
  refine lv_iconst (v := -1) hx hb dX6_needsOf_11 (by decide) ?_
  refine lv_istore_n (lv' := [(3, .int (-1)), (2, .int x8), (0, .ref (ad 0)), (1, .int v1)]) hx hb dX6_needsOf_12 rfl hl (by decide) rfl (fun ls hl => ?_)
  refine lv_bipush (v := 99) hx hb dX6_needsOf_13 (by decide) ?_
  refine lv_istore (lv' := [(4, .int 99), (3, .int (-1)), (2, .int x8), (0, .ref (ad 0)), (1, .int v1)]) hx hb dX6_needsOf_15 hl (by decide) rfl (fun ls hl => ?_)
  obtain ⟨n, h⟩ := h
  exact t6_needsOf_b17 C hQ n v1 x8 (-1) 99 M _ _ _ h I (lv_sub hl [3, 4, 2, 1, 0] rfl)
theorem met6_needsOf (l : Launch) (D : va_G) (T ad : Nat → Nat) (v1 : Int32) (M : Mem) {Qp : Int32 → Mem → Prop} (h : w6_needsOf v1 M Qp) (sz : Nat) : Met l yX6_needsOf (ws_ yX6_needsOf cX6_needsOf 5 (some .int)) rX6_needsOf (mPc D T ad [.int v1] M sz) (mQi D T ad M Qp sz) 0 0 (fA (cM T ad M) sz) :=
  m_metI (As := [.int v1]) rfl rfl (Nat.le_of_ble_eq_true rfl) (fun p e s m args below meth c A Qs ls C hQ I hl => t6_needsOf C hQ v1 M _ _ ls h I hl) sz
/-! needs -/
abbrev rX6_needs : Room := { frames := 6, cells := 0, slots := 0, locals := 141 }
theorem cw6_238 {R : Room} {s : State} {args : Array Value} (hts : ∀ w ∈ lw_all, w.before args s = true) (hR : rX6_needsOf.frames + 1 ≤ R.frames ∧ 8 + (5 + 11) + rX6_needsOf.locals ≤ R.locals) : CallW R s args RX6 RX6 238 yX6_needsOf cX6_needsOf 5 (some .int) (ws_ yX6_needsOf cX6_needsOf 5 (some .int)) rX6_needsOf 0 0 1 := cwV 1 hts (lw_V q1225 q1227 qs70 q95 q1228) rfl rfl rfl (by decide +kernel) hR
theorem t6_needs_b22 {p : Program} {l : Launch} {e : Env} {s : State} {m : MethodId} {args : Array Value} {below : List Frame} {meth : Method} {c : Code} {D : va_G} {T ad : Nat → Nat} {A : Nat → Prop} {H0 : Heap} {Qs : State → Prop} {Q : Int32 → Mem → Prop}  (C : MC D T p m c cX6_needs 2 s args) (hQ : mExi p l e rX6_needs s m args below meth c cX6_needs D T ad A H0 Qs Q)  (s0 : Int32) (M : Mem) (H : Heap) (locs : List Loc) (ls : Array Slot) (h : w6_needs_b22 Q s0 M) (I : MI D T ad A H0 M H locs) (hl : lv_has ls 2 [(0, .ref (ad 0))]) : W p l e rX6_needs s m args below meth c H locs 0 0 Qs (F0 m 22 ls [.int s0]) := by
  have hx := C.1.1
  have hb := C.1.2.1
  have how := C.1.2.2.2.1
  have hts := C.1.2.2.2.2
  unfold w6_needs_b22 at h
  exact hQ _ _ _ _ _ _ h I dX6_needs_22
theorem t6_needs {p : Program} {l : Launch} {e : Env} {s : State} {m : MethodId} {args : Array Value} {below : List Frame} {meth : Method} {c : Code} {D : va_G} {T ad : Nat → Nat} {A : Nat → Prop} {H0 : Heap} {Qs : State → Prop} {Q : Int32 → Mem → Prop} (C : MC D T p m c cX6_needs 2 s args) (hQ : mExi p l e rX6_needs s m args below meth c cX6_needs D T ad A H0 Qs Q) (v1 : Int32) (M : Mem) (H : Heap) (locs : List Loc) (ls : Array Slot) (h : w6_needs v1 M Q) (I : MI D T ad A H0 M H locs) (hl : lv_has ls 2 [(0, .ref (ad 0)), (1, .int v1)]) : W p l e rX6_needs s m args below meth c H locs 0 0 Qs (F0 m 0 ls []) := by
  have hx := C.1.1
  have hb := C.1.2.1
  have how := C.1.2.2.2.1
  have hts := C.1.2.2.2.2
  unfold w6_needs at h
  refine lv_aload_n hx hb dX6_needs_0 rfl (lv_at hl 0 rfl) ?_
  refine m_callv (As := []) (rest := []) C I (met6_find l D T ad M h) (cw6_218 hts ⟨Nat.le_of_ble_eq_true rfl, Nat.le_of_ble_eq_true rfl⟩) rfl hl.1 rfl (Nat.le_of_ble_eq_true rfl) ⟨Nat.zero_le _, Nat.zero_le _⟩ dX6_needs_1 (fun M1 H locs h I => ?_)
  refine lv_aload_n hx hb dX6_needs_4 rfl (lv_at hl 0 rfl) ?_
  refine lv_iload_n hx hb dX6_needs_5 rfl (lv_at hl 1 rfl) ?_
  refine m_calli (As := [.int v1]) (rest := []) C I (met6_isCarter l D T ad v1 M1 h) (cw6_153 hts ⟨Nat.le_of_ble_eq_true rfl, Nat.le_of_ble_eq_true rfl⟩) rfl hl.1 rfl (Nat.le_of_ble_eq_true rfl) ⟨Nat.zero_le _, Nat.zero_le _⟩ dX6_needs_6 (fun r2 M3 H locs h I => ?_)
  refine lv_if_eq (tgt := 20) hx hb dX6_needs_9 (by decide) (fun c => ?_) (fun c => ?_)
  · have h := h.1 c
    refine lv_bipush (v := -2) hx hb dX6_needs_20 (by decide) ?_
    exact t6_needs_b22 C hQ (-2) M3 _ _ _ h I (lv_sub hl [0] rfl)
  · have h := h.2 c
    refine lv_aload_n hx hb dX6_needs_12 rfl (lv_at hl 0 rfl) ?_
    refine lv_iload_n hx hb dX6_needs_13 rfl (lv_at hl 1 rfl) ?_
    refine m_calli (As := [.int v1]) (rest := []) C I (met6_needsOf l D T ad v1 M3 h) (cw6_238 hts ⟨Nat.le_of_ble_eq_true rfl, Nat.le_of_ble_eq_true rfl⟩) rfl hl.1 rfl (Nat.le_of_ble_eq_true rfl) ⟨Nat.zero_le _, Nat.zero_le _⟩ dX6_needs_14 (fun r4 M5 H locs h I => ?_)
    refine lv_goto (tgt := 22) hx hb dX6_needs_17 (by decide) ?_
    exact t6_needs_b22 C hQ r4 M5 _ _ _ h I (lv_sub hl [0] rfl)
theorem met6_needs (l : Launch) (D : va_G) (T ad : Nat → Nat) (v1 : Int32) (M : Mem) {Qp : Int32 → Mem → Prop} (h : w6_needs v1 M Qp) (sz : Nat) : Met l yX6_needs (ws_ yX6_needs cX6_needs 2 (some .int)) rX6_needs (mPc D T ad [.int v1] M sz) (mQi D T ad M Qp sz) 0 0 (fA (cM T ad M) sz) :=
  m_metI (As := [.int v1]) rfl rfl (Nat.le_of_ble_eq_true rfl) (fun p e s m args below meth c A Qs ls C hQ I hl => t6_needs C hQ v1 M _ _ ls h I hl) sz
/-! lends -/
abbrev rX6_lends : Room := { frames := 0, cells := 0, slots := 0, locals := 0 }
theorem t6_lends_b2_f {p : Program} {l : Launch} {e : Env} {s : State} {m : MethodId} {args : Array Value} {below : List Frame} {meth : Method} {c : Code} {D : va_G} {T ad : Nat → Nat} {A : Nat → Prop} {H0 : Heap} {Qs : State → Prop} {Q : Mem → Prop} {K2 : Int32 → Int32 → Int32 → Mem → Prop} (C : MC D T p m c cX6_lends 5 s args) (hQ : mExv p l e rX6_lends s m args below meth c cX6_lends D T ad A H0 Qs Q) (hK2 : ∀ (v1 : Int32) (v2 : Int32) (v3 : Int32) (M : Mem) (H : Heap) (locs : List Loc) (ls : Array Slot), K2 v1 v2 v3 M → MI D T ad A H0 M H locs → lv_has ls 5 [(0, .ref (ad 0)), (1, .int v1), (2, .int v2), (3, .int v3)] → W p l e rX6_lends s m args below meth c H locs 0 0 Qs (F0 m 2 ls [])) (v1 : Int32) (v2 : Int32) (v3 : Int32) (M : Mem) (H : Heap) (locs : List Loc) (ls : Array Slot) (h : w6_lends_b2_f Q K2 v1 v2 v3 M) (I : MI D T ad A H0 M H locs) (hl : lv_has ls 5 [(0, .ref (ad 0)), (1, .int v1), (2, .int v2), (3, .int v3)]) : W p l e rX6_lends s m args below meth c H locs 0 0 Qs (F0 m 2 ls []) := by
  have hx := C.1.1
  have hb := C.1.2.1
  have how := C.1.2.2.2.1
  have hts := C.1.2.2.2.2
  unfold w6_lends_b2_f at h
  refine lv_iload_n hx hb dX6_lends_2 rfl (lv_at hl 3 rfl) ?_
  refine lv_iconst (v := 4) hx hb dX6_lends_3 (by decide) ?_
  refine lv_icmp_ge (tgt := 57) hx hb dX6_lends_4 (by decide) (fun c => ?_) (fun c => ?_)
  · have h := h.1 c
    exact hQ _ _ _ _ _ h I dX6_lends_57
  · have h := h.2 c
    refine lv_aload_n hx hb dX6_lends_7 rfl (lv_at hl 0 rfl) ?_
    refine mg_carter C I dX6_lends_8 ?_
    refine lv_iconst (v := 5) hx hb dX6_lends_11 (by decide) ?_
    refine lv_iload_n hx hb dX6_lends_12 rfl (lv_at hl 1 rfl) ?_
    refine lv_imul hx hb dX6_lends_13 ?_
    refine lv_iload_n hx hb dX6_lends_14 rfl (lv_at hl 3 rfl) ?_
    refine lv_iadd hx hb dX6_lends_15 ?_
    obtain ⟨hg1, h⟩ := h
    refine m_iald C I 11 40 rfl (by decide) hg1 dX6_lends_16 ?_
    refine lv_topi (fun x2 ex2 => ?_)
    have h := h x2 ex2
    refine lv_istore (lv' := [(4, .int x2), (0, .ref (ad 0)), (1, .int v1), (2, .int v2), (3, .int v3)]) hx hb dX6_lends_17 hl (by decide) rfl (fun ls hl => ?_)
    refine lv_aload_n hx hb dX6_lends_19 rfl (lv_at hl 1 rfl) ?_
    refine mg_carter C I dX6_lends_20 ?_
    refine lv_iconst (v := 5) hx hb dX6_lends_23 (by decide) ?_
    refine lv_iload_n hx hb dX6_lends_24 rfl (lv_at hl 2 rfl) ?_
    refine lv_imul hx hb dX6_lends_25 ?_
    refine lv_iload_n hx hb dX6_lends_26 rfl (lv_at hl 4 rfl) ?_
    refine lv_iadd hx hb dX6_lends_27 ?_
    refine lv_aload_n hx hb dX6_lends_28 rfl (lv_at hl 1 rfl) ?_
    refine mg_carter C I dX6_lends_29 ?_
    refine lv_iconst (v := 5) hx hb dX6_lends_32 (by decide) ?_
    refine lv_iload_n hx hb dX6_lends_33 rfl (lv_at hl 3 rfl) ?_
    refine lv_imul hx hb dX6_lends_34 ?_
    refine lv_iload_n hx hb dX6_lends_35 rfl (lv_at hl 4 rfl) ?_
    refine lv_iadd hx hb dX6_lends_36 ?_
    obtain ⟨hg3, h⟩ := h
    refine m_iald C I 11 40 rfl (by decide) hg3 dX6_lends_37 ?_
    refine m_iast C I 11 40 rfl (by decide) hg1 dX6_lends_38 (fun M4 H locs eM4 I => ?_)
    have h := h M4 eM4
    refine lv_aload_n hx hb dX6_lends_39 rfl (lv_at hl 1 rfl) ?_
    refine mg_carter C I dX6_lends_40 ?_
    refine lv_iconst (v := 5) hx hb dX6_lends_43 (by decide) ?_
    refine lv_iload_n hx hb dX6_lends_44 rfl (lv_at hl 3 rfl) ?_
    refine lv_imul hx hb dX6_lends_45 ?_
    refine lv_iload_n hx hb dX6_lends_46 rfl (lv_at hl 4 rfl) ?_
    refine lv_iadd hx hb dX6_lends_47 ?_
    refine lv_iload hx hb dX6_lends_48 (lv_at hl 0 rfl) ?_
    refine m_iast C I 11 40 rfl (by decide) hg3 dX6_lends_50 (fun M5 H locs eM5 I => ?_)
    have h := h M5 eM5
    refine lv_iinc (v := (v3 + 1)) (lv' := [(3, .int (v3 + 1)), (4, .int x2), (0, .ref (ad 0)), (1, .int v1), (2, .int v2)]) hx hb dX6_lends_51 hl (k := 4) rfl (ii_1 _) (by decide) rfl (fun ls hl => ?_)
    refine lv_goto (tgt := 2) hx hb dX6_lends_54 (by decide) ?_
    exact hK2 v1 v2 (v3 + 1) M5 _ _ _ h I (lv_sub hl [2, 3, 4, 0] rfl)
theorem t6_lends_b2 {p : Program} {l : Launch} {e : Env} {s : State} {m : MethodId} {args : Array Value} {below : List Frame} {meth : Method} {c : Code} {D : va_G} {T ad : Nat → Nat} {A : Nat → Prop} {H0 : Heap} {Qs : State → Prop} {Q : Mem → Prop}  (C : MC D T p m c cX6_lends 5 s args) (hQ : mExv p l e rX6_lends s m args below meth c cX6_lends D T ad A H0 Qs Q)  : ∀ (n : Nat) (v1 : Int32) (v2 : Int32) (v3 : Int32) (M : Mem) (H : Heap) (locs : List Loc) (ls : Array Slot), w6_lends_b2 Q n v1 v2 v3 M → MI D T ad A H0 M H locs → lv_has ls 5 [(0, .ref (ad 0)), (1, .int v1), (2, .int v2), (3, .int v3)] → W p l e rX6_lends s m args below meth c H locs 0 0 Qs (F0 m 2 ls []) := by
  intro n
  induction n with
  | zero => intro v1 v2 v3 M H locs ls h; exact h.elim
  | succ n ih => intro v1 v2 v3 M H locs ls h I hl; exact t6_lends_b2_f C hQ  ih v1 v2 v3 M H locs ls h I hl
theorem t6_lends {p : Program} {l : Launch} {e : Env} {s : State} {m : MethodId} {args : Array Value} {below : List Frame} {meth : Method} {c : Code} {D : va_G} {T ad : Nat → Nat} {A : Nat → Prop} {H0 : Heap} {Qs : State → Prop} {Q : Mem → Prop} (C : MC D T p m c cX6_lends 5 s args) (hQ : mExv p l e rX6_lends s m args below meth c cX6_lends D T ad A H0 Qs Q) (v1 : Int32) (v2 : Int32) (M : Mem) (H : Heap) (locs : List Loc) (ls : Array Slot) (h : w6_lends v1 v2 M Q) (I : MI D T ad A H0 M H locs) (hl : lv_has ls 5 [(0, .ref (ad 0)), (1, .int v1), (2, .int v2)]) : W p l e rX6_lends s m args below meth c H locs 0 0 Qs (F0 m 0 ls []) := by
  have hx := C.1.1
  have hb := C.1.2.1
  have how := C.1.2.2.2.1
  have hts := C.1.2.2.2.2
  unfold w6_lends at h
  refine lv_iconst (v := 2) hx hb dX6_lends_0 (by decide) ?_
  refine lv_istore_n (lv' := [(3, .int 2), (0, .ref (ad 0)), (1, .int v1), (2, .int v2)]) hx hb dX6_lends_1 rfl hl (by decide) rfl (fun ls hl => ?_)
  obtain ⟨n, h⟩ := h
  exact t6_lends_b2 C hQ n v1 v2 2 M _ _ _ h I (lv_sub hl [1, 2, 3, 0] rfl)
theorem met6_lends (l : Launch) (D : va_G) (T ad : Nat → Nat) (v1 : Int32) (v2 : Int32) (M : Mem) {Qp : Mem → Prop} (h : w6_lends v1 v2 M Qp) (sz : Nat) : Met l yX6_lends (ws_ yX6_lends cX6_lends 5 none) rX6_lends (mPc D T ad [.int v1, .int v2] M sz) (mQv D T ad M Qp sz) 0 0 (fA (cM T ad M) sz) :=
  m_metV (As := [.int v1, .int v2]) rfl rfl (Nat.le_of_ble_eq_true rfl) (fun p e s m args below meth c A Qs ls C hQ I hl => t6_lends C hQ v1 v2 M _ _ ls h I hl) sz
/-! ones -/
abbrev rX6_ones : Room := { frames := 0, cells := 0, slots := 0, locals := 0 }
theorem t6_ones_b4_f {p : Program} {l : Launch} {e : Env} {s : State} {m : MethodId} {args : Array Value} {below : List Frame} {meth : Method} {c : Code} {A : Nat → Prop} {H0 : Heap} {Qs : State → Prop} {Q : Int32 → Prop} {K4 : Int32 → Int32 → Prop} (S : CallFix p m c cX6_ones 3 s args lw_all RX6) (hA : ∀ q, H0.size ≤ q → A q) (hQ : pExi p l e rX6_ones s m args below meth c cX6_ones A H0 Qs Q) (hK4 : ∀ (v1 : Int32) (v2 : Int32) (H : Heap) (locs : List Loc) (ls : Array Slot), K4 v1 v2 → va_S A H0 H locs → lv_has ls 3 [(1, .int v1), (2, .int v2)] → W p l e rX6_ones s m args below meth c H locs 0 0 Qs (F0 m 4 ls [])) (v1 : Int32) (v2 : Int32) (H : Heap) (locs : List Loc) (ls : Array Slot) (h : w6_ones_b4_f Q K4 v1 v2) (hS : va_S A H0 H locs) (hl : lv_has ls 3 [(1, .int v1), (2, .int v2)]) : W p l e rX6_ones s m args below meth c H locs 0 0 Qs (F0 m 4 ls []) := by
  have hx := S.1
  have hb := S.2.1
  have how := S.2.2.2.1
  have hts := S.2.2.2.2
  unfold w6_ones_b4_f at h
  refine lv_iload_n hx hb dX6_ones_4 rfl (lv_at hl 1 rfl) ?_
  refine lv_if_eq (tgt := 20) hx hb dX6_ones_5 (by decide) (fun c => ?_) (fun c => ?_)
  · have h := h.1 c
    refine lv_iload_n hx hb dX6_ones_20 rfl (lv_at hl 0 rfl) ?_
    exact hQ _ _ _ _ _ h hS dX6_ones_21
  · have h := h.2 c
    refine lv_iinc (v := (v1 + 1)) (lv' := [(1, .int (v1 + 1)), (2, .int v2)]) hx hb dX6_ones_8 hl (k := 0) rfl (ii_1 _) (by decide) rfl (fun ls hl => ?_)
    refine lv_iload_n hx hb dX6_ones_11 rfl (lv_at hl 1 rfl) ?_
    refine lv_iload_n hx hb dX6_ones_12 rfl (lv_at hl 1 rfl) ?_
    refine lv_iconst (v := 1) hx hb dX6_ones_13 (by decide) ?_
    refine lv_isub hx hb dX6_ones_14 ?_
    refine lv_iand hx hb dX6_ones_15 ?_
    refine lv_istore_n (lv' := [(2, .int (v2 &&& (v2 - 1))), (1, .int (v1 + 1))]) hx hb dX6_ones_16 rfl hl (by decide) rfl (fun ls hl => ?_)
    refine lv_goto (tgt := 4) hx hb dX6_ones_17 (by decide) ?_
    exact hK4 (v1 + 1) (v2 &&& (v2 - 1)) _ _ _ h hS (lv_sub hl [1, 0] rfl)
theorem t6_ones_b4 {p : Program} {l : Launch} {e : Env} {s : State} {m : MethodId} {args : Array Value} {below : List Frame} {meth : Method} {c : Code} {A : Nat → Prop} {H0 : Heap} {Qs : State → Prop} {Q : Int32 → Prop}  (S : CallFix p m c cX6_ones 3 s args lw_all RX6) (hA : ∀ q, H0.size ≤ q → A q) (hQ : pExi p l e rX6_ones s m args below meth c cX6_ones A H0 Qs Q)  : ∀ (n : Nat) (v1 : Int32) (v2 : Int32) (H : Heap) (locs : List Loc) (ls : Array Slot), w6_ones_b4 Q n v1 v2 → va_S A H0 H locs → lv_has ls 3 [(1, .int v1), (2, .int v2)] → W p l e rX6_ones s m args below meth c H locs 0 0 Qs (F0 m 4 ls []) := by
  intro n
  induction n with
  | zero => intro v1 v2 H locs ls h; exact h.elim
  | succ n ih => intro v1 v2 H locs ls h I hl; exact t6_ones_b4_f S hA hQ  ih v1 v2 H locs ls h I hl
theorem t6_ones {p : Program} {l : Launch} {e : Env} {s : State} {m : MethodId} {args : Array Value} {below : List Frame} {meth : Method} {c : Code} {A : Nat → Prop} {H0 : Heap} {Qs : State → Prop} {Q : Int32 → Prop} (S : CallFix p m c cX6_ones 3 s args lw_all RX6) (hA : ∀ q, H0.size ≤ q → A q) (hQ : pExi p l e rX6_ones s m args below meth c cX6_ones A H0 Qs Q) (v0 : Int32) (H : Heap) (locs : List Loc) (ls : Array Slot) (h : w6_ones v0 Q) (hS : va_S A H0 H locs) (hl : lv_has ls 3 [(0, .int v0)]) : W p l e rX6_ones s m args below meth c H locs 0 0 Qs (F0 m 0 ls []) := by
  have hx := S.1
  have hb := S.2.1
  have how := S.2.2.2.1
  have hts := S.2.2.2.2
  unfold w6_ones at h
  refine lv_iconst (v := 0) hx hb dX6_ones_0 (by decide) ?_
  refine lv_istore_n (lv' := [(1, .int 0), (0, .int v0)]) hx hb dX6_ones_1 rfl hl (by decide) rfl (fun ls hl => ?_)
  refine lv_iload_n hx hb dX6_ones_2 rfl (lv_at hl 1 rfl) ?_
  refine lv_istore_n (lv' := [(2, .int v0), (1, .int 0), (0, .int v0)]) hx hb dX6_ones_3 rfl hl (by decide) rfl (fun ls hl => ?_)
  obtain ⟨n, h⟩ := h
  exact t6_ones_b4 S hA hQ n 0 v0 _ _ _ h hS (lv_sub hl [1, 0] rfl)
theorem met6_ones (l : Launch) (v0 : Int32) {Qp : Int32 → Prop} (h : w6_ones v0 Qp) (sz : Nat) : Met l yX6_ones (ws_ yX6_ones cX6_ones 3 (some .int)) rX6_ones (pPc [.int v0] sz) (pQi Qp sz) 0 0 (pA sz) :=
  p_metI (As := [.int v0]) rfl (Nat.le_of_ble_eq_true rfl) (fun p e s m args below meth c Qs ls S hQ hl => t6_ones S (fun q h => h) hQ v0 _ _ ls h va_S.rf hl) sz
/-! comers -/
abbrev rX6_comers : Room := { frames := 1, cells := 0, slots := 0, locals := 23 }
theorem cw6_235 {R : Room} {s : State} {args : Array Value} (hts : ∀ w ∈ lw_all, w.before args s = true) (hR : rX6_ones.frames + 1 ≤ R.frames ∧ 8 + (3 + 11) + rX6_ones.locals ≤ R.locals) : CallB R s args RX6 235 yX6_ones cX6_ones 3 (some .int) (ws_ yX6_ones cX6_ones 3 (some .int)) rX6_ones 0 0 1 ∧ (Cond.static yX6_ones).before args s = true := va_cwS 1 hts (lw_S q1245 q1246 q95 q1247) rfl rfl rfl (by decide +kernel) hR
theorem t6_comers {p : Program} {l : Launch} {e : Env} {s : State} {m : MethodId} {args : Array Value} {below : List Frame} {meth : Method} {c : Code} {D : va_G} {T ad : Nat → Nat} {A : Nat → Prop} {H0 : Heap} {Qs : State → Prop} {Q : Int32 → Mem → Prop} (C : MC D T p m c cX6_comers 1 s args) (hQ : mExi p l e rX6_comers s m args below meth c cX6_comers D T ad A H0 Qs Q)  (M : Mem) (H : Heap) (locs : List Loc) (ls : Array Slot) (h : w6_comers M Q) (I : MI D T ad A H0 M H locs) (hl : lv_has ls 1 [(0, .ref (ad 0))]) : W p l e rX6_comers s m args below meth c H locs 0 0 Qs (F0 m 0 ls []) := by
  have hx := C.1.1
  have hb := C.1.2.1
  have how := C.1.2.2.2.1
  have hts := C.1.2.2.2.2
  unfold w6_comers at h
  refine lv_aload_n hx hb dX6_comers_0 rfl (lv_at hl 0 rfl) ?_
  refine lv_iconst (v := 2) hx hb dX6_comers_1 (by decide) ?_
  refine m_calli (As := [.int 2]) (rest := []) C I (met6_whoBy l D T ad 2 M h) (cw6_226 hts ⟨Nat.le_of_ble_eq_true rfl, Nat.le_of_ble_eq_true rfl⟩) rfl hl.1 rfl (Nat.le_of_ble_eq_true rfl) ⟨Nat.zero_le _, Nat.zero_le _⟩ dX6_comers_2 (fun r1 M2 H locs h I => ?_)
  refine m_purei (As := [.int r1]) (rest := []) C I (met6_ones l r1 h) (cw6_235 hts ⟨Nat.le_of_ble_eq_true rfl, Nat.le_of_ble_eq_true rfl⟩) rfl hl.1 rfl (Nat.le_of_ble_eq_true rfl) ⟨Nat.zero_le _, Nat.zero_le _⟩ dX6_comers_5 (fun r3 H locs h I => ?_)
  exact hQ _ _ _ _ _ _ h I dX6_comers_8
theorem met6_comers (l : Launch) (D : va_G) (T ad : Nat → Nat)  (M : Mem) {Qp : Int32 → Mem → Prop} (h : w6_comers M Qp) (sz : Nat) : Met l yX6_comers (ws_ yX6_comers cX6_comers 1 (some .int)) rX6_comers (mPc D T ad [] M sz) (mQi D T ad M Qp sz) 0 0 (fA (cM T ad M) sz) :=
  m_metI (As := []) rfl rfl (Nat.le_of_ble_eq_true rfl) (fun p e s m args below meth c A Qs ls C hQ I hl => t6_comers C hQ M _ _ ls h I hl) sz
/-! lendBy -/
abbrev rX6_lendBy : Room := { frames := 5, cells := 0, slots := 0, locals := 117 }
theorem cw6_241 {R : Room} {s : State} {args : Array Value} (hts : ∀ w ∈ lw_all, w.before args s = true) (hR : rX6_lends.frames + 1 ≤ R.frames ∧ 8 + (5 + 11) + rX6_lends.locals ≤ R.locals) : CallW R s args RX6 RX6 241 yX6_lends cX6_lends 5 none (ws_ yX6_lends cX6_lends 5 none) rX6_lends 0 0 2 := cwV 2 hts (lw_V q1237 q1239 qs72 q95 q1240) rfl rfl rfl (by decide +kernel) hR
theorem cw6_244 {R : Room} {s : State} {args : Array Value} (hts : ∀ w ∈ lw_all, w.before args s = true) (hR : rX6_comers.frames + 1 ≤ R.frames ∧ 8 + (1 + 11) + rX6_comers.locals ≤ R.locals) : CallW R s args RX6 RX6 244 yX6_comers cX6_comers 1 (some .int) (ws_ yX6_comers cX6_comers 1 (some .int)) rX6_comers 0 0 0 := cwV 0 hts (lw_V q1241 q1243 qs73 q95 q1244) rfl rfl rfl (by decide +kernel) hR
theorem t6_lendBy_b129 {p : Program} {l : Launch} {e : Env} {s : State} {m : MethodId} {args : Array Value} {below : List Frame} {meth : Method} {c : Code} {D : va_G} {T ad : Nat → Nat} {A : Nat → Prop} {H0 : Heap} {Qs : State → Prop} {Q : Int32 → Mem → Prop}  (C : MC D T p m c cX6_lendBy 8 s args) (hQ : mExi p l e rX6_lendBy s m args below meth c cX6_lendBy D T ad A H0 Qs Q)  (s0 : Int32) (M : Mem) (H : Heap) (locs : List Loc) (ls : Array Slot) (h : w6_lendBy_b129 Q s0 M) (I : MI D T ad A H0 M H locs) (hl : lv_has ls 8 [(0, .ref (ad 0))]) : W p l e rX6_lendBy s m args below meth c H locs 0 0 Qs (F0 m 129 ls [.int s0]) := by
  have hx := C.1.1
  have hb := C.1.2.1
  have how := C.1.2.2.2.1
  have hts := C.1.2.2.2.2
  unfold w6_lendBy_b129 at h
  exact hQ _ _ _ _ _ _ h I dX6_lendBy_129
theorem t6_lendBy_b90 {p : Program} {l : Launch} {e : Env} {s : State} {m : MethodId} {args : Array Value} {below : List Frame} {meth : Method} {c : Code} {D : va_G} {T ad : Nat → Nat} {A : Nat → Prop} {H0 : Heap} {Qs : State → Prop} {Q : Int32 → Mem → Prop} {K7 : Int32 → Int32 → Int32 → Int32 → Mem → Prop} (C : MC D T p m c cX6_lendBy 8 s args) (hQ : mExi p l e rX6_lendBy s m args below meth c cX6_lendBy D T ad A H0 Qs Q) (hK7 : ∀ (v1 : Int32) (v2 : Int32) (v3 : Int32) (v4 : Int32) (M : Mem) (H : Heap) (locs : List Loc) (ls : Array Slot), K7 v1 v2 v3 v4 M → MI D T ad A H0 M H locs → lv_has ls 8 [(0, .ref (ad 0)), (1, .int v1), (2, .int v2), (3, .int v3), (4, .int v4)] → W p l e rX6_lendBy s m args below meth c H locs 0 0 Qs (F0 m 7 ls [])) (v1 : Int32) (v2 : Int32) (v3 : Int32) (v4 : Int32) (M : Mem) (H : Heap) (locs : List Loc) (ls : Array Slot) (h : w6_lendBy_b90 Q K7 v1 v2 v3 v4 M) (I : MI D T ad A H0 M H locs) (hl : lv_has ls 8 [(0, .ref (ad 0)), (1, .int v1), (2, .int v2), (3, .int v3), (4, .int v4)]) : W p l e rX6_lendBy s m args below meth c H locs 0 0 Qs (F0 m 90 ls []) := by
  have hx := C.1.1
  have hb := C.1.2.1
  have how := C.1.2.2.2.1
  have hts := C.1.2.2.2.2
  unfold w6_lendBy_b90 at h
  refine lv_iinc (v := (v4 + 1)) (lv' := [(4, .int (v4 + 1)), (0, .ref (ad 0)), (1, .int v1), (2, .int v2), (3, .int v3)]) hx hb dX6_lendBy_90 hl (k := 4) rfl (ii_1 _) (by decide) rfl (fun ls hl => ?_)
  refine lv_goto (tgt := 7) hx hb dX6_lendBy_93 (by decide) ?_
  exact hK7 v1 v2 v3 (v4 + 1) M _ _ _ h I (lv_sub hl [1, 2, 3, 4, 0] rfl)
theorem t6_lendBy_b74 {p : Program} {l : Launch} {e : Env} {s : State} {m : MethodId} {args : Array Value} {below : List Frame} {meth : Method} {c : Code} {D : va_G} {T ad : Nat → Nat} {A : Nat → Prop} {H0 : Heap} {Qs : State → Prop} {Q : Int32 → Mem → Prop} {K7 : Int32 → Int32 → Int32 → Int32 → Mem → Prop} (C : MC D T p m c cX6_lendBy 8 s args) (hQ : mExi p l e rX6_lendBy s m args below meth c cX6_lendBy D T ad A H0 Qs Q) (hK7 : ∀ (v1 : Int32) (v2 : Int32) (v3 : Int32) (v4 : Int32) (M : Mem) (H : Heap) (locs : List Loc) (ls : Array Slot), K7 v1 v2 v3 v4 M → MI D T ad A H0 M H locs → lv_has ls 8 [(0, .ref (ad 0)), (1, .int v1), (2, .int v2), (3, .int v3), (4, .int v4)] → W p l e rX6_lendBy s m args below meth c H locs 0 0 Qs (F0 m 7 ls [])) (v1 : Int32) (v3 : Int32) (v4 : Int32) (v5 : Int32) (v6 : Int32) (v7 : Int32) (s0 : Int32) (M : Mem) (H : Heap) (locs : List Loc) (ls : Array Slot) (h : w6_lendBy_b74 Q K7 v1 v3 v4 v5 v6 v7 s0 M) (I : MI D T ad A H0 M H locs) (hl : lv_has ls 8 [(0, .ref (ad 0)), (1, .int v1), (3, .int v3), (4, .int v4), (5, .int v5), (6, .int v6), (7, .int v7)]) : W p l e rX6_lendBy s m args below meth c H locs 0 0 Qs (F0 m 74 ls [.int s0]) := by
  have hx := C.1.1
  have hb := C.1.2.1
  have how := C.1.2.2.2.1
  have hts := C.1.2.2.2.2
  unfold w6_lendBy_b74 at h
  refine lv_istore_n (lv' := [(2, .int s0), (0, .ref (ad 0)), (1, .int v1), (3, .int v3), (4, .int v4), (5, .int v5), (6, .int v6), (7, .int v7)]) hx hb dX6_lendBy_74 rfl hl (by decide) rfl (fun ls hl => ?_)
  refine lv_iload hx hb dX6_lendBy_75 (lv_at hl 7 rfl) ?_
  refine lv_iload_n hx hb dX6_lendBy_77 rfl (lv_at hl 3 rfl) ?_
  refine m_purei (As := [.int v7, .int v3]) (rest := []) C I (met6_greater l v7 v3 h) (cw6_229 hts ⟨Nat.le_of_ble_eq_true rfl, Nat.le_of_ble_eq_true rfl⟩) rfl hl.1 rfl (Nat.le_of_ble_eq_true rfl) ⟨Nat.zero_le _, Nat.zero_le _⟩ dX6_lendBy_78 (fun r1 H locs h I => ?_)
  refine lv_istore_n (lv' := [(3, .int r1), (2, .int s0), (0, .ref (ad 0)), (1, .int v1), (4, .int v4), (5, .int v5), (6, .int v6), (7, .int v7)]) hx hb dX6_lendBy_81 rfl hl (by decide) rfl (fun ls hl => ?_)
  refine lv_aload_n hx hb dX6_lendBy_82 rfl (lv_at hl 2 rfl) ?_
  refine lv_iload hx hb dX6_lendBy_83 (lv_at hl 5 rfl) ?_
  refine lv_iload hx hb dX6_lendBy_85 (lv_at hl 6 rfl) ?_
  refine m_callv (As := [.int v5, .int v6]) (rest := []) C I (met6_lends l D T ad v5 v6 M h) (cw6_241 hts ⟨Nat.le_of_ble_eq_true rfl, Nat.le_of_ble_eq_true rfl⟩) rfl hl.1 rfl (Nat.le_of_ble_eq_true rfl) ⟨Nat.zero_le _, Nat.zero_le _⟩ dX6_lendBy_87 (fun M2 H locs h I => ?_)
  exact t6_lendBy_b90 C hQ hK7 v1 s0 r1 v4 M2 _ _ _ h I (lv_sub hl [2, 3, 1, 0, 4] rfl)
theorem t6_lendBy_b7_f {p : Program} {l : Launch} {e : Env} {s : State} {m : MethodId} {args : Array Value} {below : List Frame} {meth : Method} {c : Code} {D : va_G} {T ad : Nat → Nat} {A : Nat → Prop} {H0 : Heap} {Qs : State → Prop} {Q : Int32 → Mem → Prop} {K7 : Int32 → Int32 → Int32 → Int32 → Mem → Prop} (C : MC D T p m c cX6_lendBy 8 s args) (hQ : mExi p l e rX6_lendBy s m args below meth c cX6_lendBy D T ad A H0 Qs Q) (hK7 : ∀ (v1 : Int32) (v2 : Int32) (v3 : Int32) (v4 : Int32) (M : Mem) (H : Heap) (locs : List Loc) (ls : Array Slot), K7 v1 v2 v3 v4 M → MI D T ad A H0 M H locs → lv_has ls 8 [(0, .ref (ad 0)), (1, .int v1), (2, .int v2), (3, .int v3), (4, .int v4)] → W p l e rX6_lendBy s m args below meth c H locs 0 0 Qs (F0 m 7 ls [])) (v1 : Int32) (v2 : Int32) (v3 : Int32) (v4 : Int32) (M : Mem) (H : Heap) (locs : List Loc) (ls : Array Slot) (h : w6_lendBy_b7_f Q K7 v1 v2 v3 v4 M) (I : MI D T ad A H0 M H locs) (hl : lv_has ls 8 [(0, .ref (ad 0)), (1, .int v1), (2, .int v2), (3, .int v3), (4, .int v4)]) : W p l e rX6_lendBy s m args below meth c H locs 0 0 Qs (F0 m 7 ls []) := by
  have hx := C.1.1
  have hb := C.1.2.1
  have how := C.1.2.2.2.1
  have hts := C.1.2.2.2.2
  unfold w6_lendBy_b7_f at h
  refine lv_iload hx hb dX6_lendBy_7 (lv_at hl 4 rfl) ?_
  refine lv_bipush (v := 64) hx hb dX6_lendBy_9 (by decide) ?_
  refine lv_icmp_ge (tgt := 96) hx hb dX6_lendBy_11 (by decide) (fun c => ?_) (fun c => ?_)
  · have h := h.1 c
    refine lv_iload_n hx hb dX6_lendBy_96 rfl (lv_at hl 2 rfl) ?_
    refine lv_iconst (v := -1) hx hb dX6_lendBy_97 (by decide) ?_
    refine lv_icmp_ne (tgt := 105) hx hb dX6_lendBy_98 (by decide) (fun c => ?_) (fun c => ?_)
    · have h := h.2 c
      refine lv_iload_n hx hb dX6_lendBy_105 rfl (lv_at hl 1 rfl) ?_
      refine lv_if_ne (tgt := 116) hx hb dX6_lendBy_106 (by decide) (fun c => ?_) (fun c => ?_)
      · have h := h.2 c
        refine lv_iload_n hx hb dX6_lendBy_116 rfl (lv_at hl 1 rfl) ?_
        refine lv_iconst (v := 1) hx hb dX6_lendBy_117 (by decide) ?_
        refine lv_icmp_ne (tgt := 128) hx hb dX6_lendBy_118 (by decide) (fun c => ?_) (fun c => ?_)
        · have h := h.2 c
          refine lv_iload_n hx hb dX6_lendBy_128 rfl (lv_at hl 3 rfl) ?_
          exact t6_lendBy_b129 C hQ v3 M _ _ _ h I (lv_sub hl [0] rfl)
        · have h := h.1 c
          refine lv_iload_n hx hb dX6_lendBy_121 rfl (lv_at hl 2 rfl) ?_
          refine lv_bipush (v := 8) hx hb dX6_lendBy_122 (by decide) ?_
          refine lv_irem hx hb dX6_lendBy_124 (by decide) ?_
          refine lv_goto (tgt := 129) hx hb dX6_lendBy_125 (by decide) ?_
          exact t6_lendBy_b129 C hQ (v2 - v2 / 8 * 8) M _ _ _ h I (lv_sub hl [0] rfl)
      · have h := h.1 c
        refine lv_iload_n hx hb dX6_lendBy_109 rfl (lv_at hl 2 rfl) ?_
        refine lv_bipush (v := 8) hx hb dX6_lendBy_110 (by decide) ?_
        refine lv_idiv hx hb dX6_lendBy_112 (by decide) ?_
        refine lv_goto (tgt := 129) hx hb dX6_lendBy_113 (by decide) ?_
        exact t6_lendBy_b129 C hQ (v2 / 8) M _ _ _ h I (lv_sub hl [0] rfl)
    · have h := h.1 c
      refine lv_iconst (v := -1) hx hb dX6_lendBy_101 (by decide) ?_
      refine lv_goto (tgt := 129) hx hb dX6_lendBy_102 (by decide) ?_
      exact t6_lendBy_b129 C hQ (-1) M _ _ _ h I (lv_sub hl [0] rfl)
  · have h := h.2 c
    refine lv_iload hx hb dX6_lendBy_14 (lv_at hl 4 rfl) ?_
    refine lv_bipush (v := 8) hx hb dX6_lendBy_16 (by decide) ?_
    refine lv_idiv hx hb dX6_lendBy_18 (by decide) ?_
    refine lv_istore (lv' := [(5, .int (v4 / 8)), (0, .ref (ad 0)), (1, .int v1), (2, .int v2), (3, .int v3), (4, .int v4)]) hx hb dX6_lendBy_19 hl (by decide) rfl (fun ls hl => ?_)
    refine lv_iload hx hb dX6_lendBy_21 (lv_at hl 5 rfl) ?_
    refine lv_bipush (v := 8) hx hb dX6_lendBy_23 (by decide) ?_
    refine lv_irem hx hb dX6_lendBy_25 (by decide) ?_
    refine lv_istore (lv' := [(6, .int (v4 - v4 / 8 * 8)), (5, .int (v4 / 8)), (0, .ref (ad 0)), (1, .int v1), (2, .int v2), (3, .int v3), (4, .int v4)]) hx hb dX6_lendBy_26 hl (by decide) rfl (fun ls hl => ?_)
    refine lv_iload hx hb dX6_lendBy_28 (lv_at hl 1 rfl) ?_
    refine lv_iload hx hb dX6_lendBy_30 (lv_at hl 0 rfl) ?_
    refine lv_icmp_ge (tgt := 90) hx hb dX6_lendBy_32 (by decide) (fun c => ?_) (fun c => ?_)
    · have h := h.1 c
      exact t6_lendBy_b90 C hQ hK7 v1 v2 v3 v4 M _ _ _ h I (lv_sub hl [2, 3, 4, 5, 6] rfl)
    · have h := h.2 c
      refine lv_iload hx hb dX6_lendBy_35 (lv_at hl 0 rfl) ?_
      refine lv_aload_n hx hb dX6_lendBy_37 rfl (lv_at hl 2 rfl) ?_
      refine mg_carters C I dX6_lendBy_38 ?_
      refine lv_icmp_ge (tgt := 90) hx hb dX6_lendBy_41 (by decide) (fun c => ?_) (fun c => ?_)
      · have h := h.1 c
        exact t6_lendBy_b90 C hQ hK7 v1 v2 v3 v4 M _ _ _ h I (lv_sub hl [2, 3, 4, 5, 6] rfl)
      · have h := h.2 c
        refine lv_aload_n hx hb dX6_lendBy_44 rfl (lv_at hl 2 rfl) ?_
        refine lv_iload hx hb dX6_lendBy_45 (lv_at hl 1 rfl) ?_
        refine lv_iload hx hb dX6_lendBy_47 (lv_at hl 0 rfl) ?_
        refine m_callv (As := [.int (v4 / 8), .int (v4 - v4 / 8 * 8)]) (rest := []) C I (met6_lends l D T ad (v4 / 8) (v4 - v4 / 8 * 8) M h) (cw6_241 hts ⟨Nat.le_of_ble_eq_true rfl, Nat.le_of_ble_eq_true rfl⟩) rfl hl.1 rfl (Nat.le_of_ble_eq_true rfl) ⟨Nat.zero_le _, Nat.zero_le _⟩ dX6_lendBy_49 (fun M3 H locs h I => ?_)
        refine lv_aload_n hx hb dX6_lendBy_52 rfl (lv_at hl 2 rfl) ?_
        refine m_callv (As := []) (rest := []) C I (met6_lives l D T ad M3 h) (cw6_215 hts ⟨Nat.le_of_ble_eq_true rfl, Nat.le_of_ble_eq_true rfl⟩) rfl hl.1 rfl (Nat.le_of_ble_eq_true rfl) ⟨Nat.zero_le _, Nat.zero_le _⟩ dX6_lendBy_53 (fun M4 H locs h I => ?_)
        refine lv_aload_n hx hb dX6_lendBy_56 rfl (lv_at hl 2 rfl) ?_
        refine m_calli (As := []) (rest := []) C I (met6_comers l D T ad M4 h) (cw6_244 hts ⟨Nat.le_of_ble_eq_true rfl, Nat.le_of_ble_eq_true rfl⟩) rfl hl.1 rfl (Nat.le_of_ble_eq_true rfl) ⟨Nat.zero_le _, Nat.zero_le _⟩ dX6_lendBy_57 (fun r5 M6 H locs h I => ?_)
        refine lv_istore (lv' := [(7, .int r5), (6, .int (v4 - v4 / 8 * 8)), (5, .int (v4 / 8)), (0, .ref (ad 0)), (1, .int v1), (2, .int v2), (3, .int v3), (4, .int v4)]) hx hb dX6_lendBy_60 hl (by decide) rfl (fun ls hl => ?_)
        refine lv_iload hx hb dX6_lendBy_62 (lv_at hl 0 rfl) ?_
        refine lv_iload_n hx hb dX6_lendBy_64 rfl (lv_at hl 6 rfl) ?_
        refine lv_icmp_le (tgt := 73) hx hb dX6_lendBy_65 (by decide) (fun c => ?_) (fun c => ?_)
        · have h := h.1 c
          refine lv_iload_n hx hb dX6_lendBy_73 rfl (lv_at hl 5 rfl) ?_
          exact t6_lendBy_b74 C hQ hK7 v1 v3 v4 (v4 / 8) (v4 - v4 / 8 * 8) r5 v2 M6 _ _ _ h I (lv_sub hl [3, 4, 6, 7, 2, 1, 0] rfl)
        · have h := h.2 c
          refine lv_iload hx hb dX6_lendBy_68 (lv_at hl 7 rfl) ?_
          refine lv_goto (tgt := 74) hx hb dX6_lendBy_70 (by decide) ?_
          exact t6_lendBy_b74 C hQ hK7 v1 v3 v4 (v4 / 8) (v4 - v4 / 8 * 8) r5 v4 M6 _ _ _ h I (lv_sub hl [3, 4, 6, 7, 2, 1, 0] rfl)
theorem t6_lendBy_b7 {p : Program} {l : Launch} {e : Env} {s : State} {m : MethodId} {args : Array Value} {below : List Frame} {meth : Method} {c : Code} {D : va_G} {T ad : Nat → Nat} {A : Nat → Prop} {H0 : Heap} {Qs : State → Prop} {Q : Int32 → Mem → Prop}  (C : MC D T p m c cX6_lendBy 8 s args) (hQ : mExi p l e rX6_lendBy s m args below meth c cX6_lendBy D T ad A H0 Qs Q)  : ∀ (n : Nat) (v1 : Int32) (v2 : Int32) (v3 : Int32) (v4 : Int32) (M : Mem) (H : Heap) (locs : List Loc) (ls : Array Slot), w6_lendBy_b7 Q n v1 v2 v3 v4 M → MI D T ad A H0 M H locs → lv_has ls 8 [(0, .ref (ad 0)), (1, .int v1), (2, .int v2), (3, .int v3), (4, .int v4)] → W p l e rX6_lendBy s m args below meth c H locs 0 0 Qs (F0 m 7 ls []) := by
  intro n
  induction n with
  | zero => intro v1 v2 v3 v4 M H locs ls h; exact h.elim
  | succ n ih => intro v1 v2 v3 v4 M H locs ls h I hl; exact t6_lendBy_b7_f C hQ  ih v1 v2 v3 v4 M H locs ls h I hl
theorem t6_lendBy {p : Program} {l : Launch} {e : Env} {s : State} {m : MethodId} {args : Array Value} {below : List Frame} {meth : Method} {c : Code} {D : va_G} {T ad : Nat → Nat} {A : Nat → Prop} {H0 : Heap} {Qs : State → Prop} {Q : Int32 → Mem → Prop} (C : MC D T p m c cX6_lendBy 8 s args) (hQ : mExi p l e rX6_lendBy s m args below meth c cX6_lendBy D T ad A H0 Qs Q) (v1 : Int32) (M : Mem) (H : Heap) (locs : List Loc) (ls : Array Slot) (h : w6_lendBy v1 M Q) (I : MI D T ad A H0 M H locs) (hl : lv_has ls 8 [(0, .ref (ad 0)), (1, .int v1)]) : W p l e rX6_lendBy s m args below meth c H locs 0 0 Qs (F0 m 0 ls []) := by
  have hx := C.1.1
  have hb := C.1.2.1
  have how := C.1.2.2.2.1
  have hts := C.1.2.2.2.2
  unfold w6_lendBy at h
  refine lv_iconst (v := -1) hx hb dX6_lendBy_0 (by decide) ?_
  refine lv_istore_n (lv' := [(2, .int (-1)), (0, .ref (ad 0)), (1, .int v1)]) hx hb dX6_lendBy_1 rfl hl (by decide) rfl (fun ls hl => ?_)
  refine lv_iconst (v := -1) hx hb dX6_lendBy_2 (by decide) ?_
  refine lv_istore_n (lv' := [(3, .int (-1)), (2, .int (-1)), (0, .ref (ad 0)), (1, .int v1)]) hx hb dX6_lendBy_3 rfl hl (by decide) rfl (fun ls hl => ?_)
  refine lv_iconst (v := 0) hx hb dX6_lendBy_4 (by decide) ?_
  refine lv_istore (lv' := [(4, .int 0), (3, .int (-1)), (2, .int (-1)), (0, .ref (ad 0)), (1, .int v1)]) hx hb dX6_lendBy_5 hl (by decide) rfl (fun ls hl => ?_)
  obtain ⟨n, h⟩ := h
  exact t6_lendBy_b7 C hQ n v1 (-1) (-1) 0 M _ _ _ h I (lv_sub hl [3, 4, 2, 1, 0] rfl)
theorem met6_lendBy (l : Launch) (D : va_G) (T ad : Nat → Nat) (v1 : Int32) (M : Mem) {Qp : Int32 → Mem → Prop} (h : w6_lendBy v1 M Qp) (sz : Nat) : Met l yX6_lendBy (ws_ yX6_lendBy cX6_lendBy 8 (some .int)) rX6_lendBy (mPc D T ad [.int v1] M sz) (mQi D T ad M Qp sz) 0 0 (fA (cM T ad M) sz) :=
  m_metI (As := [.int v1]) rfl rfl (Nat.le_of_ble_eq_true rfl) (fun p e s m args below meth c A Qs ls C hQ I hl => t6_lendBy C hQ v1 M _ _ ls h I hl) sz
/-! lend -/
abbrev rX6_lend : Room := { frames := 6, cells := 0, slots := 0, locals := 144 }
theorem cw6_247 {R : Room} {s : State} {args : Array Value} (hts : ∀ w ∈ lw_all, w.before args s = true) (hR : rX6_lendBy.frames + 1 ≤ R.frames ∧ 8 + (8 + 11) + rX6_lendBy.locals ≤ R.locals) : CallW R s args RX6 RX6 247 yX6_lendBy cX6_lendBy 8 (some .int) (ws_ yX6_lendBy cX6_lendBy 8 (some .int)) rX6_lendBy 0 0 1 := cwV 1 hts (lw_V q1233 q1235 qs71 q95 q1236) rfl rfl rfl (by decide +kernel) hR
theorem t6_lend_b26 {p : Program} {l : Launch} {e : Env} {s : State} {m : MethodId} {args : Array Value} {below : List Frame} {meth : Method} {c : Code} {D : va_G} {T ad : Nat → Nat} {A : Nat → Prop} {H0 : Heap} {Qs : State → Prop} {Q : Int32 → Mem → Prop}  (C : MC D T p m c cX6_lend 2 s args) (hQ : mExi p l e rX6_lend s m args below meth c cX6_lend D T ad A H0 Qs Q)  (s0 : Int32) (M : Mem) (H : Heap) (locs : List Loc) (ls : Array Slot) (h : w6_lend_b26 Q s0 M) (I : MI D T ad A H0 M H locs) (hl : lv_has ls 2 [(0, .ref (ad 0))]) : W p l e rX6_lend s m args below meth c H locs 0 0 Qs (F0 m 26 ls [.int s0]) := by
  have hx := C.1.1
  have hb := C.1.2.1
  have how := C.1.2.2.2.1
  have hts := C.1.2.2.2.2
  unfold w6_lend_b26 at h
  exact hQ _ _ _ _ _ _ h I dX6_lend_26
theorem t6_lend {p : Program} {l : Launch} {e : Env} {s : State} {m : MethodId} {args : Array Value} {below : List Frame} {meth : Method} {c : Code} {D : va_G} {T ad : Nat → Nat} {A : Nat → Prop} {H0 : Heap} {Qs : State → Prop} {Q : Int32 → Mem → Prop} (C : MC D T p m c cX6_lend 2 s args) (hQ : mExi p l e rX6_lend s m args below meth c cX6_lend D T ad A H0 Qs Q) (v1 : Int32) (M : Mem) (H : Heap) (locs : List Loc) (ls : Array Slot) (h : w6_lend v1 M Q) (I : MI D T ad A H0 M H locs) (hl : lv_has ls 2 [(0, .ref (ad 0)), (1, .int v1)]) : W p l e rX6_lend s m args below meth c H locs 0 0 Qs (F0 m 0 ls []) := by
  have hx := C.1.1
  have hb := C.1.2.1
  have how := C.1.2.2.2.1
  have hts := C.1.2.2.2.2
  unfold w6_lend at h
  refine lv_aload_n hx hb dX6_lend_0 rfl (lv_at hl 0 rfl) ?_
  refine m_callv (As := []) (rest := []) C I (met6_find l D T ad M h) (cw6_218 hts ⟨Nat.le_of_ble_eq_true rfl, Nat.le_of_ble_eq_true rfl⟩) rfl hl.1 rfl (Nat.le_of_ble_eq_true rfl) ⟨Nat.zero_le _, Nat.zero_le _⟩ dX6_lend_1 (fun M1 H locs h I => ?_)
  refine lv_iload_n hx hb dX6_lend_4 rfl (lv_at hl 1 rfl) ?_
  refine lv_i2l hx hb dX6_lend_5 rfl ?_
  refine lv_lconst (v := 0) hx hb dX6_lend_6 rfl ?_
  refine lv_ldc2 hx hb how (hts _ q1020) dX6_lend_7 ?_
  refine m_purei (As := [.long (Int32.toInt64 v1), .long 0, .long 2]) (rest := []) C I (met6_in l (Int32.toInt64 v1) 0 2 h) (cw6_81 hts ⟨Nat.le_of_ble_eq_true rfl, Nat.le_of_ble_eq_true rfl⟩) rfl hl.1 rfl (Nat.le_of_ble_eq_true rfl) ⟨Nat.zero_le _, Nat.zero_le _⟩ dX6_lend_10 (fun r2 H locs h I => ?_)
  refine lv_if_eq (tgt := 24) hx hb dX6_lend_13 (by decide) (fun c => ?_) (fun c => ?_)
  · have h := h.1 c
    refine lv_bipush (v := -2) hx hb dX6_lend_24 (by decide) ?_
    exact t6_lend_b26 C hQ (-2) M1 _ _ _ h I (lv_sub hl [0] rfl)
  · have h := h.2 c
    refine lv_aload_n hx hb dX6_lend_16 rfl (lv_at hl 0 rfl) ?_
    refine lv_iload_n hx hb dX6_lend_17 rfl (lv_at hl 1 rfl) ?_
    refine m_calli (As := [.int v1]) (rest := []) C I (met6_lendBy l D T ad v1 M1 h) (cw6_247 hts ⟨Nat.le_of_ble_eq_true rfl, Nat.le_of_ble_eq_true rfl⟩) rfl hl.1 rfl (Nat.le_of_ble_eq_true rfl) ⟨Nat.zero_le _, Nat.zero_le _⟩ dX6_lend_18 (fun r3 M4 H locs h I => ?_)
    refine lv_goto (tgt := 26) hx hb dX6_lend_21 (by decide) ?_
    exact t6_lend_b26 C hQ r3 M4 _ _ _ h I (lv_sub hl [0] rfl)
theorem met6_lend (l : Launch) (D : va_G) (T ad : Nat → Nat) (v1 : Int32) (M : Mem) {Qp : Int32 → Mem → Prop} (h : w6_lend v1 M Qp) (sz : Nat) : Met l yX6_lend (ws_ yX6_lend cX6_lend 2 (some .int)) rX6_lend (mPc D T ad [.int v1] M sz) (mQi D T ad M Qp sz) 0 0 (fA (cM T ad M) sz) :=
  m_metI (As := [.int v1]) rfl rfl (Nat.le_of_ble_eq_true rfl) (fun p e s m args below meth c A Qs ls C hQ I hl => t6_lend C hQ v1 M _ _ ls h I hl) sz
/-! delayOf -/
abbrev rX6_delayOf : Room := { frames := 5, cells := 0, slots := 0, locals := 117 }
theorem t6_delayOf_b90 {p : Program} {l : Launch} {e : Env} {s : State} {m : MethodId} {args : Array Value} {below : List Frame} {meth : Method} {c : Code} {D : va_G} {T ad : Nat → Nat} {A : Nat → Prop} {H0 : Heap} {Qs : State → Prop} {Q : Int32 → Mem → Prop}  (C : MC D T p m c cX6_delayOf 8 s args) (hQ : mExi p l e rX6_delayOf s m args below meth c cX6_delayOf D T ad A H0 Qs Q)  (s0 : Int32) (M : Mem) (H : Heap) (locs : List Loc) (ls : Array Slot) (h : w6_delayOf_b90 Q s0 M) (I : MI D T ad A H0 M H locs) (hl : lv_has ls 8 [(0, .ref (ad 0))]) : W p l e rX6_delayOf s m args below meth c H locs 0 0 Qs (F0 m 90 ls [.int s0]) := by
  have hx := C.1.1
  have hb := C.1.2.1
  have how := C.1.2.2.2.1
  have hts := C.1.2.2.2.2
  unfold w6_delayOf_b90 at h
  exact hQ _ _ _ _ _ _ h I dX6_delayOf_90
theorem t6_delayOf_b55 {p : Program} {l : Launch} {e : Env} {s : State} {m : MethodId} {args : Array Value} {below : List Frame} {meth : Method} {c : Code} {D : va_G} {T ad : Nat → Nat} {A : Nat → Prop} {H0 : Heap} {Qs : State → Prop} {Q : Int32 → Mem → Prop} {K16 : Int32 → Int32 → Int32 → Int32 → Int32 → Int32 → Mem → Prop} (C : MC D T p m c cX6_delayOf 8 s args) (hQ : mExi p l e rX6_delayOf s m args below meth c cX6_delayOf D T ad A H0 Qs Q) (hK16 : ∀ (v1 : Int32) (v2 : Int32) (v3 : Int32) (v4 : Int32) (v5 : Int32) (v6 : Int32) (M : Mem) (H : Heap) (locs : List Loc) (ls : Array Slot), K16 v1 v2 v3 v4 v5 v6 M → MI D T ad A H0 M H locs → lv_has ls 8 [(0, .ref (ad 0)), (1, .int v1), (2, .int v2), (3, .int v3), (4, .int v4), (5, .int v5), (6, .int v6)] → W p l e rX6_delayOf s m args below meth c H locs 0 0 Qs (F0 m 16 ls [])) (v1 : Int32) (v2 : Int32) (v3 : Int32) (v5 : Int32) (v6 : Int32) (v7 : Int32) (s0 : Int32) (M : Mem) (H : Heap) (locs : List Loc) (ls : Array Slot) (h : w6_delayOf_b55 Q K16 v1 v2 v3 v5 v6 v7 s0 M) (I : MI D T ad A H0 M H locs) (hl : lv_has ls 8 [(0, .ref (ad 0)), (1, .int v1), (2, .int v2), (3, .int v3), (5, .int v5), (6, .int v6), (7, .int v7)]) : W p l e rX6_delayOf s m args below meth c H locs 0 0 Qs (F0 m 55 ls [.int s0]) := by
  have hx := C.1.1
  have hb := C.1.2.1
  have how := C.1.2.2.2.1
  have hts := C.1.2.2.2.2
  unfold w6_delayOf_b55 at h
  refine lv_istore (lv' := [(4, .int s0), (0, .ref (ad 0)), (1, .int v1), (2, .int v2), (3, .int v3), (5, .int v5), (6, .int v6), (7, .int v7)]) hx hb dX6_delayOf_55 hl (by decide) rfl (fun ls hl => ?_)
  refine lv_iload hx hb dX6_delayOf_57 (lv_at hl 7 rfl) ?_
  refine lv_iload hx hb dX6_delayOf_59 (lv_at hl 5 rfl) ?_
  refine m_purei (As := [.int v7, .int v5]) (rest := []) C I (met6_greater l v7 v5 h) (cw6_229 hts ⟨Nat.le_of_ble_eq_true rfl, Nat.le_of_ble_eq_true rfl⟩) rfl hl.1 rfl (Nat.le_of_ble_eq_true rfl) ⟨Nat.zero_le _, Nat.zero_le _⟩ dX6_delayOf_61 (fun r1 H locs h I => ?_)
  refine lv_istore (lv' := [(5, .int r1), (4, .int s0), (0, .ref (ad 0)), (1, .int v1), (2, .int v2), (3, .int v3), (6, .int v6), (7, .int v7)]) hx hb dX6_delayOf_64 hl (by decide) rfl (fun ls hl => ?_)
  refine lv_iinc (v := (v6 + 1)) (lv' := [(6, .int (v6 + 1)), (5, .int r1), (4, .int s0), (0, .ref (ad 0)), (1, .int v1), (2, .int v2), (3, .int v3), (7, .int v7)]) hx hb dX6_delayOf_66 hl (k := 6) rfl (ii_1 _) (by decide) rfl (fun ls hl => ?_)
  refine lv_goto (tgt := 16) hx hb dX6_delayOf_69 (by decide) ?_
  exact hK16 v1 v2 v3 s0 r1 (v6 + 1) M _ _ _ h I (lv_sub hl [3, 4, 5, 6, 2, 1, 0] rfl)
theorem t6_delayOf_b16_f {p : Program} {l : Launch} {e : Env} {s : State} {m : MethodId} {args : Array Value} {below : List Frame} {meth : Method} {c : Code} {D : va_G} {T ad : Nat → Nat} {A : Nat → Prop} {H0 : Heap} {Qs : State → Prop} {Q : Int32 → Mem → Prop} {K16 : Int32 → Int32 → Int32 → Int32 → Int32 → Int32 → Mem → Prop} (C : MC D T p m c cX6_delayOf 8 s args) (hQ : mExi p l e rX6_delayOf s m args below meth c cX6_delayOf D T ad A H0 Qs Q) (hK16 : ∀ (v1 : Int32) (v2 : Int32) (v3 : Int32) (v4 : Int32) (v5 : Int32) (v6 : Int32) (M : Mem) (H : Heap) (locs : List Loc) (ls : Array Slot), K16 v1 v2 v3 v4 v5 v6 M → MI D T ad A H0 M H locs → lv_has ls 8 [(0, .ref (ad 0)), (1, .int v1), (2, .int v2), (3, .int v3), (4, .int v4), (5, .int v5), (6, .int v6)] → W p l e rX6_delayOf s m args below meth c H locs 0 0 Qs (F0 m 16 ls [])) (v1 : Int32) (v2 : Int32) (v3 : Int32) (v4 : Int32) (v5 : Int32) (v6 : Int32) (M : Mem) (H : Heap) (locs : List Loc) (ls : Array Slot) (h : w6_delayOf_b16_f Q K16 v1 v2 v3 v4 v5 v6 M) (I : MI D T ad A H0 M H locs) (hl : lv_has ls 8 [(0, .ref (ad 0)), (1, .int v1), (2, .int v2), (3, .int v3), (4, .int v4), (5, .int v5), (6, .int v6)]) : W p l e rX6_delayOf s m args below meth c H locs 0 0 Qs (F0 m 16 ls []) := by
  have hx := C.1.1
  have hb := C.1.2.1
  have how := C.1.2.2.2.1
  have hts := C.1.2.2.2.2
  unfold w6_delayOf_b16_f at h
  refine lv_iload hx hb dX6_delayOf_16 (lv_at hl 6 rfl) ?_
  refine lv_bipush (v := 10) hx hb dX6_delayOf_18 (by decide) ?_
  refine lv_icmp_ge (tgt := 72) hx hb dX6_delayOf_20 (by decide) (fun c => ?_) (fun c => ?_)
  · have h := h.1 c
    refine lv_aload_n hx hb dX6_delayOf_72 rfl (lv_at hl 0 rfl) ?_
    refine mg_late C I dX6_delayOf_73 ?_
    refine lv_iload_n hx hb dX6_delayOf_76 rfl (lv_at hl 1 rfl) ?_
    refine lv_iload_n hx hb dX6_delayOf_77 rfl (lv_at hl 3 rfl) ?_
    obtain ⟨hg2, h⟩ := h
    refine m_iast C I 12 8 rfl (by decide) hg2 dX6_delayOf_78 (fun M3 H locs eM3 I => ?_)
    have h := h M3 eM3
    refine lv_iload_n hx hb dX6_delayOf_79 rfl (lv_at hl 2 rfl) ?_
    refine lv_if_ne (tgt := 88) hx hb dX6_delayOf_80 (by decide) (fun c => ?_) (fun c => ?_)
    · have h := h.2 c
      refine lv_iload hx hb dX6_delayOf_88 (lv_at hl 5 rfl) ?_
      exact t6_delayOf_b90 C hQ v5 M3 _ _ _ h I (lv_sub hl [0] rfl)
    · have h := h.1 c
      refine lv_iload hx hb dX6_delayOf_83 (lv_at hl 4 rfl) ?_
      refine lv_goto (tgt := 90) hx hb dX6_delayOf_85 (by decide) ?_
      exact t6_delayOf_b90 C hQ v4 M3 _ _ _ h I (lv_sub hl [0] rfl)
  · have h := h.2 c
    refine lv_aload_n hx hb dX6_delayOf_23 rfl (lv_at hl 0 rfl) ?_
    refine mg_late C I dX6_delayOf_24 ?_
    refine lv_iload_n hx hb dX6_delayOf_27 rfl (lv_at hl 1 rfl) ?_
    refine lv_iload hx hb dX6_delayOf_28 (lv_at hl 6 rfl) ?_
    obtain ⟨hg4, h⟩ := h
    refine m_iast C I 12 8 rfl (by decide) hg4 dX6_delayOf_30 (fun M5 H locs eM5 I => ?_)
    have h := h M5 eM5
    refine lv_aload_n hx hb dX6_delayOf_31 rfl (lv_at hl 0 rfl) ?_
    refine m_callv (As := []) (rest := []) C I (met6_lives l D T ad M5 h) (cw6_215 hts ⟨Nat.le_of_ble_eq_true rfl, Nat.le_of_ble_eq_true rfl⟩) rfl hl.1 rfl (Nat.le_of_ble_eq_true rfl) ⟨Nat.zero_le _, Nat.zero_le _⟩ dX6_delayOf_32 (fun M6 H locs h I => ?_)
    refine lv_aload_n hx hb dX6_delayOf_35 rfl (lv_at hl 0 rfl) ?_
    refine m_calli (As := []) (rest := []) C I (met6_comers l D T ad M6 h) (cw6_244 hts ⟨Nat.le_of_ble_eq_true rfl, Nat.le_of_ble_eq_true rfl⟩) rfl hl.1 rfl (Nat.le_of_ble_eq_true rfl) ⟨Nat.zero_le _, Nat.zero_le _⟩ dX6_delayOf_36 (fun r7 M8 H locs h I => ?_)
    refine lv_istore (lv' := [(7, .int r7), (0, .ref (ad 0)), (1, .int v1), (2, .int v2), (3, .int v3), (4, .int v4), (5, .int v5), (6, .int v6)]) hx hb dX6_delayOf_39 hl (by decide) rfl (fun ls hl => ?_)
    refine lv_iload hx hb dX6_delayOf_41 (lv_at hl 0 rfl) ?_
    refine lv_iload hx hb dX6_delayOf_43 (lv_at hl 6 rfl) ?_
    refine lv_icmp_le (tgt := 53) hx hb dX6_delayOf_45 (by decide) (fun c => ?_) (fun c => ?_)
    · have h := h.1 c
      refine lv_iload hx hb dX6_delayOf_53 (lv_at hl 5 rfl) ?_
      exact t6_delayOf_b55 C hQ hK16 v1 v2 v3 v5 v6 r7 v4 M8 _ _ _ h I (lv_sub hl [1, 2, 3, 4, 6, 7, 0] rfl)
    · have h := h.2 c
      refine lv_iload hx hb dX6_delayOf_48 (lv_at hl 7 rfl) ?_
      refine lv_goto (tgt := 55) hx hb dX6_delayOf_50 (by decide) ?_
      exact t6_delayOf_b55 C hQ hK16 v1 v2 v3 v5 v6 r7 v6 M8 _ _ _ h I (lv_sub hl [1, 2, 3, 4, 6, 7, 0] rfl)
theorem t6_delayOf_b16 {p : Program} {l : Launch} {e : Env} {s : State} {m : MethodId} {args : Array Value} {below : List Frame} {meth : Method} {c : Code} {D : va_G} {T ad : Nat → Nat} {A : Nat → Prop} {H0 : Heap} {Qs : State → Prop} {Q : Int32 → Mem → Prop}  (C : MC D T p m c cX6_delayOf 8 s args) (hQ : mExi p l e rX6_delayOf s m args below meth c cX6_delayOf D T ad A H0 Qs Q)  : ∀ (n : Nat) (v1 : Int32) (v2 : Int32) (v3 : Int32) (v4 : Int32) (v5 : Int32) (v6 : Int32) (M : Mem) (H : Heap) (locs : List Loc) (ls : Array Slot), w6_delayOf_b16 Q n v1 v2 v3 v4 v5 v6 M → MI D T ad A H0 M H locs → lv_has ls 8 [(0, .ref (ad 0)), (1, .int v1), (2, .int v2), (3, .int v3), (4, .int v4), (5, .int v5), (6, .int v6)] → W p l e rX6_delayOf s m args below meth c H locs 0 0 Qs (F0 m 16 ls []) := by
  intro n
  induction n with
  | zero => intro v1 v2 v3 v4 v5 v6 M H locs ls h; exact h.elim
  | succ n ih => intro v1 v2 v3 v4 v5 v6 M H locs ls h I hl; exact t6_delayOf_b16_f C hQ  ih v1 v2 v3 v4 v5 v6 M H locs ls h I hl
theorem t6_delayOf {p : Program} {l : Launch} {e : Env} {s : State} {m : MethodId} {args : Array Value} {below : List Frame} {meth : Method} {c : Code} {D : va_G} {T ad : Nat → Nat} {A : Nat → Prop} {H0 : Heap} {Qs : State → Prop} {Q : Int32 → Mem → Prop} (C : MC D T p m c cX6_delayOf 8 s args) (hQ : mExi p l e rX6_delayOf s m args below meth c cX6_delayOf D T ad A H0 Qs Q) (v1 : Int32) (v2 : Int32) (M : Mem) (H : Heap) (locs : List Loc) (ls : Array Slot) (h : w6_delayOf v1 v2 M Q) (I : MI D T ad A H0 M H locs) (hl : lv_has ls 8 [(0, .ref (ad 0)), (1, .int v1), (2, .int v2)]) : W p l e rX6_delayOf s m args below meth c H locs 0 0 Qs (F0 m 0 ls []) := by
  have hx := C.1.1
  have hb := C.1.2.1
  have how := C.1.2.2.2.1
  have hts := C.1.2.2.2.2
  unfold w6_delayOf at h
  refine lv_aload_n hx hb dX6_delayOf_0 rfl (lv_at hl 0 rfl) ?_
  refine mg_late C I dX6_delayOf_1 ?_
  refine lv_iload_n hx hb dX6_delayOf_4 rfl (lv_at hl 1 rfl) ?_
  obtain ⟨hg9, h⟩ := h
  refine m_iald C I 12 8 rfl (by decide) hg9 dX6_delayOf_5 ?_
  refine lv_istore_n (lv' := [(3, .int (M 12 (ci v1))), (0, .ref (ad 0)), (1, .int v1), (2, .int v2)]) hx hb dX6_delayOf_6 rfl hl (by decide) rfl (fun ls hl => ?_)
  refine lv_iconst (v := -1) hx hb dX6_delayOf_7 (by decide) ?_
  refine lv_istore (lv' := [(4, .int (-1)), (3, .int (M 12 (ci v1))), (0, .ref (ad 0)), (1, .int v1), (2, .int v2)]) hx hb dX6_delayOf_8 hl (by decide) rfl (fun ls hl => ?_)
  refine lv_iconst (v := -1) hx hb dX6_delayOf_10 (by decide) ?_
  refine lv_istore (lv' := [(5, .int (-1)), (4, .int (-1)), (3, .int (M 12 (ci v1))), (0, .ref (ad 0)), (1, .int v1), (2, .int v2)]) hx hb dX6_delayOf_11 hl (by decide) rfl (fun ls hl => ?_)
  refine lv_iconst (v := 0) hx hb dX6_delayOf_13 (by decide) ?_
  refine lv_istore (lv' := [(6, .int 0), (5, .int (-1)), (4, .int (-1)), (3, .int (M 12 (ci v1))), (0, .ref (ad 0)), (1, .int v1), (2, .int v2)]) hx hb dX6_delayOf_14 hl (by decide) rfl (fun ls hl => ?_)
  obtain ⟨n, h⟩ := h
  exact t6_delayOf_b16 C hQ n v1 v2 (M 12 (ci v1)) (-1) (-1) 0 M _ _ _ h I (lv_sub hl [4, 5, 6, 3, 2, 1, 0] rfl)
theorem met6_delayOf (l : Launch) (D : va_G) (T ad : Nat → Nat) (v1 : Int32) (v2 : Int32) (M : Mem) {Qp : Int32 → Mem → Prop} (h : w6_delayOf v1 v2 M Qp) (sz : Nat) : Met l yX6_delayOf (ws_ yX6_delayOf cX6_delayOf 8 (some .int)) rX6_delayOf (mPc D T ad [.int v1, .int v2] M sz) (mQi D T ad M Qp sz) 0 0 (fA (cM T ad M) sz) :=
  m_metI (As := [.int v1, .int v2]) rfl rfl (Nat.le_of_ble_eq_true rfl) (fun p e s m args below meth c A Qs ls C hQ I hl => t6_delayOf C hQ v1 v2 M _ _ ls h I hl) sz
/-! delay -/
abbrev rX6_delay : Room := { frames := 6, cells := 0, slots := 0, locals := 144 }
theorem cw6_250 {R : Room} {s : State} {args : Array Value} (hts : ∀ w ∈ lw_all, w.before args s = true) (hR : rX6_delayOf.frames + 1 ≤ R.frames ∧ 8 + (8 + 11) + rX6_delayOf.locals ≤ R.locals) : CallW R s args RX6 RX6 250 yX6_delayOf cX6_delayOf 8 (some .int) (ws_ yX6_delayOf cX6_delayOf 8 (some .int)) rX6_delayOf 0 0 2 := cwV 2 hts (lw_V q1252 q1254 qs74 q95 q1255) rfl rfl rfl (by decide +kernel) hR
theorem t6_delay_b30 {p : Program} {l : Launch} {e : Env} {s : State} {m : MethodId} {args : Array Value} {below : List Frame} {meth : Method} {c : Code} {D : va_G} {T ad : Nat → Nat} {A : Nat → Prop} {H0 : Heap} {Qs : State → Prop} {Q : Int32 → Mem → Prop}  (C : MC D T p m c cX6_delay 3 s args) (hQ : mExi p l e rX6_delay s m args below meth c cX6_delay D T ad A H0 Qs Q)  (s0 : Int32) (M : Mem) (H : Heap) (locs : List Loc) (ls : Array Slot) (h : w6_delay_b30 Q s0 M) (I : MI D T ad A H0 M H locs) (hl : lv_has ls 3 [(0, .ref (ad 0))]) : W p l e rX6_delay s m args below meth c H locs 0 0 Qs (F0 m 30 ls [.int s0]) := by
  have hx := C.1.1
  have hb := C.1.2.1
  have how := C.1.2.2.2.1
  have hts := C.1.2.2.2.2
  unfold w6_delay_b30 at h
  exact hQ _ _ _ _ _ _ h I dX6_delay_30
theorem t6_delay_b28 {p : Program} {l : Launch} {e : Env} {s : State} {m : MethodId} {args : Array Value} {below : List Frame} {meth : Method} {c : Code} {D : va_G} {T ad : Nat → Nat} {A : Nat → Prop} {H0 : Heap} {Qs : State → Prop} {Q : Int32 → Mem → Prop}  (C : MC D T p m c cX6_delay 3 s args) (hQ : mExi p l e rX6_delay s m args below meth c cX6_delay D T ad A H0 Qs Q)   (M : Mem) (H : Heap) (locs : List Loc) (ls : Array Slot) (h : w6_delay_b28 Q M) (I : MI D T ad A H0 M H locs) (hl : lv_has ls 3 [(0, .ref (ad 0))]) : W p l e rX6_delay s m args below meth c H locs 0 0 Qs (F0 m 28 ls []) := by
  have hx := C.1.1
  have hb := C.1.2.1
  have how := C.1.2.2.2.1
  have hts := C.1.2.2.2.2
  unfold w6_delay_b28 at h
  refine lv_bipush (v := -2) hx hb dX6_delay_28 (by decide) ?_
  exact t6_delay_b30 C hQ (-2) M _ _ _ h I (lv_sub hl [0] rfl)
theorem t6_delay {p : Program} {l : Launch} {e : Env} {s : State} {m : MethodId} {args : Array Value} {below : List Frame} {meth : Method} {c : Code} {D : va_G} {T ad : Nat → Nat} {A : Nat → Prop} {H0 : Heap} {Qs : State → Prop} {Q : Int32 → Mem → Prop} (C : MC D T p m c cX6_delay 3 s args) (hQ : mExi p l e rX6_delay s m args below meth c cX6_delay D T ad A H0 Qs Q) (v1 : Int32) (v2 : Int32) (M : Mem) (H : Heap) (locs : List Loc) (ls : Array Slot) (h : w6_delay v1 v2 M Q) (I : MI D T ad A H0 M H locs) (hl : lv_has ls 3 [(0, .ref (ad 0)), (1, .int v1), (2, .int v2)]) : W p l e rX6_delay s m args below meth c H locs 0 0 Qs (F0 m 0 ls []) := by
  have hx := C.1.1
  have hb := C.1.2.1
  have how := C.1.2.2.2.1
  have hts := C.1.2.2.2.2
  unfold w6_delay at h
  refine lv_aload_n hx hb dX6_delay_0 rfl (lv_at hl 0 rfl) ?_
  refine m_callv (As := []) (rest := []) C I (met6_find l D T ad M h) (cw6_218 hts ⟨Nat.le_of_ble_eq_true rfl, Nat.le_of_ble_eq_true rfl⟩) rfl hl.1 rfl (Nat.le_of_ble_eq_true rfl) ⟨Nat.zero_le _, Nat.zero_le _⟩ dX6_delay_1 (fun M1 H locs h I => ?_)
  refine lv_aload_n hx hb dX6_delay_4 rfl (lv_at hl 0 rfl) ?_
  refine lv_iload_n hx hb dX6_delay_5 rfl (lv_at hl 1 rfl) ?_
  refine m_calli (As := [.int v1]) (rest := []) C I (met6_isCarter l D T ad v1 M1 h) (cw6_153 hts ⟨Nat.le_of_ble_eq_true rfl, Nat.le_of_ble_eq_true rfl⟩) rfl hl.1 rfl (Nat.le_of_ble_eq_true rfl) ⟨Nat.zero_le _, Nat.zero_le _⟩ dX6_delay_6 (fun r2 M3 H locs h I => ?_)
  refine lv_if_eq (tgt := 28) hx hb dX6_delay_9 (by decide) (fun c => ?_) (fun c => ?_)
  · have h := h.1 c
    exact t6_delay_b28 C hQ M3 _ _ _ h I (lv_sub hl [0] rfl)
  · have h := h.2 c
    refine lv_iload_n hx hb dX6_delay_12 rfl (lv_at hl 2 rfl) ?_
    refine m_purei (As := [.int v2]) (rest := []) C I (met6_isTwo l v2 h) (cw6_110 hts ⟨Nat.le_of_ble_eq_true rfl, Nat.le_of_ble_eq_true rfl⟩) rfl hl.1 rfl (Nat.le_of_ble_eq_true rfl) ⟨Nat.zero_le _, Nat.zero_le _⟩ dX6_delay_13 (fun r4 H locs h I => ?_)
    refine lv_if_eq (tgt := 28) hx hb dX6_delay_16 (by decide) (fun c => ?_) (fun c => ?_)
    · have h := h.1 c
      exact t6_delay_b28 C hQ M3 _ _ _ h I (lv_sub hl [0] rfl)
    · have h := h.2 c
      refine lv_aload_n hx hb dX6_delay_19 rfl (lv_at hl 0 rfl) ?_
      refine lv_iload_n hx hb dX6_delay_20 rfl (lv_at hl 1 rfl) ?_
      refine lv_iload_n hx hb dX6_delay_21 rfl (lv_at hl 2 rfl) ?_
      refine m_calli (As := [.int v1, .int v2]) (rest := []) C I (met6_delayOf l D T ad v1 v2 M3 h) (cw6_250 hts ⟨Nat.le_of_ble_eq_true rfl, Nat.le_of_ble_eq_true rfl⟩) rfl hl.1 rfl (Nat.le_of_ble_eq_true rfl) ⟨Nat.zero_le _, Nat.zero_le _⟩ dX6_delay_22 (fun r5 M6 H locs h I => ?_)
      refine lv_goto (tgt := 30) hx hb dX6_delay_25 (by decide) ?_
      exact t6_delay_b30 C hQ r5 M6 _ _ _ h I (lv_sub hl [0] rfl)
theorem met6_delay (l : Launch) (D : va_G) (T ad : Nat → Nat) (v1 : Int32) (v2 : Int32) (M : Mem) {Qp : Int32 → Mem → Prop} (h : w6_delay v1 v2 M Qp) (sz : Nat) : Met l yX6_delay (ws_ yX6_delay cX6_delay 3 (some .int)) rX6_delay (mPc D T ad [.int v1, .int v2] M sz) (mQi D T ad M Qp sz) 0 0 (fA (cM T ad M) sz) :=
  m_metI (As := [.int v1, .int v2]) rfl rfl (Nat.le_of_ble_eq_true rfl) (fun p e s m args below meth c A Qs ls C hQ I hl => t6_delay C hQ v1 v2 M _ _ ls h I hl) sz
/-! levelBy -/
abbrev rX6_levelBy : Room := { frames := 5, cells := 0, slots := 0, locals := 117 }
theorem t6_levelBy_b107 {p : Program} {l : Launch} {e : Env} {s : State} {m : MethodId} {args : Array Value} {below : List Frame} {meth : Method} {c : Code} {D : va_G} {T ad : Nat → Nat} {A : Nat → Prop} {H0 : Heap} {Qs : State → Prop} {Q : Int32 → Mem → Prop}  (C : MC D T p m c cX6_levelBy 7 s args) (hQ : mExi p l e rX6_levelBy s m args below meth c cX6_levelBy D T ad A H0 Qs Q)  (s0 : Int32) (M : Mem) (H : Heap) (locs : List Loc) (ls : Array Slot) (h : w6_levelBy_b107 Q s0 M) (I : MI D T ad A H0 M H locs) (hl : lv_has ls 7 [(0, .ref (ad 0))]) : W p l e rX6_levelBy s m args below meth c H locs 0 0 Qs (F0 m 107 ls [.int s0]) := by
  have hx := C.1.1
  have hb := C.1.2.1
  have how := C.1.2.2.2.1
  have hts := C.1.2.2.2.2
  unfold w6_levelBy_b107 at h
  exact hQ _ _ _ _ _ _ h I dX6_levelBy_107
theorem t6_levelBy_b67 {p : Program} {l : Launch} {e : Env} {s : State} {m : MethodId} {args : Array Value} {below : List Frame} {meth : Method} {c : Code} {D : va_G} {T ad : Nat → Nat} {A : Nat → Prop} {H0 : Heap} {Qs : State → Prop} {Q : Int32 → Mem → Prop} {K7 : Int32 → Int32 → Int32 → Int32 → Mem → Prop} (C : MC D T p m c cX6_levelBy 7 s args) (hQ : mExi p l e rX6_levelBy s m args below meth c cX6_levelBy D T ad A H0 Qs Q) (hK7 : ∀ (v1 : Int32) (v2 : Int32) (v3 : Int32) (v4 : Int32) (M : Mem) (H : Heap) (locs : List Loc) (ls : Array Slot), K7 v1 v2 v3 v4 M → MI D T ad A H0 M H locs → lv_has ls 7 [(0, .ref (ad 0)), (1, .int v1), (2, .int v2), (3, .int v3), (4, .int v4)] → W p l e rX6_levelBy s m args below meth c H locs 0 0 Qs (F0 m 7 ls [])) (v1 : Int32) (v3 : Int32) (v4 : Int32) (v5 : Int32) (v6 : Int32) (s0 : Int32) (M : Mem) (H : Heap) (locs : List Loc) (ls : Array Slot) (h : w6_levelBy_b67 Q K7 v1 v3 v4 v5 v6 s0 M) (I : MI D T ad A H0 M H locs) (hl : lv_has ls 7 [(0, .ref (ad 0)), (1, .int v1), (3, .int v3), (4, .int v4), (5, .int v5), (6, .int v6)]) : W p l e rX6_levelBy s m args below meth c H locs 0 0 Qs (F0 m 67 ls [.int s0]) := by
  have hx := C.1.1
  have hb := C.1.2.1
  have how := C.1.2.2.2.1
  have hts := C.1.2.2.2.2
  unfold w6_levelBy_b67 at h
  refine lv_istore_n (lv' := [(2, .int s0), (0, .ref (ad 0)), (1, .int v1), (3, .int v3), (4, .int v4), (5, .int v5), (6, .int v6)]) hx hb dX6_levelBy_67 rfl hl (by decide) rfl (fun ls hl => ?_)
  refine lv_iload hx hb dX6_levelBy_68 (lv_at hl 6 rfl) ?_
  refine lv_iload_n hx hb dX6_levelBy_70 rfl (lv_at hl 3 rfl) ?_
  refine m_purei (As := [.int v6, .int v3]) (rest := []) C I (met6_greater l v6 v3 h) (cw6_229 hts ⟨Nat.le_of_ble_eq_true rfl, Nat.le_of_ble_eq_true rfl⟩) rfl hl.1 rfl (Nat.le_of_ble_eq_true rfl) ⟨Nat.zero_le _, Nat.zero_le _⟩ dX6_levelBy_71 (fun r1 H locs h I => ?_)
  refine lv_istore_n (lv' := [(3, .int r1), (2, .int s0), (0, .ref (ad 0)), (1, .int v1), (4, .int v4), (5, .int v5), (6, .int v6)]) hx hb dX6_levelBy_74 rfl hl (by decide) rfl (fun ls hl => ?_)
  refine lv_aload_n hx hb dX6_levelBy_75 rfl (lv_at hl 2 rfl) ?_
  refine mg_way C I dX6_levelBy_76 ?_
  refine lv_iconst (v := 4) hx hb dX6_levelBy_79 (by decide) ?_
  refine lv_iload hx hb dX6_levelBy_80 (lv_at hl 4 rfl) ?_
  refine lv_imul hx hb dX6_levelBy_82 ?_
  refine lv_iconst (v := 3) hx hb dX6_levelBy_83 (by decide) ?_
  refine lv_iadd hx hb dX6_levelBy_84 ?_
  refine lv_iload hx hb dX6_levelBy_85 (lv_at hl 5 rfl) ?_
  obtain ⟨hg2, h⟩ := h
  refine m_iast C I 9 40 rfl (by decide) hg2 dX6_levelBy_87 (fun M3 H locs eM3 I => ?_)
  have h := h M3 eM3
  refine lv_iinc (v := (v4 + 1)) (lv' := [(4, .int (v4 + 1)), (3, .int r1), (2, .int s0), (0, .ref (ad 0)), (1, .int v1), (5, .int v5), (6, .int v6)]) hx hb dX6_levelBy_88 hl (k := 4) rfl (ii_1 _) (by decide) rfl (fun ls hl => ?_)
  refine lv_goto (tgt := 7) hx hb dX6_levelBy_91 (by decide) ?_
  exact hK7 v1 s0 r1 (v4 + 1) M3 _ _ _ h I (lv_sub hl [3, 4, 2, 1, 0] rfl)
theorem t6_levelBy_b7_f {p : Program} {l : Launch} {e : Env} {s : State} {m : MethodId} {args : Array Value} {below : List Frame} {meth : Method} {c : Code} {D : va_G} {T ad : Nat → Nat} {A : Nat → Prop} {H0 : Heap} {Qs : State → Prop} {Q : Int32 → Mem → Prop} {K7 : Int32 → Int32 → Int32 → Int32 → Mem → Prop} (C : MC D T p m c cX6_levelBy 7 s args) (hQ : mExi p l e rX6_levelBy s m args below meth c cX6_levelBy D T ad A H0 Qs Q) (hK7 : ∀ (v1 : Int32) (v2 : Int32) (v3 : Int32) (v4 : Int32) (M : Mem) (H : Heap) (locs : List Loc) (ls : Array Slot), K7 v1 v2 v3 v4 M → MI D T ad A H0 M H locs → lv_has ls 7 [(0, .ref (ad 0)), (1, .int v1), (2, .int v2), (3, .int v3), (4, .int v4)] → W p l e rX6_levelBy s m args below meth c H locs 0 0 Qs (F0 m 7 ls [])) (v1 : Int32) (v2 : Int32) (v3 : Int32) (v4 : Int32) (M : Mem) (H : Heap) (locs : List Loc) (ls : Array Slot) (h : w6_levelBy_b7_f Q K7 v1 v2 v3 v4 M) (I : MI D T ad A H0 M H locs) (hl : lv_has ls 7 [(0, .ref (ad 0)), (1, .int v1), (2, .int v2), (3, .int v3), (4, .int v4)]) : W p l e rX6_levelBy s m args below meth c H locs 0 0 Qs (F0 m 7 ls []) := by
  have hx := C.1.1
  have hb := C.1.2.1
  have how := C.1.2.2.2.1
  have hts := C.1.2.2.2.2
  unfold w6_levelBy_b7_f at h
  refine lv_iload hx hb dX6_levelBy_7 (lv_at hl 4 rfl) ?_
  refine lv_aload_n hx hb dX6_levelBy_9 rfl (lv_at hl 0 rfl) ?_
  refine mg_ways C I dX6_levelBy_10 ?_
  refine lv_icmp_ge (tgt := 94) hx hb dX6_levelBy_13 (by decide) (fun c => ?_) (fun c => ?_)
  · have h := h.1 c
    refine lv_aload_n hx hb dX6_levelBy_94 rfl (lv_at hl 0 rfl) ?_
    refine m_callv (As := []) (rest := []) C I (met6_maps l D T ad M h) (cw6_212 hts ⟨Nat.le_of_ble_eq_true rfl, Nat.le_of_ble_eq_true rfl⟩) rfl hl.1 rfl (Nat.le_of_ble_eq_true rfl) ⟨Nat.zero_le _, Nat.zero_le _⟩ dX6_levelBy_95 (fun M4 H locs h I => ?_)
    refine lv_iload_n hx hb dX6_levelBy_98 rfl (lv_at hl 1 rfl) ?_
    refine lv_if_ne (tgt := 106) hx hb dX6_levelBy_99 (by decide) (fun c => ?_) (fun c => ?_)
    · have h := h.2 c
      refine lv_iload_n hx hb dX6_levelBy_106 rfl (lv_at hl 3 rfl) ?_
      exact t6_levelBy_b107 C hQ v3 M4 _ _ _ h I (lv_sub hl [0] rfl)
    · have h := h.1 c
      refine lv_iload_n hx hb dX6_levelBy_102 rfl (lv_at hl 2 rfl) ?_
      refine lv_goto (tgt := 107) hx hb dX6_levelBy_103 (by decide) ?_
      exact t6_levelBy_b107 C hQ v2 M4 _ _ _ h I (lv_sub hl [0] rfl)
  · have h := h.2 c
    refine lv_aload_n hx hb dX6_levelBy_16 rfl (lv_at hl 0 rfl) ?_
    refine mg_way C I dX6_levelBy_17 ?_
    refine lv_iconst (v := 4) hx hb dX6_levelBy_20 (by decide) ?_
    refine lv_iload hx hb dX6_levelBy_21 (lv_at hl 4 rfl) ?_
    refine lv_imul hx hb dX6_levelBy_23 ?_
    refine lv_iconst (v := 3) hx hb dX6_levelBy_24 (by decide) ?_
    refine lv_iadd hx hb dX6_levelBy_25 ?_
    obtain ⟨hg5, h⟩ := h
    refine m_iald C I 9 40 rfl (by decide) hg5 dX6_levelBy_26 ?_
    refine lv_topi (fun x6 ex6 => ?_)
    have h := h x6 ex6
    refine lv_istore (lv' := [(5, .int x6), (0, .ref (ad 0)), (1, .int v1), (2, .int v2), (3, .int v3), (4, .int v4)]) hx hb dX6_levelBy_27 hl (by decide) rfl (fun ls hl => ?_)
    refine lv_aload_n hx hb dX6_levelBy_29 rfl (lv_at hl 1 rfl) ?_
    refine mg_way C I dX6_levelBy_30 ?_
    refine lv_iconst (v := 4) hx hb dX6_levelBy_33 (by decide) ?_
    refine lv_iload hx hb dX6_levelBy_34 (lv_at hl 5 rfl) ?_
    refine lv_imul hx hb dX6_levelBy_36 ?_
    refine lv_iconst (v := 3) hx hb dX6_levelBy_37 (by decide) ?_
    refine lv_iadd hx hb dX6_levelBy_38 ?_
    refine lv_iconst (v := 1) hx hb dX6_levelBy_39 (by decide) ?_
    refine m_iast C I 9 40 rfl (by decide) hg5 dX6_levelBy_40 (fun M7 H locs eM7 I => ?_)
    have h := h M7 eM7
    refine lv_aload_n hx hb dX6_levelBy_41 rfl (lv_at hl 1 rfl) ?_
    refine m_callv (As := []) (rest := []) C I (met6_maps l D T ad M7 h) (cw6_212 hts ⟨Nat.le_of_ble_eq_true rfl, Nat.le_of_ble_eq_true rfl⟩) rfl hl.1 rfl (Nat.le_of_ble_eq_true rfl) ⟨Nat.zero_le _, Nat.zero_le _⟩ dX6_levelBy_42 (fun M8 H locs h I => ?_)
    refine lv_aload_n hx hb dX6_levelBy_45 rfl (lv_at hl 1 rfl) ?_
    refine m_callv (As := []) (rest := []) C I (met6_lives l D T ad M8 h) (cw6_215 hts ⟨Nat.le_of_ble_eq_true rfl, Nat.le_of_ble_eq_true rfl⟩) rfl hl.1 rfl (Nat.le_of_ble_eq_true rfl) ⟨Nat.zero_le _, Nat.zero_le _⟩ dX6_levelBy_46 (fun M9 H locs h I => ?_)
    refine lv_aload_n hx hb dX6_levelBy_49 rfl (lv_at hl 1 rfl) ?_
    refine m_calli (As := []) (rest := []) C I (met6_comers l D T ad M9 h) (cw6_244 hts ⟨Nat.le_of_ble_eq_true rfl, Nat.le_of_ble_eq_true rfl⟩) rfl hl.1 rfl (Nat.le_of_ble_eq_true rfl) ⟨Nat.zero_le _, Nat.zero_le _⟩ dX6_levelBy_50 (fun r10 M11 H locs h I => ?_)
    refine lv_istore (lv' := [(6, .int r10), (5, .int x6), (0, .ref (ad 0)), (1, .int v1), (2, .int v2), (3, .int v3), (4, .int v4)]) hx hb dX6_levelBy_53 hl (by decide) rfl (fun ls hl => ?_)
    refine lv_iload hx hb dX6_levelBy_55 (lv_at hl 0 rfl) ?_
    refine lv_iload_n hx hb dX6_levelBy_57 rfl (lv_at hl 5 rfl) ?_
    refine lv_icmp_le (tgt := 66) hx hb dX6_levelBy_58 (by decide) (fun c => ?_) (fun c => ?_)
    · have h := h.1 c
      refine lv_iload_n hx hb dX6_levelBy_66 rfl (lv_at hl 4 rfl) ?_
      exact t6_levelBy_b67 C hQ hK7 v1 v3 v4 x6 r10 v2 M11 _ _ _ h I (lv_sub hl [2, 3, 5, 6, 1, 0] rfl)
    · have h := h.2 c
      refine lv_iload hx hb dX6_levelBy_61 (lv_at hl 6 rfl) ?_
      refine lv_goto (tgt := 67) hx hb dX6_levelBy_63 (by decide) ?_
      exact t6_levelBy_b67 C hQ hK7 v1 v3 v4 x6 r10 v4 M11 _ _ _ h I (lv_sub hl [2, 3, 5, 6, 1, 0] rfl)
theorem t6_levelBy_b7 {p : Program} {l : Launch} {e : Env} {s : State} {m : MethodId} {args : Array Value} {below : List Frame} {meth : Method} {c : Code} {D : va_G} {T ad : Nat → Nat} {A : Nat → Prop} {H0 : Heap} {Qs : State → Prop} {Q : Int32 → Mem → Prop}  (C : MC D T p m c cX6_levelBy 7 s args) (hQ : mExi p l e rX6_levelBy s m args below meth c cX6_levelBy D T ad A H0 Qs Q)  : ∀ (n : Nat) (v1 : Int32) (v2 : Int32) (v3 : Int32) (v4 : Int32) (M : Mem) (H : Heap) (locs : List Loc) (ls : Array Slot), w6_levelBy_b7 Q n v1 v2 v3 v4 M → MI D T ad A H0 M H locs → lv_has ls 7 [(0, .ref (ad 0)), (1, .int v1), (2, .int v2), (3, .int v3), (4, .int v4)] → W p l e rX6_levelBy s m args below meth c H locs 0 0 Qs (F0 m 7 ls []) := by
  intro n
  induction n with
  | zero => intro v1 v2 v3 v4 M H locs ls h; exact h.elim
  | succ n ih => intro v1 v2 v3 v4 M H locs ls h I hl; exact t6_levelBy_b7_f C hQ  ih v1 v2 v3 v4 M H locs ls h I hl
theorem t6_levelBy {p : Program} {l : Launch} {e : Env} {s : State} {m : MethodId} {args : Array Value} {below : List Frame} {meth : Method} {c : Code} {D : va_G} {T ad : Nat → Nat} {A : Nat → Prop} {H0 : Heap} {Qs : State → Prop} {Q : Int32 → Mem → Prop} (C : MC D T p m c cX6_levelBy 7 s args) (hQ : mExi p l e rX6_levelBy s m args below meth c cX6_levelBy D T ad A H0 Qs Q) (v1 : Int32) (M : Mem) (H : Heap) (locs : List Loc) (ls : Array Slot) (h : w6_levelBy v1 M Q) (I : MI D T ad A H0 M H locs) (hl : lv_has ls 7 [(0, .ref (ad 0)), (1, .int v1)]) : W p l e rX6_levelBy s m args below meth c H locs 0 0 Qs (F0 m 0 ls []) := by
  have hx := C.1.1
  have hb := C.1.2.1
  have how := C.1.2.2.2.1
  have hts := C.1.2.2.2.2
  unfold w6_levelBy at h
  refine lv_iconst (v := -1) hx hb dX6_levelBy_0 (by decide) ?_
  refine lv_istore_n (lv' := [(2, .int (-1)), (0, .ref (ad 0)), (1, .int v1)]) hx hb dX6_levelBy_1 rfl hl (by decide) rfl (fun ls hl => ?_)
  refine lv_iconst (v := -1) hx hb dX6_levelBy_2 (by decide) ?_
  refine lv_istore_n (lv' := [(3, .int (-1)), (2, .int (-1)), (0, .ref (ad 0)), (1, .int v1)]) hx hb dX6_levelBy_3 rfl hl (by decide) rfl (fun ls hl => ?_)
  refine lv_iconst (v := 0) hx hb dX6_levelBy_4 (by decide) ?_
  refine lv_istore (lv' := [(4, .int 0), (3, .int (-1)), (2, .int (-1)), (0, .ref (ad 0)), (1, .int v1)]) hx hb dX6_levelBy_5 hl (by decide) rfl (fun ls hl => ?_)
  obtain ⟨n, h⟩ := h
  exact t6_levelBy_b7 C hQ n v1 (-1) (-1) 0 M _ _ _ h I (lv_sub hl [3, 4, 2, 1, 0] rfl)
theorem met6_levelBy (l : Launch) (D : va_G) (T ad : Nat → Nat) (v1 : Int32) (M : Mem) {Qp : Int32 → Mem → Prop} (h : w6_levelBy v1 M Qp) (sz : Nat) : Met l yX6_levelBy (ws_ yX6_levelBy cX6_levelBy 7 (some .int)) rX6_levelBy (mPc D T ad [.int v1] M sz) (mQi D T ad M Qp sz) 0 0 (fA (cM T ad M) sz) :=
  m_metI (As := [.int v1]) rfl rfl (Nat.le_of_ble_eq_true rfl) (fun p e s m args below meth c A Qs ls C hQ I hl => t6_levelBy C hQ v1 M _ _ ls h I hl) sz
/-! level -/
abbrev rX6_level : Room := { frames := 6, cells := 0, slots := 0, locals := 143 }
theorem cw6_253 {R : Room} {s : State} {args : Array Value} (hts : ∀ w ∈ lw_all, w.before args s = true) (hR : rX6_levelBy.frames + 1 ≤ R.frames ∧ 8 + (7 + 11) + rX6_levelBy.locals ≤ R.locals) : CallW R s args RX6 RX6 253 yX6_levelBy cX6_levelBy 7 (some .int) (ws_ yX6_levelBy cX6_levelBy 7 (some .int)) rX6_levelBy 0 0 1 := cwV 1 hts (lw_V q1260 q1262 qs75 q95 q1263) rfl rfl rfl (by decide +kernel) hR
theorem t6_level_b21 {p : Program} {l : Launch} {e : Env} {s : State} {m : MethodId} {args : Array Value} {below : List Frame} {meth : Method} {c : Code} {D : va_G} {T ad : Nat → Nat} {A : Nat → Prop} {H0 : Heap} {Qs : State → Prop} {Q : Int32 → Mem → Prop}  (C : MC D T p m c cX6_level 2 s args) (hQ : mExi p l e rX6_level s m args below meth c cX6_level D T ad A H0 Qs Q)  (s0 : Int32) (M : Mem) (H : Heap) (locs : List Loc) (ls : Array Slot) (h : w6_level_b21 Q s0 M) (I : MI D T ad A H0 M H locs) (hl : lv_has ls 2 [(0, .ref (ad 0))]) : W p l e rX6_level s m args below meth c H locs 0 0 Qs (F0 m 21 ls [.int s0]) := by
  have hx := C.1.1
  have hb := C.1.2.1
  have how := C.1.2.2.2.1
  have hts := C.1.2.2.2.2
  unfold w6_level_b21 at h
  exact hQ _ _ _ _ _ _ h I dX6_level_21
theorem t6_level {p : Program} {l : Launch} {e : Env} {s : State} {m : MethodId} {args : Array Value} {below : List Frame} {meth : Method} {c : Code} {D : va_G} {T ad : Nat → Nat} {A : Nat → Prop} {H0 : Heap} {Qs : State → Prop} {Q : Int32 → Mem → Prop} (C : MC D T p m c cX6_level 2 s args) (hQ : mExi p l e rX6_level s m args below meth c cX6_level D T ad A H0 Qs Q) (v1 : Int32) (M : Mem) (H : Heap) (locs : List Loc) (ls : Array Slot) (h : w6_level v1 M Q) (I : MI D T ad A H0 M H locs) (hl : lv_has ls 2 [(0, .ref (ad 0)), (1, .int v1)]) : W p l e rX6_level s m args below meth c H locs 0 0 Qs (F0 m 0 ls []) := by
  have hx := C.1.1
  have hb := C.1.2.1
  have how := C.1.2.2.2.1
  have hts := C.1.2.2.2.2
  unfold w6_level at h
  refine lv_aload_n hx hb dX6_level_0 rfl (lv_at hl 0 rfl) ?_
  refine m_callv (As := []) (rest := []) C I (met6_find l D T ad M h) (cw6_218 hts ⟨Nat.le_of_ble_eq_true rfl, Nat.le_of_ble_eq_true rfl⟩) rfl hl.1 rfl (Nat.le_of_ble_eq_true rfl) ⟨Nat.zero_le _, Nat.zero_le _⟩ dX6_level_1 (fun M1 H locs h I => ?_)
  refine lv_iload_n hx hb dX6_level_4 rfl (lv_at hl 1 rfl) ?_
  refine m_purei (As := [.int v1]) (rest := []) C I (met6_isTwo l v1 h) (cw6_110 hts ⟨Nat.le_of_ble_eq_true rfl, Nat.le_of_ble_eq_true rfl⟩) rfl hl.1 rfl (Nat.le_of_ble_eq_true rfl) ⟨Nat.zero_le _, Nat.zero_le _⟩ dX6_level_5 (fun r2 H locs h I => ?_)
  refine lv_if_eq (tgt := 19) hx hb dX6_level_8 (by decide) (fun c => ?_) (fun c => ?_)
  · have h := h.1 c
    refine lv_bipush (v := -2) hx hb dX6_level_19 (by decide) ?_
    exact t6_level_b21 C hQ (-2) M1 _ _ _ h I (lv_sub hl [0] rfl)
  · have h := h.2 c
    refine lv_aload_n hx hb dX6_level_11 rfl (lv_at hl 0 rfl) ?_
    refine lv_iload_n hx hb dX6_level_12 rfl (lv_at hl 1 rfl) ?_
    refine m_calli (As := [.int v1]) (rest := []) C I (met6_levelBy l D T ad v1 M1 h) (cw6_253 hts ⟨Nat.le_of_ble_eq_true rfl, Nat.le_of_ble_eq_true rfl⟩) rfl hl.1 rfl (Nat.le_of_ble_eq_true rfl) ⟨Nat.zero_le _, Nat.zero_le _⟩ dX6_level_13 (fun r3 M4 H locs h I => ?_)
    refine lv_goto (tgt := 21) hx hb dX6_level_16 (by decide) ?_
    exact t6_level_b21 C hQ r3 M4 _ _ _ h I (lv_sub hl [0] rfl)
theorem met6_level (l : Launch) (D : va_G) (T ad : Nat → Nat) (v1 : Int32) (M : Mem) {Qp : Int32 → Mem → Prop} (h : w6_level v1 M Qp) (sz : Nat) : Met l yX6_level (ws_ yX6_level cX6_level 2 (some .int)) rX6_level (mPc D T ad [.int v1] M sz) (mQi D T ad M Qp sz) 0 0 (fA (cM T ad M) sz) :=
  m_metI (As := [.int v1]) rfl rfl (Nat.le_of_ble_eq_true rfl) (fun p e s m args below meth c A Qs ls C hQ I hl => t6_level C hQ v1 M _ _ ls h I hl) sz
/-! seen -/
abbrev rX6_seen : Room := { frames := 2, cells := 0, slots := 0, locals := 45 }
theorem t6_seen_b31 {p : Program} {l : Launch} {e : Env} {s : State} {m : MethodId} {args : Array Value} {below : List Frame} {meth : Method} {c : Code} {D : va_G} {T ad : Nat → Nat} {A : Nat → Prop} {H0 : Heap} {Qs : State → Prop} {Q : Int32 → Mem → Prop}  (C : MC D T p m c cX6_seen 4 s args) (hQ : mExi p l e rX6_seen s m args below meth c cX6_seen D T ad A H0 Qs Q)   (M : Mem) (H : Heap) (locs : List Loc) (ls : Array Slot) (h : w6_seen_b31 Q M) (I : MI D T ad A H0 M H locs) (hl : lv_has ls 4 [(0, .ref (ad 0))]) : W p l e rX6_seen s m args below meth c H locs 0 0 Qs (F0 m 31 ls []) := by
  have hx := C.1.1
  have hb := C.1.2.1
  have how := C.1.2.2.2.1
  have hts := C.1.2.2.2.2
  unfold w6_seen_b31 at h
  refine lv_bipush (v := -2) hx hb dX6_seen_31 (by decide) ?_
  exact hQ _ _ _ _ _ _ h I dX6_seen_33
theorem t6_seen {p : Program} {l : Launch} {e : Env} {s : State} {m : MethodId} {args : Array Value} {below : List Frame} {meth : Method} {c : Code} {D : va_G} {T ad : Nat → Nat} {A : Nat → Prop} {H0 : Heap} {Qs : State → Prop} {Q : Int32 → Mem → Prop} (C : MC D T p m c cX6_seen 4 s args) (hQ : mExi p l e rX6_seen s m args below meth c cX6_seen D T ad A H0 Qs Q) (v1 : Int32) (v2 : Int32) (v3 : Int32) (M : Mem) (H : Heap) (locs : List Loc) (ls : Array Slot) (h : w6_seen v1 v2 v3 M Q) (I : MI D T ad A H0 M H locs) (hl : lv_has ls 4 [(0, .ref (ad 0)), (1, .int v1), (2, .int v2), (3, .int v3)]) : W p l e rX6_seen s m args below meth c H locs 0 0 Qs (F0 m 0 ls []) := by
  have hx := C.1.1
  have hb := C.1.2.1
  have how := C.1.2.2.2.1
  have hts := C.1.2.2.2.2
  unfold w6_seen at h
  refine lv_iload_n hx hb dX6_seen_0 rfl (lv_at hl 1 rfl) ?_
  refine m_purei (As := [.int v1]) (rest := []) C I (met6_isHour l v1 h) (cw6_160 hts ⟨Nat.le_of_ble_eq_true rfl, Nat.le_of_ble_eq_true rfl⟩) rfl hl.1 rfl (Nat.le_of_ble_eq_true rfl) ⟨Nat.zero_le _, Nat.zero_le _⟩ dX6_seen_1 (fun r1 H locs h I => ?_)
  refine lv_if_eq (tgt := 31) hx hb dX6_seen_4 (by decide) (fun c => ?_) (fun c => ?_)
  · have h := h.1 c
    exact t6_seen_b31 C hQ M _ _ _ h I (lv_sub hl [0] rfl)
  · have h := h.2 c
    refine lv_iload_n hx hb dX6_seen_7 rfl (lv_at hl 2 rfl) ?_
    refine lv_i2l hx hb dX6_seen_8 rfl ?_
    refine lv_lconst (v := 0) hx hb dX6_seen_9 rfl ?_
    refine lv_ldc2 hx hb how (hts _ q1113) dX6_seen_10 ?_
    refine m_purei (As := [.long (Int32.toInt64 v2), .long 0, .long 7]) (rest := []) C I (met6_in l (Int32.toInt64 v2) 0 7 h) (cw6_81 hts ⟨Nat.le_of_ble_eq_true rfl, Nat.le_of_ble_eq_true rfl⟩) rfl hl.1 rfl (Nat.le_of_ble_eq_true rfl) ⟨Nat.zero_le _, Nat.zero_le _⟩ dX6_seen_13 (fun r2 H locs h I => ?_)
    refine lv_if_eq (tgt := 31) hx hb dX6_seen_16 (by decide) (fun c => ?_) (fun c => ?_)
    · have h := h.1 c
      exact t6_seen_b31 C hQ M _ _ _ h I (lv_sub hl [0] rfl)
    · have h := h.2 c
      refine lv_iload_n hx hb dX6_seen_19 rfl (lv_at hl 3 rfl) ?_
      refine lv_i2l hx hb dX6_seen_20 rfl ?_
      refine lv_lconst (v := 0) hx hb dX6_seen_21 rfl ?_
      refine lv_ldc2 hx hb how (hts _ q1268) dX6_seen_22 ?_
      refine m_purei (As := [.long (Int32.toInt64 v3), .long 0, .long 8]) (rest := []) C I (met6_in l (Int32.toInt64 v3) 0 8 h) (cw6_81 hts ⟨Nat.le_of_ble_eq_true rfl, Nat.le_of_ble_eq_true rfl⟩) rfl hl.1 rfl (Nat.le_of_ble_eq_true rfl) ⟨Nat.zero_le _, Nat.zero_le _⟩ dX6_seen_25 (fun r3 H locs h I => ?_)
      refine lv_if_ne (tgt := 34) hx hb dX6_seen_28 (by decide) (fun c => ?_) (fun c => ?_)
      · have h := h.2 c
        refine lv_aload_n hx hb dX6_seen_34 rfl (lv_at hl 0 rfl) ?_
        refine mg_sights C I dX6_seen_35 ?_
        refine lv_bipush (v := 8) hx hb dX6_seen_38 (by decide) ?_
        refine lv_icmp_ne (tgt := 46) hx hb dX6_seen_40 (by decide) (fun c => ?_) (fun c => ?_)
        · have h := h.2 c
          refine lv_aload_n hx hb dX6_seen_46 rfl (lv_at hl 0 rfl) ?_
          refine mg_sight C I dX6_seen_47 ?_
          refine lv_iconst (v := 3) hx hb dX6_seen_50 (by decide) ?_
          refine lv_aload_n hx hb dX6_seen_51 rfl (lv_at hl 0 rfl) ?_
          refine mg_sights C I dX6_seen_52 ?_
          refine lv_imul hx hb dX6_seen_55 ?_
          refine lv_iload_n hx hb dX6_seen_56 rfl (lv_at hl 1 rfl) ?_
          obtain ⟨hg4, h⟩ := h
          refine m_iast C I 30 24 rfl (by decide) hg4 dX6_seen_57 (fun M5 H locs eM5 I => ?_)
          have h := h M5 eM5
          refine lv_aload_n hx hb dX6_seen_58 rfl (lv_at hl 0 rfl) ?_
          refine mg_sight C I dX6_seen_59 ?_
          refine lv_iconst (v := 3) hx hb dX6_seen_62 (by decide) ?_
          refine lv_aload_n hx hb dX6_seen_63 rfl (lv_at hl 0 rfl) ?_
          refine mg_sights C I dX6_seen_64 ?_
          refine lv_imul hx hb dX6_seen_67 ?_
          refine lv_iconst (v := 1) hx hb dX6_seen_68 (by decide) ?_
          refine lv_iadd hx hb dX6_seen_69 ?_
          refine lv_iload_n hx hb dX6_seen_70 rfl (lv_at hl 2 rfl) ?_
          obtain ⟨hg6, h⟩ := h
          refine m_iast C I 30 24 rfl (by decide) hg6 dX6_seen_71 (fun M7 H locs eM7 I => ?_)
          have h := h M7 eM7
          refine lv_aload_n hx hb dX6_seen_72 rfl (lv_at hl 0 rfl) ?_
          refine mg_sight C I dX6_seen_73 ?_
          refine lv_iconst (v := 3) hx hb dX6_seen_76 (by decide) ?_
          refine lv_aload_n hx hb dX6_seen_77 rfl (lv_at hl 0 rfl) ?_
          refine mg_sights C I dX6_seen_78 ?_
          refine lv_imul hx hb dX6_seen_81 ?_
          refine lv_iconst (v := 2) hx hb dX6_seen_82 (by decide) ?_
          refine lv_iadd hx hb dX6_seen_83 ?_
          refine lv_iload_n hx hb dX6_seen_84 rfl (lv_at hl 3 rfl) ?_
          obtain ⟨hg8, h⟩ := h
          refine m_iast C I 30 24 rfl (by decide) hg8 dX6_seen_85 (fun M9 H locs eM9 I => ?_)
          have h := h M9 eM9
          refine lv_aload_n hx hb dX6_seen_86 rfl (lv_at hl 0 rfl) ?_
          refine lv_dup hx hb dX6_seen_87 rfl ?_
          refine mg_sights C I dX6_seen_88 ?_
          refine lv_iconst (v := 1) hx hb dX6_seen_91 (by decide) ?_
          refine lv_iadd hx hb dX6_seen_92 ?_
          refine mp_sights C I dX6_seen_93 (fun M10 H locs eM10 I => ?_)
          have h := h M10 eM10
          refine lv_aload_n hx hb dX6_seen_96 rfl (lv_at hl 0 rfl) ?_
          refine mg_sights C I dX6_seen_97 ?_
          exact hQ _ _ _ _ _ _ h I dX6_seen_100
        · have h := h.1 c
          refine lv_bipush (v := -4) hx hb dX6_seen_43 (by decide) ?_
          exact hQ _ _ _ _ _ _ h I dX6_seen_45
      · have h := h.1 c
        exact t6_seen_b31 C hQ M _ _ _ h I (lv_sub hl [0] rfl)
theorem met6_seen (l : Launch) (D : va_G) (T ad : Nat → Nat) (v1 : Int32) (v2 : Int32) (v3 : Int32) (M : Mem) {Qp : Int32 → Mem → Prop} (h : w6_seen v1 v2 v3 M Qp) (sz : Nat) : Met l yX6_seen (ws_ yX6_seen cX6_seen 4 (some .int)) rX6_seen (mPc D T ad [.int v1, .int v2, .int v3] M sz) (mQi D T ad M Qp sz) 0 0 (fA (cM T ad M) sz) :=
  m_metI (As := [.int v1, .int v2, .int v3]) rfl rfl (Nat.le_of_ble_eq_true rfl) (fun p e s m args below meth c A Qs ls C hQ I hl => t6_seen C hQ v1 v2 v3 M _ _ ls h I hl) sz
/-! forget -/
abbrev rX6_forget : Room := { frames := 0, cells := 0, slots := 0, locals := 0 }
theorem t6_forget {p : Program} {l : Launch} {e : Env} {s : State} {m : MethodId} {args : Array Value} {below : List Frame} {meth : Method} {c : Code} {D : va_G} {T ad : Nat → Nat} {A : Nat → Prop} {H0 : Heap} {Qs : State → Prop} {Q : Int32 → Mem → Prop} (C : MC D T p m c cX6_forget 2 s args) (hQ : mExi p l e rX6_forget s m args below meth c cX6_forget D T ad A H0 Qs Q)  (M : Mem) (H : Heap) (locs : List Loc) (ls : Array Slot) (h : w6_forget M Q) (I : MI D T ad A H0 M H locs) (hl : lv_has ls 2 [(0, .ref (ad 0))]) : W p l e rX6_forget s m args below meth c H locs 0 0 Qs (F0 m 0 ls []) := by
  have hx := C.1.1
  have hb := C.1.2.1
  have how := C.1.2.2.2.1
  have hts := C.1.2.2.2.2
  unfold w6_forget at h
  refine lv_aload_n hx hb dX6_forget_0 rfl (lv_at hl 0 rfl) ?_
  refine mg_sights C I dX6_forget_1 ?_
  refine lv_istore_n (lv' := [(1, .int (M 0 28)), (0, .ref (ad 0))]) hx hb dX6_forget_4 rfl hl (by decide) rfl (fun ls hl => ?_)
  refine lv_aload_n hx hb dX6_forget_5 rfl (lv_at hl 1 rfl) ?_
  refine lv_iconst (v := 0) hx hb dX6_forget_6 (by decide) ?_
  refine mp_sights C I dX6_forget_7 (fun M1 H locs eM1 I => ?_)
  have h := h M1 eM1
  refine lv_iload_n hx hb dX6_forget_10 rfl (lv_at hl 0 rfl) ?_
  exact hQ _ _ _ _ _ _ h I dX6_forget_11
theorem met6_forget (l : Launch) (D : va_G) (T ad : Nat → Nat)  (M : Mem) {Qp : Int32 → Mem → Prop} (h : w6_forget M Qp) (sz : Nat) : Met l yX6_forget (ws_ yX6_forget cX6_forget 2 (some .int)) rX6_forget (mPc D T ad [] M sz) (mQi D T ad M Qp sz) 0 0 (fA (cM T ad M) sz) :=
  m_metI (As := []) rfl rfl (Nat.le_of_ble_eq_true rfl) (fun p e s m args below meth c A Qs ls C hQ I hl => t6_forget C hQ M _ _ ls h I hl) sz
/-! isSeen -/
abbrev rX6_isSeen : Room := { frames := 5, cells := 0, slots := 0, locals := 117 }
theorem t6_isSeen_b105 {p : Program} {l : Launch} {e : Env} {s : State} {m : MethodId} {args : Array Value} {below : List Frame} {meth : Method} {c : Code} {D : va_G} {T ad : Nat → Nat} {A : Nat → Prop} {H0 : Heap} {Qs : State → Prop} {Q : Int32 → Mem → Prop}  (C : MC D T p m c cX6_isSeen 4 s args) (hQ : mExi p l e rX6_isSeen s m args below meth c cX6_isSeen D T ad A H0 Qs Q)  (v1 : Int32) (M : Mem) (H : Heap) (locs : List Loc) (ls : Array Slot) (h : w6_isSeen_b105 Q v1 M) (I : MI D T ad A H0 M H locs) (hl : lv_has ls 4 [(0, .ref (ad 0)), (1, .int v1)]) : W p l e rX6_isSeen s m args below meth c H locs 0 0 Qs (F0 m 105 ls []) := by
  have hx := C.1.1
  have hb := C.1.2.1
  have how := C.1.2.2.2.1
  have hts := C.1.2.2.2.2
  unfold w6_isSeen_b105 at h
  refine lv_iload_n hx hb dX6_isSeen_105 rfl (lv_at hl 1 rfl) ?_
  exact hQ _ _ _ _ _ _ h I dX6_isSeen_106
theorem t6_isSeen_b98 {p : Program} {l : Launch} {e : Env} {s : State} {m : MethodId} {args : Array Value} {below : List Frame} {meth : Method} {c : Code} {D : va_G} {T ad : Nat → Nat} {A : Nat → Prop} {H0 : Heap} {Qs : State → Prop} {Q : Int32 → Mem → Prop} {K8 : Int32 → Int32 → Mem → Prop} (C : MC D T p m c cX6_isSeen 4 s args) (hQ : mExi p l e rX6_isSeen s m args below meth c cX6_isSeen D T ad A H0 Qs Q) (hK8 : ∀ (v1 : Int32) (v2 : Int32) (M : Mem) (H : Heap) (locs : List Loc) (ls : Array Slot), K8 v1 v2 M → MI D T ad A H0 M H locs → lv_has ls 4 [(0, .ref (ad 0)), (1, .int v1), (2, .int v2)] → W p l e rX6_isSeen s m args below meth c H locs 0 0 Qs (F0 m 8 ls [])) (v2 : Int32) (s0 : Int32) (M : Mem) (H : Heap) (locs : List Loc) (ls : Array Slot) (h : w6_isSeen_b98 Q K8 v2 s0 M) (I : MI D T ad A H0 M H locs) (hl : lv_has ls 4 [(0, .ref (ad 0)), (2, .int v2)]) : W p l e rX6_isSeen s m args below meth c H locs 0 0 Qs (F0 m 98 ls [.int s0]) := by
  have hx := C.1.1
  have hb := C.1.2.1
  have how := C.1.2.2.2.1
  have hts := C.1.2.2.2.2
  unfold w6_isSeen_b98 at h
  refine lv_istore_n (lv' := [(1, .int s0), (0, .ref (ad 0)), (2, .int v2)]) hx hb dX6_isSeen_98 rfl hl (by decide) rfl (fun ls hl => ?_)
  refine lv_iinc (v := (v2 + 1)) (lv' := [(2, .int (v2 + 1)), (1, .int s0), (0, .ref (ad 0))]) hx hb dX6_isSeen_99 hl (k := 2) rfl (ii_1 _) (by decide) rfl (fun ls hl => ?_)
  refine lv_goto (tgt := 8) hx hb dX6_isSeen_102 (by decide) ?_
  exact hK8 s0 (v2 + 1) M _ _ _ h I (lv_sub hl [2, 1, 0] rfl)
theorem t6_isSeen_b97 {p : Program} {l : Launch} {e : Env} {s : State} {m : MethodId} {args : Array Value} {below : List Frame} {meth : Method} {c : Code} {D : va_G} {T ad : Nat → Nat} {A : Nat → Prop} {H0 : Heap} {Qs : State → Prop} {Q : Int32 → Mem → Prop} {K8 : Int32 → Int32 → Mem → Prop} (C : MC D T p m c cX6_isSeen 4 s args) (hQ : mExi p l e rX6_isSeen s m args below meth c cX6_isSeen D T ad A H0 Qs Q) (hK8 : ∀ (v1 : Int32) (v2 : Int32) (M : Mem) (H : Heap) (locs : List Loc) (ls : Array Slot), K8 v1 v2 M → MI D T ad A H0 M H locs → lv_has ls 4 [(0, .ref (ad 0)), (1, .int v1), (2, .int v2)] → W p l e rX6_isSeen s m args below meth c H locs 0 0 Qs (F0 m 8 ls [])) (v2 : Int32) (M : Mem) (H : Heap) (locs : List Loc) (ls : Array Slot) (h : w6_isSeen_b97 Q K8 v2 M) (I : MI D T ad A H0 M H locs) (hl : lv_has ls 4 [(0, .ref (ad 0)), (2, .int v2)]) : W p l e rX6_isSeen s m args below meth c H locs 0 0 Qs (F0 m 97 ls []) := by
  have hx := C.1.1
  have hb := C.1.2.1
  have how := C.1.2.2.2.1
  have hts := C.1.2.2.2.2
  unfold w6_isSeen_b97 at h
  refine lv_iconst (v := 0) hx hb dX6_isSeen_97 (by decide) ?_
  exact t6_isSeen_b98 C hQ hK8 v2 0 M _ _ _ h I (lv_sub hl [0, 1] rfl)
theorem t6_isSeen_b90 {p : Program} {l : Launch} {e : Env} {s : State} {m : MethodId} {args : Array Value} {below : List Frame} {meth : Method} {c : Code} {D : va_G} {T ad : Nat → Nat} {A : Nat → Prop} {H0 : Heap} {Qs : State → Prop} {Q : Int32 → Mem → Prop} {K8 : Int32 → Int32 → Mem → Prop} (C : MC D T p m c cX6_isSeen 4 s args) (hQ : mExi p l e rX6_isSeen s m args below meth c cX6_isSeen D T ad A H0 Qs Q) (hK8 : ∀ (v1 : Int32) (v2 : Int32) (M : Mem) (H : Heap) (locs : List Loc) (ls : Array Slot), K8 v1 v2 M → MI D T ad A H0 M H locs → lv_has ls 4 [(0, .ref (ad 0)), (1, .int v1), (2, .int v2)] → W p l e rX6_isSeen s m args below meth c H locs 0 0 Qs (F0 m 8 ls [])) (v2 : Int32) (s0 : Int32) (s1 : Int32) (M : Mem) (H : Heap) (locs : List Loc) (ls : Array Slot) (h : w6_isSeen_b90 Q K8 v2 s0 s1 M) (I : MI D T ad A H0 M H locs) (hl : lv_has ls 4 [(0, .ref (ad 0)), (2, .int v2)]) : W p l e rX6_isSeen s m args below meth c H locs 0 0 Qs (F0 m 90 ls [.int s1, .int s0]) := by
  have hx := C.1.1
  have hb := C.1.2.1
  have how := C.1.2.2.2.1
  have hts := C.1.2.2.2.2
  unfold w6_isSeen_b90 at h
  refine lv_icmp_ne (tgt := 97) hx hb dX6_isSeen_90 (by decide) (fun c => ?_) (fun c => ?_)
  · have h := h.2 c
    exact t6_isSeen_b97 C hQ hK8 v2 M _ _ _ h I (lv_sub hl [0, 1] rfl)
  · have h := h.1 c
    refine lv_iconst (v := 1) hx hb dX6_isSeen_93 (by decide) ?_
    refine lv_goto (tgt := 98) hx hb dX6_isSeen_94 (by decide) ?_
    exact t6_isSeen_b98 C hQ hK8 v2 1 M _ _ _ h I (lv_sub hl [0, 1] rfl)
theorem t6_isSeen_b8_f {p : Program} {l : Launch} {e : Env} {s : State} {m : MethodId} {args : Array Value} {below : List Frame} {meth : Method} {c : Code} {D : va_G} {T ad : Nat → Nat} {A : Nat → Prop} {H0 : Heap} {Qs : State → Prop} {Q : Int32 → Mem → Prop} {K8 : Int32 → Int32 → Mem → Prop} (C : MC D T p m c cX6_isSeen 4 s args) (hQ : mExi p l e rX6_isSeen s m args below meth c cX6_isSeen D T ad A H0 Qs Q) (hK8 : ∀ (v1 : Int32) (v2 : Int32) (M : Mem) (H : Heap) (locs : List Loc) (ls : Array Slot), K8 v1 v2 M → MI D T ad A H0 M H locs → lv_has ls 4 [(0, .ref (ad 0)), (1, .int v1), (2, .int v2)] → W p l e rX6_isSeen s m args below meth c H locs 0 0 Qs (F0 m 8 ls [])) (v1 : Int32) (v2 : Int32) (M : Mem) (H : Heap) (locs : List Loc) (ls : Array Slot) (h : w6_isSeen_b8_f Q K8 v1 v2 M) (I : MI D T ad A H0 M H locs) (hl : lv_has ls 4 [(0, .ref (ad 0)), (1, .int v1), (2, .int v2)]) : W p l e rX6_isSeen s m args below meth c H locs 0 0 Qs (F0 m 8 ls []) := by
  have hx := C.1.1
  have hb := C.1.2.1
  have how := C.1.2.2.2.1
  have hts := C.1.2.2.2.2
  unfold w6_isSeen_b8_f at h
  refine lv_iload_n hx hb dX6_isSeen_8 rfl (lv_at hl 2 rfl) ?_
  refine lv_aload_n hx hb dX6_isSeen_9 rfl (lv_at hl 0 rfl) ?_
  refine mg_sights C I dX6_isSeen_10 ?_
  refine lv_icmp_ge (tgt := 105) hx hb dX6_isSeen_13 (by decide) (fun c => ?_) (fun c => ?_)
  · have h := h.1 c
    exact t6_isSeen_b105 C hQ v1 M _ _ _ h I (lv_sub hl [0, 1] rfl)
  · have h := h.2 c
    refine lv_iload_n hx hb dX6_isSeen_16 rfl (lv_at hl 1 rfl) ?_
    refine lv_if_eq (tgt := 105) hx hb dX6_isSeen_17 (by decide) (fun c => ?_) (fun c => ?_)
    · have h := h.1 c
      exact t6_isSeen_b105 C hQ v1 M _ _ _ h I (lv_sub hl [0, 1] rfl)
    · have h := h.2 c
      refine lv_aload_n hx hb dX6_isSeen_20 rfl (lv_at hl 0 rfl) ?_
      refine mg_sight C I dX6_isSeen_21 ?_
      refine lv_iconst (v := 3) hx hb dX6_isSeen_24 (by decide) ?_
      refine lv_iload_n hx hb dX6_isSeen_25 rfl (lv_at hl 2 rfl) ?_
      refine lv_imul hx hb dX6_isSeen_26 ?_
      refine lv_iconst (v := 1) hx hb dX6_isSeen_27 (by decide) ?_
      refine lv_iadd hx hb dX6_isSeen_28 ?_
      obtain ⟨hg1, h⟩ := h
      refine m_iald C I 30 24 rfl (by decide) hg1 dX6_isSeen_29 ?_
      refine lv_topi (fun x2 ex2 => ?_)
      have h := h x2 ex2
      refine lv_istore_n (lv' := [(3, .int x2), (0, .ref (ad 0)), (1, .int v1), (2, .int v2)]) hx hb dX6_isSeen_30 rfl hl (by decide) rfl (fun ls hl => ?_)
      refine lv_aload_n hx hb dX6_isSeen_31 rfl (lv_at hl 1 rfl) ?_
      refine lv_iload_n hx hb dX6_isSeen_32 rfl (lv_at hl 0 rfl) ?_
      refine m_calli (As := [.int x2]) (rest := []) C I (met6_isCarter l D T ad x2 M h) (cw6_153 hts ⟨Nat.le_of_ble_eq_true rfl, Nat.le_of_ble_eq_true rfl⟩) rfl hl.1 rfl (Nat.le_of_ble_eq_true rfl) ⟨Nat.zero_le _, Nat.zero_le _⟩ dX6_isSeen_33 (fun r3 M4 H locs h I => ?_)
      refine lv_if_eq (tgt := 97) hx hb dX6_isSeen_36 (by decide) (fun c => ?_) (fun c => ?_)
      · have h := h.1 c
        exact t6_isSeen_b97 C hQ hK8 v2 M4 _ _ _ h I (lv_sub hl [1, 3] rfl)
      · have h := h.2 c
        refine lv_aload_n hx hb dX6_isSeen_39 rfl (lv_at hl 1 rfl) ?_
        refine mg_kept C I dX6_isSeen_40 ?_
        refine lv_bipush (v := 32) hx hb dX6_isSeen_43 (by decide) ?_
        refine lv_aload_n hx hb dX6_isSeen_45 rfl (lv_at hl 1 rfl) ?_
        refine mg_sight C I dX6_isSeen_46 ?_
        refine lv_iconst (v := 3) hx hb dX6_isSeen_49 (by decide) ?_
        refine lv_iload_n hx hb dX6_isSeen_50 rfl (lv_at hl 3 rfl) ?_
        refine lv_imul hx hb dX6_isSeen_51 ?_
        obtain ⟨hg5, h⟩ := h
        refine m_iald C I 30 24 rfl (by decide) hg5 dX6_isSeen_52 ?_
        refine lv_imul hx hb dX6_isSeen_53 ?_
        refine lv_iconst (v := 4) hx hb dX6_isSeen_54 (by decide) ?_
        refine lv_iload_n hx hb dX6_isSeen_55 rfl (lv_at hl 0 rfl) ?_
        refine lv_imul hx hb dX6_isSeen_56 ?_
        refine lv_iadd hx hb dX6_isSeen_57 ?_
        refine lv_iconst (v := 1) hx hb dX6_isSeen_58 (by decide) ?_
        refine lv_iadd hx hb dX6_isSeen_59 ?_
        obtain ⟨hg6, h⟩ := h
        refine m_iald C I 24 1280 rfl (by decide) hg6 dX6_isSeen_60 ?_
        refine lv_aload_n hx hb dX6_isSeen_61 rfl (lv_at hl 1 rfl) ?_
        refine mg_sight C I dX6_isSeen_62 ?_
        refine lv_iconst (v := 3) hx hb dX6_isSeen_65 (by decide) ?_
        refine lv_iload_n hx hb dX6_isSeen_66 rfl (lv_at hl 3 rfl) ?_
        refine lv_imul hx hb dX6_isSeen_67 ?_
        refine lv_iconst (v := 2) hx hb dX6_isSeen_68 (by decide) ?_
        refine lv_iadd hx hb dX6_isSeen_69 ?_
        obtain ⟨hg7, h⟩ := h
        refine m_iald C I 30 24 rfl (by decide) hg7 dX6_isSeen_70 ?_
        refine lv_bipush (v := 8) hx hb dX6_isSeen_71 (by decide) ?_
        refine lv_icmp_ne (tgt := 80) hx hb dX6_isSeen_73 (by decide) (fun c => ?_) (fun c => ?_)
        · have h := h.2 c
          refine lv_aload_n hx hb dX6_isSeen_80 rfl (lv_at hl 1 rfl) ?_
          refine mg_sight C I dX6_isSeen_81 ?_
          refine lv_iconst (v := 3) hx hb dX6_isSeen_84 (by decide) ?_
          refine lv_iload_n hx hb dX6_isSeen_85 rfl (lv_at hl 3 rfl) ?_
          refine lv_imul hx hb dX6_isSeen_86 ?_
          refine lv_iconst (v := 2) hx hb dX6_isSeen_87 (by decide) ?_
          refine lv_iadd hx hb dX6_isSeen_88 ?_
          refine m_iald C I 30 24 rfl (by decide) hg7 dX6_isSeen_89 ?_
          exact t6_isSeen_b90 C hQ hK8 v2 (M4 24 (ci (((32 * (M4 30 (ci (3 * v2)))) + (4 * x2)) + 1))) (M4 30 (ci ((3 * v2) + 2))) M4 _ _ _ h I (lv_sub hl [1, 3] rfl)
        · have h := h.1 c
          refine lv_iconst (v := -1) hx hb dX6_isSeen_76 (by decide) ?_
          refine lv_goto (tgt := 90) hx hb dX6_isSeen_77 (by decide) ?_
          exact t6_isSeen_b90 C hQ hK8 v2 (M4 24 (ci (((32 * (M4 30 (ci (3 * v2)))) + (4 * x2)) + 1))) (-1) M4 _ _ _ h I (lv_sub hl [1, 3] rfl)
theorem t6_isSeen_b8 {p : Program} {l : Launch} {e : Env} {s : State} {m : MethodId} {args : Array Value} {below : List Frame} {meth : Method} {c : Code} {D : va_G} {T ad : Nat → Nat} {A : Nat → Prop} {H0 : Heap} {Qs : State → Prop} {Q : Int32 → Mem → Prop}  (C : MC D T p m c cX6_isSeen 4 s args) (hQ : mExi p l e rX6_isSeen s m args below meth c cX6_isSeen D T ad A H0 Qs Q)  : ∀ (n : Nat) (v1 : Int32) (v2 : Int32) (M : Mem) (H : Heap) (locs : List Loc) (ls : Array Slot), w6_isSeen_b8 Q n v1 v2 M → MI D T ad A H0 M H locs → lv_has ls 4 [(0, .ref (ad 0)), (1, .int v1), (2, .int v2)] → W p l e rX6_isSeen s m args below meth c H locs 0 0 Qs (F0 m 8 ls []) := by
  intro n
  induction n with
  | zero => intro v1 v2 M H locs ls h; exact h.elim
  | succ n ih => intro v1 v2 M H locs ls h I hl; exact t6_isSeen_b8_f C hQ  ih v1 v2 M H locs ls h I hl
theorem t6_isSeen {p : Program} {l : Launch} {e : Env} {s : State} {m : MethodId} {args : Array Value} {below : List Frame} {meth : Method} {c : Code} {D : va_G} {T ad : Nat → Nat} {A : Nat → Prop} {H0 : Heap} {Qs : State → Prop} {Q : Int32 → Mem → Prop} (C : MC D T p m c cX6_isSeen 4 s args) (hQ : mExi p l e rX6_isSeen s m args below meth c cX6_isSeen D T ad A H0 Qs Q)  (M : Mem) (H : Heap) (locs : List Loc) (ls : Array Slot) (h : w6_isSeen_z M Q) (I : MI D T ad A H0 M H locs) (hl : lv_has ls 4 [(0, .ref (ad 0))]) : W p l e rX6_isSeen s m args below meth c H locs 0 0 Qs (F0 m 0 ls []) := by
  have hx := C.1.1
  have hb := C.1.2.1
  have how := C.1.2.2.2.1
  have hts := C.1.2.2.2.2
  unfold w6_isSeen_z at h
  refine lv_aload_n hx hb dX6_isSeen_0 rfl (lv_at hl 0 rfl) ?_
  refine m_callv (As := []) (rest := []) C I (met6_lives l D T ad M h) (cw6_215 hts ⟨Nat.le_of_ble_eq_true rfl, Nat.le_of_ble_eq_true rfl⟩) rfl hl.1 rfl (Nat.le_of_ble_eq_true rfl) ⟨Nat.zero_le _, Nat.zero_le _⟩ dX6_isSeen_1 (fun M8 H locs h I => ?_)
  refine lv_iconst (v := 1) hx hb dX6_isSeen_4 (by decide) ?_
  refine lv_istore_n (lv' := [(1, .int 1), (0, .ref (ad 0))]) hx hb dX6_isSeen_5 rfl hl (by decide) rfl (fun ls hl => ?_)
  refine lv_iconst (v := 0) hx hb dX6_isSeen_6 (by decide) ?_
  refine lv_istore_n (lv' := [(2, .int 0), (1, .int 1), (0, .ref (ad 0))]) hx hb dX6_isSeen_7 rfl hl (by decide) rfl (fun ls hl => ?_)
  obtain ⟨n, h⟩ := h
  exact t6_isSeen_b8 C hQ n 1 0 M8 _ _ _ h I (lv_sub hl [2, 1, 0] rfl)
theorem met6_isSeen (l : Launch) (D : va_G) (T ad : Nat → Nat)  (M : Mem) {Qp : Int32 → Mem → Prop} (h : w6_isSeen M Qp) (sz : Nat) : Met l yX6_isSeen (ws_ yX6_isSeen cX6_isSeen 4 (some .boolean)) rX6_isSeen (mPc D T ad [] M sz) (mQi D T ad M Qp sz) 0 0 (fA (cM T ad M) sz) :=
  m_metZ (As := []) rfl rfl (Nat.le_of_ble_eq_true rfl) (fun p e s m args below meth c A Qs ls C hQ I hl => t6_isSeen C hQ M _ _ ls h I hl) sz
/-! neverNow -/
abbrev rX6_neverNow : Room := { frames := 6, cells := 0, slots := 0, locals := 140 }
theorem cw6_261 {R : Room} {s : State} {args : Array Value} (hts : ∀ w ∈ lw_all, w.before args s = true) (hR : rX6_isSeen.frames + 1 ≤ R.frames ∧ 8 + (4 + 11) + rX6_isSeen.locals ≤ R.locals) : CallW R s args RX6 RX6 261 yX6_isSeen cX6_isSeen 4 (some .boolean) (ws_ yX6_isSeen cX6_isSeen 4 (some .boolean)) rX6_isSeen 0 0 0 := cwV 0 hts (lw_V q1281 q1283 qs77 q95 q1284) rfl rfl rfl (by decide +kernel) hR
theorem t6_neverNow_b34 {p : Program} {l : Launch} {e : Env} {s : State} {m : MethodId} {args : Array Value} {below : List Frame} {meth : Method} {c : Code} {D : va_G} {T ad : Nat → Nat} {A : Nat → Prop} {H0 : Heap} {Qs : State → Prop} {Q : Int32 → Mem → Prop} {K4 : Int32 → Int32 → Mem → Prop} (C : MC D T p m c cX6_neverNow 3 s args) (hQ : mExi p l e rX6_neverNow s m args below meth c cX6_neverNow D T ad A H0 Qs Q) (hK4 : ∀ (v1 : Int32) (v2 : Int32) (M : Mem) (H : Heap) (locs : List Loc) (ls : Array Slot), K4 v1 v2 M → MI D T ad A H0 M H locs → lv_has ls 3 [(0, .ref (ad 0)), (1, .int v1), (2, .int v2)] → W p l e rX6_neverNow s m args below meth c H locs 0 0 Qs (F0 m 4 ls [])) (v2 : Int32) (s0 : Int32) (s1 : Int32) (M : Mem) (H : Heap) (locs : List Loc) (ls : Array Slot) (h : w6_neverNow_b34 Q K4 v2 s0 s1 M) (I : MI D T ad A H0 M H locs) (hl : lv_has ls 3 [(0, .ref (ad 0)), (2, .int v2)]) : W p l e rX6_neverNow s m args below meth c H locs 0 0 Qs (F0 m 34 ls [.int s1, .int s0]) := by
  have hx := C.1.1
  have hb := C.1.2.1
  have how := C.1.2.2.2.1
  have hts := C.1.2.2.2.2
  unfold w6_neverNow_b34 at h
  refine lv_ior hx hb dX6_neverNow_34 ?_
  refine lv_istore_n (lv' := [(1, .int (s0 ||| s1)), (0, .ref (ad 0)), (2, .int v2)]) hx hb dX6_neverNow_35 rfl hl (by decide) rfl (fun ls hl => ?_)
  refine lv_iinc (v := (v2 + 1)) (lv' := [(2, .int (v2 + 1)), (1, .int (s0 ||| s1)), (0, .ref (ad 0))]) hx hb dX6_neverNow_36 hl (k := 2) rfl (ii_1 _) (by decide) rfl (fun ls hl => ?_)
  refine lv_goto (tgt := 4) hx hb dX6_neverNow_39 (by decide) ?_
  exact hK4 (s0 ||| s1) (v2 + 1) M _ _ _ h I (lv_sub hl [2, 1, 0] rfl)
theorem t6_neverNow_b4_f {p : Program} {l : Launch} {e : Env} {s : State} {m : MethodId} {args : Array Value} {below : List Frame} {meth : Method} {c : Code} {D : va_G} {T ad : Nat → Nat} {A : Nat → Prop} {H0 : Heap} {Qs : State → Prop} {Q : Int32 → Mem → Prop} {K4 : Int32 → Int32 → Mem → Prop} (C : MC D T p m c cX6_neverNow 3 s args) (hQ : mExi p l e rX6_neverNow s m args below meth c cX6_neverNow D T ad A H0 Qs Q) (hK4 : ∀ (v1 : Int32) (v2 : Int32) (M : Mem) (H : Heap) (locs : List Loc) (ls : Array Slot), K4 v1 v2 M → MI D T ad A H0 M H locs → lv_has ls 3 [(0, .ref (ad 0)), (1, .int v1), (2, .int v2)] → W p l e rX6_neverNow s m args below meth c H locs 0 0 Qs (F0 m 4 ls [])) (v1 : Int32) (v2 : Int32) (M : Mem) (H : Heap) (locs : List Loc) (ls : Array Slot) (h : w6_neverNow_b4_f Q K4 v1 v2 M) (I : MI D T ad A H0 M H locs) (hl : lv_has ls 3 [(0, .ref (ad 0)), (1, .int v1), (2, .int v2)]) : W p l e rX6_neverNow s m args below meth c H locs 0 0 Qs (F0 m 4 ls []) := by
  have hx := C.1.1
  have hb := C.1.2.1
  have how := C.1.2.2.2.1
  have hts := C.1.2.2.2.2
  unfold w6_neverNow_b4_f at h
  refine lv_iload_n hx hb dX6_neverNow_4 rfl (lv_at hl 2 rfl) ?_
  refine lv_aload_n hx hb dX6_neverNow_5 rfl (lv_at hl 0 rfl) ?_
  refine mg_answers C I dX6_neverNow_6 ?_
  refine lv_icmp_ge (tgt := 42) hx hb dX6_neverNow_9 (by decide) (fun c => ?_) (fun c => ?_)
  · have h := h.1 c
    refine lv_aload_n hx hb dX6_neverNow_42 rfl (lv_at hl 0 rfl) ?_
    refine lv_iconst (v := 0) hx hb dX6_neverNow_43 (by decide) ?_
    refine mp_gone C I dX6_neverNow_44 (fun M1 H locs eM1 I => ?_)
    have h := h M1 eM1
    refine lv_iload_n hx hb dX6_neverNow_47 rfl (lv_at hl 1 rfl) ?_
    exact hQ _ _ _ _ _ _ h I dX6_neverNow_48
  · have h := h.2 c
    refine lv_aload_n hx hb dX6_neverNow_12 rfl (lv_at hl 0 rfl) ?_
    refine lv_iconst (v := 1) hx hb dX6_neverNow_13 (by decide) ?_
    refine lv_iload_n hx hb dX6_neverNow_14 rfl (lv_at hl 2 rfl) ?_
    refine lv_ishl hx hb dX6_neverNow_15 ?_
    refine mp_gone C I dX6_neverNow_16 (fun M2 H locs eM2 I => ?_)
    have h := h M2 eM2
    refine lv_iload_n hx hb dX6_neverNow_19 rfl (lv_at hl 1 rfl) ?_
    refine lv_aload_n hx hb dX6_neverNow_20 rfl (lv_at hl 0 rfl) ?_
    refine m_calli (As := []) (rest := [.int v1]) C I (met6_isSeen l D T ad M2 h) (cw6_261 hts ⟨Nat.le_of_ble_eq_true rfl, Nat.le_of_ble_eq_true rfl⟩) rfl hl.1 rfl (Nat.le_of_ble_eq_true rfl) ⟨Nat.zero_le _, Nat.zero_le _⟩ dX6_neverNow_21 (fun r3 M4 H locs h I => ?_)
    refine lv_if_eq (tgt := 33) hx hb dX6_neverNow_24 (by decide) (fun c => ?_) (fun c => ?_)
    · have h := h.1 c
      refine lv_iconst (v := 0) hx hb dX6_neverNow_33 (by decide) ?_
      exact t6_neverNow_b34 C hQ hK4 v2 v1 0 M4 _ _ _ h I (lv_sub hl [0, 2] rfl)
    · have h := h.2 c
      refine lv_iconst (v := 1) hx hb dX6_neverNow_27 (by decide) ?_
      refine lv_iload_n hx hb dX6_neverNow_28 rfl (lv_at hl 2 rfl) ?_
      refine lv_ishl hx hb dX6_neverNow_29 ?_
      refine lv_goto (tgt := 34) hx hb dX6_neverNow_30 (by decide) ?_
      exact t6_neverNow_b34 C hQ hK4 v2 v1 (1 <<< (v2 &&& 31)) M4 _ _ _ h I (lv_sub hl [0, 2] rfl)
theorem t6_neverNow_b4 {p : Program} {l : Launch} {e : Env} {s : State} {m : MethodId} {args : Array Value} {below : List Frame} {meth : Method} {c : Code} {D : va_G} {T ad : Nat → Nat} {A : Nat → Prop} {H0 : Heap} {Qs : State → Prop} {Q : Int32 → Mem → Prop}  (C : MC D T p m c cX6_neverNow 3 s args) (hQ : mExi p l e rX6_neverNow s m args below meth c cX6_neverNow D T ad A H0 Qs Q)  : ∀ (n : Nat) (v1 : Int32) (v2 : Int32) (M : Mem) (H : Heap) (locs : List Loc) (ls : Array Slot), w6_neverNow_b4 Q n v1 v2 M → MI D T ad A H0 M H locs → lv_has ls 3 [(0, .ref (ad 0)), (1, .int v1), (2, .int v2)] → W p l e rX6_neverNow s m args below meth c H locs 0 0 Qs (F0 m 4 ls []) := by
  intro n
  induction n with
  | zero => intro v1 v2 M H locs ls h; exact h.elim
  | succ n ih => intro v1 v2 M H locs ls h I hl; exact t6_neverNow_b4_f C hQ  ih v1 v2 M H locs ls h I hl
theorem t6_neverNow {p : Program} {l : Launch} {e : Env} {s : State} {m : MethodId} {args : Array Value} {below : List Frame} {meth : Method} {c : Code} {D : va_G} {T ad : Nat → Nat} {A : Nat → Prop} {H0 : Heap} {Qs : State → Prop} {Q : Int32 → Mem → Prop} (C : MC D T p m c cX6_neverNow 3 s args) (hQ : mExi p l e rX6_neverNow s m args below meth c cX6_neverNow D T ad A H0 Qs Q)  (M : Mem) (H : Heap) (locs : List Loc) (ls : Array Slot) (h : w6_neverNow M Q) (I : MI D T ad A H0 M H locs) (hl : lv_has ls 3 [(0, .ref (ad 0))]) : W p l e rX6_neverNow s m args below meth c H locs 0 0 Qs (F0 m 0 ls []) := by
  have hx := C.1.1
  have hb := C.1.2.1
  have how := C.1.2.2.2.1
  have hts := C.1.2.2.2.2
  unfold w6_neverNow at h
  refine lv_iconst (v := 0) hx hb dX6_neverNow_0 (by decide) ?_
  refine lv_istore_n (lv' := [(1, .int 0), (0, .ref (ad 0))]) hx hb dX6_neverNow_1 rfl hl (by decide) rfl (fun ls hl => ?_)
  refine lv_iconst (v := 0) hx hb dX6_neverNow_2 (by decide) ?_
  refine lv_istore_n (lv' := [(2, .int 0), (1, .int 0), (0, .ref (ad 0))]) hx hb dX6_neverNow_3 rfl hl (by decide) rfl (fun ls hl => ?_)
  obtain ⟨n, h⟩ := h
  exact t6_neverNow_b4 C hQ n 0 0 M _ _ _ h I (lv_sub hl [2, 1, 0] rfl)
theorem met6_neverNow (l : Launch) (D : va_G) (T ad : Nat → Nat)  (M : Mem) {Qp : Int32 → Mem → Prop} (h : w6_neverNow M Qp) (sz : Nat) : Met l yX6_neverNow (ws_ yX6_neverNow cX6_neverNow 3 (some .int)) rX6_neverNow (mPc D T ad [] M sz) (mQi D T ad M Qp sz) 0 0 (fA (cM T ad M) sz) :=
  m_metI (As := []) rfl rfl (Nat.le_of_ble_eq_true rfl) (fun p e s m args below meth c A Qs ls C hQ I hl => t6_neverNow C hQ M _ _ ls h I hl) sz
/-! never -/
abbrev rX6_never : Room := { frames := 7, cells := 0, slots := 0, locals := 162 }
theorem cw6_265 {R : Room} {s : State} {args : Array Value} (hts : ∀ w ∈ lw_all, w.before args s = true) (hR : rX6_neverNow.frames + 1 ≤ R.frames ∧ 8 + (3 + 11) + rX6_neverNow.locals ≤ R.locals) : CallW R s args RX6 RX6 265 yX6_neverNow cX6_neverNow 3 (some .int) (ws_ yX6_neverNow cX6_neverNow 3 (some .int)) rX6_neverNow 0 0 0 := cwV 0 hts (lw_V q1277 q1279 qs76 q95 q1280) rfl rfl rfl (by decide +kernel) hR
theorem t6_never {p : Program} {l : Launch} {e : Env} {s : State} {m : MethodId} {args : Array Value} {below : List Frame} {meth : Method} {c : Code} {D : va_G} {T ad : Nat → Nat} {A : Nat → Prop} {H0 : Heap} {Qs : State → Prop} {Q : Int32 → Mem → Prop} (C : MC D T p m c cX6_never 1 s args) (hQ : mExi p l e rX6_never s m args below meth c cX6_never D T ad A H0 Qs Q)  (M : Mem) (H : Heap) (locs : List Loc) (ls : Array Slot) (h : w6_never M Q) (I : MI D T ad A H0 M H locs) (hl : lv_has ls 1 [(0, .ref (ad 0))]) : W p l e rX6_never s m args below meth c H locs 0 0 Qs (F0 m 0 ls []) := by
  have hx := C.1.1
  have hb := C.1.2.1
  have how := C.1.2.2.2.1
  have hts := C.1.2.2.2.2
  unfold w6_never at h
  refine lv_aload_n hx hb dX6_never_0 rfl (lv_at hl 0 rfl) ?_
  refine m_callv (As := []) (rest := []) C I (met6_find l D T ad M h) (cw6_218 hts ⟨Nat.le_of_ble_eq_true rfl, Nat.le_of_ble_eq_true rfl⟩) rfl hl.1 rfl (Nat.le_of_ble_eq_true rfl) ⟨Nat.zero_le _, Nat.zero_le _⟩ dX6_never_1 (fun M1 H locs h I => ?_)
  refine lv_aload_n hx hb dX6_never_4 rfl (lv_at hl 0 rfl) ?_
  refine m_calli (As := []) (rest := []) C I (met6_neverNow l D T ad M1 h) (cw6_265 hts ⟨Nat.le_of_ble_eq_true rfl, Nat.le_of_ble_eq_true rfl⟩) rfl hl.1 rfl (Nat.le_of_ble_eq_true rfl) ⟨Nat.zero_le _, Nat.zero_le _⟩ dX6_never_5 (fun r2 M3 H locs h I => ?_)
  exact hQ _ _ _ _ _ _ h I dX6_never_8
theorem met6_never (l : Launch) (D : va_G) (T ad : Nat → Nat)  (M : Mem) {Qp : Int32 → Mem → Prop} (h : w6_never M Qp) (sz : Nat) : Met l yX6_never (ws_ yX6_never cX6_never 1 (some .int)) rX6_never (mPc D T ad [] M sz) (mQi D T ad M Qp sz) 0 0 (fA (cM T ad M) sz) :=
  m_metI (As := []) rfl rfl (Nat.le_of_ble_eq_true rfl) (fun p e s m args below meth c A Qs ls C hQ I hl => t6_never C hQ M _ _ ls h I hl) sz
/-! sortOf -/
abbrev rX6_sortOf : Room := { frames := 6, cells := 0, slots := 0, locals := 140 }
theorem t6_sortOf_b55_f {p : Program} {l : Launch} {e : Env} {s : State} {m : MethodId} {args : Array Value} {below : List Frame} {meth : Method} {c : Code} {D : va_G} {T ad : Nat → Nat} {A : Nat → Prop} {H0 : Heap} {Qs : State → Prop} {Q : Int32 → Mem → Prop} {K16 : Int32 → Int32 → Int32 → Int32 → Mem → Prop} {K55 : Int32 → Int32 → Int32 → Int32 → Int32 → Mem → Prop} (C : MC D T p m c cX6_sortOf 6 s args) (hQ : mExi p l e rX6_sortOf s m args below meth c cX6_sortOf D T ad A H0 Qs Q) (hK16 : ∀ (v1 : Int32) (v2 : Int32) (v3 : Int32) (v4 : Int32) (M : Mem) (H : Heap) (locs : List Loc) (ls : Array Slot), K16 v1 v2 v3 v4 M → MI D T ad A H0 M H locs → lv_has ls 6 [(0, .ref (ad 0)), (1, .int v1), (2, .int v2), (3, .int v3), (4, .int v4)] → W p l e rX6_sortOf s m args below meth c H locs 0 0 Qs (F0 m 16 ls [])) (hK55 : ∀ (v1 : Int32) (v2 : Int32) (v3 : Int32) (v4 : Int32) (v5 : Int32) (M : Mem) (H : Heap) (locs : List Loc) (ls : Array Slot), K55 v1 v2 v3 v4 v5 M → MI D T ad A H0 M H locs → lv_has ls 6 [(0, .ref (ad 0)), (1, .int v1), (2, .int v2), (3, .int v3), (4, .int v4), (5, .int v5)] → W p l e rX6_sortOf s m args below meth c H locs 0 0 Qs (F0 m 55 ls [])) (v1 : Int32) (v2 : Int32) (v3 : Int32) (v4 : Int32) (v5 : Int32) (M : Mem) (H : Heap) (locs : List Loc) (ls : Array Slot) (h : w6_sortOf_b55_f Q K16 K55 v1 v2 v3 v4 v5 M) (I : MI D T ad A H0 M H locs) (hl : lv_has ls 6 [(0, .ref (ad 0)), (1, .int v1), (2, .int v2), (3, .int v3), (4, .int v4), (5, .int v5)]) : W p l e rX6_sortOf s m args below meth c H locs 0 0 Qs (F0 m 55 ls []) := by
  have hx := C.1.1
  have hb := C.1.2.1
  have how := C.1.2.2.2.1
  have hts := C.1.2.2.2.2
  unfold w6_sortOf_b55_f at h
  refine lv_iload hx hb dX6_sortOf_55 (lv_at hl 5 rfl) ?_
  refine lv_bipush (v := 40) hx hb dX6_sortOf_57 (by decide) ?_
  refine lv_icmp_ge (tgt := 97) hx hb dX6_sortOf_59 (by decide) (fun c => ?_) (fun c => ?_)
  · have h := h.1 c
    refine lv_iinc (v := (v4 + 1)) (lv' := [(4, .int (v4 + 1)), (0, .ref (ad 0)), (1, .int v1), (2, .int v2), (3, .int v3), (5, .int v5)]) hx hb dX6_sortOf_97 hl (k := 4) rfl (ii_1 _) (by decide) rfl (fun ls hl => ?_)
    refine lv_goto (tgt := 16) hx hb dX6_sortOf_100 (by decide) ?_
    exact hK16 v1 v2 v3 (v4 + 1) M _ _ _ h I (lv_sub hl [1, 2, 3, 4, 0] rfl)
  · have h := h.2 c
    refine lv_aload_n hx hb dX6_sortOf_62 rfl (lv_at hl 0 rfl) ?_
    refine mg_places C I dX6_sortOf_63 ?_
    refine lv_bipush (v := 40) hx hb dX6_sortOf_66 (by decide) ?_
    refine lv_iload hx hb dX6_sortOf_68 (lv_at hl 4 rfl) ?_
    refine lv_imul hx hb dX6_sortOf_70 ?_
    refine lv_iload hx hb dX6_sortOf_71 (lv_at hl 5 rfl) ?_
    refine lv_iadd hx hb dX6_sortOf_73 ?_
    refine lv_aload_n hx hb dX6_sortOf_74 rfl (lv_at hl 0 rfl) ?_
    refine mg_kept C I dX6_sortOf_75 ?_
    refine lv_bipush (v := 32) hx hb dX6_sortOf_78 (by decide) ?_
    refine lv_iload hx hb dX6_sortOf_80 (lv_at hl 5 rfl) ?_
    refine lv_imul hx hb dX6_sortOf_82 ?_
    refine lv_iconst (v := 4) hx hb dX6_sortOf_83 (by decide) ?_
    refine lv_iload_n hx hb dX6_sortOf_84 rfl (lv_at hl 1 rfl) ?_
    refine lv_imul hx hb dX6_sortOf_85 ?_
    refine lv_iadd hx hb dX6_sortOf_86 ?_
    refine lv_iconst (v := 1) hx hb dX6_sortOf_87 (by decide) ?_
    refine lv_iadd hx hb dX6_sortOf_88 ?_
    obtain ⟨hg1, h⟩ := h
    refine m_iald C I 24 1280 rfl (by decide) hg1 dX6_sortOf_89 ?_
    obtain ⟨hg2, h⟩ := h
    refine m_iast C I 31 120 rfl (by decide) hg2 dX6_sortOf_90 (fun M3 H locs eM3 I => ?_)
    have h := h M3 eM3
    refine lv_iinc (v := (v5 + 1)) (lv' := [(5, .int (v5 + 1)), (0, .ref (ad 0)), (1, .int v1), (2, .int v2), (3, .int v3), (4, .int v4)]) hx hb dX6_sortOf_91 hl (k := 5) rfl (ii_1 _) (by decide) rfl (fun ls hl => ?_)
    refine lv_goto (tgt := 55) hx hb dX6_sortOf_94 (by decide) ?_
    exact hK55 v1 v2 v3 v4 (v5 + 1) M3 _ _ _ h I (lv_sub hl [1, 2, 3, 4, 5, 0] rfl)
theorem t6_sortOf_b55 {p : Program} {l : Launch} {e : Env} {s : State} {m : MethodId} {args : Array Value} {below : List Frame} {meth : Method} {c : Code} {D : va_G} {T ad : Nat → Nat} {A : Nat → Prop} {H0 : Heap} {Qs : State → Prop} {Q : Int32 → Mem → Prop} {K16 : Int32 → Int32 → Int32 → Int32 → Mem → Prop} (C : MC D T p m c cX6_sortOf 6 s args) (hQ : mExi p l e rX6_sortOf s m args below meth c cX6_sortOf D T ad A H0 Qs Q) (hK16 : ∀ (v1 : Int32) (v2 : Int32) (v3 : Int32) (v4 : Int32) (M : Mem) (H : Heap) (locs : List Loc) (ls : Array Slot), K16 v1 v2 v3 v4 M → MI D T ad A H0 M H locs → lv_has ls 6 [(0, .ref (ad 0)), (1, .int v1), (2, .int v2), (3, .int v3), (4, .int v4)] → W p l e rX6_sortOf s m args below meth c H locs 0 0 Qs (F0 m 16 ls [])) : ∀ (n : Nat) (v1 : Int32) (v2 : Int32) (v3 : Int32) (v4 : Int32) (v5 : Int32) (M : Mem) (H : Heap) (locs : List Loc) (ls : Array Slot), w6_sortOf_b55 Q K16 n v1 v2 v3 v4 v5 M → MI D T ad A H0 M H locs → lv_has ls 6 [(0, .ref (ad 0)), (1, .int v1), (2, .int v2), (3, .int v3), (4, .int v4), (5, .int v5)] → W p l e rX6_sortOf s m args below meth c H locs 0 0 Qs (F0 m 55 ls []) := by
  intro n
  induction n with
  | zero => intro v1 v2 v3 v4 v5 M H locs ls h; exact h.elim
  | succ n ih => intro v1 v2 v3 v4 v5 M H locs ls h I hl; exact t6_sortOf_b55_f C hQ hK16 ih v1 v2 v3 v4 v5 M H locs ls h I hl
theorem t6_sortOf_b50 {p : Program} {l : Launch} {e : Env} {s : State} {m : MethodId} {args : Array Value} {below : List Frame} {meth : Method} {c : Code} {D : va_G} {T ad : Nat → Nat} {A : Nat → Prop} {H0 : Heap} {Qs : State → Prop} {Q : Int32 → Mem → Prop} {K16 : Int32 → Int32 → Int32 → Int32 → Mem → Prop} (C : MC D T p m c cX6_sortOf 6 s args) (hQ : mExi p l e rX6_sortOf s m args below meth c cX6_sortOf D T ad A H0 Qs Q) (hK16 : ∀ (v1 : Int32) (v2 : Int32) (v3 : Int32) (v4 : Int32) (M : Mem) (H : Heap) (locs : List Loc) (ls : Array Slot), K16 v1 v2 v3 v4 M → MI D T ad A H0 M H locs → lv_has ls 6 [(0, .ref (ad 0)), (1, .int v1), (2, .int v2), (3, .int v3), (4, .int v4)] → W p l e rX6_sortOf s m args below meth c H locs 0 0 Qs (F0 m 16 ls [])) (v1 : Int32) (v2 : Int32) (v4 : Int32) (s0 : Int32) (s1 : Int32) (M : Mem) (H : Heap) (locs : List Loc) (ls : Array Slot) (h : w6_sortOf_b50 Q K16 v1 v2 v4 s0 s1 M) (I : MI D T ad A H0 M H locs) (hl : lv_has ls 6 [(0, .ref (ad 0)), (1, .int v1), (2, .int v2), (4, .int v4)]) : W p l e rX6_sortOf s m args below meth c H locs 0 0 Qs (F0 m 50 ls [.int s1, .int s0]) := by
  have hx := C.1.1
  have hb := C.1.2.1
  have how := C.1.2.2.2.1
  have hts := C.1.2.2.2.2
  unfold w6_sortOf_b50 at h
  refine lv_ior hx hb dX6_sortOf_50 ?_
  refine lv_istore_n (lv' := [(3, .int (s0 ||| s1)), (0, .ref (ad 0)), (1, .int v1), (2, .int v2), (4, .int v4)]) hx hb dX6_sortOf_51 rfl hl (by decide) rfl (fun ls hl => ?_)
  refine lv_iconst (v := 0) hx hb dX6_sortOf_52 (by decide) ?_
  refine lv_istore (lv' := [(5, .int 0), (3, .int (s0 ||| s1)), (0, .ref (ad 0)), (1, .int v1), (2, .int v2), (4, .int v4)]) hx hb dX6_sortOf_53 hl (by decide) rfl (fun ls hl => ?_)
  obtain ⟨n, h⟩ := h
  exact t6_sortOf_b55 C hQ hK16 n v1 v2 (s0 ||| s1) v4 0 M _ _ _ h I (lv_sub hl [2, 3, 4, 1, 5, 0] rfl)
theorem t6_sortOf_b16_f {p : Program} {l : Launch} {e : Env} {s : State} {m : MethodId} {args : Array Value} {below : List Frame} {meth : Method} {c : Code} {D : va_G} {T ad : Nat → Nat} {A : Nat → Prop} {H0 : Heap} {Qs : State → Prop} {Q : Int32 → Mem → Prop} {K16 : Int32 → Int32 → Int32 → Int32 → Mem → Prop} (C : MC D T p m c cX6_sortOf 6 s args) (hQ : mExi p l e rX6_sortOf s m args below meth c cX6_sortOf D T ad A H0 Qs Q) (hK16 : ∀ (v1 : Int32) (v2 : Int32) (v3 : Int32) (v4 : Int32) (M : Mem) (H : Heap) (locs : List Loc) (ls : Array Slot), K16 v1 v2 v3 v4 M → MI D T ad A H0 M H locs → lv_has ls 6 [(0, .ref (ad 0)), (1, .int v1), (2, .int v2), (3, .int v3), (4, .int v4)] → W p l e rX6_sortOf s m args below meth c H locs 0 0 Qs (F0 m 16 ls [])) (v1 : Int32) (v2 : Int32) (v3 : Int32) (v4 : Int32) (M : Mem) (H : Heap) (locs : List Loc) (ls : Array Slot) (h : w6_sortOf_b16_f Q K16 v1 v2 v3 v4 M) (I : MI D T ad A H0 M H locs) (hl : lv_has ls 6 [(0, .ref (ad 0)), (1, .int v1), (2, .int v2), (3, .int v3), (4, .int v4)]) : W p l e rX6_sortOf s m args below meth c H locs 0 0 Qs (F0 m 16 ls []) := by
  have hx := C.1.1
  have hb := C.1.2.1
  have how := C.1.2.2.2.1
  have hts := C.1.2.2.2.2
  unfold w6_sortOf_b16_f at h
  refine lv_iload hx hb dX6_sortOf_16 (lv_at hl 4 rfl) ?_
  refine lv_iconst (v := 3) hx hb dX6_sortOf_18 (by decide) ?_
  refine lv_icmp_ge (tgt := 103) hx hb dX6_sortOf_19 (by decide) (fun c => ?_) (fun c => ?_)
  · have h := h.1 c
    refine lv_aload_n hx hb dX6_sortOf_103 rfl (lv_at hl 0 rfl) ?_
    refine mg_carter C I dX6_sortOf_104 ?_
    refine lv_iconst (v := 5) hx hb dX6_sortOf_107 (by decide) ?_
    refine lv_iload_n hx hb dX6_sortOf_108 rfl (lv_at hl 1 rfl) ?_
    refine lv_imul hx hb dX6_sortOf_109 ?_
    refine lv_iconst (v := 2) hx hb dX6_sortOf_110 (by decide) ?_
    refine lv_iadd hx hb dX6_sortOf_111 ?_
    refine lv_iload_n hx hb dX6_sortOf_112 rfl (lv_at hl 2 rfl) ?_
    obtain ⟨hg4, h⟩ := h
    refine m_iast C I 11 40 rfl (by decide) hg4 dX6_sortOf_113 (fun M5 H locs eM5 I => ?_)
    have h := h M5 eM5
    refine lv_iload_n hx hb dX6_sortOf_114 rfl (lv_at hl 3 rfl) ?_
    exact hQ _ _ _ _ _ _ h I dX6_sortOf_115
  · have h := h.2 c
    refine lv_aload_n hx hb dX6_sortOf_22 rfl (lv_at hl 0 rfl) ?_
    refine mg_carter C I dX6_sortOf_23 ?_
    refine lv_iconst (v := 5) hx hb dX6_sortOf_26 (by decide) ?_
    refine lv_iload_n hx hb dX6_sortOf_27 rfl (lv_at hl 1 rfl) ?_
    refine lv_imul hx hb dX6_sortOf_28 ?_
    refine lv_iconst (v := 2) hx hb dX6_sortOf_29 (by decide) ?_
    refine lv_iadd hx hb dX6_sortOf_30 ?_
    refine lv_iload hx hb dX6_sortOf_31 (lv_at hl 4 rfl) ?_
    obtain ⟨hg6, h⟩ := h
    refine m_iast C I 11 40 rfl (by decide) hg6 dX6_sortOf_33 (fun M7 H locs eM7 I => ?_)
    have h := h M7 eM7
    refine lv_iload_n hx hb dX6_sortOf_34 rfl (lv_at hl 3 rfl) ?_
    refine lv_aload_n hx hb dX6_sortOf_35 rfl (lv_at hl 0 rfl) ?_
    refine m_calli (As := []) (rest := [.int v3]) C I (met6_isSeen l D T ad M7 h) (cw6_261 hts ⟨Nat.le_of_ble_eq_true rfl, Nat.le_of_ble_eq_true rfl⟩) rfl hl.1 rfl (Nat.le_of_ble_eq_true rfl) ⟨Nat.zero_le _, Nat.zero_le _⟩ dX6_sortOf_36 (fun r8 M9 H locs h I => ?_)
    refine lv_if_eq (tgt := 49) hx hb dX6_sortOf_39 (by decide) (fun c => ?_) (fun c => ?_)
    · have h := h.1 c
      refine lv_iconst (v := 0) hx hb dX6_sortOf_49 (by decide) ?_
      exact t6_sortOf_b50 C hQ hK16 v1 v2 v4 v3 0 M9 _ _ _ h I (lv_sub hl [0, 1, 2, 4] rfl)
    · have h := h.2 c
      refine lv_iconst (v := 1) hx hb dX6_sortOf_42 (by decide) ?_
      refine lv_iload hx hb dX6_sortOf_43 (lv_at hl 4 rfl) ?_
      refine lv_ishl hx hb dX6_sortOf_45 ?_
      refine lv_goto (tgt := 50) hx hb dX6_sortOf_46 (by decide) ?_
      exact t6_sortOf_b50 C hQ hK16 v1 v2 v4 v3 (1 <<< (v4 &&& 31)) M9 _ _ _ h I (lv_sub hl [0, 1, 2, 4] rfl)
theorem t6_sortOf_b16 {p : Program} {l : Launch} {e : Env} {s : State} {m : MethodId} {args : Array Value} {below : List Frame} {meth : Method} {c : Code} {D : va_G} {T ad : Nat → Nat} {A : Nat → Prop} {H0 : Heap} {Qs : State → Prop} {Q : Int32 → Mem → Prop}  (C : MC D T p m c cX6_sortOf 6 s args) (hQ : mExi p l e rX6_sortOf s m args below meth c cX6_sortOf D T ad A H0 Qs Q)  : ∀ (n : Nat) (v1 : Int32) (v2 : Int32) (v3 : Int32) (v4 : Int32) (M : Mem) (H : Heap) (locs : List Loc) (ls : Array Slot), w6_sortOf_b16 Q n v1 v2 v3 v4 M → MI D T ad A H0 M H locs → lv_has ls 6 [(0, .ref (ad 0)), (1, .int v1), (2, .int v2), (3, .int v3), (4, .int v4)] → W p l e rX6_sortOf s m args below meth c H locs 0 0 Qs (F0 m 16 ls []) := by
  intro n
  induction n with
  | zero => intro v1 v2 v3 v4 M H locs ls h; exact h.elim
  | succ n ih => intro v1 v2 v3 v4 M H locs ls h I hl; exact t6_sortOf_b16_f C hQ  ih v1 v2 v3 v4 M H locs ls h I hl
theorem t6_sortOf {p : Program} {l : Launch} {e : Env} {s : State} {m : MethodId} {args : Array Value} {below : List Frame} {meth : Method} {c : Code} {D : va_G} {T ad : Nat → Nat} {A : Nat → Prop} {H0 : Heap} {Qs : State → Prop} {Q : Int32 → Mem → Prop} (C : MC D T p m c cX6_sortOf 6 s args) (hQ : mExi p l e rX6_sortOf s m args below meth c cX6_sortOf D T ad A H0 Qs Q) (v1 : Int32) (M : Mem) (H : Heap) (locs : List Loc) (ls : Array Slot) (h : w6_sortOf v1 M Q) (I : MI D T ad A H0 M H locs) (hl : lv_has ls 6 [(0, .ref (ad 0)), (1, .int v1)]) : W p l e rX6_sortOf s m args below meth c H locs 0 0 Qs (F0 m 0 ls []) := by
  have hx := C.1.1
  have hb := C.1.2.1
  have how := C.1.2.2.2.1
  have hts := C.1.2.2.2.2
  unfold w6_sortOf at h
  refine lv_aload_n hx hb dX6_sortOf_0 rfl (lv_at hl 0 rfl) ?_
  refine mg_carter C I dX6_sortOf_1 ?_
  refine lv_iconst (v := 5) hx hb dX6_sortOf_4 (by decide) ?_
  refine lv_iload_n hx hb dX6_sortOf_5 rfl (lv_at hl 1 rfl) ?_
  refine lv_imul hx hb dX6_sortOf_6 ?_
  refine lv_iconst (v := 2) hx hb dX6_sortOf_7 (by decide) ?_
  refine lv_iadd hx hb dX6_sortOf_8 ?_
  obtain ⟨hg10, h⟩ := h
  refine m_iald C I 11 40 rfl (by decide) hg10 dX6_sortOf_9 ?_
  refine lv_topi (fun x11 ex11 => ?_)
  have h := h x11 ex11
  refine lv_istore_n (lv' := [(2, .int x11), (0, .ref (ad 0)), (1, .int v1)]) hx hb dX6_sortOf_10 rfl hl (by decide) rfl (fun ls hl => ?_)
  refine lv_iconst (v := 0) hx hb dX6_sortOf_11 (by decide) ?_
  refine lv_istore_n (lv' := [(3, .int 0), (2, .int x11), (0, .ref (ad 0)), (1, .int v1)]) hx hb dX6_sortOf_12 rfl hl (by decide) rfl (fun ls hl => ?_)
  refine lv_iconst (v := 0) hx hb dX6_sortOf_13 (by decide) ?_
  refine lv_istore (lv' := [(4, .int 0), (3, .int 0), (2, .int x11), (0, .ref (ad 0)), (1, .int v1)]) hx hb dX6_sortOf_14 hl (by decide) rfl (fun ls hl => ?_)
  obtain ⟨n, h⟩ := h
  exact t6_sortOf_b16 C hQ n v1 x11 0 0 M _ _ _ h I (lv_sub hl [3, 4, 2, 1, 0] rfl)
theorem met6_sortOf (l : Launch) (D : va_G) (T ad : Nat → Nat) (v1 : Int32) (M : Mem) {Qp : Int32 → Mem → Prop} (h : w6_sortOf v1 M Qp) (sz : Nat) : Met l yX6_sortOf (ws_ yX6_sortOf cX6_sortOf 6 (some .int)) rX6_sortOf (mPc D T ad [.int v1] M sz) (mQi D T ad M Qp sz) 0 0 (fA (cM T ad M) sz) :=
  m_metI (As := [.int v1]) rfl rfl (Nat.le_of_ble_eq_true rfl) (fun p e s m args below meth c A Qs ls C hQ I hl => t6_sortOf C hQ v1 M _ _ ls h I hl) sz
/-! sort -/
abbrev rX6_sort : Room := { frames := 7, cells := 0, slots := 0, locals := 165 }
theorem cw6_268 {R : Room} {s : State} {args : Array Value} (hts : ∀ w ∈ lw_all, w.before args s = true) (hR : rX6_sortOf.frames + 1 ≤ R.frames ∧ 8 + (6 + 11) + rX6_sortOf.locals ≤ R.locals) : CallW R s args RX6 RX6 268 yX6_sortOf cX6_sortOf 6 (some .int) (ws_ yX6_sortOf cX6_sortOf 6 (some .int)) rX6_sortOf 0 0 1 := cwV 1 hts (lw_V q1289 q1291 qs78 q95 q1292) rfl rfl rfl (by decide +kernel) hR
theorem t6_sort_b22 {p : Program} {l : Launch} {e : Env} {s : State} {m : MethodId} {args : Array Value} {below : List Frame} {meth : Method} {c : Code} {D : va_G} {T ad : Nat → Nat} {A : Nat → Prop} {H0 : Heap} {Qs : State → Prop} {Q : Int32 → Mem → Prop}  (C : MC D T p m c cX6_sort 2 s args) (hQ : mExi p l e rX6_sort s m args below meth c cX6_sort D T ad A H0 Qs Q)  (s0 : Int32) (M : Mem) (H : Heap) (locs : List Loc) (ls : Array Slot) (h : w6_sort_b22 Q s0 M) (I : MI D T ad A H0 M H locs) (hl : lv_has ls 2 [(0, .ref (ad 0))]) : W p l e rX6_sort s m args below meth c H locs 0 0 Qs (F0 m 22 ls [.int s0]) := by
  have hx := C.1.1
  have hb := C.1.2.1
  have how := C.1.2.2.2.1
  have hts := C.1.2.2.2.2
  unfold w6_sort_b22 at h
  exact hQ _ _ _ _ _ _ h I dX6_sort_22
theorem t6_sort {p : Program} {l : Launch} {e : Env} {s : State} {m : MethodId} {args : Array Value} {below : List Frame} {meth : Method} {c : Code} {D : va_G} {T ad : Nat → Nat} {A : Nat → Prop} {H0 : Heap} {Qs : State → Prop} {Q : Int32 → Mem → Prop} (C : MC D T p m c cX6_sort 2 s args) (hQ : mExi p l e rX6_sort s m args below meth c cX6_sort D T ad A H0 Qs Q) (v1 : Int32) (M : Mem) (H : Heap) (locs : List Loc) (ls : Array Slot) (h : w6_sort v1 M Q) (I : MI D T ad A H0 M H locs) (hl : lv_has ls 2 [(0, .ref (ad 0)), (1, .int v1)]) : W p l e rX6_sort s m args below meth c H locs 0 0 Qs (F0 m 0 ls []) := by
  have hx := C.1.1
  have hb := C.1.2.1
  have how := C.1.2.2.2.1
  have hts := C.1.2.2.2.2
  unfold w6_sort at h
  refine lv_aload_n hx hb dX6_sort_0 rfl (lv_at hl 0 rfl) ?_
  refine m_callv (As := []) (rest := []) C I (met6_find l D T ad M h) (cw6_218 hts ⟨Nat.le_of_ble_eq_true rfl, Nat.le_of_ble_eq_true rfl⟩) rfl hl.1 rfl (Nat.le_of_ble_eq_true rfl) ⟨Nat.zero_le _, Nat.zero_le _⟩ dX6_sort_1 (fun M1 H locs h I => ?_)
  refine lv_aload_n hx hb dX6_sort_4 rfl (lv_at hl 0 rfl) ?_
  refine lv_iload_n hx hb dX6_sort_5 rfl (lv_at hl 1 rfl) ?_
  refine m_calli (As := [.int v1]) (rest := []) C I (met6_isCarter l D T ad v1 M1 h) (cw6_153 hts ⟨Nat.le_of_ble_eq_true rfl, Nat.le_of_ble_eq_true rfl⟩) rfl hl.1 rfl (Nat.le_of_ble_eq_true rfl) ⟨Nat.zero_le _, Nat.zero_le _⟩ dX6_sort_6 (fun r2 M3 H locs h I => ?_)
  refine lv_if_eq (tgt := 20) hx hb dX6_sort_9 (by decide) (fun c => ?_) (fun c => ?_)
  · have h := h.1 c
    refine lv_bipush (v := -2) hx hb dX6_sort_20 (by decide) ?_
    exact t6_sort_b22 C hQ (-2) M3 _ _ _ h I (lv_sub hl [0] rfl)
  · have h := h.2 c
    refine lv_aload_n hx hb dX6_sort_12 rfl (lv_at hl 0 rfl) ?_
    refine lv_iload_n hx hb dX6_sort_13 rfl (lv_at hl 1 rfl) ?_
    refine m_calli (As := [.int v1]) (rest := []) C I (met6_sortOf l D T ad v1 M3 h) (cw6_268 hts ⟨Nat.le_of_ble_eq_true rfl, Nat.le_of_ble_eq_true rfl⟩) rfl hl.1 rfl (Nat.le_of_ble_eq_true rfl) ⟨Nat.zero_le _, Nat.zero_le _⟩ dX6_sort_14 (fun r4 M5 H locs h I => ?_)
    refine lv_goto (tgt := 22) hx hb dX6_sort_17 (by decide) ?_
    exact t6_sort_b22 C hQ r4 M5 _ _ _ h I (lv_sub hl [0] rfl)
theorem met6_sort (l : Launch) (D : va_G) (T ad : Nat → Nat) (v1 : Int32) (M : Mem) {Qp : Int32 → Mem → Prop} (h : w6_sort v1 M Qp) (sz : Nat) : Met l yX6_sort (ws_ yX6_sort cX6_sort 2 (some .int)) rX6_sort (mPc D T ad [.int v1] M sz) (mQi D T ad M Qp sz) 0 0 (fA (cM T ad M) sz) :=
  m_metI (As := [.int v1]) rfl rfl (Nat.le_of_ble_eq_true rfl) (fun p e s m args below meth c A Qs ls C hQ I hl => t6_sort C hQ v1 M _ _ ls h I hl) sz
/-! forceOf -/
abbrev rX6_forceOf : Room := { frames := 6, cells := 0, slots := 0, locals := 140 }
theorem t6_forceOf_b135 {p : Program} {l : Launch} {e : Env} {s : State} {m : MethodId} {args : Array Value} {below : List Frame} {meth : Method} {c : Code} {D : va_G} {T ad : Nat → Nat} {A : Nat → Prop} {H0 : Heap} {Qs : State → Prop} {Q : Int32 → Mem → Prop}  (C : MC D T p m c cX6_forceOf 9 s args) (hQ : mExi p l e rX6_forceOf s m args below meth c cX6_forceOf D T ad A H0 Qs Q)  (s0 : Int32) (M : Mem) (H : Heap) (locs : List Loc) (ls : Array Slot) (h : w6_forceOf_b135 Q s0 M) (I : MI D T ad A H0 M H locs) (hl : lv_has ls 9 [(0, .ref (ad 0))]) : W p l e rX6_forceOf s m args below meth c H locs 0 0 Qs (F0 m 135 ls [.int s0]) := by
  have hx := C.1.1
  have hb := C.1.2.1
  have how := C.1.2.2.2.1
  have hts := C.1.2.2.2.2
  unfold w6_forceOf_b135 at h
  exact hQ _ _ _ _ _ _ h I dX6_forceOf_135
theorem t6_forceOf_b95 {p : Program} {l : Launch} {e : Env} {s : State} {m : MethodId} {args : Array Value} {below : List Frame} {meth : Method} {c : Code} {D : va_G} {T ad : Nat → Nat} {A : Nat → Prop} {H0 : Heap} {Qs : State → Prop} {Q : Int32 → Mem → Prop} {K23 : Int32 → Int32 → Int32 → Int32 → Int32 → Int32 → Int32 → Mem → Prop} (C : MC D T p m c cX6_forceOf 9 s args) (hQ : mExi p l e rX6_forceOf s m args below meth c cX6_forceOf D T ad A H0 Qs Q) (hK23 : ∀ (v1 : Int32) (v2 : Int32) (v3 : Int32) (v4 : Int32) (v5 : Int32) (v6 : Int32) (v7 : Int32) (M : Mem) (H : Heap) (locs : List Loc) (ls : Array Slot), K23 v1 v2 v3 v4 v5 v6 v7 M → MI D T ad A H0 M H locs → lv_has ls 9 [(0, .ref (ad 0)), (1, .int v1), (2, .int v2), (3, .int v3), (4, .int v4), (5, .int v5), (6, .int v6), (7, .int v7)] → W p l e rX6_forceOf s m args below meth c H locs 0 0 Qs (F0 m 23 ls [])) (v1 : Int32) (v2 : Int32) (v3 : Int32) (v4 : Int32) (v5 : Int32) (v7 : Int32) (s0 : Int32) (M : Mem) (H : Heap) (locs : List Loc) (ls : Array Slot) (h : w6_forceOf_b95 Q K23 v1 v2 v3 v4 v5 v7 s0 M) (I : MI D T ad A H0 M H locs) (hl : lv_has ls 9 [(0, .ref (ad 0)), (1, .int v1), (2, .int v2), (3, .int v3), (4, .int v4), (5, .int v5), (7, .int v7)]) : W p l e rX6_forceOf s m args below meth c H locs 0 0 Qs (F0 m 95 ls [.int s0]) := by
  have hx := C.1.1
  have hb := C.1.2.1
  have how := C.1.2.2.2.1
  have hts := C.1.2.2.2.2
  unfold w6_forceOf_b95 at h
  refine lv_istore (lv' := [(6, .int s0), (0, .ref (ad 0)), (1, .int v1), (2, .int v2), (3, .int v3), (4, .int v4), (5, .int v5), (7, .int v7)]) hx hb dX6_forceOf_95 hl (by decide) rfl (fun ls hl => ?_)
  refine lv_iinc (v := (v7 + 1)) (lv' := [(7, .int (v7 + 1)), (6, .int s0), (0, .ref (ad 0)), (1, .int v1), (2, .int v2), (3, .int v3), (4, .int v4), (5, .int v5)]) hx hb dX6_forceOf_97 hl (k := 7) rfl (ii_1 _) (by decide) rfl (fun ls hl => ?_)
  refine lv_goto (tgt := 23) hx hb dX6_forceOf_100 (by decide) ?_
  exact hK23 v1 v2 v3 v4 v5 s0 (v7 + 1) M _ _ _ h I (lv_sub hl [2, 3, 4, 5, 6, 7, 1, 0] rfl)
theorem t6_forceOf_b81 {p : Program} {l : Launch} {e : Env} {s : State} {m : MethodId} {args : Array Value} {below : List Frame} {meth : Method} {c : Code} {D : va_G} {T ad : Nat → Nat} {A : Nat → Prop} {H0 : Heap} {Qs : State → Prop} {Q : Int32 → Mem → Prop} {K23 : Int32 → Int32 → Int32 → Int32 → Int32 → Int32 → Int32 → Mem → Prop} (C : MC D T p m c cX6_forceOf 9 s args) (hQ : mExi p l e rX6_forceOf s m args below meth c cX6_forceOf D T ad A H0 Qs Q) (hK23 : ∀ (v1 : Int32) (v2 : Int32) (v3 : Int32) (v4 : Int32) (v5 : Int32) (v6 : Int32) (v7 : Int32) (M : Mem) (H : Heap) (locs : List Loc) (ls : Array Slot), K23 v1 v2 v3 v4 v5 v6 v7 M → MI D T ad A H0 M H locs → lv_has ls 9 [(0, .ref (ad 0)), (1, .int v1), (2, .int v2), (3, .int v3), (4, .int v4), (5, .int v5), (6, .int v6), (7, .int v7)] → W p l e rX6_forceOf s m args below meth c H locs 0 0 Qs (F0 m 23 ls [])) (v1 : Int32) (v2 : Int32) (v3 : Int32) (v4 : Int32) (v6 : Int32) (v7 : Int32) (v8 : Int32) (s0 : Int32) (M : Mem) (H : Heap) (locs : List Loc) (ls : Array Slot) (h : w6_forceOf_b81 Q K23 v1 v2 v3 v4 v6 v7 v8 s0 M) (I : MI D T ad A H0 M H locs) (hl : lv_has ls 9 [(0, .ref (ad 0)), (1, .int v1), (2, .int v2), (3, .int v3), (4, .int v4), (6, .int v6), (7, .int v7), (8, .int v8)]) : W p l e rX6_forceOf s m args below meth c H locs 0 0 Qs (F0 m 81 ls [.int s0]) := by
  have hx := C.1.1
  have hb := C.1.2.1
  have how := C.1.2.2.2.1
  have hts := C.1.2.2.2.2
  unfold w6_forceOf_b81 at h
  refine lv_istore (lv' := [(5, .int s0), (0, .ref (ad 0)), (1, .int v1), (2, .int v2), (3, .int v3), (4, .int v4), (6, .int v6), (7, .int v7), (8, .int v8)]) hx hb dX6_forceOf_81 hl (by decide) rfl (fun ls hl => ?_)
  refine lv_iload hx hb dX6_forceOf_83 (lv_at hl 8 rfl) ?_
  refine lv_if_eq (tgt := 93) hx hb dX6_forceOf_85 (by decide) (fun c => ?_) (fun c => ?_)
  · have h := h.1 c
    refine lv_iload hx hb dX6_forceOf_93 (lv_at hl 6 rfl) ?_
    exact t6_forceOf_b95 C hQ hK23 v1 v2 v3 v4 s0 v7 v6 M _ _ _ h I (lv_sub hl [1, 2, 3, 4, 5, 0, 7] rfl)
  · have h := h.2 c
    refine lv_iload hx hb dX6_forceOf_88 (lv_at hl 7 rfl) ?_
    refine lv_goto (tgt := 95) hx hb dX6_forceOf_90 (by decide) ?_
    exact t6_forceOf_b95 C hQ hK23 v1 v2 v3 v4 s0 v7 v7 M _ _ _ h I (lv_sub hl [1, 2, 3, 4, 5, 0, 7] rfl)
theorem t6_forceOf_b79 {p : Program} {l : Launch} {e : Env} {s : State} {m : MethodId} {args : Array Value} {below : List Frame} {meth : Method} {c : Code} {D : va_G} {T ad : Nat → Nat} {A : Nat → Prop} {H0 : Heap} {Qs : State → Prop} {Q : Int32 → Mem → Prop} {K23 : Int32 → Int32 → Int32 → Int32 → Int32 → Int32 → Int32 → Mem → Prop} (C : MC D T p m c cX6_forceOf 9 s args) (hQ : mExi p l e rX6_forceOf s m args below meth c cX6_forceOf D T ad A H0 Qs Q) (hK23 : ∀ (v1 : Int32) (v2 : Int32) (v3 : Int32) (v4 : Int32) (v5 : Int32) (v6 : Int32) (v7 : Int32) (M : Mem) (H : Heap) (locs : List Loc) (ls : Array Slot), K23 v1 v2 v3 v4 v5 v6 v7 M → MI D T ad A H0 M H locs → lv_has ls 9 [(0, .ref (ad 0)), (1, .int v1), (2, .int v2), (3, .int v3), (4, .int v4), (5, .int v5), (6, .int v6), (7, .int v7)] → W p l e rX6_forceOf s m args below meth c H locs 0 0 Qs (F0 m 23 ls [])) (v1 : Int32) (v2 : Int32) (v3 : Int32) (v4 : Int32) (v5 : Int32) (v6 : Int32) (v7 : Int32) (v8 : Int32) (M : Mem) (H : Heap) (locs : List Loc) (ls : Array Slot) (h : w6_forceOf_b79 Q K23 v1 v2 v3 v4 v5 v6 v7 v8 M) (I : MI D T ad A H0 M H locs) (hl : lv_has ls 9 [(0, .ref (ad 0)), (1, .int v1), (2, .int v2), (3, .int v3), (4, .int v4), (5, .int v5), (6, .int v6), (7, .int v7), (8, .int v8)]) : W p l e rX6_forceOf s m args below meth c H locs 0 0 Qs (F0 m 79 ls []) := by
  have hx := C.1.1
  have hb := C.1.2.1
  have how := C.1.2.2.2.1
  have hts := C.1.2.2.2.2
  unfold w6_forceOf_b79 at h
  refine lv_iload hx hb dX6_forceOf_79 (lv_at hl 5 rfl) ?_
  exact t6_forceOf_b81 C hQ hK23 v1 v2 v3 v4 v6 v7 v8 v5 M _ _ _ h I (lv_sub hl [0, 1, 2, 3, 4, 6, 7, 8] rfl)
theorem t6_forceOf_b60 {p : Program} {l : Launch} {e : Env} {s : State} {m : MethodId} {args : Array Value} {below : List Frame} {meth : Method} {c : Code} {D : va_G} {T ad : Nat → Nat} {A : Nat → Prop} {H0 : Heap} {Qs : State → Prop} {Q : Int32 → Mem → Prop} {K23 : Int32 → Int32 → Int32 → Int32 → Int32 → Int32 → Int32 → Mem → Prop} (C : MC D T p m c cX6_forceOf 9 s args) (hQ : mExi p l e rX6_forceOf s m args below meth c cX6_forceOf D T ad A H0 Qs Q) (hK23 : ∀ (v1 : Int32) (v2 : Int32) (v3 : Int32) (v4 : Int32) (v5 : Int32) (v6 : Int32) (v7 : Int32) (M : Mem) (H : Heap) (locs : List Loc) (ls : Array Slot), K23 v1 v2 v3 v4 v5 v6 v7 M → MI D T ad A H0 M H locs → lv_has ls 9 [(0, .ref (ad 0)), (1, .int v1), (2, .int v2), (3, .int v3), (4, .int v4), (5, .int v5), (6, .int v6), (7, .int v7)] → W p l e rX6_forceOf s m args below meth c H locs 0 0 Qs (F0 m 23 ls [])) (v1 : Int32) (v2 : Int32) (v3 : Int32) (v5 : Int32) (v6 : Int32) (v7 : Int32) (v8 : Int32) (s0 : Int32) (s1 : Int32) (M : Mem) (H : Heap) (locs : List Loc) (ls : Array Slot) (h : w6_forceOf_b60 Q K23 v1 v2 v3 v5 v6 v7 v8 s0 s1 M) (I : MI D T ad A H0 M H locs) (hl : lv_has ls 9 [(0, .ref (ad 0)), (1, .int v1), (2, .int v2), (3, .int v3), (5, .int v5), (6, .int v6), (7, .int v7), (8, .int v8)]) : W p l e rX6_forceOf s m args below meth c H locs 0 0 Qs (F0 m 60 ls [.int s1, .int s0]) := by
  have hx := C.1.1
  have hb := C.1.2.1
  have how := C.1.2.2.2.1
  have hts := C.1.2.2.2.2
  unfold w6_forceOf_b60 at h
  refine lv_iadd hx hb dX6_forceOf_60 ?_
  refine lv_istore (lv' := [(4, .int (s0 + s1)), (0, .ref (ad 0)), (1, .int v1), (2, .int v2), (3, .int v3), (5, .int v5), (6, .int v6), (7, .int v7), (8, .int v8)]) hx hb dX6_forceOf_61 hl (by decide) rfl (fun ls hl => ?_)
  refine lv_iload hx hb dX6_forceOf_63 (lv_at hl 8 rfl) ?_
  refine lv_if_eq (tgt := 79) hx hb dX6_forceOf_65 (by decide) (fun c => ?_) (fun c => ?_)
  · have h := h.1 c
    exact t6_forceOf_b79 C hQ hK23 v1 v2 v3 (s0 + s1) v5 v6 v7 v8 M _ _ _ h I (lv_sub hl [1, 2, 3, 4, 0, 5, 6, 7, 8] rfl)
  · have h := h.2 c
    refine lv_iload hx hb dX6_forceOf_68 (lv_at hl 5 rfl) ?_
    refine lv_iconst (v := -1) hx hb dX6_forceOf_70 (by decide) ?_
    refine lv_icmp_ne (tgt := 79) hx hb dX6_forceOf_71 (by decide) (fun c => ?_) (fun c => ?_)
    · have h := h.2 c
      exact t6_forceOf_b79 C hQ hK23 v1 v2 v3 (s0 + s1) v5 v6 v7 v8 M _ _ _ h I (lv_sub hl [1, 2, 3, 4, 0, 5, 6, 7, 8] rfl)
    · have h := h.1 c
      refine lv_iload hx hb dX6_forceOf_74 (lv_at hl 7 rfl) ?_
      refine lv_goto (tgt := 81) hx hb dX6_forceOf_76 (by decide) ?_
      exact t6_forceOf_b81 C hQ hK23 v1 v2 v3 (s0 + s1) v6 v7 v8 v7 M _ _ _ h I (lv_sub hl [1, 2, 3, 4, 0, 6, 7, 8] rfl)
theorem t6_forceOf_b23_f {p : Program} {l : Launch} {e : Env} {s : State} {m : MethodId} {args : Array Value} {below : List Frame} {meth : Method} {c : Code} {D : va_G} {T ad : Nat → Nat} {A : Nat → Prop} {H0 : Heap} {Qs : State → Prop} {Q : Int32 → Mem → Prop} {K23 : Int32 → Int32 → Int32 → Int32 → Int32 → Int32 → Int32 → Mem → Prop} (C : MC D T p m c cX6_forceOf 9 s args) (hQ : mExi p l e rX6_forceOf s m args below meth c cX6_forceOf D T ad A H0 Qs Q) (hK23 : ∀ (v1 : Int32) (v2 : Int32) (v3 : Int32) (v4 : Int32) (v5 : Int32) (v6 : Int32) (v7 : Int32) (M : Mem) (H : Heap) (locs : List Loc) (ls : Array Slot), K23 v1 v2 v3 v4 v5 v6 v7 M → MI D T ad A H0 M H locs → lv_has ls 9 [(0, .ref (ad 0)), (1, .int v1), (2, .int v2), (3, .int v3), (4, .int v4), (5, .int v5), (6, .int v6), (7, .int v7)] → W p l e rX6_forceOf s m args below meth c H locs 0 0 Qs (F0 m 23 ls [])) (v1 : Int32) (v2 : Int32) (v3 : Int32) (v4 : Int32) (v5 : Int32) (v6 : Int32) (v7 : Int32) (M : Mem) (H : Heap) (locs : List Loc) (ls : Array Slot) (h : w6_forceOf_b23_f Q K23 v1 v2 v3 v4 v5 v6 v7 M) (I : MI D T ad A H0 M H locs) (hl : lv_has ls 9 [(0, .ref (ad 0)), (1, .int v1), (2, .int v2), (3, .int v3), (4, .int v4), (5, .int v5), (6, .int v6), (7, .int v7)]) : W p l e rX6_forceOf s m args below meth c H locs 0 0 Qs (F0 m 23 ls []) := by
  have hx := C.1.1
  have hb := C.1.2.1
  have how := C.1.2.2.2.1
  have hts := C.1.2.2.2.2
  unfold w6_forceOf_b23_f at h
  refine lv_iload hx hb dX6_forceOf_23 (lv_at hl 7 rfl) ?_
  refine lv_bipush (v := 100) hx hb dX6_forceOf_25 (by decide) ?_
  refine lv_icmp_ge (tgt := 103) hx hb dX6_forceOf_27 (by decide) (fun c => ?_) (fun c => ?_)
  · have h := h.1 c
    refine lv_aload_n hx hb dX6_forceOf_103 rfl (lv_at hl 0 rfl) ?_
    refine mg_carter C I dX6_forceOf_104 ?_
    refine lv_iconst (v := 5) hx hb dX6_forceOf_107 (by decide) ?_
    refine lv_iload_n hx hb dX6_forceOf_108 rfl (lv_at hl 1 rfl) ?_
    refine lv_imul hx hb dX6_forceOf_109 ?_
    refine lv_iconst (v := 3) hx hb dX6_forceOf_110 (by decide) ?_
    refine lv_iadd hx hb dX6_forceOf_111 ?_
    refine lv_iload_n hx hb dX6_forceOf_112 rfl (lv_at hl 3 rfl) ?_
    obtain ⟨hg1, h⟩ := h
    refine m_iast C I 11 40 rfl (by decide) hg1 dX6_forceOf_113 (fun M2 H locs eM2 I => ?_)
    have h := h M2 eM2
    refine lv_iload_n hx hb dX6_forceOf_114 rfl (lv_at hl 2 rfl) ?_
    refine lv_if_ne (tgt := 123) hx hb dX6_forceOf_115 (by decide) (fun c => ?_) (fun c => ?_)
    · have h := h.2 c
      refine lv_iload_n hx hb dX6_forceOf_123 rfl (lv_at hl 2 rfl) ?_
      refine lv_iconst (v := 1) hx hb dX6_forceOf_124 (by decide) ?_
      refine lv_icmp_ne (tgt := 133) hx hb dX6_forceOf_125 (by decide) (fun c => ?_) (fun c => ?_)
      · have h := h.2 c
        refine lv_iload hx hb dX6_forceOf_133 (lv_at hl 6 rfl) ?_
        exact t6_forceOf_b135 C hQ v6 M2 _ _ _ h I (lv_sub hl [0] rfl)
      · have h := h.1 c
        refine lv_iload hx hb dX6_forceOf_128 (lv_at hl 5 rfl) ?_
        refine lv_goto (tgt := 135) hx hb dX6_forceOf_130 (by decide) ?_
        exact t6_forceOf_b135 C hQ v5 M2 _ _ _ h I (lv_sub hl [0] rfl)
    · have h := h.1 c
      refine lv_iload hx hb dX6_forceOf_118 (lv_at hl 4 rfl) ?_
      refine lv_goto (tgt := 135) hx hb dX6_forceOf_120 (by decide) ?_
      exact t6_forceOf_b135 C hQ v4 M2 _ _ _ h I (lv_sub hl [0] rfl)
  · have h := h.2 c
    refine lv_aload_n hx hb dX6_forceOf_30 rfl (lv_at hl 0 rfl) ?_
    refine mg_carter C I dX6_forceOf_31 ?_
    refine lv_iconst (v := 5) hx hb dX6_forceOf_34 (by decide) ?_
    refine lv_iload_n hx hb dX6_forceOf_35 rfl (lv_at hl 1 rfl) ?_
    refine lv_imul hx hb dX6_forceOf_36 ?_
    refine lv_iconst (v := 3) hx hb dX6_forceOf_37 (by decide) ?_
    refine lv_iadd hx hb dX6_forceOf_38 ?_
    refine lv_iload hx hb dX6_forceOf_39 (lv_at hl 7 rfl) ?_
    obtain ⟨hg3, h⟩ := h
    refine m_iast C I 11 40 rfl (by decide) hg3 dX6_forceOf_41 (fun M4 H locs eM4 I => ?_)
    have h := h M4 eM4
    refine lv_aload_n hx hb dX6_forceOf_42 rfl (lv_at hl 0 rfl) ?_
    refine m_calli (As := []) (rest := []) C I (met6_isSeen l D T ad M4 h) (cw6_261 hts ⟨Nat.le_of_ble_eq_true rfl, Nat.le_of_ble_eq_true rfl⟩) rfl hl.1 rfl (Nat.le_of_ble_eq_true rfl) ⟨Nat.zero_le _, Nat.zero_le _⟩ dX6_forceOf_43 (fun r5 M6 H locs h I => ?_)
    refine lv_istore (lv' := [(8, .int r5), (0, .ref (ad 0)), (1, .int v1), (2, .int v2), (3, .int v3), (4, .int v4), (5, .int v5), (6, .int v6), (7, .int v7)]) hx hb dX6_forceOf_46 hl (by decide) rfl (fun ls hl => ?_)
    refine lv_iload hx hb dX6_forceOf_48 (lv_at hl 5 rfl) ?_
    refine lv_iload hx hb dX6_forceOf_50 (lv_at hl 0 rfl) ?_
    refine lv_if_eq (tgt := 59) hx hb dX6_forceOf_52 (by decide) (fun c => ?_) (fun c => ?_)
    · have h := h.1 c
      refine lv_iconst (v := 0) hx hb dX6_forceOf_59 (by decide) ?_
      exact t6_forceOf_b60 C hQ hK23 v1 v2 v3 v5 v6 v7 r5 v4 0 M6 _ _ _ h I (lv_sub hl [1, 2, 3, 4, 6, 7, 8, 0] rfl)
    · have h := h.2 c
      refine lv_iconst (v := 1) hx hb dX6_forceOf_55 (by decide) ?_
      refine lv_goto (tgt := 60) hx hb dX6_forceOf_56 (by decide) ?_
      exact t6_forceOf_b60 C hQ hK23 v1 v2 v3 v5 v6 v7 r5 v4 1 M6 _ _ _ h I (lv_sub hl [1, 2, 3, 4, 6, 7, 8, 0] rfl)
theorem t6_forceOf_b23 {p : Program} {l : Launch} {e : Env} {s : State} {m : MethodId} {args : Array Value} {below : List Frame} {meth : Method} {c : Code} {D : va_G} {T ad : Nat → Nat} {A : Nat → Prop} {H0 : Heap} {Qs : State → Prop} {Q : Int32 → Mem → Prop}  (C : MC D T p m c cX6_forceOf 9 s args) (hQ : mExi p l e rX6_forceOf s m args below meth c cX6_forceOf D T ad A H0 Qs Q)  : ∀ (n : Nat) (v1 : Int32) (v2 : Int32) (v3 : Int32) (v4 : Int32) (v5 : Int32) (v6 : Int32) (v7 : Int32) (M : Mem) (H : Heap) (locs : List Loc) (ls : Array Slot), w6_forceOf_b23 Q n v1 v2 v3 v4 v5 v6 v7 M → MI D T ad A H0 M H locs → lv_has ls 9 [(0, .ref (ad 0)), (1, .int v1), (2, .int v2), (3, .int v3), (4, .int v4), (5, .int v5), (6, .int v6), (7, .int v7)] → W p l e rX6_forceOf s m args below meth c H locs 0 0 Qs (F0 m 23 ls []) := by
  intro n
  induction n with
  | zero => intro v1 v2 v3 v4 v5 v6 v7 M H locs ls h; exact h.elim
  | succ n ih => intro v1 v2 v3 v4 v5 v6 v7 M H locs ls h I hl; exact t6_forceOf_b23_f C hQ  ih v1 v2 v3 v4 v5 v6 v7 M H locs ls h I hl
theorem t6_forceOf {p : Program} {l : Launch} {e : Env} {s : State} {m : MethodId} {args : Array Value} {below : List Frame} {meth : Method} {c : Code} {D : va_G} {T ad : Nat → Nat} {A : Nat → Prop} {H0 : Heap} {Qs : State → Prop} {Q : Int32 → Mem → Prop} (C : MC D T p m c cX6_forceOf 9 s args) (hQ : mExi p l e rX6_forceOf s m args below meth c cX6_forceOf D T ad A H0 Qs Q) (v1 : Int32) (v2 : Int32) (M : Mem) (H : Heap) (locs : List Loc) (ls : Array Slot) (h : w6_forceOf v1 v2 M Q) (I : MI D T ad A H0 M H locs) (hl : lv_has ls 9 [(0, .ref (ad 0)), (1, .int v1), (2, .int v2)]) : W p l e rX6_forceOf s m args below meth c H locs 0 0 Qs (F0 m 0 ls []) := by
  have hx := C.1.1
  have hb := C.1.2.1
  have how := C.1.2.2.2.1
  have hts := C.1.2.2.2.2
  unfold w6_forceOf at h
  refine lv_aload_n hx hb dX6_forceOf_0 rfl (lv_at hl 0 rfl) ?_
  refine mg_carter C I dX6_forceOf_1 ?_
  refine lv_iconst (v := 5) hx hb dX6_forceOf_4 (by decide) ?_
  refine lv_iload_n hx hb dX6_forceOf_5 rfl (lv_at hl 1 rfl) ?_
  refine lv_imul hx hb dX6_forceOf_6 ?_
  refine lv_iconst (v := 3) hx hb dX6_forceOf_7 (by decide) ?_
  refine lv_iadd hx hb dX6_forceOf_8 ?_
  obtain ⟨hg7, h⟩ := h
  refine m_iald C I 11 40 rfl (by decide) hg7 dX6_forceOf_9 ?_
  refine lv_topi (fun x8 ex8 => ?_)
  have h := h x8 ex8
  refine lv_istore_n (lv' := [(3, .int x8), (0, .ref (ad 0)), (1, .int v1), (2, .int v2)]) hx hb dX6_forceOf_10 rfl hl (by decide) rfl (fun ls hl => ?_)
  refine lv_iconst (v := 0) hx hb dX6_forceOf_11 (by decide) ?_
  refine lv_istore (lv' := [(4, .int 0), (3, .int x8), (0, .ref (ad 0)), (1, .int v1), (2, .int v2)]) hx hb dX6_forceOf_12 hl (by decide) rfl (fun ls hl => ?_)
  refine lv_iconst (v := -1) hx hb dX6_forceOf_14 (by decide) ?_
  refine lv_istore (lv' := [(5, .int (-1)), (4, .int 0), (3, .int x8), (0, .ref (ad 0)), (1, .int v1), (2, .int v2)]) hx hb dX6_forceOf_15 hl (by decide) rfl (fun ls hl => ?_)
  refine lv_iconst (v := -1) hx hb dX6_forceOf_17 (by decide) ?_
  refine lv_istore (lv' := [(6, .int (-1)), (5, .int (-1)), (4, .int 0), (3, .int x8), (0, .ref (ad 0)), (1, .int v1), (2, .int v2)]) hx hb dX6_forceOf_18 hl (by decide) rfl (fun ls hl => ?_)
  refine lv_iconst (v := 0) hx hb dX6_forceOf_20 (by decide) ?_
  refine lv_istore (lv' := [(7, .int 0), (6, .int (-1)), (5, .int (-1)), (4, .int 0), (3, .int x8), (0, .ref (ad 0)), (1, .int v1), (2, .int v2)]) hx hb dX6_forceOf_21 hl (by decide) rfl (fun ls hl => ?_)
  obtain ⟨n, h⟩ := h
  exact t6_forceOf_b23 C hQ n v1 v2 x8 0 (-1) (-1) 0 M _ _ _ h I (lv_sub hl [5, 6, 7, 4, 3, 2, 1, 0] rfl)
theorem met6_forceOf (l : Launch) (D : va_G) (T ad : Nat → Nat) (v1 : Int32) (v2 : Int32) (M : Mem) {Qp : Int32 → Mem → Prop} (h : w6_forceOf v1 v2 M Qp) (sz : Nat) : Met l yX6_forceOf (ws_ yX6_forceOf cX6_forceOf 9 (some .int)) rX6_forceOf (mPc D T ad [.int v1, .int v2] M sz) (mQi D T ad M Qp sz) 0 0 (fA (cM T ad M) sz) :=
  m_metI (As := [.int v1, .int v2]) rfl rfl (Nat.le_of_ble_eq_true rfl) (fun p e s m args below meth c A Qs ls C hQ I hl => t6_forceOf C hQ v1 v2 M _ _ ls h I hl) sz
/-! force -/
abbrev rX6_force : Room := { frames := 7, cells := 0, slots := 0, locals := 168 }
theorem cw6_271 {R : Room} {s : State} {args : Array Value} (hts : ∀ w ∈ lw_all, w.before args s = true) (hR : rX6_forceOf.frames + 1 ≤ R.frames ∧ 8 + (9 + 11) + rX6_forceOf.locals ≤ R.locals) : CallW R s args RX6 RX6 271 yX6_forceOf cX6_forceOf 9 (some .int) (ws_ yX6_forceOf cX6_forceOf 9 (some .int)) rX6_forceOf 0 0 2 := cwV 2 hts (lw_V q1297 q1299 qs79 q95 q1300) rfl rfl rfl (by decide +kernel) hR
theorem t6_force_b35 {p : Program} {l : Launch} {e : Env} {s : State} {m : MethodId} {args : Array Value} {below : List Frame} {meth : Method} {c : Code} {D : va_G} {T ad : Nat → Nat} {A : Nat → Prop} {H0 : Heap} {Qs : State → Prop} {Q : Int32 → Mem → Prop}  (C : MC D T p m c cX6_force 3 s args) (hQ : mExi p l e rX6_force s m args below meth c cX6_force D T ad A H0 Qs Q)  (s0 : Int32) (M : Mem) (H : Heap) (locs : List Loc) (ls : Array Slot) (h : w6_force_b35 Q s0 M) (I : MI D T ad A H0 M H locs) (hl : lv_has ls 3 [(0, .ref (ad 0))]) : W p l e rX6_force s m args below meth c H locs 0 0 Qs (F0 m 35 ls [.int s0]) := by
  have hx := C.1.1
  have hb := C.1.2.1
  have how := C.1.2.2.2.1
  have hts := C.1.2.2.2.2
  unfold w6_force_b35 at h
  exact hQ _ _ _ _ _ _ h I dX6_force_35
theorem t6_force_b33 {p : Program} {l : Launch} {e : Env} {s : State} {m : MethodId} {args : Array Value} {below : List Frame} {meth : Method} {c : Code} {D : va_G} {T ad : Nat → Nat} {A : Nat → Prop} {H0 : Heap} {Qs : State → Prop} {Q : Int32 → Mem → Prop}  (C : MC D T p m c cX6_force 3 s args) (hQ : mExi p l e rX6_force s m args below meth c cX6_force D T ad A H0 Qs Q)   (M : Mem) (H : Heap) (locs : List Loc) (ls : Array Slot) (h : w6_force_b33 Q M) (I : MI D T ad A H0 M H locs) (hl : lv_has ls 3 [(0, .ref (ad 0))]) : W p l e rX6_force s m args below meth c H locs 0 0 Qs (F0 m 33 ls []) := by
  have hx := C.1.1
  have hb := C.1.2.1
  have how := C.1.2.2.2.1
  have hts := C.1.2.2.2.2
  unfold w6_force_b33 at h
  refine lv_bipush (v := -2) hx hb dX6_force_33 (by decide) ?_
  exact t6_force_b35 C hQ (-2) M _ _ _ h I (lv_sub hl [0] rfl)
theorem t6_force {p : Program} {l : Launch} {e : Env} {s : State} {m : MethodId} {args : Array Value} {below : List Frame} {meth : Method} {c : Code} {D : va_G} {T ad : Nat → Nat} {A : Nat → Prop} {H0 : Heap} {Qs : State → Prop} {Q : Int32 → Mem → Prop} (C : MC D T p m c cX6_force 3 s args) (hQ : mExi p l e rX6_force s m args below meth c cX6_force D T ad A H0 Qs Q) (v1 : Int32) (v2 : Int32) (M : Mem) (H : Heap) (locs : List Loc) (ls : Array Slot) (h : w6_force v1 v2 M Q) (I : MI D T ad A H0 M H locs) (hl : lv_has ls 3 [(0, .ref (ad 0)), (1, .int v1), (2, .int v2)]) : W p l e rX6_force s m args below meth c H locs 0 0 Qs (F0 m 0 ls []) := by
  have hx := C.1.1
  have hb := C.1.2.1
  have how := C.1.2.2.2.1
  have hts := C.1.2.2.2.2
  unfold w6_force at h
  refine lv_aload_n hx hb dX6_force_0 rfl (lv_at hl 0 rfl) ?_
  refine m_callv (As := []) (rest := []) C I (met6_find l D T ad M h) (cw6_218 hts ⟨Nat.le_of_ble_eq_true rfl, Nat.le_of_ble_eq_true rfl⟩) rfl hl.1 rfl (Nat.le_of_ble_eq_true rfl) ⟨Nat.zero_le _, Nat.zero_le _⟩ dX6_force_1 (fun M1 H locs h I => ?_)
  refine lv_aload_n hx hb dX6_force_4 rfl (lv_at hl 0 rfl) ?_
  refine lv_iload_n hx hb dX6_force_5 rfl (lv_at hl 1 rfl) ?_
  refine m_calli (As := [.int v1]) (rest := []) C I (met6_isCarter l D T ad v1 M1 h) (cw6_153 hts ⟨Nat.le_of_ble_eq_true rfl, Nat.le_of_ble_eq_true rfl⟩) rfl hl.1 rfl (Nat.le_of_ble_eq_true rfl) ⟨Nat.zero_le _, Nat.zero_le _⟩ dX6_force_6 (fun r2 M3 H locs h I => ?_)
  refine lv_if_eq (tgt := 33) hx hb dX6_force_9 (by decide) (fun c => ?_) (fun c => ?_)
  · have h := h.1 c
    exact t6_force_b33 C hQ M3 _ _ _ h I (lv_sub hl [0] rfl)
  · have h := h.2 c
    refine lv_iload_n hx hb dX6_force_12 rfl (lv_at hl 2 rfl) ?_
    refine lv_i2l hx hb dX6_force_13 rfl ?_
    refine lv_lconst (v := 0) hx hb dX6_force_14 rfl ?_
    refine lv_ldc2 hx hb how (hts _ q1020) dX6_force_15 ?_
    refine m_purei (As := [.long (Int32.toInt64 v2), .long 0, .long 2]) (rest := []) C I (met6_in l (Int32.toInt64 v2) 0 2 h) (cw6_81 hts ⟨Nat.le_of_ble_eq_true rfl, Nat.le_of_ble_eq_true rfl⟩) rfl hl.1 rfl (Nat.le_of_ble_eq_true rfl) ⟨Nat.zero_le _, Nat.zero_le _⟩ dX6_force_18 (fun r4 H locs h I => ?_)
    refine lv_if_eq (tgt := 33) hx hb dX6_force_21 (by decide) (fun c => ?_) (fun c => ?_)
    · have h := h.1 c
      exact t6_force_b33 C hQ M3 _ _ _ h I (lv_sub hl [0] rfl)
    · have h := h.2 c
      refine lv_aload_n hx hb dX6_force_24 rfl (lv_at hl 0 rfl) ?_
      refine lv_iload_n hx hb dX6_force_25 rfl (lv_at hl 1 rfl) ?_
      refine lv_iload_n hx hb dX6_force_26 rfl (lv_at hl 2 rfl) ?_
      refine m_calli (As := [.int v1, .int v2]) (rest := []) C I (met6_forceOf l D T ad v1 v2 M3 h) (cw6_271 hts ⟨Nat.le_of_ble_eq_true rfl, Nat.le_of_ble_eq_true rfl⟩) rfl hl.1 rfl (Nat.le_of_ble_eq_true rfl) ⟨Nat.zero_le _, Nat.zero_le _⟩ dX6_force_27 (fun r5 M6 H locs h I => ?_)
      refine lv_goto (tgt := 35) hx hb dX6_force_30 (by decide) ?_
      exact t6_force_b35 C hQ r5 M6 _ _ _ h I (lv_sub hl [0] rfl)
theorem met6_force (l : Launch) (D : va_G) (T ad : Nat → Nat) (v1 : Int32) (v2 : Int32) (M : Mem) {Qp : Int32 → Mem → Prop} (h : w6_force v1 v2 M Qp) (sz : Nat) : Met l yX6_force (ws_ yX6_force cX6_force 3 (some .int)) rX6_force (mPc D T ad [.int v1, .int v2] M sz) (mQi D T ad M Qp sz) 0 0 (fA (cM T ad M) sz) :=
  m_metI (As := [.int v1, .int v2]) rfl rfl (Nat.le_of_ble_eq_true rfl) (fun p e s m args below meth c A Qs ls C hQ I hl => t6_force C hQ v1 v2 M _ _ ls h I hl) sz
/-! alike -/
abbrev rX6_alike : Room := { frames := 1, cells := 0, slots := 0, locals := 21 }
theorem t6_alike_b75 {p : Program} {l : Launch} {e : Env} {s : State} {m : MethodId} {args : Array Value} {below : List Frame} {meth : Method} {c : Code} {D : va_G} {T ad : Nat → Nat} {A : Nat → Prop} {H0 : Heap} {Qs : State → Prop} {Q : Int32 → Mem → Prop} {K5 : Int32 → Int32 → Int32 → Int32 → Mem → Prop} {K17 : Int32 → Int32 → Int32 → Int32 → Int32 → Int32 → Mem → Prop} (C : MC D T p m c cX6_alike 7 s args) (hQ : mExi p l e rX6_alike s m args below meth c cX6_alike D T ad A H0 Qs Q) (hK5 : ∀ (v1 : Int32) (v2 : Int32) (v3 : Int32) (v4 : Int32) (M : Mem) (H : Heap) (locs : List Loc) (ls : Array Slot), K5 v1 v2 v3 v4 M → MI D T ad A H0 M H locs → lv_has ls 7 [(0, .ref (ad 0)), (1, .int v1), (2, .int v2), (3, .int v3), (4, .int v4)] → W p l e rX6_alike s m args below meth c H locs 0 0 Qs (F0 m 5 ls [])) (hK17 : ∀ (v1 : Int32) (v2 : Int32) (v3 : Int32) (v4 : Int32) (v5 : Int32) (v6 : Int32) (M : Mem) (H : Heap) (locs : List Loc) (ls : Array Slot), K17 v1 v2 v3 v4 v5 v6 M → MI D T ad A H0 M H locs → lv_has ls 7 [(0, .ref (ad 0)), (1, .int v1), (2, .int v2), (3, .int v3), (4, .int v4), (5, .int v5), (6, .int v6)] → W p l e rX6_alike s m args below meth c H locs 0 0 Qs (F0 m 17 ls [])) (v1 : Int32) (v2 : Int32) (v3 : Int32) (v4 : Int32) (v6 : Int32) (s0 : Int32) (s1 : Int32) (M : Mem) (H : Heap) (locs : List Loc) (ls : Array Slot) (h : w6_alike_b75 Q K5 K17 v1 v2 v3 v4 v6 s0 s1 M) (I : MI D T ad A H0 M H locs) (hl : lv_has ls 7 [(0, .ref (ad 0)), (1, .int v1), (2, .int v2), (3, .int v3), (4, .int v4), (6, .int v6)]) : W p l e rX6_alike s m args below meth c H locs 0 0 Qs (F0 m 75 ls [.int s1, .int s0]) := by
  have hx := C.1.1
  have hb := C.1.2.1
  have how := C.1.2.2.2.1
  have hts := C.1.2.2.2.2
  unfold w6_alike_b75 at h
  refine lv_iadd hx hb dX6_alike_75 ?_
  refine lv_istore (lv' := [(5, .int (s0 + s1)), (0, .ref (ad 0)), (1, .int v1), (2, .int v2), (3, .int v3), (4, .int v4), (6, .int v6)]) hx hb dX6_alike_76 hl (by decide) rfl (fun ls hl => ?_)
  refine lv_iinc (v := (v6 + 1)) (lv' := [(6, .int (v6 + 1)), (5, .int (s0 + s1)), (0, .ref (ad 0)), (1, .int v1), (2, .int v2), (3, .int v3), (4, .int v4)]) hx hb dX6_alike_78 hl (k := 6) rfl (ii_1 _) (by decide) rfl (fun ls hl => ?_)
  refine lv_goto (tgt := 17) hx hb dX6_alike_81 (by decide) ?_
  exact hK17 v1 v2 v3 v4 (s0 + s1) (v6 + 1) M _ _ _ h I (lv_sub hl [2, 3, 4, 5, 6, 1, 0] rfl)
theorem t6_alike_b74 {p : Program} {l : Launch} {e : Env} {s : State} {m : MethodId} {args : Array Value} {below : List Frame} {meth : Method} {c : Code} {D : va_G} {T ad : Nat → Nat} {A : Nat → Prop} {H0 : Heap} {Qs : State → Prop} {Q : Int32 → Mem → Prop} {K5 : Int32 → Int32 → Int32 → Int32 → Mem → Prop} {K17 : Int32 → Int32 → Int32 → Int32 → Int32 → Int32 → Mem → Prop} (C : MC D T p m c cX6_alike 7 s args) (hQ : mExi p l e rX6_alike s m args below meth c cX6_alike D T ad A H0 Qs Q) (hK5 : ∀ (v1 : Int32) (v2 : Int32) (v3 : Int32) (v4 : Int32) (M : Mem) (H : Heap) (locs : List Loc) (ls : Array Slot), K5 v1 v2 v3 v4 M → MI D T ad A H0 M H locs → lv_has ls 7 [(0, .ref (ad 0)), (1, .int v1), (2, .int v2), (3, .int v3), (4, .int v4)] → W p l e rX6_alike s m args below meth c H locs 0 0 Qs (F0 m 5 ls [])) (hK17 : ∀ (v1 : Int32) (v2 : Int32) (v3 : Int32) (v4 : Int32) (v5 : Int32) (v6 : Int32) (M : Mem) (H : Heap) (locs : List Loc) (ls : Array Slot), K17 v1 v2 v3 v4 v5 v6 M → MI D T ad A H0 M H locs → lv_has ls 7 [(0, .ref (ad 0)), (1, .int v1), (2, .int v2), (3, .int v3), (4, .int v4), (5, .int v5), (6, .int v6)] → W p l e rX6_alike s m args below meth c H locs 0 0 Qs (F0 m 17 ls [])) (v1 : Int32) (v2 : Int32) (v3 : Int32) (v4 : Int32) (v6 : Int32) (s0 : Int32) (M : Mem) (H : Heap) (locs : List Loc) (ls : Array Slot) (h : w6_alike_b74 Q K5 K17 v1 v2 v3 v4 v6 s0 M) (I : MI D T ad A H0 M H locs) (hl : lv_has ls 7 [(0, .ref (ad 0)), (1, .int v1), (2, .int v2), (3, .int v3), (4, .int v4), (6, .int v6)]) : W p l e rX6_alike s m args below meth c H locs 0 0 Qs (F0 m 74 ls [.int s0]) := by
  have hx := C.1.1
  have hb := C.1.2.1
  have how := C.1.2.2.2.1
  have hts := C.1.2.2.2.2
  unfold w6_alike_b74 at h
  refine lv_iconst (v := 0) hx hb dX6_alike_74 (by decide) ?_
  exact t6_alike_b75 C hQ hK5 hK17 v1 v2 v3 v4 v6 s0 0 M _ _ _ h I (lv_sub hl [0, 1, 2, 3, 4, 5] rfl)
theorem t6_alike_b17_f {p : Program} {l : Launch} {e : Env} {s : State} {m : MethodId} {args : Array Value} {below : List Frame} {meth : Method} {c : Code} {D : va_G} {T ad : Nat → Nat} {A : Nat → Prop} {H0 : Heap} {Qs : State → Prop} {Q : Int32 → Mem → Prop} {K5 : Int32 → Int32 → Int32 → Int32 → Mem → Prop} {K17 : Int32 → Int32 → Int32 → Int32 → Int32 → Int32 → Mem → Prop} (C : MC D T p m c cX6_alike 7 s args) (hQ : mExi p l e rX6_alike s m args below meth c cX6_alike D T ad A H0 Qs Q) (hK5 : ∀ (v1 : Int32) (v2 : Int32) (v3 : Int32) (v4 : Int32) (M : Mem) (H : Heap) (locs : List Loc) (ls : Array Slot), K5 v1 v2 v3 v4 M → MI D T ad A H0 M H locs → lv_has ls 7 [(0, .ref (ad 0)), (1, .int v1), (2, .int v2), (3, .int v3), (4, .int v4)] → W p l e rX6_alike s m args below meth c H locs 0 0 Qs (F0 m 5 ls [])) (hK17 : ∀ (v1 : Int32) (v2 : Int32) (v3 : Int32) (v4 : Int32) (v5 : Int32) (v6 : Int32) (M : Mem) (H : Heap) (locs : List Loc) (ls : Array Slot), K17 v1 v2 v3 v4 v5 v6 M → MI D T ad A H0 M H locs → lv_has ls 7 [(0, .ref (ad 0)), (1, .int v1), (2, .int v2), (3, .int v3), (4, .int v4), (5, .int v5), (6, .int v6)] → W p l e rX6_alike s m args below meth c H locs 0 0 Qs (F0 m 17 ls [])) (v1 : Int32) (v2 : Int32) (v3 : Int32) (v4 : Int32) (v5 : Int32) (v6 : Int32) (M : Mem) (H : Heap) (locs : List Loc) (ls : Array Slot) (h : w6_alike_b17_f Q K5 K17 v1 v2 v3 v4 v5 v6 M) (I : MI D T ad A H0 M H locs) (hl : lv_has ls 7 [(0, .ref (ad 0)), (1, .int v1), (2, .int v2), (3, .int v3), (4, .int v4), (5, .int v5), (6, .int v6)]) : W p l e rX6_alike s m args below meth c H locs 0 0 Qs (F0 m 17 ls []) := by
  have hx := C.1.1
  have hb := C.1.2.1
  have how := C.1.2.2.2.1
  have hts := C.1.2.2.2.2
  unfold w6_alike_b17_f at h
  refine lv_iload hx hb dX6_alike_17 (lv_at hl 6 rfl) ?_
  refine lv_iconst (v := 3) hx hb dX6_alike_19 (by decide) ?_
  refine lv_icmp_ge (tgt := 84) hx hb dX6_alike_20 (by decide) (fun c => ?_) (fun c => ?_)
  · have h := h.1 c
    refine lv_iload hx hb dX6_alike_84 (lv_at hl 5 rfl) ?_
    refine lv_iload_n hx hb dX6_alike_86 rfl (lv_at hl 3 rfl) ?_
    refine m_purei (As := [.int v5, .int v3]) (rest := []) C I (met6_greater l v5 v3 h) (cw6_229 hts ⟨Nat.le_of_ble_eq_true rfl, Nat.le_of_ble_eq_true rfl⟩) rfl hl.1 rfl (Nat.le_of_ble_eq_true rfl) ⟨Nat.zero_le _, Nat.zero_le _⟩ dX6_alike_87 (fun r1 H locs h I => ?_)
    refine lv_istore_n (lv' := [(3, .int r1), (0, .ref (ad 0)), (1, .int v1), (2, .int v2), (4, .int v4), (5, .int v5), (6, .int v6)]) hx hb dX6_alike_90 rfl hl (by decide) rfl (fun ls hl => ?_)
    refine lv_iinc (v := (v4 + 1)) (lv' := [(4, .int (v4 + 1)), (3, .int r1), (0, .ref (ad 0)), (1, .int v1), (2, .int v2), (5, .int v5), (6, .int v6)]) hx hb dX6_alike_91 hl (k := 4) rfl (ii_1 _) (by decide) rfl (fun ls hl => ?_)
    refine lv_goto (tgt := 5) hx hb dX6_alike_94 (by decide) ?_
    exact hK5 v1 v2 r1 (v4 + 1) M _ _ _ h I (lv_sub hl [2, 3, 4, 1, 0] rfl)
  · have h := h.2 c
    refine lv_iload hx hb dX6_alike_23 (lv_at hl 5 rfl) ?_
    refine lv_iload_n hx hb dX6_alike_25 rfl (lv_at hl 1 rfl) ?_
    refine lv_iload hx hb dX6_alike_26 (lv_at hl 4 rfl) ?_
    refine m_purei (As := [.int v1, .int v4]) (rest := [.int v5]) C I (met6_isIn l v1 v4 h) (cw6_177 hts ⟨Nat.le_of_ble_eq_true rfl, Nat.le_of_ble_eq_true rfl⟩) rfl hl.1 rfl (Nat.le_of_ble_eq_true rfl) ⟨Nat.zero_le _, Nat.zero_le _⟩ dX6_alike_28 (fun r2 H locs h I => ?_)
    refine lv_if_eq (tgt := 74) hx hb dX6_alike_31 (by decide) (fun c => ?_) (fun c => ?_)
    · have h := h.1 c
      exact t6_alike_b74 C hQ hK5 hK17 v1 v2 v3 v4 v6 v5 M _ _ _ h I (lv_sub hl [0, 1, 2, 3, 4, 6] rfl)
    · have h := h.2 c
      refine lv_iload_n hx hb dX6_alike_34 rfl (lv_at hl 1 rfl) ?_
      refine lv_iload hx hb dX6_alike_35 (lv_at hl 6 rfl) ?_
      refine m_purei (As := [.int v1, .int v6]) (rest := [.int v5]) C I (met6_isIn l v1 v6 h) (cw6_177 hts ⟨Nat.le_of_ble_eq_true rfl, Nat.le_of_ble_eq_true rfl⟩) rfl hl.1 rfl (Nat.le_of_ble_eq_true rfl) ⟨Nat.zero_le _, Nat.zero_le _⟩ dX6_alike_37 (fun r3 H locs h I => ?_)
      refine lv_if_eq (tgt := 74) hx hb dX6_alike_40 (by decide) (fun c => ?_) (fun c => ?_)
      · have h := h.1 c
        exact t6_alike_b74 C hQ hK5 hK17 v1 v2 v3 v4 v6 v5 M _ _ _ h I (lv_sub hl [0, 1, 2, 3, 4, 6] rfl)
      · have h := h.2 c
        refine lv_aload_n hx hb dX6_alike_43 rfl (lv_at hl 0 rfl) ?_
        refine mg_places C I dX6_alike_44 ?_
        refine lv_bipush (v := 40) hx hb dX6_alike_47 (by decide) ?_
        refine lv_iload hx hb dX6_alike_49 (lv_at hl 4 rfl) ?_
        refine lv_imul hx hb dX6_alike_51 ?_
        refine lv_iload_n hx hb dX6_alike_52 rfl (lv_at hl 2 rfl) ?_
        refine lv_iadd hx hb dX6_alike_53 ?_
        obtain ⟨hg4, h⟩ := h
        refine m_iald C I 31 120 rfl (by decide) hg4 dX6_alike_54 ?_
        refine lv_aload_n hx hb dX6_alike_55 rfl (lv_at hl 0 rfl) ?_
        refine mg_places C I dX6_alike_56 ?_
        refine lv_bipush (v := 40) hx hb dX6_alike_59 (by decide) ?_
        refine lv_iload hx hb dX6_alike_61 (lv_at hl 6 rfl) ?_
        refine lv_imul hx hb dX6_alike_63 ?_
        refine lv_iload_n hx hb dX6_alike_64 rfl (lv_at hl 2 rfl) ?_
        refine lv_iadd hx hb dX6_alike_65 ?_
        obtain ⟨hg5, h⟩ := h
        refine m_iald C I 31 120 rfl (by decide) hg5 dX6_alike_66 ?_
        refine lv_icmp_ne (tgt := 74) hx hb dX6_alike_67 (by decide) (fun c => ?_) (fun c => ?_)
        · have h := h.2 c
          exact t6_alike_b74 C hQ hK5 hK17 v1 v2 v3 v4 v6 v5 M _ _ _ h I (lv_sub hl [0, 1, 2, 3, 4, 6] rfl)
        · have h := h.1 c
          refine lv_iconst (v := 1) hx hb dX6_alike_70 (by decide) ?_
          refine lv_goto (tgt := 75) hx hb dX6_alike_71 (by decide) ?_
          exact t6_alike_b75 C hQ hK5 hK17 v1 v2 v3 v4 v6 v5 1 M _ _ _ h I (lv_sub hl [0, 1, 2, 3, 4, 6] rfl)
theorem t6_alike_b17 {p : Program} {l : Launch} {e : Env} {s : State} {m : MethodId} {args : Array Value} {below : List Frame} {meth : Method} {c : Code} {D : va_G} {T ad : Nat → Nat} {A : Nat → Prop} {H0 : Heap} {Qs : State → Prop} {Q : Int32 → Mem → Prop} {K5 : Int32 → Int32 → Int32 → Int32 → Mem → Prop} (C : MC D T p m c cX6_alike 7 s args) (hQ : mExi p l e rX6_alike s m args below meth c cX6_alike D T ad A H0 Qs Q) (hK5 : ∀ (v1 : Int32) (v2 : Int32) (v3 : Int32) (v4 : Int32) (M : Mem) (H : Heap) (locs : List Loc) (ls : Array Slot), K5 v1 v2 v3 v4 M → MI D T ad A H0 M H locs → lv_has ls 7 [(0, .ref (ad 0)), (1, .int v1), (2, .int v2), (3, .int v3), (4, .int v4)] → W p l e rX6_alike s m args below meth c H locs 0 0 Qs (F0 m 5 ls [])) : ∀ (n : Nat) (v1 : Int32) (v2 : Int32) (v3 : Int32) (v4 : Int32) (v5 : Int32) (v6 : Int32) (M : Mem) (H : Heap) (locs : List Loc) (ls : Array Slot), w6_alike_b17 Q K5 n v1 v2 v3 v4 v5 v6 M → MI D T ad A H0 M H locs → lv_has ls 7 [(0, .ref (ad 0)), (1, .int v1), (2, .int v2), (3, .int v3), (4, .int v4), (5, .int v5), (6, .int v6)] → W p l e rX6_alike s m args below meth c H locs 0 0 Qs (F0 m 17 ls []) := by
  intro n
  induction n with
  | zero => intro v1 v2 v3 v4 v5 v6 M H locs ls h; exact h.elim
  | succ n ih => intro v1 v2 v3 v4 v5 v6 M H locs ls h I hl; exact t6_alike_b17_f C hQ hK5 ih v1 v2 v3 v4 v5 v6 M H locs ls h I hl
theorem t6_alike_b5_f {p : Program} {l : Launch} {e : Env} {s : State} {m : MethodId} {args : Array Value} {below : List Frame} {meth : Method} {c : Code} {D : va_G} {T ad : Nat → Nat} {A : Nat → Prop} {H0 : Heap} {Qs : State → Prop} {Q : Int32 → Mem → Prop} {K5 : Int32 → Int32 → Int32 → Int32 → Mem → Prop} (C : MC D T p m c cX6_alike 7 s args) (hQ : mExi p l e rX6_alike s m args below meth c cX6_alike D T ad A H0 Qs Q) (hK5 : ∀ (v1 : Int32) (v2 : Int32) (v3 : Int32) (v4 : Int32) (M : Mem) (H : Heap) (locs : List Loc) (ls : Array Slot), K5 v1 v2 v3 v4 M → MI D T ad A H0 M H locs → lv_has ls 7 [(0, .ref (ad 0)), (1, .int v1), (2, .int v2), (3, .int v3), (4, .int v4)] → W p l e rX6_alike s m args below meth c H locs 0 0 Qs (F0 m 5 ls [])) (v1 : Int32) (v2 : Int32) (v3 : Int32) (v4 : Int32) (M : Mem) (H : Heap) (locs : List Loc) (ls : Array Slot) (h : w6_alike_b5_f Q K5 v1 v2 v3 v4 M) (I : MI D T ad A H0 M H locs) (hl : lv_has ls 7 [(0, .ref (ad 0)), (1, .int v1), (2, .int v2), (3, .int v3), (4, .int v4)]) : W p l e rX6_alike s m args below meth c H locs 0 0 Qs (F0 m 5 ls []) := by
  have hx := C.1.1
  have hb := C.1.2.1
  have how := C.1.2.2.2.1
  have hts := C.1.2.2.2.2
  unfold w6_alike_b5_f at h
  refine lv_iload hx hb dX6_alike_5 (lv_at hl 4 rfl) ?_
  refine lv_iconst (v := 3) hx hb dX6_alike_7 (by decide) ?_
  refine lv_icmp_ge (tgt := 97) hx hb dX6_alike_8 (by decide) (fun c => ?_) (fun c => ?_)
  · have h := h.1 c
    refine lv_iload_n hx hb dX6_alike_97 rfl (lv_at hl 3 rfl) ?_
    exact hQ _ _ _ _ _ _ h I dX6_alike_98
  · have h := h.2 c
    refine lv_iconst (v := 0) hx hb dX6_alike_11 (by decide) ?_
    refine lv_istore (lv' := [(5, .int 0), (0, .ref (ad 0)), (1, .int v1), (2, .int v2), (3, .int v3), (4, .int v4)]) hx hb dX6_alike_12 hl (by decide) rfl (fun ls hl => ?_)
    refine lv_iconst (v := 0) hx hb dX6_alike_14 (by decide) ?_
    refine lv_istore (lv' := [(6, .int 0), (5, .int 0), (0, .ref (ad 0)), (1, .int v1), (2, .int v2), (3, .int v3), (4, .int v4)]) hx hb dX6_alike_15 hl (by decide) rfl (fun ls hl => ?_)
    obtain ⟨n, h⟩ := h
    exact t6_alike_b17 C hQ hK5 n v1 v2 v3 v4 0 0 M _ _ _ h I (lv_sub hl [2, 3, 4, 5, 6, 1, 0] rfl)
theorem t6_alike_b5 {p : Program} {l : Launch} {e : Env} {s : State} {m : MethodId} {args : Array Value} {below : List Frame} {meth : Method} {c : Code} {D : va_G} {T ad : Nat → Nat} {A : Nat → Prop} {H0 : Heap} {Qs : State → Prop} {Q : Int32 → Mem → Prop}  (C : MC D T p m c cX6_alike 7 s args) (hQ : mExi p l e rX6_alike s m args below meth c cX6_alike D T ad A H0 Qs Q)  : ∀ (n : Nat) (v1 : Int32) (v2 : Int32) (v3 : Int32) (v4 : Int32) (M : Mem) (H : Heap) (locs : List Loc) (ls : Array Slot), w6_alike_b5 Q n v1 v2 v3 v4 M → MI D T ad A H0 M H locs → lv_has ls 7 [(0, .ref (ad 0)), (1, .int v1), (2, .int v2), (3, .int v3), (4, .int v4)] → W p l e rX6_alike s m args below meth c H locs 0 0 Qs (F0 m 5 ls []) := by
  intro n
  induction n with
  | zero => intro v1 v2 v3 v4 M H locs ls h; exact h.elim
  | succ n ih => intro v1 v2 v3 v4 M H locs ls h I hl; exact t6_alike_b5_f C hQ  ih v1 v2 v3 v4 M H locs ls h I hl
theorem t6_alike {p : Program} {l : Launch} {e : Env} {s : State} {m : MethodId} {args : Array Value} {below : List Frame} {meth : Method} {c : Code} {D : va_G} {T ad : Nat → Nat} {A : Nat → Prop} {H0 : Heap} {Qs : State → Prop} {Q : Int32 → Mem → Prop} (C : MC D T p m c cX6_alike 7 s args) (hQ : mExi p l e rX6_alike s m args below meth c cX6_alike D T ad A H0 Qs Q) (v1 : Int32) (v2 : Int32) (M : Mem) (H : Heap) (locs : List Loc) (ls : Array Slot) (h : w6_alike v1 v2 M Q) (I : MI D T ad A H0 M H locs) (hl : lv_has ls 7 [(0, .ref (ad 0)), (1, .int v1), (2, .int v2)]) : W p l e rX6_alike s m args below meth c H locs 0 0 Qs (F0 m 0 ls []) := by
  have hx := C.1.1
  have hb := C.1.2.1
  have how := C.1.2.2.2.1
  have hts := C.1.2.2.2.2
  unfold w6_alike at h
  refine lv_iconst (v := 0) hx hb dX6_alike_0 (by decide) ?_
  refine lv_istore_n (lv' := [(3, .int 0), (0, .ref (ad 0)), (1, .int v1), (2, .int v2)]) hx hb dX6_alike_1 rfl hl (by decide) rfl (fun ls hl => ?_)
  refine lv_iconst (v := 0) hx hb dX6_alike_2 (by decide) ?_
  refine lv_istore (lv' := [(4, .int 0), (3, .int 0), (0, .ref (ad 0)), (1, .int v1), (2, .int v2)]) hx hb dX6_alike_3 hl (by decide) rfl (fun ls hl => ?_)
  obtain ⟨n, h⟩ := h
  exact t6_alike_b5 C hQ n v1 v2 0 0 M _ _ _ h I (lv_sub hl [2, 3, 4, 1, 0] rfl)
theorem met6_alike (l : Launch) (D : va_G) (T ad : Nat → Nat) (v1 : Int32) (v2 : Int32) (M : Mem) {Qp : Int32 → Mem → Prop} (h : w6_alike v1 v2 M Qp) (sz : Nat) : Met l yX6_alike (ws_ yX6_alike cX6_alike 7 (some .int)) rX6_alike (mPc D T ad [.int v1, .int v2] M sz) (mQi D T ad M Qp sz) 0 0 (fA (cM T ad M) sz) :=
  m_metI (As := [.int v1, .int v2]) rfl rfl (Nat.le_of_ble_eq_true rfl) (fun p e s m args below meth c A Qs ls C hQ I hl => t6_alike C hQ v1 v2 M _ _ ls h I hl) sz
/-! askOf -/
abbrev rX6_askOf : Room := { frames := 7, cells := 0, slots := 0, locals := 165 }
theorem cw6_274 {R : Room} {s : State} {args : Array Value} (hts : ∀ w ∈ lw_all, w.before args s = true) (hR : rX6_alike.frames + 1 ≤ R.frames ∧ 8 + (7 + 11) + rX6_alike.locals ≤ R.locals) : CallW R s args RX6 RX6 274 yX6_alike cX6_alike 7 (some .int) (ws_ yX6_alike cX6_alike 7 (some .int)) rX6_alike 0 0 2 := cwV 2 hts (lw_V q1309 q1311 qs81 q95 q1312) rfl rfl rfl (by decide +kernel) hR
theorem t6_askOf_b40 {p : Program} {l : Launch} {e : Env} {s : State} {m : MethodId} {args : Array Value} {below : List Frame} {meth : Method} {c : Code} {D : va_G} {T ad : Nat → Nat} {A : Nat → Prop} {H0 : Heap} {Qs : State → Prop} {Q : Int32 → Mem → Prop} {K11 : Int32 → Int32 → Int32 → Mem → Prop} (C : MC D T p m c cX6_askOf 5 s args) (hQ : mExi p l e rX6_askOf s m args below meth c cX6_askOf D T ad A H0 Qs Q) (hK11 : ∀ (v2 : Int32) (v3 : Int32) (v4 : Int32) (M : Mem) (H : Heap) (locs : List Loc) (ls : Array Slot), K11 v2 v3 v4 M → MI D T ad A H0 M H locs → lv_has ls 5 [(0, .ref (ad 0)), (2, .int v2), (3, .int v3), (4, .int v4)] → W p l e rX6_askOf s m args below meth c H locs 0 0 Qs (F0 m 11 ls [])) (v2 : Int32) (v4 : Int32) (s0 : Int32) (M : Mem) (H : Heap) (locs : List Loc) (ls : Array Slot) (h : w6_askOf_b40 Q K11 v2 v4 s0 M) (I : MI D T ad A H0 M H locs) (hl : lv_has ls 5 [(0, .ref (ad 0)), (2, .int v2), (4, .int v4)]) : W p l e rX6_askOf s m args below meth c H locs 0 0 Qs (F0 m 40 ls [.int s0]) := by
  have hx := C.1.1
  have hb := C.1.2.1
  have how := C.1.2.2.2.1
  have hts := C.1.2.2.2.2
  unfold w6_askOf_b40 at h
  refine lv_istore_n (lv' := [(3, .int s0), (0, .ref (ad 0)), (2, .int v2), (4, .int v4)]) hx hb dX6_askOf_40 rfl hl (by decide) rfl (fun ls hl => ?_)
  refine lv_iinc (v := (v4 + 1)) (lv' := [(4, .int (v4 + 1)), (3, .int s0), (0, .ref (ad 0)), (2, .int v2)]) hx hb dX6_askOf_41 hl (k := 3) rfl (ii_1 _) (by decide) rfl (fun ls hl => ?_)
  refine lv_goto (tgt := 11) hx hb dX6_askOf_44 (by decide) ?_
  exact hK11 v2 s0 (v4 + 1) M _ _ _ h I (lv_sub hl [2, 3, 1, 0] rfl)
theorem t6_askOf_b11_f {p : Program} {l : Launch} {e : Env} {s : State} {m : MethodId} {args : Array Value} {below : List Frame} {meth : Method} {c : Code} {D : va_G} {T ad : Nat → Nat} {A : Nat → Prop} {H0 : Heap} {Qs : State → Prop} {Q : Int32 → Mem → Prop} {K11 : Int32 → Int32 → Int32 → Mem → Prop} (C : MC D T p m c cX6_askOf 5 s args) (hQ : mExi p l e rX6_askOf s m args below meth c cX6_askOf D T ad A H0 Qs Q) (hK11 : ∀ (v2 : Int32) (v3 : Int32) (v4 : Int32) (M : Mem) (H : Heap) (locs : List Loc) (ls : Array Slot), K11 v2 v3 v4 M → MI D T ad A H0 M H locs → lv_has ls 5 [(0, .ref (ad 0)), (2, .int v2), (3, .int v3), (4, .int v4)] → W p l e rX6_askOf s m args below meth c H locs 0 0 Qs (F0 m 11 ls [])) (v2 : Int32) (v3 : Int32) (v4 : Int32) (M : Mem) (H : Heap) (locs : List Loc) (ls : Array Slot) (h : w6_askOf_b11_f Q K11 v2 v3 v4 M) (I : MI D T ad A H0 M H locs) (hl : lv_has ls 5 [(0, .ref (ad 0)), (2, .int v2), (3, .int v3), (4, .int v4)]) : W p l e rX6_askOf s m args below meth c H locs 0 0 Qs (F0 m 11 ls []) := by
  have hx := C.1.1
  have hb := C.1.2.1
  have how := C.1.2.2.2.1
  have hts := C.1.2.2.2.2
  unfold w6_askOf_b11_f at h
  refine lv_iload hx hb dX6_askOf_11 (lv_at hl 3 rfl) ?_
  refine lv_bipush (v := 40) hx hb dX6_askOf_13 (by decide) ?_
  refine lv_icmp_ge (tgt := 47) hx hb dX6_askOf_15 (by decide) (fun c => ?_) (fun c => ?_)
  · have h := h.1 c
    refine lv_iload_n hx hb dX6_askOf_47 rfl (lv_at hl 2 rfl) ?_
    exact hQ _ _ _ _ _ _ h I dX6_askOf_48
  · have h := h.2 c
    refine lv_aload_n hx hb dX6_askOf_18 rfl (lv_at hl 0 rfl) ?_
    refine lv_iload_n hx hb dX6_askOf_19 rfl (lv_at hl 1 rfl) ?_
    refine lv_iload hx hb dX6_askOf_20 (lv_at hl 3 rfl) ?_
    refine m_calli (As := [.int v2, .int v4]) (rest := []) C I (met6_alike l D T ad v2 v4 M h) (cw6_274 hts ⟨Nat.le_of_ble_eq_true rfl, Nat.le_of_ble_eq_true rfl⟩) rfl hl.1 rfl (Nat.le_of_ble_eq_true rfl) ⟨Nat.zero_le _, Nat.zero_le _⟩ dX6_askOf_22 (fun r1 M2 H locs h I => ?_)
    refine lv_aload_n hx hb dX6_askOf_25 rfl (lv_at hl 0 rfl) ?_
    refine lv_iload_n hx hb dX6_askOf_26 rfl (lv_at hl 1 rfl) ?_
    refine lv_iload_n hx hb dX6_askOf_27 rfl (lv_at hl 2 rfl) ?_
    refine m_calli (As := [.int v2, .int v3]) (rest := [.int r1]) C I (met6_alike l D T ad v2 v3 M2 h) (cw6_274 hts ⟨Nat.le_of_ble_eq_true rfl, Nat.le_of_ble_eq_true rfl⟩) rfl hl.1 rfl (Nat.le_of_ble_eq_true rfl) ⟨Nat.zero_le _, Nat.zero_le _⟩ dX6_askOf_28 (fun r3 M4 H locs h I => ?_)
    refine lv_icmp_ge (tgt := 39) hx hb dX6_askOf_31 (by decide) (fun c => ?_) (fun c => ?_)
    · have h := h.1 c
      refine lv_iload_n hx hb dX6_askOf_39 rfl (lv_at hl 2 rfl) ?_
      exact t6_askOf_b40 C hQ hK11 v2 v4 v3 M4 _ _ _ h I (lv_sub hl [0, 1, 3] rfl)
    · have h := h.2 c
      refine lv_iload hx hb dX6_askOf_34 (lv_at hl 3 rfl) ?_
      refine lv_goto (tgt := 40) hx hb dX6_askOf_36 (by decide) ?_
      exact t6_askOf_b40 C hQ hK11 v2 v4 v4 M4 _ _ _ h I (lv_sub hl [0, 1, 3] rfl)
theorem t6_askOf_b11 {p : Program} {l : Launch} {e : Env} {s : State} {m : MethodId} {args : Array Value} {below : List Frame} {meth : Method} {c : Code} {D : va_G} {T ad : Nat → Nat} {A : Nat → Prop} {H0 : Heap} {Qs : State → Prop} {Q : Int32 → Mem → Prop}  (C : MC D T p m c cX6_askOf 5 s args) (hQ : mExi p l e rX6_askOf s m args below meth c cX6_askOf D T ad A H0 Qs Q)  : ∀ (n : Nat) (v2 : Int32) (v3 : Int32) (v4 : Int32) (M : Mem) (H : Heap) (locs : List Loc) (ls : Array Slot), w6_askOf_b11 Q n v2 v3 v4 M → MI D T ad A H0 M H locs → lv_has ls 5 [(0, .ref (ad 0)), (2, .int v2), (3, .int v3), (4, .int v4)] → W p l e rX6_askOf s m args below meth c H locs 0 0 Qs (F0 m 11 ls []) := by
  intro n
  induction n with
  | zero => intro v2 v3 v4 M H locs ls h; exact h.elim
  | succ n ih => intro v2 v3 v4 M H locs ls h I hl; exact t6_askOf_b11_f C hQ  ih v2 v3 v4 M H locs ls h I hl
theorem t6_askOf {p : Program} {l : Launch} {e : Env} {s : State} {m : MethodId} {args : Array Value} {below : List Frame} {meth : Method} {c : Code} {D : va_G} {T ad : Nat → Nat} {A : Nat → Prop} {H0 : Heap} {Qs : State → Prop} {Q : Int32 → Mem → Prop} (C : MC D T p m c cX6_askOf 5 s args) (hQ : mExi p l e rX6_askOf s m args below meth c cX6_askOf D T ad A H0 Qs Q) (v1 : Int32) (M : Mem) (H : Heap) (locs : List Loc) (ls : Array Slot) (h : w6_askOf v1 M Q) (I : MI D T ad A H0 M H locs) (hl : lv_has ls 5 [(0, .ref (ad 0)), (1, .int v1)]) : W p l e rX6_askOf s m args below meth c H locs 0 0 Qs (F0 m 0 ls []) := by
  have hx := C.1.1
  have hb := C.1.2.1
  have how := C.1.2.2.2.1
  have hts := C.1.2.2.2.2
  unfold w6_askOf at h
  refine lv_aload_n hx hb dX6_askOf_0 rfl (lv_at hl 0 rfl) ?_
  refine lv_iload_n hx hb dX6_askOf_1 rfl (lv_at hl 1 rfl) ?_
  refine m_calli (As := [.int v1]) (rest := []) C I (met6_sortOf l D T ad v1 M h) (cw6_268 hts ⟨Nat.le_of_ble_eq_true rfl, Nat.le_of_ble_eq_true rfl⟩) rfl hl.1 rfl (Nat.le_of_ble_eq_true rfl) ⟨Nat.zero_le _, Nat.zero_le _⟩ dX6_askOf_2 (fun r5 M6 H locs h I => ?_)
  refine lv_istore_n (lv' := [(2, .int r5), (0, .ref (ad 0)), (1, .int v1)]) hx hb dX6_askOf_5 rfl hl (by decide) rfl (fun ls hl => ?_)
  refine lv_iconst (v := 0) hx hb dX6_askOf_6 (by decide) ?_
  refine lv_istore_n (lv' := [(3, .int 0), (2, .int r5), (0, .ref (ad 0)), (1, .int v1)]) hx hb dX6_askOf_7 rfl hl (by decide) rfl (fun ls hl => ?_)
  refine lv_iconst (v := 1) hx hb dX6_askOf_8 (by decide) ?_
  refine lv_istore (lv' := [(4, .int 1), (3, .int 0), (2, .int r5), (0, .ref (ad 0)), (1, .int v1)]) hx hb dX6_askOf_9 hl (by decide) rfl (fun ls hl => ?_)
  obtain ⟨n, h⟩ := h
  exact t6_askOf_b11 C hQ n r5 0 1 M6 _ _ _ h I (lv_sub hl [3, 2, 1, 0] rfl)
theorem met6_askOf (l : Launch) (D : va_G) (T ad : Nat → Nat) (v1 : Int32) (M : Mem) {Qp : Int32 → Mem → Prop} (h : w6_askOf v1 M Qp) (sz : Nat) : Met l yX6_askOf (ws_ yX6_askOf cX6_askOf 5 (some .int)) rX6_askOf (mPc D T ad [.int v1] M sz) (mQi D T ad M Qp sz) 0 0 (fA (cM T ad M) sz) :=
  m_metI (As := [.int v1]) rfl rfl (Nat.le_of_ble_eq_true rfl) (fun p e s m args below meth c A Qs ls C hQ I hl => t6_askOf C hQ v1 M _ _ ls h I hl) sz
/-! ask -/
abbrev rX6_ask : Room := { frames := 8, cells := 0, slots := 0, locals := 189 }
theorem cw6_277 {R : Room} {s : State} {args : Array Value} (hts : ∀ w ∈ lw_all, w.before args s = true) (hR : rX6_askOf.frames + 1 ≤ R.frames ∧ 8 + (5 + 11) + rX6_askOf.locals ≤ R.locals) : CallW R s args RX6 RX6 277 yX6_askOf cX6_askOf 5 (some .int) (ws_ yX6_askOf cX6_askOf 5 (some .int)) rX6_askOf 0 0 1 := cwV 1 hts (lw_V q1305 q1307 qs80 q95 q1308) rfl rfl rfl (by decide +kernel) hR
theorem t6_ask_b22 {p : Program} {l : Launch} {e : Env} {s : State} {m : MethodId} {args : Array Value} {below : List Frame} {meth : Method} {c : Code} {D : va_G} {T ad : Nat → Nat} {A : Nat → Prop} {H0 : Heap} {Qs : State → Prop} {Q : Int32 → Mem → Prop}  (C : MC D T p m c cX6_ask 2 s args) (hQ : mExi p l e rX6_ask s m args below meth c cX6_ask D T ad A H0 Qs Q)  (s0 : Int32) (M : Mem) (H : Heap) (locs : List Loc) (ls : Array Slot) (h : w6_ask_b22 Q s0 M) (I : MI D T ad A H0 M H locs) (hl : lv_has ls 2 [(0, .ref (ad 0))]) : W p l e rX6_ask s m args below meth c H locs 0 0 Qs (F0 m 22 ls [.int s0]) := by
  have hx := C.1.1
  have hb := C.1.2.1
  have how := C.1.2.2.2.1
  have hts := C.1.2.2.2.2
  unfold w6_ask_b22 at h
  exact hQ _ _ _ _ _ _ h I dX6_ask_22
theorem t6_ask {p : Program} {l : Launch} {e : Env} {s : State} {m : MethodId} {args : Array Value} {below : List Frame} {meth : Method} {c : Code} {D : va_G} {T ad : Nat → Nat} {A : Nat → Prop} {H0 : Heap} {Qs : State → Prop} {Q : Int32 → Mem → Prop} (C : MC D T p m c cX6_ask 2 s args) (hQ : mExi p l e rX6_ask s m args below meth c cX6_ask D T ad A H0 Qs Q) (v1 : Int32) (M : Mem) (H : Heap) (locs : List Loc) (ls : Array Slot) (h : w6_ask v1 M Q) (I : MI D T ad A H0 M H locs) (hl : lv_has ls 2 [(0, .ref (ad 0)), (1, .int v1)]) : W p l e rX6_ask s m args below meth c H locs 0 0 Qs (F0 m 0 ls []) := by
  have hx := C.1.1
  have hb := C.1.2.1
  have how := C.1.2.2.2.1
  have hts := C.1.2.2.2.2
  unfold w6_ask at h
  refine lv_aload_n hx hb dX6_ask_0 rfl (lv_at hl 0 rfl) ?_
  refine m_callv (As := []) (rest := []) C I (met6_find l D T ad M h) (cw6_218 hts ⟨Nat.le_of_ble_eq_true rfl, Nat.le_of_ble_eq_true rfl⟩) rfl hl.1 rfl (Nat.le_of_ble_eq_true rfl) ⟨Nat.zero_le _, Nat.zero_le _⟩ dX6_ask_1 (fun M1 H locs h I => ?_)
  refine lv_aload_n hx hb dX6_ask_4 rfl (lv_at hl 0 rfl) ?_
  refine lv_iload_n hx hb dX6_ask_5 rfl (lv_at hl 1 rfl) ?_
  refine m_calli (As := [.int v1]) (rest := []) C I (met6_isCarter l D T ad v1 M1 h) (cw6_153 hts ⟨Nat.le_of_ble_eq_true rfl, Nat.le_of_ble_eq_true rfl⟩) rfl hl.1 rfl (Nat.le_of_ble_eq_true rfl) ⟨Nat.zero_le _, Nat.zero_le _⟩ dX6_ask_6 (fun r2 M3 H locs h I => ?_)
  refine lv_if_eq (tgt := 20) hx hb dX6_ask_9 (by decide) (fun c => ?_) (fun c => ?_)
  · have h := h.1 c
    refine lv_bipush (v := -2) hx hb dX6_ask_20 (by decide) ?_
    exact t6_ask_b22 C hQ (-2) M3 _ _ _ h I (lv_sub hl [0] rfl)
  · have h := h.2 c
    refine lv_aload_n hx hb dX6_ask_12 rfl (lv_at hl 0 rfl) ?_
    refine lv_iload_n hx hb dX6_ask_13 rfl (lv_at hl 1 rfl) ?_
    refine m_calli (As := [.int v1]) (rest := []) C I (met6_askOf l D T ad v1 M3 h) (cw6_277 hts ⟨Nat.le_of_ble_eq_true rfl, Nat.le_of_ble_eq_true rfl⟩) rfl hl.1 rfl (Nat.le_of_ble_eq_true rfl) ⟨Nat.zero_le _, Nat.zero_le _⟩ dX6_ask_14 (fun r4 M5 H locs h I => ?_)
    refine lv_goto (tgt := 22) hx hb dX6_ask_17 (by decide) ?_
    exact t6_ask_b22 C hQ r4 M5 _ _ _ h I (lv_sub hl [0] rfl)
theorem met6_ask (l : Launch) (D : va_G) (T ad : Nat → Nat) (v1 : Int32) (M : Mem) {Qp : Int32 → Mem → Prop} (h : w6_ask v1 M Qp) (sz : Nat) : Met l yX6_ask (ws_ yX6_ask cX6_ask 2 (some .int)) rX6_ask (mPc D T ad [.int v1] M sz) (mQi D T ad M Qp sz) 0 0 (fA (cM T ad M) sz) :=
  m_metI (As := [.int v1]) rfl rfl (Nat.le_of_ble_eq_true rfl) (fun p e s m args below meth c A Qs ls C hQ I hl => t6_ask C hQ v1 M _ _ ls h I hl) sz
/-! part -/
abbrev rX6_part : Room := { frames := 0, cells := 0, slots := 0, locals := 0 }
theorem t6_part_b41 {p : Program} {l : Launch} {e : Env} {s : State} {m : MethodId} {args : Array Value} {below : List Frame} {meth : Method} {c : Code} {A : Nat → Prop} {H0 : Heap} {Qs : State → Prop} {Q : Int64 → Prop}  (S : CallFix p m c cX6_part 11 s args lw_all RX6) (hA : ∀ q, H0.size ≤ q → A q) (hQ : pExl p l e rX6_part s m args below meth c cX6_part A H0 Qs Q)  (v5 : Int64) (s0 : Int64) (H : Heap) (locs : List Loc) (ls : Array Slot) (h : w6_part_b41 Q v5 s0) (hS : va_S A H0 H locs) (hl : lv_has ls 11 [(5, .long v5)]) : W p l e rX6_part s m args below meth c H locs 0 0 Qs (F0 m 41 ls [.long s0]) := by
  have hx := S.1
  have hb := S.2.1
  have how := S.2.2.2.1
  have hts := S.2.2.2.2
  unfold w6_part_b41 at h
  refine lv_lload hx hb dX6_part_41 (lv_at hl 0 rfl) ?_
  obtain ⟨hg1, h⟩ := h
  refine lv_ldiv hx hb dX6_part_43 hg1 ?_
  exact hQ _ _ _ _ _ h hS dX6_part_44
theorem t6_part_b6_f {p : Program} {l : Launch} {e : Env} {s : State} {m : MethodId} {args : Array Value} {below : List Frame} {meth : Method} {c : Code} {A : Nat → Prop} {H0 : Heap} {Qs : State → Prop} {Q : Int64 → Prop} {K6 : Int64 → Int64 → Int32 → Int64 → Int64 → Prop} (S : CallFix p m c cX6_part 11 s args lw_all RX6) (hA : ∀ q, H0.size ≤ q → A q) (hQ : pExl p l e rX6_part s m args below meth c cX6_part A H0 Qs Q) (hK6 : ∀ (v0 : Int64) (v2 : Int64) (v4 : Int32) (v5 : Int64) (v7 : Int64) (H : Heap) (locs : List Loc) (ls : Array Slot), K6 v0 v2 v4 v5 v7 → va_S A H0 H locs → lv_has ls 11 [(0, .long v0), (2, .long v2), (4, .int v4), (5, .long v5), (7, .long v7)] → W p l e rX6_part s m args below meth c H locs 0 0 Qs (F0 m 6 ls [])) (v0 : Int64) (v2 : Int64) (v4 : Int32) (v5 : Int64) (v7 : Int64) (H : Heap) (locs : List Loc) (ls : Array Slot) (h : w6_part_b6_f Q K6 v0 v2 v4 v5 v7) (hS : va_S A H0 H locs) (hl : lv_has ls 11 [(0, .long v0), (2, .long v2), (4, .int v4), (5, .long v5), (7, .long v7)]) : W p l e rX6_part s m args below meth c H locs 0 0 Qs (F0 m 6 ls []) := by
  have hx := S.1
  have hb := S.2.1
  have how := S.2.2.2.1
  have hts := S.2.2.2.2
  unfold w6_part_b6_f at h
  refine lv_lload hx hb dX6_part_6 (lv_at hl 4 rfl) ?_
  refine lv_lconst (v := 0) hx hb dX6_part_8 rfl ?_
  refine W.lcmp hx hb dX6_part_9 ?_
  refine lv_if_eq (tgt := 31) hx hb dX6_part_10 (by decide) (fun c => ?_) (fun c => ?_)
  · have h := h.1 c
    refine lv_iload hx hb dX6_part_31 (lv_at hl 2 rfl) ?_
    refine lv_if_ne (tgt := 40) hx hb dX6_part_33 (by decide) (fun c => ?_) (fun c => ?_)
    · have h := h.2 c
      refine lv_lload_n hx hb dX6_part_40 rfl (lv_at hl 1 rfl) ?_
      exact t6_part_b41 S hA hQ v5 v2 _ _ _ h hS (lv_sub hl [3] rfl)
    · have h := h.1 c
      refine lv_lload_n hx hb dX6_part_36 rfl (lv_at hl 0 rfl) ?_
      refine lv_goto (tgt := 41) hx hb dX6_part_37 (by decide) ?_
      exact t6_part_b41 S hA hQ v5 v0 _ _ _ h hS (lv_sub hl [3] rfl)
  · have h := h.2 c
    refine lv_lload hx hb dX6_part_13 (lv_at hl 3 rfl) ?_
    refine lv_lload hx hb dX6_part_15 (lv_at hl 4 rfl) ?_
    obtain ⟨hg2, h⟩ := h
    refine lv_lrem hx hb dX6_part_17 hg2 ?_
    refine lv_lstore (lv' := [(9, .long (v5 - v5 / v7 * v7)), (0, .long v0), (2, .long v2), (4, .int v4), (5, .long v5), (7, .long v7)]) hx hb dX6_part_18 hl (by decide) rfl (fun ls hl => ?_)
    refine lv_lload hx hb dX6_part_20 (lv_at hl 5 rfl) ?_
    refine lv_lstore (lv' := [(5, .long v7), (9, .long (v5 - v5 / v7 * v7)), (0, .long v0), (2, .long v2), (4, .int v4), (7, .long v7)]) hx hb dX6_part_22 hl (by decide) rfl (fun ls hl => ?_)
    refine lv_lload hx hb dX6_part_24 (lv_at hl 1 rfl) ?_
    refine lv_lstore (lv' := [(7, .long (v5 - v5 / v7 * v7)), (5, .long v7), (9, .long (v5 - v5 / v7 * v7)), (0, .long v0), (2, .long v2), (4, .int v4)]) hx hb dX6_part_26 hl (by decide) rfl (fun ls hl => ?_)
    refine lv_goto (tgt := 6) hx hb dX6_part_28 (by decide) ?_
    exact hK6 v0 v2 v4 v7 (v5 - v5 / v7 * v7) _ _ _ h hS (lv_sub hl [3, 4, 5, 1, 0] rfl)
theorem t6_part_b6 {p : Program} {l : Launch} {e : Env} {s : State} {m : MethodId} {args : Array Value} {below : List Frame} {meth : Method} {c : Code} {A : Nat → Prop} {H0 : Heap} {Qs : State → Prop} {Q : Int64 → Prop}  (S : CallFix p m c cX6_part 11 s args lw_all RX6) (hA : ∀ q, H0.size ≤ q → A q) (hQ : pExl p l e rX6_part s m args below meth c cX6_part A H0 Qs Q)  : ∀ (n : Nat) (v0 : Int64) (v2 : Int64) (v4 : Int32) (v5 : Int64) (v7 : Int64) (H : Heap) (locs : List Loc) (ls : Array Slot), w6_part_b6 Q n v0 v2 v4 v5 v7 → va_S A H0 H locs → lv_has ls 11 [(0, .long v0), (2, .long v2), (4, .int v4), (5, .long v5), (7, .long v7)] → W p l e rX6_part s m args below meth c H locs 0 0 Qs (F0 m 6 ls []) := by
  intro n
  induction n with
  | zero => intro v0 v2 v4 v5 v7 H locs ls h; exact h.elim
  | succ n ih => intro v0 v2 v4 v5 v7 H locs ls h I hl; exact t6_part_b6_f S hA hQ  ih v0 v2 v4 v5 v7 H locs ls h I hl
theorem t6_part {p : Program} {l : Launch} {e : Env} {s : State} {m : MethodId} {args : Array Value} {below : List Frame} {meth : Method} {c : Code} {A : Nat → Prop} {H0 : Heap} {Qs : State → Prop} {Q : Int64 → Prop} (S : CallFix p m c cX6_part 11 s args lw_all RX6) (hA : ∀ q, H0.size ≤ q → A q) (hQ : pExl p l e rX6_part s m args below meth c cX6_part A H0 Qs Q) (v0 : Int64) (v2 : Int64) (v4 : Int32) (H : Heap) (locs : List Loc) (ls : Array Slot) (h : w6_part v0 v2 v4 Q) (hS : va_S A H0 H locs) (hl : lv_has ls 11 [(0, .long v0), (2, .long v2), (4, .int v4)]) : W p l e rX6_part s m args below meth c H locs 0 0 Qs (F0 m 0 ls []) := by
  have hx := S.1
  have hb := S.2.1
  have how := S.2.2.2.1
  have hts := S.2.2.2.2
  unfold w6_part at h
  refine lv_lload_n hx hb dX6_part_0 rfl (lv_at hl 0 rfl) ?_
  refine lv_lstore (lv' := [(5, .long v0), (0, .long v0), (2, .long v2), (4, .int v4)]) hx hb dX6_part_1 hl (by decide) rfl (fun ls hl => ?_)
  refine lv_lload_n hx hb dX6_part_3 rfl (lv_at hl 2 rfl) ?_
  refine lv_lstore (lv' := [(7, .long v2), (5, .long v0), (0, .long v0), (2, .long v2), (4, .int v4)]) hx hb dX6_part_4 hl (by decide) rfl (fun ls hl => ?_)
  obtain ⟨n, h⟩ := h
  exact t6_part_b6 S hA hQ n v0 v2 v4 v0 v2 _ _ _ h hS (lv_sub hl [2, 3, 4, 1, 0] rfl)
theorem met6_part (l : Launch) (v0 : Int64) (v2 : Int64) (v4 : Int32) {Qp : Int64 → Prop} (h : w6_part v0 v2 v4 Qp) (sz : Nat) : Met l yX6_part (ws_ yX6_part cX6_part 11 (some .long)) rX6_part (pPc [.long v0, .long v2, .int v4] sz) (pQl Qp sz) 0 0 (pA sz) :=
  p_metL (As := [.long v0, .long v2, .int v4]) rfl (Nat.le_of_ble_eq_true rfl) (fun p e s m args below meth c Qs ls S hQ hl => t6_part S (fun q h => h) hQ v0 v2 v4 _ _ ls h va_S.rf hl) sz
/-! rumourOf -/
abbrev rX6_rumourOf : Room := { frames := 5, cells := 0, slots := 0, locals := 117 }
theorem cw6_280 {R : Room} {s : State} {args : Array Value} (hts : ∀ w ∈ lw_all, w.before args s = true) (hR : rX6_part.frames + 1 ≤ R.frames ∧ 8 + (11 + 11) + rX6_part.locals ≤ R.locals) : CallB R s args RX6 280 yX6_part cX6_part 11 (some .long) (ws_ yX6_part cX6_part 11 (some .long)) rX6_part 0 0 3 ∧ (Cond.static yX6_part).before args s = true := va_cwS 3 hts (lw_S q1322 q1323 q95 q1324) rfl rfl rfl (by decide +kernel) hR
theorem t6_rumourOf_b90 {p : Program} {l : Launch} {e : Env} {s : State} {m : MethodId} {args : Array Value} {below : List Frame} {meth : Method} {c : Code} {D : va_G} {T ad : Nat → Nat} {A : Nat → Prop} {H0 : Heap} {Qs : State → Prop} {Q : Int64 → Mem → Prop} {K6 : Int32 → Int32 → Int32 → Int64 → Int32 → Mem → Prop} (C : MC D T p m c cX6_rumourOf 10 s args) (hQ : mExl p l e rX6_rumourOf s m args below meth c cX6_rumourOf D T ad A H0 Qs Q) (hK6 : ∀ (v1 : Int32) (v2 : Int32) (v3 : Int32) (v4 : Int64) (v6 : Int32) (M : Mem) (H : Heap) (locs : List Loc) (ls : Array Slot), K6 v1 v2 v3 v4 v6 M → MI D T ad A H0 M H locs → lv_has ls 10 [(0, .ref (ad 0)), (1, .int v1), (2, .int v2), (3, .int v3), (4, .long v4), (6, .int v6)] → W p l e rX6_rumourOf s m args below meth c H locs 0 0 Qs (F0 m 6 ls [])) (v1 : Int32) (v2 : Int32) (v3 : Int32) (v4 : Int64) (v6 : Int32) (M : Mem) (H : Heap) (locs : List Loc) (ls : Array Slot) (h : w6_rumourOf_b90 Q K6 v1 v2 v3 v4 v6 M) (I : MI D T ad A H0 M H locs) (hl : lv_has ls 10 [(0, .ref (ad 0)), (1, .int v1), (2, .int v2), (3, .int v3), (4, .long v4), (6, .int v6)]) : W p l e rX6_rumourOf s m args below meth c H locs 0 0 Qs (F0 m 90 ls []) := by
  have hx := C.1.1
  have hb := C.1.2.1
  have how := C.1.2.2.2.1
  have hts := C.1.2.2.2.2
  unfold w6_rumourOf_b90 at h
  refine lv_iinc (v := (v6 + 1)) (lv' := [(6, .int (v6 + 1)), (0, .ref (ad 0)), (1, .int v1), (2, .int v2), (3, .int v3), (4, .long v4)]) hx hb dX6_rumourOf_90 hl (k := 5) rfl (ii_1 _) (by decide) rfl (fun ls hl => ?_)
  refine lv_goto (tgt := 6) hx hb dX6_rumourOf_93 (by decide) ?_
  exact hK6 v1 v2 v3 v4 (v6 + 1) M _ _ _ h I (lv_sub hl [1, 2, 3, 4, 5, 0] rfl)
theorem t6_rumourOf_b74 {p : Program} {l : Launch} {e : Env} {s : State} {m : MethodId} {args : Array Value} {below : List Frame} {meth : Method} {c : Code} {D : va_G} {T ad : Nat → Nat} {A : Nat → Prop} {H0 : Heap} {Qs : State → Prop} {Q : Int64 → Mem → Prop} {K6 : Int32 → Int32 → Int32 → Int64 → Int32 → Mem → Prop} {K43 : Int32 → Int32 → Int32 → Int64 → Int32 → Int64 → Int32 → Mem → Prop} (C : MC D T p m c cX6_rumourOf 10 s args) (hQ : mExl p l e rX6_rumourOf s m args below meth c cX6_rumourOf D T ad A H0 Qs Q) (hK6 : ∀ (v1 : Int32) (v2 : Int32) (v3 : Int32) (v4 : Int64) (v6 : Int32) (M : Mem) (H : Heap) (locs : List Loc) (ls : Array Slot), K6 v1 v2 v3 v4 v6 M → MI D T ad A H0 M H locs → lv_has ls 10 [(0, .ref (ad 0)), (1, .int v1), (2, .int v2), (3, .int v3), (4, .long v4), (6, .int v6)] → W p l e rX6_rumourOf s m args below meth c H locs 0 0 Qs (F0 m 6 ls [])) (hK43 : ∀ (v1 : Int32) (v2 : Int32) (v3 : Int32) (v4 : Int64) (v6 : Int32) (v7 : Int64) (v9 : Int32) (M : Mem) (H : Heap) (locs : List Loc) (ls : Array Slot), K43 v1 v2 v3 v4 v6 v7 v9 M → MI D T ad A H0 M H locs → lv_has ls 10 [(0, .ref (ad 0)), (1, .int v1), (2, .int v2), (3, .int v3), (4, .long v4), (6, .int v6), (7, .long v7), (9, .int v9)] → W p l e rX6_rumourOf s m args below meth c H locs 0 0 Qs (F0 m 43 ls [])) (v1 : Int32) (v2 : Int32) (v3 : Int32) (v4 : Int64) (v6 : Int32) (v9 : Int32) (s0 : Int64) (s1 : Int64) (M : Mem) (H : Heap) (locs : List Loc) (ls : Array Slot) (h : w6_rumourOf_b74 Q K6 K43 v1 v2 v3 v4 v6 v9 s0 s1 M) (I : MI D T ad A H0 M H locs) (hl : lv_has ls 10 [(0, .ref (ad 0)), (1, .int v1), (2, .int v2), (3, .int v3), (4, .long v4), (6, .int v6), (9, .int v9)]) : W p l e rX6_rumourOf s m args below meth c H locs 0 0 Qs (F0 m 74 ls [.long s1, .long s0]) := by
  have hx := C.1.1
  have hb := C.1.2.1
  have how := C.1.2.2.2.1
  have hts := C.1.2.2.2.2
  unfold w6_rumourOf_b74 at h
  refine lv_lmul hx hb dX6_rumourOf_74 ?_
  refine lv_lstore (lv' := [(7, .long (s0 * s1)), (0, .ref (ad 0)), (1, .int v1), (2, .int v2), (3, .int v3), (4, .long v4), (6, .int v6), (9, .int v9)]) hx hb dX6_rumourOf_75 hl (by decide) rfl (fun ls hl => ?_)
  refine lv_iinc (v := (v9 + 1)) (lv' := [(9, .int (v9 + 1)), (7, .long (s0 * s1)), (0, .ref (ad 0)), (1, .int v1), (2, .int v2), (3, .int v3), (4, .long v4), (6, .int v6)]) hx hb dX6_rumourOf_77 hl (k := 7) rfl (ii_1 _) (by decide) rfl (fun ls hl => ?_)
  refine lv_goto (tgt := 43) hx hb dX6_rumourOf_80 (by decide) ?_
  exact hK43 v1 v2 v3 v4 v6 (s0 * s1) (v9 + 1) M _ _ _ h I (lv_sub hl [2, 3, 4, 5, 6, 7, 1, 0] rfl)
theorem t6_rumourOf_b43_f {p : Program} {l : Launch} {e : Env} {s : State} {m : MethodId} {args : Array Value} {below : List Frame} {meth : Method} {c : Code} {D : va_G} {T ad : Nat → Nat} {A : Nat → Prop} {H0 : Heap} {Qs : State → Prop} {Q : Int64 → Mem → Prop} {K6 : Int32 → Int32 → Int32 → Int64 → Int32 → Mem → Prop} {K43 : Int32 → Int32 → Int32 → Int64 → Int32 → Int64 → Int32 → Mem → Prop} (C : MC D T p m c cX6_rumourOf 10 s args) (hQ : mExl p l e rX6_rumourOf s m args below meth c cX6_rumourOf D T ad A H0 Qs Q) (hK6 : ∀ (v1 : Int32) (v2 : Int32) (v3 : Int32) (v4 : Int64) (v6 : Int32) (M : Mem) (H : Heap) (locs : List Loc) (ls : Array Slot), K6 v1 v2 v3 v4 v6 M → MI D T ad A H0 M H locs → lv_has ls 10 [(0, .ref (ad 0)), (1, .int v1), (2, .int v2), (3, .int v3), (4, .long v4), (6, .int v6)] → W p l e rX6_rumourOf s m args below meth c H locs 0 0 Qs (F0 m 6 ls [])) (hK43 : ∀ (v1 : Int32) (v2 : Int32) (v3 : Int32) (v4 : Int64) (v6 : Int32) (v7 : Int64) (v9 : Int32) (M : Mem) (H : Heap) (locs : List Loc) (ls : Array Slot), K43 v1 v2 v3 v4 v6 v7 v9 M → MI D T ad A H0 M H locs → lv_has ls 10 [(0, .ref (ad 0)), (1, .int v1), (2, .int v2), (3, .int v3), (4, .long v4), (6, .int v6), (7, .long v7), (9, .int v9)] → W p l e rX6_rumourOf s m args below meth c H locs 0 0 Qs (F0 m 43 ls [])) (v1 : Int32) (v2 : Int32) (v3 : Int32) (v4 : Int64) (v6 : Int32) (v7 : Int64) (v9 : Int32) (M : Mem) (H : Heap) (locs : List Loc) (ls : Array Slot) (h : w6_rumourOf_b43_f Q K6 K43 v1 v2 v3 v4 v6 v7 v9 M) (I : MI D T ad A H0 M H locs) (hl : lv_has ls 10 [(0, .ref (ad 0)), (1, .int v1), (2, .int v2), (3, .int v3), (4, .long v4), (6, .int v6), (7, .long v7), (9, .int v9)]) : W p l e rX6_rumourOf s m args below meth c H locs 0 0 Qs (F0 m 43 ls []) := by
  have hx := C.1.1
  have hb := C.1.2.1
  have how := C.1.2.2.2.1
  have hts := C.1.2.2.2.2
  unfold w6_rumourOf_b43_f at h
  refine lv_iload hx hb dX6_rumourOf_43 (lv_at hl 7 rfl) ?_
  refine lv_aload_n hx hb dX6_rumourOf_45 rfl (lv_at hl 0 rfl) ?_
  refine mg_answers C I dX6_rumourOf_46 ?_
  refine lv_icmp_ge (tgt := 83) hx hb dX6_rumourOf_49 (by decide) (fun c => ?_) (fun c => ?_)
  · have h := h.1 c
    refine lv_lload hx hb dX6_rumourOf_83 (lv_at hl 4 rfl) ?_
    refine lv_lload hx hb dX6_rumourOf_85 (lv_at hl 6 rfl) ?_
    refine lv_ladd hx hb dX6_rumourOf_87 ?_
    refine lv_lstore (lv' := [(4, .long (v4 + v7)), (0, .ref (ad 0)), (1, .int v1), (2, .int v2), (3, .int v3), (6, .int v6), (7, .long v7), (9, .int v9)]) hx hb dX6_rumourOf_88 hl (by decide) rfl (fun ls hl => ?_)
    exact t6_rumourOf_b90 C hQ hK6 v1 v2 v3 (v4 + v7) v6 M _ _ _ h I (lv_sub hl [1, 2, 3, 4, 0, 5] rfl)
  · have h := h.2 c
    refine lv_lload hx hb dX6_rumourOf_52 (lv_at hl 6 rfl) ?_
    refine lv_iload hx hb dX6_rumourOf_54 (lv_at hl 5 rfl) ?_
    refine lv_iload hx hb dX6_rumourOf_56 (lv_at hl 7 rfl) ?_
    refine m_purei (As := [.int v6, .int v9]) (rest := [.long v7]) C I (met6_isIn l v6 v9 h) (cw6_177 hts ⟨Nat.le_of_ble_eq_true rfl, Nat.le_of_ble_eq_true rfl⟩) rfl hl.1 rfl (Nat.le_of_ble_eq_true rfl) ⟨Nat.zero_le _, Nat.zero_le _⟩ dX6_rumourOf_58 (fun r1 H locs h I => ?_)
    refine lv_if_eq (tgt := 72) hx hb dX6_rumourOf_61 (by decide) (fun c => ?_) (fun c => ?_)
    · have h := h.1 c
      refine lv_iload_n hx hb dX6_rumourOf_72 rfl (lv_at hl 1 rfl) ?_
      refine lv_i2l hx hb dX6_rumourOf_73 rfl ?_
      exact t6_rumourOf_b74 C hQ hK6 hK43 v1 v2 v3 v4 v6 v9 v7 (Int32.toInt64 v1) M _ _ _ h I (lv_sub hl [0, 1, 2, 3, 4, 5, 7] rfl)
    · have h := h.2 c
      refine lv_bipush (v := 16) hx hb dX6_rumourOf_64 (by decide) ?_
      refine lv_iload_n hx hb dX6_rumourOf_66 rfl (lv_at hl 1 rfl) ?_
      refine lv_isub hx hb dX6_rumourOf_67 ?_
      refine lv_i2l hx hb dX6_rumourOf_68 rfl ?_
      refine lv_goto (tgt := 74) hx hb dX6_rumourOf_69 (by decide) ?_
      exact t6_rumourOf_b74 C hQ hK6 hK43 v1 v2 v3 v4 v6 v9 v7 (Int32.toInt64 (16 - v1)) M _ _ _ h I (lv_sub hl [0, 1, 2, 3, 4, 5, 7] rfl)
theorem t6_rumourOf_b43 {p : Program} {l : Launch} {e : Env} {s : State} {m : MethodId} {args : Array Value} {below : List Frame} {meth : Method} {c : Code} {D : va_G} {T ad : Nat → Nat} {A : Nat → Prop} {H0 : Heap} {Qs : State → Prop} {Q : Int64 → Mem → Prop} {K6 : Int32 → Int32 → Int32 → Int64 → Int32 → Mem → Prop} (C : MC D T p m c cX6_rumourOf 10 s args) (hQ : mExl p l e rX6_rumourOf s m args below meth c cX6_rumourOf D T ad A H0 Qs Q) (hK6 : ∀ (v1 : Int32) (v2 : Int32) (v3 : Int32) (v4 : Int64) (v6 : Int32) (M : Mem) (H : Heap) (locs : List Loc) (ls : Array Slot), K6 v1 v2 v3 v4 v6 M → MI D T ad A H0 M H locs → lv_has ls 10 [(0, .ref (ad 0)), (1, .int v1), (2, .int v2), (3, .int v3), (4, .long v4), (6, .int v6)] → W p l e rX6_rumourOf s m args below meth c H locs 0 0 Qs (F0 m 6 ls [])) : ∀ (n : Nat) (v1 : Int32) (v2 : Int32) (v3 : Int32) (v4 : Int64) (v6 : Int32) (v7 : Int64) (v9 : Int32) (M : Mem) (H : Heap) (locs : List Loc) (ls : Array Slot), w6_rumourOf_b43 Q K6 n v1 v2 v3 v4 v6 v7 v9 M → MI D T ad A H0 M H locs → lv_has ls 10 [(0, .ref (ad 0)), (1, .int v1), (2, .int v2), (3, .int v3), (4, .long v4), (6, .int v6), (7, .long v7), (9, .int v9)] → W p l e rX6_rumourOf s m args below meth c H locs 0 0 Qs (F0 m 43 ls []) := by
  intro n
  induction n with
  | zero => intro v1 v2 v3 v4 v6 v7 v9 M H locs ls h; exact h.elim
  | succ n ih => intro v1 v2 v3 v4 v6 v7 v9 M H locs ls h I hl; exact t6_rumourOf_b43_f C hQ hK6 ih v1 v2 v3 v4 v6 v7 v9 M H locs ls h I hl
theorem t6_rumourOf_b6_f {p : Program} {l : Launch} {e : Env} {s : State} {m : MethodId} {args : Array Value} {below : List Frame} {meth : Method} {c : Code} {D : va_G} {T ad : Nat → Nat} {A : Nat → Prop} {H0 : Heap} {Qs : State → Prop} {Q : Int64 → Mem → Prop} {K6 : Int32 → Int32 → Int32 → Int64 → Int32 → Mem → Prop} (C : MC D T p m c cX6_rumourOf 10 s args) (hQ : mExl p l e rX6_rumourOf s m args below meth c cX6_rumourOf D T ad A H0 Qs Q) (hK6 : ∀ (v1 : Int32) (v2 : Int32) (v3 : Int32) (v4 : Int64) (v6 : Int32) (M : Mem) (H : Heap) (locs : List Loc) (ls : Array Slot), K6 v1 v2 v3 v4 v6 M → MI D T ad A H0 M H locs → lv_has ls 10 [(0, .ref (ad 0)), (1, .int v1), (2, .int v2), (3, .int v3), (4, .long v4), (6, .int v6)] → W p l e rX6_rumourOf s m args below meth c H locs 0 0 Qs (F0 m 6 ls [])) (v1 : Int32) (v2 : Int32) (v3 : Int32) (v4 : Int64) (v6 : Int32) (M : Mem) (H : Heap) (locs : List Loc) (ls : Array Slot) (h : w6_rumourOf_b6_f Q K6 v1 v2 v3 v4 v6 M) (I : MI D T ad A H0 M H locs) (hl : lv_has ls 10 [(0, .ref (ad 0)), (1, .int v1), (2, .int v2), (3, .int v3), (4, .long v4), (6, .int v6)]) : W p l e rX6_rumourOf s m args below meth c H locs 0 0 Qs (F0 m 6 ls []) := by
  have hx := C.1.1
  have hb := C.1.2.1
  have how := C.1.2.2.2.1
  have hts := C.1.2.2.2.2
  unfold w6_rumourOf_b6_f at h
  refine lv_iload hx hb dX6_rumourOf_6 (lv_at hl 5 rfl) ?_
  refine lv_iconst (v := 1) hx hb dX6_rumourOf_8 (by decide) ?_
  refine lv_aload_n hx hb dX6_rumourOf_9 rfl (lv_at hl 0 rfl) ?_
  refine mg_answers C I dX6_rumourOf_10 ?_
  refine lv_ishl hx hb dX6_rumourOf_13 ?_
  refine lv_icmp_ge (tgt := 96) hx hb dX6_rumourOf_14 (by decide) (fun c => ?_) (fun c => ?_)
  · have h := h.1 c
    refine lv_aload_n hx hb dX6_rumourOf_96 rfl (lv_at hl 0 rfl) ?_
    refine lv_iconst (v := 0) hx hb dX6_rumourOf_97 (by decide) ?_
    refine mp_gone C I dX6_rumourOf_98 (fun M2 H locs eM2 I => ?_)
    have h := h M2 eM2
    refine lv_lload hx hb dX6_rumourOf_101 (lv_at hl 4 rfl) ?_
    refine lv_lconst (v := 1) hx hb dX6_rumourOf_103 rfl ?_
    refine lv_iconst (v := 4) hx hb dX6_rumourOf_104 (by decide) ?_
    refine lv_aload_n hx hb dX6_rumourOf_105 rfl (lv_at hl 0 rfl) ?_
    refine mg_answers C I dX6_rumourOf_106 ?_
    refine lv_imul hx hb dX6_rumourOf_109 ?_
    refine lv_lshl hx hb dX6_rumourOf_110 rfl ?_
    refine lv_iload_n hx hb dX6_rumourOf_111 rfl (lv_at hl 3 rfl) ?_
    refine m_purel (As := [.long v4, .long (1 <<< (Int32.toInt64 (4 * (M2 0 12)) &&& 63)), .int v3]) (rest := []) C I (met6_part l v4 (1 <<< (Int32.toInt64 (4 * (M2 0 12)) &&& 63)) v3 h) (cw6_280 hts ⟨Nat.le_of_ble_eq_true rfl, Nat.le_of_ble_eq_true rfl⟩) rfl hl.1 rfl (Nat.le_of_ble_eq_true rfl) ⟨Nat.zero_le _, Nat.zero_le _⟩ dX6_rumourOf_112 (fun r3 H locs h I => ?_)
    exact hQ _ _ _ _ _ _ h I dX6_rumourOf_115
  · have h := h.2 c
    refine lv_aload_n hx hb dX6_rumourOf_17 rfl (lv_at hl 0 rfl) ?_
    refine lv_iload hx hb dX6_rumourOf_18 (lv_at hl 5 rfl) ?_
    refine mp_gone C I dX6_rumourOf_20 (fun M4 H locs eM4 I => ?_)
    have h := h M4 eM4
    refine lv_aload_n hx hb dX6_rumourOf_23 rfl (lv_at hl 0 rfl) ?_
    refine m_callv (As := []) (rest := []) C I (met6_lives l D T ad M4 h) (cw6_215 hts ⟨Nat.le_of_ble_eq_true rfl, Nat.le_of_ble_eq_true rfl⟩) rfl hl.1 rfl (Nat.le_of_ble_eq_true rfl) ⟨Nat.zero_le _, Nat.zero_le _⟩ dX6_rumourOf_24 (fun M5 H locs h I => ?_)
    refine lv_aload_n hx hb dX6_rumourOf_27 rfl (lv_at hl 0 rfl) ?_
    refine mg_state C I dX6_rumourOf_28 ?_
    refine lv_iload_n hx hb dX6_rumourOf_31 rfl (lv_at hl 2 rfl) ?_
    obtain ⟨hg6, h⟩ := h
    refine m_iald C I 18 8 rfl (by decide) hg6 dX6_rumourOf_32 ?_
    refine lv_iconst (v := 2) hx hb dX6_rumourOf_33 (by decide) ?_
    refine lv_icmp_ne (tgt := 90) hx hb dX6_rumourOf_34 (by decide) (fun c => ?_) (fun c => ?_)
    · have h := h.2 c
      exact t6_rumourOf_b90 C hQ hK6 v1 v2 v3 v4 v6 M5 _ _ _ h I (lv_sub hl [0, 1, 2, 3, 4, 5] rfl)
    · have h := h.1 c
      refine lv_lconst (v := 1) hx hb dX6_rumourOf_37 rfl ?_
      refine lv_lstore (lv' := [(7, .long 1), (0, .ref (ad 0)), (1, .int v1), (2, .int v2), (3, .int v3), (4, .long v4), (6, .int v6)]) hx hb dX6_rumourOf_38 hl (by decide) rfl (fun ls hl => ?_)
      refine lv_iconst (v := 0) hx hb dX6_rumourOf_40 (by decide) ?_
      refine lv_istore (lv' := [(9, .int 0), (7, .long 1), (0, .ref (ad 0)), (1, .int v1), (2, .int v2), (3, .int v3), (4, .long v4), (6, .int v6)]) hx hb dX6_rumourOf_41 hl (by decide) rfl (fun ls hl => ?_)
      obtain ⟨n, h⟩ := h
      exact t6_rumourOf_b43 C hQ hK6 n v1 v2 v3 v4 v6 1 0 M5 _ _ _ h I (lv_sub hl [2, 3, 4, 5, 6, 7, 1, 0] rfl)
theorem t6_rumourOf_b6 {p : Program} {l : Launch} {e : Env} {s : State} {m : MethodId} {args : Array Value} {below : List Frame} {meth : Method} {c : Code} {D : va_G} {T ad : Nat → Nat} {A : Nat → Prop} {H0 : Heap} {Qs : State → Prop} {Q : Int64 → Mem → Prop}  (C : MC D T p m c cX6_rumourOf 10 s args) (hQ : mExl p l e rX6_rumourOf s m args below meth c cX6_rumourOf D T ad A H0 Qs Q)  : ∀ (n : Nat) (v1 : Int32) (v2 : Int32) (v3 : Int32) (v4 : Int64) (v6 : Int32) (M : Mem) (H : Heap) (locs : List Loc) (ls : Array Slot), w6_rumourOf_b6 Q n v1 v2 v3 v4 v6 M → MI D T ad A H0 M H locs → lv_has ls 10 [(0, .ref (ad 0)), (1, .int v1), (2, .int v2), (3, .int v3), (4, .long v4), (6, .int v6)] → W p l e rX6_rumourOf s m args below meth c H locs 0 0 Qs (F0 m 6 ls []) := by
  intro n
  induction n with
  | zero => intro v1 v2 v3 v4 v6 M H locs ls h; exact h.elim
  | succ n ih => intro v1 v2 v3 v4 v6 M H locs ls h I hl; exact t6_rumourOf_b6_f C hQ  ih v1 v2 v3 v4 v6 M H locs ls h I hl
theorem t6_rumourOf {p : Program} {l : Launch} {e : Env} {s : State} {m : MethodId} {args : Array Value} {below : List Frame} {meth : Method} {c : Code} {D : va_G} {T ad : Nat → Nat} {A : Nat → Prop} {H0 : Heap} {Qs : State → Prop} {Q : Int64 → Mem → Prop} (C : MC D T p m c cX6_rumourOf 10 s args) (hQ : mExl p l e rX6_rumourOf s m args below meth c cX6_rumourOf D T ad A H0 Qs Q) (v1 : Int32) (v2 : Int32) (v3 : Int32) (M : Mem) (H : Heap) (locs : List Loc) (ls : Array Slot) (h : w6_rumourOf v1 v2 v3 M Q) (I : MI D T ad A H0 M H locs) (hl : lv_has ls 10 [(0, .ref (ad 0)), (1, .int v1), (2, .int v2), (3, .int v3)]) : W p l e rX6_rumourOf s m args below meth c H locs 0 0 Qs (F0 m 0 ls []) := by
  have hx := C.1.1
  have hb := C.1.2.1
  have how := C.1.2.2.2.1
  have hts := C.1.2.2.2.2
  unfold w6_rumourOf at h
  refine lv_lconst (v := 0) hx hb dX6_rumourOf_0 rfl ?_
  refine lv_lstore (lv' := [(4, .long 0), (0, .ref (ad 0)), (1, .int v1), (2, .int v2), (3, .int v3)]) hx hb dX6_rumourOf_1 hl (by decide) rfl (fun ls hl => ?_)
  refine lv_iconst (v := 0) hx hb dX6_rumourOf_3 (by decide) ?_
  refine lv_istore (lv' := [(6, .int 0), (4, .long 0), (0, .ref (ad 0)), (1, .int v1), (2, .int v2), (3, .int v3)]) hx hb dX6_rumourOf_4 hl (by decide) rfl (fun ls hl => ?_)
  obtain ⟨n, h⟩ := h
  exact t6_rumourOf_b6 C hQ n v1 v2 v3 0 0 M _ _ _ h I (lv_sub hl [2, 3, 4, 5, 1, 0] rfl)
theorem met6_rumourOf (l : Launch) (D : va_G) (T ad : Nat → Nat) (v1 : Int32) (v2 : Int32) (v3 : Int32) (M : Mem) {Qp : Int64 → Mem → Prop} (h : w6_rumourOf v1 v2 v3 M Qp) (sz : Nat) : Met l yX6_rumourOf (ws_ yX6_rumourOf cX6_rumourOf 10 (some .long)) rX6_rumourOf (mPc D T ad [.int v1, .int v2, .int v3] M sz) (mQl D T ad M Qp sz) 0 0 (fA (cM T ad M) sz) :=
  m_metL (As := [.int v1, .int v2, .int v3]) rfl rfl (Nat.le_of_ble_eq_true rfl) (fun p e s m args below meth c A Qs ls C hQ I hl => t6_rumourOf C hQ v1 v2 v3 M _ _ ls h I hl) sz
/-! no -/
abbrev rX6_no : Room := { frames := 0, cells := 0, slots := 0, locals := 0 }
theorem t6_no {p : Program} {l : Launch} {e : Env} {s : State} {m : MethodId} {args : Array Value} {below : List Frame} {meth : Method} {c : Code} {A : Nat → Prop} {H0 : Heap} {Qs : State → Prop} {Q : Int64 → Prop} (S : CallFix p m c cX6_no 1 s args lw_all RX6) (hA : ∀ q, H0.size ≤ q → A q) (hQ : pExl p l e rX6_no s m args below meth c cX6_no A H0 Qs Q) (v0 : Int32) (H : Heap) (locs : List Loc) (ls : Array Slot) (h : w6_no v0 Q) (hS : va_S A H0 H locs) (hl : lv_has ls 1 [(0, .int v0)]) : W p l e rX6_no s m args below meth c H locs 0 0 Qs (F0 m 0 ls []) := by
  have hx := S.1
  have hb := S.2.1
  have how := S.2.2.2.1
  have hts := S.2.2.2.2
  unfold w6_no at h
  refine lv_ldc2 hx hb how (hts _ q1328) dX6_no_0 ?_
  refine lv_iload_n hx hb dX6_no_3 rfl (lv_at hl 0 rfl) ?_
  refine lv_i2l hx hb dX6_no_4 rfl ?_
  refine lv_lsub hx hb dX6_no_5 ?_
  exact hQ _ _ _ _ _ h hS dX6_no_6
theorem met6_no (l : Launch) (v0 : Int32) {Qp : Int64 → Prop} (h : w6_no v0 Qp) (sz : Nat) : Met l yX6_no (ws_ yX6_no cX6_no 1 (some .long)) rX6_no (pPc [.int v0] sz) (pQl Qp sz) 0 0 (pA sz) :=
  p_metL (As := [.int v0]) rfl (Nat.le_of_ble_eq_true rfl) (fun p e s m args below meth c Qs ls S hQ hl => t6_no S (fun q h => h) hQ v0 _ _ ls h va_S.rf hl) sz
