/-! the reference: walks, printed by gen.py -/
/-! rumour -/
abbrev rX6_rumour : Room := { frames := 6, cells := 0, slots := 0, locals := 146 }
theorem cw6_286 {R : Room} {s : State} {args : Array Value} (hts : ∀ w ∈ lw_all, w.before args s = true) (hR : rX6_rumourOf.frames + 1 ≤ R.frames ∧ 8 + (10 + 11) + rX6_rumourOf.locals ≤ R.locals) : CallW R s args RX6 RX6 286 yX6_rumourOf cX6_rumourOf 10 (some .long) (ws_ yX6_rumourOf cX6_rumourOf 10 (some .long)) rX6_rumourOf 0 0 3 := cwV 3 hts (lw_V q1318 q1320 qs82 q95 q1321) rfl rfl rfl (by decide +kernel) hR
theorem cw6_290 {R : Room} {s : State} {args : Array Value} (hts : ∀ w ∈ lw_all, w.before args s = true) (hR : rX6_no.frames + 1 ≤ R.frames ∧ 8 + (1 + 11) + rX6_no.locals ≤ R.locals) : CallB R s args RX6 290 yX6_no cX6_no 1 (some .long) (ws_ yX6_no cX6_no 1 (some .long)) rX6_no 0 0 1 ∧ (Cond.static yX6_no).before args s = true := va_cwS 1 hts (lw_S q1325 q1326 q95 q1327) rfl rfl rfl (by decide +kernel) hR
theorem t6_rumour_b46 {p : Program} {l : Launch} {e : Env} {s : State} {m : MethodId} {args : Array Value} {below : List Frame} {meth : Method} {c : Code} {D : va_G} {T ad : Nat → Nat} {A : Nat → Prop} {H0 : Heap} {Qs : State → Prop} {Q : Int64 → Mem → Prop}  (C : MC D T p m c cX6_rumour 4 s args) (hQ : mExl p l e rX6_rumour s m args below meth c cX6_rumour D T ad A H0 Qs Q)  (s0 : Int64) (M : Mem) (H : Heap) (locs : List Loc) (ls : Array Slot) (h : w6_rumour_b46 Q s0 M) (I : MI D T ad A H0 M H locs) (hl : lv_has ls 4 [(0, .ref (ad 0))]) : W p l e rX6_rumour s m args below meth c H locs 0 0 Qs (F0 m 46 ls [.long s0]) := by
  have hx := C.1.1
  have hb := C.1.2.1
  have how := C.1.2.2.2.1
  have hts := C.1.2.2.2.2
  unfold w6_rumour_b46 at h
  exact hQ _ _ _ _ _ _ h I dX6_rumour_46
theorem t6_rumour_b41 {p : Program} {l : Launch} {e : Env} {s : State} {m : MethodId} {args : Array Value} {below : List Frame} {meth : Method} {c : Code} {D : va_G} {T ad : Nat → Nat} {A : Nat → Prop} {H0 : Heap} {Qs : State → Prop} {Q : Int64 → Mem → Prop}  (C : MC D T p m c cX6_rumour 4 s args) (hQ : mExl p l e rX6_rumour s m args below meth c cX6_rumour D T ad A H0 Qs Q)   (M : Mem) (H : Heap) (locs : List Loc) (ls : Array Slot) (h : w6_rumour_b41 Q M) (I : MI D T ad A H0 M H locs) (hl : lv_has ls 4 [(0, .ref (ad 0))]) : W p l e rX6_rumour s m args below meth c H locs 0 0 Qs (F0 m 41 ls []) := by
  have hx := C.1.1
  have hb := C.1.2.1
  have how := C.1.2.2.2.1
  have hts := C.1.2.2.2.2
  unfold w6_rumour_b41 at h
  refine lv_bipush (v := -2) hx hb dX6_rumour_41 (by decide) ?_
  refine m_purel (As := [.int (-2)]) (rest := []) C I (met6_no l (-2) h) (cw6_290 hts ⟨Nat.le_of_ble_eq_true rfl, Nat.le_of_ble_eq_true rfl⟩) rfl hl.1 rfl (Nat.le_of_ble_eq_true rfl) ⟨Nat.zero_le _, Nat.zero_le _⟩ dX6_rumour_43 (fun r1 H locs h I => ?_)
  exact t6_rumour_b46 C hQ r1 M _ _ _ h I (lv_sub hl [0] rfl)
theorem t6_rumour {p : Program} {l : Launch} {e : Env} {s : State} {m : MethodId} {args : Array Value} {below : List Frame} {meth : Method} {c : Code} {D : va_G} {T ad : Nat → Nat} {A : Nat → Prop} {H0 : Heap} {Qs : State → Prop} {Q : Int64 → Mem → Prop} (C : MC D T p m c cX6_rumour 4 s args) (hQ : mExl p l e rX6_rumour s m args below meth c cX6_rumour D T ad A H0 Qs Q) (v1 : Int32) (v2 : Int32) (v3 : Int32) (M : Mem) (H : Heap) (locs : List Loc) (ls : Array Slot) (h : w6_rumour v1 v2 v3 M Q) (I : MI D T ad A H0 M H locs) (hl : lv_has ls 4 [(0, .ref (ad 0)), (1, .int v1), (2, .int v2), (3, .int v3)]) : W p l e rX6_rumour s m args below meth c H locs 0 0 Qs (F0 m 0 ls []) := by
  have hx := C.1.1
  have hb := C.1.2.1
  have how := C.1.2.2.2.1
  have hts := C.1.2.2.2.2
  unfold w6_rumour at h
  refine lv_aload_n hx hb dX6_rumour_0 rfl (lv_at hl 0 rfl) ?_
  refine m_callv (As := []) (rest := []) C I (met6_find l D T ad M h) (cw6_218 hts ⟨Nat.le_of_ble_eq_true rfl, Nat.le_of_ble_eq_true rfl⟩) rfl hl.1 rfl (Nat.le_of_ble_eq_true rfl) ⟨Nat.zero_le _, Nat.zero_le _⟩ dX6_rumour_1 (fun M2 H locs h I => ?_)
  refine lv_iload_n hx hb dX6_rumour_4 rfl (lv_at hl 1 rfl) ?_
  refine lv_i2l hx hb dX6_rumour_5 rfl ?_
  refine lv_lconst (v := 0) hx hb dX6_rumour_6 rfl ?_
  refine lv_ldc2 hx hb how (hts _ q1317) dX6_rumour_7 ?_
  refine m_purei (As := [.long (Int32.toInt64 v1), .long 0, .long 16]) (rest := []) C I (met6_in l (Int32.toInt64 v1) 0 16 h) (cw6_81 hts ⟨Nat.le_of_ble_eq_true rfl, Nat.le_of_ble_eq_true rfl⟩) rfl hl.1 rfl (Nat.le_of_ble_eq_true rfl) ⟨Nat.zero_le _, Nat.zero_le _⟩ dX6_rumour_10 (fun r3 H locs h I => ?_)
  refine lv_if_eq (tgt := 41) hx hb dX6_rumour_13 (by decide) (fun c => ?_) (fun c => ?_)
  · have h := h.1 c
    exact t6_rumour_b41 C hQ M2 _ _ _ h I (lv_sub hl [0] rfl)
  · have h := h.2 c
    refine lv_aload_n hx hb dX6_rumour_16 rfl (lv_at hl 0 rfl) ?_
    refine lv_iload_n hx hb dX6_rumour_17 rfl (lv_at hl 2 rfl) ?_
    refine m_calli (As := [.int v2]) (rest := []) C I (met6_isCarter l D T ad v2 M2 h) (cw6_153 hts ⟨Nat.le_of_ble_eq_true rfl, Nat.le_of_ble_eq_true rfl⟩) rfl hl.1 rfl (Nat.le_of_ble_eq_true rfl) ⟨Nat.zero_le _, Nat.zero_le _⟩ dX6_rumour_18 (fun r4 M5 H locs h I => ?_)
    refine lv_if_eq (tgt := 41) hx hb dX6_rumour_21 (by decide) (fun c => ?_) (fun c => ?_)
    · have h := h.1 c
      exact t6_rumour_b41 C hQ M5 _ _ _ h I (lv_sub hl [0] rfl)
    · have h := h.2 c
      refine lv_iload_n hx hb dX6_rumour_24 rfl (lv_at hl 3 rfl) ?_
      refine m_purei (As := [.int v3]) (rest := []) C I (met6_isTwo l v3 h) (cw6_110 hts ⟨Nat.le_of_ble_eq_true rfl, Nat.le_of_ble_eq_true rfl⟩) rfl hl.1 rfl (Nat.le_of_ble_eq_true rfl) ⟨Nat.zero_le _, Nat.zero_le _⟩ dX6_rumour_25 (fun r6 H locs h I => ?_)
      refine lv_if_eq (tgt := 41) hx hb dX6_rumour_28 (by decide) (fun c => ?_) (fun c => ?_)
      · have h := h.1 c
        exact t6_rumour_b41 C hQ M5 _ _ _ h I (lv_sub hl [0] rfl)
      · have h := h.2 c
        refine lv_aload_n hx hb dX6_rumour_31 rfl (lv_at hl 0 rfl) ?_
        refine lv_iload_n hx hb dX6_rumour_32 rfl (lv_at hl 1 rfl) ?_
        refine lv_iload_n hx hb dX6_rumour_33 rfl (lv_at hl 2 rfl) ?_
        refine lv_iload_n hx hb dX6_rumour_34 rfl (lv_at hl 3 rfl) ?_
        refine m_calll (As := [.int v1, .int v2, .int v3]) (rest := []) C I (met6_rumourOf l D T ad v1 v2 v3 M5 h) (cw6_286 hts ⟨Nat.le_of_ble_eq_true rfl, Nat.le_of_ble_eq_true rfl⟩) rfl hl.1 rfl (Nat.le_of_ble_eq_true rfl) ⟨Nat.zero_le _, Nat.zero_le _⟩ dX6_rumour_35 (fun r7 M8 H locs h I => ?_)
        refine lv_goto (tgt := 46) hx hb dX6_rumour_38 (by decide) ?_
        exact t6_rumour_b46 C hQ r7 M8 _ _ _ h I (lv_sub hl [0] rfl)
theorem met6_rumour (l : Launch) (D : va_G) (T ad : Nat → Nat) (v1 : Int32) (v2 : Int32) (v3 : Int32) (M : Mem) {Qp : Int64 → Mem → Prop} (h : w6_rumour v1 v2 v3 M Qp) (sz : Nat) : Met l yX6_rumour (ws_ yX6_rumour cX6_rumour 4 (some .long)) rX6_rumour (mPc D T ad [.int v1, .int v2, .int v3] M sz) (mQl D T ad M Qp sz) 0 0 (fA (cM T ad M) sz) :=
  m_metL (As := [.int v1, .int v2, .int v3]) rfl rfl (Nat.le_of_ble_eq_true rfl) (fun p e s m args below meth c A Qs ls C hQ I hl => t6_rumour C hQ v1 v2 v3 M _ _ ls h I hl) sz
/-! lot -/
abbrev rX6_lot : Room := { frames := 0, cells := 0, slots := 0, locals := 0 }
theorem t6_lot {p : Program} {l : Launch} {e : Env} {s : State} {m : MethodId} {args : Array Value} {below : List Frame} {meth : Method} {c : Code} {D : va_G} {T ad : Nat → Nat} {A : Nat → Prop} {H0 : Heap} {Qs : State → Prop} {Q : Int32 → Mem → Prop} (C : MC D T p m c cX6_lot 2 s args) (hQ : mExi p l e rX6_lot s m args below meth c cX6_lot D T ad A H0 Qs Q) (v1 : Int32) (M : Mem) (H : Heap) (locs : List Loc) (ls : Array Slot) (h : w6_lot v1 M Q) (I : MI D T ad A H0 M H locs) (hl : lv_has ls 2 [(0, .ref (ad 0)), (1, .int v1)]) : W p l e rX6_lot s m args below meth c H locs 0 0 Qs (F0 m 0 ls []) := by
  have hx := C.1.1
  have hb := C.1.2.1
  have how := C.1.2.2.2.1
  have hts := C.1.2.2.2.2
  unfold w6_lot at h
  refine lv_aload_n hx hb dX6_lot_0 rfl (lv_at hl 0 rfl) ?_
  refine lv_ldcw hx hb how (hts _ q1341) dX6_lot_1 ?_
  refine lv_aload_n hx hb dX6_lot_4 rfl (lv_at hl 0 rfl) ?_
  refine mg_drawn C I dX6_lot_5 ?_
  refine lv_imul hx hb dX6_lot_8 ?_
  refine lv_sipush (v := 12345) hx hb dX6_lot_9 (by decide) ?_
  refine lv_iadd hx hb dX6_lot_12 ?_
  refine mp_drawn C I dX6_lot_13 (fun M1 H locs eM1 I => ?_)
  have h := h M1 eM1
  refine lv_aload_n hx hb dX6_lot_16 rfl (lv_at hl 0 rfl) ?_
  refine mg_drawn C I dX6_lot_17 ?_
  refine lv_bipush (v := 16) hx hb dX6_lot_20 (by decide) ?_
  refine lv_iushr hx hb dX6_lot_22 rfl ?_
  refine lv_iload_n hx hb dX6_lot_23 rfl (lv_at hl 1 rfl) ?_
  obtain ⟨hg2, h⟩ := h
  refine lv_irem hx hb dX6_lot_24 hg2 ?_
  exact hQ _ _ _ _ _ _ h I dX6_lot_25
theorem met6_lot (l : Launch) (D : va_G) (T ad : Nat → Nat) (v1 : Int32) (M : Mem) {Qp : Int32 → Mem → Prop} (h : w6_lot v1 M Qp) (sz : Nat) : Met l yX6_lot (ws_ yX6_lot cX6_lot 2 (some .int)) rX6_lot (mPc D T ad [.int v1] M sz) (mQi D T ad M Qp sz) 0 0 (fA (cM T ad M) sz) :=
  m_metI (As := [.int v1]) rfl rfl (Nat.le_of_ble_eq_true rfl) (fun p e s m args below meth c A Qs ls C hQ I hl => t6_lot C hQ v1 M _ _ ls h I hl) sz
/-! marketOf -/
abbrev rX6_marketOf : Room := { frames := 5, cells := 0, slots := 0, locals := 117 }
theorem cw6_298 {R : Room} {s : State} {args : Array Value} (hts : ∀ w ∈ lw_all, w.before args s = true) (hR : rX6_lot.frames + 1 ≤ R.frames ∧ 8 + (2 + 11) + rX6_lot.locals ≤ R.locals) : CallW R s args RX6 RX6 298 yX6_lot cX6_lot 2 (some .int) (ws_ yX6_lot cX6_lot 2 (some .int)) rX6_lot 0 0 1 := cwV 1 hts (lw_V q1337 q1339 qs84 q95 q1340) rfl rfl rfl (by decide +kernel) hR
theorem t6_marketOf_b56 {p : Program} {l : Launch} {e : Env} {s : State} {m : MethodId} {args : Array Value} {below : List Frame} {meth : Method} {c : Code} {D : va_G} {T ad : Nat → Nat} {A : Nat → Prop} {H0 : Heap} {Qs : State → Prop} {Q : Int32 → Mem → Prop}  (C : MC D T p m c cX6_marketOf 4 s args) (hQ : mExi p l e rX6_marketOf s m args below meth c cX6_marketOf D T ad A H0 Qs Q)  (s1 : Int32) (M : Mem) (H : Heap) (locs : List Loc) (ls : Array Slot) (h : w6_marketOf_b56 Q s1 M) (I : MI D T ad A H0 M H locs) (hl : lv_has ls 4 [(0, .ref (ad 0))]) : W p l e rX6_marketOf s m args below meth c H locs 0 0 Qs (F0 m 56 ls [.int s1, .ref (ad 0)]) := by
  have hx := C.1.1
  have hb := C.1.2.1
  have how := C.1.2.2.2.1
  have hts := C.1.2.2.2.2
  unfold w6_marketOf_b56 at h
  refine m_calli (As := [.int s1]) (rest := []) C I (met6_whoBy l D T ad s1 M h) (cw6_226 hts ⟨Nat.le_of_ble_eq_true rfl, Nat.le_of_ble_eq_true rfl⟩) rfl hl.1 rfl (Nat.le_of_ble_eq_true rfl) ⟨Nat.zero_le _, Nat.zero_le _⟩ dX6_marketOf_56 (fun r1 M2 H locs h I => ?_)
  refine m_purei (As := [.int r1]) (rest := []) C I (met6_ones l r1 h) (cw6_235 hts ⟨Nat.le_of_ble_eq_true rfl, Nat.le_of_ble_eq_true rfl⟩) rfl hl.1 rfl (Nat.le_of_ble_eq_true rfl) ⟨Nat.zero_le _, Nat.zero_le _⟩ dX6_marketOf_59 (fun r3 H locs h I => ?_)
  exact hQ _ _ _ _ _ _ h I dX6_marketOf_62
theorem t6_marketOf_b7_f {p : Program} {l : Launch} {e : Env} {s : State} {m : MethodId} {args : Array Value} {below : List Frame} {meth : Method} {c : Code} {D : va_G} {T ad : Nat → Nat} {A : Nat → Prop} {H0 : Heap} {Qs : State → Prop} {Q : Int32 → Mem → Prop} {K7 : Int32 → Int32 → Mem → Prop} (C : MC D T p m c cX6_marketOf 4 s args) (hQ : mExi p l e rX6_marketOf s m args below meth c cX6_marketOf D T ad A H0 Qs Q) (hK7 : ∀ (v2 : Int32) (v3 : Int32) (M : Mem) (H : Heap) (locs : List Loc) (ls : Array Slot), K7 v2 v3 M → MI D T ad A H0 M H locs → lv_has ls 4 [(0, .ref (ad 0)), (2, .int v2), (3, .int v3)] → W p l e rX6_marketOf s m args below meth c H locs 0 0 Qs (F0 m 7 ls [])) (v2 : Int32) (v3 : Int32) (M : Mem) (H : Heap) (locs : List Loc) (ls : Array Slot) (h : w6_marketOf_b7_f Q K7 v2 v3 M) (I : MI D T ad A H0 M H locs) (hl : lv_has ls 4 [(0, .ref (ad 0)), (2, .int v2), (3, .int v3)]) : W p l e rX6_marketOf s m args below meth c H locs 0 0 Qs (F0 m 7 ls []) := by
  have hx := C.1.1
  have hb := C.1.2.1
  have how := C.1.2.2.2.1
  have hts := C.1.2.2.2.2
  unfold w6_marketOf_b7_f at h
  refine lv_iload_n hx hb dX6_marketOf_7 rfl (lv_at hl 2 rfl) ?_
  refine lv_aload_n hx hb dX6_marketOf_8 rfl (lv_at hl 0 rfl) ?_
  refine mg_carters C I dX6_marketOf_9 ?_
  refine lv_icmp_ge (tgt := 37) hx hb dX6_marketOf_12 (by decide) (fun c => ?_) (fun c => ?_)
  · have h := h.1 c
    refine lv_aload_n hx hb dX6_marketOf_37 rfl (lv_at hl 0 rfl) ?_
    refine m_callv (As := []) (rest := []) C I (met6_lives l D T ad M h) (cw6_215 hts ⟨Nat.le_of_ble_eq_true rfl, Nat.le_of_ble_eq_true rfl⟩) rfl hl.1 rfl (Nat.le_of_ble_eq_true rfl) ⟨Nat.zero_le _, Nat.zero_le _⟩ dX6_marketOf_38 (fun M4 H locs h I => ?_)
    refine lv_aload_n hx hb dX6_marketOf_41 rfl (lv_at hl 0 rfl) ?_
    refine m_calli (As := []) (rest := []) C I (met6_readsCarters l D T ad M4 h) (cw6_143 hts ⟨Nat.le_of_ble_eq_true rfl, Nat.le_of_ble_eq_true rfl⟩) rfl hl.1 rfl (Nat.le_of_ble_eq_true rfl) ⟨Nat.zero_le _, Nat.zero_le _⟩ dX6_marketOf_42 (fun r5 M6 H locs h I => ?_)
    refine lv_pop hx hb dX6_marketOf_45 rfl ?_
    refine lv_aload_n hx hb dX6_marketOf_46 rfl (lv_at hl 0 rfl) ?_
    refine lv_iload_n hx hb dX6_marketOf_47 rfl (lv_at hl 1 rfl) ?_
    refine lv_if_ne (tgt := 55) hx hb dX6_marketOf_48 (by decide) (fun c => ?_) (fun c => ?_)
    · have h := h.2 c
      refine lv_iconst (v := 4) hx hb dX6_marketOf_55 (by decide) ?_
      exact t6_marketOf_b56 C hQ 4 M6 _ _ _ h I (lv_sub hl [0] rfl)
    · have h := h.1 c
      refine lv_iconst (v := 2) hx hb dX6_marketOf_51 (by decide) ?_
      refine lv_goto (tgt := 56) hx hb dX6_marketOf_52 (by decide) ?_
      exact t6_marketOf_b56 C hQ 2 M6 _ _ _ h I (lv_sub hl [0] rfl)
  · have h := h.2 c
    refine lv_aload_n hx hb dX6_marketOf_15 rfl (lv_at hl 0 rfl) ?_
    refine mg_carter C I dX6_marketOf_16 ?_
    refine lv_iconst (v := 5) hx hb dX6_marketOf_19 (by decide) ?_
    refine lv_iload_n hx hb dX6_marketOf_20 rfl (lv_at hl 2 rfl) ?_
    refine lv_imul hx hb dX6_marketOf_21 ?_
    refine lv_iconst (v := 3) hx hb dX6_marketOf_22 (by decide) ?_
    refine lv_iadd hx hb dX6_marketOf_23 ?_
    refine lv_aload_n hx hb dX6_marketOf_24 rfl (lv_at hl 0 rfl) ?_
    refine lv_bipush (v := 100) hx hb dX6_marketOf_25 (by decide) ?_
    refine m_calli (As := [.int 100]) (rest := [.int ((5 * v3) + 3), .ref (ad 11)]) C I (met6_lot l D T ad 100 M h) (cw6_298 hts ⟨Nat.le_of_ble_eq_true rfl, Nat.le_of_ble_eq_true rfl⟩) rfl hl.1 rfl (Nat.le_of_ble_eq_true rfl) ⟨Nat.zero_le _, Nat.zero_le _⟩ dX6_marketOf_27 (fun r7 M8 H locs h I => ?_)
    obtain ⟨hg9, h⟩ := h
    refine m_iast C I 11 40 rfl (by decide) hg9 dX6_marketOf_30 (fun M10 H locs eM10 I => ?_)
    have h := h M10 eM10
    refine lv_iinc (v := (v3 + 1)) (lv' := [(3, .int (v3 + 1)), (0, .ref (ad 0)), (2, .int v2)]) hx hb dX6_marketOf_31 hl (k := 2) rfl (ii_1 _) (by decide) rfl (fun ls hl => ?_)
    refine lv_goto (tgt := 7) hx hb dX6_marketOf_34 (by decide) ?_
    exact hK7 v2 (v3 + 1) M10 _ _ _ h I (lv_sub hl [1, 2, 0] rfl)
theorem t6_marketOf_b7 {p : Program} {l : Launch} {e : Env} {s : State} {m : MethodId} {args : Array Value} {below : List Frame} {meth : Method} {c : Code} {D : va_G} {T ad : Nat → Nat} {A : Nat → Prop} {H0 : Heap} {Qs : State → Prop} {Q : Int32 → Mem → Prop}  (C : MC D T p m c cX6_marketOf 4 s args) (hQ : mExi p l e rX6_marketOf s m args below meth c cX6_marketOf D T ad A H0 Qs Q)  : ∀ (n : Nat) (v2 : Int32) (v3 : Int32) (M : Mem) (H : Heap) (locs : List Loc) (ls : Array Slot), w6_marketOf_b7 Q n v2 v3 M → MI D T ad A H0 M H locs → lv_has ls 4 [(0, .ref (ad 0)), (2, .int v2), (3, .int v3)] → W p l e rX6_marketOf s m args below meth c H locs 0 0 Qs (F0 m 7 ls []) := by
  intro n
  induction n with
  | zero => intro v2 v3 M H locs ls h; exact h.elim
  | succ n ih => intro v2 v3 M H locs ls h I hl; exact t6_marketOf_b7_f C hQ  ih v2 v3 M H locs ls h I hl
theorem t6_marketOf {p : Program} {l : Launch} {e : Env} {s : State} {m : MethodId} {args : Array Value} {below : List Frame} {meth : Method} {c : Code} {D : va_G} {T ad : Nat → Nat} {A : Nat → Prop} {H0 : Heap} {Qs : State → Prop} {Q : Int32 → Mem → Prop} (C : MC D T p m c cX6_marketOf 4 s args) (hQ : mExi p l e rX6_marketOf s m args below meth c cX6_marketOf D T ad A H0 Qs Q) (v1 : Int32) (v2 : Int32) (M : Mem) (H : Heap) (locs : List Loc) (ls : Array Slot) (h : w6_marketOf v1 v2 M Q) (I : MI D T ad A H0 M H locs) (hl : lv_has ls 4 [(0, .ref (ad 0)), (1, .int v1), (2, .int v2)]) : W p l e rX6_marketOf s m args below meth c H locs 0 0 Qs (F0 m 0 ls []) := by
  have hx := C.1.1
  have hb := C.1.2.1
  have how := C.1.2.2.2.1
  have hts := C.1.2.2.2.2
  unfold w6_marketOf at h
  refine lv_aload_n hx hb dX6_marketOf_0 rfl (lv_at hl 0 rfl) ?_
  refine lv_iload_n hx hb dX6_marketOf_1 rfl (lv_at hl 1 rfl) ?_
  refine mp_drawn C I dX6_marketOf_2 (fun M11 H locs eM11 I => ?_)
  have h := h M11 eM11
  refine lv_iconst (v := 0) hx hb dX6_marketOf_5 (by decide) ?_
  refine lv_istore_n (lv' := [(3, .int 0), (0, .ref (ad 0)), (1, .int v1), (2, .int v2)]) hx hb dX6_marketOf_6 rfl hl (by decide) rfl (fun ls hl => ?_)
  obtain ⟨n, h⟩ := h
  exact t6_marketOf_b7 C hQ n v2 0 M11 _ _ _ h I (lv_sub hl [1, 3, 0] rfl)
theorem met6_marketOf (l : Launch) (D : va_G) (T ad : Nat → Nat) (v1 : Int32) (v2 : Int32) (M : Mem) {Qp : Int32 → Mem → Prop} (h : w6_marketOf v1 v2 M Qp) (sz : Nat) : Met l yX6_marketOf (ws_ yX6_marketOf cX6_marketOf 4 (some .int)) rX6_marketOf (mPc D T ad [.int v1, .int v2] M sz) (mQi D T ad M Qp sz) 0 0 (fA (cM T ad M) sz) :=
  m_metI (As := [.int v1, .int v2]) rfl rfl (Nat.le_of_ble_eq_true rfl) (fun p e s m args below meth c A Qs ls C hQ I hl => t6_marketOf C hQ v1 v2 M _ _ ls h I hl) sz
/-! market -/
abbrev rX6_market : Room := { frames := 6, cells := 0, slots := 0, locals := 140 }
theorem cw6_301 {R : Room} {s : State} {args : Array Value} (hts : ∀ w ∈ lw_all, w.before args s = true) (hR : rX6_marketOf.frames + 1 ≤ R.frames ∧ 8 + (4 + 11) + rX6_marketOf.locals ≤ R.locals) : CallW R s args RX6 RX6 301 yX6_marketOf cX6_marketOf 4 (some .int) (ws_ yX6_marketOf cX6_marketOf 4 (some .int)) rX6_marketOf 0 0 2 := cwV 2 hts (lw_V q1333 q1335 qs83 q95 q1336) rfl rfl rfl (by decide +kernel) hR
theorem t6_market_b22 {p : Program} {l : Launch} {e : Env} {s : State} {m : MethodId} {args : Array Value} {below : List Frame} {meth : Method} {c : Code} {D : va_G} {T ad : Nat → Nat} {A : Nat → Prop} {H0 : Heap} {Qs : State → Prop} {Q : Int32 → Mem → Prop}  (C : MC D T p m c cX6_market 3 s args) (hQ : mExi p l e rX6_market s m args below meth c cX6_market D T ad A H0 Qs Q)  (s0 : Int32) (M : Mem) (H : Heap) (locs : List Loc) (ls : Array Slot) (h : w6_market_b22 Q s0 M) (I : MI D T ad A H0 M H locs) (hl : lv_has ls 3 [(0, .ref (ad 0))]) : W p l e rX6_market s m args below meth c H locs 0 0 Qs (F0 m 22 ls [.int s0]) := by
  have hx := C.1.1
  have hb := C.1.2.1
  have how := C.1.2.2.2.1
  have hts := C.1.2.2.2.2
  unfold w6_market_b22 at h
  exact hQ _ _ _ _ _ _ h I dX6_market_22
theorem t6_market {p : Program} {l : Launch} {e : Env} {s : State} {m : MethodId} {args : Array Value} {below : List Frame} {meth : Method} {c : Code} {D : va_G} {T ad : Nat → Nat} {A : Nat → Prop} {H0 : Heap} {Qs : State → Prop} {Q : Int32 → Mem → Prop} (C : MC D T p m c cX6_market 3 s args) (hQ : mExi p l e rX6_market s m args below meth c cX6_market D T ad A H0 Qs Q) (v1 : Int32) (v2 : Int32) (M : Mem) (H : Heap) (locs : List Loc) (ls : Array Slot) (h : w6_market v1 v2 M Q) (I : MI D T ad A H0 M H locs) (hl : lv_has ls 3 [(0, .ref (ad 0)), (1, .int v1), (2, .int v2)]) : W p l e rX6_market s m args below meth c H locs 0 0 Qs (F0 m 0 ls []) := by
  have hx := C.1.1
  have hb := C.1.2.1
  have how := C.1.2.2.2.1
  have hts := C.1.2.2.2.2
  unfold w6_market at h
  refine lv_aload_n hx hb dX6_market_0 rfl (lv_at hl 0 rfl) ?_
  refine m_callv (As := []) (rest := []) C I (met6_find l D T ad M h) (cw6_218 hts ⟨Nat.le_of_ble_eq_true rfl, Nat.le_of_ble_eq_true rfl⟩) rfl hl.1 rfl (Nat.le_of_ble_eq_true rfl) ⟨Nat.zero_le _, Nat.zero_le _⟩ dX6_market_1 (fun M1 H locs h I => ?_)
  refine lv_iload_n hx hb dX6_market_4 rfl (lv_at hl 2 rfl) ?_
  refine m_purei (As := [.int v2]) (rest := []) C I (met6_isTwo l v2 h) (cw6_110 hts ⟨Nat.le_of_ble_eq_true rfl, Nat.le_of_ble_eq_true rfl⟩) rfl hl.1 rfl (Nat.le_of_ble_eq_true rfl) ⟨Nat.zero_le _, Nat.zero_le _⟩ dX6_market_5 (fun r2 H locs h I => ?_)
  refine lv_if_eq (tgt := 20) hx hb dX6_market_8 (by decide) (fun c => ?_) (fun c => ?_)
  · have h := h.1 c
    refine lv_bipush (v := -2) hx hb dX6_market_20 (by decide) ?_
    exact t6_market_b22 C hQ (-2) M1 _ _ _ h I (lv_sub hl [0] rfl)
  · have h := h.2 c
    refine lv_aload_n hx hb dX6_market_11 rfl (lv_at hl 0 rfl) ?_
    refine lv_iload_n hx hb dX6_market_12 rfl (lv_at hl 1 rfl) ?_
    refine lv_iload_n hx hb dX6_market_13 rfl (lv_at hl 2 rfl) ?_
    refine m_calli (As := [.int v1, .int v2]) (rest := []) C I (met6_marketOf l D T ad v1 v2 M1 h) (cw6_301 hts ⟨Nat.le_of_ble_eq_true rfl, Nat.le_of_ble_eq_true rfl⟩) rfl hl.1 rfl (Nat.le_of_ble_eq_true rfl) ⟨Nat.zero_le _, Nat.zero_le _⟩ dX6_market_14 (fun r3 M4 H locs h I => ?_)
    refine lv_goto (tgt := 22) hx hb dX6_market_17 (by decide) ?_
    exact t6_market_b22 C hQ r3 M4 _ _ _ h I (lv_sub hl [0] rfl)
theorem met6_market (l : Launch) (D : va_G) (T ad : Nat → Nat) (v1 : Int32) (v2 : Int32) (M : Mem) {Qp : Int32 → Mem → Prop} (h : w6_market v1 v2 M Qp) (sz : Nat) : Met l yX6_market (ws_ yX6_market cX6_market 3 (some .int)) rX6_market (mPc D T ad [.int v1, .int v2] M sz) (mQi D T ad M Qp sz) 0 0 (fA (cM T ad M) sz) :=
  m_metI (As := [.int v1, .int v2]) rfl rfl (Nat.le_of_ble_eq_true rfl) (fun p e s m args below meth c A Qs ls C hQ I hl => t6_market C hQ v1 v2 M _ _ ls h I hl) sz
/-! write -/
abbrev rX6_write : Room := { frames := 6, cells := 0, slots := 0, locals := 137 }
theorem t6_write_b52_f {p : Program} {l : Launch} {e : Env} {s : State} {m : MethodId} {args : Array Value} {below : List Frame} {meth : Method} {c : Code} {D : va_G} {T ad : Nat → Nat} {A : Nat → Prop} {H0 : Heap} {Qs : State → Prop} {Q : Int32 → Mem → Prop} {K52 : Int32 → Int32 → Int32 → Int32 → Mem → Prop} (C : MC D T p m c cX6_write 5 s args) (hQ : mExi p l e rX6_write s m args below meth c cX6_write D T ad A H0 Qs Q) (hK52 : ∀ (v1 : Int32) (v2 : Int32) (v3 : Int32) (v4 : Int32) (M : Mem) (H : Heap) (locs : List Loc) (ls : Array Slot), K52 v1 v2 v3 v4 M → MI D T ad A H0 M H locs → lv_has ls 5 [(0, .ref (ad 0)), (1, .int v1), (2, .int v2), (3, .int v3), (4, .int v4)] → W p l e rX6_write s m args below meth c H locs 0 0 Qs (F0 m 52 ls [])) (v1 : Int32) (v2 : Int32) (v3 : Int32) (v4 : Int32) (M : Mem) (H : Heap) (locs : List Loc) (ls : Array Slot) (h : w6_write_b52_f Q K52 v1 v2 v3 v4 M) (I : MI D T ad A H0 M H locs) (hl : lv_has ls 5 [(0, .ref (ad 0)), (1, .int v1), (2, .int v2), (3, .int v3), (4, .int v4)]) : W p l e rX6_write s m args below meth c H locs 0 0 Qs (F0 m 52 ls []) := by
  have hx := C.1.1
  have hb := C.1.2.1
  have how := C.1.2.2.2.1
  have hts := C.1.2.2.2.2
  unfold w6_write_b52_f at h
  refine lv_iload hx hb dX6_write_52 (lv_at hl 4 rfl) ?_
  refine lv_iload_n hx hb dX6_write_54 rfl (lv_at hl 3 rfl) ?_
  refine lv_icmp_ge (tgt := 101) hx hb dX6_write_55 (by decide) (fun c => ?_) (fun c => ?_)
  · have h := h.1 c
    refine lv_iload_n hx hb dX6_write_101 rfl (lv_at hl 3 rfl) ?_
    exact hQ _ _ _ _ _ _ h I dX6_write_102
  · have h := h.2 c
    refine lv_aload_n hx hb dX6_write_58 rfl (lv_at hl 0 rfl) ?_
    refine mg_items C I dX6_write_59 ?_
    refine lv_bipush (v := 60) hx hb dX6_write_62 (by decide) ?_
    refine lv_iload_n hx hb dX6_write_64 rfl (lv_at hl 2 rfl) ?_
    refine lv_imul hx hb dX6_write_65 ?_
    refine lv_iload hx hb dX6_write_66 (lv_at hl 4 rfl) ?_
    refine lv_iadd hx hb dX6_write_68 ?_
    refine lv_aload_n hx hb dX6_write_69 rfl (lv_at hl 0 rfl) ?_
    refine mg_forms C I dX6_write_70 ?_
    refine lv_iload_n hx hb dX6_write_73 rfl (lv_at hl 2 rfl) ?_
    obtain ⟨hg1, h⟩ := h
    refine m_iald C I 1 4 rfl (by decide) hg1 dX6_write_74 ?_
    refine lv_aload_n hx hb dX6_write_75 rfl (lv_at hl 0 rfl) ?_
    refine mg_kept C I dX6_write_76 ?_
    refine lv_bipush (v := 32) hx hb dX6_write_79 (by decide) ?_
    refine lv_iload hx hb dX6_write_81 (lv_at hl 4 rfl) ?_
    refine lv_imul hx hb dX6_write_83 ?_
    refine lv_iconst (v := 4) hx hb dX6_write_84 (by decide) ?_
    refine lv_iload_n hx hb dX6_write_85 rfl (lv_at hl 1 rfl) ?_
    refine lv_imul hx hb dX6_write_86 ?_
    refine lv_iadd hx hb dX6_write_87 ?_
    refine lv_iconst (v := 1) hx hb dX6_write_88 (by decide) ?_
    refine lv_iadd hx hb dX6_write_89 ?_
    obtain ⟨hg2, h⟩ := h
    refine m_iald C I 24 1280 rfl (by decide) hg2 dX6_write_90 ?_
    refine m_purei (As := [.int (M 1 (ci v2)), .int (M 24 (ci (((32 * v4) + (4 * v1)) + 1)))]) (rest := [.int ((60 * v2) + v4), .ref (ad 3)]) C I (met6_cut l (M 1 (ci v2)) (M 24 (ci (((32 * v4) + (4 * v1)) + 1))) h) (cw6_105 hts ⟨Nat.le_of_ble_eq_true rfl, Nat.le_of_ble_eq_true rfl⟩) rfl hl.1 rfl (Nat.le_of_ble_eq_true rfl) ⟨Nat.zero_le _, Nat.zero_le _⟩ dX6_write_91 (fun r3 H locs h I => ?_)
    obtain ⟨hg4, h⟩ := h
    refine m_iast C I 3 240 rfl (by decide) hg4 dX6_write_94 (fun M5 H locs eM5 I => ?_)
    have h := h M5 eM5
    refine lv_iinc (v := (v4 + 1)) (lv' := [(4, .int (v4 + 1)), (0, .ref (ad 0)), (1, .int v1), (2, .int v2), (3, .int v3)]) hx hb dX6_write_95 hl (k := 4) rfl (ii_1 _) (by decide) rfl (fun ls hl => ?_)
    refine lv_goto (tgt := 52) hx hb dX6_write_98 (by decide) ?_
    exact hK52 v1 v2 v3 (v4 + 1) M5 _ _ _ h I (lv_sub hl [1, 2, 3, 4, 0] rfl)
theorem t6_write_b52 {p : Program} {l : Launch} {e : Env} {s : State} {m : MethodId} {args : Array Value} {below : List Frame} {meth : Method} {c : Code} {D : va_G} {T ad : Nat → Nat} {A : Nat → Prop} {H0 : Heap} {Qs : State → Prop} {Q : Int32 → Mem → Prop}  (C : MC D T p m c cX6_write 5 s args) (hQ : mExi p l e rX6_write s m args below meth c cX6_write D T ad A H0 Qs Q)  : ∀ (n : Nat) (v1 : Int32) (v2 : Int32) (v3 : Int32) (v4 : Int32) (M : Mem) (H : Heap) (locs : List Loc) (ls : Array Slot), w6_write_b52 Q n v1 v2 v3 v4 M → MI D T ad A H0 M H locs → lv_has ls 5 [(0, .ref (ad 0)), (1, .int v1), (2, .int v2), (3, .int v3), (4, .int v4)] → W p l e rX6_write s m args below meth c H locs 0 0 Qs (F0 m 52 ls []) := by
  intro n
  induction n with
  | zero => intro v1 v2 v3 v4 M H locs ls h; exact h.elim
  | succ n ih => intro v1 v2 v3 v4 M H locs ls h I hl; exact t6_write_b52_f C hQ  ih v1 v2 v3 v4 M H locs ls h I hl
theorem t6_write_b19 {p : Program} {l : Launch} {e : Env} {s : State} {m : MethodId} {args : Array Value} {below : List Frame} {meth : Method} {c : Code} {D : va_G} {T ad : Nat → Nat} {A : Nat → Prop} {H0 : Heap} {Qs : State → Prop} {Q : Int32 → Mem → Prop}  (C : MC D T p m c cX6_write 5 s args) (hQ : mExi p l e rX6_write s m args below meth c cX6_write D T ad A H0 Qs Q)   (M : Mem) (H : Heap) (locs : List Loc) (ls : Array Slot) (h : w6_write_b19 Q M) (I : MI D T ad A H0 M H locs) (hl : lv_has ls 5 [(0, .ref (ad 0))]) : W p l e rX6_write s m args below meth c H locs 0 0 Qs (F0 m 19 ls []) := by
  have hx := C.1.1
  have hb := C.1.2.1
  have how := C.1.2.2.2.1
  have hts := C.1.2.2.2.2
  unfold w6_write_b19 at h
  refine lv_bipush (v := -2) hx hb dX6_write_19 (by decide) ?_
  exact hQ _ _ _ _ _ _ h I dX6_write_21
theorem t6_write {p : Program} {l : Launch} {e : Env} {s : State} {m : MethodId} {args : Array Value} {below : List Frame} {meth : Method} {c : Code} {D : va_G} {T ad : Nat → Nat} {A : Nat → Prop} {H0 : Heap} {Qs : State → Prop} {Q : Int32 → Mem → Prop} (C : MC D T p m c cX6_write 5 s args) (hQ : mExi p l e rX6_write s m args below meth c cX6_write D T ad A H0 Qs Q) (v1 : Int32) (v2 : Int32) (M : Mem) (H : Heap) (locs : List Loc) (ls : Array Slot) (h : w6_write v1 v2 M Q) (I : MI D T ad A H0 M H locs) (hl : lv_has ls 5 [(0, .ref (ad 0)), (1, .int v1), (2, .int v2)]) : W p l e rX6_write s m args below meth c H locs 0 0 Qs (F0 m 0 ls []) := by
  have hx := C.1.1
  have hb := C.1.2.1
  have how := C.1.2.2.2.1
  have hts := C.1.2.2.2.2
  unfold w6_write at h
  refine lv_aload_n hx hb dX6_write_0 rfl (lv_at hl 0 rfl) ?_
  refine m_callv (As := []) (rest := []) C I (met6_find l D T ad M h) (cw6_218 hts ⟨Nat.le_of_ble_eq_true rfl, Nat.le_of_ble_eq_true rfl⟩) rfl hl.1 rfl (Nat.le_of_ble_eq_true rfl) ⟨Nat.zero_le _, Nat.zero_le _⟩ dX6_write_1 (fun M6 H locs h I => ?_)
  refine lv_aload_n hx hb dX6_write_4 rfl (lv_at hl 0 rfl) ?_
  refine lv_iload_n hx hb dX6_write_5 rfl (lv_at hl 1 rfl) ?_
  refine m_calli (As := [.int v1]) (rest := []) C I (met6_isCarter l D T ad v1 M6 h) (cw6_153 hts ⟨Nat.le_of_ble_eq_true rfl, Nat.le_of_ble_eq_true rfl⟩) rfl hl.1 rfl (Nat.le_of_ble_eq_true rfl) ⟨Nat.zero_le _, Nat.zero_le _⟩ dX6_write_6 (fun r7 M8 H locs h I => ?_)
  refine lv_if_eq (tgt := 19) hx hb dX6_write_9 (by decide) (fun c => ?_) (fun c => ?_)
  · have h := h.1 c
    exact t6_write_b19 C hQ M8 _ _ _ h I (lv_sub hl [0] rfl)
  · have h := h.2 c
    refine lv_iload_n hx hb dX6_write_12 rfl (lv_at hl 2 rfl) ?_
    refine m_purei (As := [.int v2]) (rest := []) C I (met6_isSheet l v2 h) (cw6_91 hts ⟨Nat.le_of_ble_eq_true rfl, Nat.le_of_ble_eq_true rfl⟩) rfl hl.1 rfl (Nat.le_of_ble_eq_true rfl) ⟨Nat.zero_le _, Nat.zero_le _⟩ dX6_write_13 (fun r9 H locs h I => ?_)
    refine lv_if_ne (tgt := 22) hx hb dX6_write_16 (by decide) (fun c => ?_) (fun c => ?_)
    · have h := h.2 c
      refine lv_aload_n hx hb dX6_write_22 rfl (lv_at hl 0 rfl) ?_
      refine mg_forms C I dX6_write_23 ?_
      refine lv_iload_n hx hb dX6_write_26 rfl (lv_at hl 2 rfl) ?_
      obtain ⟨hg10, h⟩ := h
      refine m_iald C I 1 4 rfl (by decide) hg10 dX6_write_27 ?_
      refine lv_if_ge (tgt := 37) hx hb dX6_write_28 (by decide) (fun c => ?_) (fun c => ?_)
      · have h := h.1 c
        refine lv_aload_n hx hb dX6_write_37 rfl (lv_at hl 0 rfl) ?_
        refine mg_sizes C I dX6_write_38 ?_
        refine lv_iload_n hx hb dX6_write_41 rfl (lv_at hl 2 rfl) ?_
        refine m_iald C I 2 4 rfl (by decide) hg10 dX6_write_42 ?_
        refine lv_bipush (v := 40) hx hb dX6_write_43 (by decide) ?_
        refine m_purei (As := [.int (M8 2 (ci v2)), .int 40]) (rest := []) C I (met6_lesser l (M8 2 (ci v2)) 40 h) (cw6_171 hts ⟨Nat.le_of_ble_eq_true rfl, Nat.le_of_ble_eq_true rfl⟩) rfl hl.1 rfl (Nat.le_of_ble_eq_true rfl) ⟨Nat.zero_le _, Nat.zero_le _⟩ dX6_write_45 (fun r11 H locs h I => ?_)
        refine lv_istore_n (lv' := [(3, .int r11), (0, .ref (ad 0)), (1, .int v1), (2, .int v2)]) hx hb dX6_write_48 rfl hl (by decide) rfl (fun ls hl => ?_)
        refine lv_iconst (v := 0) hx hb dX6_write_49 (by decide) ?_
        refine lv_istore (lv' := [(4, .int 0), (3, .int r11), (0, .ref (ad 0)), (1, .int v1), (2, .int v2)]) hx hb dX6_write_50 hl (by decide) rfl (fun ls hl => ?_)
        obtain ⟨n, h⟩ := h
        exact t6_write_b52 C hQ n v1 v2 r11 0 M8 _ _ _ h I (lv_sub hl [2, 3, 4, 1, 0] rfl)
      · have h := h.2 c
        refine lv_aload_n hx hb dX6_write_31 rfl (lv_at hl 0 rfl) ?_
        refine lv_iconst (v := 1) hx hb dX6_write_32 (by decide) ?_
        refine m_calli (As := [.int 1]) (rest := []) C I (met6_finds l D T ad 1 M8 h) (cw6_97 hts ⟨Nat.le_of_ble_eq_true rfl, Nat.le_of_ble_eq_true rfl⟩) rfl hl.1 rfl (Nat.le_of_ble_eq_true rfl) ⟨Nat.zero_le _, Nat.zero_le _⟩ dX6_write_33 (fun r12 M13 H locs h I => ?_)
        exact hQ _ _ _ _ _ _ h I dX6_write_36
    · have h := h.1 c
      exact t6_write_b19 C hQ M8 _ _ _ h I (lv_sub hl [0] rfl)
theorem met6_write (l : Launch) (D : va_G) (T ad : Nat → Nat) (v1 : Int32) (v2 : Int32) (M : Mem) {Qp : Int32 → Mem → Prop} (h : w6_write v1 v2 M Qp) (sz : Nat) : Met l yX6_write (ws_ yX6_write cX6_write 5 (some .int)) rX6_write (mPc D T ad [.int v1, .int v2] M sz) (mQi D T ad M Qp sz) 0 0 (fA (cM T ad M) sz) :=
  m_metI (As := [.int v1, .int v2]) rfl rfl (Nat.le_of_ble_eq_true rfl) (fun p e s m args below meth c A Qs ls C hQ I hl => t6_write C hQ v1 v2 M _ _ ls h I hl) sz
/-! allArrivals -/
abbrev rX6_allArrivals : Room := { frames := 0, cells := 0, slots := 0, locals := 0 }
theorem t6_allArrivals_b4_f {p : Program} {l : Launch} {e : Env} {s : State} {m : MethodId} {args : Array Value} {below : List Frame} {meth : Method} {c : Code} {D : va_G} {T ad : Nat → Nat} {A : Nat → Prop} {H0 : Heap} {Qs : State → Prop} {Q : Int32 → Mem → Prop} {K4 : Int32 → Int32 → Mem → Prop} (C : MC D T p m c cX6_allArrivals 3 s args) (hQ : mExi p l e rX6_allArrivals s m args below meth c cX6_allArrivals D T ad A H0 Qs Q) (hK4 : ∀ (v1 : Int32) (v2 : Int32) (M : Mem) (H : Heap) (locs : List Loc) (ls : Array Slot), K4 v1 v2 M → MI D T ad A H0 M H locs → lv_has ls 3 [(0, .ref (ad 0)), (1, .int v1), (2, .int v2)] → W p l e rX6_allArrivals s m args below meth c H locs 0 0 Qs (F0 m 4 ls [])) (v1 : Int32) (v2 : Int32) (M : Mem) (H : Heap) (locs : List Loc) (ls : Array Slot) (h : w6_allArrivals_b4_f Q K4 v1 v2 M) (I : MI D T ad A H0 M H locs) (hl : lv_has ls 3 [(0, .ref (ad 0)), (1, .int v1), (2, .int v2)]) : W p l e rX6_allArrivals s m args below meth c H locs 0 0 Qs (F0 m 4 ls []) := by
  have hx := C.1.1
  have hb := C.1.2.1
  have how := C.1.2.2.2.1
  have hts := C.1.2.2.2.2
  unfold w6_allArrivals_b4_f at h
  refine lv_iload_n hx hb dX6_allArrivals_4 rfl (lv_at hl 2 rfl) ?_
  refine lv_bipush (v := 8) hx hb dX6_allArrivals_5 (by decide) ?_
  refine lv_icmp_ge (tgt := 25) hx hb dX6_allArrivals_7 (by decide) (fun c => ?_) (fun c => ?_)
  · have h := h.1 c
    refine lv_iload_n hx hb dX6_allArrivals_25 rfl (lv_at hl 1 rfl) ?_
    exact hQ _ _ _ _ _ _ h I dX6_allArrivals_26
  · have h := h.2 c
    refine lv_iload_n hx hb dX6_allArrivals_10 rfl (lv_at hl 1 rfl) ?_
    refine lv_aload_n hx hb dX6_allArrivals_11 rfl (lv_at hl 0 rfl) ?_
    refine mg_arrivals C I dX6_allArrivals_12 ?_
    refine lv_iload_n hx hb dX6_allArrivals_15 rfl (lv_at hl 2 rfl) ?_
    obtain ⟨hg1, h⟩ := h
    refine m_iald C I 26 8 rfl (by decide) hg1 dX6_allArrivals_16 ?_
    refine lv_iadd hx hb dX6_allArrivals_17 ?_
    refine lv_istore_n (lv' := [(1, .int (v1 + (M 26 (ci v2)))), (0, .ref (ad 0)), (2, .int v2)]) hx hb dX6_allArrivals_18 rfl hl (by decide) rfl (fun ls hl => ?_)
    refine lv_iinc (v := (v2 + 1)) (lv' := [(2, .int (v2 + 1)), (1, .int (v1 + (M 26 (ci v2)))), (0, .ref (ad 0))]) hx hb dX6_allArrivals_19 hl (k := 2) rfl (ii_1 _) (by decide) rfl (fun ls hl => ?_)
    refine lv_goto (tgt := 4) hx hb dX6_allArrivals_22 (by decide) ?_
    exact hK4 (v1 + (M 26 (ci v2))) (v2 + 1) M _ _ _ h I (lv_sub hl [2, 1, 0] rfl)
theorem t6_allArrivals_b4 {p : Program} {l : Launch} {e : Env} {s : State} {m : MethodId} {args : Array Value} {below : List Frame} {meth : Method} {c : Code} {D : va_G} {T ad : Nat → Nat} {A : Nat → Prop} {H0 : Heap} {Qs : State → Prop} {Q : Int32 → Mem → Prop}  (C : MC D T p m c cX6_allArrivals 3 s args) (hQ : mExi p l e rX6_allArrivals s m args below meth c cX6_allArrivals D T ad A H0 Qs Q)  : ∀ (n : Nat) (v1 : Int32) (v2 : Int32) (M : Mem) (H : Heap) (locs : List Loc) (ls : Array Slot), w6_allArrivals_b4 Q n v1 v2 M → MI D T ad A H0 M H locs → lv_has ls 3 [(0, .ref (ad 0)), (1, .int v1), (2, .int v2)] → W p l e rX6_allArrivals s m args below meth c H locs 0 0 Qs (F0 m 4 ls []) := by
  intro n
  induction n with
  | zero => intro v1 v2 M H locs ls h; exact h.elim
  | succ n ih => intro v1 v2 M H locs ls h I hl; exact t6_allArrivals_b4_f C hQ  ih v1 v2 M H locs ls h I hl
theorem t6_allArrivals {p : Program} {l : Launch} {e : Env} {s : State} {m : MethodId} {args : Array Value} {below : List Frame} {meth : Method} {c : Code} {D : va_G} {T ad : Nat → Nat} {A : Nat → Prop} {H0 : Heap} {Qs : State → Prop} {Q : Int32 → Mem → Prop} (C : MC D T p m c cX6_allArrivals 3 s args) (hQ : mExi p l e rX6_allArrivals s m args below meth c cX6_allArrivals D T ad A H0 Qs Q)  (M : Mem) (H : Heap) (locs : List Loc) (ls : Array Slot) (h : w6_allArrivals M Q) (I : MI D T ad A H0 M H locs) (hl : lv_has ls 3 [(0, .ref (ad 0))]) : W p l e rX6_allArrivals s m args below meth c H locs 0 0 Qs (F0 m 0 ls []) := by
  have hx := C.1.1
  have hb := C.1.2.1
  have how := C.1.2.2.2.1
  have hts := C.1.2.2.2.2
  unfold w6_allArrivals at h
  refine lv_iconst (v := 0) hx hb dX6_allArrivals_0 (by decide) ?_
  refine lv_istore_n (lv' := [(1, .int 0), (0, .ref (ad 0))]) hx hb dX6_allArrivals_1 rfl hl (by decide) rfl (fun ls hl => ?_)
  refine lv_iconst (v := 0) hx hb dX6_allArrivals_2 (by decide) ?_
  refine lv_istore_n (lv' := [(2, .int 0), (1, .int 0), (0, .ref (ad 0))]) hx hb dX6_allArrivals_3 rfl hl (by decide) rfl (fun ls hl => ?_)
  obtain ⟨n, h⟩ := h
  exact t6_allArrivals_b4 C hQ n 0 0 M _ _ _ h I (lv_sub hl [2, 1, 0] rfl)
theorem met6_allArrivals (l : Launch) (D : va_G) (T ad : Nat → Nat)  (M : Mem) {Qp : Int32 → Mem → Prop} (h : w6_allArrivals M Qp) (sz : Nat) : Met l yX6_allArrivals (ws_ yX6_allArrivals cX6_allArrivals 3 (some .int)) rX6_allArrivals (mPc D T ad [] M sz) (mQi D T ad M Qp sz) 0 0 (fA (cM T ad M) sz) :=
  m_metI (As := []) rfl rfl (Nat.le_of_ble_eq_true rfl) (fun p e s m args below meth c A Qs ls C hQ I hl => t6_allArrivals C hQ M _ _ ls h I hl) sz
/-! count -/
abbrev rX6_count : Room := { frames := 6, cells := 0, slots := 0, locals := 137 }
theorem cw6_304 {R : Room} {s : State} {args : Array Value} (hts : ∀ w ∈ lw_all, w.before args s = true) (hR : rX6_allArrivals.frames + 1 ≤ R.frames ∧ 8 + (3 + 11) + rX6_allArrivals.locals ≤ R.locals) : CallW R s args RX6 RX6 304 yX6_allArrivals cX6_allArrivals 3 (some .int) (ws_ yX6_allArrivals cX6_allArrivals 3 (some .int)) rX6_allArrivals 0 0 0 := cwV 0 hts (lw_V q1350 q1352 qs85 q95 q1353) rfl rfl rfl (by decide +kernel) hR
theorem t6_count_b66 {p : Program} {l : Launch} {e : Env} {s : State} {m : MethodId} {args : Array Value} {below : List Frame} {meth : Method} {c : Code} {D : va_G} {T ad : Nat → Nat} {A : Nat → Prop} {H0 : Heap} {Qs : State → Prop} {Q : Int32 → Mem → Prop}  (C : MC D T p m c cX6_count 2 s args) (hQ : mExi p l e rX6_count s m args below meth c cX6_count D T ad A H0 Qs Q)  (v1 : Int32) (M : Mem) (H : Heap) (locs : List Loc) (ls : Array Slot) (h : w6_count_b66 Q v1 M) (I : MI D T ad A H0 M H locs) (hl : lv_has ls 2 [(0, .ref (ad 0)), (1, .int v1)]) : W p l e rX6_count s m args below meth c H locs 0 0 Qs (F0 m 66 ls []) := by
  have hx := C.1.1
  have hb := C.1.2.1
  have how := C.1.2.2.2.1
  have hts := C.1.2.2.2.2
  unfold w6_count_b66 at h
  refine lv_aload_n hx hb dX6_count_66 rfl (lv_at hl 0 rfl) ?_
  refine mg_typed C I dX6_count_67 ?_
  refine lv_iload_n hx hb dX6_count_70 rfl (lv_at hl 1 rfl) ?_
  refine lv_iconst (v := 2) hx hb dX6_count_71 (by decide) ?_
  refine lv_isub hx hb dX6_count_72 ?_
  obtain ⟨hg1, h⟩ := h
  refine m_iald C I 7 2 rfl (by decide) hg1 dX6_count_73 ?_
  exact hQ _ _ _ _ _ _ h I dX6_count_74
theorem t6_count {p : Program} {l : Launch} {e : Env} {s : State} {m : MethodId} {args : Array Value} {below : List Frame} {meth : Method} {c : Code} {D : va_G} {T ad : Nat → Nat} {A : Nat → Prop} {H0 : Heap} {Qs : State → Prop} {Q : Int32 → Mem → Prop} (C : MC D T p m c cX6_count 2 s args) (hQ : mExi p l e rX6_count s m args below meth c cX6_count D T ad A H0 Qs Q) (v1 : Int32) (M : Mem) (H : Heap) (locs : List Loc) (ls : Array Slot) (h : w6_count v1 M Q) (I : MI D T ad A H0 M H locs) (hl : lv_has ls 2 [(0, .ref (ad 0)), (1, .int v1)]) : W p l e rX6_count s m args below meth c H locs 0 0 Qs (F0 m 0 ls []) := by
  have hx := C.1.1
  have hb := C.1.2.1
  have how := C.1.2.2.2.1
  have hts := C.1.2.2.2.2
  unfold w6_count at h
  refine lv_aload_n hx hb dX6_count_0 rfl (lv_at hl 0 rfl) ?_
  refine m_callv (As := []) (rest := []) C I (met6_find l D T ad M h) (cw6_218 hts ⟨Nat.le_of_ble_eq_true rfl, Nat.le_of_ble_eq_true rfl⟩) rfl hl.1 rfl (Nat.le_of_ble_eq_true rfl) ⟨Nat.zero_le _, Nat.zero_le _⟩ dX6_count_1 (fun M2 H locs h I => ?_)
  refine lv_iload_n hx hb dX6_count_4 rfl (lv_at hl 1 rfl) ?_
  by_cases c0 : v1 = 0
  · have h := h.1 c0
    refine lv_tableIn (off := 51) (tgt := 56) hx hb dX6_count_5 (by rw [c0]; decide) (by rw [c0]; decide) (by rw [c0]; rfl) (by decide) ?_
    refine lv_aload_n hx hb dX6_count_56 rfl (lv_at hl 0 rfl) ?_
    refine mg_ways C I dX6_count_57 ?_
    exact hQ _ _ _ _ _ _ h I dX6_count_60
  have h := h.2 c0
  by_cases c1 : v1 = 1
  · have h := h.1 c1
    refine lv_tableIn (off := 56) (tgt := 61) hx hb dX6_count_5 (by rw [c1]; decide) (by rw [c1]; decide) (by rw [c1]; rfl) (by decide) ?_
    refine lv_aload_n hx hb dX6_count_61 rfl (lv_at hl 0 rfl) ?_
    refine mg_carters C I dX6_count_62 ?_
    exact hQ _ _ _ _ _ _ h I dX6_count_65
  have h := h.2 c1
  by_cases c2 : v1 = 2
  · have h := h.1 c2
    refine lv_tableIn (off := 61) (tgt := 66) hx hb dX6_count_5 (by rw [c2]; decide) (by rw [c2]; decide) (by rw [c2]; rfl) (by decide) ?_
    exact t6_count_b66 C hQ v1 M2 _ _ _ h I (lv_sub hl [0, 1] rfl)
  have h := h.2 c2
  by_cases c3 : v1 = 3
  · have h := h.1 c3
    refine lv_tableIn (off := 61) (tgt := 66) hx hb dX6_count_5 (by rw [c3]; decide) (by rw [c3]; decide) (by rw [c3]; rfl) (by decide) ?_
    exact t6_count_b66 C hQ v1 M2 _ _ _ h I (lv_sub hl [0, 1] rfl)
  have h := h.2 c3
  by_cases c4 : v1 = 4
  · have h := h.1 c4
    refine lv_tableIn (off := 70) (tgt := 75) hx hb dX6_count_5 (by rw [c4]; decide) (by rw [c4]; decide) (by rw [c4]; rfl) (by decide) ?_
    refine lv_aload_n hx hb dX6_count_75 rfl (lv_at hl 0 rfl) ?_
    refine mg_answers C I dX6_count_76 ?_
    exact hQ _ _ _ _ _ _ h I dX6_count_79
  have h := h.2 c4
  by_cases c5 : v1 = 5
  · have h := h.1 c5
    refine lv_tableIn (off := 75) (tgt := 80) hx hb dX6_count_5 (by rw [c5]; decide) (by rw [c5]; decide) (by rw [c5]; rfl) (by decide) ?_
    refine lv_aload_n hx hb dX6_count_80 rfl (lv_at hl 0 rfl) ?_
    refine m_calli (As := []) (rest := []) C I (met6_comers l D T ad M2 h) (cw6_244 hts ⟨Nat.le_of_ble_eq_true rfl, Nat.le_of_ble_eq_true rfl⟩) rfl hl.1 rfl (Nat.le_of_ble_eq_true rfl) ⟨Nat.zero_le _, Nat.zero_le _⟩ dX6_count_81 (fun r3 M4 H locs h I => ?_)
    exact hQ _ _ _ _ _ _ h I dX6_count_84
  have h := h.2 c5
  by_cases c6 : v1 = 6
  · have h := h.1 c6
    refine lv_tableIn (off := 80) (tgt := 85) hx hb dX6_count_5 (by rw [c6]; decide) (by rw [c6]; decide) (by rw [c6]; rfl) (by decide) ?_
    refine lv_aload_n hx hb dX6_count_85 rfl (lv_at hl 0 rfl) ?_
    refine m_calli (As := []) (rest := []) C I (met6_allArrivals l D T ad M2 h) (cw6_304 hts ⟨Nat.le_of_ble_eq_true rfl, Nat.le_of_ble_eq_true rfl⟩) rfl hl.1 rfl (Nat.le_of_ble_eq_true rfl) ⟨Nat.zero_le _, Nat.zero_le _⟩ dX6_count_86 (fun r5 M6 H locs h I => ?_)
    exact hQ _ _ _ _ _ _ h I dX6_count_89
  have h := h.2 c6
  by_cases c7 : v1 = 7
  · have h := h.1 c7
    refine lv_tableIn (off := 85) (tgt := 90) hx hb dX6_count_5 (by rw [c7]; decide) (by rw [c7]; decide) (by rw [c7]; rfl) (by decide) ?_
    refine lv_aload_n hx hb dX6_count_90 rfl (lv_at hl 0 rfl) ?_
    refine mg_sights C I dX6_count_91 ?_
    exact hQ _ _ _ _ _ _ h I dX6_count_94
  have h := h.2 c7
  by_cases c8 : v1 = 8
  · have h := h.1 c8
    refine lv_tableIn (off := 90) (tgt := 95) hx hb dX6_count_5 (by rw [c8]; decide) (by rw [c8]; decide) (by rw [c8]; rfl) (by decide) ?_
    refine lv_aload_n hx hb dX6_count_95 rfl (lv_at hl 0 rfl) ?_
    refine mg_latest C I dX6_count_96 ?_
    exact hQ _ _ _ _ _ _ h I dX6_count_99
  have h := h.2 c8
  refine lv_tableOut (tgt := 100) hx hb dX6_count_5 (sw_out9 c0 c1 c2 c3 c4 c5 c6 c7 c8) (by decide) ?_
  refine lv_bipush (v := -2) hx hb dX6_count_100 (by decide) ?_
  exact hQ _ _ _ _ _ _ h I dX6_count_102
theorem met6_count (l : Launch) (D : va_G) (T ad : Nat → Nat) (v1 : Int32) (M : Mem) {Qp : Int32 → Mem → Prop} (h : w6_count v1 M Qp) (sz : Nat) : Met l yX6_count (ws_ yX6_count cX6_count 2 (some .int)) rX6_count (mPc D T ad [.int v1] M sz) (mQi D T ad M Qp sz) 0 0 (fA (cM T ad M) sz) :=
  m_metI (As := [.int v1]) rfl rfl (Nat.le_of_ble_eq_true rfl) (fun p e s m args below meth c A Qs ls C hQ I hl => t6_count C hQ v1 M _ _ ls h I hl) sz
/-! tellsHour -/
abbrev rX6_tellsHour : Room := { frames := 0, cells := 0, slots := 0, locals := 0 }
theorem t6_tellsHour_b6_f {p : Program} {l : Launch} {e : Env} {s : State} {m : MethodId} {args : Array Value} {below : List Frame} {meth : Method} {c : Code} {D : va_G} {T ad : Nat → Nat} {A : Nat → Prop} {H0 : Heap} {Qs : State → Prop} {Q : Int64 → Mem → Prop} {K6 : Int32 → Int32 → Int64 → Int32 → Mem → Prop} (C : MC D T p m c cX6_tellsHour 8 s args) (hQ : mExl p l e rX6_tellsHour s m args below meth c cX6_tellsHour D T ad A H0 Qs Q) (hK6 : ∀ (v3 : Int32) (v4 : Int32) (v5 : Int64) (v7 : Int32) (M : Mem) (H : Heap) (locs : List Loc) (ls : Array Slot), K6 v3 v4 v5 v7 M → MI D T ad A H0 M H locs → lv_has ls 8 [(0, .ref (ad 0)), (3, .int v3), (4, .int v4), (5, .long v5), (7, .int v7)] → W p l e rX6_tellsHour s m args below meth c H locs 0 0 Qs (F0 m 6 ls [])) (v3 : Int32) (v4 : Int32) (v5 : Int64) (v7 : Int32) (M : Mem) (H : Heap) (locs : List Loc) (ls : Array Slot) (h : w6_tellsHour_b6_f Q K6 v3 v4 v5 v7 M) (I : MI D T ad A H0 M H locs) (hl : lv_has ls 8 [(0, .ref (ad 0)), (3, .int v3), (4, .int v4), (5, .long v5), (7, .int v7)]) : W p l e rX6_tellsHour s m args below meth c H locs 0 0 Qs (F0 m 6 ls []) := by
  have hx := C.1.1
  have hb := C.1.2.1
  have how := C.1.2.2.2.1
  have hts := C.1.2.2.2.2
  unfold w6_tellsHour_b6_f at h
  refine lv_iload hx hb dX6_tellsHour_6 (lv_at hl 4 rfl) ?_
  refine lv_iconst (v := 4) hx hb dX6_tellsHour_8 (by decide) ?_
  refine lv_icmp_ge (tgt := 45) hx hb dX6_tellsHour_9 (by decide) (fun c => ?_) (fun c => ?_)
  · have h := h.1 c
    refine lv_lload hx hb dX6_tellsHour_45 (lv_at hl 3 rfl) ?_
    exact hQ _ _ _ _ _ _ h I dX6_tellsHour_47
  · have h := h.2 c
    refine lv_ldc2 hx hb how (hts _ q1359) dX6_tellsHour_12 ?_
    refine lv_lload hx hb dX6_tellsHour_15 (lv_at hl 3 rfl) ?_
    refine lv_lmul hx hb dX6_tellsHour_17 ?_
    refine lv_aload_n hx hb dX6_tellsHour_18 rfl (lv_at hl 0 rfl) ?_
    refine mg_kept C I dX6_tellsHour_19 ?_
    refine lv_bipush (v := 32) hx hb dX6_tellsHour_22 (by decide) ?_
    refine lv_iload hx hb dX6_tellsHour_24 (lv_at hl 2 rfl) ?_
    refine lv_imul hx hb dX6_tellsHour_26 ?_
    refine lv_iconst (v := 4) hx hb dX6_tellsHour_27 (by decide) ?_
    refine lv_iload_n hx hb dX6_tellsHour_28 rfl (lv_at hl 1 rfl) ?_
    refine lv_imul hx hb dX6_tellsHour_29 ?_
    refine lv_iadd hx hb dX6_tellsHour_30 ?_
    refine lv_iload hx hb dX6_tellsHour_31 (lv_at hl 4 rfl) ?_
    refine lv_iadd hx hb dX6_tellsHour_33 ?_
    obtain ⟨hg1, h⟩ := h
    refine m_iald C I 24 1280 rfl (by decide) hg1 dX6_tellsHour_34 ?_
    refine lv_i2l hx hb dX6_tellsHour_35 rfl ?_
    refine lv_ladd hx hb dX6_tellsHour_36 ?_
    refine lv_topl (fun x2 ex2 => ?_)
    have h := h x2 ex2
    refine lv_lstore (lv' := [(5, .long x2), (0, .ref (ad 0)), (3, .int v3), (4, .int v4), (7, .int v7)]) hx hb dX6_tellsHour_37 hl (by decide) rfl (fun ls hl => ?_)
    refine lv_iinc (v := (v7 + 1)) (lv' := [(7, .int (v7 + 1)), (5, .long x2), (0, .ref (ad 0)), (3, .int v3), (4, .int v4)]) hx hb dX6_tellsHour_39 hl (k := 4) rfl (ii_1 _) (by decide) rfl (fun ls hl => ?_)
    refine lv_goto (tgt := 6) hx hb dX6_tellsHour_42 (by decide) ?_
    exact hK6 v3 v4 x2 (v7 + 1) M _ _ _ h I (lv_sub hl [2, 3, 4, 1, 0] rfl)
theorem t6_tellsHour_b6 {p : Program} {l : Launch} {e : Env} {s : State} {m : MethodId} {args : Array Value} {below : List Frame} {meth : Method} {c : Code} {D : va_G} {T ad : Nat → Nat} {A : Nat → Prop} {H0 : Heap} {Qs : State → Prop} {Q : Int64 → Mem → Prop}  (C : MC D T p m c cX6_tellsHour 8 s args) (hQ : mExl p l e rX6_tellsHour s m args below meth c cX6_tellsHour D T ad A H0 Qs Q)  : ∀ (n : Nat) (v3 : Int32) (v4 : Int32) (v5 : Int64) (v7 : Int32) (M : Mem) (H : Heap) (locs : List Loc) (ls : Array Slot), w6_tellsHour_b6 Q n v3 v4 v5 v7 M → MI D T ad A H0 M H locs → lv_has ls 8 [(0, .ref (ad 0)), (3, .int v3), (4, .int v4), (5, .long v5), (7, .int v7)] → W p l e rX6_tellsHour s m args below meth c H locs 0 0 Qs (F0 m 6 ls []) := by
  intro n
  induction n with
  | zero => intro v3 v4 v5 v7 M H locs ls h; exact h.elim
  | succ n ih => intro v3 v4 v5 v7 M H locs ls h I hl; exact t6_tellsHour_b6_f C hQ  ih v3 v4 v5 v7 M H locs ls h I hl
theorem t6_tellsHour {p : Program} {l : Launch} {e : Env} {s : State} {m : MethodId} {args : Array Value} {below : List Frame} {meth : Method} {c : Code} {D : va_G} {T ad : Nat → Nat} {A : Nat → Prop} {H0 : Heap} {Qs : State → Prop} {Q : Int64 → Mem → Prop} (C : MC D T p m c cX6_tellsHour 8 s args) (hQ : mExl p l e rX6_tellsHour s m args below meth c cX6_tellsHour D T ad A H0 Qs Q) (v1 : Int64) (v3 : Int32) (v4 : Int32) (M : Mem) (H : Heap) (locs : List Loc) (ls : Array Slot) (h : w6_tellsHour v1 v3 v4 M Q) (I : MI D T ad A H0 M H locs) (hl : lv_has ls 8 [(0, .ref (ad 0)), (1, .long v1), (3, .int v3), (4, .int v4)]) : W p l e rX6_tellsHour s m args below meth c H locs 0 0 Qs (F0 m 0 ls []) := by
  have hx := C.1.1
  have hb := C.1.2.1
  have how := C.1.2.2.2.1
  have hts := C.1.2.2.2.2
  unfold w6_tellsHour at h
  refine lv_lload_n hx hb dX6_tellsHour_0 rfl (lv_at hl 1 rfl) ?_
  refine lv_lstore (lv' := [(5, .long v1), (0, .ref (ad 0)), (1, .long v1), (3, .int v3), (4, .int v4)]) hx hb dX6_tellsHour_1 hl (by decide) rfl (fun ls hl => ?_)
  refine lv_iconst (v := 0) hx hb dX6_tellsHour_3 (by decide) ?_
  refine lv_istore (lv' := [(7, .int 0), (5, .long v1), (0, .ref (ad 0)), (1, .long v1), (3, .int v3), (4, .int v4)]) hx hb dX6_tellsHour_4 hl (by decide) rfl (fun ls hl => ?_)
  obtain ⟨n, h⟩ := h
  exact t6_tellsHour_b6 C hQ n v3 v4 v1 0 M _ _ _ h I (lv_sub hl [2, 4, 5, 1, 0] rfl)
theorem met6_tellsHour (l : Launch) (D : va_G) (T ad : Nat → Nat) (v1 : Int64) (v3 : Int32) (v4 : Int32) (M : Mem) {Qp : Int64 → Mem → Prop} (h : w6_tellsHour v1 v3 v4 M Qp) (sz : Nat) : Met l yX6_tellsHour (ws_ yX6_tellsHour cX6_tellsHour 8 (some .long)) rX6_tellsHour (mPc D T ad [.long v1, .int v3, .int v4] M sz) (mQl D T ad M Qp sz) 0 0 (fA (cM T ad M) sz) :=
  m_metL (As := [.long v1, .int v3, .int v4]) rfl rfl (Nat.le_of_ble_eq_true rfl) (fun p e s m args below meth c A Qs ls C hQ I hl => t6_tellsHour C hQ v1 v3 v4 M _ _ ls h I hl) sz
/-! tellsCarter -/
abbrev rX6_tellsCarter : Room := { frames := 8, cells := 0, slots := 0, locals := 189 }
theorem cw6_309 {R : Room} {s : State} {args : Array Value} (hts : ∀ w ∈ lw_all, w.before args s = true) (hR : rX6_tellsHour.frames + 1 ≤ R.frames ∧ 8 + (8 + 11) + rX6_tellsHour.locals ≤ R.locals) : CallW R s args RX6 RX6 309 yX6_tellsHour cX6_tellsHour 8 (some .long) (ws_ yX6_tellsHour cX6_tellsHour 8 (some .long)) rX6_tellsHour 0 0 3 := cwV 3 hts (lw_V q1365 q1367 qs87 q95 q1368) rfl rfl rfl (by decide +kernel) hR
theorem t6_tellsCarter_b154_f {p : Program} {l : Launch} {e : Env} {s : State} {m : MethodId} {args : Array Value} {below : List Frame} {meth : Method} {c : Code} {D : va_G} {T ad : Nat → Nat} {A : Nat → Prop} {H0 : Heap} {Qs : State → Prop} {Q : Int64 → Mem → Prop} {K154 : Int32 → Int64 → Int32 → Mem → Prop} (C : MC D T p m c cX6_tellsCarter 7 s args) (hQ : mExl p l e rX6_tellsCarter s m args below meth c cX6_tellsCarter D T ad A H0 Qs Q) (hK154 : ∀ (v3 : Int32) (v4 : Int64) (v6 : Int32) (M : Mem) (H : Heap) (locs : List Loc) (ls : Array Slot), K154 v3 v4 v6 M → MI D T ad A H0 M H locs → lv_has ls 7 [(0, .ref (ad 0)), (3, .int v3), (4, .long v4), (6, .int v6)] → W p l e rX6_tellsCarter s m args below meth c H locs 0 0 Qs (F0 m 154 ls [])) (v3 : Int32) (v4 : Int64) (v6 : Int32) (M : Mem) (H : Heap) (locs : List Loc) (ls : Array Slot) (h : w6_tellsCarter_b154_f Q K154 v3 v4 v6 M) (I : MI D T ad A H0 M H locs) (hl : lv_has ls 7 [(0, .ref (ad 0)), (3, .int v3), (4, .long v4), (6, .int v6)]) : W p l e rX6_tellsCarter s m args below meth c H locs 0 0 Qs (F0 m 154 ls []) := by
  have hx := C.1.1
  have hb := C.1.2.1
  have how := C.1.2.2.2.1
  have hts := C.1.2.2.2.2
  unfold w6_tellsCarter_b154_f at h
  refine lv_iload hx hb dX6_tellsCarter_154 (lv_at hl 3 rfl) ?_
  refine lv_iconst (v := 3) hx hb dX6_tellsCarter_156 (by decide) ?_
  refine lv_icmp_ge (tgt := 183) hx hb dX6_tellsCarter_157 (by decide) (fun c => ?_) (fun c => ?_)
  · have h := h.1 c
    refine lv_ldc2 hx hb how (hts _ q1359) dX6_tellsCarter_183 ?_
    refine lv_lload hx hb dX6_tellsCarter_186 (lv_at hl 2 rfl) ?_
    refine lv_lmul hx hb dX6_tellsCarter_188 ?_
    refine lv_aload_n hx hb dX6_tellsCarter_189 rfl (lv_at hl 0 rfl) ?_
    refine lv_iload_n hx hb dX6_tellsCarter_190 rfl (lv_at hl 1 rfl) ?_
    refine m_calli (As := [.int v3]) (rest := [.long (31 * v4)]) C I (met6_askOf l D T ad v3 M h) (cw6_277 hts ⟨Nat.le_of_ble_eq_true rfl, Nat.le_of_ble_eq_true rfl⟩) rfl hl.1 rfl (Nat.le_of_ble_eq_true rfl) ⟨Nat.zero_le _, Nat.zero_le _⟩ dX6_tellsCarter_191 (fun r1 M2 H locs h I => ?_)
    refine lv_i2l hx hb dX6_tellsCarter_194 rfl ?_
    refine lv_ladd hx hb dX6_tellsCarter_195 ?_
    refine lv_topl (fun x3 ex3 => ?_)
    have h := h x3 ex3
    refine lv_lstore (lv' := [(4, .long x3), (0, .ref (ad 0)), (3, .int v3), (6, .int v6)]) hx hb dX6_tellsCarter_196 hl (by decide) rfl (fun ls hl => ?_)
    refine lv_ldc2 hx hb how (hts _ q1359) dX6_tellsCarter_198 ?_
    refine lv_lload hx hb dX6_tellsCarter_201 (lv_at hl 0 rfl) ?_
    refine lv_lmul hx hb dX6_tellsCarter_203 ?_
    refine lv_aload_n hx hb dX6_tellsCarter_204 rfl (lv_at hl 1 rfl) ?_
    refine lv_iconst (v := 5) hx hb dX6_tellsCarter_205 (by decide) ?_
    refine lv_iload_n hx hb dX6_tellsCarter_206 rfl (lv_at hl 2 rfl) ?_
    refine lv_iconst (v := 0) hx hb dX6_tellsCarter_207 (by decide) ?_
    refine m_calll (As := [.int 5, .int v3, .int 0]) (rest := [.long (31 * x3)]) C I (met6_rumourOf l D T ad 5 v3 0 M2 h) (cw6_286 hts ⟨Nat.le_of_ble_eq_true rfl, Nat.le_of_ble_eq_true rfl⟩) rfl hl.1 rfl (Nat.le_of_ble_eq_true rfl) ⟨Nat.zero_le _, Nat.zero_le _⟩ dX6_tellsCarter_208 (fun r4 M5 H locs h I => ?_)
    refine lv_ladd hx hb dX6_tellsCarter_211 ?_
    refine lv_lstore (lv' := [(4, .long ((31 * x3) + r4)), (0, .ref (ad 0)), (3, .int v3), (6, .int v6)]) hx hb dX6_tellsCarter_212 hl (by decide) rfl (fun ls hl => ?_)
    refine lv_ldc2 hx hb how (hts _ q1359) dX6_tellsCarter_214 ?_
    refine lv_lload hx hb dX6_tellsCarter_217 (lv_at hl 0 rfl) ?_
    refine lv_lmul hx hb dX6_tellsCarter_219 ?_
    refine lv_aload_n hx hb dX6_tellsCarter_220 rfl (lv_at hl 1 rfl) ?_
    refine lv_iconst (v := 5) hx hb dX6_tellsCarter_221 (by decide) ?_
    refine lv_iload_n hx hb dX6_tellsCarter_222 rfl (lv_at hl 2 rfl) ?_
    refine lv_iconst (v := 1) hx hb dX6_tellsCarter_223 (by decide) ?_
    refine m_calll (As := [.int 5, .int v3, .int 1]) (rest := [.long (31 * ((31 * x3) + r4))]) C I (met6_rumourOf l D T ad 5 v3 1 M5 h) (cw6_286 hts ⟨Nat.le_of_ble_eq_true rfl, Nat.le_of_ble_eq_true rfl⟩) rfl hl.1 rfl (Nat.le_of_ble_eq_true rfl) ⟨Nat.zero_le _, Nat.zero_le _⟩ dX6_tellsCarter_224 (fun r6 M7 H locs h I => ?_)
    refine lv_ladd hx hb dX6_tellsCarter_227 ?_
    exact hQ _ _ _ _ _ _ h I dX6_tellsCarter_228
  · have h := h.2 c
    refine lv_ldc2 hx hb how (hts _ q1359) dX6_tellsCarter_160 ?_
    refine lv_lload hx hb dX6_tellsCarter_163 (lv_at hl 2 rfl) ?_
    refine lv_lmul hx hb dX6_tellsCarter_165 ?_
    refine lv_aload_n hx hb dX6_tellsCarter_166 rfl (lv_at hl 0 rfl) ?_
    refine lv_iload_n hx hb dX6_tellsCarter_167 rfl (lv_at hl 1 rfl) ?_
    refine lv_iload hx hb dX6_tellsCarter_168 (lv_at hl 3 rfl) ?_
    refine m_calli (As := [.int v3, .int v6]) (rest := [.long (31 * v4)]) C I (met6_forceOf l D T ad v3 v6 M h) (cw6_271 hts ⟨Nat.le_of_ble_eq_true rfl, Nat.le_of_ble_eq_true rfl⟩) rfl hl.1 rfl (Nat.le_of_ble_eq_true rfl) ⟨Nat.zero_le _, Nat.zero_le _⟩ dX6_tellsCarter_170 (fun r8 M9 H locs h I => ?_)
    refine lv_i2l hx hb dX6_tellsCarter_173 rfl ?_
    refine lv_ladd hx hb dX6_tellsCarter_174 ?_
    refine lv_topl (fun x10 ex10 => ?_)
    have h := h x10 ex10
    refine lv_lstore (lv' := [(4, .long x10), (0, .ref (ad 0)), (3, .int v3), (6, .int v6)]) hx hb dX6_tellsCarter_175 hl (by decide) rfl (fun ls hl => ?_)
    refine lv_iinc (v := (v6 + 1)) (lv' := [(6, .int (v6 + 1)), (4, .long x10), (0, .ref (ad 0)), (3, .int v3)]) hx hb dX6_tellsCarter_177 hl (k := 3) rfl (ii_1 _) (by decide) rfl (fun ls hl => ?_)
    refine lv_goto (tgt := 154) hx hb dX6_tellsCarter_180 (by decide) ?_
    exact hK154 v3 x10 (v6 + 1) M9 _ _ _ h I (lv_sub hl [2, 3, 1, 0] rfl)
theorem t6_tellsCarter_b154 {p : Program} {l : Launch} {e : Env} {s : State} {m : MethodId} {args : Array Value} {below : List Frame} {meth : Method} {c : Code} {D : va_G} {T ad : Nat → Nat} {A : Nat → Prop} {H0 : Heap} {Qs : State → Prop} {Q : Int64 → Mem → Prop}  (C : MC D T p m c cX6_tellsCarter 7 s args) (hQ : mExl p l e rX6_tellsCarter s m args below meth c cX6_tellsCarter D T ad A H0 Qs Q)  : ∀ (n : Nat) (v3 : Int32) (v4 : Int64) (v6 : Int32) (M : Mem) (H : Heap) (locs : List Loc) (ls : Array Slot), w6_tellsCarter_b154 Q n v3 v4 v6 M → MI D T ad A H0 M H locs → lv_has ls 7 [(0, .ref (ad 0)), (3, .int v3), (4, .long v4), (6, .int v6)] → W p l e rX6_tellsCarter s m args below meth c H locs 0 0 Qs (F0 m 154 ls []) := by
  intro n
  induction n with
  | zero => intro v3 v4 v6 M H locs ls h; exact h.elim
  | succ n ih => intro v3 v4 v6 M H locs ls h I hl; exact t6_tellsCarter_b154_f C hQ  ih v3 v4 v6 M H locs ls h I hl
theorem t6_tellsCarter_b10_f {p : Program} {l : Launch} {e : Env} {s : State} {m : MethodId} {args : Array Value} {below : List Frame} {meth : Method} {c : Code} {D : va_G} {T ad : Nat → Nat} {A : Nat → Prop} {H0 : Heap} {Qs : State → Prop} {Q : Int64 → Mem → Prop} {K10 : Int32 → Int64 → Int32 → Mem → Prop} (C : MC D T p m c cX6_tellsCarter 7 s args) (hQ : mExl p l e rX6_tellsCarter s m args below meth c cX6_tellsCarter D T ad A H0 Qs Q) (hK10 : ∀ (v3 : Int32) (v4 : Int64) (v6 : Int32) (M : Mem) (H : Heap) (locs : List Loc) (ls : Array Slot), K10 v3 v4 v6 M → MI D T ad A H0 M H locs → lv_has ls 7 [(0, .ref (ad 0)), (3, .int v3), (4, .long v4), (6, .int v6)] → W p l e rX6_tellsCarter s m args below meth c H locs 0 0 Qs (F0 m 10 ls [])) (v3 : Int32) (v4 : Int64) (v6 : Int32) (M : Mem) (H : Heap) (locs : List Loc) (ls : Array Slot) (h : w6_tellsCarter_b10_f Q K10 v3 v4 v6 M) (I : MI D T ad A H0 M H locs) (hl : lv_has ls 7 [(0, .ref (ad 0)), (3, .int v3), (4, .long v4), (6, .int v6)]) : W p l e rX6_tellsCarter s m args below meth c H locs 0 0 Qs (F0 m 10 ls []) := by
  have hx := C.1.1
  have hb := C.1.2.1
  have how := C.1.2.2.2.1
  have hts := C.1.2.2.2.2
  unfold w6_tellsCarter_b10_f at h
  refine lv_iload hx hb dX6_tellsCarter_10 (lv_at hl 3 rfl) ?_
  refine lv_iconst (v := 5) hx hb dX6_tellsCarter_12 (by decide) ?_
  refine lv_icmp_ge (tgt := 43) hx hb dX6_tellsCarter_13 (by decide) (fun c => ?_) (fun c => ?_)
  · have h := h.1 c
    refine lv_aload_n hx hb dX6_tellsCarter_43 rfl (lv_at hl 0 rfl) ?_
    refine lv_aload_n hx hb dX6_tellsCarter_44 rfl (lv_at hl 0 rfl) ?_
    refine lv_aload_n hx hb dX6_tellsCarter_45 rfl (lv_at hl 0 rfl) ?_
    refine lv_aload_n hx hb dX6_tellsCarter_46 rfl (lv_at hl 0 rfl) ?_
    refine lv_lload hx hb dX6_tellsCarter_47 (lv_at hl 2 rfl) ?_
    refine lv_iload_n hx hb dX6_tellsCarter_49 rfl (lv_at hl 1 rfl) ?_
    refine lv_iconst (v := 0) hx hb dX6_tellsCarter_50 (by decide) ?_
    refine m_calll (As := [.long v4, .int v3, .int 0]) (rest := [.ref (ad 0), .ref (ad 0), .ref (ad 0)]) C I (met6_tellsHour l D T ad v4 v3 0 M h) (cw6_309 hts ⟨Nat.le_of_ble_eq_true rfl, Nat.le_of_ble_eq_true rfl⟩) rfl hl.1 rfl (Nat.le_of_ble_eq_true rfl) ⟨Nat.zero_le _, Nat.zero_le _⟩ dX6_tellsCarter_51 (fun r11 M12 H locs h I => ?_)
    refine lv_iload_n hx hb dX6_tellsCarter_54 rfl (lv_at hl 1 rfl) ?_
    refine lv_iconst (v := 5) hx hb dX6_tellsCarter_55 (by decide) ?_
    refine m_calll (As := [.long r11, .int v3, .int 5]) (rest := [.ref (ad 0), .ref (ad 0)]) C I (met6_tellsHour l D T ad r11 v3 5 M12 h) (cw6_309 hts ⟨Nat.le_of_ble_eq_true rfl, Nat.le_of_ble_eq_true rfl⟩) rfl hl.1 rfl (Nat.le_of_ble_eq_true rfl) ⟨Nat.zero_le _, Nat.zero_le _⟩ dX6_tellsCarter_56 (fun r13 M14 H locs h I => ?_)
    refine lv_iload_n hx hb dX6_tellsCarter_59 rfl (lv_at hl 1 rfl) ?_
    refine lv_bipush (v := 15) hx hb dX6_tellsCarter_60 (by decide) ?_
    refine m_calll (As := [.long r13, .int v3, .int 15]) (rest := [.ref (ad 0)]) C I (met6_tellsHour l D T ad r13 v3 15 M14 h) (cw6_309 hts ⟨Nat.le_of_ble_eq_true rfl, Nat.le_of_ble_eq_true rfl⟩) rfl hl.1 rfl (Nat.le_of_ble_eq_true rfl) ⟨Nat.zero_le _, Nat.zero_le _⟩ dX6_tellsCarter_62 (fun r15 M16 H locs h I => ?_)
    refine lv_iload_n hx hb dX6_tellsCarter_65 rfl (lv_at hl 1 rfl) ?_
    refine lv_bipush (v := 39) hx hb dX6_tellsCarter_66 (by decide) ?_
    refine m_calll (As := [.long r15, .int v3, .int 39]) (rest := []) C I (met6_tellsHour l D T ad r15 v3 39 M16 h) (cw6_309 hts ⟨Nat.le_of_ble_eq_true rfl, Nat.le_of_ble_eq_true rfl⟩) rfl hl.1 rfl (Nat.le_of_ble_eq_true rfl) ⟨Nat.zero_le _, Nat.zero_le _⟩ dX6_tellsCarter_68 (fun r17 M18 H locs h I => ?_)
    refine lv_lstore (lv' := [(4, .long r17), (0, .ref (ad 0)), (3, .int v3), (6, .int v6)]) hx hb dX6_tellsCarter_71 hl (by decide) rfl (fun ls hl => ?_)
    refine lv_ldc2 hx hb how (hts _ q1359) dX6_tellsCarter_73 ?_
    refine lv_lload hx hb dX6_tellsCarter_76 (lv_at hl 0 rfl) ?_
    refine lv_lmul hx hb dX6_tellsCarter_78 ?_
    refine lv_aload_n hx hb dX6_tellsCarter_79 rfl (lv_at hl 1 rfl) ?_
    refine mg_ends C I dX6_tellsCarter_80 ?_
    refine lv_iload_n hx hb dX6_tellsCarter_83 rfl (lv_at hl 2 rfl) ?_
    obtain ⟨hg19, h⟩ := h
    refine m_iald C I 23 8 rfl (by decide) hg19 dX6_tellsCarter_84 ?_
    refine lv_i2l hx hb dX6_tellsCarter_85 rfl ?_
    refine lv_ladd hx hb dX6_tellsCarter_86 ?_
    refine lv_topl (fun x20 ex20 => ?_)
    have h := h x20 ex20
    refine lv_lstore (lv' := [(4, .long x20), (0, .ref (ad 0)), (3, .int v3), (6, .int v6)]) hx hb dX6_tellsCarter_87 hl (by decide) rfl (fun ls hl => ?_)
    refine lv_ldc2 hx hb how (hts _ q1359) dX6_tellsCarter_89 ?_
    refine lv_lload hx hb dX6_tellsCarter_92 (lv_at hl 0 rfl) ?_
    refine lv_lmul hx hb dX6_tellsCarter_94 ?_
    refine lv_aload_n hx hb dX6_tellsCarter_95 rfl (lv_at hl 1 rfl) ?_
    refine lv_iload_n hx hb dX6_tellsCarter_96 rfl (lv_at hl 2 rfl) ?_
    refine m_calli (As := [.int v3]) (rest := [.long (31 * x20)]) C I (met6_needsOf l D T ad v3 M18 h) (cw6_238 hts ⟨Nat.le_of_ble_eq_true rfl, Nat.le_of_ble_eq_true rfl⟩) rfl hl.1 rfl (Nat.le_of_ble_eq_true rfl) ⟨Nat.zero_le _, Nat.zero_le _⟩ dX6_tellsCarter_97 (fun r21 M22 H locs h I => ?_)
    refine lv_i2l hx hb dX6_tellsCarter_100 rfl ?_
    refine lv_ladd hx hb dX6_tellsCarter_101 ?_
    refine lv_topl (fun x23 ex23 => ?_)
    have h := h x23 ex23
    refine lv_lstore (lv' := [(4, .long x23), (0, .ref (ad 0)), (3, .int v3), (6, .int v6)]) hx hb dX6_tellsCarter_102 hl (by decide) rfl (fun ls hl => ?_)
    refine lv_ldc2 hx hb how (hts _ q1359) dX6_tellsCarter_104 ?_
    refine lv_lload hx hb dX6_tellsCarter_107 (lv_at hl 0 rfl) ?_
    refine lv_lmul hx hb dX6_tellsCarter_109 ?_
    refine lv_aload_n hx hb dX6_tellsCarter_110 rfl (lv_at hl 1 rfl) ?_
    refine lv_iload_n hx hb dX6_tellsCarter_111 rfl (lv_at hl 2 rfl) ?_
    refine lv_iconst (v := 0) hx hb dX6_tellsCarter_112 (by decide) ?_
    refine m_calli (As := [.int v3, .int 0]) (rest := [.long (31 * x23)]) C I (met6_delayOf l D T ad v3 0 M22 h) (cw6_250 hts ⟨Nat.le_of_ble_eq_true rfl, Nat.le_of_ble_eq_true rfl⟩) rfl hl.1 rfl (Nat.le_of_ble_eq_true rfl) ⟨Nat.zero_le _, Nat.zero_le _⟩ dX6_tellsCarter_113 (fun r24 M25 H locs h I => ?_)
    refine lv_i2l hx hb dX6_tellsCarter_116 rfl ?_
    refine lv_ladd hx hb dX6_tellsCarter_117 ?_
    refine lv_topl (fun x26 ex26 => ?_)
    have h := h x26 ex26
    refine lv_lstore (lv' := [(4, .long x26), (0, .ref (ad 0)), (3, .int v3), (6, .int v6)]) hx hb dX6_tellsCarter_118 hl (by decide) rfl (fun ls hl => ?_)
    refine lv_ldc2 hx hb how (hts _ q1359) dX6_tellsCarter_120 ?_
    refine lv_lload hx hb dX6_tellsCarter_123 (lv_at hl 0 rfl) ?_
    refine lv_lmul hx hb dX6_tellsCarter_125 ?_
    refine lv_aload_n hx hb dX6_tellsCarter_126 rfl (lv_at hl 1 rfl) ?_
    refine lv_iload_n hx hb dX6_tellsCarter_127 rfl (lv_at hl 2 rfl) ?_
    refine lv_iconst (v := 1) hx hb dX6_tellsCarter_128 (by decide) ?_
    refine m_calli (As := [.int v3, .int 1]) (rest := [.long (31 * x26)]) C I (met6_delayOf l D T ad v3 1 M25 h) (cw6_250 hts ⟨Nat.le_of_ble_eq_true rfl, Nat.le_of_ble_eq_true rfl⟩) rfl hl.1 rfl (Nat.le_of_ble_eq_true rfl) ⟨Nat.zero_le _, Nat.zero_le _⟩ dX6_tellsCarter_129 (fun r27 M28 H locs h I => ?_)
    refine lv_i2l hx hb dX6_tellsCarter_132 rfl ?_
    refine lv_ladd hx hb dX6_tellsCarter_133 ?_
    refine lv_topl (fun x29 ex29 => ?_)
    have h := h x29 ex29
    refine lv_lstore (lv' := [(4, .long x29), (0, .ref (ad 0)), (3, .int v3), (6, .int v6)]) hx hb dX6_tellsCarter_134 hl (by decide) rfl (fun ls hl => ?_)
    refine lv_ldc2 hx hb how (hts _ q1359) dX6_tellsCarter_136 ?_
    refine lv_lload hx hb dX6_tellsCarter_139 (lv_at hl 0 rfl) ?_
    refine lv_lmul hx hb dX6_tellsCarter_141 ?_
    refine lv_aload_n hx hb dX6_tellsCarter_142 rfl (lv_at hl 1 rfl) ?_
    refine lv_iload_n hx hb dX6_tellsCarter_143 rfl (lv_at hl 2 rfl) ?_
    refine m_calli (As := [.int v3]) (rest := [.long (31 * x29)]) C I (met6_sortOf l D T ad v3 M28 h) (cw6_268 hts ⟨Nat.le_of_ble_eq_true rfl, Nat.le_of_ble_eq_true rfl⟩) rfl hl.1 rfl (Nat.le_of_ble_eq_true rfl) ⟨Nat.zero_le _, Nat.zero_le _⟩ dX6_tellsCarter_144 (fun r30 M31 H locs h I => ?_)
    refine lv_i2l hx hb dX6_tellsCarter_147 rfl ?_
    refine lv_ladd hx hb dX6_tellsCarter_148 ?_
    refine lv_topl (fun x32 ex32 => ?_)
    have h := h x32 ex32
    refine lv_lstore (lv' := [(4, .long x32), (0, .ref (ad 0)), (3, .int v3), (6, .int v6)]) hx hb dX6_tellsCarter_149 hl (by decide) rfl (fun ls hl => ?_)
    refine lv_iconst (v := 0) hx hb dX6_tellsCarter_151 (by decide) ?_
    refine lv_istore (lv' := [(6, .int 0), (4, .long x32), (0, .ref (ad 0)), (3, .int v3)]) hx hb dX6_tellsCarter_152 hl (by decide) rfl (fun ls hl => ?_)
    obtain ⟨n, h⟩ := h
    exact t6_tellsCarter_b154 C hQ n v3 x32 0 M31 _ _ _ h I (lv_sub hl [2, 3, 1, 0] rfl)
  · have h := h.2 c
    refine lv_ldc2 hx hb how (hts _ q1359) dX6_tellsCarter_16 ?_
    refine lv_lload hx hb dX6_tellsCarter_19 (lv_at hl 2 rfl) ?_
    refine lv_lmul hx hb dX6_tellsCarter_21 ?_
    refine lv_aload_n hx hb dX6_tellsCarter_22 rfl (lv_at hl 0 rfl) ?_
    refine mg_carter C I dX6_tellsCarter_23 ?_
    refine lv_iconst (v := 5) hx hb dX6_tellsCarter_26 (by decide) ?_
    refine lv_iload_n hx hb dX6_tellsCarter_27 rfl (lv_at hl 1 rfl) ?_
    refine lv_imul hx hb dX6_tellsCarter_28 ?_
    refine lv_iload hx hb dX6_tellsCarter_29 (lv_at hl 3 rfl) ?_
    refine lv_iadd hx hb dX6_tellsCarter_31 ?_
    obtain ⟨hg33, h⟩ := h
    refine m_iald C I 11 40 rfl (by decide) hg33 dX6_tellsCarter_32 ?_
    refine lv_i2l hx hb dX6_tellsCarter_33 rfl ?_
    refine lv_ladd hx hb dX6_tellsCarter_34 ?_
    refine lv_topl (fun x34 ex34 => ?_)
    have h := h x34 ex34
    refine lv_lstore (lv' := [(4, .long x34), (0, .ref (ad 0)), (3, .int v3), (6, .int v6)]) hx hb dX6_tellsCarter_35 hl (by decide) rfl (fun ls hl => ?_)
    refine lv_iinc (v := (v6 + 1)) (lv' := [(6, .int (v6 + 1)), (4, .long x34), (0, .ref (ad 0)), (3, .int v3)]) hx hb dX6_tellsCarter_37 hl (k := 3) rfl (ii_1 _) (by decide) rfl (fun ls hl => ?_)
    refine lv_goto (tgt := 10) hx hb dX6_tellsCarter_40 (by decide) ?_
    exact hK10 v3 x34 (v6 + 1) M _ _ _ h I (lv_sub hl [2, 3, 1, 0] rfl)
theorem t6_tellsCarter_b10 {p : Program} {l : Launch} {e : Env} {s : State} {m : MethodId} {args : Array Value} {below : List Frame} {meth : Method} {c : Code} {D : va_G} {T ad : Nat → Nat} {A : Nat → Prop} {H0 : Heap} {Qs : State → Prop} {Q : Int64 → Mem → Prop}  (C : MC D T p m c cX6_tellsCarter 7 s args) (hQ : mExl p l e rX6_tellsCarter s m args below meth c cX6_tellsCarter D T ad A H0 Qs Q)  : ∀ (n : Nat) (v3 : Int32) (v4 : Int64) (v6 : Int32) (M : Mem) (H : Heap) (locs : List Loc) (ls : Array Slot), w6_tellsCarter_b10 Q n v3 v4 v6 M → MI D T ad A H0 M H locs → lv_has ls 7 [(0, .ref (ad 0)), (3, .int v3), (4, .long v4), (6, .int v6)] → W p l e rX6_tellsCarter s m args below meth c H locs 0 0 Qs (F0 m 10 ls []) := by
  intro n
  induction n with
  | zero => intro v3 v4 v6 M H locs ls h; exact h.elim
  | succ n ih => intro v3 v4 v6 M H locs ls h I hl; exact t6_tellsCarter_b10_f C hQ  ih v3 v4 v6 M H locs ls h I hl
theorem t6_tellsCarter {p : Program} {l : Launch} {e : Env} {s : State} {m : MethodId} {args : Array Value} {below : List Frame} {meth : Method} {c : Code} {D : va_G} {T ad : Nat → Nat} {A : Nat → Prop} {H0 : Heap} {Qs : State → Prop} {Q : Int64 → Mem → Prop} (C : MC D T p m c cX6_tellsCarter 7 s args) (hQ : mExl p l e rX6_tellsCarter s m args below meth c cX6_tellsCarter D T ad A H0 Qs Q) (v1 : Int64) (v3 : Int32) (M : Mem) (H : Heap) (locs : List Loc) (ls : Array Slot) (h : w6_tellsCarter v1 v3 M Q) (I : MI D T ad A H0 M H locs) (hl : lv_has ls 7 [(0, .ref (ad 0)), (1, .long v1), (3, .int v3)]) : W p l e rX6_tellsCarter s m args below meth c H locs 0 0 Qs (F0 m 0 ls []) := by
  have hx := C.1.1
  have hb := C.1.2.1
  have how := C.1.2.2.2.1
  have hts := C.1.2.2.2.2
  unfold w6_tellsCarter at h
  refine lv_aload_n hx hb dX6_tellsCarter_0 rfl (lv_at hl 0 rfl) ?_
  refine m_callv (As := []) (rest := []) C I (met6_lives l D T ad M h) (cw6_215 hts ⟨Nat.le_of_ble_eq_true rfl, Nat.le_of_ble_eq_true rfl⟩) rfl hl.1 rfl (Nat.le_of_ble_eq_true rfl) ⟨Nat.zero_le _, Nat.zero_le _⟩ dX6_tellsCarter_1 (fun M35 H locs h I => ?_)
  refine lv_lload_n hx hb dX6_tellsCarter_4 rfl (lv_at hl 1 rfl) ?_
  refine lv_lstore (lv' := [(4, .long v1), (0, .ref (ad 0)), (1, .long v1), (3, .int v3)]) hx hb dX6_tellsCarter_5 hl (by decide) rfl (fun ls hl => ?_)
  refine lv_iconst (v := 0) hx hb dX6_tellsCarter_7 (by decide) ?_
  refine lv_istore (lv' := [(6, .int 0), (4, .long v1), (0, .ref (ad 0)), (1, .long v1), (3, .int v3)]) hx hb dX6_tellsCarter_8 hl (by decide) rfl (fun ls hl => ?_)
  obtain ⟨n, h⟩ := h
  exact t6_tellsCarter_b10 C hQ n v3 v1 0 M35 _ _ _ h I (lv_sub hl [2, 4, 1, 0] rfl)
theorem met6_tellsCarter (l : Launch) (D : va_G) (T ad : Nat → Nat) (v1 : Int64) (v3 : Int32) (M : Mem) {Qp : Int64 → Mem → Prop} (h : w6_tellsCarter v1 v3 M Qp) (sz : Nat) : Met l yX6_tellsCarter (ws_ yX6_tellsCarter cX6_tellsCarter 7 (some .long)) rX6_tellsCarter (mPc D T ad [.long v1, .int v3] M sz) (mQl D T ad M Qp sz) 0 0 (fA (cM T ad M) sz) :=
  m_metL (As := [.long v1, .int v3]) rfl rfl (Nat.le_of_ble_eq_true rfl) (fun p e s m args below meth c A Qs ls C hQ I hl => t6_tellsCarter C hQ v1 v3 M _ _ ls h I hl) sz
/-! digest -/
abbrev rX6_digest : Room := { frames := 9, cells := 0, slots := 0, locals := 215 }
theorem cw6_315 {R : Room} {s : State} {args : Array Value} (hts : ∀ w ∈ lw_all, w.before args s = true) (hR : rX6_count.frames + 1 ≤ R.frames ∧ 8 + (2 + 11) + rX6_count.locals ≤ R.locals) : CallW R s args RX6 RX6 315 yX6_count cX6_count 2 (some .int) (ws_ yX6_count cX6_count 2 (some .int)) rX6_count 0 0 1 := cwV 1 hts (lw_V q1360 q1347 q1348 q95 q1349) rfl rfl rfl (by decide +kernel) hR
theorem cw6_318 {R : Room} {s : State} {args : Array Value} (hts : ∀ w ∈ lw_all, w.before args s = true) (hR : rX6_tellsCarter.frames + 1 ≤ R.frames ∧ 8 + (7 + 11) + rX6_tellsCarter.locals ≤ R.locals) : CallW R s args RX6 RX6 318 yX6_tellsCarter cX6_tellsCarter 7 (some .long) (ws_ yX6_tellsCarter cX6_tellsCarter 7 (some .long)) rX6_tellsCarter 0 0 2 := cwV 2 hts (lw_V q1361 q1363 qs86 q95 q1364) rfl rfl rfl (by decide +kernel) hR
theorem t6_digest_b223_f {p : Program} {l : Launch} {e : Env} {s : State} {m : MethodId} {args : Array Value} {below : List Frame} {meth : Method} {c : Code} {D : va_G} {T ad : Nat → Nat} {A : Nat → Prop} {H0 : Heap} {Qs : State → Prop} {Q : Int64 → Mem → Prop} {K223 : Int64 → Int32 → Mem → Prop} (C : MC D T p m c cX6_digest 4 s args) (hQ : mExl p l e rX6_digest s m args below meth c cX6_digest D T ad A H0 Qs Q) (hK223 : ∀ (v1 : Int64) (v3 : Int32) (M : Mem) (H : Heap) (locs : List Loc) (ls : Array Slot), K223 v1 v3 M → MI D T ad A H0 M H locs → lv_has ls 4 [(0, .ref (ad 0)), (1, .long v1), (3, .int v3)] → W p l e rX6_digest s m args below meth c H locs 0 0 Qs (F0 m 223 ls [])) (v1 : Int64) (v3 : Int32) (M : Mem) (H : Heap) (locs : List Loc) (ls : Array Slot) (h : w6_digest_b223_f Q K223 v1 v3 M) (I : MI D T ad A H0 M H locs) (hl : lv_has ls 4 [(0, .ref (ad 0)), (1, .long v1), (3, .int v3)]) : W p l e rX6_digest s m args below meth c H locs 0 0 Qs (F0 m 223 ls []) := by
  have hx := C.1.1
  have hb := C.1.2.1
  have how := C.1.2.2.2.1
  have hts := C.1.2.2.2.2
  unfold w6_digest_b223_f at h
  refine lv_iload_n hx hb dX6_digest_223 rfl (lv_at hl 2 rfl) ?_
  refine lv_iconst (v := 3) hx hb dX6_digest_224 (by decide) ?_
  refine lv_icmp_ge (tgt := 247) hx hb dX6_digest_225 (by decide) (fun c => ?_) (fun c => ?_)
  · have h := h.1 c
    refine lv_ldc2 hx hb how (hts _ q1359) dX6_digest_247 ?_
    refine lv_lload_n hx hb dX6_digest_250 rfl (lv_at hl 1 rfl) ?_
    refine lv_lmul hx hb dX6_digest_251 ?_
    refine lv_aload_n hx hb dX6_digest_252 rfl (lv_at hl 0 rfl) ?_
    refine lv_iconst (v := 0) hx hb dX6_digest_253 (by decide) ?_
    refine m_calli (As := [.int 0]) (rest := [.long (31 * v1)]) C I (met6_levelBy l D T ad 0 M h) (cw6_253 hts ⟨Nat.le_of_ble_eq_true rfl, Nat.le_of_ble_eq_true rfl⟩) rfl hl.1 rfl (Nat.le_of_ble_eq_true rfl) ⟨Nat.zero_le _, Nat.zero_le _⟩ dX6_digest_254 (fun r1 M2 H locs h I => ?_)
    refine lv_i2l hx hb dX6_digest_257 rfl ?_
    refine lv_ladd hx hb dX6_digest_258 ?_
    refine lv_topl (fun x3 ex3 => ?_)
    have h := h x3 ex3
    refine lv_lstore_n (lv' := [(1, .long x3), (0, .ref (ad 0)), (3, .int v3)]) hx hb dX6_digest_259 rfl hl (by decide) rfl (fun ls hl => ?_)
    refine lv_ldc2 hx hb how (hts _ q1359) dX6_digest_260 ?_
    refine lv_lload_n hx hb dX6_digest_263 rfl (lv_at hl 0 rfl) ?_
    refine lv_lmul hx hb dX6_digest_264 ?_
    refine lv_aload_n hx hb dX6_digest_265 rfl (lv_at hl 1 rfl) ?_
    refine lv_iconst (v := 1) hx hb dX6_digest_266 (by decide) ?_
    refine m_calli (As := [.int 1]) (rest := [.long (31 * x3)]) C I (met6_levelBy l D T ad 1 M2 h) (cw6_253 hts ⟨Nat.le_of_ble_eq_true rfl, Nat.le_of_ble_eq_true rfl⟩) rfl hl.1 rfl (Nat.le_of_ble_eq_true rfl) ⟨Nat.zero_le _, Nat.zero_le _⟩ dX6_digest_267 (fun r4 M5 H locs h I => ?_)
    refine lv_i2l hx hb dX6_digest_270 rfl ?_
    refine lv_ladd hx hb dX6_digest_271 ?_
    refine lv_topl (fun x6 ex6 => ?_)
    have h := h x6 ex6
    refine lv_lstore_n (lv' := [(1, .long x6), (0, .ref (ad 0)), (3, .int v3)]) hx hb dX6_digest_272 rfl hl (by decide) rfl (fun ls hl => ?_)
    refine lv_ldc2 hx hb how (hts _ q1359) dX6_digest_273 ?_
    refine lv_lload_n hx hb dX6_digest_276 rfl (lv_at hl 0 rfl) ?_
    refine lv_lmul hx hb dX6_digest_277 ?_
    refine lv_aload_n hx hb dX6_digest_278 rfl (lv_at hl 1 rfl) ?_
    refine m_calli (As := []) (rest := [.long (31 * x6)]) C I (met6_neverNow l D T ad M5 h) (cw6_265 hts ⟨Nat.le_of_ble_eq_true rfl, Nat.le_of_ble_eq_true rfl⟩) rfl hl.1 rfl (Nat.le_of_ble_eq_true rfl) ⟨Nat.zero_le _, Nat.zero_le _⟩ dX6_digest_279 (fun r7 M8 H locs h I => ?_)
    refine lv_i2l hx hb dX6_digest_282 rfl ?_
    refine lv_ladd hx hb dX6_digest_283 ?_
    refine lv_topl (fun x9 ex9 => ?_)
    have h := h x9 ex9
    refine lv_lstore_n (lv' := [(1, .long x9), (0, .ref (ad 0)), (3, .int v3)]) hx hb dX6_digest_284 rfl hl (by decide) rfl (fun ls hl => ?_)
    refine lv_ldc2 hx hb how (hts _ q1359) dX6_digest_285 ?_
    refine lv_lload_n hx hb dX6_digest_288 rfl (lv_at hl 0 rfl) ?_
    refine lv_lmul hx hb dX6_digest_289 ?_
    refine lv_aload_n hx hb dX6_digest_290 rfl (lv_at hl 1 rfl) ?_
    refine lv_bipush (v := 7) hx hb dX6_digest_291 (by decide) ?_
    refine lv_iconst (v := 0) hx hb dX6_digest_293 (by decide) ?_
    refine m_calli (As := [.int 7, .int 0]) (rest := [.long (31 * x9)]) C I (met6_marketOf l D T ad 7 0 M8 h) (cw6_301 hts ⟨Nat.le_of_ble_eq_true rfl, Nat.le_of_ble_eq_true rfl⟩) rfl hl.1 rfl (Nat.le_of_ble_eq_true rfl) ⟨Nat.zero_le _, Nat.zero_le _⟩ dX6_digest_294 (fun r10 M11 H locs h I => ?_)
    refine lv_i2l hx hb dX6_digest_297 rfl ?_
    refine lv_ladd hx hb dX6_digest_298 ?_
    refine lv_topl (fun x12 ex12 => ?_)
    have h := h x12 ex12
    refine lv_lstore_n (lv' := [(1, .long x12), (0, .ref (ad 0)), (3, .int v3)]) hx hb dX6_digest_299 rfl hl (by decide) rfl (fun ls hl => ?_)
    refine lv_ldc2 hx hb how (hts _ q1359) dX6_digest_300 ?_
    refine lv_lload_n hx hb dX6_digest_303 rfl (lv_at hl 0 rfl) ?_
    refine lv_lmul hx hb dX6_digest_304 ?_
    refine lv_aload_n hx hb dX6_digest_305 rfl (lv_at hl 1 rfl) ?_
    refine lv_bipush (v := 7) hx hb dX6_digest_306 (by decide) ?_
    refine lv_iconst (v := 1) hx hb dX6_digest_308 (by decide) ?_
    refine m_calli (As := [.int 7, .int 1]) (rest := [.long (31 * x12)]) C I (met6_marketOf l D T ad 7 1 M11 h) (cw6_301 hts ⟨Nat.le_of_ble_eq_true rfl, Nat.le_of_ble_eq_true rfl⟩) rfl hl.1 rfl (Nat.le_of_ble_eq_true rfl) ⟨Nat.zero_le _, Nat.zero_le _⟩ dX6_digest_309 (fun r13 M14 H locs h I => ?_)
    refine lv_i2l hx hb dX6_digest_312 rfl ?_
    refine lv_ladd hx hb dX6_digest_313 ?_
    exact hQ _ _ _ _ _ _ h I dX6_digest_314
  · have h := h.2 c
    refine lv_ldc2 hx hb how (hts _ q1359) dX6_digest_228 ?_
    refine lv_lload_n hx hb dX6_digest_231 rfl (lv_at hl 1 rfl) ?_
    refine lv_lmul hx hb dX6_digest_232 ?_
    refine lv_aload_n hx hb dX6_digest_233 rfl (lv_at hl 0 rfl) ?_
    refine lv_iload_n hx hb dX6_digest_234 rfl (lv_at hl 2 rfl) ?_
    refine m_calli (As := [.int v3]) (rest := [.long (31 * v1)]) C I (met6_lendBy l D T ad v3 M h) (cw6_247 hts ⟨Nat.le_of_ble_eq_true rfl, Nat.le_of_ble_eq_true rfl⟩) rfl hl.1 rfl (Nat.le_of_ble_eq_true rfl) ⟨Nat.zero_le _, Nat.zero_le _⟩ dX6_digest_235 (fun r15 M16 H locs h I => ?_)
    refine lv_i2l hx hb dX6_digest_238 rfl ?_
    refine lv_ladd hx hb dX6_digest_239 ?_
    refine lv_topl (fun x17 ex17 => ?_)
    have h := h x17 ex17
    refine lv_lstore_n (lv' := [(1, .long x17), (0, .ref (ad 0)), (3, .int v3)]) hx hb dX6_digest_240 rfl hl (by decide) rfl (fun ls hl => ?_)
    refine lv_iinc (v := (v3 + 1)) (lv' := [(3, .int (v3 + 1)), (1, .long x17), (0, .ref (ad 0))]) hx hb dX6_digest_241 hl (k := 2) rfl (ii_1 _) (by decide) rfl (fun ls hl => ?_)
    refine lv_goto (tgt := 223) hx hb dX6_digest_244 (by decide) ?_
    exact hK223 x17 (v3 + 1) M16 _ _ _ h I (lv_sub hl [2, 1, 0] rfl)
theorem t6_digest_b223 {p : Program} {l : Launch} {e : Env} {s : State} {m : MethodId} {args : Array Value} {below : List Frame} {meth : Method} {c : Code} {D : va_G} {T ad : Nat → Nat} {A : Nat → Prop} {H0 : Heap} {Qs : State → Prop} {Q : Int64 → Mem → Prop}  (C : MC D T p m c cX6_digest 4 s args) (hQ : mExl p l e rX6_digest s m args below meth c cX6_digest D T ad A H0 Qs Q)  : ∀ (n : Nat) (v1 : Int64) (v3 : Int32) (M : Mem) (H : Heap) (locs : List Loc) (ls : Array Slot), w6_digest_b223 Q n v1 v3 M → MI D T ad A H0 M H locs → lv_has ls 4 [(0, .ref (ad 0)), (1, .long v1), (3, .int v3)] → W p l e rX6_digest s m args below meth c H locs 0 0 Qs (F0 m 223 ls []) := by
  intro n
  induction n with
  | zero => intro v1 v3 M H locs ls h; exact h.elim
  | succ n ih => intro v1 v3 M H locs ls h I hl; exact t6_digest_b223_f C hQ  ih v1 v3 M H locs ls h I hl
theorem t6_digest_b160_f {p : Program} {l : Launch} {e : Env} {s : State} {m : MethodId} {args : Array Value} {below : List Frame} {meth : Method} {c : Code} {D : va_G} {T ad : Nat → Nat} {A : Nat → Prop} {H0 : Heap} {Qs : State → Prop} {Q : Int64 → Mem → Prop} {K160 : Int64 → Int32 → Mem → Prop} (C : MC D T p m c cX6_digest 4 s args) (hQ : mExl p l e rX6_digest s m args below meth c cX6_digest D T ad A H0 Qs Q) (hK160 : ∀ (v1 : Int64) (v3 : Int32) (M : Mem) (H : Heap) (locs : List Loc) (ls : Array Slot), K160 v1 v3 M → MI D T ad A H0 M H locs → lv_has ls 4 [(0, .ref (ad 0)), (1, .long v1), (3, .int v3)] → W p l e rX6_digest s m args below meth c H locs 0 0 Qs (F0 m 160 ls [])) (v1 : Int64) (v3 : Int32) (M : Mem) (H : Heap) (locs : List Loc) (ls : Array Slot) (h : w6_digest_b160_f Q K160 v1 v3 M) (I : MI D T ad A H0 M H locs) (hl : lv_has ls 4 [(0, .ref (ad 0)), (1, .long v1), (3, .int v3)]) : W p l e rX6_digest s m args below meth c H locs 0 0 Qs (F0 m 160 ls []) := by
  have hx := C.1.1
  have hb := C.1.2.1
  have how := C.1.2.2.2.1
  have hts := C.1.2.2.2.2
  unfold w6_digest_b160_f at h
  refine lv_iload_n hx hb dX6_digest_160 rfl (lv_at hl 2 rfl) ?_
  refine lv_bipush (v := 6) hx hb dX6_digest_161 (by decide) ?_
  refine lv_icmp_ge (tgt := 185) hx hb dX6_digest_163 (by decide) (fun c => ?_) (fun c => ?_)
  · have h := h.1 c
    refine lv_ldc2 hx hb how (hts _ q1359) dX6_digest_185 ?_
    refine lv_lload_n hx hb dX6_digest_188 rfl (lv_at hl 1 rfl) ?_
    refine lv_lmul hx hb dX6_digest_189 ?_
    refine lv_aload_n hx hb dX6_digest_190 rfl (lv_at hl 0 rfl) ?_
    refine mg_metOn C I dX6_digest_191 ?_
    refine lv_i2l hx hb dX6_digest_194 rfl ?_
    refine lv_ladd hx hb dX6_digest_195 ?_
    refine lv_topl (fun x18 ex18 => ?_)
    have h := h x18 ex18
    refine lv_lstore_n (lv' := [(1, .long x18), (0, .ref (ad 0)), (3, .int v3)]) hx hb dX6_digest_196 rfl hl (by decide) rfl (fun ls hl => ?_)
    refine lv_ldc2 hx hb how (hts _ q1359) dX6_digest_197 ?_
    refine lv_lload_n hx hb dX6_digest_200 rfl (lv_at hl 0 rfl) ?_
    refine lv_lmul hx hb dX6_digest_201 ?_
    refine lv_aload_n hx hb dX6_digest_202 rfl (lv_at hl 1 rfl) ?_
    refine mg_metAt C I dX6_digest_203 ?_
    refine lv_i2l hx hb dX6_digest_206 rfl ?_
    refine lv_ladd hx hb dX6_digest_207 ?_
    refine lv_topl (fun x19 ex19 => ?_)
    have h := h x19 ex19
    refine lv_lstore_n (lv' := [(1, .long x19), (0, .ref (ad 0)), (3, .int v3)]) hx hb dX6_digest_208 rfl hl (by decide) rfl (fun ls hl => ?_)
    refine lv_ldc2 hx hb how (hts _ q1359) dX6_digest_209 ?_
    refine lv_lload_n hx hb dX6_digest_212 rfl (lv_at hl 0 rfl) ?_
    refine lv_lmul hx hb dX6_digest_213 ?_
    refine lv_aload_n hx hb dX6_digest_214 rfl (lv_at hl 1 rfl) ?_
    refine m_calli (As := []) (rest := [.long (31 * x19)]) C I (met6_busiestNow l D T ad M h) (cw6_232 hts ⟨Nat.le_of_ble_eq_true rfl, Nat.le_of_ble_eq_true rfl⟩) rfl hl.1 rfl (Nat.le_of_ble_eq_true rfl) ⟨Nat.zero_le _, Nat.zero_le _⟩ dX6_digest_215 (fun r20 M21 H locs h I => ?_)
    refine lv_i2l hx hb dX6_digest_218 rfl ?_
    refine lv_ladd hx hb dX6_digest_219 ?_
    refine lv_topl (fun x22 ex22 => ?_)
    have h := h x22 ex22
    refine lv_lstore_n (lv' := [(1, .long x22), (0, .ref (ad 0)), (3, .int v3)]) hx hb dX6_digest_220 rfl hl (by decide) rfl (fun ls hl => ?_)
    refine lv_iconst (v := 0) hx hb dX6_digest_221 (by decide) ?_
    refine lv_istore_n (lv' := [(3, .int 0), (1, .long x22), (0, .ref (ad 0))]) hx hb dX6_digest_222 rfl hl (by decide) rfl (fun ls hl => ?_)
    obtain ⟨n, h⟩ := h
    exact t6_digest_b223 C hQ n x22 0 M21 _ _ _ h I (lv_sub hl [2, 1, 0] rfl)
  · have h := h.2 c
    refine lv_ldc2 hx hb how (hts _ q1359) dX6_digest_166 ?_
    refine lv_lload_n hx hb dX6_digest_169 rfl (lv_at hl 1 rfl) ?_
    refine lv_lmul hx hb dX6_digest_170 ?_
    refine lv_aload_n hx hb dX6_digest_171 rfl (lv_at hl 0 rfl) ?_
    refine lv_iload_n hx hb dX6_digest_172 rfl (lv_at hl 2 rfl) ?_
    refine m_calli (As := [.int v3]) (rest := [.long (31 * v1)]) C I (met6_whoBy l D T ad v3 M h) (cw6_226 hts ⟨Nat.le_of_ble_eq_true rfl, Nat.le_of_ble_eq_true rfl⟩) rfl hl.1 rfl (Nat.le_of_ble_eq_true rfl) ⟨Nat.zero_le _, Nat.zero_le _⟩ dX6_digest_173 (fun r23 M24 H locs h I => ?_)
    refine lv_i2l hx hb dX6_digest_176 rfl ?_
    refine lv_ladd hx hb dX6_digest_177 ?_
    refine lv_topl (fun x25 ex25 => ?_)
    have h := h x25 ex25
    refine lv_lstore_n (lv' := [(1, .long x25), (0, .ref (ad 0)), (3, .int v3)]) hx hb dX6_digest_178 rfl hl (by decide) rfl (fun ls hl => ?_)
    refine lv_iinc (v := (v3 + 1)) (lv' := [(3, .int (v3 + 1)), (1, .long x25), (0, .ref (ad 0))]) hx hb dX6_digest_179 hl (k := 2) rfl (ii_1 _) (by decide) rfl (fun ls hl => ?_)
    refine lv_goto (tgt := 160) hx hb dX6_digest_182 (by decide) ?_
    exact hK160 x25 (v3 + 1) M24 _ _ _ h I (lv_sub hl [2, 1, 0] rfl)
theorem t6_digest_b160 {p : Program} {l : Launch} {e : Env} {s : State} {m : MethodId} {args : Array Value} {below : List Frame} {meth : Method} {c : Code} {D : va_G} {T ad : Nat → Nat} {A : Nat → Prop} {H0 : Heap} {Qs : State → Prop} {Q : Int64 → Mem → Prop}  (C : MC D T p m c cX6_digest 4 s args) (hQ : mExl p l e rX6_digest s m args below meth c cX6_digest D T ad A H0 Qs Q)  : ∀ (n : Nat) (v1 : Int64) (v3 : Int32) (M : Mem) (H : Heap) (locs : List Loc) (ls : Array Slot), w6_digest_b160 Q n v1 v3 M → MI D T ad A H0 M H locs → lv_has ls 4 [(0, .ref (ad 0)), (1, .long v1), (3, .int v3)] → W p l e rX6_digest s m args below meth c H locs 0 0 Qs (F0 m 160 ls []) := by
  intro n
  induction n with
  | zero => intro v1 v3 M H locs ls h; exact h.elim
  | succ n ih => intro v1 v3 M H locs ls h I hl; exact t6_digest_b160_f C hQ  ih v1 v3 M H locs ls h I hl
theorem t6_digest_b133_f {p : Program} {l : Launch} {e : Env} {s : State} {m : MethodId} {args : Array Value} {below : List Frame} {meth : Method} {c : Code} {D : va_G} {T ad : Nat → Nat} {A : Nat → Prop} {H0 : Heap} {Qs : State → Prop} {Q : Int64 → Mem → Prop} {K133 : Int64 → Int32 → Mem → Prop} (C : MC D T p m c cX6_digest 4 s args) (hQ : mExl p l e rX6_digest s m args below meth c cX6_digest D T ad A H0 Qs Q) (hK133 : ∀ (v1 : Int64) (v3 : Int32) (M : Mem) (H : Heap) (locs : List Loc) (ls : Array Slot), K133 v1 v3 M → MI D T ad A H0 M H locs → lv_has ls 4 [(0, .ref (ad 0)), (1, .long v1), (3, .int v3)] → W p l e rX6_digest s m args below meth c H locs 0 0 Qs (F0 m 133 ls [])) (v1 : Int64) (v3 : Int32) (M : Mem) (H : Heap) (locs : List Loc) (ls : Array Slot) (h : w6_digest_b133_f Q K133 v1 v3 M) (I : MI D T ad A H0 M H locs) (hl : lv_has ls 4 [(0, .ref (ad 0)), (1, .long v1), (3, .int v3)]) : W p l e rX6_digest s m args below meth c H locs 0 0 Qs (F0 m 133 ls []) := by
  have hx := C.1.1
  have hb := C.1.2.1
  have how := C.1.2.2.2.1
  have hts := C.1.2.2.2.2
  unfold w6_digest_b133_f at h
  refine lv_iload_n hx hb dX6_digest_133 rfl (lv_at hl 2 rfl) ?_
  refine lv_aload_n hx hb dX6_digest_134 rfl (lv_at hl 0 rfl) ?_
  refine mg_carters C I dX6_digest_135 ?_
  refine lv_icmp_ge (tgt := 154) hx hb dX6_digest_138 (by decide) (fun c => ?_) (fun c => ?_)
  · have h := h.1 c
    refine lv_aload_n hx hb dX6_digest_154 rfl (lv_at hl 0 rfl) ?_
    refine m_callv (As := []) (rest := []) C I (met6_lives l D T ad M h) (cw6_215 hts ⟨Nat.le_of_ble_eq_true rfl, Nat.le_of_ble_eq_true rfl⟩) rfl hl.1 rfl (Nat.le_of_ble_eq_true rfl) ⟨Nat.zero_le _, Nat.zero_le _⟩ dX6_digest_155 (fun M26 H locs h I => ?_)
    refine lv_iconst (v := 2) hx hb dX6_digest_158 (by decide) ?_
    refine lv_istore_n (lv' := [(3, .int 2), (0, .ref (ad 0)), (1, .long v1)]) hx hb dX6_digest_159 rfl hl (by decide) rfl (fun ls hl => ?_)
    obtain ⟨n, h⟩ := h
    exact t6_digest_b160 C hQ n v1 2 M26 _ _ _ h I (lv_sub hl [1, 2, 0] rfl)
  · have h := h.2 c
    refine lv_aload_n hx hb dX6_digest_141 rfl (lv_at hl 0 rfl) ?_
    refine lv_lload_n hx hb dX6_digest_142 rfl (lv_at hl 1 rfl) ?_
    refine lv_iload_n hx hb dX6_digest_143 rfl (lv_at hl 2 rfl) ?_
    refine m_calll (As := [.long v1, .int v3]) (rest := []) C I (met6_tellsCarter l D T ad v1 v3 M h) (cw6_318 hts ⟨Nat.le_of_ble_eq_true rfl, Nat.le_of_ble_eq_true rfl⟩) rfl hl.1 rfl (Nat.le_of_ble_eq_true rfl) ⟨Nat.zero_le _, Nat.zero_le _⟩ dX6_digest_144 (fun r27 M28 H locs h I => ?_)
    refine lv_lstore_n (lv' := [(1, .long r27), (0, .ref (ad 0)), (3, .int v3)]) hx hb dX6_digest_147 rfl hl (by decide) rfl (fun ls hl => ?_)
    refine lv_iinc (v := (v3 + 1)) (lv' := [(3, .int (v3 + 1)), (1, .long r27), (0, .ref (ad 0))]) hx hb dX6_digest_148 hl (k := 2) rfl (ii_1 _) (by decide) rfl (fun ls hl => ?_)
    refine lv_goto (tgt := 133) hx hb dX6_digest_151 (by decide) ?_
    exact hK133 r27 (v3 + 1) M28 _ _ _ h I (lv_sub hl [2, 1, 0] rfl)
theorem t6_digest_b133 {p : Program} {l : Launch} {e : Env} {s : State} {m : MethodId} {args : Array Value} {below : List Frame} {meth : Method} {c : Code} {D : va_G} {T ad : Nat → Nat} {A : Nat → Prop} {H0 : Heap} {Qs : State → Prop} {Q : Int64 → Mem → Prop}  (C : MC D T p m c cX6_digest 4 s args) (hQ : mExl p l e rX6_digest s m args below meth c cX6_digest D T ad A H0 Qs Q)  : ∀ (n : Nat) (v1 : Int64) (v3 : Int32) (M : Mem) (H : Heap) (locs : List Loc) (ls : Array Slot), w6_digest_b133 Q n v1 v3 M → MI D T ad A H0 M H locs → lv_has ls 4 [(0, .ref (ad 0)), (1, .long v1), (3, .int v3)] → W p l e rX6_digest s m args below meth c H locs 0 0 Qs (F0 m 133 ls []) := by
  intro n
  induction n with
  | zero => intro v1 v3 M H locs ls h; exact h.elim
  | succ n ih => intro v1 v3 M H locs ls h I hl; exact t6_digest_b133_f C hQ  ih v1 v3 M H locs ls h I hl
theorem t6_digest_b91_f {p : Program} {l : Launch} {e : Env} {s : State} {m : MethodId} {args : Array Value} {below : List Frame} {meth : Method} {c : Code} {D : va_G} {T ad : Nat → Nat} {A : Nat → Prop} {H0 : Heap} {Qs : State → Prop} {Q : Int64 → Mem → Prop} {K91 : Int64 → Int32 → Mem → Prop} (C : MC D T p m c cX6_digest 4 s args) (hQ : mExl p l e rX6_digest s m args below meth c cX6_digest D T ad A H0 Qs Q) (hK91 : ∀ (v1 : Int64) (v3 : Int32) (M : Mem) (H : Heap) (locs : List Loc) (ls : Array Slot), K91 v1 v3 M → MI D T ad A H0 M H locs → lv_has ls 4 [(0, .ref (ad 0)), (1, .long v1), (3, .int v3)] → W p l e rX6_digest s m args below meth c H locs 0 0 Qs (F0 m 91 ls [])) (v1 : Int64) (v3 : Int32) (M : Mem) (H : Heap) (locs : List Loc) (ls : Array Slot) (h : w6_digest_b91_f Q K91 v1 v3 M) (I : MI D T ad A H0 M H locs) (hl : lv_has ls 4 [(0, .ref (ad 0)), (1, .long v1), (3, .int v3)]) : W p l e rX6_digest s m args below meth c H locs 0 0 Qs (F0 m 91 ls []) := by
  have hx := C.1.1
  have hb := C.1.2.1
  have how := C.1.2.2.2.1
  have hts := C.1.2.2.2.2
  unfold w6_digest_b91_f at h
  refine lv_iload_n hx hb dX6_digest_91 rfl (lv_at hl 2 rfl) ?_
  refine lv_bipush (v := 8) hx hb dX6_digest_92 (by decide) ?_
  refine lv_icmp_ge (tgt := 131) hx hb dX6_digest_94 (by decide) (fun c => ?_) (fun c => ?_)
  · have h := h.1 c
    refine lv_iconst (v := 0) hx hb dX6_digest_131 (by decide) ?_
    refine lv_istore_n (lv' := [(3, .int 0), (0, .ref (ad 0)), (1, .long v1)]) hx hb dX6_digest_132 rfl hl (by decide) rfl (fun ls hl => ?_)
    obtain ⟨n, h⟩ := h
    exact t6_digest_b133 C hQ n v1 0 M _ _ _ h I (lv_sub hl [1, 2, 0] rfl)
  · have h := h.2 c
    refine lv_ldc2 hx hb how (hts _ q1359) dX6_digest_97 ?_
    refine lv_lload_n hx hb dX6_digest_100 rfl (lv_at hl 1 rfl) ?_
    refine lv_lmul hx hb dX6_digest_101 ?_
    refine lv_aload_n hx hb dX6_digest_102 rfl (lv_at hl 0 rfl) ?_
    refine lv_iconst (v := 0) hx hb dX6_digest_103 (by decide) ?_
    refine lv_iload_n hx hb dX6_digest_104 rfl (lv_at hl 2 rfl) ?_
    refine m_calli (As := [.int 0, .int v3]) (rest := [.long (31 * v1)]) C I (met6_farBy l D T ad 0 v3 M h) (cw6_221 hts ⟨Nat.le_of_ble_eq_true rfl, Nat.le_of_ble_eq_true rfl⟩) rfl hl.1 rfl (Nat.le_of_ble_eq_true rfl) ⟨Nat.zero_le _, Nat.zero_le _⟩ dX6_digest_105 (fun r29 M30 H locs h I => ?_)
    refine lv_i2l hx hb dX6_digest_108 rfl ?_
    refine lv_ladd hx hb dX6_digest_109 ?_
    refine lv_topl (fun x31 ex31 => ?_)
    have h := h x31 ex31
    refine lv_lstore_n (lv' := [(1, .long x31), (0, .ref (ad 0)), (3, .int v3)]) hx hb dX6_digest_110 rfl hl (by decide) rfl (fun ls hl => ?_)
    refine lv_ldc2 hx hb how (hts _ q1359) dX6_digest_111 ?_
    refine lv_lload_n hx hb dX6_digest_114 rfl (lv_at hl 0 rfl) ?_
    refine lv_lmul hx hb dX6_digest_115 ?_
    refine lv_aload_n hx hb dX6_digest_116 rfl (lv_at hl 1 rfl) ?_
    refine lv_iload_n hx hb dX6_digest_117 rfl (lv_at hl 2 rfl) ?_
    refine lv_iconst (v := 3) hx hb dX6_digest_118 (by decide) ?_
    refine m_calli (As := [.int v3, .int 3]) (rest := [.long (31 * x31)]) C I (met6_farBy l D T ad v3 3 M30 h) (cw6_221 hts ⟨Nat.le_of_ble_eq_true rfl, Nat.le_of_ble_eq_true rfl⟩) rfl hl.1 rfl (Nat.le_of_ble_eq_true rfl) ⟨Nat.zero_le _, Nat.zero_le _⟩ dX6_digest_119 (fun r32 M33 H locs h I => ?_)
    refine lv_i2l hx hb dX6_digest_122 rfl ?_
    refine lv_ladd hx hb dX6_digest_123 ?_
    refine lv_topl (fun x34 ex34 => ?_)
    have h := h x34 ex34
    refine lv_lstore_n (lv' := [(1, .long x34), (0, .ref (ad 0)), (3, .int v3)]) hx hb dX6_digest_124 rfl hl (by decide) rfl (fun ls hl => ?_)
    refine lv_iinc (v := (v3 + 1)) (lv' := [(3, .int (v3 + 1)), (1, .long x34), (0, .ref (ad 0))]) hx hb dX6_digest_125 hl (k := 2) rfl (ii_1 _) (by decide) rfl (fun ls hl => ?_)
    refine lv_goto (tgt := 91) hx hb dX6_digest_128 (by decide) ?_
    exact hK91 x34 (v3 + 1) M33 _ _ _ h I (lv_sub hl [2, 1, 0] rfl)
theorem t6_digest_b91 {p : Program} {l : Launch} {e : Env} {s : State} {m : MethodId} {args : Array Value} {below : List Frame} {meth : Method} {c : Code} {D : va_G} {T ad : Nat → Nat} {A : Nat → Prop} {H0 : Heap} {Qs : State → Prop} {Q : Int64 → Mem → Prop}  (C : MC D T p m c cX6_digest 4 s args) (hQ : mExl p l e rX6_digest s m args below meth c cX6_digest D T ad A H0 Qs Q)  : ∀ (n : Nat) (v1 : Int64) (v3 : Int32) (M : Mem) (H : Heap) (locs : List Loc) (ls : Array Slot), w6_digest_b91 Q n v1 v3 M → MI D T ad A H0 M H locs → lv_has ls 4 [(0, .ref (ad 0)), (1, .long v1), (3, .int v3)] → W p l e rX6_digest s m args below meth c H locs 0 0 Qs (F0 m 91 ls []) := by
  intro n
  induction n with
  | zero => intro v1 v3 M H locs ls h; exact h.elim
  | succ n ih => intro v1 v3 M H locs ls h I hl; exact t6_digest_b91_f C hQ  ih v1 v3 M H locs ls h I hl
theorem t6_digest_b59_f {p : Program} {l : Launch} {e : Env} {s : State} {m : MethodId} {args : Array Value} {below : List Frame} {meth : Method} {c : Code} {D : va_G} {T ad : Nat → Nat} {A : Nat → Prop} {H0 : Heap} {Qs : State → Prop} {Q : Int64 → Mem → Prop} {K59 : Int64 → Int32 → Mem → Prop} (C : MC D T p m c cX6_digest 4 s args) (hQ : mExl p l e rX6_digest s m args below meth c cX6_digest D T ad A H0 Qs Q) (hK59 : ∀ (v1 : Int64) (v3 : Int32) (M : Mem) (H : Heap) (locs : List Loc) (ls : Array Slot), K59 v1 v3 M → MI D T ad A H0 M H locs → lv_has ls 4 [(0, .ref (ad 0)), (1, .long v1), (3, .int v3)] → W p l e rX6_digest s m args below meth c H locs 0 0 Qs (F0 m 59 ls [])) (v1 : Int64) (v3 : Int32) (M : Mem) (H : Heap) (locs : List Loc) (ls : Array Slot) (h : w6_digest_b59_f Q K59 v1 v3 M) (I : MI D T ad A H0 M H locs) (hl : lv_has ls 4 [(0, .ref (ad 0)), (1, .long v1), (3, .int v3)]) : W p l e rX6_digest s m args below meth c H locs 0 0 Qs (F0 m 59 ls []) := by
  have hx := C.1.1
  have hb := C.1.2.1
  have how := C.1.2.2.2.1
  have hts := C.1.2.2.2.2
  unfold w6_digest_b59_f at h
  refine lv_iload_n hx hb dX6_digest_59 rfl (lv_at hl 2 rfl) ?_
  refine lv_iconst (v := 4) hx hb dX6_digest_60 (by decide) ?_
  refine lv_aload_n hx hb dX6_digest_61 rfl (lv_at hl 0 rfl) ?_
  refine mg_ways C I dX6_digest_62 ?_
  refine lv_imul hx hb dX6_digest_65 ?_
  refine lv_icmp_ge (tgt := 89) hx hb dX6_digest_66 (by decide) (fun c => ?_) (fun c => ?_)
  · have h := h.1 c
    refine lv_iconst (v := 0) hx hb dX6_digest_89 (by decide) ?_
    refine lv_istore_n (lv' := [(3, .int 0), (0, .ref (ad 0)), (1, .long v1)]) hx hb dX6_digest_90 rfl hl (by decide) rfl (fun ls hl => ?_)
    obtain ⟨n, h⟩ := h
    exact t6_digest_b91 C hQ n v1 0 M _ _ _ h I (lv_sub hl [1, 2, 0] rfl)
  · have h := h.2 c
    refine lv_ldc2 hx hb how (hts _ q1359) dX6_digest_69 ?_
    refine lv_lload_n hx hb dX6_digest_72 rfl (lv_at hl 1 rfl) ?_
    refine lv_lmul hx hb dX6_digest_73 ?_
    refine lv_aload_n hx hb dX6_digest_74 rfl (lv_at hl 0 rfl) ?_
    refine mg_way C I dX6_digest_75 ?_
    refine lv_iload_n hx hb dX6_digest_78 rfl (lv_at hl 2 rfl) ?_
    obtain ⟨hg35, h⟩ := h
    refine m_iald C I 9 40 rfl (by decide) hg35 dX6_digest_79 ?_
    refine lv_i2l hx hb dX6_digest_80 rfl ?_
    refine lv_ladd hx hb dX6_digest_81 ?_
    refine lv_topl (fun x36 ex36 => ?_)
    have h := h x36 ex36
    refine lv_lstore_n (lv' := [(1, .long x36), (0, .ref (ad 0)), (3, .int v3)]) hx hb dX6_digest_82 rfl hl (by decide) rfl (fun ls hl => ?_)
    refine lv_iinc (v := (v3 + 1)) (lv' := [(3, .int (v3 + 1)), (1, .long x36), (0, .ref (ad 0))]) hx hb dX6_digest_83 hl (k := 2) rfl (ii_1 _) (by decide) rfl (fun ls hl => ?_)
    refine lv_goto (tgt := 59) hx hb dX6_digest_86 (by decide) ?_
    exact hK59 x36 (v3 + 1) M _ _ _ h I (lv_sub hl [2, 1, 0] rfl)
theorem t6_digest_b59 {p : Program} {l : Launch} {e : Env} {s : State} {m : MethodId} {args : Array Value} {below : List Frame} {meth : Method} {c : Code} {D : va_G} {T ad : Nat → Nat} {A : Nat → Prop} {H0 : Heap} {Qs : State → Prop} {Q : Int64 → Mem → Prop}  (C : MC D T p m c cX6_digest 4 s args) (hQ : mExl p l e rX6_digest s m args below meth c cX6_digest D T ad A H0 Qs Q)  : ∀ (n : Nat) (v1 : Int64) (v3 : Int32) (M : Mem) (H : Heap) (locs : List Loc) (ls : Array Slot), w6_digest_b59 Q n v1 v3 M → MI D T ad A H0 M H locs → lv_has ls 4 [(0, .ref (ad 0)), (1, .long v1), (3, .int v3)] → W p l e rX6_digest s m args below meth c H locs 0 0 Qs (F0 m 59 ls []) := by
  intro n
  induction n with
  | zero => intro v1 v3 M H locs ls h; exact h.elim
  | succ n ih => intro v1 v3 M H locs ls h I hl; exact t6_digest_b59_f C hQ  ih v1 v3 M H locs ls h I hl
theorem t6_digest_b6_f {p : Program} {l : Launch} {e : Env} {s : State} {m : MethodId} {args : Array Value} {below : List Frame} {meth : Method} {c : Code} {D : va_G} {T ad : Nat → Nat} {A : Nat → Prop} {H0 : Heap} {Qs : State → Prop} {Q : Int64 → Mem → Prop} {K6 : Int64 → Int32 → Mem → Prop} (C : MC D T p m c cX6_digest 4 s args) (hQ : mExl p l e rX6_digest s m args below meth c cX6_digest D T ad A H0 Qs Q) (hK6 : ∀ (v1 : Int64) (v3 : Int32) (M : Mem) (H : Heap) (locs : List Loc) (ls : Array Slot), K6 v1 v3 M → MI D T ad A H0 M H locs → lv_has ls 4 [(0, .ref (ad 0)), (1, .long v1), (3, .int v3)] → W p l e rX6_digest s m args below meth c H locs 0 0 Qs (F0 m 6 ls [])) (v1 : Int64) (v3 : Int32) (M : Mem) (H : Heap) (locs : List Loc) (ls : Array Slot) (h : w6_digest_b6_f Q K6 v1 v3 M) (I : MI D T ad A H0 M H locs) (hl : lv_has ls 4 [(0, .ref (ad 0)), (1, .long v1), (3, .int v3)]) : W p l e rX6_digest s m args below meth c H locs 0 0 Qs (F0 m 6 ls []) := by
  have hx := C.1.1
  have hb := C.1.2.1
  have how := C.1.2.2.2.1
  have hts := C.1.2.2.2.2
  unfold w6_digest_b6_f at h
  refine lv_iload_n hx hb dX6_digest_6 rfl (lv_at hl 2 rfl) ?_
  refine lv_bipush (v := 8) hx hb dX6_digest_7 (by decide) ?_
  refine lv_icmp_ge (tgt := 31) hx hb dX6_digest_9 (by decide) (fun c => ?_) (fun c => ?_)
  · have h := h.1 c
    refine lv_ldc2 hx hb how (hts _ q1359) dX6_digest_31 ?_
    refine lv_lload_n hx hb dX6_digest_34 rfl (lv_at hl 1 rfl) ?_
    refine lv_lmul hx hb dX6_digest_35 ?_
    refine lv_aload_n hx hb dX6_digest_36 rfl (lv_at hl 0 rfl) ?_
    refine lv_iconst (v := 0) hx hb dX6_digest_37 (by decide) ?_
    refine m_calli (As := [.int 0]) (rest := [.long (31 * v1)]) C I (met6_readsText l D T ad 0 M h) (cw6_146 hts ⟨Nat.le_of_ble_eq_true rfl, Nat.le_of_ble_eq_true rfl⟩) rfl hl.1 rfl (Nat.le_of_ble_eq_true rfl) ⟨Nat.zero_le _, Nat.zero_le _⟩ dX6_digest_38 (fun r37 M38 H locs h I => ?_)
    refine lv_i2l hx hb dX6_digest_41 rfl ?_
    refine lv_ladd hx hb dX6_digest_42 ?_
    refine lv_topl (fun x39 ex39 => ?_)
    have h := h x39 ex39
    refine lv_lstore_n (lv' := [(1, .long x39), (0, .ref (ad 0)), (3, .int v3)]) hx hb dX6_digest_43 rfl hl (by decide) rfl (fun ls hl => ?_)
    refine lv_ldc2 hx hb how (hts _ q1359) dX6_digest_44 ?_
    refine lv_lload_n hx hb dX6_digest_47 rfl (lv_at hl 0 rfl) ?_
    refine lv_lmul hx hb dX6_digest_48 ?_
    refine lv_aload_n hx hb dX6_digest_49 rfl (lv_at hl 1 rfl) ?_
    refine lv_iconst (v := 1) hx hb dX6_digest_50 (by decide) ?_
    refine m_calli (As := [.int 1]) (rest := [.long (31 * x39)]) C I (met6_readsText l D T ad 1 M38 h) (cw6_146 hts ⟨Nat.le_of_ble_eq_true rfl, Nat.le_of_ble_eq_true rfl⟩) rfl hl.1 rfl (Nat.le_of_ble_eq_true rfl) ⟨Nat.zero_le _, Nat.zero_le _⟩ dX6_digest_51 (fun r40 M41 H locs h I => ?_)
    refine lv_i2l hx hb dX6_digest_54 rfl ?_
    refine lv_ladd hx hb dX6_digest_55 ?_
    refine lv_topl (fun x42 ex42 => ?_)
    have h := h x42 ex42
    refine lv_lstore_n (lv' := [(1, .long x42), (0, .ref (ad 0)), (3, .int v3)]) hx hb dX6_digest_56 rfl hl (by decide) rfl (fun ls hl => ?_)
    refine lv_iconst (v := 0) hx hb dX6_digest_57 (by decide) ?_
    refine lv_istore_n (lv' := [(3, .int 0), (1, .long x42), (0, .ref (ad 0))]) hx hb dX6_digest_58 rfl hl (by decide) rfl (fun ls hl => ?_)
    obtain ⟨n, h⟩ := h
    exact t6_digest_b59 C hQ n x42 0 M41 _ _ _ h I (lv_sub hl [2, 1, 0] rfl)
  · have h := h.2 c
    refine lv_ldc2 hx hb how (hts _ q1359) dX6_digest_12 ?_
    refine lv_lload_n hx hb dX6_digest_15 rfl (lv_at hl 1 rfl) ?_
    refine lv_lmul hx hb dX6_digest_16 ?_
    refine lv_aload_n hx hb dX6_digest_17 rfl (lv_at hl 0 rfl) ?_
    refine lv_iload_n hx hb dX6_digest_18 rfl (lv_at hl 2 rfl) ?_
    refine m_calli (As := [.int v3]) (rest := [.long (31 * v1)]) C I (met6_count l D T ad v3 M h) (cw6_315 hts ⟨Nat.le_of_ble_eq_true rfl, Nat.le_of_ble_eq_true rfl⟩) rfl hl.1 rfl (Nat.le_of_ble_eq_true rfl) ⟨Nat.zero_le _, Nat.zero_le _⟩ dX6_digest_19 (fun r43 M44 H locs h I => ?_)
    refine lv_i2l hx hb dX6_digest_22 rfl ?_
    refine lv_ladd hx hb dX6_digest_23 ?_
    refine lv_topl (fun x45 ex45 => ?_)
    have h := h x45 ex45
    refine lv_lstore_n (lv' := [(1, .long x45), (0, .ref (ad 0)), (3, .int v3)]) hx hb dX6_digest_24 rfl hl (by decide) rfl (fun ls hl => ?_)
    refine lv_iinc (v := (v3 + 1)) (lv' := [(3, .int (v3 + 1)), (1, .long x45), (0, .ref (ad 0))]) hx hb dX6_digest_25 hl (k := 2) rfl (ii_1 _) (by decide) rfl (fun ls hl => ?_)
    refine lv_goto (tgt := 6) hx hb dX6_digest_28 (by decide) ?_
    exact hK6 x45 (v3 + 1) M44 _ _ _ h I (lv_sub hl [2, 1, 0] rfl)
theorem t6_digest_b6 {p : Program} {l : Launch} {e : Env} {s : State} {m : MethodId} {args : Array Value} {below : List Frame} {meth : Method} {c : Code} {D : va_G} {T ad : Nat → Nat} {A : Nat → Prop} {H0 : Heap} {Qs : State → Prop} {Q : Int64 → Mem → Prop}  (C : MC D T p m c cX6_digest 4 s args) (hQ : mExl p l e rX6_digest s m args below meth c cX6_digest D T ad A H0 Qs Q)  : ∀ (n : Nat) (v1 : Int64) (v3 : Int32) (M : Mem) (H : Heap) (locs : List Loc) (ls : Array Slot), w6_digest_b6 Q n v1 v3 M → MI D T ad A H0 M H locs → lv_has ls 4 [(0, .ref (ad 0)), (1, .long v1), (3, .int v3)] → W p l e rX6_digest s m args below meth c H locs 0 0 Qs (F0 m 6 ls []) := by
  intro n
  induction n with
  | zero => intro v1 v3 M H locs ls h; exact h.elim
  | succ n ih => intro v1 v3 M H locs ls h I hl; exact t6_digest_b6_f C hQ  ih v1 v3 M H locs ls h I hl
theorem t6_digest {p : Program} {l : Launch} {e : Env} {s : State} {m : MethodId} {args : Array Value} {below : List Frame} {meth : Method} {c : Code} {D : va_G} {T ad : Nat → Nat} {A : Nat → Prop} {H0 : Heap} {Qs : State → Prop} {Q : Int64 → Mem → Prop} (C : MC D T p m c cX6_digest 4 s args) (hQ : mExl p l e rX6_digest s m args below meth c cX6_digest D T ad A H0 Qs Q)  (M : Mem) (H : Heap) (locs : List Loc) (ls : Array Slot) (h : w6_digest M Q) (I : MI D T ad A H0 M H locs) (hl : lv_has ls 4 [(0, .ref (ad 0))]) : W p l e rX6_digest s m args below meth c H locs 0 0 Qs (F0 m 0 ls []) := by
  have hx := C.1.1
  have hb := C.1.2.1
  have how := C.1.2.2.2.1
  have hts := C.1.2.2.2.2
  unfold w6_digest at h
  refine lv_ldc2 hx hb how (hts _ q1358) dX6_digest_0 ?_
  refine lv_lstore_n (lv' := [(1, .long 17), (0, .ref (ad 0))]) hx hb dX6_digest_3 rfl hl (by decide) rfl (fun ls hl => ?_)
  refine lv_iconst (v := 0) hx hb dX6_digest_4 (by decide) ?_
  refine lv_istore_n (lv' := [(3, .int 0), (1, .long 17), (0, .ref (ad 0))]) hx hb dX6_digest_5 rfl hl (by decide) rfl (fun ls hl => ?_)
  obtain ⟨n, h⟩ := h
  exact t6_digest_b6 C hQ n 17 0 M _ _ _ h I (lv_sub hl [2, 1, 0] rfl)
theorem met6_digest (l : Launch) (D : va_G) (T ad : Nat → Nat)  (M : Mem) {Qp : Int64 → Mem → Prop} (h : w6_digest M Qp) (sz : Nat) : Met l yX6_digest (ws_ yX6_digest cX6_digest 4 (some .long)) rX6_digest (mPc D T ad [] M sz) (mQl D T ad M Qp sz) 0 0 (fA (cM T ad M) sz) :=
  m_metL (As := []) rfl rfl (Nat.le_of_ble_eq_true rfl) (fun p e s m args below meth c A Qs ls C hQ I hl => t6_digest C hQ M _ _ ls h I hl) sz
