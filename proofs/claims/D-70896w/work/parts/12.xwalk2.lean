/-! the system: walks, printed by gen.py -/
/-! farOf -/
abbrev rX0_farOf : Room := { frames := 7, cells := 0, slots := 0, locals := 157 }
theorem cw0_196 {R : Room} {s : State} {args : Array Value} (hts : ∀ w ∈ lw_all, w.before args s = true) (hR : rX0_measures.frames + 1 ≤ R.frames ∧ 8 + (5 + 11) + rX0_measures.locals ≤ R.locals) : CallW R s args RX0 RX0 196 yX0_measures cX0_measures 5 none (ws_ yX0_measures cX0_measures 5 none) rX0_measures 0 0 1 := cwV 1 hts (lw_V q268 q270 qs16 q89 q271) rfl rfl rfl (by decide +kernel) hR
theorem t0_farOf_b35 {p : Program} {l : Launch} {e : Env} {s : State} {m : MethodId} {args : Array Value} {below : List Frame} {meth : Method} {c : Code} {D : va_G} {T ad : Nat → Nat} {A : Nat → Prop} {H0 : Heap} {Qs : State → Prop} {Q : Int32 → Mem → Prop}  (C : XC D T RX0 p m c cX0_farOf 3 s args) (hQ : xExi p l e rX0_farOf s m args below meth c cX0_farOf D T ad A H0 Qs Q)  (s0 : Int32) (M : Mem) (H : Heap) (locs : List Loc) (ls : Array Slot) (h : w0_farOf_b35 Q s0 M) (I : XI D T ad A H0 M H locs) (hl : lv_has ls 3 [(0, .ref (ad 0))]) : W p l e rX0_farOf s m args below meth c H locs 0 0 Qs (F0 m 35 ls [.int s0]) := by
  have hx := C.1.1
  have hb := C.1.2.1
  have how := C.1.2.2.2.1
  have hts := C.1.2.2.2.2
  unfold w0_farOf_b35 at h
  exact hQ _ _ _ _ _ _ h I dX0_farOf_35
theorem t0_farOf {p : Program} {l : Launch} {e : Env} {s : State} {m : MethodId} {args : Array Value} {below : List Frame} {meth : Method} {c : Code} {D : va_G} {T ad : Nat → Nat} {A : Nat → Prop} {H0 : Heap} {Qs : State → Prop} {Q : Int32 → Mem → Prop} (C : XC D T RX0 p m c cX0_farOf 3 s args) (hQ : xExi p l e rX0_farOf s m args below meth c cX0_farOf D T ad A H0 Qs Q) (v1 : Int32) (v2 : Int32) (M : Mem) (H : Heap) (locs : List Loc) (ls : Array Slot) (h : w0_farOf v1 v2 M Q) (I : XI D T ad A H0 M H locs) (hl : lv_has ls 3 [(0, .ref (ad 0)), (1, .int v1), (2, .int v2)]) : W p l e rX0_farOf s m args below meth c H locs 0 0 Qs (F0 m 0 ls []) := by
  have hx := C.1.1
  have hb := C.1.2.1
  have how := C.1.2.2.2.1
  have hts := C.1.2.2.2.2
  unfold w0_farOf at h
  refine lv_aload_n hx hb dX0_farOf_0 rfl (lv_at hl 0 rfl) ?_
  refine x_callv (As := []) (rest := []) C I (fun ra => met0_reads l D T ad ra M h) (cw0_107 hts ⟨Nat.le_of_ble_eq_true rfl, Nat.le_of_ble_eq_true rfl⟩) rfl hl.1 rfl (Nat.le_of_ble_eq_true rfl) ⟨Nat.zero_le _, Nat.zero_le _⟩ dX0_farOf_1 (fun M1 H locs h I => ?_)
  refine lv_aload_n hx hb dX0_farOf_4 rfl (lv_at hl 0 rfl) ?_
  refine lv_iconst (v := -1) hx hb dX0_farOf_5 (by decide) ?_
  refine x_callv (As := [.int (-1)]) (rest := []) C I (fun ra => met0_measures l D T ad ra (-1) M1 h) (cw0_196 hts ⟨Nat.le_of_ble_eq_true rfl, Nat.le_of_ble_eq_true rfl⟩) rfl hl.1 rfl (Nat.le_of_ble_eq_true rfl) ⟨Nat.zero_le _, Nat.zero_le _⟩ dX0_farOf_6 (fun M2 H locs h I => ?_)
  refine lv_aload_n hx hb dX0_farOf_9 rfl (lv_at hl 0 rfl) ?_
  refine xg_farNow C I dX0_farOf_10 ?_
  refine lv_iload_n hx hb dX0_farOf_13 rfl (lv_at hl 1 rfl) ?_
  obtain ⟨hg3, h⟩ := h
  refine xa_farNow C I hg3 dX0_farOf_14 ?_
  refine lv_iload_n hx hb dX0_farOf_15 rfl (lv_at hl 2 rfl) ?_
  obtain ⟨hg4, h⟩ := h
  refine x_iald C I (50 + ci v1) (lenX (50 + ci v1)) rfl hg4 dX0_farOf_16 ?_
  refine lv_sipush (v := 9999) hx hb dX0_farOf_17 (by decide) ?_
  refine lv_icmp_ge (tgt := 34) hx hb dX0_farOf_20 (by decide) (fun c => ?_) (fun c => ?_)
  · have h := h.1 c
    refine lv_iconst (v := -1) hx hb dX0_farOf_34 (by decide) ?_
    exact t0_farOf_b35 C hQ (-1) M2 _ _ _ h I (lv_sub hl [0] rfl)
  · have h := h.2 c
    refine lv_aload_n hx hb dX0_farOf_23 rfl (lv_at hl 0 rfl) ?_
    refine xg_farNow C I dX0_farOf_24 ?_
    refine lv_iload_n hx hb dX0_farOf_27 rfl (lv_at hl 1 rfl) ?_
    refine xa_farNow C I hg3 dX0_farOf_28 ?_
    refine lv_iload_n hx hb dX0_farOf_29 rfl (lv_at hl 2 rfl) ?_
    refine x_iald C I (50 + ci v1) (lenX (50 + ci v1)) rfl hg4 dX0_farOf_30 ?_
    refine lv_goto (tgt := 35) hx hb dX0_farOf_31 (by decide) ?_
    exact t0_farOf_b35 C hQ (M2 (50 + ci v1) (ci v2)) M2 _ _ _ h I (lv_sub hl [0] rfl)
theorem met0_farOf (l : Launch) (D : va_G) (T ad ra : Nat → Nat) (v1 : Int32) (v2 : Int32) (M : Mem) {Qp : Int32 → Mem → Prop} (h : w0_farOf v1 v2 M Qp) (sz : Nat) : Met l yX0_farOf (ws_ yX0_farOf cX0_farOf 3 (some .int)) rX0_farOf (xPc D T ad ra 0 [.int v1, .int v2] M sz) (xQi D T ad ra M Qp sz) 0 0 (fA (cX T ad ra M) sz) :=
  x_metI (own := RX0) (As := [.int v1, .int v2]) rfl rfl (Nat.le_of_ble_eq_true rfl) (fun p e s m args below meth c A Qs ls C hQ I hl => t0_farOf C hQ v1 v2 M _ _ ls h I hl) sz
/-! far -/
abbrev rX0_far : Room := { frames := 8, cells := 0, slots := 0, locals := 179 }
theorem cw0_200 {R : Room} {s : State} {args : Array Value} (hts : ∀ w ∈ lw_all, w.before args s = true) (hR : rX0_farOf.frames + 1 ≤ R.frames ∧ 8 + (3 + 11) + rX0_farOf.locals ≤ R.locals) : CallW R s args RX0 RX0 200 yX0_farOf cX0_farOf 3 (some .int) (ws_ yX0_farOf cX0_farOf 3 (some .int)) rX0_farOf 0 0 2 := cwV 2 hts (lw_V q264 q266 qs15 q89 q267) rfl rfl rfl (by decide +kernel) hR
theorem t0_far_b25 {p : Program} {l : Launch} {e : Env} {s : State} {m : MethodId} {args : Array Value} {below : List Frame} {meth : Method} {c : Code} {D : va_G} {T ad : Nat → Nat} {A : Nat → Prop} {H0 : Heap} {Qs : State → Prop} {Q : Int32 → Mem → Prop}  (C : XC D T RX0 p m c cX0_far 3 s args) (hQ : xExi p l e rX0_far s m args below meth c cX0_far D T ad A H0 Qs Q)  (s0 : Int32) (M : Mem) (H : Heap) (locs : List Loc) (ls : Array Slot) (h : w0_far_b25 Q s0 M) (I : XI D T ad A H0 M H locs) (hl : lv_has ls 3 [(0, .ref (ad 0))]) : W p l e rX0_far s m args below meth c H locs 0 0 Qs (F0 m 25 ls [.int s0]) := by
  have hx := C.1.1
  have hb := C.1.2.1
  have how := C.1.2.2.2.1
  have hts := C.1.2.2.2.2
  unfold w0_far_b25 at h
  exact hQ _ _ _ _ _ _ h I dX0_far_25
theorem t0_far_b23 {p : Program} {l : Launch} {e : Env} {s : State} {m : MethodId} {args : Array Value} {below : List Frame} {meth : Method} {c : Code} {D : va_G} {T ad : Nat → Nat} {A : Nat → Prop} {H0 : Heap} {Qs : State → Prop} {Q : Int32 → Mem → Prop}  (C : XC D T RX0 p m c cX0_far 3 s args) (hQ : xExi p l e rX0_far s m args below meth c cX0_far D T ad A H0 Qs Q)   (M : Mem) (H : Heap) (locs : List Loc) (ls : Array Slot) (h : w0_far_b23 Q M) (I : XI D T ad A H0 M H locs) (hl : lv_has ls 3 [(0, .ref (ad 0))]) : W p l e rX0_far s m args below meth c H locs 0 0 Qs (F0 m 23 ls []) := by
  have hx := C.1.1
  have hb := C.1.2.1
  have how := C.1.2.2.2.1
  have hts := C.1.2.2.2.2
  unfold w0_far_b23 at h
  refine lv_bipush (v := -2) hx hb dX0_far_23 (by decide) ?_
  exact t0_far_b25 C hQ (-2) M _ _ _ h I (lv_sub hl [0] rfl)
theorem t0_far {p : Program} {l : Launch} {e : Env} {s : State} {m : MethodId} {args : Array Value} {below : List Frame} {meth : Method} {c : Code} {D : va_G} {T ad : Nat → Nat} {A : Nat → Prop} {H0 : Heap} {Qs : State → Prop} {Q : Int32 → Mem → Prop} (C : XC D T RX0 p m c cX0_far 3 s args) (hQ : xExi p l e rX0_far s m args below meth c cX0_far D T ad A H0 Qs Q) (v1 : Int32) (v2 : Int32) (M : Mem) (H : Heap) (locs : List Loc) (ls : Array Slot) (h : w0_far v1 v2 M Q) (I : XI D T ad A H0 M H locs) (hl : lv_has ls 3 [(0, .ref (ad 0)), (1, .int v1), (2, .int v2)]) : W p l e rX0_far s m args below meth c H locs 0 0 Qs (F0 m 0 ls []) := by
  have hx := C.1.1
  have hb := C.1.2.1
  have how := C.1.2.2.2.1
  have hts := C.1.2.2.2.2
  unfold w0_far at h
  refine lv_iload_n hx hb dX0_far_0 rfl (lv_at hl 1 rfl) ?_
  refine x_purei (As := [.int v1]) (rest := []) C I (met0_isPlace l v1 h) (cw0_29 hts ⟨Nat.le_of_ble_eq_true rfl, Nat.le_of_ble_eq_true rfl⟩) rfl hl.1 rfl (Nat.le_of_ble_eq_true rfl) ⟨Nat.zero_le _, Nat.zero_le _⟩ dX0_far_1 (fun r1 H locs h I => ?_)
  refine lv_if_eq (tgt := 23) hx hb dX0_far_4 (by decide) (fun c => ?_) (fun c => ?_)
  · have h := h.1 c
    exact t0_far_b23 C hQ M _ _ _ h I (lv_sub hl [0] rfl)
  · have h := h.2 c
    refine lv_iload_n hx hb dX0_far_7 rfl (lv_at hl 2 rfl) ?_
    refine x_purei (As := [.int v2]) (rest := []) C I (met0_isPlace l v2 h) (cw0_29 hts ⟨Nat.le_of_ble_eq_true rfl, Nat.le_of_ble_eq_true rfl⟩) rfl hl.1 rfl (Nat.le_of_ble_eq_true rfl) ⟨Nat.zero_le _, Nat.zero_le _⟩ dX0_far_8 (fun r2 H locs h I => ?_)
    refine lv_if_eq (tgt := 23) hx hb dX0_far_11 (by decide) (fun c => ?_) (fun c => ?_)
    · have h := h.1 c
      exact t0_far_b23 C hQ M _ _ _ h I (lv_sub hl [0] rfl)
    · have h := h.2 c
      refine lv_aload_n hx hb dX0_far_14 rfl (lv_at hl 0 rfl) ?_
      refine lv_iload_n hx hb dX0_far_15 rfl (lv_at hl 1 rfl) ?_
      refine lv_iload_n hx hb dX0_far_16 rfl (lv_at hl 2 rfl) ?_
      refine x_calli (As := [.int v1, .int v2]) (rest := []) C I (fun ra => met0_farOf l D T ad ra v1 v2 M h) (cw0_200 hts ⟨Nat.le_of_ble_eq_true rfl, Nat.le_of_ble_eq_true rfl⟩) rfl hl.1 rfl (Nat.le_of_ble_eq_true rfl) ⟨Nat.zero_le _, Nat.zero_le _⟩ dX0_far_17 (fun r3 M4 H locs h I => ?_)
      refine lv_goto (tgt := 25) hx hb dX0_far_20 (by decide) ?_
      exact t0_far_b25 C hQ r3 M4 _ _ _ h I (lv_sub hl [0] rfl)
theorem met0_far (l : Launch) (D : va_G) (T ad ra : Nat → Nat) (v1 : Int32) (v2 : Int32) (M : Mem) {Qp : Int32 → Mem → Prop} (h : w0_far v1 v2 M Qp) (sz : Nat) : Met l yX0_far (ws_ yX0_far cX0_far 3 (some .int)) rX0_far (xPc D T ad ra 0 [.int v1, .int v2] M sz) (xQi D T ad ra M Qp sz) 0 0 (fA (cX T ad ra M) sz) :=
  x_metI (own := RX0) (As := [.int v1, .int v2]) rfl rfl (Nat.le_of_ble_eq_true rfl) (fun p e s m args below meth c A Qs ls C hQ I hl => t0_far C hQ v1 v2 M _ _ ls h I hl) sz
/-! asTold -/
abbrev rX0_asTold : Room := { frames := 7, cells := 0, slots := 0, locals := 157 }
theorem t0_asTold {p : Program} {l : Launch} {e : Env} {s : State} {m : MethodId} {args : Array Value} {below : List Frame} {meth : Method} {c : Code} {D : va_G} {T ad : Nat → Nat} {A : Nat → Prop} {H0 : Heap} {Qs : State → Prop} {Q : Mem → Prop} (C : XC D T RX0 p m c cX0_asTold 1 s args) (hQ : xExv p l e rX0_asTold s m args below meth c cX0_asTold D T ad A H0 Qs Q)  (M : Mem) (H : Heap) (locs : List Loc) (ls : Array Slot) (h : w0_asTold M Q) (I : XI D T ad A H0 M H locs) (hl : lv_has ls 1 [(0, .ref (ad 0))]) : W p l e rX0_asTold s m args below meth c H locs 0 0 Qs (F0 m 0 ls []) := by
  have hx := C.1.1
  have hb := C.1.2.1
  have how := C.1.2.2.2.1
  have hts := C.1.2.2.2.2
  unfold w0_asTold at h
  refine lv_aload_n hx hb dX0_asTold_0 rfl (lv_at hl 0 rfl) ?_
  refine x_callv (As := []) (rest := []) C I (fun ra => met0_reads l D T ad ra M h) (cw0_107 hts ⟨Nat.le_of_ble_eq_true rfl, Nat.le_of_ble_eq_true rfl⟩) rfl hl.1 rfl (Nat.le_of_ble_eq_true rfl) ⟨Nat.zero_le _, Nat.zero_le _⟩ dX0_asTold_1 (fun M1 H locs h I => ?_)
  refine lv_aload_n hx hb dX0_asTold_4 rfl (lv_at hl 0 rfl) ?_
  refine lv_iconst (v := -1) hx hb dX0_asTold_5 (by decide) ?_
  refine x_callv (As := [.int (-1)]) (rest := []) C I (fun ra => met0_measures l D T ad ra (-1) M1 h) (cw0_196 hts ⟨Nat.le_of_ble_eq_true rfl, Nat.le_of_ble_eq_true rfl⟩) rfl hl.1 rfl (Nat.le_of_ble_eq_true rfl) ⟨Nat.zero_le _, Nat.zero_le _⟩ dX0_asTold_6 (fun M2 H locs h I => ?_)
  refine lv_aload_n hx hb dX0_asTold_9 rfl (lv_at hl 0 rfl) ?_
  refine lv_iconst (v := 0) hx hb dX0_asTold_10 (by decide) ?_
  refine xp_notAnswers C I dX0_asTold_11 (fun M3 H locs eM3 I => ?_)
  have h := h M3 eM3
  exact hQ _ _ _ _ _ h I dX0_asTold_14
theorem met0_asTold (l : Launch) (D : va_G) (T ad ra : Nat → Nat)  (M : Mem) {Qp : Mem → Prop} (h : w0_asTold M Qp) (sz : Nat) : Met l yX0_asTold (ws_ yX0_asTold cX0_asTold 1 none) rX0_asTold (xPc D T ad ra 0 [] M sz) (xQv D T ad ra M Qp sz) 0 0 (fA (cX T ad ra M) sz) :=
  x_metV (own := RX0) (As := []) rfl rfl (Nat.le_of_ble_eq_true rfl) (fun p e s m args below meth c A Qs ls C hQ I hl => t0_asTold C hQ M _ _ ls h I hl) sz
/-! begins -/
abbrev rX5_begins : Room := { frames := 0, cells := 0, slots := 0, locals := 0 }
theorem t5_begins {p : Program} {l : Launch} {e : Env} {s : State} {m : MethodId} {args : Array Value} {below : List Frame} {meth : Method} {c : Code} {D : va_G} {T ad : Nat → Nat} {A : Nat → Prop} {H0 : Heap} {Qs : State → Prop} {o : Nat} {Q : Mem → Prop} (C : XC D T RX5 p m c cX5_begins 1 s args) (hQ : xExv p l e rX5_begins s m args below meth c cX5_begins D T ad A H0 Qs Q) (ho : isCar o)  (M : Mem) (H : Heap) (locs : List Loc) (ls : Array Slot) (h : w5_begins o M Q) (I : XI D T ad A H0 M H locs) (hl : lv_has ls 1 [(0, .ref (ad o))]) : W p l e rX5_begins s m args below meth c H locs 0 0 Qs (F0 m 0 ls []) := by
  have hx := C.1.1
  have hb := C.1.2.1
  have how := C.1.2.2.2.1
  have hts := C.1.2.2.2.2
  unfold w5_begins at h
  refine lv_aload_n hx hb dX5_begins_0 rfl (lv_at hl 0 rfl) ?_
  refine lv_iconst (v := 0) hx hb dX5_begins_1 (by decide) ?_
  refine xcp5_is C I ho dX5_begins_2 (fun M1 H locs eM1 I => ?_)
  have h := h M1 eM1
  refine lv_aload_n hx hb dX5_begins_5 rfl (lv_at hl 0 rfl) ?_
  refine lv_iconst (v := -1) hx hb dX5_begins_6 (by decide) ?_
  refine xcp5_place C I ho dX5_begins_7 (fun M2 H locs eM2 I => ?_)
  have h := h M2 eM2
  refine lv_aload_n hx hb dX5_begins_10 rfl (lv_at hl 0 rfl) ?_
  refine lv_aload_n hx hb dX5_begins_11 rfl (lv_at hl 0 rfl) ?_
  refine xcg5_strength C I ho dX5_begins_12 ?_
  refine xcp5_left C I ho dX5_begins_15 (fun M3 H locs eM3 I => ?_)
  have h := h M3 eM3
  refine lv_aload_n hx hb dX5_begins_18 rfl (lv_at hl 0 rfl) ?_
  refine lv_aload_n hx hb dX5_begins_19 rfl (lv_at hl 0 rfl) ?_
  refine xcg5_from C I ho dX5_begins_20 ?_
  refine xcp5_whither C I ho dX5_begins_23 (fun M4 H locs eM4 I => ?_)
  have h := h M4 eM4
  refine lv_aload_n hx hb dX5_begins_26 rfl (lv_at hl 0 rfl) ?_
  refine lv_aload_n hx hb dX5_begins_27 rfl (lv_at hl 0 rfl) ?_
  refine xcg5_late C I ho dX5_begins_28 ?_
  refine xcp5_arrives C I ho dX5_begins_31 (fun M5 H locs eM5 I => ?_)
  have h := h M5 eM5
  refine lv_aload_n hx hb dX5_begins_34 rfl (lv_at hl 0 rfl) ?_
  refine lv_iconst (v := -1) hx hb dX5_begins_35 (by decide) ?_
  refine xcp5_ended C I ho dX5_begins_36 (fun M6 H locs eM6 I => ?_)
  have h := h M6 eM6
  exact hQ _ _ _ _ _ h I dX5_begins_39
theorem met5_begins (l : Launch) (D : va_G) (T ad ra : Nat → Nat) (o : Nat)  (M : Mem) {Qp : Mem → Prop} (h : w5_begins o M Qp) (ho : isCar o) (sz : Nat) : Met l yX5_begins (ws_ yX5_begins cX5_begins 1 none) rX5_begins (xPc D T ad ra o [] M sz) (xQv D T ad ra M Qp sz) 0 0 (fA (cX T ad ra M) sz) :=
  x_metV (own := RX5) (As := []) rfl rfl (Nat.le_of_ble_eq_true rfl) (fun p e s m args below meth c A Qs ls C hQ I hl => t5_begins C hQ ho M _ _ ls h I hl) sz
/-! begins -/
abbrev rX0_begins : Room := { frames := 1, cells := 0, slots := 0, locals := 20 }
theorem cw0_209 {R : Room} {s : State} {args : Array Value} (hts : ∀ w ∈ lw_all, w.before args s = true) (hR : rX5_begins.frames + 1 ≤ R.frames ∧ 8 + (1 + 11) + rX5_begins.locals ≤ R.locals) : CallW R s args RX0 RX5 209 yX5_begins cX5_begins 1 none (ws_ yX5_begins cX5_begins 1 none) rX5_begins 0 0 0 := cwV 0 hts (lw_V q302 q303 q304 q94 q305) rfl rfl rfl (by decide +kernel) hR
theorem t0_begins_b27_f {p : Program} {l : Launch} {e : Env} {s : State} {m : MethodId} {args : Array Value} {below : List Frame} {meth : Method} {c : Code} {D : va_G} {T ad : Nat → Nat} {A : Nat → Prop} {H0 : Heap} {Qs : State → Prop} {Q : Mem → Prop} {K27 : Int32 → Mem → Prop} (C : XC D T RX0 p m c cX0_begins 2 s args) (hQ : xExv p l e rX0_begins s m args below meth c cX0_begins D T ad A H0 Qs Q) (hK27 : ∀ (v1 : Int32) (M : Mem) (H : Heap) (locs : List Loc) (ls : Array Slot), K27 v1 M → XI D T ad A H0 M H locs → lv_has ls 2 [(0, .ref (ad 0)), (1, .int v1)] → W p l e rX0_begins s m args below meth c H locs 0 0 Qs (F0 m 27 ls [])) (v1 : Int32) (M : Mem) (H : Heap) (locs : List Loc) (ls : Array Slot) (h : w0_begins_b27_f Q K27 v1 M) (I : XI D T ad A H0 M H locs) (hl : lv_has ls 2 [(0, .ref (ad 0)), (1, .int v1)]) : W p l e rX0_begins s m args below meth c H locs 0 0 Qs (F0 m 27 ls []) := by
  have hx := C.1.1
  have hb := C.1.2.1
  have how := C.1.2.2.2.1
  have hts := C.1.2.2.2.2
  unfold w0_begins_b27_f at h
  refine lv_iload_n hx hb dX0_begins_27 rfl (lv_at hl 1 rfl) ?_
  refine lv_bipush (v := 8) hx hb dX0_begins_28 (by decide) ?_
  refine lv_icmp_ge (tgt := 46) hx hb dX0_begins_30 (by decide) (fun c => ?_) (fun c => ?_)
  · have h := h.1 c
    refine lv_aload_n hx hb dX0_begins_46 rfl (lv_at hl 0 rfl) ?_
    refine lv_iconst (v := -1) hx hb dX0_begins_47 (by decide) ?_
    refine xp_metHour C I dX0_begins_48 (fun M1 H locs eM1 I => ?_)
    have h := h M1 eM1
    refine lv_aload_n hx hb dX0_begins_51 rfl (lv_at hl 0 rfl) ?_
    refine lv_iconst (v := -1) hx hb dX0_begins_52 (by decide) ?_
    refine xp_metPlace C I dX0_begins_53 (fun M2 H locs eM2 I => ?_)
    have h := h M2 eM2
    exact hQ _ _ _ _ _ h I dX0_begins_56
  · have h := h.2 c
    refine lv_aload_n hx hb dX0_begins_33 rfl (lv_at hl 0 rfl) ?_
    refine xg_arrivals C I dX0_begins_34 ?_
    refine lv_iload_n hx hb dX0_begins_37 rfl (lv_at hl 1 rfl) ?_
    refine lv_iconst (v := 0) hx hb dX0_begins_38 (by decide) ?_
    obtain ⟨hg3, h⟩ := h
    refine x_iast C I 17 8 rfl hg3 dX0_begins_39 (fun M4 H locs eM4 I => ?_)
    have h := h M4 eM4
    refine lv_iinc (v := (v1 + 1)) (lv' := [(1, .int (v1 + 1)), (0, .ref (ad 0))]) hx hb dX0_begins_40 hl (k := 1) rfl (ii_1 _) (by decide) rfl (fun ls hl => ?_)
    refine lv_goto (tgt := 27) hx hb dX0_begins_43 (by decide) ?_
    exact hK27 (v1 + 1) M4 _ _ _ h I (lv_sub hl [1, 0] rfl)
theorem t0_begins_b27 {p : Program} {l : Launch} {e : Env} {s : State} {m : MethodId} {args : Array Value} {below : List Frame} {meth : Method} {c : Code} {D : va_G} {T ad : Nat → Nat} {A : Nat → Prop} {H0 : Heap} {Qs : State → Prop} {Q : Mem → Prop}  (C : XC D T RX0 p m c cX0_begins 2 s args) (hQ : xExv p l e rX0_begins s m args below meth c cX0_begins D T ad A H0 Qs Q)  : ∀ (n : Nat) (v1 : Int32) (M : Mem) (H : Heap) (locs : List Loc) (ls : Array Slot), w0_begins_b27 Q n v1 M → XI D T ad A H0 M H locs → lv_has ls 2 [(0, .ref (ad 0)), (1, .int v1)] → W p l e rX0_begins s m args below meth c H locs 0 0 Qs (F0 m 27 ls []) := by
  intro n
  induction n with
  | zero => intro v1 M H locs ls h; exact h.elim
  | succ n ih => intro v1 M H locs ls h I hl; exact t0_begins_b27_f C hQ  ih v1 M H locs ls h I hl
theorem t0_begins_b2_f {p : Program} {l : Launch} {e : Env} {s : State} {m : MethodId} {args : Array Value} {below : List Frame} {meth : Method} {c : Code} {D : va_G} {T ad : Nat → Nat} {A : Nat → Prop} {H0 : Heap} {Qs : State → Prop} {Q : Mem → Prop} {K2 : Int32 → Mem → Prop} (C : XC D T RX0 p m c cX0_begins 2 s args) (hQ : xExv p l e rX0_begins s m args below meth c cX0_begins D T ad A H0 Qs Q) (hK2 : ∀ (v1 : Int32) (M : Mem) (H : Heap) (locs : List Loc) (ls : Array Slot), K2 v1 M → XI D T ad A H0 M H locs → lv_has ls 2 [(0, .ref (ad 0)), (1, .int v1)] → W p l e rX0_begins s m args below meth c H locs 0 0 Qs (F0 m 2 ls [])) (v1 : Int32) (M : Mem) (H : Heap) (locs : List Loc) (ls : Array Slot) (h : w0_begins_b2_f Q K2 v1 M) (I : XI D T ad A H0 M H locs) (hl : lv_has ls 2 [(0, .ref (ad 0)), (1, .int v1)]) : W p l e rX0_begins s m args below meth c H locs 0 0 Qs (F0 m 2 ls []) := by
  have hx := C.1.1
  have hb := C.1.2.1
  have how := C.1.2.2.2.1
  have hts := C.1.2.2.2.2
  unfold w0_begins_b2_f at h
  refine lv_iload_n hx hb dX0_begins_2 rfl (lv_at hl 1 rfl) ?_
  refine lv_aload_n hx hb dX0_begins_3 rfl (lv_at hl 0 rfl) ?_
  refine xg_carters C I dX0_begins_4 ?_
  refine lv_icmp_ge (tgt := 25) hx hb dX0_begins_7 (by decide) (fun c => ?_) (fun c => ?_)
  · have h := h.1 c
    refine lv_iconst (v := 0) hx hb dX0_begins_25 (by decide) ?_
    refine lv_istore_n (lv' := [(1, .int 0), (0, .ref (ad 0))]) hx hb dX0_begins_26 rfl hl (by decide) rfl (fun ls hl => ?_)
    obtain ⟨n, h⟩ := h
    exact t0_begins_b27 C hQ n 0 M _ _ _ h I (lv_sub hl [1, 0] rfl)
  · have h := h.2 c
    refine lv_aload_n hx hb dX0_begins_10 rfl (lv_at hl 0 rfl) ?_
    refine xg_all C I dX0_begins_11 ?_
    refine lv_iload_n hx hb dX0_begins_14 rfl (lv_at hl 1 rfl) ?_
    obtain ⟨hg5, h⟩ := h
    refine xa_all C I hg5 dX0_begins_15 ?_
    refine x_callCv (As := []) (rest := []) C I (isCar_of hg5) (fun ra => met5_begins l D T ad ra (30 + ci v1) M h (isCar_of hg5)) (cw0_209 hts ⟨Nat.le_of_ble_eq_true rfl, Nat.le_of_ble_eq_true rfl⟩) rfl hl.1 rfl (Nat.le_of_ble_eq_true rfl) ⟨Nat.zero_le _, Nat.zero_le _⟩ dX0_begins_16 (fun M6 H locs h I => ?_)
    refine lv_iinc (v := (v1 + 1)) (lv' := [(1, .int (v1 + 1)), (0, .ref (ad 0))]) hx hb dX0_begins_19 hl (k := 1) rfl (ii_1 _) (by decide) rfl (fun ls hl => ?_)
    refine lv_goto (tgt := 2) hx hb dX0_begins_22 (by decide) ?_
    exact hK2 (v1 + 1) M6 _ _ _ h I (lv_sub hl [1, 0] rfl)
theorem t0_begins_b2 {p : Program} {l : Launch} {e : Env} {s : State} {m : MethodId} {args : Array Value} {below : List Frame} {meth : Method} {c : Code} {D : va_G} {T ad : Nat → Nat} {A : Nat → Prop} {H0 : Heap} {Qs : State → Prop} {Q : Mem → Prop}  (C : XC D T RX0 p m c cX0_begins 2 s args) (hQ : xExv p l e rX0_begins s m args below meth c cX0_begins D T ad A H0 Qs Q)  : ∀ (n : Nat) (v1 : Int32) (M : Mem) (H : Heap) (locs : List Loc) (ls : Array Slot), w0_begins_b2 Q n v1 M → XI D T ad A H0 M H locs → lv_has ls 2 [(0, .ref (ad 0)), (1, .int v1)] → W p l e rX0_begins s m args below meth c H locs 0 0 Qs (F0 m 2 ls []) := by
  intro n
  induction n with
  | zero => intro v1 M H locs ls h; exact h.elim
  | succ n ih => intro v1 M H locs ls h I hl; exact t0_begins_b2_f C hQ  ih v1 M H locs ls h I hl
theorem t0_begins {p : Program} {l : Launch} {e : Env} {s : State} {m : MethodId} {args : Array Value} {below : List Frame} {meth : Method} {c : Code} {D : va_G} {T ad : Nat → Nat} {A : Nat → Prop} {H0 : Heap} {Qs : State → Prop} {Q : Mem → Prop} (C : XC D T RX0 p m c cX0_begins 2 s args) (hQ : xExv p l e rX0_begins s m args below meth c cX0_begins D T ad A H0 Qs Q)  (M : Mem) (H : Heap) (locs : List Loc) (ls : Array Slot) (h : w0_begins M Q) (I : XI D T ad A H0 M H locs) (hl : lv_has ls 2 [(0, .ref (ad 0))]) : W p l e rX0_begins s m args below meth c H locs 0 0 Qs (F0 m 0 ls []) := by
  have hx := C.1.1
  have hb := C.1.2.1
  have how := C.1.2.2.2.1
  have hts := C.1.2.2.2.2
  unfold w0_begins at h
  refine lv_iconst (v := 0) hx hb dX0_begins_0 (by decide) ?_
  refine lv_istore_n (lv' := [(1, .int 0), (0, .ref (ad 0))]) hx hb dX0_begins_1 rfl hl (by decide) rfl (fun ls hl => ?_)
  obtain ⟨n, h⟩ := h
  exact t0_begins_b2 C hQ n 0 M _ _ _ h I (lv_sub hl [1, 0] rfl)
theorem met0_begins (l : Launch) (D : va_G) (T ad ra : Nat → Nat)  (M : Mem) {Qp : Mem → Prop} (h : w0_begins M Qp) (sz : Nat) : Met l yX0_begins (ws_ yX0_begins cX0_begins 2 none) rX0_begins (xPc D T ad ra 0 [] M sz) (xQv D T ad ra M Qp sz) 0 0 (fA (cX T ad ra M) sz) :=
  x_metV (own := RX0) (As := []) rfl rfl (Nat.le_of_ble_eq_true rfl) (fun p e s m args below meth c A Qs ls C hQ I hl => t0_begins C hQ M _ _ ls h I hl) sz
/-! doesArrive -/
abbrev rX0_doesArrive : Room := { frames := 0, cells := 0, slots := 0, locals := 0 }
theorem t0_doesArrive_b21 {p : Program} {l : Launch} {e : Env} {s : State} {m : MethodId} {args : Array Value} {below : List Frame} {meth : Method} {c : Code} {D : va_G} {T ad : Nat → Nat} {A : Nat → Prop} {H0 : Heap} {Qs : State → Prop} {Q : Int32 → Mem → Prop}  (C : XC D T RX0 p m c cX0_doesArrive 3 s args) (hQ : xExi p l e rX0_doesArrive s m args below meth c cX0_doesArrive D T ad A H0 Qs Q)  (s0 : Int32) (M : Mem) (H : Heap) (locs : List Loc) (ls : Array Slot) (h : w0_doesArrive_b21 Q s0 M) (I : XI D T ad A H0 M H locs) (hl : lv_has ls 3 [(0, .ref (ad 0))]) : W p l e rX0_doesArrive s m args below meth c H locs 0 0 Qs (F0 m 21 ls [.int s0]) := by
  have hx := C.1.1
  have hb := C.1.2.1
  have how := C.1.2.2.2.1
  have hts := C.1.2.2.2.2
  unfold w0_doesArrive_b21 at h
  exact hQ _ _ _ _ _ _ h I dX0_doesArrive_21
theorem t0_doesArrive_b20 {p : Program} {l : Launch} {e : Env} {s : State} {m : MethodId} {args : Array Value} {below : List Frame} {meth : Method} {c : Code} {D : va_G} {T ad : Nat → Nat} {A : Nat → Prop} {H0 : Heap} {Qs : State → Prop} {Q : Int32 → Mem → Prop}  (C : XC D T RX0 p m c cX0_doesArrive 3 s args) (hQ : xExi p l e rX0_doesArrive s m args below meth c cX0_doesArrive D T ad A H0 Qs Q)   (M : Mem) (H : Heap) (locs : List Loc) (ls : Array Slot) (h : w0_doesArrive_b20 Q M) (I : XI D T ad A H0 M H locs) (hl : lv_has ls 3 [(0, .ref (ad 0))]) : W p l e rX0_doesArrive s m args below meth c H locs 0 0 Qs (F0 m 20 ls []) := by
  have hx := C.1.1
  have hb := C.1.2.1
  have how := C.1.2.2.2.1
  have hts := C.1.2.2.2.2
  unfold w0_doesArrive_b20 at h
  refine lv_iconst (v := 0) hx hb dX0_doesArrive_20 (by decide) ?_
  exact t0_doesArrive_b21 C hQ 0 M _ _ _ h I (lv_sub hl [0] rfl)
theorem t0_doesArrive {p : Program} {l : Launch} {e : Env} {s : State} {m : MethodId} {args : Array Value} {below : List Frame} {meth : Method} {c : Code} {D : va_G} {T ad : Nat → Nat} {A : Nat → Prop} {H0 : Heap} {Qs : State → Prop} {Q : Int32 → Mem → Prop} (C : XC D T RX0 p m c cX0_doesArrive 3 s args) (hQ : xExi p l e rX0_doesArrive s m args below meth c cX0_doesArrive D T ad A H0 Qs Q) (v1 : Nat) (v2 : Int32) (M : Mem) (H : Heap) (locs : List Loc) (ls : Array Slot) (h : w0_doesArrive_z v1 v2 M Q) (I : XI D T ad A H0 M H locs) (hl : lv_has ls 3 [(0, .ref (ad 0)), (1, .ref (ad v1)), (2, .int v2)]) : W p l e rX0_doesArrive s m args below meth c H locs 0 0 Qs (F0 m 0 ls []) := by
  have hx := C.1.1
  have hb := C.1.2.1
  have how := C.1.2.2.2.1
  have hts := C.1.2.2.2.2
  unfold w0_doesArrive_z at h
  refine lv_aload_n hx hb dX0_doesArrive_0 rfl (lv_at hl 1 rfl) ?_
  obtain ⟨hg1, h⟩ := h
  refine xcg0_is C I hg1 dX0_doesArrive_1 ?_
  refine lv_iconst (v := 2) hx hb dX0_doesArrive_4 (by decide) ?_
  refine lv_icmp_ge (tgt := 20) hx hb dX0_doesArrive_5 (by decide) (fun c => ?_) (fun c => ?_)
  · have h := h.1 c
    exact t0_doesArrive_b20 C hQ M _ _ _ h I (lv_sub hl [0] rfl)
  · have h := h.2 c
    refine lv_aload_n hx hb dX0_doesArrive_8 rfl (lv_at hl 1 rfl) ?_
    refine xcg0_arrives C I hg1 dX0_doesArrive_9 ?_
    refine lv_iload_n hx hb dX0_doesArrive_12 rfl (lv_at hl 2 rfl) ?_
    refine lv_icmp_ne (tgt := 20) hx hb dX0_doesArrive_13 (by decide) (fun c => ?_) (fun c => ?_)
    · have h := h.2 c
      exact t0_doesArrive_b20 C hQ M _ _ _ h I (lv_sub hl [0] rfl)
    · have h := h.1 c
      refine lv_iconst (v := 1) hx hb dX0_doesArrive_16 (by decide) ?_
      refine lv_goto (tgt := 21) hx hb dX0_doesArrive_17 (by decide) ?_
      exact t0_doesArrive_b21 C hQ 1 M _ _ _ h I (lv_sub hl [0] rfl)
theorem met0_doesArrive (l : Launch) (D : va_G) (T ad ra : Nat → Nat) (v1 : Nat) (v2 : Int32) (M : Mem) {Qp : Int32 → Mem → Prop} (h : w0_doesArrive v1 v2 M Qp) (sz : Nat) : Met l yX0_doesArrive (ws_ yX0_doesArrive cX0_doesArrive 3 (some .boolean)) rX0_doesArrive (xPc D T ad ra 0 [.ref (ad v1), .int v2] M sz) (xQi D T ad ra M Qp sz) 0 0 (fA (cX T ad ra M) sz) :=
  x_metZ (own := RX0) (As := [.ref (ad v1), .int v2]) rfl rfl (Nat.le_of_ble_eq_true rfl) (fun p e s m args below meth c A Qs ls C hQ I hl => t0_doesArrive C hQ v1 v2 M _ _ ls h I hl) sz
/-! counts -/
abbrev rX0_counts : Room := { frames := 1, cells := 0, slots := 0, locals := 22 }
theorem cw0_230 {R : Room} {s : State} {args : Array Value} (hts : ∀ w ∈ lw_all, w.before args s = true) (hR : rX0_doesArrive.frames + 1 ≤ R.frames ∧ 8 + (3 + 11) + rX0_doesArrive.locals ≤ R.locals) : CallW R s args RX0 RX0 230 yX0_doesArrive cX0_doesArrive 3 (some .boolean) (ws_ yX0_doesArrive cX0_doesArrive 3 (some .boolean)) rX0_doesArrive 0 0 2 := cwV 2 hts (lw_V q314 q316 qs24 q89 q317) rfl rfl rfl (by decide +kernel) hR
theorem t0_counts_b163 {p : Program} {l : Launch} {e : Env} {s : State} {m : MethodId} {args : Array Value} {below : List Frame} {meth : Method} {c : Code} {D : va_G} {T ad : Nat → Nat} {A : Nat → Prop} {H0 : Heap} {Qs : State → Prop} {Q : Mem → Prop} {K98 : Int32 → Int32 → Mem → Prop} (C : XC D T RX0 p m c cX0_counts 4 s args) (hQ : xExv p l e rX0_counts s m args below meth c cX0_counts D T ad A H0 Qs Q) (hK98 : ∀ (v1 : Int32) (v2 : Int32) (M : Mem) (H : Heap) (locs : List Loc) (ls : Array Slot), K98 v1 v2 M → XI D T ad A H0 M H locs → lv_has ls 4 [(0, .ref (ad 0)), (1, .int v1), (2, .int v2)] → W p l e rX0_counts s m args below meth c H locs 0 0 Qs (F0 m 98 ls [])) (v1 : Int32) (v2 : Int32) (s1 : Int32) (M : Mem) (H : Heap) (locs : List Loc) (ls : Array Slot) (h : w0_counts_b163 Q K98 v1 v2 s1 M) (I : XI D T ad A H0 M H locs) (hl : lv_has ls 4 [(0, .ref (ad 0)), (1, .int v1), (2, .int v2)]) : W p l e rX0_counts s m args below meth c H locs 0 0 Qs (F0 m 163 ls [.int s1, .ref (ad 0)]) := by
  have hx := C.1.1
  have hb := C.1.2.1
  have how := C.1.2.2.2.1
  have hts := C.1.2.2.2.2
  unfold w0_counts_b163 at h
  refine xp_metHour C I dX0_counts_163 (fun M1 H locs eM1 I => ?_)
  have h := h M1 eM1
  refine lv_iinc (v := (v2 + (-1))) (lv' := [(2, .int (v2 + (-1))), (0, .ref (ad 0)), (1, .int v1)]) hx hb dX0_counts_166 hl (k := 2) rfl (ii_m1 _) (by decide) rfl (fun ls hl => ?_)
  refine lv_goto (tgt := 98) hx hb dX0_counts_169 (by decide) ?_
  exact hK98 v1 (v2 + (-1)) M1 _ _ _ h I (lv_sub hl [1, 2, 0] rfl)
theorem t0_counts_b147 {p : Program} {l : Launch} {e : Env} {s : State} {m : MethodId} {args : Array Value} {below : List Frame} {meth : Method} {c : Code} {D : va_G} {T ad : Nat → Nat} {A : Nat → Prop} {H0 : Heap} {Qs : State → Prop} {Q : Mem → Prop} {K98 : Int32 → Int32 → Mem → Prop} (C : XC D T RX0 p m c cX0_counts 4 s args) (hQ : xExv p l e rX0_counts s m args below meth c cX0_counts D T ad A H0 Qs Q) (hK98 : ∀ (v1 : Int32) (v2 : Int32) (M : Mem) (H : Heap) (locs : List Loc) (ls : Array Slot), K98 v1 v2 M → XI D T ad A H0 M H locs → lv_has ls 4 [(0, .ref (ad 0)), (1, .int v1), (2, .int v2)] → W p l e rX0_counts s m args below meth c H locs 0 0 Qs (F0 m 98 ls [])) (v1 : Int32) (v2 : Int32) (v3 : Int32) (s1 : Int32) (M : Mem) (H : Heap) (locs : List Loc) (ls : Array Slot) (h : w0_counts_b147 Q K98 v1 v2 v3 s1 M) (I : XI D T ad A H0 M H locs) (hl : lv_has ls 4 [(0, .ref (ad 0)), (1, .int v1), (2, .int v2), (3, .int v3)]) : W p l e rX0_counts s m args below meth c H locs 0 0 Qs (F0 m 147 ls [.int s1, .ref (ad 0)]) := by
  have hx := C.1.1
  have hb := C.1.2.1
  have how := C.1.2.2.2.1
  have hts := C.1.2.2.2.2
  unfold w0_counts_b147 at h
  refine xp_metPlace C I dX0_counts_147 (fun M2 H locs eM2 I => ?_)
  have h := h M2 eM2
  refine lv_aload_n hx hb dX0_counts_150 rfl (lv_at hl 0 rfl) ?_
  refine lv_iload_n hx hb dX0_counts_151 rfl (lv_at hl 3 rfl) ?_
  refine lv_if_eq (tgt := 159) hx hb dX0_counts_152 (by decide) (fun c => ?_) (fun c => ?_)
  · have h := h.1 c
    refine lv_aload_n hx hb dX0_counts_159 rfl (lv_at hl 0 rfl) ?_
    refine xg_metHour C I dX0_counts_160 ?_
    exact t0_counts_b163 C hQ hK98 v1 v2 (M2 0 20) M2 _ _ _ h I (lv_sub hl [0, 1, 2] rfl)
  · have h := h.2 c
    refine lv_iload_n hx hb dX0_counts_155 rfl (lv_at hl 1 rfl) ?_
    refine lv_goto (tgt := 163) hx hb dX0_counts_156 (by decide) ?_
    exact t0_counts_b163 C hQ hK98 v1 v2 v1 M2 _ _ _ h I (lv_sub hl [0, 1, 2] rfl)
theorem t0_counts_b133 {p : Program} {l : Launch} {e : Env} {s : State} {m : MethodId} {args : Array Value} {below : List Frame} {meth : Method} {c : Code} {D : va_G} {T ad : Nat → Nat} {A : Nat → Prop} {H0 : Heap} {Qs : State → Prop} {Q : Mem → Prop} {K98 : Int32 → Int32 → Mem → Prop} (C : XC D T RX0 p m c cX0_counts 4 s args) (hQ : xExv p l e rX0_counts s m args below meth c cX0_counts D T ad A H0 Qs Q) (hK98 : ∀ (v1 : Int32) (v2 : Int32) (M : Mem) (H : Heap) (locs : List Loc) (ls : Array Slot), K98 v1 v2 M → XI D T ad A H0 M H locs → lv_has ls 4 [(0, .ref (ad 0)), (1, .int v1), (2, .int v2)] → W p l e rX0_counts s m args below meth c H locs 0 0 Qs (F0 m 98 ls [])) (v1 : Int32) (v2 : Int32) (s0 : Int32) (M : Mem) (H : Heap) (locs : List Loc) (ls : Array Slot) (h : w0_counts_b133 Q K98 v1 v2 s0 M) (I : XI D T ad A H0 M H locs) (hl : lv_has ls 4 [(0, .ref (ad 0)), (1, .int v1), (2, .int v2)]) : W p l e rX0_counts s m args below meth c H locs 0 0 Qs (F0 m 133 ls [.int s0]) := by
  have hx := C.1.1
  have hb := C.1.2.1
  have how := C.1.2.2.2.1
  have hts := C.1.2.2.2.2
  unfold w0_counts_b133 at h
  refine lv_istore_n (lv' := [(3, .int s0), (0, .ref (ad 0)), (1, .int v1), (2, .int v2)]) hx hb dX0_counts_133 rfl hl (by decide) rfl (fun ls hl => ?_)
  refine lv_aload_n hx hb dX0_counts_134 rfl (lv_at hl 1 rfl) ?_
  refine lv_iload_n hx hb dX0_counts_135 rfl (lv_at hl 0 rfl) ?_
  refine lv_if_eq (tgt := 143) hx hb dX0_counts_136 (by decide) (fun c => ?_) (fun c => ?_)
  · have h := h.1 c
    refine lv_aload_n hx hb dX0_counts_143 rfl (lv_at hl 1 rfl) ?_
    refine xg_metPlace C I dX0_counts_144 ?_
    exact t0_counts_b147 C hQ hK98 v1 v2 s0 (M 0 21) M _ _ _ h I (lv_sub hl [1, 2, 3, 0] rfl)
  · have h := h.2 c
    refine lv_iload_n hx hb dX0_counts_139 rfl (lv_at hl 3 rfl) ?_
    refine lv_goto (tgt := 147) hx hb dX0_counts_140 (by decide) ?_
    exact t0_counts_b147 C hQ hK98 v1 v2 s0 v2 M _ _ _ h I (lv_sub hl [1, 2, 3, 0] rfl)
theorem t0_counts_b132 {p : Program} {l : Launch} {e : Env} {s : State} {m : MethodId} {args : Array Value} {below : List Frame} {meth : Method} {c : Code} {D : va_G} {T ad : Nat → Nat} {A : Nat → Prop} {H0 : Heap} {Qs : State → Prop} {Q : Mem → Prop} {K98 : Int32 → Int32 → Mem → Prop} (C : XC D T RX0 p m c cX0_counts 4 s args) (hQ : xExv p l e rX0_counts s m args below meth c cX0_counts D T ad A H0 Qs Q) (hK98 : ∀ (v1 : Int32) (v2 : Int32) (M : Mem) (H : Heap) (locs : List Loc) (ls : Array Slot), K98 v1 v2 M → XI D T ad A H0 M H locs → lv_has ls 4 [(0, .ref (ad 0)), (1, .int v1), (2, .int v2)] → W p l e rX0_counts s m args below meth c H locs 0 0 Qs (F0 m 98 ls [])) (v1 : Int32) (v2 : Int32) (M : Mem) (H : Heap) (locs : List Loc) (ls : Array Slot) (h : w0_counts_b132 Q K98 v1 v2 M) (I : XI D T ad A H0 M H locs) (hl : lv_has ls 4 [(0, .ref (ad 0)), (1, .int v1), (2, .int v2)]) : W p l e rX0_counts s m args below meth c H locs 0 0 Qs (F0 m 132 ls []) := by
  have hx := C.1.1
  have hb := C.1.2.1
  have how := C.1.2.2.2.1
  have hts := C.1.2.2.2.2
  unfold w0_counts_b132 at h
  refine lv_iconst (v := 0) hx hb dX0_counts_132 (by decide) ?_
  exact t0_counts_b133 C hQ hK98 v1 v2 0 M _ _ _ h I (lv_sub hl [0, 1, 2] rfl)
theorem t0_counts_b128 {p : Program} {l : Launch} {e : Env} {s : State} {m : MethodId} {args : Array Value} {below : List Frame} {meth : Method} {c : Code} {D : va_G} {T ad : Nat → Nat} {A : Nat → Prop} {H0 : Heap} {Qs : State → Prop} {Q : Mem → Prop} {K98 : Int32 → Int32 → Mem → Prop} (C : XC D T RX0 p m c cX0_counts 4 s args) (hQ : xExv p l e rX0_counts s m args below meth c cX0_counts D T ad A H0 Qs Q) (hK98 : ∀ (v1 : Int32) (v2 : Int32) (M : Mem) (H : Heap) (locs : List Loc) (ls : Array Slot), K98 v1 v2 M → XI D T ad A H0 M H locs → lv_has ls 4 [(0, .ref (ad 0)), (1, .int v1), (2, .int v2)] → W p l e rX0_counts s m args below meth c H locs 0 0 Qs (F0 m 98 ls [])) (v1 : Int32) (v2 : Int32) (M : Mem) (H : Heap) (locs : List Loc) (ls : Array Slot) (h : w0_counts_b128 Q K98 v1 v2 M) (I : XI D T ad A H0 M H locs) (hl : lv_has ls 4 [(0, .ref (ad 0)), (1, .int v1), (2, .int v2)]) : W p l e rX0_counts s m args below meth c H locs 0 0 Qs (F0 m 128 ls []) := by
  have hx := C.1.1
  have hb := C.1.2.1
  have how := C.1.2.2.2.1
  have hts := C.1.2.2.2.2
  unfold w0_counts_b128 at h
  refine lv_iconst (v := 1) hx hb dX0_counts_128 (by decide) ?_
  refine lv_goto (tgt := 133) hx hb dX0_counts_129 (by decide) ?_
  exact t0_counts_b133 C hQ hK98 v1 v2 1 M _ _ _ h I (lv_sub hl [0, 1, 2] rfl)
theorem t0_counts_b98_f {p : Program} {l : Launch} {e : Env} {s : State} {m : MethodId} {args : Array Value} {below : List Frame} {meth : Method} {c : Code} {D : va_G} {T ad : Nat → Nat} {A : Nat → Prop} {H0 : Heap} {Qs : State → Prop} {Q : Mem → Prop} {K98 : Int32 → Int32 → Mem → Prop} (C : XC D T RX0 p m c cX0_counts 4 s args) (hQ : xExv p l e rX0_counts s m args below meth c cX0_counts D T ad A H0 Qs Q) (hK98 : ∀ (v1 : Int32) (v2 : Int32) (M : Mem) (H : Heap) (locs : List Loc) (ls : Array Slot), K98 v1 v2 M → XI D T ad A H0 M H locs → lv_has ls 4 [(0, .ref (ad 0)), (1, .int v1), (2, .int v2)] → W p l e rX0_counts s m args below meth c H locs 0 0 Qs (F0 m 98 ls [])) (v1 : Int32) (v2 : Int32) (M : Mem) (H : Heap) (locs : List Loc) (ls : Array Slot) (h : w0_counts_b98_f Q K98 v1 v2 M) (I : XI D T ad A H0 M H locs) (hl : lv_has ls 4 [(0, .ref (ad 0)), (1, .int v1), (2, .int v2)]) : W p l e rX0_counts s m args below meth c H locs 0 0 Qs (F0 m 98 ls []) := by
  have hx := C.1.1
  have hb := C.1.2.1
  have how := C.1.2.2.2.1
  have hts := C.1.2.2.2.2
  unfold w0_counts_b98_f at h
  refine lv_iload_n hx hb dX0_counts_98 rfl (lv_at hl 2 rfl) ?_
  refine lv_if_lt (tgt := 172) hx hb dX0_counts_99 (by decide) (fun c => ?_) (fun c => ?_)
  · have h := h.1 c
    exact hQ _ _ _ _ _ h I dX0_counts_172
  · have h := h.2 c
    refine lv_aload_n hx hb dX0_counts_102 rfl (lv_at hl 0 rfl) ?_
    refine xg_present C I dX0_counts_103 ?_
    refine lv_iload_n hx hb dX0_counts_106 rfl (lv_at hl 2 rfl) ?_
    obtain ⟨hg3, h⟩ := h
    refine x_iald C I 16 8 rfl hg3 dX0_counts_107 ?_
    refine lv_iconst (v := 1) hx hb dX0_counts_108 (by decide) ?_
    refine lv_icmp_le (tgt := 132) hx hb dX0_counts_109 (by decide) (fun c => ?_) (fun c => ?_)
    · have h := h.1 c
      exact t0_counts_b132 C hQ hK98 v1 v2 M _ _ _ h I (lv_sub hl [0, 1, 2] rfl)
    · have h := h.2 c
      refine lv_aload_n hx hb dX0_counts_112 rfl (lv_at hl 0 rfl) ?_
      refine xg_metHour C I dX0_counts_113 ?_
      refine lv_iconst (v := -1) hx hb dX0_counts_116 (by decide) ?_
      refine lv_icmp_eq (tgt := 128) hx hb dX0_counts_117 (by decide) (fun c => ?_) (fun c => ?_)
      · have h := h.1 c
        exact t0_counts_b128 C hQ hK98 v1 v2 M _ _ _ h I (lv_sub hl [0, 1, 2] rfl)
      · have h := h.2 c
        refine lv_aload_n hx hb dX0_counts_120 rfl (lv_at hl 0 rfl) ?_
        refine xg_metHour C I dX0_counts_121 ?_
        refine lv_iload_n hx hb dX0_counts_124 rfl (lv_at hl 1 rfl) ?_
        refine lv_icmp_ne (tgt := 132) hx hb dX0_counts_125 (by decide) (fun c => ?_) (fun c => ?_)
        · have h := h.2 c
          exact t0_counts_b132 C hQ hK98 v1 v2 M _ _ _ h I (lv_sub hl [0, 1, 2] rfl)
        · have h := h.1 c
          exact t0_counts_b128 C hQ hK98 v1 v2 M _ _ _ h I (lv_sub hl [0, 1, 2] rfl)
theorem t0_counts_b98 {p : Program} {l : Launch} {e : Env} {s : State} {m : MethodId} {args : Array Value} {below : List Frame} {meth : Method} {c : Code} {D : va_G} {T ad : Nat → Nat} {A : Nat → Prop} {H0 : Heap} {Qs : State → Prop} {Q : Mem → Prop}  (C : XC D T RX0 p m c cX0_counts 4 s args) (hQ : xExv p l e rX0_counts s m args below meth c cX0_counts D T ad A H0 Qs Q)  : ∀ (n : Nat) (v1 : Int32) (v2 : Int32) (M : Mem) (H : Heap) (locs : List Loc) (ls : Array Slot), w0_counts_b98 Q n v1 v2 M → XI D T ad A H0 M H locs → lv_has ls 4 [(0, .ref (ad 0)), (1, .int v1), (2, .int v2)] → W p l e rX0_counts s m args below meth c H locs 0 0 Qs (F0 m 98 ls []) := by
  intro n
  induction n with
  | zero => intro v1 v2 M H locs ls h; exact h.elim
  | succ n ih => intro v1 v2 M H locs ls h I hl; exact t0_counts_b98_f C hQ  ih v1 v2 M H locs ls h I hl
theorem t0_counts_b89 {p : Program} {l : Launch} {e : Env} {s : State} {m : MethodId} {args : Array Value} {below : List Frame} {meth : Method} {c : Code} {D : va_G} {T ad : Nat → Nat} {A : Nat → Prop} {H0 : Heap} {Qs : State → Prop} {Q : Mem → Prop} {K23 : Int32 → Int32 → Mem → Prop} (C : XC D T RX0 p m c cX0_counts 4 s args) (hQ : xExv p l e rX0_counts s m args below meth c cX0_counts D T ad A H0 Qs Q) (hK23 : ∀ (v1 : Int32) (v2 : Int32) (M : Mem) (H : Heap) (locs : List Loc) (ls : Array Slot), K23 v1 v2 M → XI D T ad A H0 M H locs → lv_has ls 4 [(0, .ref (ad 0)), (1, .int v1), (2, .int v2)] → W p l e rX0_counts s m args below meth c H locs 0 0 Qs (F0 m 23 ls [])) (v1 : Int32) (v2 : Int32) (M : Mem) (H : Heap) (locs : List Loc) (ls : Array Slot) (h : w0_counts_b89 Q K23 v1 v2 M) (I : XI D T ad A H0 M H locs) (hl : lv_has ls 4 [(0, .ref (ad 0)), (1, .int v1), (2, .int v2)]) : W p l e rX0_counts s m args below meth c H locs 0 0 Qs (F0 m 89 ls []) := by
  have hx := C.1.1
  have hb := C.1.2.1
  have how := C.1.2.2.2.1
  have hts := C.1.2.2.2.2
  unfold w0_counts_b89 at h
  refine lv_iinc (v := (v2 + 1)) (lv' := [(2, .int (v2 + 1)), (0, .ref (ad 0)), (1, .int v1)]) hx hb dX0_counts_89 hl (k := 2) rfl (ii_1 _) (by decide) rfl (fun ls hl => ?_)
  refine lv_goto (tgt := 23) hx hb dX0_counts_92 (by decide) ?_
  exact hK23 v1 (v2 + 1) M _ _ _ h I (lv_sub hl [1, 2, 0] rfl)
theorem t0_counts_b68 {p : Program} {l : Launch} {e : Env} {s : State} {m : MethodId} {args : Array Value} {below : List Frame} {meth : Method} {c : Code} {D : va_G} {T ad : Nat → Nat} {A : Nat → Prop} {H0 : Heap} {Qs : State → Prop} {Q : Mem → Prop} {K23 : Int32 → Int32 → Mem → Prop} (C : XC D T RX0 p m c cX0_counts 4 s args) (hQ : xExv p l e rX0_counts s m args below meth c cX0_counts D T ad A H0 Qs Q) (hK23 : ∀ (v1 : Int32) (v2 : Int32) (M : Mem) (H : Heap) (locs : List Loc) (ls : Array Slot), K23 v1 v2 M → XI D T ad A H0 M H locs → lv_has ls 4 [(0, .ref (ad 0)), (1, .int v1), (2, .int v2)] → W p l e rX0_counts s m args below meth c H locs 0 0 Qs (F0 m 23 ls [])) (v1 : Int32) (v2 : Int32) (v3 : Nat) (M : Mem) (H : Heap) (locs : List Loc) (ls : Array Slot) (h : w0_counts_b68 Q K23 v1 v2 v3 M) (I : XI D T ad A H0 M H locs) (hl : lv_has ls 4 [(0, .ref (ad 0)), (1, .int v1), (2, .int v2), (3, .ref (ad v3))]) : W p l e rX0_counts s m args below meth c H locs 0 0 Qs (F0 m 68 ls []) := by
  have hx := C.1.1
  have hb := C.1.2.1
  have how := C.1.2.2.2.1
  have hts := C.1.2.2.2.2
  unfold w0_counts_b68 at h
  refine lv_aload_n hx hb dX0_counts_68 rfl (lv_at hl 3 rfl) ?_
  obtain ⟨hg4, h⟩ := h
  refine xcg0_place C I hg4 dX0_counts_69 ?_
  refine lv_iconst (v := -1) hx hb dX0_counts_72 (by decide) ?_
  refine lv_icmp_eq (tgt := 89) hx hb dX0_counts_73 (by decide) (fun c => ?_) (fun c => ?_)
  · have h := h.1 c
    exact t0_counts_b89 C hQ hK23 v1 v2 M _ _ _ h I (lv_sub hl [0, 1, 2] rfl)
  · have h := h.2 c
    refine lv_aload_n hx hb dX0_counts_76 rfl (lv_at hl 0 rfl) ?_
    refine xg_present C I dX0_counts_77 ?_
    refine lv_aload_n hx hb dX0_counts_80 rfl (lv_at hl 3 rfl) ?_
    refine xcg0_place C I hg4 dX0_counts_81 ?_
    refine lv_dup2_11 hx hb dX0_counts_84 rfl rfl ?_
    obtain ⟨hg5, h⟩ := h
    refine x_iald C I 16 8 rfl hg5 dX0_counts_85 ?_
    refine lv_iconst (v := 1) hx hb dX0_counts_86 (by decide) ?_
    refine lv_iadd hx hb dX0_counts_87 ?_
    refine x_iast C I 16 8 rfl hg5 dX0_counts_88 (fun M6 H locs eM6 I => ?_)
    have h := h M6 eM6
    exact t0_counts_b89 C hQ hK23 v1 v2 M6 _ _ _ h I (lv_sub hl [0, 1, 2] rfl)
theorem t0_counts_b23_f {p : Program} {l : Launch} {e : Env} {s : State} {m : MethodId} {args : Array Value} {below : List Frame} {meth : Method} {c : Code} {D : va_G} {T ad : Nat → Nat} {A : Nat → Prop} {H0 : Heap} {Qs : State → Prop} {Q : Mem → Prop} {K23 : Int32 → Int32 → Mem → Prop} (C : XC D T RX0 p m c cX0_counts 4 s args) (hQ : xExv p l e rX0_counts s m args below meth c cX0_counts D T ad A H0 Qs Q) (hK23 : ∀ (v1 : Int32) (v2 : Int32) (M : Mem) (H : Heap) (locs : List Loc) (ls : Array Slot), K23 v1 v2 M → XI D T ad A H0 M H locs → lv_has ls 4 [(0, .ref (ad 0)), (1, .int v1), (2, .int v2)] → W p l e rX0_counts s m args below meth c H locs 0 0 Qs (F0 m 23 ls [])) (v1 : Int32) (v2 : Int32) (M : Mem) (H : Heap) (locs : List Loc) (ls : Array Slot) (h : w0_counts_b23_f Q K23 v1 v2 M) (I : XI D T ad A H0 M H locs) (hl : lv_has ls 4 [(0, .ref (ad 0)), (1, .int v1), (2, .int v2)]) : W p l e rX0_counts s m args below meth c H locs 0 0 Qs (F0 m 23 ls []) := by
  have hx := C.1.1
  have hb := C.1.2.1
  have how := C.1.2.2.2.1
  have hts := C.1.2.2.2.2
  unfold w0_counts_b23_f at h
  refine lv_iload_n hx hb dX0_counts_23 rfl (lv_at hl 2 rfl) ?_
  refine lv_aload_n hx hb dX0_counts_24 rfl (lv_at hl 0 rfl) ?_
  refine xg_carters C I dX0_counts_25 ?_
  refine lv_icmp_ge (tgt := 95) hx hb dX0_counts_28 (by decide) (fun c => ?_) (fun c => ?_)
  · have h := h.1 c
    refine lv_bipush (v := 7) hx hb dX0_counts_95 (by decide) ?_
    refine lv_istore_n (lv' := [(2, .int 7), (0, .ref (ad 0)), (1, .int v1)]) hx hb dX0_counts_97 rfl hl (by decide) rfl (fun ls hl => ?_)
    obtain ⟨n, h⟩ := h
    exact t0_counts_b98 C hQ n v1 7 M _ _ _ h I (lv_sub hl [1, 2, 0] rfl)
  · have h := h.2 c
    refine lv_aload_n hx hb dX0_counts_31 rfl (lv_at hl 0 rfl) ?_
    refine xg_all C I dX0_counts_32 ?_
    refine lv_iload_n hx hb dX0_counts_35 rfl (lv_at hl 2 rfl) ?_
    obtain ⟨hg7, h⟩ := h
    refine xa_all C I hg7 dX0_counts_36 ?_
    refine lv_astore_n (lv' := [(3, .ref (ad (30 + ci v2))), (0, .ref (ad 0)), (1, .int v1), (2, .int v2)]) hx hb dX0_counts_37 rfl hl (by decide) rfl (fun ls hl => ?_)
    refine lv_aload_n hx hb dX0_counts_38 rfl (lv_at hl 1 rfl) ?_
    refine lv_aload_n hx hb dX0_counts_39 rfl (lv_at hl 0 rfl) ?_
    refine lv_iload_n hx hb dX0_counts_40 rfl (lv_at hl 2 rfl) ?_
    refine x_calli (As := [.ref (ad (30 + ci v2)), .int v1]) (rest := []) C I (fun ra => met0_doesArrive l D T ad ra (30 + ci v2) v1 M h) (cw0_230 hts ⟨Nat.le_of_ble_eq_true rfl, Nat.le_of_ble_eq_true rfl⟩) rfl hl.1 rfl (Nat.le_of_ble_eq_true rfl) ⟨Nat.zero_le _, Nat.zero_le _⟩ dX0_counts_41 (fun r8 M9 H locs h I => ?_)
    refine lv_if_eq (tgt := 68) hx hb dX0_counts_44 (by decide) (fun c => ?_) (fun c => ?_)
    · have h := h.1 c
      exact t0_counts_b68 C hQ hK23 v1 v2 (30 + ci v2) M9 _ _ _ h I (lv_sub hl [1, 2, 3, 0] rfl)
    · have h := h.2 c
      refine lv_aload_n hx hb dX0_counts_47 rfl (lv_at hl 0 rfl) ?_
      refine lv_aload_n hx hb dX0_counts_48 rfl (lv_at hl 0 rfl) ?_
      refine xcg0_whither C I (isCar_of hg7) dX0_counts_49 ?_
      refine xcp0_place C I (isCar_of hg7) dX0_counts_52 (fun M10 H locs eM10 I => ?_)
      have h := h M10 eM10
      refine lv_aload_n hx hb dX0_counts_55 rfl (lv_at hl 1 rfl) ?_
      refine xg_arrivals C I dX0_counts_56 ?_
      refine lv_aload_n hx hb dX0_counts_59 rfl (lv_at hl 0 rfl) ?_
      refine xcg0_place C I (isCar_of hg7) dX0_counts_60 ?_
      refine lv_dup2_11 hx hb dX0_counts_63 rfl rfl ?_
      obtain ⟨hg11, h⟩ := h
      refine x_iald C I 17 8 rfl hg11 dX0_counts_64 ?_
      refine lv_iconst (v := 1) hx hb dX0_counts_65 (by decide) ?_
      refine lv_iadd hx hb dX0_counts_66 ?_
      refine x_iast C I 17 8 rfl hg11 dX0_counts_67 (fun M12 H locs eM12 I => ?_)
      have h := h M12 eM12
      exact t0_counts_b68 C hQ hK23 v1 v2 (30 + ci v2) M12 _ _ _ h I (lv_sub hl [1, 2, 3, 0] rfl)
theorem t0_counts_b23 {p : Program} {l : Launch} {e : Env} {s : State} {m : MethodId} {args : Array Value} {below : List Frame} {meth : Method} {c : Code} {D : va_G} {T ad : Nat → Nat} {A : Nat → Prop} {H0 : Heap} {Qs : State → Prop} {Q : Mem → Prop}  (C : XC D T RX0 p m c cX0_counts 4 s args) (hQ : xExv p l e rX0_counts s m args below meth c cX0_counts D T ad A H0 Qs Q)  : ∀ (n : Nat) (v1 : Int32) (v2 : Int32) (M : Mem) (H : Heap) (locs : List Loc) (ls : Array Slot), w0_counts_b23 Q n v1 v2 M → XI D T ad A H0 M H locs → lv_has ls 4 [(0, .ref (ad 0)), (1, .int v1), (2, .int v2)] → W p l e rX0_counts s m args below meth c H locs 0 0 Qs (F0 m 23 ls []) := by
  intro n
  induction n with
  | zero => intro v1 v2 M H locs ls h; exact h.elim
  | succ n ih => intro v1 v2 M H locs ls h I hl; exact t0_counts_b23_f C hQ  ih v1 v2 M H locs ls h I hl
theorem t0_counts_b2_f {p : Program} {l : Launch} {e : Env} {s : State} {m : MethodId} {args : Array Value} {below : List Frame} {meth : Method} {c : Code} {D : va_G} {T ad : Nat → Nat} {A : Nat → Prop} {H0 : Heap} {Qs : State → Prop} {Q : Mem → Prop} {K2 : Int32 → Int32 → Mem → Prop} (C : XC D T RX0 p m c cX0_counts 4 s args) (hQ : xExv p l e rX0_counts s m args below meth c cX0_counts D T ad A H0 Qs Q) (hK2 : ∀ (v1 : Int32) (v2 : Int32) (M : Mem) (H : Heap) (locs : List Loc) (ls : Array Slot), K2 v1 v2 M → XI D T ad A H0 M H locs → lv_has ls 4 [(0, .ref (ad 0)), (1, .int v1), (2, .int v2)] → W p l e rX0_counts s m args below meth c H locs 0 0 Qs (F0 m 2 ls [])) (v1 : Int32) (v2 : Int32) (M : Mem) (H : Heap) (locs : List Loc) (ls : Array Slot) (h : w0_counts_b2_f Q K2 v1 v2 M) (I : XI D T ad A H0 M H locs) (hl : lv_has ls 4 [(0, .ref (ad 0)), (1, .int v1), (2, .int v2)]) : W p l e rX0_counts s m args below meth c H locs 0 0 Qs (F0 m 2 ls []) := by
  have hx := C.1.1
  have hb := C.1.2.1
  have how := C.1.2.2.2.1
  have hts := C.1.2.2.2.2
  unfold w0_counts_b2_f at h
  refine lv_iload_n hx hb dX0_counts_2 rfl (lv_at hl 2 rfl) ?_
  refine lv_bipush (v := 8) hx hb dX0_counts_3 (by decide) ?_
  refine lv_icmp_ge (tgt := 21) hx hb dX0_counts_5 (by decide) (fun c => ?_) (fun c => ?_)
  · have h := h.1 c
    refine lv_iconst (v := 0) hx hb dX0_counts_21 (by decide) ?_
    refine lv_istore_n (lv' := [(2, .int 0), (0, .ref (ad 0)), (1, .int v1)]) hx hb dX0_counts_22 rfl hl (by decide) rfl (fun ls hl => ?_)
    obtain ⟨n, h⟩ := h
    exact t0_counts_b23 C hQ n v1 0 M _ _ _ h I (lv_sub hl [1, 2, 0] rfl)
  · have h := h.2 c
    refine lv_aload_n hx hb dX0_counts_8 rfl (lv_at hl 0 rfl) ?_
    refine xg_present C I dX0_counts_9 ?_
    refine lv_iload_n hx hb dX0_counts_12 rfl (lv_at hl 2 rfl) ?_
    refine lv_iconst (v := 0) hx hb dX0_counts_13 (by decide) ?_
    obtain ⟨hg13, h⟩ := h
    refine x_iast C I 16 8 rfl hg13 dX0_counts_14 (fun M14 H locs eM14 I => ?_)
    have h := h M14 eM14
    refine lv_iinc (v := (v2 + 1)) (lv' := [(2, .int (v2 + 1)), (0, .ref (ad 0)), (1, .int v1)]) hx hb dX0_counts_15 hl (k := 2) rfl (ii_1 _) (by decide) rfl (fun ls hl => ?_)
    refine lv_goto (tgt := 2) hx hb dX0_counts_18 (by decide) ?_
    exact hK2 v1 (v2 + 1) M14 _ _ _ h I (lv_sub hl [1, 2, 0] rfl)
theorem t0_counts_b2 {p : Program} {l : Launch} {e : Env} {s : State} {m : MethodId} {args : Array Value} {below : List Frame} {meth : Method} {c : Code} {D : va_G} {T ad : Nat → Nat} {A : Nat → Prop} {H0 : Heap} {Qs : State → Prop} {Q : Mem → Prop}  (C : XC D T RX0 p m c cX0_counts 4 s args) (hQ : xExv p l e rX0_counts s m args below meth c cX0_counts D T ad A H0 Qs Q)  : ∀ (n : Nat) (v1 : Int32) (v2 : Int32) (M : Mem) (H : Heap) (locs : List Loc) (ls : Array Slot), w0_counts_b2 Q n v1 v2 M → XI D T ad A H0 M H locs → lv_has ls 4 [(0, .ref (ad 0)), (1, .int v1), (2, .int v2)] → W p l e rX0_counts s m args below meth c H locs 0 0 Qs (F0 m 2 ls []) := by
  intro n
  induction n with
  | zero => intro v1 v2 M H locs ls h; exact h.elim
  | succ n ih => intro v1 v2 M H locs ls h I hl; exact t0_counts_b2_f C hQ  ih v1 v2 M H locs ls h I hl
theorem t0_counts {p : Program} {l : Launch} {e : Env} {s : State} {m : MethodId} {args : Array Value} {below : List Frame} {meth : Method} {c : Code} {D : va_G} {T ad : Nat → Nat} {A : Nat → Prop} {H0 : Heap} {Qs : State → Prop} {Q : Mem → Prop} (C : XC D T RX0 p m c cX0_counts 4 s args) (hQ : xExv p l e rX0_counts s m args below meth c cX0_counts D T ad A H0 Qs Q) (v1 : Int32) (M : Mem) (H : Heap) (locs : List Loc) (ls : Array Slot) (h : w0_counts v1 M Q) (I : XI D T ad A H0 M H locs) (hl : lv_has ls 4 [(0, .ref (ad 0)), (1, .int v1)]) : W p l e rX0_counts s m args below meth c H locs 0 0 Qs (F0 m 0 ls []) := by
  have hx := C.1.1
  have hb := C.1.2.1
  have how := C.1.2.2.2.1
  have hts := C.1.2.2.2.2
  unfold w0_counts at h
  refine lv_iconst (v := 0) hx hb dX0_counts_0 (by decide) ?_
  refine lv_istore_n (lv' := [(2, .int 0), (0, .ref (ad 0)), (1, .int v1)]) hx hb dX0_counts_1 rfl hl (by decide) rfl (fun ls hl => ?_)
  obtain ⟨n, h⟩ := h
  exact t0_counts_b2 C hQ n v1 0 M _ _ _ h I (lv_sub hl [1, 2, 0] rfl)
theorem met0_counts (l : Launch) (D : va_G) (T ad ra : Nat → Nat) (v1 : Int32) (M : Mem) {Qp : Mem → Prop} (h : w0_counts v1 M Qp) (sz : Nat) : Met l yX0_counts (ws_ yX0_counts cX0_counts 4 none) rX0_counts (xPc D T ad ra 0 [.int v1] M sz) (xQv D T ad ra M Qp sz) 0 0 (fA (cX T ad ra M) sz) :=
  x_metV (own := RX0) (As := [.int v1]) rfl rfl (Nat.le_of_ble_eq_true rfl) (fun p e s m args below meth c A Qs ls C hQ I hl => t0_counts C hQ v1 M _ _ ls h I hl) sz
/-! ends -/
abbrev rX5_ends : Room := { frames := 0, cells := 0, slots := 0, locals := 0 }
theorem t5_ends {p : Program} {l : Launch} {e : Env} {s : State} {m : MethodId} {args : Array Value} {below : List Frame} {meth : Method} {c : Code} {D : va_G} {T ad : Nat → Nat} {A : Nat → Prop} {H0 : Heap} {Qs : State → Prop} {o : Nat} {Q : Mem → Prop} (C : XC D T RX5 p m c cX5_ends 3 s args) (hQ : xExv p l e rX5_ends s m args below meth c cX5_ends D T ad A H0 Qs Q) (ho : isCar o) (v1 : Int32) (v2 : Int32) (M : Mem) (H : Heap) (locs : List Loc) (ls : Array Slot) (h : w5_ends o v1 v2 M Q) (I : XI D T ad A H0 M H locs) (hl : lv_has ls 3 [(0, .ref (ad o)), (1, .int v1), (2, .int v2)]) : W p l e rX5_ends s m args below meth c H locs 0 0 Qs (F0 m 0 ls []) := by
  have hx := C.1.1
  have hb := C.1.2.1
  have how := C.1.2.2.2.1
  have hts := C.1.2.2.2.2
  unfold w5_ends at h
  refine lv_aload_n hx hb dX5_ends_0 rfl (lv_at hl 0 rfl) ?_
  refine lv_iload_n hx hb dX5_ends_1 rfl (lv_at hl 1 rfl) ?_
  refine xcp5_is C I ho dX5_ends_2 (fun M1 H locs eM1 I => ?_)
  have h := h M1 eM1
  refine lv_aload_n hx hb dX5_ends_5 rfl (lv_at hl 0 rfl) ?_
  refine lv_iload_n hx hb dX5_ends_6 rfl (lv_at hl 2 rfl) ?_
  refine xcp5_ended C I ho dX5_ends_7 (fun M2 H locs eM2 I => ?_)
  have h := h M2 eM2
  refine lv_aload_n hx hb dX5_ends_10 rfl (lv_at hl 0 rfl) ?_
  refine lv_iconst (v := -1) hx hb dX5_ends_11 (by decide) ?_
  refine xcp5_whither C I ho dX5_ends_12 (fun M3 H locs eM3 I => ?_)
  have h := h M3 eM3
  exact hQ _ _ _ _ _ h I dX5_ends_15
theorem met5_ends (l : Launch) (D : va_G) (T ad ra : Nat → Nat) (o : Nat) (v1 : Int32) (v2 : Int32) (M : Mem) {Qp : Mem → Prop} (h : w5_ends o v1 v2 M Qp) (ho : isCar o) (sz : Nat) : Met l yX5_ends (ws_ yX5_ends cX5_ends 3 none) rX5_ends (xPc D T ad ra o [.int v1, .int v2] M sz) (xQv D T ad ra M Qp sz) 0 0 (fA (cX T ad ra M) sz) :=
  x_metV (own := RX5) (As := [.int v1, .int v2]) rfl rfl (Nat.le_of_ble_eq_true rfl) (fun p e s m args below meth c A Qs ls C hQ I hl => t5_ends C hQ ho v1 v2 M _ _ ls h I hl) sz
/-! has -/
abbrev rX0_has : Room := { frames := 0, cells := 0, slots := 0, locals := 0 }
theorem t0_has_b14 {p : Program} {l : Launch} {e : Env} {s : State} {m : MethodId} {args : Array Value} {below : List Frame} {meth : Method} {c : Code} {A : Nat → Prop} {H0 : Heap} {Qs : State → Prop} {Q : Int32 → Prop}  (S : CallFix p m c cX0_has 2 s args lw_all RX0) (hA : ∀ q, H0.size ≤ q → A q) (hQ : pExi p l e rX0_has s m args below meth c cX0_has A H0 Qs Q)  (s0 : Int32) (H : Heap) (locs : List Loc) (ls : Array Slot) (h : w0_has_b14 Q s0) (hS : va_S A H0 H locs) (hl : lv_has ls 2 []) : W p l e rX0_has s m args below meth c H locs 0 0 Qs (F0 m 14 ls [.int s0]) := by
  have hx := S.1
  have hb := S.2.1
  have how := S.2.2.2.1
  have hts := S.2.2.2.2
  unfold w0_has_b14 at h
  exact hQ _ _ _ _ _ h hS dX0_has_14
theorem t0_has {p : Program} {l : Launch} {e : Env} {s : State} {m : MethodId} {args : Array Value} {below : List Frame} {meth : Method} {c : Code} {A : Nat → Prop} {H0 : Heap} {Qs : State → Prop} {Q : Int32 → Prop} (S : CallFix p m c cX0_has 2 s args lw_all RX0) (hA : ∀ q, H0.size ≤ q → A q) (hQ : pExi p l e rX0_has s m args below meth c cX0_has A H0 Qs Q) (v0 : Int32) (v1 : Int32) (H : Heap) (locs : List Loc) (ls : Array Slot) (h : w0_has_z v0 v1 Q) (hS : va_S A H0 H locs) (hl : lv_has ls 2 [(0, .int v0), (1, .int v1)]) : W p l e rX0_has s m args below meth c H locs 0 0 Qs (F0 m 0 ls []) := by
  have hx := S.1
  have hb := S.2.1
  have how := S.2.2.2.1
  have hts := S.2.2.2.2
  unfold w0_has_z at h
  refine lv_iload_n hx hb dX0_has_0 rfl (lv_at hl 0 rfl) ?_
  refine lv_iload_n hx hb dX0_has_1 rfl (lv_at hl 1 rfl) ?_
  refine lv_ishr hx hb dX0_has_2 ?_
  refine lv_iconst (v := 1) hx hb dX0_has_3 (by decide) ?_
  refine lv_iand hx hb dX0_has_4 ?_
  refine lv_iconst (v := 1) hx hb dX0_has_5 (by decide) ?_
  refine lv_icmp_ne (tgt := 13) hx hb dX0_has_6 (by decide) (fun c => ?_) (fun c => ?_)
  · have h := h.2 c
    refine lv_iconst (v := 0) hx hb dX0_has_13 (by decide) ?_
    exact t0_has_b14 S hA hQ 0 _ _ _ h hS (lv_sub hl [] rfl)
  · have h := h.1 c
    refine lv_iconst (v := 1) hx hb dX0_has_9 (by decide) ?_
    refine lv_goto (tgt := 14) hx hb dX0_has_10 (by decide) ?_
    exact t0_has_b14 S hA hQ 1 _ _ _ h hS (lv_sub hl [] rfl)
theorem met0_has (l : Launch) (v0 : Int32) (v1 : Int32) {Qp : Int32 → Prop} (h : w0_has v0 v1 Qp) (sz : Nat) : Met l yX0_has (ws_ yX0_has cX0_has 2 (some .boolean)) rX0_has (pPc [.int v0, .int v1] sz) (pQi Qp sz) 0 0 (pA sz) :=
  p_metZ (As := [.int v0, .int v1]) rfl (Nat.le_of_ble_eq_true rfl) (fun p e s m args below meth c Qs ls S hQ hl => t0_has S (fun q h => h) hQ v0 v1 _ _ ls h va_S.rf hl) sz
/-! isAnswer -/
abbrev rX0_isAnswer : Room := { frames := 1, cells := 0, slots := 0, locals := 21 }
theorem cw0_206 {R : Room} {s : State} {args : Array Value} (hts : ∀ w ∈ lw_all, w.before args s = true) (hR : rX0_has.frames + 1 ≤ R.frames ∧ 8 + (2 + 11) + rX0_has.locals ≤ R.locals) : CallB R s args RX0 206 yX0_has cX0_has 2 (some .boolean) (ws_ yX0_has cX0_has 2 (some .boolean)) rX0_has 0 0 2 ∧ (Cond.static yX0_has).before args s = true := va_cwS 2 hts (lw_S q330 q331 q89 q332) rfl rfl rfl (by decide +kernel) hR
theorem t0_isAnswer_b57 {p : Program} {l : Launch} {e : Env} {s : State} {m : MethodId} {args : Array Value} {below : List Frame} {meth : Method} {c : Code} {D : va_G} {T ad : Nat → Nat} {A : Nat → Prop} {H0 : Heap} {Qs : State → Prop} {Q : Int32 → Mem → Prop} {K5 : Int32 → Int32 → Int32 → Int32 → Mem → Prop} (C : XC D T RX0 p m c cX0_isAnswer 5 s args) (hQ : xExi p l e rX0_isAnswer s m args below meth c cX0_isAnswer D T ad A H0 Qs Q) (hK5 : ∀ (v1 : Int32) (v2 : Int32) (v3 : Int32) (v4 : Int32) (M : Mem) (H : Heap) (locs : List Loc) (ls : Array Slot), K5 v1 v2 v3 v4 M → XI D T ad A H0 M H locs → lv_has ls 5 [(0, .ref (ad 0)), (1, .int v1), (2, .int v2), (3, .int v3), (4, .int v4)] → W p l e rX0_isAnswer s m args below meth c H locs 0 0 Qs (F0 m 5 ls [])) (v1 : Int32) (v2 : Int32) (v4 : Int32) (s0 : Int32) (M : Mem) (H : Heap) (locs : List Loc) (ls : Array Slot) (h : w0_isAnswer_b57 Q K5 v1 v2 v4 s0 M) (I : XI D T ad A H0 M H locs) (hl : lv_has ls 5 [(0, .ref (ad 0)), (1, .int v1), (2, .int v2), (4, .int v4)]) : W p l e rX0_isAnswer s m args below meth c H locs 0 0 Qs (F0 m 57 ls [.int s0]) := by
  have hx := C.1.1
  have hb := C.1.2.1
  have how := C.1.2.2.2.1
  have hts := C.1.2.2.2.2
  unfold w0_isAnswer_b57 at h
  refine lv_istore_n (lv' := [(3, .int s0), (0, .ref (ad 0)), (1, .int v1), (2, .int v2), (4, .int v4)]) hx hb dX0_isAnswer_57 rfl hl (by decide) rfl (fun ls hl => ?_)
  refine lv_iinc (v := (v4 + 1)) (lv' := [(4, .int (v4 + 1)), (3, .int s0), (0, .ref (ad 0)), (1, .int v1), (2, .int v2)]) hx hb dX0_isAnswer_58 hl (k := 4) rfl (ii_1 _) (by decide) rfl (fun ls hl => ?_)
  refine lv_goto (tgt := 5) hx hb dX0_isAnswer_61 (by decide) ?_
  exact hK5 v1 v2 s0 (v4 + 1) M _ _ _ h I (lv_sub hl [2, 3, 4, 1, 0] rfl)
theorem t0_isAnswer_b56 {p : Program} {l : Launch} {e : Env} {s : State} {m : MethodId} {args : Array Value} {below : List Frame} {meth : Method} {c : Code} {D : va_G} {T ad : Nat → Nat} {A : Nat → Prop} {H0 : Heap} {Qs : State → Prop} {Q : Int32 → Mem → Prop} {K5 : Int32 → Int32 → Int32 → Int32 → Mem → Prop} (C : XC D T RX0 p m c cX0_isAnswer 5 s args) (hQ : xExi p l e rX0_isAnswer s m args below meth c cX0_isAnswer D T ad A H0 Qs Q) (hK5 : ∀ (v1 : Int32) (v2 : Int32) (v3 : Int32) (v4 : Int32) (M : Mem) (H : Heap) (locs : List Loc) (ls : Array Slot), K5 v1 v2 v3 v4 M → XI D T ad A H0 M H locs → lv_has ls 5 [(0, .ref (ad 0)), (1, .int v1), (2, .int v2), (3, .int v3), (4, .int v4)] → W p l e rX0_isAnswer s m args below meth c H locs 0 0 Qs (F0 m 5 ls [])) (v1 : Int32) (v2 : Int32) (v4 : Int32) (M : Mem) (H : Heap) (locs : List Loc) (ls : Array Slot) (h : w0_isAnswer_b56 Q K5 v1 v2 v4 M) (I : XI D T ad A H0 M H locs) (hl : lv_has ls 5 [(0, .ref (ad 0)), (1, .int v1), (2, .int v2), (4, .int v4)]) : W p l e rX0_isAnswer s m args below meth c H locs 0 0 Qs (F0 m 56 ls []) := by
  have hx := C.1.1
  have hb := C.1.2.1
  have how := C.1.2.2.2.1
  have hts := C.1.2.2.2.2
  unfold w0_isAnswer_b56 at h
  refine lv_iconst (v := 0) hx hb dX0_isAnswer_56 (by decide) ?_
  exact t0_isAnswer_b57 C hQ hK5 v1 v2 v4 0 M _ _ _ h I (lv_sub hl [0, 1, 2, 3] rfl)
theorem t0_isAnswer_b52 {p : Program} {l : Launch} {e : Env} {s : State} {m : MethodId} {args : Array Value} {below : List Frame} {meth : Method} {c : Code} {D : va_G} {T ad : Nat → Nat} {A : Nat → Prop} {H0 : Heap} {Qs : State → Prop} {Q : Int32 → Mem → Prop} {K5 : Int32 → Int32 → Int32 → Int32 → Mem → Prop} (C : XC D T RX0 p m c cX0_isAnswer 5 s args) (hQ : xExi p l e rX0_isAnswer s m args below meth c cX0_isAnswer D T ad A H0 Qs Q) (hK5 : ∀ (v1 : Int32) (v2 : Int32) (v3 : Int32) (v4 : Int32) (M : Mem) (H : Heap) (locs : List Loc) (ls : Array Slot), K5 v1 v2 v3 v4 M → XI D T ad A H0 M H locs → lv_has ls 5 [(0, .ref (ad 0)), (1, .int v1), (2, .int v2), (3, .int v3), (4, .int v4)] → W p l e rX0_isAnswer s m args below meth c H locs 0 0 Qs (F0 m 5 ls [])) (v1 : Int32) (v2 : Int32) (v4 : Int32) (M : Mem) (H : Heap) (locs : List Loc) (ls : Array Slot) (h : w0_isAnswer_b52 Q K5 v1 v2 v4 M) (I : XI D T ad A H0 M H locs) (hl : lv_has ls 5 [(0, .ref (ad 0)), (1, .int v1), (2, .int v2), (4, .int v4)]) : W p l e rX0_isAnswer s m args below meth c H locs 0 0 Qs (F0 m 52 ls []) := by
  have hx := C.1.1
  have hb := C.1.2.1
  have how := C.1.2.2.2.1
  have hts := C.1.2.2.2.2
  unfold w0_isAnswer_b52 at h
  refine lv_iconst (v := 1) hx hb dX0_isAnswer_52 (by decide) ?_
  refine lv_goto (tgt := 57) hx hb dX0_isAnswer_53 (by decide) ?_
  exact t0_isAnswer_b57 C hQ hK5 v1 v2 v4 1 M _ _ _ h I (lv_sub hl [0, 1, 2, 3] rfl)
theorem t0_isAnswer_b5_f {p : Program} {l : Launch} {e : Env} {s : State} {m : MethodId} {args : Array Value} {below : List Frame} {meth : Method} {c : Code} {D : va_G} {T ad : Nat → Nat} {A : Nat → Prop} {H0 : Heap} {Qs : State → Prop} {Q : Int32 → Mem → Prop} {K5 : Int32 → Int32 → Int32 → Int32 → Mem → Prop} (C : XC D T RX0 p m c cX0_isAnswer 5 s args) (hQ : xExi p l e rX0_isAnswer s m args below meth c cX0_isAnswer D T ad A H0 Qs Q) (hK5 : ∀ (v1 : Int32) (v2 : Int32) (v3 : Int32) (v4 : Int32) (M : Mem) (H : Heap) (locs : List Loc) (ls : Array Slot), K5 v1 v2 v3 v4 M → XI D T ad A H0 M H locs → lv_has ls 5 [(0, .ref (ad 0)), (1, .int v1), (2, .int v2), (3, .int v3), (4, .int v4)] → W p l e rX0_isAnswer s m args below meth c H locs 0 0 Qs (F0 m 5 ls [])) (v1 : Int32) (v2 : Int32) (v3 : Int32) (v4 : Int32) (M : Mem) (H : Heap) (locs : List Loc) (ls : Array Slot) (h : w0_isAnswer_b5_f Q K5 v1 v2 v3 v4 M) (I : XI D T ad A H0 M H locs) (hl : lv_has ls 5 [(0, .ref (ad 0)), (1, .int v1), (2, .int v2), (3, .int v3), (4, .int v4)]) : W p l e rX0_isAnswer s m args below meth c H locs 0 0 Qs (F0 m 5 ls []) := by
  have hx := C.1.1
  have hb := C.1.2.1
  have how := C.1.2.2.2.1
  have hts := C.1.2.2.2.2
  unfold w0_isAnswer_b5_f at h
  refine lv_iload hx hb dX0_isAnswer_5 (lv_at hl 4 rfl) ?_
  refine lv_aload_n hx hb dX0_isAnswer_7 rfl (lv_at hl 0 rfl) ?_
  refine xg_answers C I dX0_isAnswer_8 ?_
  refine lv_icmp_ge (tgt := 64) hx hb dX0_isAnswer_11 (by decide) (fun c => ?_) (fun c => ?_)
  · have h := h.1 c
    refine lv_iload_n hx hb dX0_isAnswer_64 rfl (lv_at hl 3 rfl) ?_
    exact hQ _ _ _ _ _ _ h I dX0_isAnswer_65
  · have h := h.2 c
    refine lv_iload_n hx hb dX0_isAnswer_14 rfl (lv_at hl 3 rfl) ?_
    refine lv_if_ne (tgt := 52) hx hb dX0_isAnswer_15 (by decide) (fun c => ?_) (fun c => ?_)
    · have h := h.2 c
      exact t0_isAnswer_b52 C hQ hK5 v1 v2 v4 M _ _ _ h I (lv_sub hl [0, 1, 2, 4] rfl)
    · have h := h.1 c
      refine lv_aload_n hx hb dX0_isAnswer_18 rfl (lv_at hl 0 rfl) ?_
      refine xg_answerHour C I dX0_isAnswer_19 ?_
      refine lv_iload hx hb dX0_isAnswer_22 (lv_at hl 4 rfl) ?_
      obtain ⟨hg1, h⟩ := h
      refine x_iald C I 12 8 rfl hg1 dX0_isAnswer_24 ?_
      refine lv_iload_n hx hb dX0_isAnswer_25 rfl (lv_at hl 1 rfl) ?_
      refine lv_icmp_ne (tgt := 56) hx hb dX0_isAnswer_26 (by decide) (fun c => ?_) (fun c => ?_)
      · have h := h.2 c
        exact t0_isAnswer_b56 C hQ hK5 v1 v2 v4 M _ _ _ h I (lv_sub hl [0, 1, 2, 4] rfl)
      · have h := h.1 c
        refine lv_aload_n hx hb dX0_isAnswer_29 rfl (lv_at hl 0 rfl) ?_
        refine xg_answerPlace C I dX0_isAnswer_30 ?_
        refine lv_iload hx hb dX0_isAnswer_33 (lv_at hl 4 rfl) ?_
        refine x_iald C I 13 8 rfl hg1 dX0_isAnswer_35 ?_
        refine lv_iload_n hx hb dX0_isAnswer_36 rfl (lv_at hl 2 rfl) ?_
        refine lv_icmp_ne (tgt := 56) hx hb dX0_isAnswer_37 (by decide) (fun c => ?_) (fun c => ?_)
        · have h := h.2 c
          exact t0_isAnswer_b56 C hQ hK5 v1 v2 v4 M _ _ _ h I (lv_sub hl [0, 1, 2, 4] rfl)
        · have h := h.1 c
          refine lv_aload_n hx hb dX0_isAnswer_40 rfl (lv_at hl 0 rfl) ?_
          refine xg_notAnswers C I dX0_isAnswer_41 ?_
          refine lv_iload hx hb dX0_isAnswer_44 (lv_at hl 4 rfl) ?_
          refine x_purei (As := [.int (M 0 17), .int v4]) (rest := []) C I (met0_has l (M 0 17) v4 h) (cw0_206 hts ⟨Nat.le_of_ble_eq_true rfl, Nat.le_of_ble_eq_true rfl⟩) rfl hl.1 rfl (Nat.le_of_ble_eq_true rfl) ⟨Nat.zero_le _, Nat.zero_le _⟩ dX0_isAnswer_46 (fun r2 H locs h I => ?_)
          refine lv_if_ne (tgt := 56) hx hb dX0_isAnswer_49 (by decide) (fun c => ?_) (fun c => ?_)
          · have h := h.2 c
            exact t0_isAnswer_b56 C hQ hK5 v1 v2 v4 M _ _ _ h I (lv_sub hl [0, 1, 2, 4] rfl)
          · have h := h.1 c
            exact t0_isAnswer_b52 C hQ hK5 v1 v2 v4 M _ _ _ h I (lv_sub hl [0, 1, 2, 4] rfl)
theorem t0_isAnswer_b5 {p : Program} {l : Launch} {e : Env} {s : State} {m : MethodId} {args : Array Value} {below : List Frame} {meth : Method} {c : Code} {D : va_G} {T ad : Nat → Nat} {A : Nat → Prop} {H0 : Heap} {Qs : State → Prop} {Q : Int32 → Mem → Prop}  (C : XC D T RX0 p m c cX0_isAnswer 5 s args) (hQ : xExi p l e rX0_isAnswer s m args below meth c cX0_isAnswer D T ad A H0 Qs Q)  : ∀ (n : Nat) (v1 : Int32) (v2 : Int32) (v3 : Int32) (v4 : Int32) (M : Mem) (H : Heap) (locs : List Loc) (ls : Array Slot), w0_isAnswer_b5 Q n v1 v2 v3 v4 M → XI D T ad A H0 M H locs → lv_has ls 5 [(0, .ref (ad 0)), (1, .int v1), (2, .int v2), (3, .int v3), (4, .int v4)] → W p l e rX0_isAnswer s m args below meth c H locs 0 0 Qs (F0 m 5 ls []) := by
  intro n
  induction n with
  | zero => intro v1 v2 v3 v4 M H locs ls h; exact h.elim
  | succ n ih => intro v1 v2 v3 v4 M H locs ls h I hl; exact t0_isAnswer_b5_f C hQ  ih v1 v2 v3 v4 M H locs ls h I hl
theorem t0_isAnswer {p : Program} {l : Launch} {e : Env} {s : State} {m : MethodId} {args : Array Value} {below : List Frame} {meth : Method} {c : Code} {D : va_G} {T ad : Nat → Nat} {A : Nat → Prop} {H0 : Heap} {Qs : State → Prop} {Q : Int32 → Mem → Prop} (C : XC D T RX0 p m c cX0_isAnswer 5 s args) (hQ : xExi p l e rX0_isAnswer s m args below meth c cX0_isAnswer D T ad A H0 Qs Q) (v1 : Int32) (v2 : Int32) (M : Mem) (H : Heap) (locs : List Loc) (ls : Array Slot) (h : w0_isAnswer_z v1 v2 M Q) (I : XI D T ad A H0 M H locs) (hl : lv_has ls 5 [(0, .ref (ad 0)), (1, .int v1), (2, .int v2)]) : W p l e rX0_isAnswer s m args below meth c H locs 0 0 Qs (F0 m 0 ls []) := by
  have hx := C.1.1
  have hb := C.1.2.1
  have how := C.1.2.2.2.1
  have hts := C.1.2.2.2.2
  unfold w0_isAnswer_z at h
  refine lv_iconst (v := 0) hx hb dX0_isAnswer_0 (by decide) ?_
  refine lv_istore_n (lv' := [(3, .int 0), (0, .ref (ad 0)), (1, .int v1), (2, .int v2)]) hx hb dX0_isAnswer_1 rfl hl (by decide) rfl (fun ls hl => ?_)
  refine lv_iconst (v := 0) hx hb dX0_isAnswer_2 (by decide) ?_
  refine lv_istore (lv' := [(4, .int 0), (3, .int 0), (0, .ref (ad 0)), (1, .int v1), (2, .int v2)]) hx hb dX0_isAnswer_3 hl (by decide) rfl (fun ls hl => ?_)
  obtain ⟨n, h⟩ := h
  exact t0_isAnswer_b5 C hQ n v1 v2 0 0 M _ _ _ h I (lv_sub hl [2, 3, 4, 1, 0] rfl)
theorem met0_isAnswer (l : Launch) (D : va_G) (T ad ra : Nat → Nat) (v1 : Int32) (v2 : Int32) (M : Mem) {Qp : Int32 → Mem → Prop} (h : w0_isAnswer v1 v2 M Qp) (sz : Nat) : Met l yX0_isAnswer (ws_ yX0_isAnswer cX0_isAnswer 5 (some .boolean)) rX0_isAnswer (xPc D T ad ra 0 [.int v1, .int v2] M sz) (xQi D T ad ra M Qp sz) 0 0 (fA (cX T ad ra M) sz) :=
  x_metZ (own := RX0) (As := [.int v1, .int v2]) rfl rfl (Nat.le_of_ble_eq_true rfl) (fun p e s m args below meth c A Qs ls C hQ I hl => t0_isAnswer C hQ v1 v2 M _ _ ls h I hl) sz
/-! nextOf -/
abbrev rX0_nextOf : Room := { frames := 0, cells := 0, slots := 0, locals := 0 }
theorem t0_nextOf_b80 {p : Program} {l : Launch} {e : Env} {s : State} {m : MethodId} {args : Array Value} {below : List Frame} {meth : Method} {c : Code} {D : va_G} {T ad : Nat → Nat} {A : Nat → Prop} {H0 : Heap} {Qs : State → Prop} {Q : Int32 → Mem → Prop}  (C : XC D T RX0 p m c cX0_nextOf 5 s args) (hQ : xExi p l e rX0_nextOf s m args below meth c cX0_nextOf D T ad A H0 Qs Q)  (v3 : Int32) (M : Mem) (H : Heap) (locs : List Loc) (ls : Array Slot) (h : w0_nextOf_b80 Q v3 M) (I : XI D T ad A H0 M H locs) (hl : lv_has ls 5 [(0, .ref (ad 0)), (3, .int v3)]) : W p l e rX0_nextOf s m args below meth c H locs 0 0 Qs (F0 m 80 ls []) := by
  have hx := C.1.1
  have hb := C.1.2.1
  have how := C.1.2.2.2.1
  have hts := C.1.2.2.2.2
  unfold w0_nextOf_b80 at h
  refine lv_iload_n hx hb dX0_nextOf_80 rfl (lv_at hl 1 rfl) ?_
  exact hQ _ _ _ _ _ _ h I dX0_nextOf_81
theorem t0_nextOf_b73 {p : Program} {l : Launch} {e : Env} {s : State} {m : MethodId} {args : Array Value} {below : List Frame} {meth : Method} {c : Code} {D : va_G} {T ad : Nat → Nat} {A : Nat → Prop} {H0 : Heap} {Qs : State → Prop} {Q : Int32 → Mem → Prop} {K5 : Int32 → Int32 → Int32 → Int32 → Mem → Prop} (C : XC D T RX0 p m c cX0_nextOf 5 s args) (hQ : xExi p l e rX0_nextOf s m args below meth c cX0_nextOf D T ad A H0 Qs Q) (hK5 : ∀ (v1 : Int32) (v2 : Int32) (v3 : Int32) (v4 : Int32) (M : Mem) (H : Heap) (locs : List Loc) (ls : Array Slot), K5 v1 v2 v3 v4 M → XI D T ad A H0 M H locs → lv_has ls 5 [(0, .ref (ad 0)), (1, .int v1), (2, .int v2), (3, .int v3), (4, .int v4)] → W p l e rX0_nextOf s m args below meth c H locs 0 0 Qs (F0 m 5 ls [])) (v1 : Int32) (v2 : Int32) (v4 : Int32) (s0 : Int32) (M : Mem) (H : Heap) (locs : List Loc) (ls : Array Slot) (h : w0_nextOf_b73 Q K5 v1 v2 v4 s0 M) (I : XI D T ad A H0 M H locs) (hl : lv_has ls 5 [(0, .ref (ad 0)), (1, .int v1), (2, .int v2), (4, .int v4)]) : W p l e rX0_nextOf s m args below meth c H locs 0 0 Qs (F0 m 73 ls [.int s0]) := by
  have hx := C.1.1
  have hb := C.1.2.1
  have how := C.1.2.2.2.1
  have hts := C.1.2.2.2.2
  unfold w0_nextOf_b73 at h
  refine lv_istore_n (lv' := [(3, .int s0), (0, .ref (ad 0)), (1, .int v1), (2, .int v2), (4, .int v4)]) hx hb dX0_nextOf_73 rfl hl (by decide) rfl (fun ls hl => ?_)
  refine lv_iinc (v := (v4 + 1)) (lv' := [(4, .int (v4 + 1)), (3, .int s0), (0, .ref (ad 0)), (1, .int v1), (2, .int v2)]) hx hb dX0_nextOf_74 hl (k := 4) rfl (ii_1 _) (by decide) rfl (fun ls hl => ?_)
  refine lv_goto (tgt := 5) hx hb dX0_nextOf_77 (by decide) ?_
  exact hK5 v1 v2 s0 (v4 + 1) M _ _ _ h I (lv_sub hl [2, 3, 4, 1, 0] rfl)
theorem t0_nextOf_b72 {p : Program} {l : Launch} {e : Env} {s : State} {m : MethodId} {args : Array Value} {below : List Frame} {meth : Method} {c : Code} {D : va_G} {T ad : Nat → Nat} {A : Nat → Prop} {H0 : Heap} {Qs : State → Prop} {Q : Int32 → Mem → Prop} {K5 : Int32 → Int32 → Int32 → Int32 → Mem → Prop} (C : XC D T RX0 p m c cX0_nextOf 5 s args) (hQ : xExi p l e rX0_nextOf s m args below meth c cX0_nextOf D T ad A H0 Qs Q) (hK5 : ∀ (v1 : Int32) (v2 : Int32) (v3 : Int32) (v4 : Int32) (M : Mem) (H : Heap) (locs : List Loc) (ls : Array Slot), K5 v1 v2 v3 v4 M → XI D T ad A H0 M H locs → lv_has ls 5 [(0, .ref (ad 0)), (1, .int v1), (2, .int v2), (3, .int v3), (4, .int v4)] → W p l e rX0_nextOf s m args below meth c H locs 0 0 Qs (F0 m 5 ls [])) (v1 : Int32) (v2 : Int32) (v4 : Int32) (M : Mem) (H : Heap) (locs : List Loc) (ls : Array Slot) (h : w0_nextOf_b72 Q K5 v1 v2 v4 M) (I : XI D T ad A H0 M H locs) (hl : lv_has ls 5 [(0, .ref (ad 0)), (1, .int v1), (2, .int v2), (4, .int v4)]) : W p l e rX0_nextOf s m args below meth c H locs 0 0 Qs (F0 m 72 ls []) := by
  have hx := C.1.1
  have hb := C.1.2.1
  have how := C.1.2.2.2.1
  have hts := C.1.2.2.2.2
  unfold w0_nextOf_b72 at h
  refine lv_iconst (v := -1) hx hb dX0_nextOf_72 (by decide) ?_
  exact t0_nextOf_b73 C hQ hK5 v1 v2 v4 (-1) M _ _ _ h I (lv_sub hl [0, 1, 2, 3] rfl)
theorem t0_nextOf_b5_f {p : Program} {l : Launch} {e : Env} {s : State} {m : MethodId} {args : Array Value} {below : List Frame} {meth : Method} {c : Code} {D : va_G} {T ad : Nat → Nat} {A : Nat → Prop} {H0 : Heap} {Qs : State → Prop} {Q : Int32 → Mem → Prop} {K5 : Int32 → Int32 → Int32 → Int32 → Mem → Prop} (C : XC D T RX0 p m c cX0_nextOf 5 s args) (hQ : xExi p l e rX0_nextOf s m args below meth c cX0_nextOf D T ad A H0 Qs Q) (hK5 : ∀ (v1 : Int32) (v2 : Int32) (v3 : Int32) (v4 : Int32) (M : Mem) (H : Heap) (locs : List Loc) (ls : Array Slot), K5 v1 v2 v3 v4 M → XI D T ad A H0 M H locs → lv_has ls 5 [(0, .ref (ad 0)), (1, .int v1), (2, .int v2), (3, .int v3), (4, .int v4)] → W p l e rX0_nextOf s m args below meth c H locs 0 0 Qs (F0 m 5 ls [])) (v1 : Int32) (v2 : Int32) (v3 : Int32) (v4 : Int32) (M : Mem) (H : Heap) (locs : List Loc) (ls : Array Slot) (h : w0_nextOf_b5_f Q K5 v1 v2 v3 v4 M) (I : XI D T ad A H0 M H locs) (hl : lv_has ls 5 [(0, .ref (ad 0)), (1, .int v1), (2, .int v2), (3, .int v3), (4, .int v4)]) : W p l e rX0_nextOf s m args below meth c H locs 0 0 Qs (F0 m 5 ls []) := by
  have hx := C.1.1
  have hb := C.1.2.1
  have how := C.1.2.2.2.1
  have hts := C.1.2.2.2.2
  unfold w0_nextOf_b5_f at h
  refine lv_iload hx hb dX0_nextOf_5 (lv_at hl 4 rfl) ?_
  refine lv_bipush (v := 8) hx hb dX0_nextOf_7 (by decide) ?_
  refine lv_icmp_ge (tgt := 80) hx hb dX0_nextOf_9 (by decide) (fun c => ?_) (fun c => ?_)
  · have h := h.1 c
    exact t0_nextOf_b80 C hQ v3 M _ _ _ h I (lv_sub hl [0, 3] rfl)
  · have h := h.2 c
    refine lv_iload_n hx hb dX0_nextOf_12 rfl (lv_at hl 3 rfl) ?_
    refine lv_iconst (v := -1) hx hb dX0_nextOf_13 (by decide) ?_
    refine lv_icmp_ne (tgt := 80) hx hb dX0_nextOf_14 (by decide) (fun c => ?_) (fun c => ?_)
    · have h := h.2 c
      exact t0_nextOf_b80 C hQ v3 M _ _ _ h I (lv_sub hl [0, 3] rfl)
    · have h := h.1 c
      refine lv_aload_n hx hb dX0_nextOf_17 rfl (lv_at hl 0 rfl) ?_
      refine xg_farNow C I dX0_nextOf_18 ?_
      refine lv_iload_n hx hb dX0_nextOf_21 rfl (lv_at hl 1 rfl) ?_
      obtain ⟨hg1, h⟩ := h
      refine xa_farNow C I hg1 dX0_nextOf_22 ?_
      refine lv_iload_n hx hb dX0_nextOf_23 rfl (lv_at hl 2 rfl) ?_
      obtain ⟨hg2, h⟩ := h
      refine x_iald C I (50 + ci v1) (lenX (50 + ci v1)) rfl hg2 dX0_nextOf_24 ?_
      refine lv_sipush (v := 9999) hx hb dX0_nextOf_25 (by decide) ?_
      refine lv_icmp_ge (tgt := 80) hx hb dX0_nextOf_28 (by decide) (fun c => ?_) (fun c => ?_)
      · have h := h.1 c
        exact t0_nextOf_b80 C hQ v3 M _ _ _ h I (lv_sub hl [0, 3] rfl)
      · have h := h.2 c
        refine lv_iload hx hb dX0_nextOf_31 (lv_at hl 4 rfl) ?_
        refine lv_iload_n hx hb dX0_nextOf_33 rfl (lv_at hl 1 rfl) ?_
        refine lv_icmp_eq (tgt := 72) hx hb dX0_nextOf_34 (by decide) (fun c => ?_) (fun c => ?_)
        · have h := h.1 c
          exact t0_nextOf_b72 C hQ hK5 v1 v2 v4 M _ _ _ h I (lv_sub hl [0, 1, 2, 4] rfl)
        · have h := h.2 c
          refine lv_aload_n hx hb dX0_nextOf_37 rfl (lv_at hl 0 rfl) ?_
          refine xg_beside C I dX0_nextOf_38 ?_
          refine lv_iload_n hx hb dX0_nextOf_41 rfl (lv_at hl 1 rfl) ?_
          refine xa_beside C I hg1 dX0_nextOf_42 ?_
          refine lv_iload hx hb dX0_nextOf_43 (lv_at hl 4 rfl) ?_
          obtain ⟨hg3, h⟩ := h
          refine x_iald C I (40 + ci v1) (lenX (40 + ci v1)) rfl hg3 dX0_nextOf_45 ?_
          refine lv_aload_n hx hb dX0_nextOf_46 rfl (lv_at hl 0 rfl) ?_
          refine xg_farNow C I dX0_nextOf_47 ?_
          refine lv_iload hx hb dX0_nextOf_50 (lv_at hl 4 rfl) ?_
          obtain ⟨hg4, h⟩ := h
          refine xa_farNow C I hg4 dX0_nextOf_52 ?_
          refine lv_iload_n hx hb dX0_nextOf_53 rfl (lv_at hl 2 rfl) ?_
          obtain ⟨hg5, h⟩ := h
          refine x_iald C I (50 + ci v4) (lenX (50 + ci v4)) rfl hg5 dX0_nextOf_54 ?_
          refine lv_iadd hx hb dX0_nextOf_55 ?_
          refine lv_aload_n hx hb dX0_nextOf_56 rfl (lv_at hl 0 rfl) ?_
          refine xg_farNow C I dX0_nextOf_57 ?_
          refine lv_iload_n hx hb dX0_nextOf_60 rfl (lv_at hl 1 rfl) ?_
          refine xa_farNow C I hg1 dX0_nextOf_61 ?_
          refine lv_iload_n hx hb dX0_nextOf_62 rfl (lv_at hl 2 rfl) ?_
          refine x_iald C I (50 + ci v1) (lenX (50 + ci v1)) rfl hg2 dX0_nextOf_63 ?_
          refine lv_icmp_ne (tgt := 72) hx hb dX0_nextOf_64 (by decide) (fun c => ?_) (fun c => ?_)
          · have h := h.2 c
            exact t0_nextOf_b72 C hQ hK5 v1 v2 v4 M _ _ _ h I (lv_sub hl [0, 1, 2, 4] rfl)
          · have h := h.1 c
            refine lv_iload hx hb dX0_nextOf_67 (lv_at hl 4 rfl) ?_
            refine lv_goto (tgt := 73) hx hb dX0_nextOf_69 (by decide) ?_
            exact t0_nextOf_b73 C hQ hK5 v1 v2 v4 v4 M _ _ _ h I (lv_sub hl [0, 1, 2, 4] rfl)
theorem t0_nextOf_b5 {p : Program} {l : Launch} {e : Env} {s : State} {m : MethodId} {args : Array Value} {below : List Frame} {meth : Method} {c : Code} {D : va_G} {T ad : Nat → Nat} {A : Nat → Prop} {H0 : Heap} {Qs : State → Prop} {Q : Int32 → Mem → Prop}  (C : XC D T RX0 p m c cX0_nextOf 5 s args) (hQ : xExi p l e rX0_nextOf s m args below meth c cX0_nextOf D T ad A H0 Qs Q)  : ∀ (n : Nat) (v1 : Int32) (v2 : Int32) (v3 : Int32) (v4 : Int32) (M : Mem) (H : Heap) (locs : List Loc) (ls : Array Slot), w0_nextOf_b5 Q n v1 v2 v3 v4 M → XI D T ad A H0 M H locs → lv_has ls 5 [(0, .ref (ad 0)), (1, .int v1), (2, .int v2), (3, .int v3), (4, .int v4)] → W p l e rX0_nextOf s m args below meth c H locs 0 0 Qs (F0 m 5 ls []) := by
  intro n
  induction n with
  | zero => intro v1 v2 v3 v4 M H locs ls h; exact h.elim
  | succ n ih => intro v1 v2 v3 v4 M H locs ls h I hl; exact t0_nextOf_b5_f C hQ  ih v1 v2 v3 v4 M H locs ls h I hl
theorem t0_nextOf {p : Program} {l : Launch} {e : Env} {s : State} {m : MethodId} {args : Array Value} {below : List Frame} {meth : Method} {c : Code} {D : va_G} {T ad : Nat → Nat} {A : Nat → Prop} {H0 : Heap} {Qs : State → Prop} {Q : Int32 → Mem → Prop} (C : XC D T RX0 p m c cX0_nextOf 5 s args) (hQ : xExi p l e rX0_nextOf s m args below meth c cX0_nextOf D T ad A H0 Qs Q) (v1 : Int32) (v2 : Int32) (M : Mem) (H : Heap) (locs : List Loc) (ls : Array Slot) (h : w0_nextOf v1 v2 M Q) (I : XI D T ad A H0 M H locs) (hl : lv_has ls 5 [(0, .ref (ad 0)), (1, .int v1), (2, .int v2)]) : W p l e rX0_nextOf s m args below meth c H locs 0 0 Qs (F0 m 0 ls []) := by
  have hx := C.1.1
  have hb := C.1.2.1
  have how := C.1.2.2.2.1
  have hts := C.1.2.2.2.2
  unfold w0_nextOf at h
  refine lv_iconst (v := -1) hx hb dX0_nextOf_0 (by decide) ?_
  refine lv_istore_n (lv' := [(3, .int (-1)), (0, .ref (ad 0)), (1, .int v1), (2, .int v2)]) hx hb dX0_nextOf_1 rfl hl (by decide) rfl (fun ls hl => ?_)
  refine lv_iconst (v := 0) hx hb dX0_nextOf_2 (by decide) ?_
  refine lv_istore (lv' := [(4, .int 0), (3, .int (-1)), (0, .ref (ad 0)), (1, .int v1), (2, .int v2)]) hx hb dX0_nextOf_3 hl (by decide) rfl (fun ls hl => ?_)
  obtain ⟨n, h⟩ := h
  exact t0_nextOf_b5 C hQ n v1 v2 (-1) 0 M _ _ _ h I (lv_sub hl [2, 3, 4, 1, 0] rfl)
theorem met0_nextOf (l : Launch) (D : va_G) (T ad ra : Nat → Nat) (v1 : Int32) (v2 : Int32) (M : Mem) {Qp : Int32 → Mem → Prop} (h : w0_nextOf v1 v2 M Qp) (sz : Nat) : Met l yX0_nextOf (ws_ yX0_nextOf cX0_nextOf 5 (some .int)) rX0_nextOf (xPc D T ad ra 0 [.int v1, .int v2] M sz) (xQi D T ad ra M Qp sz) 0 0 (fA (cX T ad ra M) sz) :=
  x_metI (own := RX0) (As := [.int v1, .int v2]) rfl rfl (Nat.le_of_ble_eq_true rfl) (fun p e s m args below meth c A Qs ls C hQ I hl => t0_nextOf C hQ v1 v2 M _ _ ls h I hl) sz
/-! setsOut -/
abbrev rX5_setsOut : Room := { frames := 0, cells := 0, slots := 0, locals := 0 }
theorem t5_setsOut {p : Program} {l : Launch} {e : Env} {s : State} {m : MethodId} {args : Array Value} {below : List Frame} {meth : Method} {c : Code} {D : va_G} {T ad : Nat → Nat} {A : Nat → Prop} {H0 : Heap} {Qs : State → Prop} {o : Nat} {Q : Mem → Prop} (C : XC D T RX5 p m c cX5_setsOut 4 s args) (hQ : xExv p l e rX5_setsOut s m args below meth c cX5_setsOut D T ad A H0 Qs Q) (ho : isCar o) (v1 : Int32) (v2 : Int32) (v3 : Int32) (M : Mem) (H : Heap) (locs : List Loc) (ls : Array Slot) (h : w5_setsOut o v1 v2 v3 M Q) (I : XI D T ad A H0 M H locs) (hl : lv_has ls 4 [(0, .ref (ad o)), (1, .int v1), (2, .int v2), (3, .int v3)]) : W p l e rX5_setsOut s m args below meth c H locs 0 0 Qs (F0 m 0 ls []) := by
  have hx := C.1.1
  have hb := C.1.2.1
  have how := C.1.2.2.2.1
  have hts := C.1.2.2.2.2
  unfold w5_setsOut at h
  refine lv_aload_n hx hb dX5_setsOut_0 rfl (lv_at hl 0 rfl) ?_
  refine lv_dup hx hb dX5_setsOut_1 rfl ?_
  refine xcg5_left C I ho dX5_setsOut_2 ?_
  refine lv_iload_n hx hb dX5_setsOut_5 rfl (lv_at hl 2 rfl) ?_
  refine lv_aload_n hx hb dX5_setsOut_6 rfl (lv_at hl 0 rfl) ?_
  refine xcg5_load C I ho dX5_setsOut_7 ?_
  refine lv_iadd hx hb dX5_setsOut_10 ?_
  refine lv_isub hx hb dX5_setsOut_11 ?_
  refine xcp5_left C I ho dX5_setsOut_12 (fun M1 H locs eM1 I => ?_)
  have h := h M1 eM1
  refine lv_aload_n hx hb dX5_setsOut_15 rfl (lv_at hl 0 rfl) ?_
  refine lv_iconst (v := 1) hx hb dX5_setsOut_16 (by decide) ?_
  refine xcp5_is C I ho dX5_setsOut_17 (fun M2 H locs eM2 I => ?_)
  have h := h M2 eM2
  refine lv_aload_n hx hb dX5_setsOut_20 rfl (lv_at hl 0 rfl) ?_
  refine lv_iconst (v := -1) hx hb dX5_setsOut_21 (by decide) ?_
  refine xcp5_place C I ho dX5_setsOut_22 (fun M3 H locs eM3 I => ?_)
  have h := h M3 eM3
  refine lv_aload_n hx hb dX5_setsOut_25 rfl (lv_at hl 0 rfl) ?_
  refine lv_iload_n hx hb dX5_setsOut_26 rfl (lv_at hl 1 rfl) ?_
  refine xcp5_whither C I ho dX5_setsOut_27 (fun M4 H locs eM4 I => ?_)
  have h := h M4 eM4
  refine lv_aload_n hx hb dX5_setsOut_30 rfl (lv_at hl 0 rfl) ?_
  refine lv_iload_n hx hb dX5_setsOut_31 rfl (lv_at hl 3 rfl) ?_
  refine lv_iload_n hx hb dX5_setsOut_32 rfl (lv_at hl 2 rfl) ?_
  refine lv_iadd hx hb dX5_setsOut_33 ?_
  refine xcp5_arrives C I ho dX5_setsOut_34 (fun M5 H locs eM5 I => ?_)
  have h := h M5 eM5
  exact hQ _ _ _ _ _ h I dX5_setsOut_37
theorem met5_setsOut (l : Launch) (D : va_G) (T ad ra : Nat → Nat) (o : Nat) (v1 : Int32) (v2 : Int32) (v3 : Int32) (M : Mem) {Qp : Mem → Prop} (h : w5_setsOut o v1 v2 v3 M Qp) (ho : isCar o) (sz : Nat) : Met l yX5_setsOut (ws_ yX5_setsOut cX5_setsOut 4 none) rX5_setsOut (xPc D T ad ra o [.int v1, .int v2, .int v3] M sz) (xQv D T ad ra M Qp sz) 0 0 (fA (cX T ad ra M) sz) :=
  x_metV (own := RX5) (As := [.int v1, .int v2, .int v3]) rfl rfl (Nat.le_of_ble_eq_true rfl) (fun p e s m args below meth c A Qs ls C hQ I hl => t5_setsOut C hQ ho v1 v2 v3 M _ _ ls h I hl) sz
/-! decides -/
abbrev rX0_decides : Room := { frames := 3, cells := 0, slots := 0, locals := 66 }
theorem cw0_240 {R : Room} {s : State} {args : Array Value} (hts : ∀ w ∈ lw_all, w.before args s = true) (hR : rX5_ends.frames + 1 ≤ R.frames ∧ 8 + (3 + 11) + rX5_ends.locals ≤ R.locals) : CallW R s args RX0 RX5 240 yX5_ends cX5_ends 3 none (ws_ yX5_ends cX5_ends 3 none) rX5_ends 0 0 2 := cwV 2 hts (lw_V q322 q323 q324 q94 q325) rfl rfl rfl (by decide +kernel) hR
theorem cw0_244 {R : Room} {s : State} {args : Array Value} (hts : ∀ w ∈ lw_all, w.before args s = true) (hR : rX0_isAnswer.frames + 1 ≤ R.frames ∧ 8 + (5 + 11) + rX0_isAnswer.locals ≤ R.locals) : CallW R s args RX0 RX0 244 yX0_isAnswer cX0_isAnswer 5 (some .boolean) (ws_ yX0_isAnswer cX0_isAnswer 5 (some .boolean)) rX0_isAnswer 0 0 2 := cwV 2 hts (lw_V q326 q328 qs26 q89 q329) rfl rfl rfl (by decide +kernel) hR
theorem cw0_251 {R : Room} {s : State} {args : Array Value} (hts : ∀ w ∈ lw_all, w.before args s = true) (hR : rX0_nextOf.frames + 1 ≤ R.frames ∧ 8 + (5 + 11) + rX0_nextOf.locals ≤ R.locals) : CallW R s args RX0 RX0 251 yX0_nextOf cX0_nextOf 5 (some .int) (ws_ yX0_nextOf cX0_nextOf 5 (some .int)) rX0_nextOf 0 0 2 := cwV 2 hts (lw_V q348 q350 qs27 q89 q351) rfl rfl rfl (by decide +kernel) hR
theorem cw0_257 {R : Room} {s : State} {args : Array Value} (hts : ∀ w ∈ lw_all, w.before args s = true) (hR : rX5_setsOut.frames + 1 ≤ R.frames ∧ 8 + (4 + 11) + rX5_setsOut.locals ≤ R.locals) : CallW R s args RX0 RX5 257 yX5_setsOut cX5_setsOut 4 none (ws_ yX5_setsOut cX5_setsOut 4 none) rX5_setsOut 0 0 3 := cwV 3 hts (lw_V q352 q353 q354 q94 q355) rfl rfl rfl (by decide +kernel) hR
theorem t0_decides_b146 {p : Program} {l : Launch} {e : Env} {s : State} {m : MethodId} {args : Array Value} {below : List Frame} {meth : Method} {c : Code} {D : va_G} {T ad : Nat → Nat} {A : Nat → Prop} {H0 : Heap} {Qs : State → Prop} {Q : Mem → Prop}  (C : XC D T RX0 p m c cX0_decides 5 s args) (hQ : xExv p l e rX0_decides s m args below meth c cX0_decides D T ad A H0 Qs Q)   (M : Mem) (H : Heap) (locs : List Loc) (ls : Array Slot) (h : w0_decides_b146 Q M) (I : XI D T ad A H0 M H locs) (hl : lv_has ls 5 [(0, .ref (ad 0))]) : W p l e rX0_decides s m args below meth c H locs 0 0 Qs (F0 m 146 ls []) := by
  have hx := C.1.1
  have hb := C.1.2.1
  have how := C.1.2.2.2.1
  have hts := C.1.2.2.2.2
  unfold w0_decides_b146 at h
  exact hQ _ _ _ _ _ h I dX0_decides_146
theorem t0_decides_b131 {p : Program} {l : Launch} {e : Env} {s : State} {m : MethodId} {args : Array Value} {below : List Frame} {meth : Method} {c : Code} {D : va_G} {T ad : Nat → Nat} {A : Nat → Prop} {H0 : Heap} {Qs : State → Prop} {Q : Mem → Prop}  (C : XC D T RX0 p m c cX0_decides 5 s args) (hQ : xExv p l e rX0_decides s m args below meth c cX0_decides D T ad A H0 Qs Q)  (v2 : Int32) (s0 : Nat) (s1 : Int32) (M : Mem) (H : Heap) (locs : List Loc) (ls : Array Slot) (h : w0_decides_b131 Q v2 s0 s1 M) (I : XI D T ad A H0 M H locs) (hl : lv_has ls 5 [(0, .ref (ad 0)), (2, .int v2)]) : W p l e rX0_decides s m args below meth c H locs 0 0 Qs (F0 m 131 ls [.int s1, .ref (ad s0)]) := by
  have hx := C.1.1
  have hb := C.1.2.1
  have how := C.1.2.2.2.1
  have hts := C.1.2.2.2.2
  unfold w0_decides_b131 at h
  refine lv_iload_n hx hb dX0_decides_131 rfl (lv_at hl 1 rfl) ?_
  obtain ⟨hg2, h⟩ := h
  refine x_callCv (As := [.int s1, .int v2]) (rest := []) C I hg2 (fun ra => met5_ends l D T ad ra s0 s1 v2 M h hg2) (cw0_240 hts ⟨Nat.le_of_ble_eq_true rfl, Nat.le_of_ble_eq_true rfl⟩) rfl hl.1 rfl (Nat.le_of_ble_eq_true rfl) ⟨Nat.zero_le _, Nat.zero_le _⟩ dX0_decides_132 (fun M1 H locs h I => ?_)
  refine lv_goto (tgt := 146) hx hb dX0_decides_135 (by decide) ?_
  exact t0_decides_b146 C hQ M1 _ _ _ h I (lv_sub hl [0] rfl)
theorem t0_decides_b120 {p : Program} {l : Launch} {e : Env} {s : State} {m : MethodId} {args : Array Value} {below : List Frame} {meth : Method} {c : Code} {D : va_G} {T ad : Nat → Nat} {A : Nat → Prop} {H0 : Heap} {Qs : State → Prop} {Q : Mem → Prop}  (C : XC D T RX0 p m c cX0_decides 5 s args) (hQ : xExv p l e rX0_decides s m args below meth c cX0_decides D T ad A H0 Qs Q)  (v1 : Nat) (v2 : Int32) (v3 : Int32) (M : Mem) (H : Heap) (locs : List Loc) (ls : Array Slot) (h : w0_decides_b120 Q v1 v2 v3 M) (I : XI D T ad A H0 M H locs) (hl : lv_has ls 5 [(0, .ref (ad 0)), (1, .ref (ad v1)), (2, .int v2), (3, .int v3)]) : W p l e rX0_decides s m args below meth c H locs 0 0 Qs (F0 m 120 ls []) := by
  have hx := C.1.1
  have hb := C.1.2.1
  have how := C.1.2.2.2.1
  have hts := C.1.2.2.2.2
  unfold w0_decides_b120 at h
  refine lv_aload_n hx hb dX0_decides_120 rfl (lv_at hl 1 rfl) ?_
  refine lv_iload_n hx hb dX0_decides_121 rfl (lv_at hl 3 rfl) ?_
  refine lv_iconst (v := -1) hx hb dX0_decides_122 (by decide) ?_
  refine lv_icmp_ne (tgt := 130) hx hb dX0_decides_123 (by decide) (fun c => ?_) (fun c => ?_)
  · have h := h.2 c
    refine lv_iconst (v := 4) hx hb dX0_decides_130 (by decide) ?_
    exact t0_decides_b131 C hQ v2 v1 4 M _ _ _ h I (lv_sub hl [0, 2] rfl)
  · have h := h.1 c
    refine lv_iconst (v := 5) hx hb dX0_decides_126 (by decide) ?_
    refine lv_goto (tgt := 131) hx hb dX0_decides_127 (by decide) ?_
    exact t0_decides_b131 C hQ v2 v1 5 M _ _ _ h I (lv_sub hl [0, 2] rfl)
theorem t0_decides_b99 {p : Program} {l : Launch} {e : Env} {s : State} {m : MethodId} {args : Array Value} {below : List Frame} {meth : Method} {c : Code} {D : va_G} {T ad : Nat → Nat} {A : Nat → Prop} {H0 : Heap} {Qs : State → Prop} {Q : Mem → Prop}  (C : XC D T RX0 p m c cX0_decides 5 s args) (hQ : xExv p l e rX0_decides s m args below meth c cX0_decides D T ad A H0 Qs Q)  (v1 : Nat) (v2 : Int32) (v3 : Int32) (s0 : Int32) (M : Mem) (H : Heap) (locs : List Loc) (ls : Array Slot) (h : w0_decides_b99 Q v1 v2 v3 s0 M) (I : XI D T ad A H0 M H locs) (hl : lv_has ls 5 [(0, .ref (ad 0)), (1, .ref (ad v1)), (2, .int v2), (3, .int v3)]) : W p l e rX0_decides s m args below meth c H locs 0 0 Qs (F0 m 99 ls [.int s0]) := by
  have hx := C.1.1
  have hb := C.1.2.1
  have how := C.1.2.2.2.1
  have hts := C.1.2.2.2.2
  unfold w0_decides_b99 at h
  refine lv_istore (lv' := [(4, .int s0), (0, .ref (ad 0)), (1, .ref (ad v1)), (2, .int v2), (3, .int v3)]) hx hb dX0_decides_99 hl (by decide) rfl (fun ls hl => ?_)
  refine lv_iload_n hx hb dX0_decides_101 rfl (lv_at hl 4 rfl) ?_
  refine lv_iconst (v := -1) hx hb dX0_decides_102 (by decide) ?_
  refine lv_icmp_eq (tgt := 120) hx hb dX0_decides_103 (by decide) (fun c => ?_) (fun c => ?_)
  · have h := h.1 c
    exact t0_decides_b120 C hQ v1 v2 v3 M _ _ _ h I (lv_sub hl [1, 2, 3, 4] rfl)
  · have h := h.2 c
    refine lv_aload_n hx hb dX0_decides_106 rfl (lv_at hl 2 rfl) ?_
    obtain ⟨hg3, h⟩ := h
    refine xcg0_left C I hg3 dX0_decides_107 ?_
    refine lv_iload hx hb dX0_decides_110 (lv_at hl 0 rfl) ?_
    refine lv_aload_n hx hb dX0_decides_112 rfl (lv_at hl 2 rfl) ?_
    refine xcg0_load C I hg3 dX0_decides_113 ?_
    refine lv_iadd hx hb dX0_decides_116 ?_
    refine lv_icmp_ge (tgt := 138) hx hb dX0_decides_117 (by decide) (fun c => ?_) (fun c => ?_)
    · have h := h.1 c
      refine lv_aload_n hx hb dX0_decides_138 rfl (lv_at hl 2 rfl) ?_
      refine lv_iload_n hx hb dX0_decides_139 rfl (lv_at hl 4 rfl) ?_
      refine lv_iload hx hb dX0_decides_140 (lv_at hl 0 rfl) ?_
      refine lv_iload_n hx hb dX0_decides_142 rfl (lv_at hl 3 rfl) ?_
      refine x_callCv (As := [.int v3, .int s0, .int v2]) (rest := []) C I hg3 (fun ra => met5_setsOut l D T ad ra v1 v3 s0 v2 M h hg3) (cw0_257 hts ⟨Nat.le_of_ble_eq_true rfl, Nat.le_of_ble_eq_true rfl⟩) rfl hl.1 rfl (Nat.le_of_ble_eq_true rfl) ⟨Nat.zero_le _, Nat.zero_le _⟩ dX0_decides_143 (fun M4 H locs h I => ?_)
      exact t0_decides_b146 C hQ M4 _ _ _ h I (lv_sub hl [1] rfl)
    · have h := h.2 c
      exact t0_decides_b120 C hQ v1 v2 v3 M _ _ _ h I (lv_sub hl [1, 2, 3, 4] rfl)
theorem t0_decides_b51 {p : Program} {l : Launch} {e : Env} {s : State} {m : MethodId} {args : Array Value} {below : List Frame} {meth : Method} {c : Code} {D : va_G} {T ad : Nat → Nat} {A : Nat → Prop} {H0 : Heap} {Qs : State → Prop} {Q : Mem → Prop}  (C : XC D T RX0 p m c cX0_decides 5 s args) (hQ : xExv p l e rX0_decides s m args below meth c cX0_decides D T ad A H0 Qs Q)  (v1 : Nat) (v2 : Int32) (s0 : Int32) (s1 : Int32) (s2 : Int32) (M : Mem) (H : Heap) (locs : List Loc) (ls : Array Slot) (h : w0_decides_b51 Q v1 v2 s0 s1 s2 M) (I : XI D T ad A H0 M H locs) (hl : lv_has ls 5 [(0, .ref (ad 0)), (1, .ref (ad v1)), (2, .int v2)]) : W p l e rX0_decides s m args below meth c H locs 0 0 Qs (F0 m 51 ls [.int s2, .int s1, .ref (ad (25 + ci s0))]) := by
  have hx := C.1.1
  have hb := C.1.2.1
  have how := C.1.2.2.2.1
  have hts := C.1.2.2.2.2
  unfold w0_decides_b51 at h
  obtain ⟨hg5, h⟩ := h
  refine x_isAnswered (rest := []) C I hg5 (Nat.le_of_ble_eq_true rfl) (Nat.le_of_ble_eq_true rfl) hl.1 (Nat.le_of_ble_eq_true rfl) ⟨Nat.zero_le _, Nat.zero_le _⟩ dX0_decides_51 (fun H locs I => ?_)
  refine lv_if_eq (tgt := 66) hx hb dX0_decides_54 (by decide) (fun c => ?_) (fun c => ?_)
  · have h := h.1 c
    refine lv_aload_n hx hb dX0_decides_66 rfl (lv_at hl 0 rfl) ?_
    refine lv_aload_n hx hb dX0_decides_67 rfl (lv_at hl 1 rfl) ?_
    obtain ⟨hg6, h⟩ := h
    refine xcg0_place C I hg6 dX0_decides_68 ?_
    refine lv_aload_n hx hb dX0_decides_71 rfl (lv_at hl 1 rfl) ?_
    refine xcg0_goal C I hg6 dX0_decides_72 ?_
    refine x_calli (As := [.int (M v1 7), .int (M v1 1)]) (rest := []) C I (fun ra => met0_nextOf l D T ad ra (M v1 7) (M v1 1) M h) (cw0_251 hts ⟨Nat.le_of_ble_eq_true rfl, Nat.le_of_ble_eq_true rfl⟩) rfl hl.1 rfl (Nat.le_of_ble_eq_true rfl) ⟨Nat.zero_le _, Nat.zero_le _⟩ dX0_decides_75 (fun r7 M8 H locs h I => ?_)
    refine lv_istore_n (lv' := [(3, .int r7), (0, .ref (ad 0)), (1, .ref (ad v1)), (2, .int v2)]) hx hb dX0_decides_78 rfl hl (by decide) rfl (fun ls hl => ?_)
    refine lv_iload_n hx hb dX0_decides_79 rfl (lv_at hl 0 rfl) ?_
    refine lv_iconst (v := -1) hx hb dX0_decides_80 (by decide) ?_
    refine lv_icmp_ne (tgt := 88) hx hb dX0_decides_81 (by decide) (fun c => ?_) (fun c => ?_)
    · have h := h.2 c
      refine lv_aload_n hx hb dX0_decides_88 rfl (lv_at hl 1 rfl) ?_
      refine xg_beside C I dX0_decides_89 ?_
      refine lv_aload_n hx hb dX0_decides_92 rfl (lv_at hl 2 rfl) ?_
      refine xcg0_place C I hg6 dX0_decides_93 ?_
      obtain ⟨hg9, h⟩ := h
      refine xa_beside C I hg9 dX0_decides_96 ?_
      refine lv_iload_n hx hb dX0_decides_97 rfl (lv_at hl 0 rfl) ?_
      obtain ⟨hg10, h⟩ := h
      refine x_iald C I (40 + ci (M8 v1 7)) (lenX (40 + ci (M8 v1 7))) rfl hg10 dX0_decides_98 ?_
      exact t0_decides_b99 C hQ v1 v2 r7 (M8 (40 + ci (M8 v1 7)) (ci r7)) M8 _ _ _ h I (lv_sub hl [1, 2, 3, 0] rfl)
    · have h := h.1 c
      refine lv_iconst (v := 0) hx hb dX0_decides_84 (by decide) ?_
      refine lv_goto (tgt := 99) hx hb dX0_decides_85 (by decide) ?_
      exact t0_decides_b99 C hQ v1 v2 r7 0 M8 _ _ _ h I (lv_sub hl [1, 2, 3, 0] rfl)
  · have h := h.2 c
    refine lv_aload_n hx hb dX0_decides_57 rfl (lv_at hl 1 rfl) ?_
    refine lv_iconst (v := 3) hx hb dX0_decides_58 (by decide) ?_
    refine lv_iload_n hx hb dX0_decides_59 rfl (lv_at hl 2 rfl) ?_
    obtain ⟨hg12, h⟩ := h
    refine x_callCv (As := [.int 3, .int v2]) (rest := []) C I hg12 (fun ra => met5_ends l D T ad ra v1 3 v2 M h hg12) (cw0_240 hts ⟨Nat.le_of_ble_eq_true rfl, Nat.le_of_ble_eq_true rfl⟩) rfl hl.1 rfl (Nat.le_of_ble_eq_true rfl) ⟨Nat.zero_le _, Nat.zero_le _⟩ dX0_decides_60 (fun M11 H locs h I => ?_)
    refine lv_goto (tgt := 146) hx hb dX0_decides_63 (by decide) ?_
    exact t0_decides_b146 C hQ M11 _ _ _ h I (lv_sub hl [0] rfl)
theorem t0_decides {p : Program} {l : Launch} {e : Env} {s : State} {m : MethodId} {args : Array Value} {below : List Frame} {meth : Method} {c : Code} {D : va_G} {T ad : Nat → Nat} {A : Nat → Prop} {H0 : Heap} {Qs : State → Prop} {Q : Mem → Prop} (C : XC D T RX0 p m c cX0_decides 5 s args) (hQ : xExv p l e rX0_decides s m args below meth c cX0_decides D T ad A H0 Qs Q) (v1 : Nat) (v2 : Int32) (M : Mem) (H : Heap) (locs : List Loc) (ls : Array Slot) (h : w0_decides v1 v2 M Q) (I : XI D T ad A H0 M H locs) (hl : lv_has ls 5 [(0, .ref (ad 0)), (1, .ref (ad v1)), (2, .int v2)]) : W p l e rX0_decides s m args below meth c H locs 0 0 Qs (F0 m 0 ls []) := by
  have hx := C.1.1
  have hb := C.1.2.1
  have how := C.1.2.2.2.1
  have hts := C.1.2.2.2.2
  unfold w0_decides at h
  refine lv_aload_n hx hb dX0_decides_0 rfl (lv_at hl 1 rfl) ?_
  obtain ⟨hg13, h⟩ := h
  refine xcg0_place C I hg13 dX0_decides_1 ?_
  refine lv_aload_n hx hb dX0_decides_4 rfl (lv_at hl 1 rfl) ?_
  refine xcg0_goal C I hg13 dX0_decides_5 ?_
  refine lv_icmp_ne (tgt := 20) hx hb dX0_decides_8 (by decide) (fun c => ?_) (fun c => ?_)
  · have h := h.2 c
    refine lv_aload_n hx hb dX0_decides_20 rfl (lv_at hl 1 rfl) ?_
    obtain ⟨hg15, h⟩ := h
    refine xcg0_question C I hg13 hg15 dX0_decides_21 ?_
    refine lv_aload_n hx hb dX0_decides_24 rfl (lv_at hl 0 rfl) ?_
    refine lv_iload_n hx hb dX0_decides_25 rfl (lv_at hl 2 rfl) ?_
    refine lv_aload_n hx hb dX0_decides_26 rfl (lv_at hl 1 rfl) ?_
    refine xcg0_place C I hg13 dX0_decides_27 ?_
    refine x_calli (As := [.int v2, .int (M v1 7)]) (rest := [.ref (ad (25 + ci (M v1 2)))]) C I (fun ra => met0_isAnswer l D T ad ra v2 (M v1 7) M h) (cw0_244 hts ⟨Nat.le_of_ble_eq_true rfl, Nat.le_of_ble_eq_true rfl⟩) rfl hl.1 rfl (Nat.le_of_ble_eq_true rfl) ⟨Nat.zero_le _, Nat.zero_le _⟩ dX0_decides_30 (fun r16 M17 H locs h I => ?_)
    refine lv_aload_n hx hb dX0_decides_33 rfl (lv_at hl 0 rfl) ?_
    refine xg_present C I dX0_decides_34 ?_
    refine lv_aload_n hx hb dX0_decides_37 rfl (lv_at hl 1 rfl) ?_
    refine xcg0_place C I hg13 dX0_decides_38 ?_
    obtain ⟨hg18, h⟩ := h
    refine x_iald C I 16 8 rfl hg18 dX0_decides_41 ?_
    refine lv_iconst (v := 1) hx hb dX0_decides_42 (by decide) ?_
    refine lv_icmp_le (tgt := 50) hx hb dX0_decides_43 (by decide) (fun c => ?_) (fun c => ?_)
    · have h := h.1 c
      refine lv_iconst (v := 0) hx hb dX0_decides_50 (by decide) ?_
      exact t0_decides_b51 C hQ v1 v2 (M v1 2) r16 0 M17 _ _ _ h I (lv_sub hl [0, 1, 2] rfl)
    · have h := h.2 c
      refine lv_iconst (v := 1) hx hb dX0_decides_46 (by decide) ?_
      refine lv_goto (tgt := 51) hx hb dX0_decides_47 (by decide) ?_
      exact t0_decides_b51 C hQ v1 v2 (M v1 2) r16 1 M17 _ _ _ h I (lv_sub hl [0, 1, 2] rfl)
  · have h := h.1 c
    refine lv_aload_n hx hb dX0_decides_11 rfl (lv_at hl 1 rfl) ?_
    refine lv_iconst (v := 2) hx hb dX0_decides_12 (by decide) ?_
    refine lv_iload_n hx hb dX0_decides_13 rfl (lv_at hl 2 rfl) ?_
    refine x_callCv (As := [.int 2, .int v2]) (rest := []) C I hg13 (fun ra => met5_ends l D T ad ra v1 2 v2 M h hg13) (cw0_240 hts ⟨Nat.le_of_ble_eq_true rfl, Nat.le_of_ble_eq_true rfl⟩) rfl hl.1 rfl (Nat.le_of_ble_eq_true rfl) ⟨Nat.zero_le _, Nat.zero_le _⟩ dX0_decides_14 (fun M14 H locs h I => ?_)
    refine lv_goto (tgt := 146) hx hb dX0_decides_17 (by decide) ?_
    exact t0_decides_b146 C hQ M14 _ _ _ h I (lv_sub hl [0] rfl)
theorem met0_decides (l : Launch) (D : va_G) (T ad ra : Nat → Nat) (v1 : Nat) (v2 : Int32) (M : Mem) {Qp : Mem → Prop} (h : w0_decides v1 v2 M Qp) (sz : Nat) : Met l yX0_decides (ws_ yX0_decides cX0_decides 5 none) rX0_decides (xPc D T ad ra 0 [.ref (ad v1), .int v2] M sz) (xQv D T ad ra M Qp sz) 0 0 (fA (cX T ad ra M) sz) :=
  x_metV (own := RX0) (As := [.ref (ad v1), .int v2]) rfl rfl (Nat.le_of_ble_eq_true rfl) (fun p e s m args below meth c A Qs ls C hQ I hl => t0_decides C hQ v1 v2 M _ _ ls h I hl) sz
/-! goesBy -/
abbrev rX0_goesBy : Room := { frames := 4, cells := 0, slots := 0, locals := 90 }
theorem cw0_260 {R : Room} {s : State} {args : Array Value} (hts : ∀ w ∈ lw_all, w.before args s = true) (hR : rX0_counts.frames + 1 ≤ R.frames ∧ 8 + (4 + 11) + rX0_counts.locals ≤ R.locals) : CallW R s args RX0 RX0 260 yX0_counts cX0_counts 4 none (ws_ yX0_counts cX0_counts 4 none) rX0_counts 0 0 1 := cwV 1 hts (lw_V q310 q312 qs23 q89 q313) rfl rfl rfl (by decide +kernel) hR
theorem cw0_263 {R : Room} {s : State} {args : Array Value} (hts : ∀ w ∈ lw_all, w.before args s = true) (hR : rX0_decides.frames + 1 ≤ R.frames ∧ 8 + (5 + 11) + rX0_decides.locals ≤ R.locals) : CallW R s args RX0 RX0 263 yX0_decides cX0_decides 5 none (ws_ yX0_decides cX0_decides 5 none) rX0_decides 0 0 2 := cwV 2 hts (lw_V q318 q320 qs25 q89 q321) rfl rfl rfl (by decide +kernel) hR
theorem t0_goesBy_b40 {p : Program} {l : Launch} {e : Env} {s : State} {m : MethodId} {args : Array Value} {below : List Frame} {meth : Method} {c : Code} {D : va_G} {T ad : Nat → Nat} {A : Nat → Prop} {H0 : Heap} {Qs : State → Prop} {Q : Mem → Prop} {K7 : Int32 → Int32 → Mem → Prop} (C : XC D T RX0 p m c cX0_goesBy 3 s args) (hQ : xExv p l e rX0_goesBy s m args below meth c cX0_goesBy D T ad A H0 Qs Q) (hK7 : ∀ (v1 : Int32) (v2 : Int32) (M : Mem) (H : Heap) (locs : List Loc) (ls : Array Slot), K7 v1 v2 M → XI D T ad A H0 M H locs → lv_has ls 3 [(0, .ref (ad 0)), (1, .int v1), (2, .int v2)] → W p l e rX0_goesBy s m args below meth c H locs 0 0 Qs (F0 m 7 ls [])) (v1 : Int32) (v2 : Int32) (M : Mem) (H : Heap) (locs : List Loc) (ls : Array Slot) (h : w0_goesBy_b40 Q K7 v1 v2 M) (I : XI D T ad A H0 M H locs) (hl : lv_has ls 3 [(0, .ref (ad 0)), (1, .int v1), (2, .int v2)]) : W p l e rX0_goesBy s m args below meth c H locs 0 0 Qs (F0 m 40 ls []) := by
  have hx := C.1.1
  have hb := C.1.2.1
  have how := C.1.2.2.2.1
  have hts := C.1.2.2.2.2
  unfold w0_goesBy_b40 at h
  refine lv_aload_n hx hb dX0_goesBy_40 rfl (lv_at hl 0 rfl) ?_
  refine xg_placeAt C I dX0_goesBy_41 ?_
  refine lv_iload_n hx hb dX0_goesBy_44 rfl (lv_at hl 1 rfl) ?_
  obtain ⟨hg1, h⟩ := h
  refine xa_placeAt C I hg1 dX0_goesBy_45 ?_
  refine lv_iload_n hx hb dX0_goesBy_46 rfl (lv_at hl 2 rfl) ?_
  refine lv_aload_n hx hb dX0_goesBy_47 rfl (lv_at hl 0 rfl) ?_
  refine xg_all C I dX0_goesBy_48 ?_
  refine lv_iload_n hx hb dX0_goesBy_51 rfl (lv_at hl 2 rfl) ?_
  obtain ⟨hg2, h⟩ := h
  refine xa_all C I hg2 dX0_goesBy_52 ?_
  refine xcg0_place C I (isCar_of hg2) dX0_goesBy_53 ?_
  obtain ⟨hg3, h⟩ := h
  refine x_iast C I (60 + ci v1) (lenX (60 + ci v1)) rfl hg3 dX0_goesBy_56 (fun M4 H locs eM4 I => ?_)
  have h := h M4 eM4
  refine lv_iinc (v := (v2 + 1)) (lv' := [(2, .int (v2 + 1)), (0, .ref (ad 0)), (1, .int v1)]) hx hb dX0_goesBy_57 hl (k := 2) rfl (ii_1 _) (by decide) rfl (fun ls hl => ?_)
  refine lv_goto (tgt := 7) hx hb dX0_goesBy_60 (by decide) ?_
  exact hK7 v1 (v2 + 1) M4 _ _ _ h I (lv_sub hl [1, 2, 0] rfl)
theorem t0_goesBy_b7_f {p : Program} {l : Launch} {e : Env} {s : State} {m : MethodId} {args : Array Value} {below : List Frame} {meth : Method} {c : Code} {D : va_G} {T ad : Nat → Nat} {A : Nat → Prop} {H0 : Heap} {Qs : State → Prop} {Q : Mem → Prop} {K7 : Int32 → Int32 → Mem → Prop} (C : XC D T RX0 p m c cX0_goesBy 3 s args) (hQ : xExv p l e rX0_goesBy s m args below meth c cX0_goesBy D T ad A H0 Qs Q) (hK7 : ∀ (v1 : Int32) (v2 : Int32) (M : Mem) (H : Heap) (locs : List Loc) (ls : Array Slot), K7 v1 v2 M → XI D T ad A H0 M H locs → lv_has ls 3 [(0, .ref (ad 0)), (1, .int v1), (2, .int v2)] → W p l e rX0_goesBy s m args below meth c H locs 0 0 Qs (F0 m 7 ls [])) (v1 : Int32) (v2 : Int32) (M : Mem) (H : Heap) (locs : List Loc) (ls : Array Slot) (h : w0_goesBy_b7_f Q K7 v1 v2 M) (I : XI D T ad A H0 M H locs) (hl : lv_has ls 3 [(0, .ref (ad 0)), (1, .int v1), (2, .int v2)]) : W p l e rX0_goesBy s m args below meth c H locs 0 0 Qs (F0 m 7 ls []) := by
  have hx := C.1.1
  have hb := C.1.2.1
  have how := C.1.2.2.2.1
  have hts := C.1.2.2.2.2
  unfold w0_goesBy_b7_f at h
  refine lv_iload_n hx hb dX0_goesBy_7 rfl (lv_at hl 2 rfl) ?_
  refine lv_aload_n hx hb dX0_goesBy_8 rfl (lv_at hl 0 rfl) ?_
  refine xg_carters C I dX0_goesBy_9 ?_
  refine lv_icmp_ge (tgt := 63) hx hb dX0_goesBy_12 (by decide) (fun c => ?_) (fun c => ?_)
  · have h := h.1 c
    exact hQ _ _ _ _ _ h I dX0_goesBy_63
  · have h := h.2 c
    refine lv_aload_n hx hb dX0_goesBy_15 rfl (lv_at hl 0 rfl) ?_
    refine lv_aload_n hx hb dX0_goesBy_16 rfl (lv_at hl 0 rfl) ?_
    refine xg_all C I dX0_goesBy_17 ?_
    refine lv_iload_n hx hb dX0_goesBy_20 rfl (lv_at hl 2 rfl) ?_
    obtain ⟨hg5, h⟩ := h
    refine xa_all C I hg5 dX0_goesBy_21 ?_
    refine lv_iload_n hx hb dX0_goesBy_22 rfl (lv_at hl 1 rfl) ?_
    refine x_calli (As := [.ref (ad (30 + ci v2)), .int v1]) (rest := []) C I (fun ra => met0_doesArrive l D T ad ra (30 + ci v2) v1 M h) (cw0_230 hts ⟨Nat.le_of_ble_eq_true rfl, Nat.le_of_ble_eq_true rfl⟩) rfl hl.1 rfl (Nat.le_of_ble_eq_true rfl) ⟨Nat.zero_le _, Nat.zero_le _⟩ dX0_goesBy_23 (fun r6 M7 H locs h I => ?_)
    refine lv_if_eq (tgt := 40) hx hb dX0_goesBy_26 (by decide) (fun c => ?_) (fun c => ?_)
    · have h := h.1 c
      exact t0_goesBy_b40 C hQ hK7 v1 v2 M7 _ _ _ h I (lv_sub hl [0, 1, 2] rfl)
    · have h := h.2 c
      refine lv_aload_n hx hb dX0_goesBy_29 rfl (lv_at hl 0 rfl) ?_
      refine lv_aload_n hx hb dX0_goesBy_30 rfl (lv_at hl 0 rfl) ?_
      refine xg_all C I dX0_goesBy_31 ?_
      refine lv_iload_n hx hb dX0_goesBy_34 rfl (lv_at hl 2 rfl) ?_
      refine xa_all C I hg5 dX0_goesBy_35 ?_
      refine lv_iload_n hx hb dX0_goesBy_36 rfl (lv_at hl 1 rfl) ?_
      refine x_callv (As := [.ref (ad (30 + ci v2)), .int v1]) (rest := []) C I (fun ra => met0_decides l D T ad ra (30 + ci v2) v1 M7 h) (cw0_263 hts ⟨Nat.le_of_ble_eq_true rfl, Nat.le_of_ble_eq_true rfl⟩) rfl hl.1 rfl (Nat.le_of_ble_eq_true rfl) ⟨Nat.zero_le _, Nat.zero_le _⟩ dX0_goesBy_37 (fun M8 H locs h I => ?_)
      exact t0_goesBy_b40 C hQ hK7 v1 v2 M8 _ _ _ h I (lv_sub hl [0, 1, 2] rfl)
theorem t0_goesBy_b7 {p : Program} {l : Launch} {e : Env} {s : State} {m : MethodId} {args : Array Value} {below : List Frame} {meth : Method} {c : Code} {D : va_G} {T ad : Nat → Nat} {A : Nat → Prop} {H0 : Heap} {Qs : State → Prop} {Q : Mem → Prop}  (C : XC D T RX0 p m c cX0_goesBy 3 s args) (hQ : xExv p l e rX0_goesBy s m args below meth c cX0_goesBy D T ad A H0 Qs Q)  : ∀ (n : Nat) (v1 : Int32) (v2 : Int32) (M : Mem) (H : Heap) (locs : List Loc) (ls : Array Slot), w0_goesBy_b7 Q n v1 v2 M → XI D T ad A H0 M H locs → lv_has ls 3 [(0, .ref (ad 0)), (1, .int v1), (2, .int v2)] → W p l e rX0_goesBy s m args below meth c H locs 0 0 Qs (F0 m 7 ls []) := by
  intro n
  induction n with
  | zero => intro v1 v2 M H locs ls h; exact h.elim
  | succ n ih => intro v1 v2 M H locs ls h I hl; exact t0_goesBy_b7_f C hQ  ih v1 v2 M H locs ls h I hl
theorem t0_goesBy {p : Program} {l : Launch} {e : Env} {s : State} {m : MethodId} {args : Array Value} {below : List Frame} {meth : Method} {c : Code} {D : va_G} {T ad : Nat → Nat} {A : Nat → Prop} {H0 : Heap} {Qs : State → Prop} {Q : Mem → Prop} (C : XC D T RX0 p m c cX0_goesBy 3 s args) (hQ : xExv p l e rX0_goesBy s m args below meth c cX0_goesBy D T ad A H0 Qs Q) (v1 : Int32) (M : Mem) (H : Heap) (locs : List Loc) (ls : Array Slot) (h : w0_goesBy v1 M Q) (I : XI D T ad A H0 M H locs) (hl : lv_has ls 3 [(0, .ref (ad 0)), (1, .int v1)]) : W p l e rX0_goesBy s m args below meth c H locs 0 0 Qs (F0 m 0 ls []) := by
  have hx := C.1.1
  have hb := C.1.2.1
  have how := C.1.2.2.2.1
  have hts := C.1.2.2.2.2
  unfold w0_goesBy at h
  refine lv_aload_n hx hb dX0_goesBy_0 rfl (lv_at hl 0 rfl) ?_
  refine lv_iload_n hx hb dX0_goesBy_1 rfl (lv_at hl 1 rfl) ?_
  refine x_callv (As := [.int v1]) (rest := []) C I (fun ra => met0_counts l D T ad ra v1 M h) (cw0_260 hts ⟨Nat.le_of_ble_eq_true rfl, Nat.le_of_ble_eq_true rfl⟩) rfl hl.1 rfl (Nat.le_of_ble_eq_true rfl) ⟨Nat.zero_le _, Nat.zero_le _⟩ dX0_goesBy_2 (fun M9 H locs h I => ?_)
  refine lv_iconst (v := 0) hx hb dX0_goesBy_5 (by decide) ?_
  refine lv_istore_n (lv' := [(2, .int 0), (0, .ref (ad 0)), (1, .int v1)]) hx hb dX0_goesBy_6 rfl hl (by decide) rfl (fun ls hl => ?_)
  obtain ⟨n, h⟩ := h
  exact t0_goesBy_b7 C hQ n v1 0 M9 _ _ _ h I (lv_sub hl [1, 2, 0] rfl)
theorem met0_goesBy (l : Launch) (D : va_G) (T ad ra : Nat → Nat) (v1 : Int32) (M : Mem) {Qp : Mem → Prop} (h : w0_goesBy v1 M Qp) (sz : Nat) : Met l yX0_goesBy (ws_ yX0_goesBy cX0_goesBy 3 none) rX0_goesBy (xPc D T ad ra 0 [.int v1] M sz) (xQv D T ad ra M Qp sz) 0 0 (fA (cX T ad ra M) sz) :=
  x_metV (own := RX0) (As := [.int v1]) rfl rfl (Nat.le_of_ble_eq_true rfl) (fun p e s m args below meth c A Qs ls C hQ I hl => t0_goesBy C hQ v1 M _ _ ls h I hl) sz
/-! runs -/
abbrev rX0_runs : Room := { frames := 5, cells := 0, slots := 0, locals := 112 }
theorem cw0_269 {R : Room} {s : State} {args : Array Value} (hts : ∀ w ∈ lw_all, w.before args s = true) (hR : rX0_begins.frames + 1 ≤ R.frames ∧ 8 + (2 + 11) + rX0_begins.locals ≤ R.locals) : CallW R s args RX0 RX0 269 yX0_begins cX0_begins 2 none (ws_ yX0_begins cX0_begins 2 none) rX0_begins 0 0 0 := cwV 0 hts (lw_V q298 q300 qs21 q89 q301) rfl rfl rfl (by decide +kernel) hR
theorem cw0_270 {R : Room} {s : State} {args : Array Value} (hts : ∀ w ∈ lw_all, w.before args s = true) (hR : rX0_goesBy.frames + 1 ≤ R.frames ∧ 8 + (3 + 11) + rX0_goesBy.locals ≤ R.locals) : CallW R s args RX0 RX0 270 yX0_goesBy cX0_goesBy 3 none (ws_ yX0_goesBy cX0_goesBy 3 none) rX0_goesBy 0 0 1 := cwV 1 hts (lw_V q306 q308 qs22 q89 q309) rfl rfl rfl (by decide +kernel) hR
theorem t0_runs_b6_f {p : Program} {l : Launch} {e : Env} {s : State} {m : MethodId} {args : Array Value} {below : List Frame} {meth : Method} {c : Code} {D : va_G} {T ad : Nat → Nat} {A : Nat → Prop} {H0 : Heap} {Qs : State → Prop} {Q : Mem → Prop} {K6 : Int32 → Int32 → Mem → Prop} (C : XC D T RX0 p m c cX0_runs 3 s args) (hQ : xExv p l e rX0_runs s m args below meth c cX0_runs D T ad A H0 Qs Q) (hK6 : ∀ (v1 : Int32) (v2 : Int32) (M : Mem) (H : Heap) (locs : List Loc) (ls : Array Slot), K6 v1 v2 M → XI D T ad A H0 M H locs → lv_has ls 3 [(0, .ref (ad 0)), (1, .int v1), (2, .int v2)] → W p l e rX0_runs s m args below meth c H locs 0 0 Qs (F0 m 6 ls [])) (v1 : Int32) (v2 : Int32) (M : Mem) (H : Heap) (locs : List Loc) (ls : Array Slot) (h : w0_runs_b6_f Q K6 v1 v2 M) (I : XI D T ad A H0 M H locs) (hl : lv_has ls 3 [(0, .ref (ad 0)), (1, .int v1), (2, .int v2)]) : W p l e rX0_runs s m args below meth c H locs 0 0 Qs (F0 m 6 ls []) := by
  have hx := C.1.1
  have hb := C.1.2.1
  have how := C.1.2.2.2.1
  have hts := C.1.2.2.2.2
  unfold w0_runs_b6_f at h
  refine lv_iload_n hx hb dX0_runs_6 rfl (lv_at hl 2 rfl) ?_
  refine lv_iload_n hx hb dX0_runs_7 rfl (lv_at hl 1 rfl) ?_
  refine lv_icmp_gt (tgt := 22) hx hb dX0_runs_8 (by decide) (fun c => ?_) (fun c => ?_)
  · have h := h.1 c
    exact hQ _ _ _ _ _ h I dX0_runs_22
  · have h := h.2 c
    refine lv_aload_n hx hb dX0_runs_11 rfl (lv_at hl 0 rfl) ?_
    refine lv_iload_n hx hb dX0_runs_12 rfl (lv_at hl 2 rfl) ?_
    refine x_callv (As := [.int v2]) (rest := []) C I (fun ra => met0_goesBy l D T ad ra v2 M h) (cw0_270 hts ⟨Nat.le_of_ble_eq_true rfl, Nat.le_of_ble_eq_true rfl⟩) rfl hl.1 rfl (Nat.le_of_ble_eq_true rfl) ⟨Nat.zero_le _, Nat.zero_le _⟩ dX0_runs_13 (fun M1 H locs h I => ?_)
    refine lv_iinc (v := (v2 + 1)) (lv' := [(2, .int (v2 + 1)), (0, .ref (ad 0)), (1, .int v1)]) hx hb dX0_runs_16 hl (k := 2) rfl (ii_1 _) (by decide) rfl (fun ls hl => ?_)
    refine lv_goto (tgt := 6) hx hb dX0_runs_19 (by decide) ?_
    exact hK6 v1 (v2 + 1) M1 _ _ _ h I (lv_sub hl [1, 2, 0] rfl)
theorem t0_runs_b6 {p : Program} {l : Launch} {e : Env} {s : State} {m : MethodId} {args : Array Value} {below : List Frame} {meth : Method} {c : Code} {D : va_G} {T ad : Nat → Nat} {A : Nat → Prop} {H0 : Heap} {Qs : State → Prop} {Q : Mem → Prop}  (C : XC D T RX0 p m c cX0_runs 3 s args) (hQ : xExv p l e rX0_runs s m args below meth c cX0_runs D T ad A H0 Qs Q)  : ∀ (n : Nat) (v1 : Int32) (v2 : Int32) (M : Mem) (H : Heap) (locs : List Loc) (ls : Array Slot), w0_runs_b6 Q n v1 v2 M → XI D T ad A H0 M H locs → lv_has ls 3 [(0, .ref (ad 0)), (1, .int v1), (2, .int v2)] → W p l e rX0_runs s m args below meth c H locs 0 0 Qs (F0 m 6 ls []) := by
  intro n
  induction n with
  | zero => intro v1 v2 M H locs ls h; exact h.elim
  | succ n ih => intro v1 v2 M H locs ls h I hl; exact t0_runs_b6_f C hQ  ih v1 v2 M H locs ls h I hl
theorem t0_runs {p : Program} {l : Launch} {e : Env} {s : State} {m : MethodId} {args : Array Value} {below : List Frame} {meth : Method} {c : Code} {D : va_G} {T ad : Nat → Nat} {A : Nat → Prop} {H0 : Heap} {Qs : State → Prop} {Q : Mem → Prop} (C : XC D T RX0 p m c cX0_runs 3 s args) (hQ : xExv p l e rX0_runs s m args below meth c cX0_runs D T ad A H0 Qs Q) (v1 : Int32) (M : Mem) (H : Heap) (locs : List Loc) (ls : Array Slot) (h : w0_runs v1 M Q) (I : XI D T ad A H0 M H locs) (hl : lv_has ls 3 [(0, .ref (ad 0)), (1, .int v1)]) : W p l e rX0_runs s m args below meth c H locs 0 0 Qs (F0 m 0 ls []) := by
  have hx := C.1.1
  have hb := C.1.2.1
  have how := C.1.2.2.2.1
  have hts := C.1.2.2.2.2
  unfold w0_runs at h
  refine lv_aload_n hx hb dX0_runs_0 rfl (lv_at hl 0 rfl) ?_
  refine x_callv (As := []) (rest := []) C I (fun ra => met0_begins l D T ad ra M h) (cw0_269 hts ⟨Nat.le_of_ble_eq_true rfl, Nat.le_of_ble_eq_true rfl⟩) rfl hl.1 rfl (Nat.le_of_ble_eq_true rfl) ⟨Nat.zero_le _, Nat.zero_le _⟩ dX0_runs_1 (fun M2 H locs h I => ?_)
  refine lv_iconst (v := 0) hx hb dX0_runs_4 (by decide) ?_
  refine lv_istore_n (lv' := [(2, .int 0), (0, .ref (ad 0)), (1, .int v1)]) hx hb dX0_runs_5 rfl hl (by decide) rfl (fun ls hl => ?_)
  obtain ⟨n, h⟩ := h
  exact t0_runs_b6 C hQ n v1 0 M2 _ _ _ h I (lv_sub hl [1, 2, 0] rfl)
theorem met0_runs (l : Launch) (D : va_G) (T ad ra : Nat → Nat) (v1 : Int32) (M : Mem) {Qp : Mem → Prop} (h : w0_runs v1 M Qp) (sz : Nat) : Met l yX0_runs (ws_ yX0_runs cX0_runs 3 none) rX0_runs (xPc D T ad ra 0 [.int v1] M sz) (xQv D T ad ra M Qp sz) 0 0 (fA (cX T ad ra M) sz) :=
  x_metV (own := RX0) (As := [.int v1]) rfl rfl (Nat.le_of_ble_eq_true rfl) (fun p e s m args below meth c A Qs ls C hQ I hl => t0_runs C hQ v1 M _ _ ls h I hl) sz
/-! atOf -/
abbrev rX0_atOf : Room := { frames := 8, cells := 0, slots := 0, locals := 177 }
theorem cw0_273 {R : Room} {s : State} {args : Array Value} (hts : ∀ w ∈ lw_all, w.before args s = true) (hR : rX0_asTold.frames + 1 ≤ R.frames ∧ 8 + (1 + 11) + rX0_asTold.locals ≤ R.locals) : CallW R s args RX0 RX0 273 yX0_asTold cX0_asTold 1 none (ws_ yX0_asTold cX0_asTold 1 none) rX0_asTold 0 0 0 := cwV 0 hts (lw_V q290 q292 qs19 q89 q293) rfl rfl rfl (by decide +kernel) hR
theorem cw0_276 {R : Room} {s : State} {args : Array Value} (hts : ∀ w ∈ lw_all, w.before args s = true) (hR : rX0_runs.frames + 1 ≤ R.frames ∧ 8 + (3 + 11) + rX0_runs.locals ≤ R.locals) : CallW R s args RX0 RX0 276 yX0_runs cX0_runs 3 none (ws_ yX0_runs cX0_runs 3 none) rX0_runs 0 0 1 := cwV 1 hts (lw_V q294 q296 qs20 q89 q297) rfl rfl rfl (by decide +kernel) hR
theorem t0_atOf_b73 {p : Program} {l : Launch} {e : Env} {s : State} {m : MethodId} {args : Array Value} {below : List Frame} {meth : Method} {c : Code} {D : va_G} {T ad : Nat → Nat} {A : Nat → Prop} {H0 : Heap} {Qs : State → Prop} {Q : Int32 → Mem → Prop}  (C : XC D T RX0 p m c cX0_atOf 5 s args) (hQ : xExi p l e rX0_atOf s m args below meth c cX0_atOf D T ad A H0 Qs Q)  (s0 : Int32) (M : Mem) (H : Heap) (locs : List Loc) (ls : Array Slot) (h : w0_atOf_b73 Q s0 M) (I : XI D T ad A H0 M H locs) (hl : lv_has ls 5 [(0, .ref (ad 0))]) : W p l e rX0_atOf s m args below meth c H locs 0 0 Qs (F0 m 73 ls [.int s0]) := by
  have hx := C.1.1
  have hb := C.1.2.1
  have how := C.1.2.2.2.1
  have hts := C.1.2.2.2.2
  unfold w0_atOf_b73 at h
  exact hQ _ _ _ _ _ _ h I dX0_atOf_73
theorem t0_atOf {p : Program} {l : Launch} {e : Env} {s : State} {m : MethodId} {args : Array Value} {below : List Frame} {meth : Method} {c : Code} {D : va_G} {T ad : Nat → Nat} {A : Nat → Prop} {H0 : Heap} {Qs : State → Prop} {Q : Int32 → Mem → Prop} (C : XC D T RX0 p m c cX0_atOf 5 s args) (hQ : xExi p l e rX0_atOf s m args below meth c cX0_atOf D T ad A H0 Qs Q) (v1 : Int32) (v2 : Int32) (v3 : Int32) (M : Mem) (H : Heap) (locs : List Loc) (ls : Array Slot) (h : w0_atOf v1 v2 v3 M Q) (I : XI D T ad A H0 M H locs) (hl : lv_has ls 5 [(0, .ref (ad 0)), (1, .int v1), (2, .int v2), (3, .int v3)]) : W p l e rX0_atOf s m args below meth c H locs 0 0 Qs (F0 m 0 ls []) := by
  have hx := C.1.1
  have hb := C.1.2.1
  have how := C.1.2.2.2.1
  have hts := C.1.2.2.2.2
  unfold w0_atOf at h
  refine lv_aload_n hx hb dX0_atOf_0 rfl (lv_at hl 0 rfl) ?_
  refine x_callv (As := []) (rest := []) C I (fun ra => met0_asTold l D T ad ra M h) (cw0_273 hts ⟨Nat.le_of_ble_eq_true rfl, Nat.le_of_ble_eq_true rfl⟩) rfl hl.1 rfl (Nat.le_of_ble_eq_true rfl) ⟨Nat.zero_le _, Nat.zero_le _⟩ dX0_atOf_1 (fun M1 H locs h I => ?_)
  refine lv_aload_n hx hb dX0_atOf_4 rfl (lv_at hl 0 rfl) ?_
  refine lv_iload_n hx hb dX0_atOf_5 rfl (lv_at hl 1 rfl) ?_
  refine x_callv (As := [.int v1]) (rest := []) C I (fun ra => met0_runs l D T ad ra v1 M1 h) (cw0_276 hts ⟨Nat.le_of_ble_eq_true rfl, Nat.le_of_ble_eq_true rfl⟩) rfl hl.1 rfl (Nat.le_of_ble_eq_true rfl) ⟨Nat.zero_le _, Nat.zero_le _⟩ dX0_atOf_6 (fun M2 H locs h I => ?_)
  refine lv_aload_n hx hb dX0_atOf_9 rfl (lv_at hl 0 rfl) ?_
  refine xg_all C I dX0_atOf_10 ?_
  refine lv_iload_n hx hb dX0_atOf_13 rfl (lv_at hl 2 rfl) ?_
  obtain ⟨hg3, h⟩ := h
  refine xa_all C I hg3 dX0_atOf_14 ?_
  refine lv_astore (lv' := [(4, .ref (ad (30 + ci v2))), (0, .ref (ad 0)), (1, .int v1), (2, .int v2), (3, .int v3)]) hx hb dX0_atOf_15 hl (by decide) rfl (fun ls hl => ?_)
  refine lv_iload_n hx hb dX0_atOf_17 rfl (lv_at hl 4 rfl) ?_
  refine lv_if_ne (tgt := 29) hx hb dX0_atOf_18 (by decide) (fun c => ?_) (fun c => ?_)
  · have h := h.2 c
    refine lv_iload_n hx hb dX0_atOf_29 rfl (lv_at hl 4 rfl) ?_
    refine lv_iconst (v := 1) hx hb dX0_atOf_30 (by decide) ?_
    refine lv_icmp_ne (tgt := 42) hx hb dX0_atOf_31 (by decide) (fun c => ?_) (fun c => ?_)
    · have h := h.2 c
      refine lv_iload_n hx hb dX0_atOf_42 rfl (lv_at hl 4 rfl) ?_
      refine lv_iconst (v := 2) hx hb dX0_atOf_43 (by decide) ?_
      refine lv_icmp_ne (tgt := 55) hx hb dX0_atOf_44 (by decide) (fun c => ?_) (fun c => ?_)
      · have h := h.2 c
        refine lv_aload hx hb dX0_atOf_55 (lv_at hl 0 rfl) ?_
        refine xcg0_is C I (isCar_of hg3) dX0_atOf_57 ?_
        refine lv_iconst (v := 1) hx hb dX0_atOf_60 (by decide) ?_
        refine lv_icmp_ne (tgt := 72) hx hb dX0_atOf_61 (by decide) (fun c => ?_) (fun c => ?_)
        · have h := h.2 c
          refine lv_iconst (v := -1) hx hb dX0_atOf_72 (by decide) ?_
          exact t0_atOf_b73 C hQ (-1) M2 _ _ _ h I (lv_sub hl [1] rfl)
        · have h := h.1 c
          refine lv_aload hx hb dX0_atOf_64 (lv_at hl 0 rfl) ?_
          refine xcg0_whither C I (isCar_of hg3) dX0_atOf_66 ?_
          refine lv_goto (tgt := 73) hx hb dX0_atOf_69 (by decide) ?_
          exact t0_atOf_b73 C hQ (M2 (30 + ci v2) 9) M2 _ _ _ h I (lv_sub hl [1] rfl)
      · have h := h.1 c
        refine lv_aload hx hb dX0_atOf_47 (lv_at hl 0 rfl) ?_
        refine xcg0_left C I (isCar_of hg3) dX0_atOf_49 ?_
        refine lv_goto (tgt := 73) hx hb dX0_atOf_52 (by decide) ?_
        exact t0_atOf_b73 C hQ (M2 (30 + ci v2) 8) M2 _ _ _ h I (lv_sub hl [1] rfl)
    · have h := h.1 c
      refine lv_aload hx hb dX0_atOf_34 (lv_at hl 0 rfl) ?_
      refine xcg0_place C I (isCar_of hg3) dX0_atOf_36 ?_
      refine lv_goto (tgt := 73) hx hb dX0_atOf_39 (by decide) ?_
      exact t0_atOf_b73 C hQ (M2 (30 + ci v2) 7) M2 _ _ _ h I (lv_sub hl [1] rfl)
  · have h := h.1 c
    refine lv_aload hx hb dX0_atOf_21 (lv_at hl 0 rfl) ?_
    refine xcg0_is C I (isCar_of hg3) dX0_atOf_23 ?_
    refine lv_goto (tgt := 73) hx hb dX0_atOf_26 (by decide) ?_
    exact t0_atOf_b73 C hQ (M2 (30 + ci v2) 6) M2 _ _ _ h I (lv_sub hl [1] rfl)
theorem met0_atOf (l : Launch) (D : va_G) (T ad ra : Nat → Nat) (v1 : Int32) (v2 : Int32) (v3 : Int32) (M : Mem) {Qp : Int32 → Mem → Prop} (h : w0_atOf v1 v2 v3 M Qp) (sz : Nat) : Met l yX0_atOf (ws_ yX0_atOf cX0_atOf 5 (some .int)) rX0_atOf (xPc D T ad ra 0 [.int v1, .int v2, .int v3] M sz) (xQi D T ad ra M Qp sz) 0 0 (fA (cX T ad ra M) sz) :=
  x_metI (own := RX0) (As := [.int v1, .int v2, .int v3]) rfl rfl (Nat.le_of_ble_eq_true rfl) (fun p e s m args below meth c A Qs ls C hQ I hl => t0_atOf C hQ v1 v2 v3 M _ _ ls h I hl) sz
/-! at -/
abbrev rX0_at : Room := { frames := 9, cells := 0, slots := 0, locals := 201 }
theorem cw0_279 {R : Room} {s : State} {args : Array Value} (hts : ∀ w ∈ lw_all, w.before args s = true) (hR : rX0_atOf.frames + 1 ≤ R.frames ∧ 8 + (5 + 11) + rX0_atOf.locals ≤ R.locals) : CallW R s args RX0 RX0 279 yX0_atOf cX0_atOf 5 (some .int) (ws_ yX0_atOf cX0_atOf 5 (some .int)) rX0_atOf 0 0 3 := cwV 3 hts (lw_V q286 q288 qs18 q89 q289) rfl rfl rfl (by decide +kernel) hR
theorem t0_at_b36 {p : Program} {l : Launch} {e : Env} {s : State} {m : MethodId} {args : Array Value} {below : List Frame} {meth : Method} {c : Code} {D : va_G} {T ad : Nat → Nat} {A : Nat → Prop} {H0 : Heap} {Qs : State → Prop} {Q : Int32 → Mem → Prop}  (C : XC D T RX0 p m c cX0_at 4 s args) (hQ : xExi p l e rX0_at s m args below meth c cX0_at D T ad A H0 Qs Q)  (s0 : Int32) (M : Mem) (H : Heap) (locs : List Loc) (ls : Array Slot) (h : w0_at_b36 Q s0 M) (I : XI D T ad A H0 M H locs) (hl : lv_has ls 4 [(0, .ref (ad 0))]) : W p l e rX0_at s m args below meth c H locs 0 0 Qs (F0 m 36 ls [.int s0]) := by
  have hx := C.1.1
  have hb := C.1.2.1
  have how := C.1.2.2.2.1
  have hts := C.1.2.2.2.2
  unfold w0_at_b36 at h
  exact hQ _ _ _ _ _ _ h I dX0_at_36
theorem t0_at_b34 {p : Program} {l : Launch} {e : Env} {s : State} {m : MethodId} {args : Array Value} {below : List Frame} {meth : Method} {c : Code} {D : va_G} {T ad : Nat → Nat} {A : Nat → Prop} {H0 : Heap} {Qs : State → Prop} {Q : Int32 → Mem → Prop}  (C : XC D T RX0 p m c cX0_at 4 s args) (hQ : xExi p l e rX0_at s m args below meth c cX0_at D T ad A H0 Qs Q)   (M : Mem) (H : Heap) (locs : List Loc) (ls : Array Slot) (h : w0_at_b34 Q M) (I : XI D T ad A H0 M H locs) (hl : lv_has ls 4 [(0, .ref (ad 0))]) : W p l e rX0_at s m args below meth c H locs 0 0 Qs (F0 m 34 ls []) := by
  have hx := C.1.1
  have hb := C.1.2.1
  have how := C.1.2.2.2.1
  have hts := C.1.2.2.2.2
  unfold w0_at_b34 at h
  refine lv_bipush (v := -2) hx hb dX0_at_34 (by decide) ?_
  exact t0_at_b36 C hQ (-2) M _ _ _ h I (lv_sub hl [0] rfl)
theorem t0_at {p : Program} {l : Launch} {e : Env} {s : State} {m : MethodId} {args : Array Value} {below : List Frame} {meth : Method} {c : Code} {D : va_G} {T ad : Nat → Nat} {A : Nat → Prop} {H0 : Heap} {Qs : State → Prop} {Q : Int32 → Mem → Prop} (C : XC D T RX0 p m c cX0_at 4 s args) (hQ : xExi p l e rX0_at s m args below meth c cX0_at D T ad A H0 Qs Q) (v1 : Int32) (v2 : Int32) (v3 : Int32) (M : Mem) (H : Heap) (locs : List Loc) (ls : Array Slot) (h : w0_at v1 v2 v3 M Q) (I : XI D T ad A H0 M H locs) (hl : lv_has ls 4 [(0, .ref (ad 0)), (1, .int v1), (2, .int v2), (3, .int v3)]) : W p l e rX0_at s m args below meth c H locs 0 0 Qs (F0 m 0 ls []) := by
  have hx := C.1.1
  have hb := C.1.2.1
  have how := C.1.2.2.2.1
  have hts := C.1.2.2.2.2
  unfold w0_at at h
  refine lv_iload_n hx hb dX0_at_0 rfl (lv_at hl 1 rfl) ?_
  refine x_purei (As := [.int v1]) (rest := []) C I (met0_isHour l v1 h) (cw0_138 hts ⟨Nat.le_of_ble_eq_true rfl, Nat.le_of_ble_eq_true rfl⟩) rfl hl.1 rfl (Nat.le_of_ble_eq_true rfl) ⟨Nat.zero_le _, Nat.zero_le _⟩ dX0_at_1 (fun r1 H locs h I => ?_)
  refine lv_if_eq (tgt := 34) hx hb dX0_at_4 (by decide) (fun c => ?_) (fun c => ?_)
  · have h := h.1 c
    exact t0_at_b34 C hQ M _ _ _ h I (lv_sub hl [0] rfl)
  · have h := h.2 c
    refine lv_aload_n hx hb dX0_at_7 rfl (lv_at hl 0 rfl) ?_
    refine lv_iload_n hx hb dX0_at_8 rfl (lv_at hl 2 rfl) ?_
    refine x_calli (As := [.int v2]) (rest := []) C I (fun ra => met0_isCarter l D T ad ra v2 M h) (cw0_126 hts ⟨Nat.le_of_ble_eq_true rfl, Nat.le_of_ble_eq_true rfl⟩) rfl hl.1 rfl (Nat.le_of_ble_eq_true rfl) ⟨Nat.zero_le _, Nat.zero_le _⟩ dX0_at_9 (fun r2 M3 H locs h I => ?_)
    refine lv_if_eq (tgt := 34) hx hb dX0_at_12 (by decide) (fun c => ?_) (fun c => ?_)
    · have h := h.1 c
      exact t0_at_b34 C hQ M3 _ _ _ h I (lv_sub hl [0] rfl)
    · have h := h.2 c
      refine lv_iload_n hx hb dX0_at_15 rfl (lv_at hl 3 rfl) ?_
      refine lv_iconst (v := 0) hx hb dX0_at_16 (by decide) ?_
      refine lv_iconst (v := 3) hx hb dX0_at_17 (by decide) ?_
      refine x_purei (As := [.int v3, .int 0, .int 3]) (rest := []) C I (met0_in l v3 0 3 h) (cw0_5 hts ⟨Nat.le_of_ble_eq_true rfl, Nat.le_of_ble_eq_true rfl⟩) rfl hl.1 rfl (Nat.le_of_ble_eq_true rfl) ⟨Nat.zero_le _, Nat.zero_le _⟩ dX0_at_18 (fun r4 H locs h I => ?_)
      refine lv_if_eq (tgt := 34) hx hb dX0_at_21 (by decide) (fun c => ?_) (fun c => ?_)
      · have h := h.1 c
        exact t0_at_b34 C hQ M3 _ _ _ h I (lv_sub hl [0] rfl)
      · have h := h.2 c
        refine lv_aload_n hx hb dX0_at_24 rfl (lv_at hl 0 rfl) ?_
        refine lv_iload_n hx hb dX0_at_25 rfl (lv_at hl 1 rfl) ?_
        refine lv_iload_n hx hb dX0_at_26 rfl (lv_at hl 2 rfl) ?_
        refine lv_iload_n hx hb dX0_at_27 rfl (lv_at hl 3 rfl) ?_
        refine x_calli (As := [.int v1, .int v2, .int v3]) (rest := []) C I (fun ra => met0_atOf l D T ad ra v1 v2 v3 M3 h) (cw0_279 hts ⟨Nat.le_of_ble_eq_true rfl, Nat.le_of_ble_eq_true rfl⟩) rfl hl.1 rfl (Nat.le_of_ble_eq_true rfl) ⟨Nat.zero_le _, Nat.zero_le _⟩ dX0_at_28 (fun r5 M6 H locs h I => ?_)
        refine lv_goto (tgt := 36) hx hb dX0_at_31 (by decide) ?_
        exact t0_at_b36 C hQ r5 M6 _ _ _ h I (lv_sub hl [0] rfl)
theorem met0_at (l : Launch) (D : va_G) (T ad ra : Nat → Nat) (v1 : Int32) (v2 : Int32) (v3 : Int32) (M : Mem) {Qp : Int32 → Mem → Prop} (h : w0_at v1 v2 v3 M Qp) (sz : Nat) : Met l yX0_at (ws_ yX0_at cX0_at 4 (some .int)) rX0_at (xPc D T ad ra 0 [.int v1, .int v2, .int v3] M sz) (xQi D T ad ra M Qp sz) 0 0 (fA (cX T ad ra M) sz) :=
  x_metI (own := RX0) (As := [.int v1, .int v2, .int v3]) rfl rfl (Nat.le_of_ble_eq_true rfl) (fun p e s m args below meth c A Qs ls C hQ I hl => t0_at C hQ v1 v2 v3 M _ _ ls h I hl) sz
/-! endsOf -/
abbrev rX0_endsOf : Room := { frames := 8, cells := 0, slots := 0, locals := 177 }
theorem t0_endsOf {p : Program} {l : Launch} {e : Env} {s : State} {m : MethodId} {args : Array Value} {below : List Frame} {meth : Method} {c : Code} {D : va_G} {T ad : Nat → Nat} {A : Nat → Prop} {H0 : Heap} {Qs : State → Prop} {Q : Int32 → Mem → Prop} (C : XC D T RX0 p m c cX0_endsOf 2 s args) (hQ : xExi p l e rX0_endsOf s m args below meth c cX0_endsOf D T ad A H0 Qs Q) (v1 : Int32) (M : Mem) (H : Heap) (locs : List Loc) (ls : Array Slot) (h : w0_endsOf v1 M Q) (I : XI D T ad A H0 M H locs) (hl : lv_has ls 2 [(0, .ref (ad 0)), (1, .int v1)]) : W p l e rX0_endsOf s m args below meth c H locs 0 0 Qs (F0 m 0 ls []) := by
  have hx := C.1.1
  have hb := C.1.2.1
  have how := C.1.2.2.2.1
  have hts := C.1.2.2.2.2
  unfold w0_endsOf at h
  refine lv_aload_n hx hb dX0_endsOf_0 rfl (lv_at hl 0 rfl) ?_
  refine x_callv (As := []) (rest := []) C I (fun ra => met0_asTold l D T ad ra M h) (cw0_273 hts ⟨Nat.le_of_ble_eq_true rfl, Nat.le_of_ble_eq_true rfl⟩) rfl hl.1 rfl (Nat.le_of_ble_eq_true rfl) ⟨Nat.zero_le _, Nat.zero_le _⟩ dX0_endsOf_1 (fun M1 H locs h I => ?_)
  refine lv_aload_n hx hb dX0_endsOf_4 rfl (lv_at hl 0 rfl) ?_
  refine lv_bipush (v := 39) hx hb dX0_endsOf_5 (by decide) ?_
  refine x_callv (As := [.int 39]) (rest := []) C I (fun ra => met0_runs l D T ad ra 39 M1 h) (cw0_276 hts ⟨Nat.le_of_ble_eq_true rfl, Nat.le_of_ble_eq_true rfl⟩) rfl hl.1 rfl (Nat.le_of_ble_eq_true rfl) ⟨Nat.zero_le _, Nat.zero_le _⟩ dX0_endsOf_7 (fun M2 H locs h I => ?_)
  refine lv_aload_n hx hb dX0_endsOf_10 rfl (lv_at hl 0 rfl) ?_
  refine xg_all C I dX0_endsOf_11 ?_
  refine lv_iload_n hx hb dX0_endsOf_14 rfl (lv_at hl 1 rfl) ?_
  obtain ⟨hg3, h⟩ := h
  refine xa_all C I hg3 dX0_endsOf_15 ?_
  refine xcg0_ended C I (isCar_of hg3) dX0_endsOf_16 ?_
  exact hQ _ _ _ _ _ _ h I dX0_endsOf_19
theorem met0_endsOf (l : Launch) (D : va_G) (T ad ra : Nat → Nat) (v1 : Int32) (M : Mem) {Qp : Int32 → Mem → Prop} (h : w0_endsOf v1 M Qp) (sz : Nat) : Met l yX0_endsOf (ws_ yX0_endsOf cX0_endsOf 2 (some .int)) rX0_endsOf (xPc D T ad ra 0 [.int v1] M sz) (xQi D T ad ra M Qp sz) 0 0 (fA (cX T ad ra M) sz) :=
  x_metI (own := RX0) (As := [.int v1]) rfl rfl (Nat.le_of_ble_eq_true rfl) (fun p e s m args below meth c A Qs ls C hQ I hl => t0_endsOf C hQ v1 M _ _ ls h I hl) sz
/-! ends -/
abbrev rX0_ends : Room := { frames := 9, cells := 0, slots := 0, locals := 198 }
theorem cw0_285 {R : Room} {s : State} {args : Array Value} (hts : ∀ w ∈ lw_all, w.before args s = true) (hR : rX0_endsOf.frames + 1 ≤ R.frames ∧ 8 + (2 + 11) + rX0_endsOf.locals ≤ R.locals) : CallW R s args RX0 RX0 285 yX0_endsOf cX0_endsOf 2 (some .int) (ws_ yX0_endsOf cX0_endsOf 2 (some .int)) rX0_endsOf 0 0 1 := cwV 1 hts (lw_V q360 q362 qs28 q89 q363) rfl rfl rfl (by decide +kernel) hR
theorem t0_ends_b18 {p : Program} {l : Launch} {e : Env} {s : State} {m : MethodId} {args : Array Value} {below : List Frame} {meth : Method} {c : Code} {D : va_G} {T ad : Nat → Nat} {A : Nat → Prop} {H0 : Heap} {Qs : State → Prop} {Q : Int32 → Mem → Prop}  (C : XC D T RX0 p m c cX0_ends 2 s args) (hQ : xExi p l e rX0_ends s m args below meth c cX0_ends D T ad A H0 Qs Q)  (s0 : Int32) (M : Mem) (H : Heap) (locs : List Loc) (ls : Array Slot) (h : w0_ends_b18 Q s0 M) (I : XI D T ad A H0 M H locs) (hl : lv_has ls 2 [(0, .ref (ad 0))]) : W p l e rX0_ends s m args below meth c H locs 0 0 Qs (F0 m 18 ls [.int s0]) := by
  have hx := C.1.1
  have hb := C.1.2.1
  have how := C.1.2.2.2.1
  have hts := C.1.2.2.2.2
  unfold w0_ends_b18 at h
  exact hQ _ _ _ _ _ _ h I dX0_ends_18
theorem t0_ends {p : Program} {l : Launch} {e : Env} {s : State} {m : MethodId} {args : Array Value} {below : List Frame} {meth : Method} {c : Code} {D : va_G} {T ad : Nat → Nat} {A : Nat → Prop} {H0 : Heap} {Qs : State → Prop} {Q : Int32 → Mem → Prop} (C : XC D T RX0 p m c cX0_ends 2 s args) (hQ : xExi p l e rX0_ends s m args below meth c cX0_ends D T ad A H0 Qs Q) (v1 : Int32) (M : Mem) (H : Heap) (locs : List Loc) (ls : Array Slot) (h : w0_ends v1 M Q) (I : XI D T ad A H0 M H locs) (hl : lv_has ls 2 [(0, .ref (ad 0)), (1, .int v1)]) : W p l e rX0_ends s m args below meth c H locs 0 0 Qs (F0 m 0 ls []) := by
  have hx := C.1.1
  have hb := C.1.2.1
  have how := C.1.2.2.2.1
  have hts := C.1.2.2.2.2
  unfold w0_ends at h
  refine lv_aload_n hx hb dX0_ends_0 rfl (lv_at hl 0 rfl) ?_
  refine lv_iload_n hx hb dX0_ends_1 rfl (lv_at hl 1 rfl) ?_
  refine x_calli (As := [.int v1]) (rest := []) C I (fun ra => met0_isCarter l D T ad ra v1 M h) (cw0_126 hts ⟨Nat.le_of_ble_eq_true rfl, Nat.le_of_ble_eq_true rfl⟩) rfl hl.1 rfl (Nat.le_of_ble_eq_true rfl) ⟨Nat.zero_le _, Nat.zero_le _⟩ dX0_ends_2 (fun r1 M2 H locs h I => ?_)
  refine lv_if_eq (tgt := 16) hx hb dX0_ends_5 (by decide) (fun c => ?_) (fun c => ?_)
  · have h := h.1 c
    refine lv_bipush (v := -2) hx hb dX0_ends_16 (by decide) ?_
    exact t0_ends_b18 C hQ (-2) M2 _ _ _ h I (lv_sub hl [0] rfl)
  · have h := h.2 c
    refine lv_aload_n hx hb dX0_ends_8 rfl (lv_at hl 0 rfl) ?_
    refine lv_iload_n hx hb dX0_ends_9 rfl (lv_at hl 1 rfl) ?_
    refine x_calli (As := [.int v1]) (rest := []) C I (fun ra => met0_endsOf l D T ad ra v1 M2 h) (cw0_285 hts ⟨Nat.le_of_ble_eq_true rfl, Nat.le_of_ble_eq_true rfl⟩) rfl hl.1 rfl (Nat.le_of_ble_eq_true rfl) ⟨Nat.zero_le _, Nat.zero_le _⟩ dX0_ends_10 (fun r3 M4 H locs h I => ?_)
    refine lv_goto (tgt := 18) hx hb dX0_ends_13 (by decide) ?_
    exact t0_ends_b18 C hQ r3 M4 _ _ _ h I (lv_sub hl [0] rfl)
theorem met0_ends (l : Launch) (D : va_G) (T ad ra : Nat → Nat) (v1 : Int32) (M : Mem) {Qp : Int32 → Mem → Prop} (h : w0_ends v1 M Qp) (sz : Nat) : Met l yX0_ends (ws_ yX0_ends cX0_ends 2 (some .int)) rX0_ends (xPc D T ad ra 0 [.int v1] M sz) (xQi D T ad ra M Qp sz) 0 0 (fA (cX T ad ra M) sz) :=
  x_metI (own := RX0) (As := [.int v1]) rfl rfl (Nat.le_of_ble_eq_true rfl) (fun p e s m args below meth c A Qs ls C hQ I hl => t0_ends C hQ v1 M _ _ ls h I hl) sz
/-! whoNow -/
abbrev rX0_whoNow : Room := { frames := 0, cells := 0, slots := 0, locals := 0 }
theorem t0_whoNow_b33 {p : Program} {l : Launch} {e : Env} {s : State} {m : MethodId} {args : Array Value} {below : List Frame} {meth : Method} {c : Code} {D : va_G} {T ad : Nat → Nat} {A : Nat → Prop} {H0 : Heap} {Qs : State → Prop} {Q : Int32 → Mem → Prop} {K4 : Int32 → Int32 → Int32 → Mem → Prop} (C : XC D T RX0 p m c cX0_whoNow 4 s args) (hQ : xExi p l e rX0_whoNow s m args below meth c cX0_whoNow D T ad A H0 Qs Q) (hK4 : ∀ (v1 : Int32) (v2 : Int32) (v3 : Int32) (M : Mem) (H : Heap) (locs : List Loc) (ls : Array Slot), K4 v1 v2 v3 M → XI D T ad A H0 M H locs → lv_has ls 4 [(0, .ref (ad 0)), (1, .int v1), (2, .int v2), (3, .int v3)] → W p l e rX0_whoNow s m args below meth c H locs 0 0 Qs (F0 m 4 ls [])) (v1 : Int32) (v3 : Int32) (s0 : Int32) (s1 : Int32) (M : Mem) (H : Heap) (locs : List Loc) (ls : Array Slot) (h : w0_whoNow_b33 Q K4 v1 v3 s0 s1 M) (I : XI D T ad A H0 M H locs) (hl : lv_has ls 4 [(0, .ref (ad 0)), (1, .int v1), (3, .int v3)]) : W p l e rX0_whoNow s m args below meth c H locs 0 0 Qs (F0 m 33 ls [.int s1, .int s0]) := by
  have hx := C.1.1
  have hb := C.1.2.1
  have how := C.1.2.2.2.1
  have hts := C.1.2.2.2.2
  unfold w0_whoNow_b33 at h
  refine lv_ior hx hb dX0_whoNow_33 ?_
  refine lv_istore_n (lv' := [(2, .int (s0 ||| s1)), (0, .ref (ad 0)), (1, .int v1), (3, .int v3)]) hx hb dX0_whoNow_34 rfl hl (by decide) rfl (fun ls hl => ?_)
  refine lv_iinc (v := (v3 + 1)) (lv' := [(3, .int (v3 + 1)), (2, .int (s0 ||| s1)), (0, .ref (ad 0)), (1, .int v1)]) hx hb dX0_whoNow_35 hl (k := 3) rfl (ii_1 _) (by decide) rfl (fun ls hl => ?_)
  refine lv_goto (tgt := 4) hx hb dX0_whoNow_38 (by decide) ?_
  exact hK4 v1 (s0 ||| s1) (v3 + 1) M _ _ _ h I (lv_sub hl [2, 3, 1, 0] rfl)
theorem t0_whoNow_b4_f {p : Program} {l : Launch} {e : Env} {s : State} {m : MethodId} {args : Array Value} {below : List Frame} {meth : Method} {c : Code} {D : va_G} {T ad : Nat → Nat} {A : Nat → Prop} {H0 : Heap} {Qs : State → Prop} {Q : Int32 → Mem → Prop} {K4 : Int32 → Int32 → Int32 → Mem → Prop} (C : XC D T RX0 p m c cX0_whoNow 4 s args) (hQ : xExi p l e rX0_whoNow s m args below meth c cX0_whoNow D T ad A H0 Qs Q) (hK4 : ∀ (v1 : Int32) (v2 : Int32) (v3 : Int32) (M : Mem) (H : Heap) (locs : List Loc) (ls : Array Slot), K4 v1 v2 v3 M → XI D T ad A H0 M H locs → lv_has ls 4 [(0, .ref (ad 0)), (1, .int v1), (2, .int v2), (3, .int v3)] → W p l e rX0_whoNow s m args below meth c H locs 0 0 Qs (F0 m 4 ls [])) (v1 : Int32) (v2 : Int32) (v3 : Int32) (M : Mem) (H : Heap) (locs : List Loc) (ls : Array Slot) (h : w0_whoNow_b4_f Q K4 v1 v2 v3 M) (I : XI D T ad A H0 M H locs) (hl : lv_has ls 4 [(0, .ref (ad 0)), (1, .int v1), (2, .int v2), (3, .int v3)]) : W p l e rX0_whoNow s m args below meth c H locs 0 0 Qs (F0 m 4 ls []) := by
  have hx := C.1.1
  have hb := C.1.2.1
  have how := C.1.2.2.2.1
  have hts := C.1.2.2.2.2
  unfold w0_whoNow_b4_f at h
  refine lv_iload_n hx hb dX0_whoNow_4 rfl (lv_at hl 3 rfl) ?_
  refine lv_aload_n hx hb dX0_whoNow_5 rfl (lv_at hl 0 rfl) ?_
  refine xg_carters C I dX0_whoNow_6 ?_
  refine lv_icmp_ge (tgt := 41) hx hb dX0_whoNow_9 (by decide) (fun c => ?_) (fun c => ?_)
  · have h := h.1 c
    refine lv_iload_n hx hb dX0_whoNow_41 rfl (lv_at hl 2 rfl) ?_
    exact hQ _ _ _ _ _ _ h I dX0_whoNow_42
  · have h := h.2 c
    refine lv_iload_n hx hb dX0_whoNow_12 rfl (lv_at hl 2 rfl) ?_
    refine lv_aload_n hx hb dX0_whoNow_13 rfl (lv_at hl 0 rfl) ?_
    refine xg_all C I dX0_whoNow_14 ?_
    refine lv_iload_n hx hb dX0_whoNow_17 rfl (lv_at hl 3 rfl) ?_
    obtain ⟨hg1, h⟩ := h
    refine xa_all C I hg1 dX0_whoNow_18 ?_
    refine xcg0_is C I (isCar_of hg1) dX0_whoNow_19 ?_
    refine lv_iload_n hx hb dX0_whoNow_22 rfl (lv_at hl 1 rfl) ?_
    refine lv_icmp_ne (tgt := 32) hx hb dX0_whoNow_23 (by decide) (fun c => ?_) (fun c => ?_)
    · have h := h.2 c
      refine lv_iconst (v := 0) hx hb dX0_whoNow_32 (by decide) ?_
      exact t0_whoNow_b33 C hQ hK4 v1 v3 v2 0 M _ _ _ h I (lv_sub hl [0, 1, 3] rfl)
    · have h := h.1 c
      refine lv_iconst (v := 1) hx hb dX0_whoNow_26 (by decide) ?_
      refine lv_iload_n hx hb dX0_whoNow_27 rfl (lv_at hl 3 rfl) ?_
      refine lv_ishl hx hb dX0_whoNow_28 ?_
      refine lv_goto (tgt := 33) hx hb dX0_whoNow_29 (by decide) ?_
      exact t0_whoNow_b33 C hQ hK4 v1 v3 v2 (1 <<< (v3 &&& 31)) M _ _ _ h I (lv_sub hl [0, 1, 3] rfl)
theorem t0_whoNow_b4 {p : Program} {l : Launch} {e : Env} {s : State} {m : MethodId} {args : Array Value} {below : List Frame} {meth : Method} {c : Code} {D : va_G} {T ad : Nat → Nat} {A : Nat → Prop} {H0 : Heap} {Qs : State → Prop} {Q : Int32 → Mem → Prop}  (C : XC D T RX0 p m c cX0_whoNow 4 s args) (hQ : xExi p l e rX0_whoNow s m args below meth c cX0_whoNow D T ad A H0 Qs Q)  : ∀ (n : Nat) (v1 : Int32) (v2 : Int32) (v3 : Int32) (M : Mem) (H : Heap) (locs : List Loc) (ls : Array Slot), w0_whoNow_b4 Q n v1 v2 v3 M → XI D T ad A H0 M H locs → lv_has ls 4 [(0, .ref (ad 0)), (1, .int v1), (2, .int v2), (3, .int v3)] → W p l e rX0_whoNow s m args below meth c H locs 0 0 Qs (F0 m 4 ls []) := by
  intro n
  induction n with
  | zero => intro v1 v2 v3 M H locs ls h; exact h.elim
  | succ n ih => intro v1 v2 v3 M H locs ls h I hl; exact t0_whoNow_b4_f C hQ  ih v1 v2 v3 M H locs ls h I hl
theorem t0_whoNow {p : Program} {l : Launch} {e : Env} {s : State} {m : MethodId} {args : Array Value} {below : List Frame} {meth : Method} {c : Code} {D : va_G} {T ad : Nat → Nat} {A : Nat → Prop} {H0 : Heap} {Qs : State → Prop} {Q : Int32 → Mem → Prop} (C : XC D T RX0 p m c cX0_whoNow 4 s args) (hQ : xExi p l e rX0_whoNow s m args below meth c cX0_whoNow D T ad A H0 Qs Q) (v1 : Int32) (M : Mem) (H : Heap) (locs : List Loc) (ls : Array Slot) (h : w0_whoNow v1 M Q) (I : XI D T ad A H0 M H locs) (hl : lv_has ls 4 [(0, .ref (ad 0)), (1, .int v1)]) : W p l e rX0_whoNow s m args below meth c H locs 0 0 Qs (F0 m 0 ls []) := by
  have hx := C.1.1
  have hb := C.1.2.1
  have how := C.1.2.2.2.1
  have hts := C.1.2.2.2.2
  unfold w0_whoNow at h
  refine lv_iconst (v := 0) hx hb dX0_whoNow_0 (by decide) ?_
  refine lv_istore_n (lv' := [(2, .int 0), (0, .ref (ad 0)), (1, .int v1)]) hx hb dX0_whoNow_1 rfl hl (by decide) rfl (fun ls hl => ?_)
  refine lv_iconst (v := 0) hx hb dX0_whoNow_2 (by decide) ?_
  refine lv_istore_n (lv' := [(3, .int 0), (2, .int 0), (0, .ref (ad 0)), (1, .int v1)]) hx hb dX0_whoNow_3 rfl hl (by decide) rfl (fun ls hl => ?_)
  obtain ⟨n, h⟩ := h
  exact t0_whoNow_b4 C hQ n v1 0 0 M _ _ _ h I (lv_sub hl [2, 3, 1, 0] rfl)
theorem met0_whoNow (l : Launch) (D : va_G) (T ad ra : Nat → Nat) (v1 : Int32) (M : Mem) {Qp : Int32 → Mem → Prop} (h : w0_whoNow v1 M Qp) (sz : Nat) : Met l yX0_whoNow (ws_ yX0_whoNow cX0_whoNow 4 (some .int)) rX0_whoNow (xPc D T ad ra 0 [.int v1] M sz) (xQi D T ad ra M Qp sz) 0 0 (fA (cX T ad ra M) sz) :=
  x_metI (own := RX0) (As := [.int v1]) rfl rfl (Nat.le_of_ble_eq_true rfl) (fun p e s m args below meth c A Qs ls C hQ I hl => t0_whoNow C hQ v1 M _ _ ls h I hl) sz
/-! whoOf -/
abbrev rX0_whoOf : Room := { frames := 8, cells := 0, slots := 0, locals := 177 }
theorem cw0_288 {R : Room} {s : State} {args : Array Value} (hts : ∀ w ∈ lw_all, w.before args s = true) (hR : rX0_whoNow.frames + 1 ≤ R.frames ∧ 8 + (4 + 11) + rX0_whoNow.locals ≤ R.locals) : CallW R s args RX0 RX0 288 yX0_whoNow cX0_whoNow 4 (some .int) (ws_ yX0_whoNow cX0_whoNow 4 (some .int)) rX0_whoNow 0 0 1 := cwV 1 hts (lw_V q372 q374 qs30 q89 q375) rfl rfl rfl (by decide +kernel) hR
theorem t0_whoOf {p : Program} {l : Launch} {e : Env} {s : State} {m : MethodId} {args : Array Value} {below : List Frame} {meth : Method} {c : Code} {D : va_G} {T ad : Nat → Nat} {A : Nat → Prop} {H0 : Heap} {Qs : State → Prop} {Q : Int32 → Mem → Prop} (C : XC D T RX0 p m c cX0_whoOf 2 s args) (hQ : xExi p l e rX0_whoOf s m args below meth c cX0_whoOf D T ad A H0 Qs Q) (v1 : Int32) (M : Mem) (H : Heap) (locs : List Loc) (ls : Array Slot) (h : w0_whoOf v1 M Q) (I : XI D T ad A H0 M H locs) (hl : lv_has ls 2 [(0, .ref (ad 0)), (1, .int v1)]) : W p l e rX0_whoOf s m args below meth c H locs 0 0 Qs (F0 m 0 ls []) := by
  have hx := C.1.1
  have hb := C.1.2.1
  have how := C.1.2.2.2.1
  have hts := C.1.2.2.2.2
  unfold w0_whoOf at h
  refine lv_aload_n hx hb dX0_whoOf_0 rfl (lv_at hl 0 rfl) ?_
  refine x_callv (As := []) (rest := []) C I (fun ra => met0_asTold l D T ad ra M h) (cw0_273 hts ⟨Nat.le_of_ble_eq_true rfl, Nat.le_of_ble_eq_true rfl⟩) rfl hl.1 rfl (Nat.le_of_ble_eq_true rfl) ⟨Nat.zero_le _, Nat.zero_le _⟩ dX0_whoOf_1 (fun M1 H locs h I => ?_)
  refine lv_aload_n hx hb dX0_whoOf_4 rfl (lv_at hl 0 rfl) ?_
  refine lv_bipush (v := 39) hx hb dX0_whoOf_5 (by decide) ?_
  refine x_callv (As := [.int 39]) (rest := []) C I (fun ra => met0_runs l D T ad ra 39 M1 h) (cw0_276 hts ⟨Nat.le_of_ble_eq_true rfl, Nat.le_of_ble_eq_true rfl⟩) rfl hl.1 rfl (Nat.le_of_ble_eq_true rfl) ⟨Nat.zero_le _, Nat.zero_le _⟩ dX0_whoOf_7 (fun M2 H locs h I => ?_)
  refine lv_aload_n hx hb dX0_whoOf_10 rfl (lv_at hl 0 rfl) ?_
  refine lv_iload_n hx hb dX0_whoOf_11 rfl (lv_at hl 1 rfl) ?_
  refine x_calli (As := [.int v1]) (rest := []) C I (fun ra => met0_whoNow l D T ad ra v1 M2 h) (cw0_288 hts ⟨Nat.le_of_ble_eq_true rfl, Nat.le_of_ble_eq_true rfl⟩) rfl hl.1 rfl (Nat.le_of_ble_eq_true rfl) ⟨Nat.zero_le _, Nat.zero_le _⟩ dX0_whoOf_12 (fun r3 M4 H locs h I => ?_)
  exact hQ _ _ _ _ _ _ h I dX0_whoOf_15
theorem met0_whoOf (l : Launch) (D : va_G) (T ad ra : Nat → Nat) (v1 : Int32) (M : Mem) {Qp : Int32 → Mem → Prop} (h : w0_whoOf v1 M Qp) (sz : Nat) : Met l yX0_whoOf (ws_ yX0_whoOf cX0_whoOf 2 (some .int)) rX0_whoOf (xPc D T ad ra 0 [.int v1] M sz) (xQi D T ad ra M Qp sz) 0 0 (fA (cX T ad ra M) sz) :=
  x_metI (own := RX0) (As := [.int v1]) rfl rfl (Nat.le_of_ble_eq_true rfl) (fun p e s m args below meth c A Qs ls C hQ I hl => t0_whoOf C hQ v1 M _ _ ls h I hl) sz
/-! who -/
abbrev rX0_who : Room := { frames := 9, cells := 0, slots := 0, locals := 198 }
theorem cw0_291 {R : Room} {s : State} {args : Array Value} (hts : ∀ w ∈ lw_all, w.before args s = true) (hR : rX0_whoOf.frames + 1 ≤ R.frames ∧ 8 + (2 + 11) + rX0_whoOf.locals ≤ R.locals) : CallW R s args RX0 RX0 291 yX0_whoOf cX0_whoOf 2 (some .int) (ws_ yX0_whoOf cX0_whoOf 2 (some .int)) rX0_whoOf 0 0 1 := cwV 1 hts (lw_V q368 q370 qs29 q89 q371) rfl rfl rfl (by decide +kernel) hR
theorem t0_who_b19 {p : Program} {l : Launch} {e : Env} {s : State} {m : MethodId} {args : Array Value} {below : List Frame} {meth : Method} {c : Code} {D : va_G} {T ad : Nat → Nat} {A : Nat → Prop} {H0 : Heap} {Qs : State → Prop} {Q : Int32 → Mem → Prop}  (C : XC D T RX0 p m c cX0_who 2 s args) (hQ : xExi p l e rX0_who s m args below meth c cX0_who D T ad A H0 Qs Q)  (s0 : Int32) (M : Mem) (H : Heap) (locs : List Loc) (ls : Array Slot) (h : w0_who_b19 Q s0 M) (I : XI D T ad A H0 M H locs) (hl : lv_has ls 2 [(0, .ref (ad 0))]) : W p l e rX0_who s m args below meth c H locs 0 0 Qs (F0 m 19 ls [.int s0]) := by
  have hx := C.1.1
  have hb := C.1.2.1
  have how := C.1.2.2.2.1
  have hts := C.1.2.2.2.2
  unfold w0_who_b19 at h
  exact hQ _ _ _ _ _ _ h I dX0_who_19
theorem t0_who {p : Program} {l : Launch} {e : Env} {s : State} {m : MethodId} {args : Array Value} {below : List Frame} {meth : Method} {c : Code} {D : va_G} {T ad : Nat → Nat} {A : Nat → Prop} {H0 : Heap} {Qs : State → Prop} {Q : Int32 → Mem → Prop} (C : XC D T RX0 p m c cX0_who 2 s args) (hQ : xExi p l e rX0_who s m args below meth c cX0_who D T ad A H0 Qs Q) (v1 : Int32) (M : Mem) (H : Heap) (locs : List Loc) (ls : Array Slot) (h : w0_who v1 M Q) (I : XI D T ad A H0 M H locs) (hl : lv_has ls 2 [(0, .ref (ad 0)), (1, .int v1)]) : W p l e rX0_who s m args below meth c H locs 0 0 Qs (F0 m 0 ls []) := by
  have hx := C.1.1
  have hb := C.1.2.1
  have how := C.1.2.2.2.1
  have hts := C.1.2.2.2.2
  unfold w0_who at h
  refine lv_iload_n hx hb dX0_who_0 rfl (lv_at hl 1 rfl) ?_
  refine lv_iconst (v := 2) hx hb dX0_who_1 (by decide) ?_
  refine lv_iconst (v := 5) hx hb dX0_who_2 (by decide) ?_
  refine x_purei (As := [.int v1, .int 2, .int 5]) (rest := []) C I (met0_in l v1 2 5 h) (cw0_5 hts ⟨Nat.le_of_ble_eq_true rfl, Nat.le_of_ble_eq_true rfl⟩) rfl hl.1 rfl (Nat.le_of_ble_eq_true rfl) ⟨Nat.zero_le _, Nat.zero_le _⟩ dX0_who_3 (fun r1 H locs h I => ?_)
  refine lv_if_eq (tgt := 17) hx hb dX0_who_6 (by decide) (fun c => ?_) (fun c => ?_)
  · have h := h.1 c
    refine lv_bipush (v := -2) hx hb dX0_who_17 (by decide) ?_
    exact t0_who_b19 C hQ (-2) M _ _ _ h I (lv_sub hl [0] rfl)
  · have h := h.2 c
    refine lv_aload_n hx hb dX0_who_9 rfl (lv_at hl 0 rfl) ?_
    refine lv_iload_n hx hb dX0_who_10 rfl (lv_at hl 1 rfl) ?_
    refine x_calli (As := [.int v1]) (rest := []) C I (fun ra => met0_whoOf l D T ad ra v1 M h) (cw0_291 hts ⟨Nat.le_of_ble_eq_true rfl, Nat.le_of_ble_eq_true rfl⟩) rfl hl.1 rfl (Nat.le_of_ble_eq_true rfl) ⟨Nat.zero_le _, Nat.zero_le _⟩ dX0_who_11 (fun r2 M3 H locs h I => ?_)
    refine lv_goto (tgt := 19) hx hb dX0_who_14 (by decide) ?_
    exact t0_who_b19 C hQ r2 M3 _ _ _ h I (lv_sub hl [0] rfl)
theorem met0_who (l : Launch) (D : va_G) (T ad ra : Nat → Nat) (v1 : Int32) (M : Mem) {Qp : Int32 → Mem → Prop} (h : w0_who v1 M Qp) (sz : Nat) : Met l yX0_who (ws_ yX0_who cX0_who 2 (some .int)) rX0_who (xPc D T ad ra 0 [.int v1] M sz) (xQi D T ad ra M Qp sz) 0 0 (fA (cX T ad ra M) sz) :=
  x_metI (own := RX0) (As := [.int v1]) rfl rfl (Nat.le_of_ble_eq_true rfl) (fun p e s m args below meth c A Qs ls C hQ I hl => t0_who C hQ v1 M _ _ ls h I hl) sz
/-! isTwo -/
abbrev rX0_isTwo : Room := { frames := 1, cells := 0, slots := 0, locals := 22 }
theorem t0_isTwo {p : Program} {l : Launch} {e : Env} {s : State} {m : MethodId} {args : Array Value} {below : List Frame} {meth : Method} {c : Code} {A : Nat → Prop} {H0 : Heap} {Qs : State → Prop} {Q : Int32 → Prop} (S : CallFix p m c cX0_isTwo 1 s args lw_all RX0) (hA : ∀ q, H0.size ≤ q → A q) (hQ : pExi p l e rX0_isTwo s m args below meth c cX0_isTwo A H0 Qs Q) (v0 : Int32) (H : Heap) (locs : List Loc) (ls : Array Slot) (h : w0_isTwo_z v0 Q) (hS : va_S A H0 H locs) (hl : lv_has ls 1 [(0, .int v0)]) : W p l e rX0_isTwo s m args below meth c H locs 0 0 Qs (F0 m 0 ls []) := by
  have hx := S.1
  have hb := S.2.1
  have how := S.2.2.2.1
  have hts := S.2.2.2.2
  unfold w0_isTwo_z at h
  refine lv_iload_n hx hb dX0_isTwo_0 rfl (lv_at hl 0 rfl) ?_
  refine lv_iconst (v := 0) hx hb dX0_isTwo_1 (by decide) ?_
  refine lv_iconst (v := 1) hx hb dX0_isTwo_2 (by decide) ?_
  refine p_calli (As := [.int v0, .int 0, .int 1]) (rest := []) S hS hA (met0_in l v0 0 1 h) (cw0_5 hts ⟨Nat.le_of_ble_eq_true rfl, Nat.le_of_ble_eq_true rfl⟩) rfl hl.1 rfl (Nat.le_of_ble_eq_true rfl) ⟨Nat.zero_le _, Nat.zero_le _⟩ dX0_isTwo_3 (fun r1 H locs h _ hS => ?_)
  exact hQ _ _ _ _ _ h hS dX0_isTwo_6
theorem met0_isTwo (l : Launch) (v0 : Int32) {Qp : Int32 → Prop} (h : w0_isTwo v0 Qp) (sz : Nat) : Met l yX0_isTwo (ws_ yX0_isTwo cX0_isTwo 1 (some .boolean)) rX0_isTwo (pPc [.int v0] sz) (pQi Qp sz) 0 0 (pA sz) :=
  p_metZ (As := [.int v0]) rfl (Nat.le_of_ble_eq_true rfl) (fun p e s m args below meth c Qs ls S hQ hl => t0_isTwo S (fun q h => h) hQ v0 _ _ ls h va_S.rf hl) sz
/-! metOf -/
abbrev rX0_metOf : Room := { frames := 8, cells := 0, slots := 0, locals := 177 }
theorem t0_metOf_b25 {p : Program} {l : Launch} {e : Env} {s : State} {m : MethodId} {args : Array Value} {below : List Frame} {meth : Method} {c : Code} {D : va_G} {T ad : Nat → Nat} {A : Nat → Prop} {H0 : Heap} {Qs : State → Prop} {Q : Int32 → Mem → Prop}  (C : XC D T RX0 p m c cX0_metOf 2 s args) (hQ : xExi p l e rX0_metOf s m args below meth c cX0_metOf D T ad A H0 Qs Q)  (s0 : Int32) (M : Mem) (H : Heap) (locs : List Loc) (ls : Array Slot) (h : w0_metOf_b25 Q s0 M) (I : XI D T ad A H0 M H locs) (hl : lv_has ls 2 [(0, .ref (ad 0))]) : W p l e rX0_metOf s m args below meth c H locs 0 0 Qs (F0 m 25 ls [.int s0]) := by
  have hx := C.1.1
  have hb := C.1.2.1
  have how := C.1.2.2.2.1
  have hts := C.1.2.2.2.2
  unfold w0_metOf_b25 at h
  exact hQ _ _ _ _ _ _ h I dX0_metOf_25
theorem t0_metOf {p : Program} {l : Launch} {e : Env} {s : State} {m : MethodId} {args : Array Value} {below : List Frame} {meth : Method} {c : Code} {D : va_G} {T ad : Nat → Nat} {A : Nat → Prop} {H0 : Heap} {Qs : State → Prop} {Q : Int32 → Mem → Prop} (C : XC D T RX0 p m c cX0_metOf 2 s args) (hQ : xExi p l e rX0_metOf s m args below meth c cX0_metOf D T ad A H0 Qs Q) (v1 : Int32) (M : Mem) (H : Heap) (locs : List Loc) (ls : Array Slot) (h : w0_metOf v1 M Q) (I : XI D T ad A H0 M H locs) (hl : lv_has ls 2 [(0, .ref (ad 0)), (1, .int v1)]) : W p l e rX0_metOf s m args below meth c H locs 0 0 Qs (F0 m 0 ls []) := by
  have hx := C.1.1
  have hb := C.1.2.1
  have how := C.1.2.2.2.1
  have hts := C.1.2.2.2.2
  unfold w0_metOf at h
  refine lv_aload_n hx hb dX0_metOf_0 rfl (lv_at hl 0 rfl) ?_
  refine x_callv (As := []) (rest := []) C I (fun ra => met0_asTold l D T ad ra M h) (cw0_273 hts ⟨Nat.le_of_ble_eq_true rfl, Nat.le_of_ble_eq_true rfl⟩) rfl hl.1 rfl (Nat.le_of_ble_eq_true rfl) ⟨Nat.zero_le _, Nat.zero_le _⟩ dX0_metOf_1 (fun M1 H locs h I => ?_)
  refine lv_aload_n hx hb dX0_metOf_4 rfl (lv_at hl 0 rfl) ?_
  refine lv_bipush (v := 39) hx hb dX0_metOf_5 (by decide) ?_
  refine x_callv (As := [.int 39]) (rest := []) C I (fun ra => met0_runs l D T ad ra 39 M1 h) (cw0_276 hts ⟨Nat.le_of_ble_eq_true rfl, Nat.le_of_ble_eq_true rfl⟩) rfl hl.1 rfl (Nat.le_of_ble_eq_true rfl) ⟨Nat.zero_le _, Nat.zero_le _⟩ dX0_metOf_7 (fun M2 H locs h I => ?_)
  refine lv_iload_n hx hb dX0_metOf_10 rfl (lv_at hl 1 rfl) ?_
  refine lv_if_ne (tgt := 21) hx hb dX0_metOf_11 (by decide) (fun c => ?_) (fun c => ?_)
  · have h := h.2 c
    refine lv_aload_n hx hb dX0_metOf_21 rfl (lv_at hl 0 rfl) ?_
    refine xg_metPlace C I dX0_metOf_22 ?_
    exact t0_metOf_b25 C hQ (M2 0 21) M2 _ _ _ h I (lv_sub hl [0] rfl)
  · have h := h.1 c
    refine lv_aload_n hx hb dX0_metOf_14 rfl (lv_at hl 0 rfl) ?_
    refine xg_metHour C I dX0_metOf_15 ?_
    refine lv_goto (tgt := 25) hx hb dX0_metOf_18 (by decide) ?_
    exact t0_metOf_b25 C hQ (M2 0 20) M2 _ _ _ h I (lv_sub hl [0] rfl)
theorem met0_metOf (l : Launch) (D : va_G) (T ad ra : Nat → Nat) (v1 : Int32) (M : Mem) {Qp : Int32 → Mem → Prop} (h : w0_metOf v1 M Qp) (sz : Nat) : Met l yX0_metOf (ws_ yX0_metOf cX0_metOf 2 (some .int)) rX0_metOf (xPc D T ad ra 0 [.int v1] M sz) (xQi D T ad ra M Qp sz) 0 0 (fA (cX T ad ra M) sz) :=
  x_metI (own := RX0) (As := [.int v1]) rfl rfl (Nat.le_of_ble_eq_true rfl) (fun p e s m args below meth c A Qs ls C hQ I hl => t0_metOf C hQ v1 M _ _ ls h I hl) sz
/-! met -/
abbrev rX0_met : Room := { frames := 9, cells := 0, slots := 0, locals := 198 }
theorem cw0_294 {R : Room} {s : State} {args : Array Value} (hts : ∀ w ∈ lw_all, w.before args s = true) (hR : rX0_isTwo.frames + 1 ≤ R.frames ∧ 8 + (1 + 11) + rX0_isTwo.locals ≤ R.locals) : CallB R s args RX0 294 yX0_isTwo cX0_isTwo 1 (some .boolean) (ws_ yX0_isTwo cX0_isTwo 1 (some .boolean)) rX0_isTwo 0 0 1 ∧ (Cond.static yX0_isTwo).before args s = true := va_cwS 1 hts (lw_S q380 q381 q89 q382) rfl rfl rfl (by decide +kernel) hR
theorem cw0_297 {R : Room} {s : State} {args : Array Value} (hts : ∀ w ∈ lw_all, w.before args s = true) (hR : rX0_metOf.frames + 1 ≤ R.frames ∧ 8 + (2 + 11) + rX0_metOf.locals ≤ R.locals) : CallW R s args RX0 RX0 297 yX0_metOf cX0_metOf 2 (some .int) (ws_ yX0_metOf cX0_metOf 2 (some .int)) rX0_metOf 0 0 1 := cwV 1 hts (lw_V q383 q385 qs31 q89 q386) rfl rfl rfl (by decide +kernel) hR
theorem t0_met_b17 {p : Program} {l : Launch} {e : Env} {s : State} {m : MethodId} {args : Array Value} {below : List Frame} {meth : Method} {c : Code} {D : va_G} {T ad : Nat → Nat} {A : Nat → Prop} {H0 : Heap} {Qs : State → Prop} {Q : Int32 → Mem → Prop}  (C : XC D T RX0 p m c cX0_met 2 s args) (hQ : xExi p l e rX0_met s m args below meth c cX0_met D T ad A H0 Qs Q)  (s0 : Int32) (M : Mem) (H : Heap) (locs : List Loc) (ls : Array Slot) (h : w0_met_b17 Q s0 M) (I : XI D T ad A H0 M H locs) (hl : lv_has ls 2 [(0, .ref (ad 0))]) : W p l e rX0_met s m args below meth c H locs 0 0 Qs (F0 m 17 ls [.int s0]) := by
  have hx := C.1.1
  have hb := C.1.2.1
  have how := C.1.2.2.2.1
  have hts := C.1.2.2.2.2
  unfold w0_met_b17 at h
  exact hQ _ _ _ _ _ _ h I dX0_met_17
theorem t0_met {p : Program} {l : Launch} {e : Env} {s : State} {m : MethodId} {args : Array Value} {below : List Frame} {meth : Method} {c : Code} {D : va_G} {T ad : Nat → Nat} {A : Nat → Prop} {H0 : Heap} {Qs : State → Prop} {Q : Int32 → Mem → Prop} (C : XC D T RX0 p m c cX0_met 2 s args) (hQ : xExi p l e rX0_met s m args below meth c cX0_met D T ad A H0 Qs Q) (v1 : Int32) (M : Mem) (H : Heap) (locs : List Loc) (ls : Array Slot) (h : w0_met v1 M Q) (I : XI D T ad A H0 M H locs) (hl : lv_has ls 2 [(0, .ref (ad 0)), (1, .int v1)]) : W p l e rX0_met s m args below meth c H locs 0 0 Qs (F0 m 0 ls []) := by
  have hx := C.1.1
  have hb := C.1.2.1
  have how := C.1.2.2.2.1
  have hts := C.1.2.2.2.2
  unfold w0_met at h
  refine lv_iload_n hx hb dX0_met_0 rfl (lv_at hl 1 rfl) ?_
  refine x_purei (As := [.int v1]) (rest := []) C I (met0_isTwo l v1 h) (cw0_294 hts ⟨Nat.le_of_ble_eq_true rfl, Nat.le_of_ble_eq_true rfl⟩) rfl hl.1 rfl (Nat.le_of_ble_eq_true rfl) ⟨Nat.zero_le _, Nat.zero_le _⟩ dX0_met_1 (fun r1 H locs h I => ?_)
  refine lv_if_eq (tgt := 15) hx hb dX0_met_4 (by decide) (fun c => ?_) (fun c => ?_)
  · have h := h.1 c
    refine lv_bipush (v := -2) hx hb dX0_met_15 (by decide) ?_
    exact t0_met_b17 C hQ (-2) M _ _ _ h I (lv_sub hl [0] rfl)
  · have h := h.2 c
    refine lv_aload_n hx hb dX0_met_7 rfl (lv_at hl 0 rfl) ?_
    refine lv_iload_n hx hb dX0_met_8 rfl (lv_at hl 1 rfl) ?_
    refine x_calli (As := [.int v1]) (rest := []) C I (fun ra => met0_metOf l D T ad ra v1 M h) (cw0_297 hts ⟨Nat.le_of_ble_eq_true rfl, Nat.le_of_ble_eq_true rfl⟩) rfl hl.1 rfl (Nat.le_of_ble_eq_true rfl) ⟨Nat.zero_le _, Nat.zero_le _⟩ dX0_met_9 (fun r2 M3 H locs h I => ?_)
    refine lv_goto (tgt := 17) hx hb dX0_met_12 (by decide) ?_
    exact t0_met_b17 C hQ r2 M3 _ _ _ h I (lv_sub hl [0] rfl)
theorem met0_met (l : Launch) (D : va_G) (T ad ra : Nat → Nat) (v1 : Int32) (M : Mem) {Qp : Int32 → Mem → Prop} (h : w0_met v1 M Qp) (sz : Nat) : Met l yX0_met (ws_ yX0_met cX0_met 2 (some .int)) rX0_met (xPc D T ad ra 0 [.int v1] M sz) (xQi D T ad ra M Qp sz) 0 0 (fA (cX T ad ra M) sz) :=
  x_metI (own := RX0) (As := [.int v1]) rfl rfl (Nat.le_of_ble_eq_true rfl) (fun p e s m args below meth c A Qs ls C hQ I hl => t0_met C hQ v1 M _ _ ls h I hl) sz
/-! busiestNow -/
abbrev rX0_busiestNow : Room := { frames := 8, cells := 0, slots := 0, locals := 177 }
theorem t0_busiestNow_b49 {p : Program} {l : Launch} {e : Env} {s : State} {m : MethodId} {args : Array Value} {below : List Frame} {meth : Method} {c : Code} {D : va_G} {T ad : Nat → Nat} {A : Nat → Prop} {H0 : Heap} {Qs : State → Prop} {Q : Int32 → Mem → Prop} {K14 : Int32 → Int32 → Mem → Prop} (C : XC D T RX0 p m c cX0_busiestNow 3 s args) (hQ : xExi p l e rX0_busiestNow s m args below meth c cX0_busiestNow D T ad A H0 Qs Q) (hK14 : ∀ (v1 : Int32) (v2 : Int32) (M : Mem) (H : Heap) (locs : List Loc) (ls : Array Slot), K14 v1 v2 M → XI D T ad A H0 M H locs → lv_has ls 3 [(0, .ref (ad 0)), (1, .int v1), (2, .int v2)] → W p l e rX0_busiestNow s m args below meth c H locs 0 0 Qs (F0 m 14 ls [])) (v2 : Int32) (s0 : Int32) (M : Mem) (H : Heap) (locs : List Loc) (ls : Array Slot) (h : w0_busiestNow_b49 Q K14 v2 s0 M) (I : XI D T ad A H0 M H locs) (hl : lv_has ls 3 [(0, .ref (ad 0)), (2, .int v2)]) : W p l e rX0_busiestNow s m args below meth c H locs 0 0 Qs (F0 m 49 ls [.int s0]) := by
  have hx := C.1.1
  have hb := C.1.2.1
  have how := C.1.2.2.2.1
  have hts := C.1.2.2.2.2
  unfold w0_busiestNow_b49 at h
  refine lv_istore_n (lv' := [(1, .int s0), (0, .ref (ad 0)), (2, .int v2)]) hx hb dX0_busiestNow_49 rfl hl (by decide) rfl (fun ls hl => ?_)
  refine lv_iinc (v := (v2 + 1)) (lv' := [(2, .int (v2 + 1)), (1, .int s0), (0, .ref (ad 0))]) hx hb dX0_busiestNow_50 hl (k := 2) rfl (ii_1 _) (by decide) rfl (fun ls hl => ?_)
  refine lv_goto (tgt := 14) hx hb dX0_busiestNow_53 (by decide) ?_
  exact hK14 s0 (v2 + 1) M _ _ _ h I (lv_sub hl [2, 1, 0] rfl)
theorem t0_busiestNow_b41 {p : Program} {l : Launch} {e : Env} {s : State} {m : MethodId} {args : Array Value} {below : List Frame} {meth : Method} {c : Code} {D : va_G} {T ad : Nat → Nat} {A : Nat → Prop} {H0 : Heap} {Qs : State → Prop} {Q : Int32 → Mem → Prop} {K14 : Int32 → Int32 → Mem → Prop} (C : XC D T RX0 p m c cX0_busiestNow 3 s args) (hQ : xExi p l e rX0_busiestNow s m args below meth c cX0_busiestNow D T ad A H0 Qs Q) (hK14 : ∀ (v1 : Int32) (v2 : Int32) (M : Mem) (H : Heap) (locs : List Loc) (ls : Array Slot), K14 v1 v2 M → XI D T ad A H0 M H locs → lv_has ls 3 [(0, .ref (ad 0)), (1, .int v1), (2, .int v2)] → W p l e rX0_busiestNow s m args below meth c H locs 0 0 Qs (F0 m 14 ls [])) (v1 : Int32) (v2 : Int32) (s0 : Int32) (s1 : Int32) (M : Mem) (H : Heap) (locs : List Loc) (ls : Array Slot) (h : w0_busiestNow_b41 Q K14 v1 v2 s0 s1 M) (I : XI D T ad A H0 M H locs) (hl : lv_has ls 3 [(0, .ref (ad 0)), (1, .int v1), (2, .int v2)]) : W p l e rX0_busiestNow s m args below meth c H locs 0 0 Qs (F0 m 41 ls [.int s1, .int s0]) := by
  have hx := C.1.1
  have hb := C.1.2.1
  have how := C.1.2.2.2.1
  have hts := C.1.2.2.2.2
  unfold w0_busiestNow_b41 at h
  refine lv_icmp_le (tgt := 48) hx hb dX0_busiestNow_41 (by decide) (fun c => ?_) (fun c => ?_)
  · have h := h.1 c
    refine lv_iload_n hx hb dX0_busiestNow_48 rfl (lv_at hl 1 rfl) ?_
    exact t0_busiestNow_b49 C hQ hK14 v2 v1 M _ _ _ h I (lv_sub hl [0, 2] rfl)
  · have h := h.2 c
    refine lv_iload_n hx hb dX0_busiestNow_44 rfl (lv_at hl 2 rfl) ?_
    refine lv_goto (tgt := 49) hx hb dX0_busiestNow_45 (by decide) ?_
    exact t0_busiestNow_b49 C hQ hK14 v2 v2 M _ _ _ h I (lv_sub hl [0, 2] rfl)
theorem t0_busiestNow_b14_f {p : Program} {l : Launch} {e : Env} {s : State} {m : MethodId} {args : Array Value} {below : List Frame} {meth : Method} {c : Code} {D : va_G} {T ad : Nat → Nat} {A : Nat → Prop} {H0 : Heap} {Qs : State → Prop} {Q : Int32 → Mem → Prop} {K14 : Int32 → Int32 → Mem → Prop} (C : XC D T RX0 p m c cX0_busiestNow 3 s args) (hQ : xExi p l e rX0_busiestNow s m args below meth c cX0_busiestNow D T ad A H0 Qs Q) (hK14 : ∀ (v1 : Int32) (v2 : Int32) (M : Mem) (H : Heap) (locs : List Loc) (ls : Array Slot), K14 v1 v2 M → XI D T ad A H0 M H locs → lv_has ls 3 [(0, .ref (ad 0)), (1, .int v1), (2, .int v2)] → W p l e rX0_busiestNow s m args below meth c H locs 0 0 Qs (F0 m 14 ls [])) (v1 : Int32) (v2 : Int32) (M : Mem) (H : Heap) (locs : List Loc) (ls : Array Slot) (h : w0_busiestNow_b14_f Q K14 v1 v2 M) (I : XI D T ad A H0 M H locs) (hl : lv_has ls 3 [(0, .ref (ad 0)), (1, .int v1), (2, .int v2)]) : W p l e rX0_busiestNow s m args below meth c H locs 0 0 Qs (F0 m 14 ls []) := by
  have hx := C.1.1
  have hb := C.1.2.1
  have how := C.1.2.2.2.1
  have hts := C.1.2.2.2.2
  unfold w0_busiestNow_b14_f at h
  refine lv_iload_n hx hb dX0_busiestNow_14 rfl (lv_at hl 2 rfl) ?_
  refine lv_bipush (v := 8) hx hb dX0_busiestNow_15 (by decide) ?_
  refine lv_icmp_ge (tgt := 56) hx hb dX0_busiestNow_17 (by decide) (fun c => ?_) (fun c => ?_)
  · have h := h.1 c
    refine lv_iload_n hx hb dX0_busiestNow_56 rfl (lv_at hl 1 rfl) ?_
    exact hQ _ _ _ _ _ _ h I dX0_busiestNow_57
  · have h := h.2 c
    refine lv_aload_n hx hb dX0_busiestNow_20 rfl (lv_at hl 0 rfl) ?_
    refine xg_arrivals C I dX0_busiestNow_21 ?_
    refine lv_iload_n hx hb dX0_busiestNow_24 rfl (lv_at hl 2 rfl) ?_
    obtain ⟨hg1, h⟩ := h
    refine x_iald C I 17 8 rfl hg1 dX0_busiestNow_25 ?_
    refine lv_iload_n hx hb dX0_busiestNow_26 rfl (lv_at hl 1 rfl) ?_
    refine lv_iconst (v := -1) hx hb dX0_busiestNow_27 (by decide) ?_
    refine lv_icmp_ne (tgt := 35) hx hb dX0_busiestNow_28 (by decide) (fun c => ?_) (fun c => ?_)
    · have h := h.2 c
      refine lv_aload_n hx hb dX0_busiestNow_35 rfl (lv_at hl 0 rfl) ?_
      refine xg_arrivals C I dX0_busiestNow_36 ?_
      refine lv_iload_n hx hb dX0_busiestNow_39 rfl (lv_at hl 1 rfl) ?_
      obtain ⟨hg2, h⟩ := h
      refine x_iald C I 17 8 rfl hg2 dX0_busiestNow_40 ?_
      exact t0_busiestNow_b41 C hQ hK14 v1 v2 (M 17 (ci v2)) (M 17 (ci v1)) M _ _ _ h I (lv_sub hl [0, 1, 2] rfl)
    · have h := h.1 c
      refine lv_iconst (v := 0) hx hb dX0_busiestNow_31 (by decide) ?_
      refine lv_goto (tgt := 41) hx hb dX0_busiestNow_32 (by decide) ?_
      exact t0_busiestNow_b41 C hQ hK14 v1 v2 (M 17 (ci v2)) 0 M _ _ _ h I (lv_sub hl [0, 1, 2] rfl)
theorem t0_busiestNow_b14 {p : Program} {l : Launch} {e : Env} {s : State} {m : MethodId} {args : Array Value} {below : List Frame} {meth : Method} {c : Code} {D : va_G} {T ad : Nat → Nat} {A : Nat → Prop} {H0 : Heap} {Qs : State → Prop} {Q : Int32 → Mem → Prop}  (C : XC D T RX0 p m c cX0_busiestNow 3 s args) (hQ : xExi p l e rX0_busiestNow s m args below meth c cX0_busiestNow D T ad A H0 Qs Q)  : ∀ (n : Nat) (v1 : Int32) (v2 : Int32) (M : Mem) (H : Heap) (locs : List Loc) (ls : Array Slot), w0_busiestNow_b14 Q n v1 v2 M → XI D T ad A H0 M H locs → lv_has ls 3 [(0, .ref (ad 0)), (1, .int v1), (2, .int v2)] → W p l e rX0_busiestNow s m args below meth c H locs 0 0 Qs (F0 m 14 ls []) := by
  intro n
  induction n with
  | zero => intro v1 v2 M H locs ls h; exact h.elim
  | succ n ih => intro v1 v2 M H locs ls h I hl; exact t0_busiestNow_b14_f C hQ  ih v1 v2 M H locs ls h I hl
theorem t0_busiestNow {p : Program} {l : Launch} {e : Env} {s : State} {m : MethodId} {args : Array Value} {below : List Frame} {meth : Method} {c : Code} {D : va_G} {T ad : Nat → Nat} {A : Nat → Prop} {H0 : Heap} {Qs : State → Prop} {Q : Int32 → Mem → Prop} (C : XC D T RX0 p m c cX0_busiestNow 3 s args) (hQ : xExi p l e rX0_busiestNow s m args below meth c cX0_busiestNow D T ad A H0 Qs Q)  (M : Mem) (H : Heap) (locs : List Loc) (ls : Array Slot) (h : w0_busiestNow M Q) (I : XI D T ad A H0 M H locs) (hl : lv_has ls 3 [(0, .ref (ad 0))]) : W p l e rX0_busiestNow s m args below meth c H locs 0 0 Qs (F0 m 0 ls []) := by
  have hx := C.1.1
  have hb := C.1.2.1
  have how := C.1.2.2.2.1
  have hts := C.1.2.2.2.2
  unfold w0_busiestNow at h
  refine lv_aload_n hx hb dX0_busiestNow_0 rfl (lv_at hl 0 rfl) ?_
  refine x_callv (As := []) (rest := []) C I (fun ra => met0_asTold l D T ad ra M h) (cw0_273 hts ⟨Nat.le_of_ble_eq_true rfl, Nat.le_of_ble_eq_true rfl⟩) rfl hl.1 rfl (Nat.le_of_ble_eq_true rfl) ⟨Nat.zero_le _, Nat.zero_le _⟩ dX0_busiestNow_1 (fun M3 H locs h I => ?_)
  refine lv_aload_n hx hb dX0_busiestNow_4 rfl (lv_at hl 0 rfl) ?_
  refine lv_bipush (v := 39) hx hb dX0_busiestNow_5 (by decide) ?_
  refine x_callv (As := [.int 39]) (rest := []) C I (fun ra => met0_runs l D T ad ra 39 M3 h) (cw0_276 hts ⟨Nat.le_of_ble_eq_true rfl, Nat.le_of_ble_eq_true rfl⟩) rfl hl.1 rfl (Nat.le_of_ble_eq_true rfl) ⟨Nat.zero_le _, Nat.zero_le _⟩ dX0_busiestNow_7 (fun M4 H locs h I => ?_)
  refine lv_iconst (v := -1) hx hb dX0_busiestNow_10 (by decide) ?_
  refine lv_istore_n (lv' := [(1, .int (-1)), (0, .ref (ad 0))]) hx hb dX0_busiestNow_11 rfl hl (by decide) rfl (fun ls hl => ?_)
  refine lv_iconst (v := 0) hx hb dX0_busiestNow_12 (by decide) ?_
  refine lv_istore_n (lv' := [(2, .int 0), (1, .int (-1)), (0, .ref (ad 0))]) hx hb dX0_busiestNow_13 rfl hl (by decide) rfl (fun ls hl => ?_)
  obtain ⟨n, h⟩ := h
  exact t0_busiestNow_b14 C hQ n (-1) 0 M4 _ _ _ h I (lv_sub hl [2, 1, 0] rfl)
theorem met0_busiestNow (l : Launch) (D : va_G) (T ad ra : Nat → Nat)  (M : Mem) {Qp : Int32 → Mem → Prop} (h : w0_busiestNow M Qp) (sz : Nat) : Met l yX0_busiestNow (ws_ yX0_busiestNow cX0_busiestNow 3 (some .int)) rX0_busiestNow (xPc D T ad ra 0 [] M sz) (xQi D T ad ra M Qp sz) 0 0 (fA (cX T ad ra M) sz) :=
  x_metI (own := RX0) (As := []) rfl rfl (Nat.le_of_ble_eq_true rfl) (fun p e s m args below meth c A Qs ls C hQ I hl => t0_busiestNow C hQ M _ _ ls h I hl) sz
/-! busiest -/
abbrev rX0_busiest : Room := { frames := 9, cells := 0, slots := 0, locals := 199 }
theorem cw0_300 {R : Room} {s : State} {args : Array Value} (hts : ∀ w ∈ lw_all, w.before args s = true) (hR : rX0_busiestNow.frames + 1 ≤ R.frames ∧ 8 + (3 + 11) + rX0_busiestNow.locals ≤ R.locals) : CallW R s args RX0 RX0 300 yX0_busiestNow cX0_busiestNow 3 (some .int) (ws_ yX0_busiestNow cX0_busiestNow 3 (some .int)) rX0_busiestNow 0 0 0 := cwV 0 hts (lw_V q391 q393 qs32 q89 q394) rfl rfl rfl (by decide +kernel) hR
theorem t0_busiest {p : Program} {l : Launch} {e : Env} {s : State} {m : MethodId} {args : Array Value} {below : List Frame} {meth : Method} {c : Code} {D : va_G} {T ad : Nat → Nat} {A : Nat → Prop} {H0 : Heap} {Qs : State → Prop} {Q : Int32 → Mem → Prop} (C : XC D T RX0 p m c cX0_busiest 1 s args) (hQ : xExi p l e rX0_busiest s m args below meth c cX0_busiest D T ad A H0 Qs Q)  (M : Mem) (H : Heap) (locs : List Loc) (ls : Array Slot) (h : w0_busiest M Q) (I : XI D T ad A H0 M H locs) (hl : lv_has ls 1 [(0, .ref (ad 0))]) : W p l e rX0_busiest s m args below meth c H locs 0 0 Qs (F0 m 0 ls []) := by
  have hx := C.1.1
  have hb := C.1.2.1
  have how := C.1.2.2.2.1
  have hts := C.1.2.2.2.2
  unfold w0_busiest at h
  refine lv_aload_n hx hb dX0_busiest_0 rfl (lv_at hl 0 rfl) ?_
  refine x_calli (As := []) (rest := []) C I (fun ra => met0_busiestNow l D T ad ra M h) (cw0_300 hts ⟨Nat.le_of_ble_eq_true rfl, Nat.le_of_ble_eq_true rfl⟩) rfl hl.1 rfl (Nat.le_of_ble_eq_true rfl) ⟨Nat.zero_le _, Nat.zero_le _⟩ dX0_busiest_1 (fun r1 M2 H locs h I => ?_)
  exact hQ _ _ _ _ _ _ h I dX0_busiest_4
theorem met0_busiest (l : Launch) (D : va_G) (T ad ra : Nat → Nat)  (M : Mem) {Qp : Int32 → Mem → Prop} (h : w0_busiest M Qp) (sz : Nat) : Met l yX0_busiest (ws_ yX0_busiest cX0_busiest 1 (some .int)) rX0_busiest (xPc D T ad ra 0 [] M sz) (xQi D T ad ra M Qp sz) 0 0 (fA (cX T ad ra M) sz) :=
  x_metI (own := RX0) (As := []) rfl rfl (Nat.le_of_ble_eq_true rfl) (fun p e s m args below meth c A Qs ls C hQ I hl => t0_busiest C hQ M _ _ ls h I hl) sz
/-! needsOf -/
abbrev rX0_needsOf : Room := { frames := 8, cells := 0, slots := 0, locals := 177 }
theorem t0_needsOf_b74 {p : Program} {l : Launch} {e : Env} {s : State} {m : MethodId} {args : Array Value} {below : List Frame} {meth : Method} {c : Code} {D : va_G} {T ad : Nat → Nat} {A : Nat → Prop} {H0 : Heap} {Qs : State → Prop} {Q : Int32 → Mem → Prop}  (C : XC D T RX0 p m c cX0_needsOf 5 s args) (hQ : xExi p l e rX0_needsOf s m args below meth c cX0_needsOf D T ad A H0 Qs Q)  (v1 : Int32) (v2 : Int32) (v3 : Int32) (M : Mem) (H : Heap) (locs : List Loc) (ls : Array Slot) (h : w0_needsOf_b74 Q v1 v2 v3 M) (I : XI D T ad A H0 M H locs) (hl : lv_has ls 5 [(0, .ref (ad 0)), (1, .int v1), (2, .int v2), (3, .int v3)]) : W p l e rX0_needsOf s m args below meth c H locs 0 0 Qs (F0 m 74 ls []) := by
  have hx := C.1.1
  have hb := C.1.2.1
  have how := C.1.2.2.2.1
  have hts := C.1.2.2.2.2
  unfold w0_needsOf_b74 at h
  refine lv_aload_n hx hb dX0_needsOf_74 rfl (lv_at hl 0 rfl) ?_
  refine xg_all C I dX0_needsOf_75 ?_
  refine lv_iload_n hx hb dX0_needsOf_78 rfl (lv_at hl 1 rfl) ?_
  obtain ⟨hg1, h⟩ := h
  refine xa_all C I hg1 dX0_needsOf_79 ?_
  refine lv_iload_n hx hb dX0_needsOf_80 rfl (lv_at hl 2 rfl) ?_
  refine xcp0_strength C I (isCar_of hg1) dX0_needsOf_81 (fun M2 H locs eM2 I => ?_)
  have h := h M2 eM2
  refine lv_iload_n hx hb dX0_needsOf_84 rfl (lv_at hl 3 rfl) ?_
  exact hQ _ _ _ _ _ _ h I dX0_needsOf_85
theorem t0_needsOf_b67 {p : Program} {l : Launch} {e : Env} {s : State} {m : MethodId} {args : Array Value} {below : List Frame} {meth : Method} {c : Code} {D : va_G} {T ad : Nat → Nat} {A : Nat → Prop} {H0 : Heap} {Qs : State → Prop} {Q : Int32 → Mem → Prop} {K19 : Int32 → Int32 → Int32 → Int32 → Mem → Prop} (C : XC D T RX0 p m c cX0_needsOf 5 s args) (hQ : xExi p l e rX0_needsOf s m args below meth c cX0_needsOf D T ad A H0 Qs Q) (hK19 : ∀ (v1 : Int32) (v2 : Int32) (v3 : Int32) (v4 : Int32) (M : Mem) (H : Heap) (locs : List Loc) (ls : Array Slot), K19 v1 v2 v3 v4 M → XI D T ad A H0 M H locs → lv_has ls 5 [(0, .ref (ad 0)), (1, .int v1), (2, .int v2), (3, .int v3), (4, .int v4)] → W p l e rX0_needsOf s m args below meth c H locs 0 0 Qs (F0 m 19 ls [])) (v1 : Int32) (v2 : Int32) (v4 : Int32) (s0 : Int32) (M : Mem) (H : Heap) (locs : List Loc) (ls : Array Slot) (h : w0_needsOf_b67 Q K19 v1 v2 v4 s0 M) (I : XI D T ad A H0 M H locs) (hl : lv_has ls 5 [(0, .ref (ad 0)), (1, .int v1), (2, .int v2), (4, .int v4)]) : W p l e rX0_needsOf s m args below meth c H locs 0 0 Qs (F0 m 67 ls [.int s0]) := by
  have hx := C.1.1
  have hb := C.1.2.1
  have how := C.1.2.2.2.1
  have hts := C.1.2.2.2.2
  unfold w0_needsOf_b67 at h
  refine lv_istore_n (lv' := [(3, .int s0), (0, .ref (ad 0)), (1, .int v1), (2, .int v2), (4, .int v4)]) hx hb dX0_needsOf_67 rfl hl (by decide) rfl (fun ls hl => ?_)
  refine lv_iinc (v := (v4 + 1)) (lv' := [(4, .int (v4 + 1)), (3, .int s0), (0, .ref (ad 0)), (1, .int v1), (2, .int v2)]) hx hb dX0_needsOf_68 hl (k := 4) rfl (ii_1 _) (by decide) rfl (fun ls hl => ?_)
  refine lv_goto (tgt := 19) hx hb dX0_needsOf_71 (by decide) ?_
  exact hK19 v1 v2 s0 (v4 + 1) M _ _ _ h I (lv_sub hl [2, 3, 4, 1, 0] rfl)
theorem t0_needsOf_b19_f {p : Program} {l : Launch} {e : Env} {s : State} {m : MethodId} {args : Array Value} {below : List Frame} {meth : Method} {c : Code} {D : va_G} {T ad : Nat → Nat} {A : Nat → Prop} {H0 : Heap} {Qs : State → Prop} {Q : Int32 → Mem → Prop} {K19 : Int32 → Int32 → Int32 → Int32 → Mem → Prop} (C : XC D T RX0 p m c cX0_needsOf 5 s args) (hQ : xExi p l e rX0_needsOf s m args below meth c cX0_needsOf D T ad A H0 Qs Q) (hK19 : ∀ (v1 : Int32) (v2 : Int32) (v3 : Int32) (v4 : Int32) (M : Mem) (H : Heap) (locs : List Loc) (ls : Array Slot), K19 v1 v2 v3 v4 M → XI D T ad A H0 M H locs → lv_has ls 5 [(0, .ref (ad 0)), (1, .int v1), (2, .int v2), (3, .int v3), (4, .int v4)] → W p l e rX0_needsOf s m args below meth c H locs 0 0 Qs (F0 m 19 ls [])) (v1 : Int32) (v2 : Int32) (v3 : Int32) (v4 : Int32) (M : Mem) (H : Heap) (locs : List Loc) (ls : Array Slot) (h : w0_needsOf_b19_f Q K19 v1 v2 v3 v4 M) (I : XI D T ad A H0 M H locs) (hl : lv_has ls 5 [(0, .ref (ad 0)), (1, .int v1), (2, .int v2), (3, .int v3), (4, .int v4)]) : W p l e rX0_needsOf s m args below meth c H locs 0 0 Qs (F0 m 19 ls []) := by
  have hx := C.1.1
  have hb := C.1.2.1
  have how := C.1.2.2.2.1
  have hts := C.1.2.2.2.2
  unfold w0_needsOf_b19_f at h
  refine lv_iload hx hb dX0_needsOf_19 (lv_at hl 4 rfl) ?_
  refine lv_bipush (v := 100) hx hb dX0_needsOf_21 (by decide) ?_
  refine lv_icmp_ge (tgt := 74) hx hb dX0_needsOf_23 (by decide) (fun c => ?_) (fun c => ?_)
  · have h := h.1 c
    exact t0_needsOf_b74 C hQ v1 v2 v3 M _ _ _ h I (lv_sub hl [0, 1, 2, 3] rfl)
  · have h := h.2 c
    refine lv_iload_n hx hb dX0_needsOf_26 rfl (lv_at hl 3 rfl) ?_
    refine lv_iconst (v := -1) hx hb dX0_needsOf_27 (by decide) ?_
    refine lv_icmp_ne (tgt := 74) hx hb dX0_needsOf_28 (by decide) (fun c => ?_) (fun c => ?_)
    · have h := h.2 c
      exact t0_needsOf_b74 C hQ v1 v2 v3 M _ _ _ h I (lv_sub hl [0, 1, 2, 3] rfl)
    · have h := h.1 c
      refine lv_aload_n hx hb dX0_needsOf_31 rfl (lv_at hl 0 rfl) ?_
      refine xg_all C I dX0_needsOf_32 ?_
      refine lv_iload_n hx hb dX0_needsOf_35 rfl (lv_at hl 1 rfl) ?_
      obtain ⟨hg3, h⟩ := h
      refine xa_all C I hg3 dX0_needsOf_36 ?_
      refine lv_iload hx hb dX0_needsOf_37 (lv_at hl 4 rfl) ?_
      refine xcp0_strength C I (isCar_of hg3) dX0_needsOf_39 (fun M4 H locs eM4 I => ?_)
      have h := h M4 eM4
      refine lv_aload_n hx hb dX0_needsOf_42 rfl (lv_at hl 0 rfl) ?_
      refine lv_bipush (v := 39) hx hb dX0_needsOf_43 (by decide) ?_
      refine x_callv (As := [.int 39]) (rest := []) C I (fun ra => met0_runs l D T ad ra 39 M4 h) (cw0_276 hts ⟨Nat.le_of_ble_eq_true rfl, Nat.le_of_ble_eq_true rfl⟩) rfl hl.1 rfl (Nat.le_of_ble_eq_true rfl) ⟨Nat.zero_le _, Nat.zero_le _⟩ dX0_needsOf_45 (fun M5 H locs h I => ?_)
      refine lv_aload_n hx hb dX0_needsOf_48 rfl (lv_at hl 0 rfl) ?_
      refine xg_all C I dX0_needsOf_49 ?_
      refine lv_iload_n hx hb dX0_needsOf_52 rfl (lv_at hl 1 rfl) ?_
      refine xa_all C I hg3 dX0_needsOf_53 ?_
      refine xcg0_is C I (isCar_of hg3) dX0_needsOf_54 ?_
      refine lv_iconst (v := 2) hx hb dX0_needsOf_57 (by decide) ?_
      refine lv_icmp_ne (tgt := 66) hx hb dX0_needsOf_58 (by decide) (fun c => ?_) (fun c => ?_)
      · have h := h.2 c
        refine lv_iconst (v := -1) hx hb dX0_needsOf_66 (by decide) ?_
        exact t0_needsOf_b67 C hQ hK19 v1 v2 v4 (-1) M5 _ _ _ h I (lv_sub hl [0, 1, 2, 4] rfl)
      · have h := h.1 c
        refine lv_iload hx hb dX0_needsOf_61 (lv_at hl 4 rfl) ?_
        refine lv_goto (tgt := 67) hx hb dX0_needsOf_63 (by decide) ?_
        exact t0_needsOf_b67 C hQ hK19 v1 v2 v4 v4 M5 _ _ _ h I (lv_sub hl [0, 1, 2, 4] rfl)
theorem t0_needsOf_b19 {p : Program} {l : Launch} {e : Env} {s : State} {m : MethodId} {args : Array Value} {below : List Frame} {meth : Method} {c : Code} {D : va_G} {T ad : Nat → Nat} {A : Nat → Prop} {H0 : Heap} {Qs : State → Prop} {Q : Int32 → Mem → Prop}  (C : XC D T RX0 p m c cX0_needsOf 5 s args) (hQ : xExi p l e rX0_needsOf s m args below meth c cX0_needsOf D T ad A H0 Qs Q)  : ∀ (n : Nat) (v1 : Int32) (v2 : Int32) (v3 : Int32) (v4 : Int32) (M : Mem) (H : Heap) (locs : List Loc) (ls : Array Slot), w0_needsOf_b19 Q n v1 v2 v3 v4 M → XI D T ad A H0 M H locs → lv_has ls 5 [(0, .ref (ad 0)), (1, .int v1), (2, .int v2), (3, .int v3), (4, .int v4)] → W p l e rX0_needsOf s m args below meth c H locs 0 0 Qs (F0 m 19 ls []) := by
  intro n
  induction n with
  | zero => intro v1 v2 v3 v4 M H locs ls h; exact h.elim
  | succ n ih => intro v1 v2 v3 v4 M H locs ls h I hl; exact t0_needsOf_b19_f C hQ  ih v1 v2 v3 v4 M H locs ls h I hl
theorem t0_needsOf {p : Program} {l : Launch} {e : Env} {s : State} {m : MethodId} {args : Array Value} {below : List Frame} {meth : Method} {c : Code} {D : va_G} {T ad : Nat → Nat} {A : Nat → Prop} {H0 : Heap} {Qs : State → Prop} {Q : Int32 → Mem → Prop} (C : XC D T RX0 p m c cX0_needsOf 5 s args) (hQ : xExi p l e rX0_needsOf s m args below meth c cX0_needsOf D T ad A H0 Qs Q) (v1 : Int32) (M : Mem) (H : Heap) (locs : List Loc) (ls : Array Slot) (h : w0_needsOf v1 M Q) (I : XI D T ad A H0 M H locs) (hl : lv_has ls 5 [(0, .ref (ad 0)), (1, .int v1)]) : W p l e rX0_needsOf s m args below meth c H locs 0 0 Qs (F0 m 0 ls []) := by
  have hx := C.1.1
  have hb := C.1.2.1
  have how := C.1.2.2.2.1
  have hts := C.1.2.2.2.2
  unfold w0_needsOf at h
  refine lv_aload_n hx hb dX0_needsOf_0 rfl (lv_at hl 0 rfl) ?_
  refine x_callv (As := []) (rest := []) C I (fun ra => met0_asTold l D T ad ra M h) (cw0_273 hts ⟨Nat.le_of_ble_eq_true rfl, Nat.le_of_ble_eq_true rfl⟩) rfl hl.1 rfl (Nat.le_of_ble_eq_true rfl) ⟨Nat.zero_le _, Nat.zero_le _⟩ dX0_needsOf_1 (fun M6 H locs h I => ?_)
  refine lv_aload_n hx hb dX0_needsOf_4 rfl (lv_at hl 0 rfl) ?_
  refine xg_all C I dX0_needsOf_5 ?_
  refine lv_iload_n hx hb dX0_needsOf_8 rfl (lv_at hl 1 rfl) ?_
  obtain ⟨hg7, h⟩ := h
  refine xa_all C I hg7 dX0_needsOf_9 ?_
  refine xcg0_strength C I (isCar_of hg7) dX0_needsOf_10 ?_
  refine lv_istore_n (lv' := [(2, .int (M6 (30 + ci v1) 3)), (0, .ref (ad 0)), (1, .int v1)]) hx hb dX0_needsOf_13 rfl hl (by decide) rfl (fun ls hl => ?_)
  refine lv_iconst (v := -1) hx hb dX0_needsOf_14 (by decide) ?_
  refine lv_istore_n (lv' := [(3, .int (-1)), (2, .int (M6 (30 + ci v1) 3)), (0, .ref (ad 0)), (1, .int v1)]) hx hb dX0_needsOf_15 rfl hl (by decide) rfl (fun ls hl => ?_)
  refine lv_iconst (v := 0) hx hb dX0_needsOf_16 (by decide) ?_
  refine lv_istore (lv' := [(4, .int 0), (3, .int (-1)), (2, .int (M6 (30 + ci v1) 3)), (0, .ref (ad 0)), (1, .int v1)]) hx hb dX0_needsOf_17 hl (by decide) rfl (fun ls hl => ?_)
  obtain ⟨n, h⟩ := h
  exact t0_needsOf_b19 C hQ n v1 (M6 (30 + ci v1) 3) (-1) 0 M6 _ _ _ h I (lv_sub hl [3, 4, 2, 1, 0] rfl)
theorem met0_needsOf (l : Launch) (D : va_G) (T ad ra : Nat → Nat) (v1 : Int32) (M : Mem) {Qp : Int32 → Mem → Prop} (h : w0_needsOf v1 M Qp) (sz : Nat) : Met l yX0_needsOf (ws_ yX0_needsOf cX0_needsOf 5 (some .int)) rX0_needsOf (xPc D T ad ra 0 [.int v1] M sz) (xQi D T ad ra M Qp sz) 0 0 (fA (cX T ad ra M) sz) :=
  x_metI (own := RX0) (As := [.int v1]) rfl rfl (Nat.le_of_ble_eq_true rfl) (fun p e s m args below meth c A Qs ls C hQ I hl => t0_needsOf C hQ v1 M _ _ ls h I hl) sz
/-! needs -/
abbrev rX0_needs : Room := { frames := 9, cells := 0, slots := 0, locals := 201 }
theorem cw0_306 {R : Room} {s : State} {args : Array Value} (hts : ∀ w ∈ lw_all, w.before args s = true) (hR : rX0_needsOf.frames + 1 ≤ R.frames ∧ 8 + (5 + 11) + rX0_needsOf.locals ≤ R.locals) : CallW R s args RX0 RX0 306 yX0_needsOf cX0_needsOf 5 (some .int) (ws_ yX0_needsOf cX0_needsOf 5 (some .int)) rX0_needsOf 0 0 1 := cwV 1 hts (lw_V q399 q401 qs33 q89 q402) rfl rfl rfl (by decide +kernel) hR
theorem t0_needs_b18 {p : Program} {l : Launch} {e : Env} {s : State} {m : MethodId} {args : Array Value} {below : List Frame} {meth : Method} {c : Code} {D : va_G} {T ad : Nat → Nat} {A : Nat → Prop} {H0 : Heap} {Qs : State → Prop} {Q : Int32 → Mem → Prop}  (C : XC D T RX0 p m c cX0_needs 2 s args) (hQ : xExi p l e rX0_needs s m args below meth c cX0_needs D T ad A H0 Qs Q)  (s0 : Int32) (M : Mem) (H : Heap) (locs : List Loc) (ls : Array Slot) (h : w0_needs_b18 Q s0 M) (I : XI D T ad A H0 M H locs) (hl : lv_has ls 2 [(0, .ref (ad 0))]) : W p l e rX0_needs s m args below meth c H locs 0 0 Qs (F0 m 18 ls [.int s0]) := by
  have hx := C.1.1
  have hb := C.1.2.1
  have how := C.1.2.2.2.1
  have hts := C.1.2.2.2.2
  unfold w0_needs_b18 at h
  exact hQ _ _ _ _ _ _ h I dX0_needs_18
theorem t0_needs {p : Program} {l : Launch} {e : Env} {s : State} {m : MethodId} {args : Array Value} {below : List Frame} {meth : Method} {c : Code} {D : va_G} {T ad : Nat → Nat} {A : Nat → Prop} {H0 : Heap} {Qs : State → Prop} {Q : Int32 → Mem → Prop} (C : XC D T RX0 p m c cX0_needs 2 s args) (hQ : xExi p l e rX0_needs s m args below meth c cX0_needs D T ad A H0 Qs Q) (v1 : Int32) (M : Mem) (H : Heap) (locs : List Loc) (ls : Array Slot) (h : w0_needs v1 M Q) (I : XI D T ad A H0 M H locs) (hl : lv_has ls 2 [(0, .ref (ad 0)), (1, .int v1)]) : W p l e rX0_needs s m args below meth c H locs 0 0 Qs (F0 m 0 ls []) := by
  have hx := C.1.1
  have hb := C.1.2.1
  have how := C.1.2.2.2.1
  have hts := C.1.2.2.2.2
  unfold w0_needs at h
  refine lv_aload_n hx hb dX0_needs_0 rfl (lv_at hl 0 rfl) ?_
  refine lv_iload_n hx hb dX0_needs_1 rfl (lv_at hl 1 rfl) ?_
  refine x_calli (As := [.int v1]) (rest := []) C I (fun ra => met0_isCarter l D T ad ra v1 M h) (cw0_126 hts ⟨Nat.le_of_ble_eq_true rfl, Nat.le_of_ble_eq_true rfl⟩) rfl hl.1 rfl (Nat.le_of_ble_eq_true rfl) ⟨Nat.zero_le _, Nat.zero_le _⟩ dX0_needs_2 (fun r1 M2 H locs h I => ?_)
  refine lv_if_eq (tgt := 16) hx hb dX0_needs_5 (by decide) (fun c => ?_) (fun c => ?_)
  · have h := h.1 c
    refine lv_bipush (v := -2) hx hb dX0_needs_16 (by decide) ?_
    exact t0_needs_b18 C hQ (-2) M2 _ _ _ h I (lv_sub hl [0] rfl)
  · have h := h.2 c
    refine lv_aload_n hx hb dX0_needs_8 rfl (lv_at hl 0 rfl) ?_
    refine lv_iload_n hx hb dX0_needs_9 rfl (lv_at hl 1 rfl) ?_
    refine x_calli (As := [.int v1]) (rest := []) C I (fun ra => met0_needsOf l D T ad ra v1 M2 h) (cw0_306 hts ⟨Nat.le_of_ble_eq_true rfl, Nat.le_of_ble_eq_true rfl⟩) rfl hl.1 rfl (Nat.le_of_ble_eq_true rfl) ⟨Nat.zero_le _, Nat.zero_le _⟩ dX0_needs_10 (fun r3 M4 H locs h I => ?_)
    refine lv_goto (tgt := 18) hx hb dX0_needs_13 (by decide) ?_
    exact t0_needs_b18 C hQ r3 M4 _ _ _ h I (lv_sub hl [0] rfl)
theorem met0_needs (l : Launch) (D : va_G) (T ad ra : Nat → Nat) (v1 : Int32) (M : Mem) {Qp : Int32 → Mem → Prop} (h : w0_needs v1 M Qp) (sz : Nat) : Met l yX0_needs (ws_ yX0_needs cX0_needs 2 (some .int)) rX0_needs (xPc D T ad ra 0 [.int v1] M sz) (xQi D T ad ra M Qp sz) 0 0 (fA (cX T ad ra M) sz) :=
  x_metI (own := RX0) (As := [.int v1]) rfl rfl (Nat.le_of_ble_eq_true rfl) (fun p e s m args below meth c A Qs ls C hQ I hl => t0_needs C hQ v1 M _ _ ls h I hl) sz
/-! changes -/
abbrev rX0_changes : Room := { frames := 0, cells := 0, slots := 0, locals := 0 }
theorem t0_changes {p : Program} {l : Launch} {e : Env} {s : State} {m : MethodId} {args : Array Value} {below : List Frame} {meth : Method} {c : Code} {D : va_G} {T ad : Nat → Nat} {A : Nat → Prop} {H0 : Heap} {Qs : State → Prop} {Q : Mem → Prop} (C : XC D T RX0 p m c cX0_changes 4 s args) (hQ : xExv p l e rX0_changes s m args below meth c cX0_changes D T ad A H0 Qs Q) (v0 : Nat) (v1 : Nat) (M : Mem) (H : Heap) (locs : List Loc) (ls : Array Slot) (h : w0_changes v0 v1 M Q) (I : XI D T ad A H0 M H locs) (hl : lv_has ls 4 [(0, .ref (ad v0)), (1, .ref (ad v1))]) : W p l e rX0_changes s m args below meth c H locs 0 0 Qs (F0 m 0 ls []) := by
  have hx := C.1.1
  have hb := C.1.2.1
  have how := C.1.2.2.2.1
  have hts := C.1.2.2.2.2
  unfold w0_changes at h
  refine lv_aload_n hx hb dX0_changes_0 rfl (lv_at hl 0 rfl) ?_
  obtain ⟨hg1, h⟩ := h
  obtain ⟨hg2, h⟩ := h
  refine xcg0_question C I hg1 hg2 dX0_changes_1 ?_
  refine lv_astore_n (lv' := [(2, .ref (ad (25 + ci (M v0 2)))), (0, .ref (ad v0)), (1, .ref (ad v1))]) hx hb dX0_changes_4 rfl hl (by decide) rfl (fun ls hl => ?_)
  refine lv_aload_n hx hb dX0_changes_5 rfl (lv_at hl 1 rfl) ?_
  refine xcg0_strength C I hg1 dX0_changes_6 ?_
  refine lv_istore_n (lv' := [(3, .int (M v0 3)), (2, .ref (ad (25 + ci (M v0 2)))), (0, .ref (ad v0)), (1, .ref (ad v1))]) hx hb dX0_changes_9 rfl hl (by decide) rfl (fun ls hl => ?_)
  refine lv_aload_n hx hb dX0_changes_10 rfl (lv_at hl 2 rfl) ?_
  refine lv_aload_n hx hb dX0_changes_11 rfl (lv_at hl 3 rfl) ?_
  obtain ⟨hg3, h⟩ := h
  obtain ⟨hg4, h⟩ := h
  refine xcg0_question C I hg3 hg4 dX0_changes_12 ?_
  refine xcp0_question C I hg1 hg4 dX0_changes_15 (fun M5 H locs eM5 I => ?_)
  have h := h M5 eM5
  refine lv_aload_n hx hb dX0_changes_18 rfl (lv_at hl 2 rfl) ?_
  refine lv_aload_n hx hb dX0_changes_19 rfl (lv_at hl 3 rfl) ?_
  refine xcg0_strength C I hg3 dX0_changes_20 ?_
  refine xcp0_strength C I hg1 dX0_changes_23 (fun M6 H locs eM6 I => ?_)
  have h := h M6 eM6
  refine lv_aload_n hx hb dX0_changes_26 rfl (lv_at hl 3 rfl) ?_
  refine lv_aload_n hx hb dX0_changes_27 rfl (lv_at hl 1 rfl) ?_
  refine xcp0_question C I hg3 hg2 dX0_changes_28 (fun M7 H locs eM7 I => ?_)
  have h := h M7 eM7
  refine lv_aload_n hx hb dX0_changes_31 rfl (lv_at hl 3 rfl) ?_
  refine lv_iload_n hx hb dX0_changes_32 rfl (lv_at hl 0 rfl) ?_
  refine xcp0_strength C I hg3 dX0_changes_33 (fun M8 H locs eM8 I => ?_)
  have h := h M8 eM8
  exact hQ _ _ _ _ _ h I dX0_changes_36
theorem met0_changes (l : Launch) (D : va_G) (T ad ra : Nat → Nat) (v0 : Nat) (v1 : Nat) (M : Mem) {Qp : Mem → Prop} (h : w0_changes v0 v1 M Qp) (sz : Nat) : Met l yX0_changes (ws_ yX0_changes cX0_changes 4 none) rX0_changes (xPc D T ad ra v0 [.ref (ad v1)] M sz) (xQv D T ad ra M Qp sz) 0 0 (fA (cX T ad ra M) sz) :=
  x_metV (own := RX0) (As := [.ref (ad v1)]) rfl rfl (Nat.le_of_ble_eq_true rfl) (fun p e s m args below meth c A Qs ls C hQ I hl => t0_changes C hQ v0 v1 M _ _ ls h I hl) sz
/-! many -/
abbrev rX0_many : Room := { frames := 0, cells := 0, slots := 0, locals := 0 }
theorem t0_many_b4_f {p : Program} {l : Launch} {e : Env} {s : State} {m : MethodId} {args : Array Value} {below : List Frame} {meth : Method} {c : Code} {A : Nat → Prop} {H0 : Heap} {Qs : State → Prop} {Q : Int32 → Prop} {K4 : Int32 → Int32 → Prop} (S : CallFix p m c cX0_many 3 s args lw_all RX0) (hA : ∀ q, H0.size ≤ q → A q) (hQ : pExi p l e rX0_many s m args below meth c cX0_many A H0 Qs Q) (hK4 : ∀ (v1 : Int32) (v2 : Int32) (H : Heap) (locs : List Loc) (ls : Array Slot), K4 v1 v2 → va_S A H0 H locs → lv_has ls 3 [(1, .int v1), (2, .int v2)] → W p l e rX0_many s m args below meth c H locs 0 0 Qs (F0 m 4 ls [])) (v1 : Int32) (v2 : Int32) (H : Heap) (locs : List Loc) (ls : Array Slot) (h : w0_many_b4_f Q K4 v1 v2) (hS : va_S A H0 H locs) (hl : lv_has ls 3 [(1, .int v1), (2, .int v2)]) : W p l e rX0_many s m args below meth c H locs 0 0 Qs (F0 m 4 ls []) := by
  have hx := S.1
  have hb := S.2.1
  have how := S.2.2.2.1
  have hts := S.2.2.2.2
  unfold w0_many_b4_f at h
  refine lv_iload_n hx hb dX0_many_4 rfl (lv_at hl 1 rfl) ?_
  refine lv_if_eq (tgt := 21) hx hb dX0_many_5 (by decide) (fun c => ?_) (fun c => ?_)
  · have h := h.1 c
    refine lv_iload_n hx hb dX0_many_21 rfl (lv_at hl 0 rfl) ?_
    exact hQ _ _ _ _ _ h hS dX0_many_22
  · have h := h.2 c
    refine lv_iload_n hx hb dX0_many_8 rfl (lv_at hl 0 rfl) ?_
    refine lv_iload_n hx hb dX0_many_9 rfl (lv_at hl 1 rfl) ?_
    refine lv_iconst (v := 1) hx hb dX0_many_10 (by decide) ?_
    refine lv_iand hx hb dX0_many_11 ?_
    refine lv_iadd hx hb dX0_many_12 ?_
    refine lv_istore_n (lv' := [(1, .int (v1 + (v2 &&& 1))), (2, .int v2)]) hx hb dX0_many_13 rfl hl (by decide) rfl (fun ls hl => ?_)
    refine lv_iload_n hx hb dX0_many_14 rfl (lv_at hl 1 rfl) ?_
    refine lv_iconst (v := 1) hx hb dX0_many_15 (by decide) ?_
    refine lv_iushr hx hb dX0_many_16 rfl ?_
    refine lv_topi (fun x1 ex1 => ?_)
    have h := h x1 ex1
    refine lv_istore_n (lv' := [(2, .int x1), (1, .int (v1 + (v2 &&& 1)))]) hx hb dX0_many_17 rfl hl (by decide) rfl (fun ls hl => ?_)
    refine lv_goto (tgt := 4) hx hb dX0_many_18 (by decide) ?_
    exact hK4 (v1 + (v2 &&& 1)) x1 _ _ _ h hS (lv_sub hl [1, 0] rfl)
theorem t0_many_b4 {p : Program} {l : Launch} {e : Env} {s : State} {m : MethodId} {args : Array Value} {below : List Frame} {meth : Method} {c : Code} {A : Nat → Prop} {H0 : Heap} {Qs : State → Prop} {Q : Int32 → Prop}  (S : CallFix p m c cX0_many 3 s args lw_all RX0) (hA : ∀ q, H0.size ≤ q → A q) (hQ : pExi p l e rX0_many s m args below meth c cX0_many A H0 Qs Q)  : ∀ (n : Nat) (v1 : Int32) (v2 : Int32) (H : Heap) (locs : List Loc) (ls : Array Slot), w0_many_b4 Q n v1 v2 → va_S A H0 H locs → lv_has ls 3 [(1, .int v1), (2, .int v2)] → W p l e rX0_many s m args below meth c H locs 0 0 Qs (F0 m 4 ls []) := by
  intro n
  induction n with
  | zero => intro v1 v2 H locs ls h; exact h.elim
  | succ n ih => intro v1 v2 H locs ls h I hl; exact t0_many_b4_f S hA hQ  ih v1 v2 H locs ls h I hl
theorem t0_many {p : Program} {l : Launch} {e : Env} {s : State} {m : MethodId} {args : Array Value} {below : List Frame} {meth : Method} {c : Code} {A : Nat → Prop} {H0 : Heap} {Qs : State → Prop} {Q : Int32 → Prop} (S : CallFix p m c cX0_many 3 s args lw_all RX0) (hA : ∀ q, H0.size ≤ q → A q) (hQ : pExi p l e rX0_many s m args below meth c cX0_many A H0 Qs Q) (v0 : Int32) (H : Heap) (locs : List Loc) (ls : Array Slot) (h : w0_many v0 Q) (hS : va_S A H0 H locs) (hl : lv_has ls 3 [(0, .int v0)]) : W p l e rX0_many s m args below meth c H locs 0 0 Qs (F0 m 0 ls []) := by
  have hx := S.1
  have hb := S.2.1
  have how := S.2.2.2.1
  have hts := S.2.2.2.2
  unfold w0_many at h
  refine lv_iconst (v := 0) hx hb dX0_many_0 (by decide) ?_
  refine lv_istore_n (lv' := [(1, .int 0), (0, .int v0)]) hx hb dX0_many_1 rfl hl (by decide) rfl (fun ls hl => ?_)
  refine lv_iload_n hx hb dX0_many_2 rfl (lv_at hl 1 rfl) ?_
  refine lv_istore_n (lv' := [(2, .int v0), (1, .int 0), (0, .int v0)]) hx hb dX0_many_3 rfl hl (by decide) rfl (fun ls hl => ?_)
  obtain ⟨n, h⟩ := h
  exact t0_many_b4 S hA hQ n 0 v0 _ _ _ h hS (lv_sub hl [1, 0] rfl)
theorem met0_many (l : Launch) (v0 : Int32) {Qp : Int32 → Prop} (h : w0_many v0 Qp) (sz : Nat) : Met l yX0_many (ws_ yX0_many cX0_many 3 (some .int)) rX0_many (pPc [.int v0] sz) (pQi Qp sz) 0 0 (pA sz) :=
  p_metI (As := [.int v0]) rfl (Nat.le_of_ble_eq_true rfl) (fun p e s m args below meth c Qs ls S hQ hl => t0_many S (fun q h => h) hQ v0 _ _ ls h va_S.rf hl) sz
/-! comeNow -/
abbrev rX0_comeNow : Room := { frames := 6, cells := 0, slots := 0, locals := 134 }
theorem cw0_303 {R : Room} {s : State} {args : Array Value} (hts : ∀ w ∈ lw_all, w.before args s = true) (hR : rX0_many.frames + 1 ≤ R.frames ∧ 8 + (3 + 11) + rX0_many.locals ≤ R.locals) : CallB R s args RX0 303 yX0_many cX0_many 3 (some .int) (ws_ yX0_many cX0_many 3 (some .int)) rX0_many 0 0 1 ∧ (Cond.static yX0_many).before args s = true := va_cwS 1 hts (lw_S q418 q419 q89 q420) rfl rfl rfl (by decide +kernel) hR
theorem t0_comeNow {p : Program} {l : Launch} {e : Env} {s : State} {m : MethodId} {args : Array Value} {below : List Frame} {meth : Method} {c : Code} {D : va_G} {T ad : Nat → Nat} {A : Nat → Prop} {H0 : Heap} {Qs : State → Prop} {Q : Int32 → Mem → Prop} (C : XC D T RX0 p m c cX0_comeNow 1 s args) (hQ : xExi p l e rX0_comeNow s m args below meth c cX0_comeNow D T ad A H0 Qs Q)  (M : Mem) (H : Heap) (locs : List Loc) (ls : Array Slot) (h : w0_comeNow M Q) (I : XI D T ad A H0 M H locs) (hl : lv_has ls 1 [(0, .ref (ad 0))]) : W p l e rX0_comeNow s m args below meth c H locs 0 0 Qs (F0 m 0 ls []) := by
  have hx := C.1.1
  have hb := C.1.2.1
  have how := C.1.2.2.2.1
  have hts := C.1.2.2.2.2
  unfold w0_comeNow at h
  refine lv_aload_n hx hb dX0_comeNow_0 rfl (lv_at hl 0 rfl) ?_
  refine lv_bipush (v := 39) hx hb dX0_comeNow_1 (by decide) ?_
  refine x_callv (As := [.int 39]) (rest := []) C I (fun ra => met0_runs l D T ad ra 39 M h) (cw0_276 hts ⟨Nat.le_of_ble_eq_true rfl, Nat.le_of_ble_eq_true rfl⟩) rfl hl.1 rfl (Nat.le_of_ble_eq_true rfl) ⟨Nat.zero_le _, Nat.zero_le _⟩ dX0_comeNow_3 (fun M1 H locs h I => ?_)
  refine lv_aload_n hx hb dX0_comeNow_6 rfl (lv_at hl 0 rfl) ?_
  refine lv_iconst (v := 2) hx hb dX0_comeNow_7 (by decide) ?_
  refine x_calli (As := [.int 2]) (rest := []) C I (fun ra => met0_whoNow l D T ad ra 2 M1 h) (cw0_288 hts ⟨Nat.le_of_ble_eq_true rfl, Nat.le_of_ble_eq_true rfl⟩) rfl hl.1 rfl (Nat.le_of_ble_eq_true rfl) ⟨Nat.zero_le _, Nat.zero_le _⟩ dX0_comeNow_8 (fun r2 M3 H locs h I => ?_)
  refine x_purei (As := [.int r2]) (rest := []) C I (met0_many l r2 h) (cw0_303 hts ⟨Nat.le_of_ble_eq_true rfl, Nat.le_of_ble_eq_true rfl⟩) rfl hl.1 rfl (Nat.le_of_ble_eq_true rfl) ⟨Nat.zero_le _, Nat.zero_le _⟩ dX0_comeNow_11 (fun r4 H locs h I => ?_)
  exact hQ _ _ _ _ _ _ h I dX0_comeNow_14
theorem met0_comeNow (l : Launch) (D : va_G) (T ad ra : Nat → Nat)  (M : Mem) {Qp : Int32 → Mem → Prop} (h : w0_comeNow M Qp) (sz : Nat) : Met l yX0_comeNow (ws_ yX0_comeNow cX0_comeNow 1 (some .int)) rX0_comeNow (xPc D T ad ra 0 [] M sz) (xQi D T ad ra M Qp sz) 0 0 (fA (cX T ad ra M) sz) :=
  x_metI (own := RX0) (As := []) rfl rfl (Nat.le_of_ble_eq_true rfl) (fun p e s m args below meth c A Qs ls C hQ I hl => t0_comeNow C hQ M _ _ ls h I hl) sz
/-! lendOf -/
abbrev rX0_lendOf : Room := { frames := 8, cells := 0, slots := 0, locals := 177 }
theorem cw0_309 {R : Room} {s : State} {args : Array Value} (hts : ∀ w ∈ lw_all, w.before args s = true) (hR : rX0_changes.frames + 1 ≤ R.frames ∧ 8 + (4 + 11) + rX0_changes.locals ≤ R.locals) : CallB R s args RX0 309 yX0_changes cX0_changes 4 none (ws_ yX0_changes cX0_changes 4 none) rX0_changes 0 0 2 ∧ (Cond.static yX0_changes).before args s = true := va_cwS 2 hts (lw_S q411 q412 q89 q413) rfl rfl rfl (by decide +kernel) hR
theorem cw0_313 {R : Room} {s : State} {args : Array Value} (hts : ∀ w ∈ lw_all, w.before args s = true) (hR : rX0_comeNow.frames + 1 ≤ R.frames ∧ 8 + (1 + 11) + rX0_comeNow.locals ≤ R.locals) : CallW R s args RX0 RX0 313 yX0_comeNow cX0_comeNow 1 (some .int) (ws_ yX0_comeNow cX0_comeNow 1 (some .int)) rX0_comeNow 0 0 0 := cwV 0 hts (lw_V q414 q416 qs35 q89 q417) rfl rfl rfl (by decide +kernel) hR
theorem t0_lendOf_b142 {p : Program} {l : Launch} {e : Env} {s : State} {m : MethodId} {args : Array Value} {below : List Frame} {meth : Method} {c : Code} {D : va_G} {T ad : Nat → Nat} {A : Nat → Prop} {H0 : Heap} {Qs : State → Prop} {Q : Int32 → Mem → Prop}  (C : XC D T RX0 p m c cX0_lendOf 7 s args) (hQ : xExi p l e rX0_lendOf s m args below meth c cX0_lendOf D T ad A H0 Qs Q)  (s0 : Int32) (M : Mem) (H : Heap) (locs : List Loc) (ls : Array Slot) (h : w0_lendOf_b142 Q s0 M) (I : XI D T ad A H0 M H locs) (hl : lv_has ls 7 [(0, .ref (ad 0))]) : W p l e rX0_lendOf s m args below meth c H locs 0 0 Qs (F0 m 142 ls [.int s0]) := by
  have hx := C.1.1
  have hb := C.1.2.1
  have how := C.1.2.2.2.1
  have hts := C.1.2.2.2.2
  unfold w0_lendOf_b142 at h
  exact hQ _ _ _ _ _ _ h I dX0_lendOf_142
theorem t0_lendOf_b123 {p : Program} {l : Launch} {e : Env} {s : State} {m : MethodId} {args : Array Value} {below : List Frame} {meth : Method} {c : Code} {D : va_G} {T ad : Nat → Nat} {A : Nat → Prop} {H0 : Heap} {Qs : State → Prop} {Q : Int32 → Mem → Prop}  (C : XC D T RX0 p m c cX0_lendOf 7 s args) (hQ : xExi p l e rX0_lendOf s m args below meth c cX0_lendOf D T ad A H0 Qs Q)  (v3 : Int32) (M : Mem) (H : Heap) (locs : List Loc) (ls : Array Slot) (h : w0_lendOf_b123 Q v3 M) (I : XI D T ad A H0 M H locs) (hl : lv_has ls 7 [(0, .ref (ad 0)), (3, .int v3)]) : W p l e rX0_lendOf s m args below meth c H locs 0 0 Qs (F0 m 123 ls []) := by
  have hx := C.1.1
  have hb := C.1.2.1
  have how := C.1.2.2.2.1
  have hts := C.1.2.2.2.2
  unfold w0_lendOf_b123 at h
  refine lv_iload_n hx hb dX0_lendOf_123 rfl (lv_at hl 1 rfl) ?_
  refine lv_goto (tgt := 142) hx hb dX0_lendOf_124 (by decide) ?_
  exact t0_lendOf_b142 C hQ v3 M _ _ _ h I (lv_sub hl [0] rfl)
theorem t0_lendOf_b93 {p : Program} {l : Launch} {e : Env} {s : State} {m : MethodId} {args : Array Value} {below : List Frame} {meth : Method} {c : Code} {D : va_G} {T ad : Nat → Nat} {A : Nat → Prop} {H0 : Heap} {Qs : State → Prop} {Q : Int32 → Mem → Prop} {K11 : Int32 → Int32 → Int32 → Int32 → Mem → Prop} {K26 : Int32 → Int32 → Int32 → Int32 → Int32 → Mem → Prop} (C : XC D T RX0 p m c cX0_lendOf 7 s args) (hQ : xExi p l e rX0_lendOf s m args below meth c cX0_lendOf D T ad A H0 Qs Q) (hK11 : ∀ (v1 : Int32) (v2 : Int32) (v3 : Int32) (v4 : Int32) (M : Mem) (H : Heap) (locs : List Loc) (ls : Array Slot), K11 v1 v2 v3 v4 M → XI D T ad A H0 M H locs → lv_has ls 7 [(0, .ref (ad 0)), (1, .int v1), (2, .int v2), (3, .int v3), (4, .int v4)] → W p l e rX0_lendOf s m args below meth c H locs 0 0 Qs (F0 m 11 ls [])) (hK26 : ∀ (v1 : Int32) (v2 : Int32) (v3 : Int32) (v4 : Int32) (v5 : Int32) (M : Mem) (H : Heap) (locs : List Loc) (ls : Array Slot), K26 v1 v2 v3 v4 v5 M → XI D T ad A H0 M H locs → lv_has ls 7 [(0, .ref (ad 0)), (1, .int v1), (2, .int v2), (3, .int v3), (4, .int v4), (5, .int v5)] → W p l e rX0_lendOf s m args below meth c H locs 0 0 Qs (F0 m 26 ls [])) (v1 : Int32) (v3 : Int32) (v4 : Int32) (v5 : Int32) (v6 : Int32) (s0 : Int32) (M : Mem) (H : Heap) (locs : List Loc) (ls : Array Slot) (h : w0_lendOf_b93 Q K11 K26 v1 v3 v4 v5 v6 s0 M) (I : XI D T ad A H0 M H locs) (hl : lv_has ls 7 [(0, .ref (ad 0)), (1, .int v1), (3, .int v3), (4, .int v4), (5, .int v5), (6, .int v6)]) : W p l e rX0_lendOf s m args below meth c H locs 0 0 Qs (F0 m 93 ls [.int s0]) := by
  have hx := C.1.1
  have hb := C.1.2.1
  have how := C.1.2.2.2.1
  have hts := C.1.2.2.2.2
  unfold w0_lendOf_b93 at h
  refine lv_istore_n (lv' := [(2, .int s0), (0, .ref (ad 0)), (1, .int v1), (3, .int v3), (4, .int v4), (5, .int v5), (6, .int v6)]) hx hb dX0_lendOf_93 rfl hl (by decide) rfl (fun ls hl => ?_)
  refine lv_iload_n hx hb dX0_lendOf_94 rfl (lv_at hl 3 rfl) ?_
  refine lv_iload hx hb dX0_lendOf_95 (lv_at hl 6 rfl) ?_
  refine x_max (x := v3) (z := v6) C hl.1 (Nat.le_of_ble_eq_true rfl) (Nat.le_of_ble_eq_true rfl) ⟨Nat.zero_le _, Nat.zero_le _⟩ dX0_lendOf_97 ?_
  refine lv_istore_n (lv' := [(3, .int (imax v3 v6)), (2, .int s0), (0, .ref (ad 0)), (1, .int v1), (4, .int v4), (5, .int v5), (6, .int v6)]) hx hb dX0_lendOf_100 rfl hl (by decide) rfl (fun ls hl => ?_)
  refine lv_iinc (v := (v5 + 1)) (lv' := [(5, .int (v5 + 1)), (3, .int (imax v3 v6)), (2, .int s0), (0, .ref (ad 0)), (1, .int v1), (4, .int v4), (6, .int v6)]) hx hb dX0_lendOf_101 hl (k := 5) rfl (ii_1 _) (by decide) rfl (fun ls hl => ?_)
  refine lv_goto (tgt := 26) hx hb dX0_lendOf_104 (by decide) ?_
  exact hK26 v1 s0 (imax v3 v6) v4 (v5 + 1) M _ _ _ h I (lv_sub hl [3, 4, 2, 1, 5, 0] rfl)
theorem t0_lendOf_b26_f {p : Program} {l : Launch} {e : Env} {s : State} {m : MethodId} {args : Array Value} {below : List Frame} {meth : Method} {c : Code} {D : va_G} {T ad : Nat → Nat} {A : Nat → Prop} {H0 : Heap} {Qs : State → Prop} {Q : Int32 → Mem → Prop} {K11 : Int32 → Int32 → Int32 → Int32 → Mem → Prop} {K26 : Int32 → Int32 → Int32 → Int32 → Int32 → Mem → Prop} (C : XC D T RX0 p m c cX0_lendOf 7 s args) (hQ : xExi p l e rX0_lendOf s m args below meth c cX0_lendOf D T ad A H0 Qs Q) (hK11 : ∀ (v1 : Int32) (v2 : Int32) (v3 : Int32) (v4 : Int32) (M : Mem) (H : Heap) (locs : List Loc) (ls : Array Slot), K11 v1 v2 v3 v4 M → XI D T ad A H0 M H locs → lv_has ls 7 [(0, .ref (ad 0)), (1, .int v1), (2, .int v2), (3, .int v3), (4, .int v4)] → W p l e rX0_lendOf s m args below meth c H locs 0 0 Qs (F0 m 11 ls [])) (hK26 : ∀ (v1 : Int32) (v2 : Int32) (v3 : Int32) (v4 : Int32) (v5 : Int32) (M : Mem) (H : Heap) (locs : List Loc) (ls : Array Slot), K26 v1 v2 v3 v4 v5 M → XI D T ad A H0 M H locs → lv_has ls 7 [(0, .ref (ad 0)), (1, .int v1), (2, .int v2), (3, .int v3), (4, .int v4), (5, .int v5)] → W p l e rX0_lendOf s m args below meth c H locs 0 0 Qs (F0 m 26 ls [])) (v1 : Int32) (v2 : Int32) (v3 : Int32) (v4 : Int32) (v5 : Int32) (M : Mem) (H : Heap) (locs : List Loc) (ls : Array Slot) (h : w0_lendOf_b26_f Q K11 K26 v1 v2 v3 v4 v5 M) (I : XI D T ad A H0 M H locs) (hl : lv_has ls 7 [(0, .ref (ad 0)), (1, .int v1), (2, .int v2), (3, .int v3), (4, .int v4), (5, .int v5)]) : W p l e rX0_lendOf s m args below meth c H locs 0 0 Qs (F0 m 26 ls []) := by
  have hx := C.1.1
  have hb := C.1.2.1
  have how := C.1.2.2.2.1
  have hts := C.1.2.2.2.2
  unfold w0_lendOf_b26_f at h
  refine lv_iload hx hb dX0_lendOf_26 (lv_at hl 5 rfl) ?_
  refine lv_aload_n hx hb dX0_lendOf_28 rfl (lv_at hl 0 rfl) ?_
  refine xg_carters C I dX0_lendOf_29 ?_
  refine lv_icmp_ge (tgt := 107) hx hb dX0_lendOf_32 (by decide) (fun c => ?_) (fun c => ?_)
  · have h := h.1 c
    refine lv_iinc (v := (v4 + 1)) (lv' := [(4, .int (v4 + 1)), (0, .ref (ad 0)), (1, .int v1), (2, .int v2), (3, .int v3), (5, .int v5)]) hx hb dX0_lendOf_107 hl (k := 4) rfl (ii_1 _) (by decide) rfl (fun ls hl => ?_)
    refine lv_goto (tgt := 11) hx hb dX0_lendOf_110 (by decide) ?_
    exact hK11 v1 v2 v3 (v4 + 1) M _ _ _ h I (lv_sub hl [1, 2, 3, 4, 0] rfl)
  · have h := h.2 c
    refine lv_aload_n hx hb dX0_lendOf_35 rfl (lv_at hl 0 rfl) ?_
    refine xg_all C I dX0_lendOf_36 ?_
    refine lv_iload hx hb dX0_lendOf_39 (lv_at hl 4 rfl) ?_
    obtain ⟨hg1, h⟩ := h
    refine xa_all C I hg1 dX0_lendOf_41 ?_
    refine lv_aload_n hx hb dX0_lendOf_42 rfl (lv_at hl 0 rfl) ?_
    refine xg_all C I dX0_lendOf_43 ?_
    refine lv_iload hx hb dX0_lendOf_46 (lv_at hl 5 rfl) ?_
    obtain ⟨hg2, h⟩ := h
    refine xa_all C I hg2 dX0_lendOf_48 ?_
    refine x_callSv (As := [.ref (ad (30 + ci v5))]) (rest := []) C I (fun ra => met0_changes l D T ad ra (30 + ci v4) (30 + ci v5) M h) (cw0_309 hts ⟨Nat.le_of_ble_eq_true rfl, Nat.le_of_ble_eq_true rfl⟩) rfl hl.1 rfl (Nat.le_of_ble_eq_true rfl) ⟨Nat.zero_le _, Nat.zero_le _⟩ dX0_lendOf_49 (fun M3 H locs h I => ?_)
    refine lv_aload_n hx hb dX0_lendOf_52 rfl (lv_at hl 0 rfl) ?_
    refine x_calli (As := []) (rest := []) C I (fun ra => met0_comeNow l D T ad ra M3 h) (cw0_313 hts ⟨Nat.le_of_ble_eq_true rfl, Nat.le_of_ble_eq_true rfl⟩) rfl hl.1 rfl (Nat.le_of_ble_eq_true rfl) ⟨Nat.zero_le _, Nat.zero_le _⟩ dX0_lendOf_53 (fun r4 M5 H locs h I => ?_)
    refine lv_istore (lv' := [(6, .int r4), (0, .ref (ad 0)), (1, .int v1), (2, .int v2), (3, .int v3), (4, .int v4), (5, .int v5)]) hx hb dX0_lendOf_56 hl (by decide) rfl (fun ls hl => ?_)
    refine lv_aload_n hx hb dX0_lendOf_58 rfl (lv_at hl 1 rfl) ?_
    refine xg_all C I dX0_lendOf_59 ?_
    refine lv_iload hx hb dX0_lendOf_62 (lv_at hl 5 rfl) ?_
    refine xa_all C I hg1 dX0_lendOf_64 ?_
    refine lv_aload_n hx hb dX0_lendOf_65 rfl (lv_at hl 1 rfl) ?_
    refine xg_all C I dX0_lendOf_66 ?_
    refine lv_iload hx hb dX0_lendOf_69 (lv_at hl 6 rfl) ?_
    refine xa_all C I hg2 dX0_lendOf_71 ?_
    refine x_callSv (As := [.ref (ad (30 + ci v5))]) (rest := []) C I (fun ra => met0_changes l D T ad ra (30 + ci v4) (30 + ci v5) M5 h) (cw0_309 hts ⟨Nat.le_of_ble_eq_true rfl, Nat.le_of_ble_eq_true rfl⟩) rfl hl.1 rfl (Nat.le_of_ble_eq_true rfl) ⟨Nat.zero_le _, Nat.zero_le _⟩ dX0_lendOf_72 (fun M6 H locs h I => ?_)
    refine lv_iload hx hb dX0_lendOf_75 (lv_at hl 0 rfl) ?_
    refine lv_iload_n hx hb dX0_lendOf_77 rfl (lv_at hl 4 rfl) ?_
    refine lv_icmp_le (tgt := 92) hx hb dX0_lendOf_78 (by decide) (fun c => ?_) (fun c => ?_)
    · have h := h.1 c
      refine lv_iload_n hx hb dX0_lendOf_92 rfl (lv_at hl 3 rfl) ?_
      exact t0_lendOf_b93 C hQ hK11 hK26 v1 v3 v4 v5 r4 v2 M6 _ _ _ h I (lv_sub hl [1, 2, 4, 5, 6, 0] rfl)
    · have h := h.2 c
      refine lv_bipush (v := 8) hx hb dX0_lendOf_81 (by decide) ?_
      refine lv_iload hx hb dX0_lendOf_83 (lv_at hl 5 rfl) ?_
      refine lv_imul hx hb dX0_lendOf_85 ?_
      refine lv_iload hx hb dX0_lendOf_86 (lv_at hl 6 rfl) ?_
      refine lv_iadd hx hb dX0_lendOf_88 ?_
      refine lv_goto (tgt := 93) hx hb dX0_lendOf_89 (by decide) ?_
      exact t0_lendOf_b93 C hQ hK11 hK26 v1 v3 v4 v5 r4 ((8 * v4) + v5) M6 _ _ _ h I (lv_sub hl [1, 2, 4, 5, 6, 0] rfl)
theorem t0_lendOf_b26 {p : Program} {l : Launch} {e : Env} {s : State} {m : MethodId} {args : Array Value} {below : List Frame} {meth : Method} {c : Code} {D : va_G} {T ad : Nat → Nat} {A : Nat → Prop} {H0 : Heap} {Qs : State → Prop} {Q : Int32 → Mem → Prop} {K11 : Int32 → Int32 → Int32 → Int32 → Mem → Prop} (C : XC D T RX0 p m c cX0_lendOf 7 s args) (hQ : xExi p l e rX0_lendOf s m args below meth c cX0_lendOf D T ad A H0 Qs Q) (hK11 : ∀ (v1 : Int32) (v2 : Int32) (v3 : Int32) (v4 : Int32) (M : Mem) (H : Heap) (locs : List Loc) (ls : Array Slot), K11 v1 v2 v3 v4 M → XI D T ad A H0 M H locs → lv_has ls 7 [(0, .ref (ad 0)), (1, .int v1), (2, .int v2), (3, .int v3), (4, .int v4)] → W p l e rX0_lendOf s m args below meth c H locs 0 0 Qs (F0 m 11 ls [])) : ∀ (n : Nat) (v1 : Int32) (v2 : Int32) (v3 : Int32) (v4 : Int32) (v5 : Int32) (M : Mem) (H : Heap) (locs : List Loc) (ls : Array Slot), w0_lendOf_b26 Q K11 n v1 v2 v3 v4 v5 M → XI D T ad A H0 M H locs → lv_has ls 7 [(0, .ref (ad 0)), (1, .int v1), (2, .int v2), (3, .int v3), (4, .int v4), (5, .int v5)] → W p l e rX0_lendOf s m args below meth c H locs 0 0 Qs (F0 m 26 ls []) := by
  intro n
  induction n with
  | zero => intro v1 v2 v3 v4 v5 M H locs ls h; exact h.elim
  | succ n ih => intro v1 v2 v3 v4 v5 M H locs ls h I hl; exact t0_lendOf_b26_f C hQ hK11 ih v1 v2 v3 v4 v5 M H locs ls h I hl
theorem t0_lendOf_b11_f {p : Program} {l : Launch} {e : Env} {s : State} {m : MethodId} {args : Array Value} {below : List Frame} {meth : Method} {c : Code} {D : va_G} {T ad : Nat → Nat} {A : Nat → Prop} {H0 : Heap} {Qs : State → Prop} {Q : Int32 → Mem → Prop} {K11 : Int32 → Int32 → Int32 → Int32 → Mem → Prop} (C : XC D T RX0 p m c cX0_lendOf 7 s args) (hQ : xExi p l e rX0_lendOf s m args below meth c cX0_lendOf D T ad A H0 Qs Q) (hK11 : ∀ (v1 : Int32) (v2 : Int32) (v3 : Int32) (v4 : Int32) (M : Mem) (H : Heap) (locs : List Loc) (ls : Array Slot), K11 v1 v2 v3 v4 M → XI D T ad A H0 M H locs → lv_has ls 7 [(0, .ref (ad 0)), (1, .int v1), (2, .int v2), (3, .int v3), (4, .int v4)] → W p l e rX0_lendOf s m args below meth c H locs 0 0 Qs (F0 m 11 ls [])) (v1 : Int32) (v2 : Int32) (v3 : Int32) (v4 : Int32) (M : Mem) (H : Heap) (locs : List Loc) (ls : Array Slot) (h : w0_lendOf_b11_f Q K11 v1 v2 v3 v4 M) (I : XI D T ad A H0 M H locs) (hl : lv_has ls 7 [(0, .ref (ad 0)), (1, .int v1), (2, .int v2), (3, .int v3), (4, .int v4)]) : W p l e rX0_lendOf s m args below meth c H locs 0 0 Qs (F0 m 11 ls []) := by
  have hx := C.1.1
  have hb := C.1.2.1
  have how := C.1.2.2.2.1
  have hts := C.1.2.2.2.2
  unfold w0_lendOf_b11_f at h
  refine lv_iload hx hb dX0_lendOf_11 (lv_at hl 4 rfl) ?_
  refine lv_aload_n hx hb dX0_lendOf_13 rfl (lv_at hl 0 rfl) ?_
  refine xg_carters C I dX0_lendOf_14 ?_
  refine lv_icmp_ge (tgt := 113) hx hb dX0_lendOf_17 (by decide) (fun c => ?_) (fun c => ?_)
  · have h := h.1 c
    refine lv_iload_n hx hb dX0_lendOf_113 rfl (lv_at hl 2 rfl) ?_
    refine lv_iconst (v := -1) hx hb dX0_lendOf_114 (by decide) ?_
    refine lv_icmp_eq (tgt := 123) hx hb dX0_lendOf_115 (by decide) (fun c => ?_) (fun c => ?_)
    · have h := h.1 c
      exact t0_lendOf_b123 C hQ v3 M _ _ _ h I (lv_sub hl [0, 3] rfl)
    · have h := h.2 c
      refine lv_iload_n hx hb dX0_lendOf_118 rfl (lv_at hl 1 rfl) ?_
      refine lv_iconst (v := 2) hx hb dX0_lendOf_119 (by decide) ?_
      refine lv_icmp_ne (tgt := 127) hx hb dX0_lendOf_120 (by decide) (fun c => ?_) (fun c => ?_)
      · have h := h.2 c
        refine lv_iload_n hx hb dX0_lendOf_127 rfl (lv_at hl 1 rfl) ?_
        refine lv_if_ne (tgt := 138) hx hb dX0_lendOf_128 (by decide) (fun c => ?_) (fun c => ?_)
        · have h := h.2 c
          refine lv_iload_n hx hb dX0_lendOf_138 rfl (lv_at hl 2 rfl) ?_
          refine lv_bipush (v := 8) hx hb dX0_lendOf_139 (by decide) ?_
          refine lv_irem hx hb dX0_lendOf_141 (by decide) ?_
          exact t0_lendOf_b142 C hQ (v2 - v2 / 8 * 8) M _ _ _ h I (lv_sub hl [0] rfl)
        · have h := h.1 c
          refine lv_iload_n hx hb dX0_lendOf_131 rfl (lv_at hl 2 rfl) ?_
          refine lv_bipush (v := 8) hx hb dX0_lendOf_132 (by decide) ?_
          refine lv_idiv hx hb dX0_lendOf_134 (by decide) ?_
          refine lv_goto (tgt := 142) hx hb dX0_lendOf_135 (by decide) ?_
          exact t0_lendOf_b142 C hQ (v2 / 8) M _ _ _ h I (lv_sub hl [0] rfl)
      · have h := h.1 c
        exact t0_lendOf_b123 C hQ v3 M _ _ _ h I (lv_sub hl [0, 3] rfl)
  · have h := h.2 c
    refine lv_iload hx hb dX0_lendOf_20 (lv_at hl 4 rfl) ?_
    refine lv_iconst (v := 1) hx hb dX0_lendOf_22 (by decide) ?_
    refine lv_iadd hx hb dX0_lendOf_23 ?_
    refine lv_istore (lv' := [(5, .int (v4 + 1)), (0, .ref (ad 0)), (1, .int v1), (2, .int v2), (3, .int v3), (4, .int v4)]) hx hb dX0_lendOf_24 hl (by decide) rfl (fun ls hl => ?_)
    obtain ⟨n, h⟩ := h
    exact t0_lendOf_b26 C hQ hK11 n v1 v2 v3 v4 (v4 + 1) M _ _ _ h I (lv_sub hl [1, 2, 3, 4, 5, 0] rfl)
theorem t0_lendOf_b11 {p : Program} {l : Launch} {e : Env} {s : State} {m : MethodId} {args : Array Value} {below : List Frame} {meth : Method} {c : Code} {D : va_G} {T ad : Nat → Nat} {A : Nat → Prop} {H0 : Heap} {Qs : State → Prop} {Q : Int32 → Mem → Prop}  (C : XC D T RX0 p m c cX0_lendOf 7 s args) (hQ : xExi p l e rX0_lendOf s m args below meth c cX0_lendOf D T ad A H0 Qs Q)  : ∀ (n : Nat) (v1 : Int32) (v2 : Int32) (v3 : Int32) (v4 : Int32) (M : Mem) (H : Heap) (locs : List Loc) (ls : Array Slot), w0_lendOf_b11 Q n v1 v2 v3 v4 M → XI D T ad A H0 M H locs → lv_has ls 7 [(0, .ref (ad 0)), (1, .int v1), (2, .int v2), (3, .int v3), (4, .int v4)] → W p l e rX0_lendOf s m args below meth c H locs 0 0 Qs (F0 m 11 ls []) := by
  intro n
  induction n with
  | zero => intro v1 v2 v3 v4 M H locs ls h; exact h.elim
  | succ n ih => intro v1 v2 v3 v4 M H locs ls h I hl; exact t0_lendOf_b11_f C hQ  ih v1 v2 v3 v4 M H locs ls h I hl
theorem t0_lendOf {p : Program} {l : Launch} {e : Env} {s : State} {m : MethodId} {args : Array Value} {below : List Frame} {meth : Method} {c : Code} {D : va_G} {T ad : Nat → Nat} {A : Nat → Prop} {H0 : Heap} {Qs : State → Prop} {Q : Int32 → Mem → Prop} (C : XC D T RX0 p m c cX0_lendOf 7 s args) (hQ : xExi p l e rX0_lendOf s m args below meth c cX0_lendOf D T ad A H0 Qs Q) (v1 : Int32) (M : Mem) (H : Heap) (locs : List Loc) (ls : Array Slot) (h : w0_lendOf v1 M Q) (I : XI D T ad A H0 M H locs) (hl : lv_has ls 7 [(0, .ref (ad 0)), (1, .int v1)]) : W p l e rX0_lendOf s m args below meth c H locs 0 0 Qs (F0 m 0 ls []) := by
  have hx := C.1.1
  have hb := C.1.2.1
  have how := C.1.2.2.2.1
  have hts := C.1.2.2.2.2
  unfold w0_lendOf at h
  refine lv_aload_n hx hb dX0_lendOf_0 rfl (lv_at hl 0 rfl) ?_
  refine x_callv (As := []) (rest := []) C I (fun ra => met0_asTold l D T ad ra M h) (cw0_273 hts ⟨Nat.le_of_ble_eq_true rfl, Nat.le_of_ble_eq_true rfl⟩) rfl hl.1 rfl (Nat.le_of_ble_eq_true rfl) ⟨Nat.zero_le _, Nat.zero_le _⟩ dX0_lendOf_1 (fun M7 H locs h I => ?_)
  refine lv_iconst (v := -1) hx hb dX0_lendOf_4 (by decide) ?_
  refine lv_istore_n (lv' := [(2, .int (-1)), (0, .ref (ad 0)), (1, .int v1)]) hx hb dX0_lendOf_5 rfl hl (by decide) rfl (fun ls hl => ?_)
  refine lv_iconst (v := -1) hx hb dX0_lendOf_6 (by decide) ?_
  refine lv_istore_n (lv' := [(3, .int (-1)), (2, .int (-1)), (0, .ref (ad 0)), (1, .int v1)]) hx hb dX0_lendOf_7 rfl hl (by decide) rfl (fun ls hl => ?_)
  refine lv_iconst (v := 0) hx hb dX0_lendOf_8 (by decide) ?_
  refine lv_istore (lv' := [(4, .int 0), (3, .int (-1)), (2, .int (-1)), (0, .ref (ad 0)), (1, .int v1)]) hx hb dX0_lendOf_9 hl (by decide) rfl (fun ls hl => ?_)
  obtain ⟨n, h⟩ := h
  exact t0_lendOf_b11 C hQ n v1 (-1) (-1) 0 M7 _ _ _ h I (lv_sub hl [3, 4, 2, 1, 0] rfl)
theorem met0_lendOf (l : Launch) (D : va_G) (T ad ra : Nat → Nat) (v1 : Int32) (M : Mem) {Qp : Int32 → Mem → Prop} (h : w0_lendOf v1 M Qp) (sz : Nat) : Met l yX0_lendOf (ws_ yX0_lendOf cX0_lendOf 7 (some .int)) rX0_lendOf (xPc D T ad ra 0 [.int v1] M sz) (xQi D T ad ra M Qp sz) 0 0 (fA (cX T ad ra M) sz) :=
  x_metI (own := RX0) (As := [.int v1]) rfl rfl (Nat.le_of_ble_eq_true rfl) (fun p e s m args below meth c A Qs ls C hQ I hl => t0_lendOf C hQ v1 M _ _ ls h I hl) sz
/-! lend -/
abbrev rX0_lend : Room := { frames := 9, cells := 0, slots := 0, locals := 203 }
theorem cw0_319 {R : Room} {s : State} {args : Array Value} (hts : ∀ w ∈ lw_all, w.before args s = true) (hR : rX0_lendOf.frames + 1 ≤ R.frames ∧ 8 + (7 + 11) + rX0_lendOf.locals ≤ R.locals) : CallW R s args RX0 RX0 319 yX0_lendOf cX0_lendOf 7 (some .int) (ws_ yX0_lendOf cX0_lendOf 7 (some .int)) rX0_lendOf 0 0 1 := cwV 1 hts (lw_V q407 q409 qs34 q89 q410) rfl rfl rfl (by decide +kernel) hR
theorem t0_lend_b19 {p : Program} {l : Launch} {e : Env} {s : State} {m : MethodId} {args : Array Value} {below : List Frame} {meth : Method} {c : Code} {D : va_G} {T ad : Nat → Nat} {A : Nat → Prop} {H0 : Heap} {Qs : State → Prop} {Q : Int32 → Mem → Prop}  (C : XC D T RX0 p m c cX0_lend 2 s args) (hQ : xExi p l e rX0_lend s m args below meth c cX0_lend D T ad A H0 Qs Q)  (s0 : Int32) (M : Mem) (H : Heap) (locs : List Loc) (ls : Array Slot) (h : w0_lend_b19 Q s0 M) (I : XI D T ad A H0 M H locs) (hl : lv_has ls 2 [(0, .ref (ad 0))]) : W p l e rX0_lend s m args below meth c H locs 0 0 Qs (F0 m 19 ls [.int s0]) := by
  have hx := C.1.1
  have hb := C.1.2.1
  have how := C.1.2.2.2.1
  have hts := C.1.2.2.2.2
  unfold w0_lend_b19 at h
  exact hQ _ _ _ _ _ _ h I dX0_lend_19
theorem t0_lend {p : Program} {l : Launch} {e : Env} {s : State} {m : MethodId} {args : Array Value} {below : List Frame} {meth : Method} {c : Code} {D : va_G} {T ad : Nat → Nat} {A : Nat → Prop} {H0 : Heap} {Qs : State → Prop} {Q : Int32 → Mem → Prop} (C : XC D T RX0 p m c cX0_lend 2 s args) (hQ : xExi p l e rX0_lend s m args below meth c cX0_lend D T ad A H0 Qs Q) (v1 : Int32) (M : Mem) (H : Heap) (locs : List Loc) (ls : Array Slot) (h : w0_lend v1 M Q) (I : XI D T ad A H0 M H locs) (hl : lv_has ls 2 [(0, .ref (ad 0)), (1, .int v1)]) : W p l e rX0_lend s m args below meth c H locs 0 0 Qs (F0 m 0 ls []) := by
  have hx := C.1.1
  have hb := C.1.2.1
  have how := C.1.2.2.2.1
  have hts := C.1.2.2.2.2
  unfold w0_lend at h
  refine lv_iload_n hx hb dX0_lend_0 rfl (lv_at hl 1 rfl) ?_
  refine lv_iconst (v := 0) hx hb dX0_lend_1 (by decide) ?_
  refine lv_iconst (v := 2) hx hb dX0_lend_2 (by decide) ?_
  refine x_purei (As := [.int v1, .int 0, .int 2]) (rest := []) C I (met0_in l v1 0 2 h) (cw0_5 hts ⟨Nat.le_of_ble_eq_true rfl, Nat.le_of_ble_eq_true rfl⟩) rfl hl.1 rfl (Nat.le_of_ble_eq_true rfl) ⟨Nat.zero_le _, Nat.zero_le _⟩ dX0_lend_3 (fun r1 H locs h I => ?_)
  refine lv_if_eq (tgt := 17) hx hb dX0_lend_6 (by decide) (fun c => ?_) (fun c => ?_)
  · have h := h.1 c
    refine lv_bipush (v := -2) hx hb dX0_lend_17 (by decide) ?_
    exact t0_lend_b19 C hQ (-2) M _ _ _ h I (lv_sub hl [0] rfl)
  · have h := h.2 c
    refine lv_aload_n hx hb dX0_lend_9 rfl (lv_at hl 0 rfl) ?_
    refine lv_iload_n hx hb dX0_lend_10 rfl (lv_at hl 1 rfl) ?_
    refine x_calli (As := [.int v1]) (rest := []) C I (fun ra => met0_lendOf l D T ad ra v1 M h) (cw0_319 hts ⟨Nat.le_of_ble_eq_true rfl, Nat.le_of_ble_eq_true rfl⟩) rfl hl.1 rfl (Nat.le_of_ble_eq_true rfl) ⟨Nat.zero_le _, Nat.zero_le _⟩ dX0_lend_11 (fun r2 M3 H locs h I => ?_)
    refine lv_goto (tgt := 19) hx hb dX0_lend_14 (by decide) ?_
    exact t0_lend_b19 C hQ r2 M3 _ _ _ h I (lv_sub hl [0] rfl)
theorem met0_lend (l : Launch) (D : va_G) (T ad ra : Nat → Nat) (v1 : Int32) (M : Mem) {Qp : Int32 → Mem → Prop} (h : w0_lend v1 M Qp) (sz : Nat) : Met l yX0_lend (ws_ yX0_lend cX0_lend 2 (some .int)) rX0_lend (xPc D T ad ra 0 [.int v1] M sz) (xQi D T ad ra M Qp sz) 0 0 (fA (cX T ad ra M) sz) :=
  x_metI (own := RX0) (As := [.int v1]) rfl rfl (Nat.le_of_ble_eq_true rfl) (fun p e s m args below meth c A Qs ls C hQ I hl => t0_lend C hQ v1 M _ _ ls h I hl) sz
/-! delayOf -/
abbrev rX0_delayOf : Room := { frames := 8, cells := 0, slots := 0, locals := 177 }
theorem t0_delayOf_b99 {p : Program} {l : Launch} {e : Env} {s : State} {m : MethodId} {args : Array Value} {below : List Frame} {meth : Method} {c : Code} {D : va_G} {T ad : Nat → Nat} {A : Nat → Prop} {H0 : Heap} {Qs : State → Prop} {Q : Int32 → Mem → Prop}  (C : XC D T RX0 p m c cX0_delayOf 8 s args) (hQ : xExi p l e rX0_delayOf s m args below meth c cX0_delayOf D T ad A H0 Qs Q)  (s0 : Int32) (M : Mem) (H : Heap) (locs : List Loc) (ls : Array Slot) (h : w0_delayOf_b99 Q s0 M) (I : XI D T ad A H0 M H locs) (hl : lv_has ls 8 [(0, .ref (ad 0))]) : W p l e rX0_delayOf s m args below meth c H locs 0 0 Qs (F0 m 99 ls [.int s0]) := by
  have hx := C.1.1
  have hb := C.1.2.1
  have how := C.1.2.2.2.1
  have hts := C.1.2.2.2.2
  unfold w0_delayOf_b99 at h
  exact hQ _ _ _ _ _ _ h I dX0_delayOf_99
theorem t0_delayOf_b61 {p : Program} {l : Launch} {e : Env} {s : State} {m : MethodId} {args : Array Value} {below : List Frame} {meth : Method} {c : Code} {D : va_G} {T ad : Nat → Nat} {A : Nat → Prop} {H0 : Heap} {Qs : State → Prop} {Q : Int32 → Mem → Prop} {K23 : Int32 → Int32 → Int32 → Int32 → Int32 → Int32 → Mem → Prop} (C : XC D T RX0 p m c cX0_delayOf 8 s args) (hQ : xExi p l e rX0_delayOf s m args below meth c cX0_delayOf D T ad A H0 Qs Q) (hK23 : ∀ (v1 : Int32) (v2 : Int32) (v3 : Int32) (v4 : Int32) (v5 : Int32) (v6 : Int32) (M : Mem) (H : Heap) (locs : List Loc) (ls : Array Slot), K23 v1 v2 v3 v4 v5 v6 M → XI D T ad A H0 M H locs → lv_has ls 8 [(0, .ref (ad 0)), (1, .int v1), (2, .int v2), (3, .int v3), (4, .int v4), (5, .int v5), (6, .int v6)] → W p l e rX0_delayOf s m args below meth c H locs 0 0 Qs (F0 m 23 ls [])) (v1 : Int32) (v2 : Int32) (v3 : Int32) (v5 : Int32) (v6 : Int32) (v7 : Int32) (s0 : Int32) (M : Mem) (H : Heap) (locs : List Loc) (ls : Array Slot) (h : w0_delayOf_b61 Q K23 v1 v2 v3 v5 v6 v7 s0 M) (I : XI D T ad A H0 M H locs) (hl : lv_has ls 8 [(0, .ref (ad 0)), (1, .int v1), (2, .int v2), (3, .int v3), (5, .int v5), (6, .int v6), (7, .int v7)]) : W p l e rX0_delayOf s m args below meth c H locs 0 0 Qs (F0 m 61 ls [.int s0]) := by
  have hx := C.1.1
  have hb := C.1.2.1
  have how := C.1.2.2.2.1
  have hts := C.1.2.2.2.2
  unfold w0_delayOf_b61 at h
  refine lv_istore (lv' := [(4, .int s0), (0, .ref (ad 0)), (1, .int v1), (2, .int v2), (3, .int v3), (5, .int v5), (6, .int v6), (7, .int v7)]) hx hb dX0_delayOf_61 hl (by decide) rfl (fun ls hl => ?_)
  refine lv_iload hx hb dX0_delayOf_63 (lv_at hl 5 rfl) ?_
  refine lv_iload hx hb dX0_delayOf_65 (lv_at hl 7 rfl) ?_
  refine x_max (x := v5) (z := v7) C hl.1 (Nat.le_of_ble_eq_true rfl) (Nat.le_of_ble_eq_true rfl) ⟨Nat.zero_le _, Nat.zero_le _⟩ dX0_delayOf_67 ?_
  refine lv_istore (lv' := [(5, .int (imax v5 v7)), (4, .int s0), (0, .ref (ad 0)), (1, .int v1), (2, .int v2), (3, .int v3), (6, .int v6), (7, .int v7)]) hx hb dX0_delayOf_70 hl (by decide) rfl (fun ls hl => ?_)
  refine lv_iinc (v := (v6 + 1)) (lv' := [(6, .int (v6 + 1)), (5, .int (imax v5 v7)), (4, .int s0), (0, .ref (ad 0)), (1, .int v1), (2, .int v2), (3, .int v3), (7, .int v7)]) hx hb dX0_delayOf_72 hl (k := 6) rfl (ii_1 _) (by decide) rfl (fun ls hl => ?_)
  refine lv_goto (tgt := 23) hx hb dX0_delayOf_75 (by decide) ?_
  exact hK23 v1 v2 v3 s0 (imax v5 v7) (v6 + 1) M _ _ _ h I (lv_sub hl [3, 4, 5, 6, 2, 1, 0] rfl)
theorem t0_delayOf_b23_f {p : Program} {l : Launch} {e : Env} {s : State} {m : MethodId} {args : Array Value} {below : List Frame} {meth : Method} {c : Code} {D : va_G} {T ad : Nat → Nat} {A : Nat → Prop} {H0 : Heap} {Qs : State → Prop} {Q : Int32 → Mem → Prop} {K23 : Int32 → Int32 → Int32 → Int32 → Int32 → Int32 → Mem → Prop} (C : XC D T RX0 p m c cX0_delayOf 8 s args) (hQ : xExi p l e rX0_delayOf s m args below meth c cX0_delayOf D T ad A H0 Qs Q) (hK23 : ∀ (v1 : Int32) (v2 : Int32) (v3 : Int32) (v4 : Int32) (v5 : Int32) (v6 : Int32) (M : Mem) (H : Heap) (locs : List Loc) (ls : Array Slot), K23 v1 v2 v3 v4 v5 v6 M → XI D T ad A H0 M H locs → lv_has ls 8 [(0, .ref (ad 0)), (1, .int v1), (2, .int v2), (3, .int v3), (4, .int v4), (5, .int v5), (6, .int v6)] → W p l e rX0_delayOf s m args below meth c H locs 0 0 Qs (F0 m 23 ls [])) (v1 : Int32) (v2 : Int32) (v3 : Int32) (v4 : Int32) (v5 : Int32) (v6 : Int32) (M : Mem) (H : Heap) (locs : List Loc) (ls : Array Slot) (h : w0_delayOf_b23_f Q K23 v1 v2 v3 v4 v5 v6 M) (I : XI D T ad A H0 M H locs) (hl : lv_has ls 8 [(0, .ref (ad 0)), (1, .int v1), (2, .int v2), (3, .int v3), (4, .int v4), (5, .int v5), (6, .int v6)]) : W p l e rX0_delayOf s m args below meth c H locs 0 0 Qs (F0 m 23 ls []) := by
  have hx := C.1.1
  have hb := C.1.2.1
  have how := C.1.2.2.2.1
  have hts := C.1.2.2.2.2
  unfold w0_delayOf_b23_f at h
  refine lv_iload hx hb dX0_delayOf_23 (lv_at hl 6 rfl) ?_
  refine lv_bipush (v := 9) hx hb dX0_delayOf_25 (by decide) ?_
  refine lv_icmp_gt (tgt := 78) hx hb dX0_delayOf_27 (by decide) (fun c => ?_) (fun c => ?_)
  · have h := h.1 c
    refine lv_aload_n hx hb dX0_delayOf_78 rfl (lv_at hl 0 rfl) ?_
    refine xg_all C I dX0_delayOf_79 ?_
    refine lv_iload_n hx hb dX0_delayOf_82 rfl (lv_at hl 1 rfl) ?_
    obtain ⟨hg1, h⟩ := h
    refine xa_all C I hg1 dX0_delayOf_83 ?_
    refine lv_iload_n hx hb dX0_delayOf_84 rfl (lv_at hl 3 rfl) ?_
    refine xcp0_late C I (isCar_of hg1) dX0_delayOf_85 (fun M2 H locs eM2 I => ?_)
    have h := h M2 eM2
    refine lv_iload_n hx hb dX0_delayOf_88 rfl (lv_at hl 2 rfl) ?_
    refine lv_if_ne (tgt := 97) hx hb dX0_delayOf_89 (by decide) (fun c => ?_) (fun c => ?_)
    · have h := h.2 c
      refine lv_iload hx hb dX0_delayOf_97 (lv_at hl 5 rfl) ?_
      exact t0_delayOf_b99 C hQ v5 M2 _ _ _ h I (lv_sub hl [0] rfl)
    · have h := h.1 c
      refine lv_iload hx hb dX0_delayOf_92 (lv_at hl 4 rfl) ?_
      refine lv_goto (tgt := 99) hx hb dX0_delayOf_94 (by decide) ?_
      exact t0_delayOf_b99 C hQ v4 M2 _ _ _ h I (lv_sub hl [0] rfl)
  · have h := h.2 c
    refine lv_aload_n hx hb dX0_delayOf_30 rfl (lv_at hl 0 rfl) ?_
    refine xg_all C I dX0_delayOf_31 ?_
    refine lv_iload_n hx hb dX0_delayOf_34 rfl (lv_at hl 1 rfl) ?_
    obtain ⟨hg3, h⟩ := h
    refine xa_all C I hg3 dX0_delayOf_35 ?_
    refine lv_iload hx hb dX0_delayOf_36 (lv_at hl 6 rfl) ?_
    refine xcp0_late C I (isCar_of hg3) dX0_delayOf_38 (fun M4 H locs eM4 I => ?_)
    have h := h M4 eM4
    refine lv_aload_n hx hb dX0_delayOf_41 rfl (lv_at hl 0 rfl) ?_
    refine x_calli (As := []) (rest := []) C I (fun ra => met0_comeNow l D T ad ra M4 h) (cw0_313 hts ⟨Nat.le_of_ble_eq_true rfl, Nat.le_of_ble_eq_true rfl⟩) rfl hl.1 rfl (Nat.le_of_ble_eq_true rfl) ⟨Nat.zero_le _, Nat.zero_le _⟩ dX0_delayOf_42 (fun r5 M6 H locs h I => ?_)
    refine lv_istore (lv' := [(7, .int r5), (0, .ref (ad 0)), (1, .int v1), (2, .int v2), (3, .int v3), (4, .int v4), (5, .int v5), (6, .int v6)]) hx hb dX0_delayOf_45 hl (by decide) rfl (fun ls hl => ?_)
    refine lv_iload hx hb dX0_delayOf_47 (lv_at hl 0 rfl) ?_
    refine lv_iload hx hb dX0_delayOf_49 (lv_at hl 6 rfl) ?_
    refine lv_icmp_le (tgt := 59) hx hb dX0_delayOf_51 (by decide) (fun c => ?_) (fun c => ?_)
    · have h := h.1 c
      refine lv_iload hx hb dX0_delayOf_59 (lv_at hl 5 rfl) ?_
      exact t0_delayOf_b61 C hQ hK23 v1 v2 v3 v5 v6 r5 v4 M6 _ _ _ h I (lv_sub hl [1, 2, 3, 4, 6, 7, 0] rfl)
    · have h := h.2 c
      refine lv_iload hx hb dX0_delayOf_54 (lv_at hl 7 rfl) ?_
      refine lv_goto (tgt := 61) hx hb dX0_delayOf_56 (by decide) ?_
      exact t0_delayOf_b61 C hQ hK23 v1 v2 v3 v5 v6 r5 v6 M6 _ _ _ h I (lv_sub hl [1, 2, 3, 4, 6, 7, 0] rfl)
theorem t0_delayOf_b23 {p : Program} {l : Launch} {e : Env} {s : State} {m : MethodId} {args : Array Value} {below : List Frame} {meth : Method} {c : Code} {D : va_G} {T ad : Nat → Nat} {A : Nat → Prop} {H0 : Heap} {Qs : State → Prop} {Q : Int32 → Mem → Prop}  (C : XC D T RX0 p m c cX0_delayOf 8 s args) (hQ : xExi p l e rX0_delayOf s m args below meth c cX0_delayOf D T ad A H0 Qs Q)  : ∀ (n : Nat) (v1 : Int32) (v2 : Int32) (v3 : Int32) (v4 : Int32) (v5 : Int32) (v6 : Int32) (M : Mem) (H : Heap) (locs : List Loc) (ls : Array Slot), w0_delayOf_b23 Q n v1 v2 v3 v4 v5 v6 M → XI D T ad A H0 M H locs → lv_has ls 8 [(0, .ref (ad 0)), (1, .int v1), (2, .int v2), (3, .int v3), (4, .int v4), (5, .int v5), (6, .int v6)] → W p l e rX0_delayOf s m args below meth c H locs 0 0 Qs (F0 m 23 ls []) := by
  intro n
  induction n with
  | zero => intro v1 v2 v3 v4 v5 v6 M H locs ls h; exact h.elim
  | succ n ih => intro v1 v2 v3 v4 v5 v6 M H locs ls h I hl; exact t0_delayOf_b23_f C hQ  ih v1 v2 v3 v4 v5 v6 M H locs ls h I hl
theorem t0_delayOf {p : Program} {l : Launch} {e : Env} {s : State} {m : MethodId} {args : Array Value} {below : List Frame} {meth : Method} {c : Code} {D : va_G} {T ad : Nat → Nat} {A : Nat → Prop} {H0 : Heap} {Qs : State → Prop} {Q : Int32 → Mem → Prop} (C : XC D T RX0 p m c cX0_delayOf 8 s args) (hQ : xExi p l e rX0_delayOf s m args below meth c cX0_delayOf D T ad A H0 Qs Q) (v1 : Int32) (v2 : Int32) (M : Mem) (H : Heap) (locs : List Loc) (ls : Array Slot) (h : w0_delayOf v1 v2 M Q) (I : XI D T ad A H0 M H locs) (hl : lv_has ls 8 [(0, .ref (ad 0)), (1, .int v1), (2, .int v2)]) : W p l e rX0_delayOf s m args below meth c H locs 0 0 Qs (F0 m 0 ls []) := by
  have hx := C.1.1
  have hb := C.1.2.1
  have how := C.1.2.2.2.1
  have hts := C.1.2.2.2.2
  unfold w0_delayOf at h
  refine lv_aload_n hx hb dX0_delayOf_0 rfl (lv_at hl 0 rfl) ?_
  refine x_callv (As := []) (rest := []) C I (fun ra => met0_asTold l D T ad ra M h) (cw0_273 hts ⟨Nat.le_of_ble_eq_true rfl, Nat.le_of_ble_eq_true rfl⟩) rfl hl.1 rfl (Nat.le_of_ble_eq_true rfl) ⟨Nat.zero_le _, Nat.zero_le _⟩ dX0_delayOf_1 (fun M7 H locs h I => ?_)
  refine lv_aload_n hx hb dX0_delayOf_4 rfl (lv_at hl 0 rfl) ?_
  refine xg_all C I dX0_delayOf_5 ?_
  refine lv_iload_n hx hb dX0_delayOf_8 rfl (lv_at hl 1 rfl) ?_
  obtain ⟨hg8, h⟩ := h
  refine xa_all C I hg8 dX0_delayOf_9 ?_
  refine xcg0_late C I (isCar_of hg8) dX0_delayOf_10 ?_
  refine lv_istore_n (lv' := [(3, .int (M7 (30 + ci v1) 5)), (0, .ref (ad 0)), (1, .int v1), (2, .int v2)]) hx hb dX0_delayOf_13 rfl hl (by decide) rfl (fun ls hl => ?_)
  refine lv_iconst (v := -1) hx hb dX0_delayOf_14 (by decide) ?_
  refine lv_istore (lv' := [(4, .int (-1)), (3, .int (M7 (30 + ci v1) 5)), (0, .ref (ad 0)), (1, .int v1), (2, .int v2)]) hx hb dX0_delayOf_15 hl (by decide) rfl (fun ls hl => ?_)
  refine lv_iconst (v := -1) hx hb dX0_delayOf_17 (by decide) ?_
  refine lv_istore (lv' := [(5, .int (-1)), (4, .int (-1)), (3, .int (M7 (30 + ci v1) 5)), (0, .ref (ad 0)), (1, .int v1), (2, .int v2)]) hx hb dX0_delayOf_18 hl (by decide) rfl (fun ls hl => ?_)
  refine lv_iconst (v := 0) hx hb dX0_delayOf_20 (by decide) ?_
  refine lv_istore (lv' := [(6, .int 0), (5, .int (-1)), (4, .int (-1)), (3, .int (M7 (30 + ci v1) 5)), (0, .ref (ad 0)), (1, .int v1), (2, .int v2)]) hx hb dX0_delayOf_21 hl (by decide) rfl (fun ls hl => ?_)
  obtain ⟨n, h⟩ := h
  exact t0_delayOf_b23 C hQ n v1 v2 (M7 (30 + ci v1) 5) (-1) (-1) 0 M7 _ _ _ h I (lv_sub hl [4, 5, 6, 3, 2, 1, 0] rfl)
theorem met0_delayOf (l : Launch) (D : va_G) (T ad ra : Nat → Nat) (v1 : Int32) (v2 : Int32) (M : Mem) {Qp : Int32 → Mem → Prop} (h : w0_delayOf v1 v2 M Qp) (sz : Nat) : Met l yX0_delayOf (ws_ yX0_delayOf cX0_delayOf 8 (some .int)) rX0_delayOf (xPc D T ad ra 0 [.int v1, .int v2] M sz) (xQi D T ad ra M Qp sz) 0 0 (fA (cX T ad ra M) sz) :=
  x_metI (own := RX0) (As := [.int v1, .int v2]) rfl rfl (Nat.le_of_ble_eq_true rfl) (fun p e s m args below meth c A Qs ls C hQ I hl => t0_delayOf C hQ v1 v2 M _ _ ls h I hl) sz
