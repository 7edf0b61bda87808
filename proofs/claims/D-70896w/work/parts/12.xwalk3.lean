/-! the system: walks, printed by gen.py -/
/-! delay -/
abbrev rX0_delay : Room := { frames := 9, cells := 0, slots := 0, locals := 204 }
theorem cw0_322 {R : Room} {s : State} {args : Array Value} (hts : ∀ w ∈ lw_all, w.before args s = true) (hR : rX0_delayOf.frames + 1 ≤ R.frames ∧ 8 + (8 + 11) + rX0_delayOf.locals ≤ R.locals) : CallW R s args RX0 RX0 322 yX0_delayOf cX0_delayOf 8 (some .int) (ws_ yX0_delayOf cX0_delayOf 8 (some .int)) rX0_delayOf 0 0 2 := cwV 2 hts (lw_V q428 q430 qs36 q89 q431) rfl rfl rfl (by decide +kernel) hR
theorem t0_delay_b26 {p : Program} {l : Launch} {e : Env} {s : State} {m : MethodId} {args : Array Value} {below : List Frame} {meth : Method} {c : Code} {D : va_G} {T ad : Nat → Nat} {A : Nat → Prop} {H0 : Heap} {Qs : State → Prop} {Q : Int32 → Mem → Prop}  (C : XC D T RX0 p m c cX0_delay 3 s args) (hQ : xExi p l e rX0_delay s m args below meth c cX0_delay D T ad A H0 Qs Q)  (s0 : Int32) (M : Mem) (H : Heap) (locs : List Loc) (ls : Array Slot) (h : w0_delay_b26 Q s0 M) (I : XI D T ad A H0 M H locs) (hl : lv_has ls 3 [(0, .ref (ad 0))]) : W p l e rX0_delay s m args below meth c H locs 0 0 Qs (F0 m 26 ls [.int s0]) := by
  have hx := C.1.1
  have hb := C.1.2.1
  have how := C.1.2.2.2.1
  have hts := C.1.2.2.2.2
  unfold w0_delay_b26 at h
  exact hQ _ _ _ _ _ _ h I dX0_delay_26
theorem t0_delay_b24 {p : Program} {l : Launch} {e : Env} {s : State} {m : MethodId} {args : Array Value} {below : List Frame} {meth : Method} {c : Code} {D : va_G} {T ad : Nat → Nat} {A : Nat → Prop} {H0 : Heap} {Qs : State → Prop} {Q : Int32 → Mem → Prop}  (C : XC D T RX0 p m c cX0_delay 3 s args) (hQ : xExi p l e rX0_delay s m args below meth c cX0_delay D T ad A H0 Qs Q)   (M : Mem) (H : Heap) (locs : List Loc) (ls : Array Slot) (h : w0_delay_b24 Q M) (I : XI D T ad A H0 M H locs) (hl : lv_has ls 3 [(0, .ref (ad 0))]) : W p l e rX0_delay s m args below meth c H locs 0 0 Qs (F0 m 24 ls []) := by
  have hx := C.1.1
  have hb := C.1.2.1
  have how := C.1.2.2.2.1
  have hts := C.1.2.2.2.2
  unfold w0_delay_b24 at h
  refine lv_bipush (v := -2) hx hb dX0_delay_24 (by decide) ?_
  exact t0_delay_b26 C hQ (-2) M _ _ _ h I (lv_sub hl [0] rfl)
theorem t0_delay {p : Program} {l : Launch} {e : Env} {s : State} {m : MethodId} {args : Array Value} {below : List Frame} {meth : Method} {c : Code} {D : va_G} {T ad : Nat → Nat} {A : Nat → Prop} {H0 : Heap} {Qs : State → Prop} {Q : Int32 → Mem → Prop} (C : XC D T RX0 p m c cX0_delay 3 s args) (hQ : xExi p l e rX0_delay s m args below meth c cX0_delay D T ad A H0 Qs Q) (v1 : Int32) (v2 : Int32) (M : Mem) (H : Heap) (locs : List Loc) (ls : Array Slot) (h : w0_delay v1 v2 M Q) (I : XI D T ad A H0 M H locs) (hl : lv_has ls 3 [(0, .ref (ad 0)), (1, .int v1), (2, .int v2)]) : W p l e rX0_delay s m args below meth c H locs 0 0 Qs (F0 m 0 ls []) := by
  have hx := C.1.1
  have hb := C.1.2.1
  have how := C.1.2.2.2.1
  have hts := C.1.2.2.2.2
  unfold w0_delay at h
  refine lv_aload_n hx hb dX0_delay_0 rfl (lv_at hl 0 rfl) ?_
  refine lv_iload_n hx hb dX0_delay_1 rfl (lv_at hl 1 rfl) ?_
  refine x_calli (As := [.int v1]) (rest := []) C I (fun ra => met0_isCarter l D T ad ra v1 M h) (cw0_126 hts ⟨Nat.le_of_ble_eq_true rfl, Nat.le_of_ble_eq_true rfl⟩) rfl hl.1 rfl (Nat.le_of_ble_eq_true rfl) ⟨Nat.zero_le _, Nat.zero_le _⟩ dX0_delay_2 (fun r1 M2 H locs h I => ?_)
  refine lv_if_eq (tgt := 24) hx hb dX0_delay_5 (by decide) (fun c => ?_) (fun c => ?_)
  · have h := h.1 c
    exact t0_delay_b24 C hQ M2 _ _ _ h I (lv_sub hl [0] rfl)
  · have h := h.2 c
    refine lv_iload_n hx hb dX0_delay_8 rfl (lv_at hl 2 rfl) ?_
    refine x_purei (As := [.int v2]) (rest := []) C I (met0_isTwo l v2 h) (cw0_294 hts ⟨Nat.le_of_ble_eq_true rfl, Nat.le_of_ble_eq_true rfl⟩) rfl hl.1 rfl (Nat.le_of_ble_eq_true rfl) ⟨Nat.zero_le _, Nat.zero_le _⟩ dX0_delay_9 (fun r3 H locs h I => ?_)
    refine lv_if_eq (tgt := 24) hx hb dX0_delay_12 (by decide) (fun c => ?_) (fun c => ?_)
    · have h := h.1 c
      exact t0_delay_b24 C hQ M2 _ _ _ h I (lv_sub hl [0] rfl)
    · have h := h.2 c
      refine lv_aload_n hx hb dX0_delay_15 rfl (lv_at hl 0 rfl) ?_
      refine lv_iload_n hx hb dX0_delay_16 rfl (lv_at hl 1 rfl) ?_
      refine lv_iload_n hx hb dX0_delay_17 rfl (lv_at hl 2 rfl) ?_
      refine x_calli (As := [.int v1, .int v2]) (rest := []) C I (fun ra => met0_delayOf l D T ad ra v1 v2 M2 h) (cw0_322 hts ⟨Nat.le_of_ble_eq_true rfl, Nat.le_of_ble_eq_true rfl⟩) rfl hl.1 rfl (Nat.le_of_ble_eq_true rfl) ⟨Nat.zero_le _, Nat.zero_le _⟩ dX0_delay_18 (fun r4 M5 H locs h I => ?_)
      refine lv_goto (tgt := 26) hx hb dX0_delay_21 (by decide) ?_
      exact t0_delay_b26 C hQ r4 M5 _ _ _ h I (lv_sub hl [0] rfl)
theorem met0_delay (l : Launch) (D : va_G) (T ad ra : Nat → Nat) (v1 : Int32) (v2 : Int32) (M : Mem) {Qp : Int32 → Mem → Prop} (h : w0_delay v1 v2 M Qp) (sz : Nat) : Met l yX0_delay (ws_ yX0_delay cX0_delay 3 (some .int)) rX0_delay (xPc D T ad ra 0 [.int v1, .int v2] M sz) (xQi D T ad ra M Qp sz) 0 0 (fA (cX T ad ra M) sz) :=
  x_metI (own := RX0) (As := [.int v1, .int v2]) rfl rfl (Nat.le_of_ble_eq_true rfl) (fun p e s m args below meth c A Qs ls C hQ I hl => t0_delay C hQ v1 v2 M _ _ ls h I hl) sz
/-! levelOf -/
abbrev rX0_levelOf : Room := { frames := 8, cells := 0, slots := 0, locals := 177 }
theorem t0_levelOf_b67 {p : Program} {l : Launch} {e : Env} {s : State} {m : MethodId} {args : Array Value} {below : List Frame} {meth : Method} {c : Code} {D : va_G} {T ad : Nat → Nat} {A : Nat → Prop} {H0 : Heap} {Qs : State → Prop} {Q : Int32 → Mem → Prop}  (C : XC D T RX0 p m c cX0_levelOf 6 s args) (hQ : xExi p l e rX0_levelOf s m args below meth c cX0_levelOf D T ad A H0 Qs Q)  (s0 : Int32) (M : Mem) (H : Heap) (locs : List Loc) (ls : Array Slot) (h : w0_levelOf_b67 Q s0 M) (I : XI D T ad A H0 M H locs) (hl : lv_has ls 6 [(0, .ref (ad 0))]) : W p l e rX0_levelOf s m args below meth c H locs 0 0 Qs (F0 m 67 ls [.int s0]) := by
  have hx := C.1.1
  have hb := C.1.2.1
  have how := C.1.2.2.2.1
  have hts := C.1.2.2.2.2
  unfold w0_levelOf_b67 at h
  exact hQ _ _ _ _ _ _ h I dX0_levelOf_67
theorem t0_levelOf_b44 {p : Program} {l : Launch} {e : Env} {s : State} {m : MethodId} {args : Array Value} {below : List Frame} {meth : Method} {c : Code} {D : va_G} {T ad : Nat → Nat} {A : Nat → Prop} {H0 : Heap} {Qs : State → Prop} {Q : Int32 → Mem → Prop} {K11 : Int32 → Int32 → Int32 → Int32 → Mem → Prop} (C : XC D T RX0 p m c cX0_levelOf 6 s args) (hQ : xExi p l e rX0_levelOf s m args below meth c cX0_levelOf D T ad A H0 Qs Q) (hK11 : ∀ (v1 : Int32) (v2 : Int32) (v3 : Int32) (v4 : Int32) (M : Mem) (H : Heap) (locs : List Loc) (ls : Array Slot), K11 v1 v2 v3 v4 M → XI D T ad A H0 M H locs → lv_has ls 6 [(0, .ref (ad 0)), (1, .int v1), (2, .int v2), (3, .int v3), (4, .int v4)] → W p l e rX0_levelOf s m args below meth c H locs 0 0 Qs (F0 m 11 ls [])) (v1 : Int32) (v3 : Int32) (v4 : Int32) (v5 : Int32) (s0 : Int32) (M : Mem) (H : Heap) (locs : List Loc) (ls : Array Slot) (h : w0_levelOf_b44 Q K11 v1 v3 v4 v5 s0 M) (I : XI D T ad A H0 M H locs) (hl : lv_has ls 6 [(0, .ref (ad 0)), (1, .int v1), (3, .int v3), (4, .int v4), (5, .int v5)]) : W p l e rX0_levelOf s m args below meth c H locs 0 0 Qs (F0 m 44 ls [.int s0]) := by
  have hx := C.1.1
  have hb := C.1.2.1
  have how := C.1.2.2.2.1
  have hts := C.1.2.2.2.2
  unfold w0_levelOf_b44 at h
  refine lv_istore_n (lv' := [(2, .int s0), (0, .ref (ad 0)), (1, .int v1), (3, .int v3), (4, .int v4), (5, .int v5)]) hx hb dX0_levelOf_44 rfl hl (by decide) rfl (fun ls hl => ?_)
  refine lv_iload_n hx hb dX0_levelOf_45 rfl (lv_at hl 3 rfl) ?_
  refine lv_iload hx hb dX0_levelOf_46 (lv_at hl 5 rfl) ?_
  refine x_max (x := v3) (z := v5) C hl.1 (Nat.le_of_ble_eq_true rfl) (Nat.le_of_ble_eq_true rfl) ⟨Nat.zero_le _, Nat.zero_le _⟩ dX0_levelOf_48 ?_
  refine lv_istore_n (lv' := [(3, .int (imax v3 v5)), (2, .int s0), (0, .ref (ad 0)), (1, .int v1), (4, .int v4), (5, .int v5)]) hx hb dX0_levelOf_51 rfl hl (by decide) rfl (fun ls hl => ?_)
  refine lv_iinc (v := (v4 + 1)) (lv' := [(4, .int (v4 + 1)), (3, .int (imax v3 v5)), (2, .int s0), (0, .ref (ad 0)), (1, .int v1), (5, .int v5)]) hx hb dX0_levelOf_52 hl (k := 4) rfl (ii_1 _) (by decide) rfl (fun ls hl => ?_)
  refine lv_goto (tgt := 11) hx hb dX0_levelOf_55 (by decide) ?_
  exact hK11 v1 s0 (imax v3 v5) (v4 + 1) M _ _ _ h I (lv_sub hl [3, 4, 2, 1, 0] rfl)
theorem t0_levelOf_b11_f {p : Program} {l : Launch} {e : Env} {s : State} {m : MethodId} {args : Array Value} {below : List Frame} {meth : Method} {c : Code} {D : va_G} {T ad : Nat → Nat} {A : Nat → Prop} {H0 : Heap} {Qs : State → Prop} {Q : Int32 → Mem → Prop} {K11 : Int32 → Int32 → Int32 → Int32 → Mem → Prop} (C : XC D T RX0 p m c cX0_levelOf 6 s args) (hQ : xExi p l e rX0_levelOf s m args below meth c cX0_levelOf D T ad A H0 Qs Q) (hK11 : ∀ (v1 : Int32) (v2 : Int32) (v3 : Int32) (v4 : Int32) (M : Mem) (H : Heap) (locs : List Loc) (ls : Array Slot), K11 v1 v2 v3 v4 M → XI D T ad A H0 M H locs → lv_has ls 6 [(0, .ref (ad 0)), (1, .int v1), (2, .int v2), (3, .int v3), (4, .int v4)] → W p l e rX0_levelOf s m args below meth c H locs 0 0 Qs (F0 m 11 ls [])) (v1 : Int32) (v2 : Int32) (v3 : Int32) (v4 : Int32) (M : Mem) (H : Heap) (locs : List Loc) (ls : Array Slot) (h : w0_levelOf_b11_f Q K11 v1 v2 v3 v4 M) (I : XI D T ad A H0 M H locs) (hl : lv_has ls 6 [(0, .ref (ad 0)), (1, .int v1), (2, .int v2), (3, .int v3), (4, .int v4)]) : W p l e rX0_levelOf s m args below meth c H locs 0 0 Qs (F0 m 11 ls []) := by
  have hx := C.1.1
  have hb := C.1.2.1
  have how := C.1.2.2.2.1
  have hts := C.1.2.2.2.2
  unfold w0_levelOf_b11_f at h
  refine lv_iload hx hb dX0_levelOf_11 (lv_at hl 4 rfl) ?_
  refine lv_aload_n hx hb dX0_levelOf_13 rfl (lv_at hl 0 rfl) ?_
  refine xg_ways C I dX0_levelOf_14 ?_
  refine lv_icmp_ge (tgt := 58) hx hb dX0_levelOf_17 (by decide) (fun c => ?_) (fun c => ?_)
  · have h := h.1 c
    refine lv_iload_n hx hb dX0_levelOf_58 rfl (lv_at hl 1 rfl) ?_
    refine lv_if_ne (tgt := 66) hx hb dX0_levelOf_59 (by decide) (fun c => ?_) (fun c => ?_)
    · have h := h.2 c
      refine lv_iload_n hx hb dX0_levelOf_66 rfl (lv_at hl 3 rfl) ?_
      exact t0_levelOf_b67 C hQ v3 M _ _ _ h I (lv_sub hl [0] rfl)
    · have h := h.1 c
      refine lv_iload_n hx hb dX0_levelOf_62 rfl (lv_at hl 2 rfl) ?_
      refine lv_goto (tgt := 67) hx hb dX0_levelOf_63 (by decide) ?_
      exact t0_levelOf_b67 C hQ v2 M _ _ _ h I (lv_sub hl [0] rfl)
  · have h := h.2 c
    refine lv_aload_n hx hb dX0_levelOf_20 rfl (lv_at hl 0 rfl) ?_
    refine lv_iload hx hb dX0_levelOf_21 (lv_at hl 4 rfl) ?_
    refine x_callv (As := [.int v4]) (rest := []) C I (fun ra => met0_measures l D T ad ra v4 M h) (cw0_196 hts ⟨Nat.le_of_ble_eq_true rfl, Nat.le_of_ble_eq_true rfl⟩) rfl hl.1 rfl (Nat.le_of_ble_eq_true rfl) ⟨Nat.zero_le _, Nat.zero_le _⟩ dX0_levelOf_23 (fun M1 H locs h I => ?_)
    refine lv_aload_n hx hb dX0_levelOf_26 rfl (lv_at hl 0 rfl) ?_
    refine x_calli (As := []) (rest := []) C I (fun ra => met0_comeNow l D T ad ra M1 h) (cw0_313 hts ⟨Nat.le_of_ble_eq_true rfl, Nat.le_of_ble_eq_true rfl⟩) rfl hl.1 rfl (Nat.le_of_ble_eq_true rfl) ⟨Nat.zero_le _, Nat.zero_le _⟩ dX0_levelOf_27 (fun r2 M3 H locs h I => ?_)
    refine lv_istore (lv' := [(5, .int r2), (0, .ref (ad 0)), (1, .int v1), (2, .int v2), (3, .int v3), (4, .int v4)]) hx hb dX0_levelOf_30 hl (by decide) rfl (fun ls hl => ?_)
    refine lv_iload hx hb dX0_levelOf_32 (lv_at hl 0 rfl) ?_
    refine lv_iload_n hx hb dX0_levelOf_34 rfl (lv_at hl 4 rfl) ?_
    refine lv_icmp_le (tgt := 43) hx hb dX0_levelOf_35 (by decide) (fun c => ?_) (fun c => ?_)
    · have h := h.1 c
      refine lv_iload_n hx hb dX0_levelOf_43 rfl (lv_at hl 3 rfl) ?_
      exact t0_levelOf_b44 C hQ hK11 v1 v3 v4 r2 v2 M3 _ _ _ h I (lv_sub hl [1, 2, 4, 5, 0] rfl)
    · have h := h.2 c
      refine lv_iload hx hb dX0_levelOf_38 (lv_at hl 5 rfl) ?_
      refine lv_goto (tgt := 44) hx hb dX0_levelOf_40 (by decide) ?_
      exact t0_levelOf_b44 C hQ hK11 v1 v3 v4 r2 v4 M3 _ _ _ h I (lv_sub hl [1, 2, 4, 5, 0] rfl)
theorem t0_levelOf_b11 {p : Program} {l : Launch} {e : Env} {s : State} {m : MethodId} {args : Array Value} {below : List Frame} {meth : Method} {c : Code} {D : va_G} {T ad : Nat → Nat} {A : Nat → Prop} {H0 : Heap} {Qs : State → Prop} {Q : Int32 → Mem → Prop}  (C : XC D T RX0 p m c cX0_levelOf 6 s args) (hQ : xExi p l e rX0_levelOf s m args below meth c cX0_levelOf D T ad A H0 Qs Q)  : ∀ (n : Nat) (v1 : Int32) (v2 : Int32) (v3 : Int32) (v4 : Int32) (M : Mem) (H : Heap) (locs : List Loc) (ls : Array Slot), w0_levelOf_b11 Q n v1 v2 v3 v4 M → XI D T ad A H0 M H locs → lv_has ls 6 [(0, .ref (ad 0)), (1, .int v1), (2, .int v2), (3, .int v3), (4, .int v4)] → W p l e rX0_levelOf s m args below meth c H locs 0 0 Qs (F0 m 11 ls []) := by
  intro n
  induction n with
  | zero => intro v1 v2 v3 v4 M H locs ls h; exact h.elim
  | succ n ih => intro v1 v2 v3 v4 M H locs ls h I hl; exact t0_levelOf_b11_f C hQ  ih v1 v2 v3 v4 M H locs ls h I hl
theorem t0_levelOf {p : Program} {l : Launch} {e : Env} {s : State} {m : MethodId} {args : Array Value} {below : List Frame} {meth : Method} {c : Code} {D : va_G} {T ad : Nat → Nat} {A : Nat → Prop} {H0 : Heap} {Qs : State → Prop} {Q : Int32 → Mem → Prop} (C : XC D T RX0 p m c cX0_levelOf 6 s args) (hQ : xExi p l e rX0_levelOf s m args below meth c cX0_levelOf D T ad A H0 Qs Q) (v1 : Int32) (M : Mem) (H : Heap) (locs : List Loc) (ls : Array Slot) (h : w0_levelOf v1 M Q) (I : XI D T ad A H0 M H locs) (hl : lv_has ls 6 [(0, .ref (ad 0)), (1, .int v1)]) : W p l e rX0_levelOf s m args below meth c H locs 0 0 Qs (F0 m 0 ls []) := by
  have hx := C.1.1
  have hb := C.1.2.1
  have how := C.1.2.2.2.1
  have hts := C.1.2.2.2.2
  unfold w0_levelOf at h
  refine lv_aload_n hx hb dX0_levelOf_0 rfl (lv_at hl 0 rfl) ?_
  refine x_callv (As := []) (rest := []) C I (fun ra => met0_asTold l D T ad ra M h) (cw0_273 hts ⟨Nat.le_of_ble_eq_true rfl, Nat.le_of_ble_eq_true rfl⟩) rfl hl.1 rfl (Nat.le_of_ble_eq_true rfl) ⟨Nat.zero_le _, Nat.zero_le _⟩ dX0_levelOf_1 (fun M4 H locs h I => ?_)
  refine lv_iconst (v := -1) hx hb dX0_levelOf_4 (by decide) ?_
  refine lv_istore_n (lv' := [(2, .int (-1)), (0, .ref (ad 0)), (1, .int v1)]) hx hb dX0_levelOf_5 rfl hl (by decide) rfl (fun ls hl => ?_)
  refine lv_iconst (v := -1) hx hb dX0_levelOf_6 (by decide) ?_
  refine lv_istore_n (lv' := [(3, .int (-1)), (2, .int (-1)), (0, .ref (ad 0)), (1, .int v1)]) hx hb dX0_levelOf_7 rfl hl (by decide) rfl (fun ls hl => ?_)
  refine lv_iconst (v := 0) hx hb dX0_levelOf_8 (by decide) ?_
  refine lv_istore (lv' := [(4, .int 0), (3, .int (-1)), (2, .int (-1)), (0, .ref (ad 0)), (1, .int v1)]) hx hb dX0_levelOf_9 hl (by decide) rfl (fun ls hl => ?_)
  obtain ⟨n, h⟩ := h
  exact t0_levelOf_b11 C hQ n v1 (-1) (-1) 0 M4 _ _ _ h I (lv_sub hl [3, 4, 2, 1, 0] rfl)
theorem met0_levelOf (l : Launch) (D : va_G) (T ad ra : Nat → Nat) (v1 : Int32) (M : Mem) {Qp : Int32 → Mem → Prop} (h : w0_levelOf v1 M Qp) (sz : Nat) : Met l yX0_levelOf (ws_ yX0_levelOf cX0_levelOf 6 (some .int)) rX0_levelOf (xPc D T ad ra 0 [.int v1] M sz) (xQi D T ad ra M Qp sz) 0 0 (fA (cX T ad ra M) sz) :=
  x_metI (own := RX0) (As := [.int v1]) rfl rfl (Nat.le_of_ble_eq_true rfl) (fun p e s m args below meth c A Qs ls C hQ I hl => t0_levelOf C hQ v1 M _ _ ls h I hl) sz
/-! level -/
abbrev rX0_level : Room := { frames := 9, cells := 0, slots := 0, locals := 202 }
theorem cw0_325 {R : Room} {s : State} {args : Array Value} (hts : ∀ w ∈ lw_all, w.before args s = true) (hR : rX0_levelOf.frames + 1 ≤ R.frames ∧ 8 + (6 + 11) + rX0_levelOf.locals ≤ R.locals) : CallW R s args RX0 RX0 325 yX0_levelOf cX0_levelOf 6 (some .int) (ws_ yX0_levelOf cX0_levelOf 6 (some .int)) rX0_levelOf 0 0 1 := cwV 1 hts (lw_V q436 q438 qs37 q89 q439) rfl rfl rfl (by decide +kernel) hR
theorem t0_level_b17 {p : Program} {l : Launch} {e : Env} {s : State} {m : MethodId} {args : Array Value} {below : List Frame} {meth : Method} {c : Code} {D : va_G} {T ad : Nat → Nat} {A : Nat → Prop} {H0 : Heap} {Qs : State → Prop} {Q : Int32 → Mem → Prop}  (C : XC D T RX0 p m c cX0_level 2 s args) (hQ : xExi p l e rX0_level s m args below meth c cX0_level D T ad A H0 Qs Q)  (s0 : Int32) (M : Mem) (H : Heap) (locs : List Loc) (ls : Array Slot) (h : w0_level_b17 Q s0 M) (I : XI D T ad A H0 M H locs) (hl : lv_has ls 2 [(0, .ref (ad 0))]) : W p l e rX0_level s m args below meth c H locs 0 0 Qs (F0 m 17 ls [.int s0]) := by
  have hx := C.1.1
  have hb := C.1.2.1
  have how := C.1.2.2.2.1
  have hts := C.1.2.2.2.2
  unfold w0_level_b17 at h
  exact hQ _ _ _ _ _ _ h I dX0_level_17
theorem t0_level {p : Program} {l : Launch} {e : Env} {s : State} {m : MethodId} {args : Array Value} {below : List Frame} {meth : Method} {c : Code} {D : va_G} {T ad : Nat → Nat} {A : Nat → Prop} {H0 : Heap} {Qs : State → Prop} {Q : Int32 → Mem → Prop} (C : XC D T RX0 p m c cX0_level 2 s args) (hQ : xExi p l e rX0_level s m args below meth c cX0_level D T ad A H0 Qs Q) (v1 : Int32) (M : Mem) (H : Heap) (locs : List Loc) (ls : Array Slot) (h : w0_level v1 M Q) (I : XI D T ad A H0 M H locs) (hl : lv_has ls 2 [(0, .ref (ad 0)), (1, .int v1)]) : W p l e rX0_level s m args below meth c H locs 0 0 Qs (F0 m 0 ls []) := by
  have hx := C.1.1
  have hb := C.1.2.1
  have how := C.1.2.2.2.1
  have hts := C.1.2.2.2.2
  unfold w0_level at h
  refine lv_iload_n hx hb dX0_level_0 rfl (lv_at hl 1 rfl) ?_
  refine x_purei (As := [.int v1]) (rest := []) C I (met0_isTwo l v1 h) (cw0_294 hts ⟨Nat.le_of_ble_eq_true rfl, Nat.le_of_ble_eq_true rfl⟩) rfl hl.1 rfl (Nat.le_of_ble_eq_true rfl) ⟨Nat.zero_le _, Nat.zero_le _⟩ dX0_level_1 (fun r1 H locs h I => ?_)
  refine lv_if_eq (tgt := 15) hx hb dX0_level_4 (by decide) (fun c => ?_) (fun c => ?_)
  · have h := h.1 c
    refine lv_bipush (v := -2) hx hb dX0_level_15 (by decide) ?_
    exact t0_level_b17 C hQ (-2) M _ _ _ h I (lv_sub hl [0] rfl)
  · have h := h.2 c
    refine lv_aload_n hx hb dX0_level_7 rfl (lv_at hl 0 rfl) ?_
    refine lv_iload_n hx hb dX0_level_8 rfl (lv_at hl 1 rfl) ?_
    refine x_calli (As := [.int v1]) (rest := []) C I (fun ra => met0_levelOf l D T ad ra v1 M h) (cw0_325 hts ⟨Nat.le_of_ble_eq_true rfl, Nat.le_of_ble_eq_true rfl⟩) rfl hl.1 rfl (Nat.le_of_ble_eq_true rfl) ⟨Nat.zero_le _, Nat.zero_le _⟩ dX0_level_9 (fun r2 M3 H locs h I => ?_)
    refine lv_goto (tgt := 17) hx hb dX0_level_12 (by decide) ?_
    exact t0_level_b17 C hQ r2 M3 _ _ _ h I (lv_sub hl [0] rfl)
theorem met0_level (l : Launch) (D : va_G) (T ad ra : Nat → Nat) (v1 : Int32) (M : Mem) {Qp : Int32 → Mem → Prop} (h : w0_level v1 M Qp) (sz : Nat) : Met l yX0_level (ws_ yX0_level cX0_level 2 (some .int)) rX0_level (xPc D T ad ra 0 [.int v1] M sz) (xQi D T ad ra M Qp sz) 0 0 (fA (cX T ad ra M) sz) :=
  x_metI (own := RX0) (As := [.int v1]) rfl rfl (Nat.le_of_ble_eq_true rfl) (fun p e s m args below meth c A Qs ls C hQ I hl => t0_level C hQ v1 M _ _ ls h I hl) sz
/-! seen -/
abbrev rX0_seen : Room := { frames := 2, cells := 0, slots := 0, locals := 42 }
theorem t0_seen_b24 {p : Program} {l : Launch} {e : Env} {s : State} {m : MethodId} {args : Array Value} {below : List Frame} {meth : Method} {c : Code} {D : va_G} {T ad : Nat → Nat} {A : Nat → Prop} {H0 : Heap} {Qs : State → Prop} {Q : Int32 → Mem → Prop}  (C : XC D T RX0 p m c cX0_seen 4 s args) (hQ : xExi p l e rX0_seen s m args below meth c cX0_seen D T ad A H0 Qs Q)   (M : Mem) (H : Heap) (locs : List Loc) (ls : Array Slot) (h : w0_seen_b24 Q M) (I : XI D T ad A H0 M H locs) (hl : lv_has ls 4 [(0, .ref (ad 0))]) : W p l e rX0_seen s m args below meth c H locs 0 0 Qs (F0 m 24 ls []) := by
  have hx := C.1.1
  have hb := C.1.2.1
  have how := C.1.2.2.2.1
  have hts := C.1.2.2.2.2
  unfold w0_seen_b24 at h
  refine lv_bipush (v := -2) hx hb dX0_seen_24 (by decide) ?_
  exact hQ _ _ _ _ _ _ h I dX0_seen_26
theorem t0_seen {p : Program} {l : Launch} {e : Env} {s : State} {m : MethodId} {args : Array Value} {below : List Frame} {meth : Method} {c : Code} {D : va_G} {T ad : Nat → Nat} {A : Nat → Prop} {H0 : Heap} {Qs : State → Prop} {Q : Int32 → Mem → Prop} (C : XC D T RX0 p m c cX0_seen 4 s args) (hQ : xExi p l e rX0_seen s m args below meth c cX0_seen D T ad A H0 Qs Q) (v1 : Int32) (v2 : Int32) (v3 : Int32) (M : Mem) (H : Heap) (locs : List Loc) (ls : Array Slot) (h : w0_seen v1 v2 v3 M Q) (I : XI D T ad A H0 M H locs) (hl : lv_has ls 4 [(0, .ref (ad 0)), (1, .int v1), (2, .int v2), (3, .int v3)]) : W p l e rX0_seen s m args below meth c H locs 0 0 Qs (F0 m 0 ls []) := by
  have hx := C.1.1
  have hb := C.1.2.1
  have how := C.1.2.2.2.1
  have hts := C.1.2.2.2.2
  unfold w0_seen at h
  refine lv_iload_n hx hb dX0_seen_0 rfl (lv_at hl 1 rfl) ?_
  refine x_purei (As := [.int v1]) (rest := []) C I (met0_isHour l v1 h) (cw0_138 hts ⟨Nat.le_of_ble_eq_true rfl, Nat.le_of_ble_eq_true rfl⟩) rfl hl.1 rfl (Nat.le_of_ble_eq_true rfl) ⟨Nat.zero_le _, Nat.zero_le _⟩ dX0_seen_1 (fun r1 H locs h I => ?_)
  refine lv_if_eq (tgt := 24) hx hb dX0_seen_4 (by decide) (fun c => ?_) (fun c => ?_)
  · have h := h.1 c
    exact t0_seen_b24 C hQ M _ _ _ h I (lv_sub hl [0] rfl)
  · have h := h.2 c
    refine lv_iload_n hx hb dX0_seen_7 rfl (lv_at hl 2 rfl) ?_
    refine x_purei (As := [.int v2]) (rest := []) C I (met0_isEight l v2 h) (cw0_132 hts ⟨Nat.le_of_ble_eq_true rfl, Nat.le_of_ble_eq_true rfl⟩) rfl hl.1 rfl (Nat.le_of_ble_eq_true rfl) ⟨Nat.zero_le _, Nat.zero_le _⟩ dX0_seen_8 (fun r2 H locs h I => ?_)
    refine lv_if_eq (tgt := 24) hx hb dX0_seen_11 (by decide) (fun c => ?_) (fun c => ?_)
    · have h := h.1 c
      exact t0_seen_b24 C hQ M _ _ _ h I (lv_sub hl [0] rfl)
    · have h := h.2 c
      refine lv_iload_n hx hb dX0_seen_14 rfl (lv_at hl 3 rfl) ?_
      refine lv_iconst (v := 0) hx hb dX0_seen_15 (by decide) ?_
      refine lv_bipush (v := 8) hx hb dX0_seen_16 (by decide) ?_
      refine x_purei (As := [.int v3, .int 0, .int 8]) (rest := []) C I (met0_in l v3 0 8 h) (cw0_5 hts ⟨Nat.le_of_ble_eq_true rfl, Nat.le_of_ble_eq_true rfl⟩) rfl hl.1 rfl (Nat.le_of_ble_eq_true rfl) ⟨Nat.zero_le _, Nat.zero_le _⟩ dX0_seen_18 (fun r3 H locs h I => ?_)
      refine lv_if_ne (tgt := 27) hx hb dX0_seen_21 (by decide) (fun c => ?_) (fun c => ?_)
      · have h := h.2 c
        refine lv_aload_n hx hb dX0_seen_27 rfl (lv_at hl 0 rfl) ?_
        refine xg_sights C I dX0_seen_28 ?_
        refine lv_bipush (v := 8) hx hb dX0_seen_31 (by decide) ?_
        refine lv_icmp_ne (tgt := 39) hx hb dX0_seen_33 (by decide) (fun c => ?_) (fun c => ?_)
        · have h := h.2 c
          refine lv_aload_n hx hb dX0_seen_39 rfl (lv_at hl 0 rfl) ?_
          refine xg_seenHour C I dX0_seen_40 ?_
          refine lv_aload_n hx hb dX0_seen_43 rfl (lv_at hl 0 rfl) ?_
          refine xg_sights C I dX0_seen_44 ?_
          refine lv_iload_n hx hb dX0_seen_47 rfl (lv_at hl 1 rfl) ?_
          obtain ⟨hg4, h⟩ := h
          refine x_iast C I 19 8 rfl hg4 dX0_seen_48 (fun M5 H locs eM5 I => ?_)
          have h := h M5 eM5
          refine lv_aload_n hx hb dX0_seen_49 rfl (lv_at hl 0 rfl) ?_
          refine xg_seenWho C I dX0_seen_50 ?_
          refine lv_aload_n hx hb dX0_seen_53 rfl (lv_at hl 0 rfl) ?_
          refine xg_sights C I dX0_seen_54 ?_
          refine lv_iload_n hx hb dX0_seen_57 rfl (lv_at hl 2 rfl) ?_
          obtain ⟨hg6, h⟩ := h
          refine x_iast C I 20 8 rfl hg6 dX0_seen_58 (fun M7 H locs eM7 I => ?_)
          have h := h M7 eM7
          refine lv_aload_n hx hb dX0_seen_59 rfl (lv_at hl 0 rfl) ?_
          refine xg_seenPlace C I dX0_seen_60 ?_
          refine lv_aload_n hx hb dX0_seen_63 rfl (lv_at hl 0 rfl) ?_
          refine xg_sights C I dX0_seen_64 ?_
          refine lv_iload_n hx hb dX0_seen_67 rfl (lv_at hl 3 rfl) ?_
          obtain ⟨hg8, h⟩ := h
          refine x_iast C I 21 8 rfl hg8 dX0_seen_68 (fun M9 H locs eM9 I => ?_)
          have h := h M9 eM9
          refine lv_aload_n hx hb dX0_seen_69 rfl (lv_at hl 0 rfl) ?_
          refine lv_dup hx hb dX0_seen_70 rfl ?_
          refine xg_sights C I dX0_seen_71 ?_
          refine lv_iconst (v := 1) hx hb dX0_seen_74 (by decide) ?_
          refine lv_iadd hx hb dX0_seen_75 ?_
          refine xp_sights C I dX0_seen_76 (fun M10 H locs eM10 I => ?_)
          have h := h M10 eM10
          refine lv_aload_n hx hb dX0_seen_79 rfl (lv_at hl 0 rfl) ?_
          refine xg_sights C I dX0_seen_80 ?_
          exact hQ _ _ _ _ _ _ h I dX0_seen_83
        · have h := h.1 c
          refine lv_bipush (v := -4) hx hb dX0_seen_36 (by decide) ?_
          exact hQ _ _ _ _ _ _ h I dX0_seen_38
      · have h := h.1 c
        exact t0_seen_b24 C hQ M _ _ _ h I (lv_sub hl [0] rfl)
theorem met0_seen (l : Launch) (D : va_G) (T ad ra : Nat → Nat) (v1 : Int32) (v2 : Int32) (v3 : Int32) (M : Mem) {Qp : Int32 → Mem → Prop} (h : w0_seen v1 v2 v3 M Qp) (sz : Nat) : Met l yX0_seen (ws_ yX0_seen cX0_seen 4 (some .int)) rX0_seen (xPc D T ad ra 0 [.int v1, .int v2, .int v3] M sz) (xQi D T ad ra M Qp sz) 0 0 (fA (cX T ad ra M) sz) :=
  x_metI (own := RX0) (As := [.int v1, .int v2, .int v3]) rfl rfl (Nat.le_of_ble_eq_true rfl) (fun p e s m args below meth c A Qs ls C hQ I hl => t0_seen C hQ v1 v2 v3 M _ _ ls h I hl) sz
/-! forget -/
abbrev rX0_forget : Room := { frames := 0, cells := 0, slots := 0, locals := 0 }
theorem t0_forget {p : Program} {l : Launch} {e : Env} {s : State} {m : MethodId} {args : Array Value} {below : List Frame} {meth : Method} {c : Code} {D : va_G} {T ad : Nat → Nat} {A : Nat → Prop} {H0 : Heap} {Qs : State → Prop} {Q : Int32 → Mem → Prop} (C : XC D T RX0 p m c cX0_forget 2 s args) (hQ : xExi p l e rX0_forget s m args below meth c cX0_forget D T ad A H0 Qs Q)  (M : Mem) (H : Heap) (locs : List Loc) (ls : Array Slot) (h : w0_forget M Q) (I : XI D T ad A H0 M H locs) (hl : lv_has ls 2 [(0, .ref (ad 0))]) : W p l e rX0_forget s m args below meth c H locs 0 0 Qs (F0 m 0 ls []) := by
  have hx := C.1.1
  have hb := C.1.2.1
  have how := C.1.2.2.2.1
  have hts := C.1.2.2.2.2
  unfold w0_forget at h
  refine lv_aload_n hx hb dX0_forget_0 rfl (lv_at hl 0 rfl) ?_
  refine xg_sights C I dX0_forget_1 ?_
  refine lv_istore_n (lv' := [(1, .int (M 0 23)), (0, .ref (ad 0))]) hx hb dX0_forget_4 rfl hl (by decide) rfl (fun ls hl => ?_)
  refine lv_aload_n hx hb dX0_forget_5 rfl (lv_at hl 1 rfl) ?_
  refine lv_iconst (v := 0) hx hb dX0_forget_6 (by decide) ?_
  refine xp_sights C I dX0_forget_7 (fun M1 H locs eM1 I => ?_)
  have h := h M1 eM1
  refine lv_iload_n hx hb dX0_forget_10 rfl (lv_at hl 0 rfl) ?_
  exact hQ _ _ _ _ _ _ h I dX0_forget_11
theorem met0_forget (l : Launch) (D : va_G) (T ad ra : Nat → Nat)  (M : Mem) {Qp : Int32 → Mem → Prop} (h : w0_forget M Qp) (sz : Nat) : Met l yX0_forget (ws_ yX0_forget cX0_forget 2 (some .int)) rX0_forget (xPc D T ad ra 0 [] M sz) (xQi D T ad ra M Qp sz) 0 0 (fA (cX T ad ra M) sz) :=
  x_metI (own := RX0) (As := []) rfl rfl (Nat.le_of_ble_eq_true rfl) (fun p e s m args below meth c A Qs ls C hQ I hl => t0_forget C hQ M _ _ ls h I hl) sz
/-! fits -/
abbrev rX0_fits : Room := { frames := 6, cells := 0, slots := 0, locals := 134 }
theorem t0_fits_b91 {p : Program} {l : Launch} {e : Env} {s : State} {m : MethodId} {args : Array Value} {below : List Frame} {meth : Method} {c : Code} {D : va_G} {T ad : Nat → Nat} {A : Nat → Prop} {H0 : Heap} {Qs : State → Prop} {Q : Int32 → Mem → Prop}  (C : XC D T RX0 p m c cX0_fits 4 s args) (hQ : xExi p l e rX0_fits s m args below meth c cX0_fits D T ad A H0 Qs Q)  (v1 : Int32) (M : Mem) (H : Heap) (locs : List Loc) (ls : Array Slot) (h : w0_fits_b91 Q v1 M) (I : XI D T ad A H0 M H locs) (hl : lv_has ls 4 [(0, .ref (ad 0)), (1, .int v1)]) : W p l e rX0_fits s m args below meth c H locs 0 0 Qs (F0 m 91 ls []) := by
  have hx := C.1.1
  have hb := C.1.2.1
  have how := C.1.2.2.2.1
  have hts := C.1.2.2.2.2
  unfold w0_fits_b91 at h
  refine lv_iload_n hx hb dX0_fits_91 rfl (lv_at hl 1 rfl) ?_
  exact hQ _ _ _ _ _ _ h I dX0_fits_92
theorem t0_fits_b84 {p : Program} {l : Launch} {e : Env} {s : State} {m : MethodId} {args : Array Value} {below : List Frame} {meth : Method} {c : Code} {D : va_G} {T ad : Nat → Nat} {A : Nat → Prop} {H0 : Heap} {Qs : State → Prop} {Q : Int32 → Mem → Prop} {K10 : Int32 → Int32 → Mem → Prop} (C : XC D T RX0 p m c cX0_fits 4 s args) (hQ : xExi p l e rX0_fits s m args below meth c cX0_fits D T ad A H0 Qs Q) (hK10 : ∀ (v1 : Int32) (v2 : Int32) (M : Mem) (H : Heap) (locs : List Loc) (ls : Array Slot), K10 v1 v2 M → XI D T ad A H0 M H locs → lv_has ls 4 [(0, .ref (ad 0)), (1, .int v1), (2, .int v2)] → W p l e rX0_fits s m args below meth c H locs 0 0 Qs (F0 m 10 ls [])) (v2 : Int32) (s0 : Int32) (M : Mem) (H : Heap) (locs : List Loc) (ls : Array Slot) (h : w0_fits_b84 Q K10 v2 s0 M) (I : XI D T ad A H0 M H locs) (hl : lv_has ls 4 [(0, .ref (ad 0)), (2, .int v2)]) : W p l e rX0_fits s m args below meth c H locs 0 0 Qs (F0 m 84 ls [.int s0]) := by
  have hx := C.1.1
  have hb := C.1.2.1
  have how := C.1.2.2.2.1
  have hts := C.1.2.2.2.2
  unfold w0_fits_b84 at h
  refine lv_istore_n (lv' := [(1, .int s0), (0, .ref (ad 0)), (2, .int v2)]) hx hb dX0_fits_84 rfl hl (by decide) rfl (fun ls hl => ?_)
  refine lv_iinc (v := (v2 + 1)) (lv' := [(2, .int (v2 + 1)), (1, .int s0), (0, .ref (ad 0))]) hx hb dX0_fits_85 hl (k := 2) rfl (ii_1 _) (by decide) rfl (fun ls hl => ?_)
  refine lv_goto (tgt := 10) hx hb dX0_fits_88 (by decide) ?_
  exact hK10 s0 (v2 + 1) M _ _ _ h I (lv_sub hl [2, 1, 0] rfl)
theorem t0_fits_b83 {p : Program} {l : Launch} {e : Env} {s : State} {m : MethodId} {args : Array Value} {below : List Frame} {meth : Method} {c : Code} {D : va_G} {T ad : Nat → Nat} {A : Nat → Prop} {H0 : Heap} {Qs : State → Prop} {Q : Int32 → Mem → Prop} {K10 : Int32 → Int32 → Mem → Prop} (C : XC D T RX0 p m c cX0_fits 4 s args) (hQ : xExi p l e rX0_fits s m args below meth c cX0_fits D T ad A H0 Qs Q) (hK10 : ∀ (v1 : Int32) (v2 : Int32) (M : Mem) (H : Heap) (locs : List Loc) (ls : Array Slot), K10 v1 v2 M → XI D T ad A H0 M H locs → lv_has ls 4 [(0, .ref (ad 0)), (1, .int v1), (2, .int v2)] → W p l e rX0_fits s m args below meth c H locs 0 0 Qs (F0 m 10 ls [])) (v2 : Int32) (M : Mem) (H : Heap) (locs : List Loc) (ls : Array Slot) (h : w0_fits_b83 Q K10 v2 M) (I : XI D T ad A H0 M H locs) (hl : lv_has ls 4 [(0, .ref (ad 0)), (2, .int v2)]) : W p l e rX0_fits s m args below meth c H locs 0 0 Qs (F0 m 83 ls []) := by
  have hx := C.1.1
  have hb := C.1.2.1
  have how := C.1.2.2.2.1
  have hts := C.1.2.2.2.2
  unfold w0_fits_b83 at h
  refine lv_iconst (v := 0) hx hb dX0_fits_83 (by decide) ?_
  exact t0_fits_b84 C hQ hK10 v2 0 M _ _ _ h I (lv_sub hl [0, 1] rfl)
theorem t0_fits_b43 {p : Program} {l : Launch} {e : Env} {s : State} {m : MethodId} {args : Array Value} {below : List Frame} {meth : Method} {c : Code} {D : va_G} {T ad : Nat → Nat} {A : Nat → Prop} {H0 : Heap} {Qs : State → Prop} {Q : Int32 → Mem → Prop} {K10 : Int32 → Int32 → Mem → Prop} (C : XC D T RX0 p m c cX0_fits 4 s args) (hQ : xExi p l e rX0_fits s m args below meth c cX0_fits D T ad A H0 Qs Q) (hK10 : ∀ (v1 : Int32) (v2 : Int32) (M : Mem) (H : Heap) (locs : List Loc) (ls : Array Slot), K10 v1 v2 M → XI D T ad A H0 M H locs → lv_has ls 4 [(0, .ref (ad 0)), (1, .int v1), (2, .int v2)] → W p l e rX0_fits s m args below meth c H locs 0 0 Qs (F0 m 10 ls [])) (v2 : Int32) (s0 : Int32) (M : Mem) (H : Heap) (locs : List Loc) (ls : Array Slot) (h : w0_fits_b43 Q K10 v2 s0 M) (I : XI D T ad A H0 M H locs) (hl : lv_has ls 4 [(0, .ref (ad 0)), (2, .int v2)]) : W p l e rX0_fits s m args below meth c H locs 0 0 Qs (F0 m 43 ls [.int s0]) := by
  have hx := C.1.1
  have hb := C.1.2.1
  have how := C.1.2.2.2.1
  have hts := C.1.2.2.2.2
  unfold w0_fits_b43 at h
  refine lv_istore_n (lv' := [(3, .int s0), (0, .ref (ad 0)), (2, .int v2)]) hx hb dX0_fits_43 rfl hl (by decide) rfl (fun ls hl => ?_)
  refine lv_aload_n hx hb dX0_fits_44 rfl (lv_at hl 1 rfl) ?_
  refine xg_seenWho C I dX0_fits_45 ?_
  refine lv_iload_n hx hb dX0_fits_48 rfl (lv_at hl 2 rfl) ?_
  obtain ⟨hg1, h⟩ := h
  refine x_iald C I 20 8 rfl hg1 dX0_fits_49 ?_
  refine lv_aload_n hx hb dX0_fits_50 rfl (lv_at hl 1 rfl) ?_
  refine xg_carters C I dX0_fits_51 ?_
  refine lv_icmp_ge (tgt := 83) hx hb dX0_fits_54 (by decide) (fun c => ?_) (fun c => ?_)
  · have h := h.1 c
    exact t0_fits_b83 C hQ hK10 v2 M _ _ _ h I (lv_sub hl [1, 2] rfl)
  · have h := h.2 c
    refine lv_aload_n hx hb dX0_fits_57 rfl (lv_at hl 1 rfl) ?_
    refine xg_placeAt C I dX0_fits_58 ?_
    refine lv_aload_n hx hb dX0_fits_61 rfl (lv_at hl 1 rfl) ?_
    refine xg_seenHour C I dX0_fits_62 ?_
    refine lv_iload_n hx hb dX0_fits_65 rfl (lv_at hl 2 rfl) ?_
    refine x_iald C I 19 8 rfl hg1 dX0_fits_66 ?_
    obtain ⟨hg2, h⟩ := h
    refine xa_placeAt C I hg2 dX0_fits_67 ?_
    refine lv_aload_n hx hb dX0_fits_68 rfl (lv_at hl 1 rfl) ?_
    refine xg_seenWho C I dX0_fits_69 ?_
    refine lv_iload_n hx hb dX0_fits_72 rfl (lv_at hl 2 rfl) ?_
    refine x_iald C I 20 8 rfl hg1 dX0_fits_73 ?_
    obtain ⟨hg3, h⟩ := h
    refine x_iald C I (60 + ci (M 19 (ci v2))) (lenX (60 + ci (M 19 (ci v2)))) rfl hg3 dX0_fits_74 ?_
    refine lv_iload_n hx hb dX0_fits_75 rfl (lv_at hl 0 rfl) ?_
    refine lv_icmp_ne (tgt := 83) hx hb dX0_fits_76 (by decide) (fun c => ?_) (fun c => ?_)
    · have h := h.2 c
      exact t0_fits_b83 C hQ hK10 v2 M _ _ _ h I (lv_sub hl [1, 2] rfl)
    · have h := h.1 c
      refine lv_iconst (v := 1) hx hb dX0_fits_79 (by decide) ?_
      refine lv_goto (tgt := 84) hx hb dX0_fits_80 (by decide) ?_
      exact t0_fits_b84 C hQ hK10 v2 1 M _ _ _ h I (lv_sub hl [1, 2] rfl)
theorem t0_fits_b10_f {p : Program} {l : Launch} {e : Env} {s : State} {m : MethodId} {args : Array Value} {below : List Frame} {meth : Method} {c : Code} {D : va_G} {T ad : Nat → Nat} {A : Nat → Prop} {H0 : Heap} {Qs : State → Prop} {Q : Int32 → Mem → Prop} {K10 : Int32 → Int32 → Mem → Prop} (C : XC D T RX0 p m c cX0_fits 4 s args) (hQ : xExi p l e rX0_fits s m args below meth c cX0_fits D T ad A H0 Qs Q) (hK10 : ∀ (v1 : Int32) (v2 : Int32) (M : Mem) (H : Heap) (locs : List Loc) (ls : Array Slot), K10 v1 v2 M → XI D T ad A H0 M H locs → lv_has ls 4 [(0, .ref (ad 0)), (1, .int v1), (2, .int v2)] → W p l e rX0_fits s m args below meth c H locs 0 0 Qs (F0 m 10 ls [])) (v1 : Int32) (v2 : Int32) (M : Mem) (H : Heap) (locs : List Loc) (ls : Array Slot) (h : w0_fits_b10_f Q K10 v1 v2 M) (I : XI D T ad A H0 M H locs) (hl : lv_has ls 4 [(0, .ref (ad 0)), (1, .int v1), (2, .int v2)]) : W p l e rX0_fits s m args below meth c H locs 0 0 Qs (F0 m 10 ls []) := by
  have hx := C.1.1
  have hb := C.1.2.1
  have how := C.1.2.2.2.1
  have hts := C.1.2.2.2.2
  unfold w0_fits_b10_f at h
  refine lv_iload_n hx hb dX0_fits_10 rfl (lv_at hl 2 rfl) ?_
  refine lv_aload_n hx hb dX0_fits_11 rfl (lv_at hl 0 rfl) ?_
  refine xg_sights C I dX0_fits_12 ?_
  refine lv_icmp_ge (tgt := 91) hx hb dX0_fits_15 (by decide) (fun c => ?_) (fun c => ?_)
  · have h := h.1 c
    exact t0_fits_b91 C hQ v1 M _ _ _ h I (lv_sub hl [0, 1] rfl)
  · have h := h.2 c
    refine lv_iload_n hx hb dX0_fits_18 rfl (lv_at hl 1 rfl) ?_
    refine lv_if_eq (tgt := 91) hx hb dX0_fits_19 (by decide) (fun c => ?_) (fun c => ?_)
    · have h := h.1 c
      exact t0_fits_b91 C hQ v1 M _ _ _ h I (lv_sub hl [0, 1] rfl)
    · have h := h.2 c
      refine lv_aload_n hx hb dX0_fits_22 rfl (lv_at hl 0 rfl) ?_
      refine xg_seenPlace C I dX0_fits_23 ?_
      refine lv_iload_n hx hb dX0_fits_26 rfl (lv_at hl 2 rfl) ?_
      obtain ⟨hg4, h⟩ := h
      refine x_iald C I 21 8 rfl hg4 dX0_fits_27 ?_
      refine lv_bipush (v := 8) hx hb dX0_fits_28 (by decide) ?_
      refine lv_icmp_ne (tgt := 37) hx hb dX0_fits_30 (by decide) (fun c => ?_) (fun c => ?_)
      · have h := h.2 c
        refine lv_aload_n hx hb dX0_fits_37 rfl (lv_at hl 0 rfl) ?_
        refine xg_seenPlace C I dX0_fits_38 ?_
        refine lv_iload_n hx hb dX0_fits_41 rfl (lv_at hl 2 rfl) ?_
        refine x_iald C I 21 8 rfl hg4 dX0_fits_42 ?_
        exact t0_fits_b43 C hQ hK10 v2 (M 21 (ci v2)) M _ _ _ h I (lv_sub hl [0, 2] rfl)
      · have h := h.1 c
        refine lv_iconst (v := -1) hx hb dX0_fits_33 (by decide) ?_
        refine lv_goto (tgt := 43) hx hb dX0_fits_34 (by decide) ?_
        exact t0_fits_b43 C hQ hK10 v2 (-1) M _ _ _ h I (lv_sub hl [0, 2] rfl)
theorem t0_fits_b10 {p : Program} {l : Launch} {e : Env} {s : State} {m : MethodId} {args : Array Value} {below : List Frame} {meth : Method} {c : Code} {D : va_G} {T ad : Nat → Nat} {A : Nat → Prop} {H0 : Heap} {Qs : State → Prop} {Q : Int32 → Mem → Prop}  (C : XC D T RX0 p m c cX0_fits 4 s args) (hQ : xExi p l e rX0_fits s m args below meth c cX0_fits D T ad A H0 Qs Q)  : ∀ (n : Nat) (v1 : Int32) (v2 : Int32) (M : Mem) (H : Heap) (locs : List Loc) (ls : Array Slot), w0_fits_b10 Q n v1 v2 M → XI D T ad A H0 M H locs → lv_has ls 4 [(0, .ref (ad 0)), (1, .int v1), (2, .int v2)] → W p l e rX0_fits s m args below meth c H locs 0 0 Qs (F0 m 10 ls []) := by
  intro n
  induction n with
  | zero => intro v1 v2 M H locs ls h; exact h.elim
  | succ n ih => intro v1 v2 M H locs ls h I hl; exact t0_fits_b10_f C hQ  ih v1 v2 M H locs ls h I hl
theorem t0_fits {p : Program} {l : Launch} {e : Env} {s : State} {m : MethodId} {args : Array Value} {below : List Frame} {meth : Method} {c : Code} {D : va_G} {T ad : Nat → Nat} {A : Nat → Prop} {H0 : Heap} {Qs : State → Prop} {Q : Int32 → Mem → Prop} (C : XC D T RX0 p m c cX0_fits 4 s args) (hQ : xExi p l e rX0_fits s m args below meth c cX0_fits D T ad A H0 Qs Q)  (M : Mem) (H : Heap) (locs : List Loc) (ls : Array Slot) (h : w0_fits_z M Q) (I : XI D T ad A H0 M H locs) (hl : lv_has ls 4 [(0, .ref (ad 0))]) : W p l e rX0_fits s m args below meth c H locs 0 0 Qs (F0 m 0 ls []) := by
  have hx := C.1.1
  have hb := C.1.2.1
  have how := C.1.2.2.2.1
  have hts := C.1.2.2.2.2
  unfold w0_fits_z at h
  refine lv_iconst (v := 1) hx hb dX0_fits_0 (by decide) ?_
  refine lv_istore_n (lv' := [(1, .int 1), (0, .ref (ad 0))]) hx hb dX0_fits_1 rfl hl (by decide) rfl (fun ls hl => ?_)
  refine lv_aload_n hx hb dX0_fits_2 rfl (lv_at hl 1 rfl) ?_
  refine lv_bipush (v := 39) hx hb dX0_fits_3 (by decide) ?_
  refine x_callv (As := [.int 39]) (rest := []) C I (fun ra => met0_runs l D T ad ra 39 M h) (cw0_276 hts ⟨Nat.le_of_ble_eq_true rfl, Nat.le_of_ble_eq_true rfl⟩) rfl hl.1 rfl (Nat.le_of_ble_eq_true rfl) ⟨Nat.zero_le _, Nat.zero_le _⟩ dX0_fits_5 (fun M5 H locs h I => ?_)
  refine lv_iconst (v := 0) hx hb dX0_fits_8 (by decide) ?_
  refine lv_istore_n (lv' := [(2, .int 0), (1, .int 1), (0, .ref (ad 0))]) hx hb dX0_fits_9 rfl hl (by decide) rfl (fun ls hl => ?_)
  obtain ⟨n, h⟩ := h
  exact t0_fits_b10 C hQ n 1 0 M5 _ _ _ h I (lv_sub hl [2, 1, 0] rfl)
theorem met0_fits (l : Launch) (D : va_G) (T ad ra : Nat → Nat)  (M : Mem) {Qp : Int32 → Mem → Prop} (h : w0_fits M Qp) (sz : Nat) : Met l yX0_fits (ws_ yX0_fits cX0_fits 4 (some .boolean)) rX0_fits (xPc D T ad ra 0 [] M sz) (xQi D T ad ra M Qp sz) 0 0 (fA (cX T ad ra M) sz) :=
  x_metZ (own := RX0) (As := []) rfl rfl (Nat.le_of_ble_eq_true rfl) (fun p e s m args below meth c A Qs ls C hQ I hl => t0_fits C hQ M _ _ ls h I hl) sz
/-! neverNow -/
abbrev rX0_neverNow : Room := { frames := 8, cells := 0, slots := 0, locals := 177 }
theorem cw0_340 {R : Room} {s : State} {args : Array Value} (hts : ∀ w ∈ lw_all, w.before args s = true) (hR : rX0_fits.frames + 1 ≤ R.frames ∧ 8 + (4 + 11) + rX0_fits.locals ≤ R.locals) : CallW R s args RX0 RX0 340 yX0_fits cX0_fits 4 (some .boolean) (ws_ yX0_fits cX0_fits 4 (some .boolean)) rX0_fits 0 0 0 := cwV 0 hts (lw_V q456 q458 qs39 q89 q459) rfl rfl rfl (by decide +kernel) hR
theorem t0_neverNow_b38 {p : Program} {l : Launch} {e : Env} {s : State} {m : MethodId} {args : Array Value} {below : List Frame} {meth : Method} {c : Code} {D : va_G} {T ad : Nat → Nat} {A : Nat → Prop} {H0 : Heap} {Qs : State → Prop} {Q : Int32 → Mem → Prop} {K8 : Int32 → Int32 → Mem → Prop} (C : XC D T RX0 p m c cX0_neverNow 3 s args) (hQ : xExi p l e rX0_neverNow s m args below meth c cX0_neverNow D T ad A H0 Qs Q) (hK8 : ∀ (v1 : Int32) (v2 : Int32) (M : Mem) (H : Heap) (locs : List Loc) (ls : Array Slot), K8 v1 v2 M → XI D T ad A H0 M H locs → lv_has ls 3 [(0, .ref (ad 0)), (1, .int v1), (2, .int v2)] → W p l e rX0_neverNow s m args below meth c H locs 0 0 Qs (F0 m 8 ls [])) (v2 : Int32) (s0 : Int32) (s1 : Int32) (M : Mem) (H : Heap) (locs : List Loc) (ls : Array Slot) (h : w0_neverNow_b38 Q K8 v2 s0 s1 M) (I : XI D T ad A H0 M H locs) (hl : lv_has ls 3 [(0, .ref (ad 0)), (2, .int v2)]) : W p l e rX0_neverNow s m args below meth c H locs 0 0 Qs (F0 m 38 ls [.int s1, .int s0]) := by
  have hx := C.1.1
  have hb := C.1.2.1
  have how := C.1.2.2.2.1
  have hts := C.1.2.2.2.2
  unfold w0_neverNow_b38 at h
  refine lv_ior hx hb dX0_neverNow_38 ?_
  refine lv_istore_n (lv' := [(1, .int (s0 ||| s1)), (0, .ref (ad 0)), (2, .int v2)]) hx hb dX0_neverNow_39 rfl hl (by decide) rfl (fun ls hl => ?_)
  refine lv_iinc (v := (v2 + 1)) (lv' := [(2, .int (v2 + 1)), (1, .int (s0 ||| s1)), (0, .ref (ad 0))]) hx hb dX0_neverNow_40 hl (k := 2) rfl (ii_1 _) (by decide) rfl (fun ls hl => ?_)
  refine lv_goto (tgt := 8) hx hb dX0_neverNow_43 (by decide) ?_
  exact hK8 (s0 ||| s1) (v2 + 1) M _ _ _ h I (lv_sub hl [2, 1, 0] rfl)
theorem t0_neverNow_b8_f {p : Program} {l : Launch} {e : Env} {s : State} {m : MethodId} {args : Array Value} {below : List Frame} {meth : Method} {c : Code} {D : va_G} {T ad : Nat → Nat} {A : Nat → Prop} {H0 : Heap} {Qs : State → Prop} {Q : Int32 → Mem → Prop} {K8 : Int32 → Int32 → Mem → Prop} (C : XC D T RX0 p m c cX0_neverNow 3 s args) (hQ : xExi p l e rX0_neverNow s m args below meth c cX0_neverNow D T ad A H0 Qs Q) (hK8 : ∀ (v1 : Int32) (v2 : Int32) (M : Mem) (H : Heap) (locs : List Loc) (ls : Array Slot), K8 v1 v2 M → XI D T ad A H0 M H locs → lv_has ls 3 [(0, .ref (ad 0)), (1, .int v1), (2, .int v2)] → W p l e rX0_neverNow s m args below meth c H locs 0 0 Qs (F0 m 8 ls [])) (v1 : Int32) (v2 : Int32) (M : Mem) (H : Heap) (locs : List Loc) (ls : Array Slot) (h : w0_neverNow_b8_f Q K8 v1 v2 M) (I : XI D T ad A H0 M H locs) (hl : lv_has ls 3 [(0, .ref (ad 0)), (1, .int v1), (2, .int v2)]) : W p l e rX0_neverNow s m args below meth c H locs 0 0 Qs (F0 m 8 ls []) := by
  have hx := C.1.1
  have hb := C.1.2.1
  have how := C.1.2.2.2.1
  have hts := C.1.2.2.2.2
  unfold w0_neverNow_b8_f at h
  refine lv_iload_n hx hb dX0_neverNow_8 rfl (lv_at hl 2 rfl) ?_
  refine lv_aload_n hx hb dX0_neverNow_9 rfl (lv_at hl 0 rfl) ?_
  refine xg_answers C I dX0_neverNow_10 ?_
  refine lv_icmp_ge (tgt := 46) hx hb dX0_neverNow_13 (by decide) (fun c => ?_) (fun c => ?_)
  · have h := h.1 c
    refine lv_iload_n hx hb dX0_neverNow_46 rfl (lv_at hl 1 rfl) ?_
    exact hQ _ _ _ _ _ _ h I dX0_neverNow_47
  · have h := h.2 c
    refine lv_aload_n hx hb dX0_neverNow_16 rfl (lv_at hl 0 rfl) ?_
    refine lv_iconst (v := 1) hx hb dX0_neverNow_17 (by decide) ?_
    refine lv_iload_n hx hb dX0_neverNow_18 rfl (lv_at hl 2 rfl) ?_
    refine lv_ishl hx hb dX0_neverNow_19 ?_
    refine xp_notAnswers C I dX0_neverNow_20 (fun M1 H locs eM1 I => ?_)
    have h := h M1 eM1
    refine lv_iload_n hx hb dX0_neverNow_23 rfl (lv_at hl 1 rfl) ?_
    refine lv_aload_n hx hb dX0_neverNow_24 rfl (lv_at hl 0 rfl) ?_
    refine x_calli (As := []) (rest := [.int v1]) C I (fun ra => met0_fits l D T ad ra M1 h) (cw0_340 hts ⟨Nat.le_of_ble_eq_true rfl, Nat.le_of_ble_eq_true rfl⟩) rfl hl.1 rfl (Nat.le_of_ble_eq_true rfl) ⟨Nat.zero_le _, Nat.zero_le _⟩ dX0_neverNow_25 (fun r2 M3 H locs h I => ?_)
    refine lv_if_eq (tgt := 37) hx hb dX0_neverNow_28 (by decide) (fun c => ?_) (fun c => ?_)
    · have h := h.1 c
      refine lv_iconst (v := 0) hx hb dX0_neverNow_37 (by decide) ?_
      exact t0_neverNow_b38 C hQ hK8 v2 v1 0 M3 _ _ _ h I (lv_sub hl [0, 2] rfl)
    · have h := h.2 c
      refine lv_iconst (v := 1) hx hb dX0_neverNow_31 (by decide) ?_
      refine lv_iload_n hx hb dX0_neverNow_32 rfl (lv_at hl 2 rfl) ?_
      refine lv_ishl hx hb dX0_neverNow_33 ?_
      refine lv_goto (tgt := 38) hx hb dX0_neverNow_34 (by decide) ?_
      exact t0_neverNow_b38 C hQ hK8 v2 v1 (1 <<< (v2 &&& 31)) M3 _ _ _ h I (lv_sub hl [0, 2] rfl)
theorem t0_neverNow_b8 {p : Program} {l : Launch} {e : Env} {s : State} {m : MethodId} {args : Array Value} {below : List Frame} {meth : Method} {c : Code} {D : va_G} {T ad : Nat → Nat} {A : Nat → Prop} {H0 : Heap} {Qs : State → Prop} {Q : Int32 → Mem → Prop}  (C : XC D T RX0 p m c cX0_neverNow 3 s args) (hQ : xExi p l e rX0_neverNow s m args below meth c cX0_neverNow D T ad A H0 Qs Q)  : ∀ (n : Nat) (v1 : Int32) (v2 : Int32) (M : Mem) (H : Heap) (locs : List Loc) (ls : Array Slot), w0_neverNow_b8 Q n v1 v2 M → XI D T ad A H0 M H locs → lv_has ls 3 [(0, .ref (ad 0)), (1, .int v1), (2, .int v2)] → W p l e rX0_neverNow s m args below meth c H locs 0 0 Qs (F0 m 8 ls []) := by
  intro n
  induction n with
  | zero => intro v1 v2 M H locs ls h; exact h.elim
  | succ n ih => intro v1 v2 M H locs ls h I hl; exact t0_neverNow_b8_f C hQ  ih v1 v2 M H locs ls h I hl
theorem t0_neverNow {p : Program} {l : Launch} {e : Env} {s : State} {m : MethodId} {args : Array Value} {below : List Frame} {meth : Method} {c : Code} {D : va_G} {T ad : Nat → Nat} {A : Nat → Prop} {H0 : Heap} {Qs : State → Prop} {Q : Int32 → Mem → Prop} (C : XC D T RX0 p m c cX0_neverNow 3 s args) (hQ : xExi p l e rX0_neverNow s m args below meth c cX0_neverNow D T ad A H0 Qs Q)  (M : Mem) (H : Heap) (locs : List Loc) (ls : Array Slot) (h : w0_neverNow M Q) (I : XI D T ad A H0 M H locs) (hl : lv_has ls 3 [(0, .ref (ad 0))]) : W p l e rX0_neverNow s m args below meth c H locs 0 0 Qs (F0 m 0 ls []) := by
  have hx := C.1.1
  have hb := C.1.2.1
  have how := C.1.2.2.2.1
  have hts := C.1.2.2.2.2
  unfold w0_neverNow at h
  refine lv_aload_n hx hb dX0_neverNow_0 rfl (lv_at hl 0 rfl) ?_
  refine x_callv (As := []) (rest := []) C I (fun ra => met0_asTold l D T ad ra M h) (cw0_273 hts ⟨Nat.le_of_ble_eq_true rfl, Nat.le_of_ble_eq_true rfl⟩) rfl hl.1 rfl (Nat.le_of_ble_eq_true rfl) ⟨Nat.zero_le _, Nat.zero_le _⟩ dX0_neverNow_1 (fun M4 H locs h I => ?_)
  refine lv_iconst (v := 0) hx hb dX0_neverNow_4 (by decide) ?_
  refine lv_istore_n (lv' := [(1, .int 0), (0, .ref (ad 0))]) hx hb dX0_neverNow_5 rfl hl (by decide) rfl (fun ls hl => ?_)
  refine lv_iconst (v := 0) hx hb dX0_neverNow_6 (by decide) ?_
  refine lv_istore_n (lv' := [(2, .int 0), (1, .int 0), (0, .ref (ad 0))]) hx hb dX0_neverNow_7 rfl hl (by decide) rfl (fun ls hl => ?_)
  obtain ⟨n, h⟩ := h
  exact t0_neverNow_b8 C hQ n 0 0 M4 _ _ _ h I (lv_sub hl [2, 1, 0] rfl)
theorem met0_neverNow (l : Launch) (D : va_G) (T ad ra : Nat → Nat)  (M : Mem) {Qp : Int32 → Mem → Prop} (h : w0_neverNow M Qp) (sz : Nat) : Met l yX0_neverNow (ws_ yX0_neverNow cX0_neverNow 3 (some .int)) rX0_neverNow (xPc D T ad ra 0 [] M sz) (xQi D T ad ra M Qp sz) 0 0 (fA (cX T ad ra M) sz) :=
  x_metI (own := RX0) (As := []) rfl rfl (Nat.le_of_ble_eq_true rfl) (fun p e s m args below meth c A Qs ls C hQ I hl => t0_neverNow C hQ M _ _ ls h I hl) sz
/-! never -/
abbrev rX0_never : Room := { frames := 9, cells := 0, slots := 0, locals := 199 }
theorem cw0_344 {R : Room} {s : State} {args : Array Value} (hts : ∀ w ∈ lw_all, w.before args s = true) (hR : rX0_neverNow.frames + 1 ≤ R.frames ∧ 8 + (3 + 11) + rX0_neverNow.locals ≤ R.locals) : CallW R s args RX0 RX0 344 yX0_neverNow cX0_neverNow 3 (some .int) (ws_ yX0_neverNow cX0_neverNow 3 (some .int)) rX0_neverNow 0 0 0 := cwV 0 hts (lw_V q452 q454 qs38 q89 q455) rfl rfl rfl (by decide +kernel) hR
theorem t0_never {p : Program} {l : Launch} {e : Env} {s : State} {m : MethodId} {args : Array Value} {below : List Frame} {meth : Method} {c : Code} {D : va_G} {T ad : Nat → Nat} {A : Nat → Prop} {H0 : Heap} {Qs : State → Prop} {Q : Int32 → Mem → Prop} (C : XC D T RX0 p m c cX0_never 1 s args) (hQ : xExi p l e rX0_never s m args below meth c cX0_never D T ad A H0 Qs Q)  (M : Mem) (H : Heap) (locs : List Loc) (ls : Array Slot) (h : w0_never M Q) (I : XI D T ad A H0 M H locs) (hl : lv_has ls 1 [(0, .ref (ad 0))]) : W p l e rX0_never s m args below meth c H locs 0 0 Qs (F0 m 0 ls []) := by
  have hx := C.1.1
  have hb := C.1.2.1
  have how := C.1.2.2.2.1
  have hts := C.1.2.2.2.2
  unfold w0_never at h
  refine lv_aload_n hx hb dX0_never_0 rfl (lv_at hl 0 rfl) ?_
  refine x_calli (As := []) (rest := []) C I (fun ra => met0_neverNow l D T ad ra M h) (cw0_344 hts ⟨Nat.le_of_ble_eq_true rfl, Nat.le_of_ble_eq_true rfl⟩) rfl hl.1 rfl (Nat.le_of_ble_eq_true rfl) ⟨Nat.zero_le _, Nat.zero_le _⟩ dX0_never_1 (fun r1 M2 H locs h I => ?_)
  exact hQ _ _ _ _ _ _ h I dX0_never_4
theorem met0_never (l : Launch) (D : va_G) (T ad ra : Nat → Nat)  (M : Mem) {Qp : Int32 → Mem → Prop} (h : w0_never M Qp) (sz : Nat) : Met l yX0_never (ws_ yX0_never cX0_never 1 (some .int)) rX0_never (xPc D T ad ra 0 [] M sz) (xQi D T ad ra M Qp sz) 0 0 (fA (cX T ad ra M) sz) :=
  x_metI (own := RX0) (As := []) rfl rfl (Nat.le_of_ble_eq_true rfl) (fun p e s m args below meth c A Qs ls C hQ I hl => t0_never C hQ M _ _ ls h I hl) sz
/-! sortOf -/
abbrev rX0_sortOf : Room := { frames := 8, cells := 0, slots := 0, locals := 177 }
theorem t0_sortOf_b62_f {p : Program} {l : Launch} {e : Env} {s : State} {m : MethodId} {args : Array Value} {below : List Frame} {meth : Method} {c : Code} {D : va_G} {T ad : Nat → Nat} {A : Nat → Prop} {H0 : Heap} {Qs : State → Prop} {Q : Int32 → Mem → Prop} {K19 : Int32 → Int32 → Int32 → Int32 → Mem → Prop} {K62 : Int32 → Int32 → Int32 → Int32 → Int32 → Mem → Prop} (C : XC D T RX0 p m c cX0_sortOf 6 s args) (hQ : xExi p l e rX0_sortOf s m args below meth c cX0_sortOf D T ad A H0 Qs Q) (hK19 : ∀ (v1 : Int32) (v2 : Int32) (v3 : Int32) (v4 : Int32) (M : Mem) (H : Heap) (locs : List Loc) (ls : Array Slot), K19 v1 v2 v3 v4 M → XI D T ad A H0 M H locs → lv_has ls 6 [(0, .ref (ad 0)), (1, .int v1), (2, .ref (ad (25 + ci v2))), (3, .int v3), (4, .int v4)] → W p l e rX0_sortOf s m args below meth c H locs 0 0 Qs (F0 m 19 ls [])) (hK62 : ∀ (v1 : Int32) (v2 : Int32) (v3 : Int32) (v4 : Int32) (v5 : Int32) (M : Mem) (H : Heap) (locs : List Loc) (ls : Array Slot), K62 v1 v2 v3 v4 v5 M → XI D T ad A H0 M H locs → lv_has ls 6 [(0, .ref (ad 0)), (1, .int v1), (2, .ref (ad (25 + ci v2))), (3, .int v3), (4, .int v4), (5, .int v5)] → W p l e rX0_sortOf s m args below meth c H locs 0 0 Qs (F0 m 62 ls [])) (v1 : Int32) (v2 : Int32) (v3 : Int32) (v4 : Int32) (v5 : Int32) (M : Mem) (H : Heap) (locs : List Loc) (ls : Array Slot) (h : w0_sortOf_b62_f Q K19 K62 v1 v2 v3 v4 v5 M) (I : XI D T ad A H0 M H locs) (hl : lv_has ls 6 [(0, .ref (ad 0)), (1, .int v1), (2, .ref (ad (25 + ci v2))), (3, .int v3), (4, .int v4), (5, .int v5)]) : W p l e rX0_sortOf s m args below meth c H locs 0 0 Qs (F0 m 62 ls []) := by
  have hx := C.1.1
  have hb := C.1.2.1
  have how := C.1.2.2.2.1
  have hts := C.1.2.2.2.2
  unfold w0_sortOf_b62_f at h
  refine lv_iload hx hb dX0_sortOf_62 (lv_at hl 5 rfl) ?_
  refine lv_bipush (v := 40) hx hb dX0_sortOf_64 (by decide) ?_
  refine lv_icmp_ge (tgt := 94) hx hb dX0_sortOf_66 (by decide) (fun c => ?_) (fun c => ?_)
  · have h := h.1 c
    refine lv_iinc (v := (v4 + 1)) (lv' := [(4, .int (v4 + 1)), (0, .ref (ad 0)), (1, .int v1), (2, .ref (ad (25 + ci v2))), (3, .int v3), (5, .int v5)]) hx hb dX0_sortOf_94 hl (k := 4) rfl (ii_1 _) (by decide) rfl (fun ls hl => ?_)
    refine lv_goto (tgt := 19) hx hb dX0_sortOf_97 (by decide) ?_
    exact hK19 v1 v2 v3 (v4 + 1) M _ _ _ h I (lv_sub hl [1, 2, 3, 4, 0] rfl)
  · have h := h.2 c
    refine lv_aload_n hx hb dX0_sortOf_69 rfl (lv_at hl 0 rfl) ?_
    refine xg_placeBy C I dX0_sortOf_70 ?_
    refine lv_iload hx hb dX0_sortOf_73 (lv_at hl 4 rfl) ?_
    obtain ⟨hg1, h⟩ := h
    refine xa_placeBy C I hg1 dX0_sortOf_75 ?_
    refine lv_iload hx hb dX0_sortOf_76 (lv_at hl 5 rfl) ?_
    refine lv_aload_n hx hb dX0_sortOf_78 rfl (lv_at hl 0 rfl) ?_
    refine xg_placeAt C I dX0_sortOf_79 ?_
    refine lv_iload hx hb dX0_sortOf_82 (lv_at hl 5 rfl) ?_
    obtain ⟨hg2, h⟩ := h
    refine xa_placeAt C I hg2 dX0_sortOf_84 ?_
    refine lv_iload_n hx hb dX0_sortOf_85 rfl (lv_at hl 1 rfl) ?_
    obtain ⟨hg3, h⟩ := h
    refine x_iald C I (60 + ci v5) (lenX (60 + ci v5)) rfl hg3 dX0_sortOf_86 ?_
    obtain ⟨hg4, h⟩ := h
    refine x_iast C I (100 + ci v4) (lenX (100 + ci v4)) rfl hg4 dX0_sortOf_87 (fun M5 H locs eM5 I => ?_)
    have h := h M5 eM5
    refine lv_iinc (v := (v5 + 1)) (lv' := [(5, .int (v5 + 1)), (0, .ref (ad 0)), (1, .int v1), (2, .ref (ad (25 + ci v2))), (3, .int v3), (4, .int v4)]) hx hb dX0_sortOf_88 hl (k := 5) rfl (ii_1 _) (by decide) rfl (fun ls hl => ?_)
    refine lv_goto (tgt := 62) hx hb dX0_sortOf_91 (by decide) ?_
    exact hK62 v1 v2 v3 v4 (v5 + 1) M5 _ _ _ h I (lv_sub hl [1, 2, 3, 4, 5, 0] rfl)
theorem t0_sortOf_b62 {p : Program} {l : Launch} {e : Env} {s : State} {m : MethodId} {args : Array Value} {below : List Frame} {meth : Method} {c : Code} {D : va_G} {T ad : Nat → Nat} {A : Nat → Prop} {H0 : Heap} {Qs : State → Prop} {Q : Int32 → Mem → Prop} {K19 : Int32 → Int32 → Int32 → Int32 → Mem → Prop} (C : XC D T RX0 p m c cX0_sortOf 6 s args) (hQ : xExi p l e rX0_sortOf s m args below meth c cX0_sortOf D T ad A H0 Qs Q) (hK19 : ∀ (v1 : Int32) (v2 : Int32) (v3 : Int32) (v4 : Int32) (M : Mem) (H : Heap) (locs : List Loc) (ls : Array Slot), K19 v1 v2 v3 v4 M → XI D T ad A H0 M H locs → lv_has ls 6 [(0, .ref (ad 0)), (1, .int v1), (2, .ref (ad (25 + ci v2))), (3, .int v3), (4, .int v4)] → W p l e rX0_sortOf s m args below meth c H locs 0 0 Qs (F0 m 19 ls [])) : ∀ (n : Nat) (v1 : Int32) (v2 : Int32) (v3 : Int32) (v4 : Int32) (v5 : Int32) (M : Mem) (H : Heap) (locs : List Loc) (ls : Array Slot), w0_sortOf_b62 Q K19 n v1 v2 v3 v4 v5 M → XI D T ad A H0 M H locs → lv_has ls 6 [(0, .ref (ad 0)), (1, .int v1), (2, .ref (ad (25 + ci v2))), (3, .int v3), (4, .int v4), (5, .int v5)] → W p l e rX0_sortOf s m args below meth c H locs 0 0 Qs (F0 m 62 ls []) := by
  intro n
  induction n with
  | zero => intro v1 v2 v3 v4 v5 M H locs ls h; exact h.elim
  | succ n ih => intro v1 v2 v3 v4 v5 M H locs ls h I hl; exact t0_sortOf_b62_f C hQ hK19 ih v1 v2 v3 v4 v5 M H locs ls h I hl
theorem t0_sortOf_b57 {p : Program} {l : Launch} {e : Env} {s : State} {m : MethodId} {args : Array Value} {below : List Frame} {meth : Method} {c : Code} {D : va_G} {T ad : Nat → Nat} {A : Nat → Prop} {H0 : Heap} {Qs : State → Prop} {Q : Int32 → Mem → Prop} {K19 : Int32 → Int32 → Int32 → Int32 → Mem → Prop} (C : XC D T RX0 p m c cX0_sortOf 6 s args) (hQ : xExi p l e rX0_sortOf s m args below meth c cX0_sortOf D T ad A H0 Qs Q) (hK19 : ∀ (v1 : Int32) (v2 : Int32) (v3 : Int32) (v4 : Int32) (M : Mem) (H : Heap) (locs : List Loc) (ls : Array Slot), K19 v1 v2 v3 v4 M → XI D T ad A H0 M H locs → lv_has ls 6 [(0, .ref (ad 0)), (1, .int v1), (2, .ref (ad (25 + ci v2))), (3, .int v3), (4, .int v4)] → W p l e rX0_sortOf s m args below meth c H locs 0 0 Qs (F0 m 19 ls [])) (v1 : Int32) (v2 : Int32) (v4 : Int32) (s0 : Int32) (s1 : Int32) (M : Mem) (H : Heap) (locs : List Loc) (ls : Array Slot) (h : w0_sortOf_b57 Q K19 v1 v2 v4 s0 s1 M) (I : XI D T ad A H0 M H locs) (hl : lv_has ls 6 [(0, .ref (ad 0)), (1, .int v1), (2, .ref (ad (25 + ci v2))), (4, .int v4)]) : W p l e rX0_sortOf s m args below meth c H locs 0 0 Qs (F0 m 57 ls [.int s1, .int s0]) := by
  have hx := C.1.1
  have hb := C.1.2.1
  have how := C.1.2.2.2.1
  have hts := C.1.2.2.2.2
  unfold w0_sortOf_b57 at h
  refine lv_ior hx hb dX0_sortOf_57 ?_
  refine lv_istore_n (lv' := [(3, .int (s0 ||| s1)), (0, .ref (ad 0)), (1, .int v1), (2, .ref (ad (25 + ci v2))), (4, .int v4)]) hx hb dX0_sortOf_58 rfl hl (by decide) rfl (fun ls hl => ?_)
  refine lv_iconst (v := 0) hx hb dX0_sortOf_59 (by decide) ?_
  refine lv_istore (lv' := [(5, .int 0), (3, .int (s0 ||| s1)), (0, .ref (ad 0)), (1, .int v1), (2, .ref (ad (25 + ci v2))), (4, .int v4)]) hx hb dX0_sortOf_60 hl (by decide) rfl (fun ls hl => ?_)
  obtain ⟨n, h⟩ := h
  exact t0_sortOf_b62 C hQ hK19 n v1 v2 (s0 ||| s1) v4 0 M _ _ _ h I (lv_sub hl [2, 3, 4, 1, 5, 0] rfl)
theorem t0_sortOf_b19_f {p : Program} {l : Launch} {e : Env} {s : State} {m : MethodId} {args : Array Value} {below : List Frame} {meth : Method} {c : Code} {D : va_G} {T ad : Nat → Nat} {A : Nat → Prop} {H0 : Heap} {Qs : State → Prop} {Q : Int32 → Mem → Prop} {K19 : Int32 → Int32 → Int32 → Int32 → Mem → Prop} (C : XC D T RX0 p m c cX0_sortOf 6 s args) (hQ : xExi p l e rX0_sortOf s m args below meth c cX0_sortOf D T ad A H0 Qs Q) (hK19 : ∀ (v1 : Int32) (v2 : Int32) (v3 : Int32) (v4 : Int32) (M : Mem) (H : Heap) (locs : List Loc) (ls : Array Slot), K19 v1 v2 v3 v4 M → XI D T ad A H0 M H locs → lv_has ls 6 [(0, .ref (ad 0)), (1, .int v1), (2, .ref (ad (25 + ci v2))), (3, .int v3), (4, .int v4)] → W p l e rX0_sortOf s m args below meth c H locs 0 0 Qs (F0 m 19 ls [])) (v1 : Int32) (v2 : Int32) (v3 : Int32) (v4 : Int32) (M : Mem) (H : Heap) (locs : List Loc) (ls : Array Slot) (h : w0_sortOf_b19_f Q K19 v1 v2 v3 v4 M) (I : XI D T ad A H0 M H locs) (hl : lv_has ls 6 [(0, .ref (ad 0)), (1, .int v1), (2, .ref (ad (25 + ci v2))), (3, .int v3), (4, .int v4)]) : W p l e rX0_sortOf s m args below meth c H locs 0 0 Qs (F0 m 19 ls []) := by
  have hx := C.1.1
  have hb := C.1.2.1
  have how := C.1.2.2.2.1
  have hts := C.1.2.2.2.2
  unfold w0_sortOf_b19_f at h
  refine lv_iload hx hb dX0_sortOf_19 (lv_at hl 4 rfl) ?_
  refine lv_iconst (v := 3) hx hb dX0_sortOf_21 (by decide) ?_
  refine lv_icmp_ge (tgt := 100) hx hb dX0_sortOf_22 (by decide) (fun c => ?_) (fun c => ?_)
  · have h := h.1 c
    refine lv_aload_n hx hb dX0_sortOf_100 rfl (lv_at hl 0 rfl) ?_
    refine xg_all C I dX0_sortOf_101 ?_
    refine lv_iload_n hx hb dX0_sortOf_104 rfl (lv_at hl 1 rfl) ?_
    obtain ⟨hg6, h⟩ := h
    refine xa_all C I hg6 dX0_sortOf_105 ?_
    refine lv_aload_n hx hb dX0_sortOf_106 rfl (lv_at hl 2 rfl) ?_
    obtain ⟨hg7, h⟩ := h
    refine xcp0_question C I (isCar_of hg6) hg7 dX0_sortOf_107 (fun M8 H locs eM8 I => ?_)
    have h := h M8 eM8
    refine lv_iload_n hx hb dX0_sortOf_110 rfl (lv_at hl 3 rfl) ?_
    exact hQ _ _ _ _ _ _ h I dX0_sortOf_111
  · have h := h.2 c
    refine lv_aload_n hx hb dX0_sortOf_25 rfl (lv_at hl 0 rfl) ?_
    refine xg_all C I dX0_sortOf_26 ?_
    refine lv_iload_n hx hb dX0_sortOf_29 rfl (lv_at hl 1 rfl) ?_
    obtain ⟨hg9, h⟩ := h
    refine xa_all C I hg9 dX0_sortOf_30 ?_
    refine lv_aload_n hx hb dX0_sortOf_31 rfl (lv_at hl 0 rfl) ?_
    refine xg_kinds C I dX0_sortOf_32 ?_
    refine lv_iload hx hb dX0_sortOf_35 (lv_at hl 4 rfl) ?_
    obtain ⟨hg10, h⟩ := h
    refine xa_kinds C I hg10 dX0_sortOf_37 ?_
    refine xcp0_question C I (isCar_of hg9) hg10 dX0_sortOf_38 (fun M11 H locs eM11 I => ?_)
    have h := h M11 eM11
    refine lv_iload_n hx hb dX0_sortOf_41 rfl (lv_at hl 3 rfl) ?_
    refine lv_aload_n hx hb dX0_sortOf_42 rfl (lv_at hl 0 rfl) ?_
    refine x_calli (As := []) (rest := [.int v3]) C I (fun ra => met0_fits l D T ad ra M11 h) (cw0_340 hts ⟨Nat.le_of_ble_eq_true rfl, Nat.le_of_ble_eq_true rfl⟩) rfl hl.1 rfl (Nat.le_of_ble_eq_true rfl) ⟨Nat.zero_le _, Nat.zero_le _⟩ dX0_sortOf_43 (fun r12 M13 H locs h I => ?_)
    refine lv_if_eq (tgt := 56) hx hb dX0_sortOf_46 (by decide) (fun c => ?_) (fun c => ?_)
    · have h := h.1 c
      refine lv_iconst (v := 0) hx hb dX0_sortOf_56 (by decide) ?_
      exact t0_sortOf_b57 C hQ hK19 v1 v2 v4 v3 0 M13 _ _ _ h I (lv_sub hl [0, 1, 2, 4] rfl)
    · have h := h.2 c
      refine lv_iconst (v := 1) hx hb dX0_sortOf_49 (by decide) ?_
      refine lv_iload hx hb dX0_sortOf_50 (lv_at hl 4 rfl) ?_
      refine lv_ishl hx hb dX0_sortOf_52 ?_
      refine lv_goto (tgt := 57) hx hb dX0_sortOf_53 (by decide) ?_
      exact t0_sortOf_b57 C hQ hK19 v1 v2 v4 v3 (1 <<< (v4 &&& 31)) M13 _ _ _ h I (lv_sub hl [0, 1, 2, 4] rfl)
theorem t0_sortOf_b19 {p : Program} {l : Launch} {e : Env} {s : State} {m : MethodId} {args : Array Value} {below : List Frame} {meth : Method} {c : Code} {D : va_G} {T ad : Nat → Nat} {A : Nat → Prop} {H0 : Heap} {Qs : State → Prop} {Q : Int32 → Mem → Prop}  (C : XC D T RX0 p m c cX0_sortOf 6 s args) (hQ : xExi p l e rX0_sortOf s m args below meth c cX0_sortOf D T ad A H0 Qs Q)  : ∀ (n : Nat) (v1 : Int32) (v2 : Int32) (v3 : Int32) (v4 : Int32) (M : Mem) (H : Heap) (locs : List Loc) (ls : Array Slot), w0_sortOf_b19 Q n v1 v2 v3 v4 M → XI D T ad A H0 M H locs → lv_has ls 6 [(0, .ref (ad 0)), (1, .int v1), (2, .ref (ad (25 + ci v2))), (3, .int v3), (4, .int v4)] → W p l e rX0_sortOf s m args below meth c H locs 0 0 Qs (F0 m 19 ls []) := by
  intro n
  induction n with
  | zero => intro v1 v2 v3 v4 M H locs ls h; exact h.elim
  | succ n ih => intro v1 v2 v3 v4 M H locs ls h I hl; exact t0_sortOf_b19_f C hQ  ih v1 v2 v3 v4 M H locs ls h I hl
theorem t0_sortOf {p : Program} {l : Launch} {e : Env} {s : State} {m : MethodId} {args : Array Value} {below : List Frame} {meth : Method} {c : Code} {D : va_G} {T ad : Nat → Nat} {A : Nat → Prop} {H0 : Heap} {Qs : State → Prop} {Q : Int32 → Mem → Prop} (C : XC D T RX0 p m c cX0_sortOf 6 s args) (hQ : xExi p l e rX0_sortOf s m args below meth c cX0_sortOf D T ad A H0 Qs Q) (v1 : Int32) (M : Mem) (H : Heap) (locs : List Loc) (ls : Array Slot) (h : w0_sortOf v1 M Q) (I : XI D T ad A H0 M H locs) (hl : lv_has ls 6 [(0, .ref (ad 0)), (1, .int v1)]) : W p l e rX0_sortOf s m args below meth c H locs 0 0 Qs (F0 m 0 ls []) := by
  have hx := C.1.1
  have hb := C.1.2.1
  have how := C.1.2.2.2.1
  have hts := C.1.2.2.2.2
  unfold w0_sortOf at h
  refine lv_aload_n hx hb dX0_sortOf_0 rfl (lv_at hl 0 rfl) ?_
  refine x_callv (As := []) (rest := []) C I (fun ra => met0_asTold l D T ad ra M h) (cw0_273 hts ⟨Nat.le_of_ble_eq_true rfl, Nat.le_of_ble_eq_true rfl⟩) rfl hl.1 rfl (Nat.le_of_ble_eq_true rfl) ⟨Nat.zero_le _, Nat.zero_le _⟩ dX0_sortOf_1 (fun M14 H locs h I => ?_)
  refine lv_aload_n hx hb dX0_sortOf_4 rfl (lv_at hl 0 rfl) ?_
  refine xg_all C I dX0_sortOf_5 ?_
  refine lv_iload_n hx hb dX0_sortOf_8 rfl (lv_at hl 1 rfl) ?_
  obtain ⟨hg15, h⟩ := h
  refine xa_all C I hg15 dX0_sortOf_9 ?_
  obtain ⟨hg16, h⟩ := h
  refine xcg0_question C I (isCar_of hg15) hg16 dX0_sortOf_10 ?_
  refine lv_astore_n (lv' := [(2, .ref (ad (25 + ci (M14 (30 + ci v1) 2)))), (0, .ref (ad 0)), (1, .int v1)]) hx hb dX0_sortOf_13 rfl hl (by decide) rfl (fun ls hl => ?_)
  refine lv_iconst (v := 0) hx hb dX0_sortOf_14 (by decide) ?_
  refine lv_istore_n (lv' := [(3, .int 0), (2, .ref (ad (25 + ci (M14 (30 + ci v1) 2)))), (0, .ref (ad 0)), (1, .int v1)]) hx hb dX0_sortOf_15 rfl hl (by decide) rfl (fun ls hl => ?_)
  refine lv_iconst (v := 0) hx hb dX0_sortOf_16 (by decide) ?_
  refine lv_istore (lv' := [(4, .int 0), (3, .int 0), (2, .ref (ad (25 + ci (M14 (30 + ci v1) 2)))), (0, .ref (ad 0)), (1, .int v1)]) hx hb dX0_sortOf_17 hl (by decide) rfl (fun ls hl => ?_)
  obtain ⟨n, h⟩ := h
  exact t0_sortOf_b19 C hQ n v1 (M14 (30 + ci v1) 2) 0 0 M14 _ _ _ h I (lv_sub hl [3, 4, 2, 1, 0] rfl)
theorem met0_sortOf (l : Launch) (D : va_G) (T ad ra : Nat → Nat) (v1 : Int32) (M : Mem) {Qp : Int32 → Mem → Prop} (h : w0_sortOf v1 M Qp) (sz : Nat) : Met l yX0_sortOf (ws_ yX0_sortOf cX0_sortOf 6 (some .int)) rX0_sortOf (xPc D T ad ra 0 [.int v1] M sz) (xQi D T ad ra M Qp sz) 0 0 (fA (cX T ad ra M) sz) :=
  x_metI (own := RX0) (As := [.int v1]) rfl rfl (Nat.le_of_ble_eq_true rfl) (fun p e s m args below meth c A Qs ls C hQ I hl => t0_sortOf C hQ v1 M _ _ ls h I hl) sz
/-! sort -/
abbrev rX0_sort : Room := { frames := 9, cells := 0, slots := 0, locals := 202 }
theorem cw0_350 {R : Room} {s : State} {args : Array Value} (hts : ∀ w ∈ lw_all, w.before args s = true) (hR : rX0_sortOf.frames + 1 ≤ R.frames ∧ 8 + (6 + 11) + rX0_sortOf.locals ≤ R.locals) : CallW R s args RX0 RX0 350 yX0_sortOf cX0_sortOf 6 (some .int) (ws_ yX0_sortOf cX0_sortOf 6 (some .int)) rX0_sortOf 0 0 1 := cwV 1 hts (lw_V q464 q466 qs40 q89 q467) rfl rfl rfl (by decide +kernel) hR
theorem t0_sort_b18 {p : Program} {l : Launch} {e : Env} {s : State} {m : MethodId} {args : Array Value} {below : List Frame} {meth : Method} {c : Code} {D : va_G} {T ad : Nat → Nat} {A : Nat → Prop} {H0 : Heap} {Qs : State → Prop} {Q : Int32 → Mem → Prop}  (C : XC D T RX0 p m c cX0_sort 2 s args) (hQ : xExi p l e rX0_sort s m args below meth c cX0_sort D T ad A H0 Qs Q)  (s0 : Int32) (M : Mem) (H : Heap) (locs : List Loc) (ls : Array Slot) (h : w0_sort_b18 Q s0 M) (I : XI D T ad A H0 M H locs) (hl : lv_has ls 2 [(0, .ref (ad 0))]) : W p l e rX0_sort s m args below meth c H locs 0 0 Qs (F0 m 18 ls [.int s0]) := by
  have hx := C.1.1
  have hb := C.1.2.1
  have how := C.1.2.2.2.1
  have hts := C.1.2.2.2.2
  unfold w0_sort_b18 at h
  exact hQ _ _ _ _ _ _ h I dX0_sort_18
theorem t0_sort {p : Program} {l : Launch} {e : Env} {s : State} {m : MethodId} {args : Array Value} {below : List Frame} {meth : Method} {c : Code} {D : va_G} {T ad : Nat → Nat} {A : Nat → Prop} {H0 : Heap} {Qs : State → Prop} {Q : Int32 → Mem → Prop} (C : XC D T RX0 p m c cX0_sort 2 s args) (hQ : xExi p l e rX0_sort s m args below meth c cX0_sort D T ad A H0 Qs Q) (v1 : Int32) (M : Mem) (H : Heap) (locs : List Loc) (ls : Array Slot) (h : w0_sort v1 M Q) (I : XI D T ad A H0 M H locs) (hl : lv_has ls 2 [(0, .ref (ad 0)), (1, .int v1)]) : W p l e rX0_sort s m args below meth c H locs 0 0 Qs (F0 m 0 ls []) := by
  have hx := C.1.1
  have hb := C.1.2.1
  have how := C.1.2.2.2.1
  have hts := C.1.2.2.2.2
  unfold w0_sort at h
  refine lv_aload_n hx hb dX0_sort_0 rfl (lv_at hl 0 rfl) ?_
  refine lv_iload_n hx hb dX0_sort_1 rfl (lv_at hl 1 rfl) ?_
  refine x_calli (As := [.int v1]) (rest := []) C I (fun ra => met0_isCarter l D T ad ra v1 M h) (cw0_126 hts ⟨Nat.le_of_ble_eq_true rfl, Nat.le_of_ble_eq_true rfl⟩) rfl hl.1 rfl (Nat.le_of_ble_eq_true rfl) ⟨Nat.zero_le _, Nat.zero_le _⟩ dX0_sort_2 (fun r1 M2 H locs h I => ?_)
  refine lv_if_eq (tgt := 16) hx hb dX0_sort_5 (by decide) (fun c => ?_) (fun c => ?_)
  · have h := h.1 c
    refine lv_bipush (v := -2) hx hb dX0_sort_16 (by decide) ?_
    exact t0_sort_b18 C hQ (-2) M2 _ _ _ h I (lv_sub hl [0] rfl)
  · have h := h.2 c
    refine lv_aload_n hx hb dX0_sort_8 rfl (lv_at hl 0 rfl) ?_
    refine lv_iload_n hx hb dX0_sort_9 rfl (lv_at hl 1 rfl) ?_
    refine x_calli (As := [.int v1]) (rest := []) C I (fun ra => met0_sortOf l D T ad ra v1 M2 h) (cw0_350 hts ⟨Nat.le_of_ble_eq_true rfl, Nat.le_of_ble_eq_true rfl⟩) rfl hl.1 rfl (Nat.le_of_ble_eq_true rfl) ⟨Nat.zero_le _, Nat.zero_le _⟩ dX0_sort_10 (fun r3 M4 H locs h I => ?_)
    refine lv_goto (tgt := 18) hx hb dX0_sort_13 (by decide) ?_
    exact t0_sort_b18 C hQ r3 M4 _ _ _ h I (lv_sub hl [0] rfl)
theorem met0_sort (l : Launch) (D : va_G) (T ad ra : Nat → Nat) (v1 : Int32) (M : Mem) {Qp : Int32 → Mem → Prop} (h : w0_sort v1 M Qp) (sz : Nat) : Met l yX0_sort (ws_ yX0_sort cX0_sort 2 (some .int)) rX0_sort (xPc D T ad ra 0 [.int v1] M sz) (xQi D T ad ra M Qp sz) 0 0 (fA (cX T ad ra M) sz) :=
  x_metI (own := RX0) (As := [.int v1]) rfl rfl (Nat.le_of_ble_eq_true rfl) (fun p e s m args below meth c A Qs ls C hQ I hl => t0_sort C hQ v1 M _ _ ls h I hl) sz
/-! forceOf -/
abbrev rX0_forceOf : Room := { frames := 8, cells := 0, slots := 0, locals := 177 }
theorem t0_forceOf_b136 {p : Program} {l : Launch} {e : Env} {s : State} {m : MethodId} {args : Array Value} {below : List Frame} {meth : Method} {c : Code} {D : va_G} {T ad : Nat → Nat} {A : Nat → Prop} {H0 : Heap} {Qs : State → Prop} {Q : Int32 → Mem → Prop}  (C : XC D T RX0 p m c cX0_forceOf 9 s args) (hQ : xExi p l e rX0_forceOf s m args below meth c cX0_forceOf D T ad A H0 Qs Q)  (s0 : Int32) (M : Mem) (H : Heap) (locs : List Loc) (ls : Array Slot) (h : w0_forceOf_b136 Q s0 M) (I : XI D T ad A H0 M H locs) (hl : lv_has ls 9 [(0, .ref (ad 0))]) : W p l e rX0_forceOf s m args below meth c H locs 0 0 Qs (F0 m 136 ls [.int s0]) := by
  have hx := C.1.1
  have hb := C.1.2.1
  have how := C.1.2.2.2.1
  have hts := C.1.2.2.2.2
  unfold w0_forceOf_b136 at h
  exact hQ _ _ _ _ _ _ h I dX0_forceOf_136
theorem t0_forceOf_b97 {p : Program} {l : Launch} {e : Env} {s : State} {m : MethodId} {args : Array Value} {below : List Frame} {meth : Method} {c : Code} {D : va_G} {T ad : Nat → Nat} {A : Nat → Prop} {H0 : Heap} {Qs : State → Prop} {Q : Int32 → Mem → Prop} {K26 : Int32 → Int32 → Int32 → Int32 → Int32 → Int32 → Int32 → Mem → Prop} (C : XC D T RX0 p m c cX0_forceOf 9 s args) (hQ : xExi p l e rX0_forceOf s m args below meth c cX0_forceOf D T ad A H0 Qs Q) (hK26 : ∀ (v1 : Int32) (v2 : Int32) (v3 : Int32) (v4 : Int32) (v5 : Int32) (v6 : Int32) (v7 : Int32) (M : Mem) (H : Heap) (locs : List Loc) (ls : Array Slot), K26 v1 v2 v3 v4 v5 v6 v7 M → XI D T ad A H0 M H locs → lv_has ls 9 [(0, .ref (ad 0)), (1, .int v1), (2, .int v2), (3, .int v3), (4, .int v4), (5, .int v5), (6, .int v6), (7, .int v7)] → W p l e rX0_forceOf s m args below meth c H locs 0 0 Qs (F0 m 26 ls [])) (v1 : Int32) (v2 : Int32) (v3 : Int32) (v4 : Int32) (v5 : Int32) (v7 : Int32) (s0 : Int32) (M : Mem) (H : Heap) (locs : List Loc) (ls : Array Slot) (h : w0_forceOf_b97 Q K26 v1 v2 v3 v4 v5 v7 s0 M) (I : XI D T ad A H0 M H locs) (hl : lv_has ls 9 [(0, .ref (ad 0)), (1, .int v1), (2, .int v2), (3, .int v3), (4, .int v4), (5, .int v5), (7, .int v7)]) : W p l e rX0_forceOf s m args below meth c H locs 0 0 Qs (F0 m 97 ls [.int s0]) := by
  have hx := C.1.1
  have hb := C.1.2.1
  have how := C.1.2.2.2.1
  have hts := C.1.2.2.2.2
  unfold w0_forceOf_b97 at h
  refine lv_istore (lv' := [(6, .int s0), (0, .ref (ad 0)), (1, .int v1), (2, .int v2), (3, .int v3), (4, .int v4), (5, .int v5), (7, .int v7)]) hx hb dX0_forceOf_97 hl (by decide) rfl (fun ls hl => ?_)
  refine lv_iinc (v := (v7 + 1)) (lv' := [(7, .int (v7 + 1)), (6, .int s0), (0, .ref (ad 0)), (1, .int v1), (2, .int v2), (3, .int v3), (4, .int v4), (5, .int v5)]) hx hb dX0_forceOf_99 hl (k := 7) rfl (ii_1 _) (by decide) rfl (fun ls hl => ?_)
  refine lv_goto (tgt := 26) hx hb dX0_forceOf_102 (by decide) ?_
  exact hK26 v1 v2 v3 v4 v5 s0 (v7 + 1) M _ _ _ h I (lv_sub hl [2, 3, 4, 5, 6, 7, 1, 0] rfl)
theorem t0_forceOf_b83 {p : Program} {l : Launch} {e : Env} {s : State} {m : MethodId} {args : Array Value} {below : List Frame} {meth : Method} {c : Code} {D : va_G} {T ad : Nat → Nat} {A : Nat → Prop} {H0 : Heap} {Qs : State → Prop} {Q : Int32 → Mem → Prop} {K26 : Int32 → Int32 → Int32 → Int32 → Int32 → Int32 → Int32 → Mem → Prop} (C : XC D T RX0 p m c cX0_forceOf 9 s args) (hQ : xExi p l e rX0_forceOf s m args below meth c cX0_forceOf D T ad A H0 Qs Q) (hK26 : ∀ (v1 : Int32) (v2 : Int32) (v3 : Int32) (v4 : Int32) (v5 : Int32) (v6 : Int32) (v7 : Int32) (M : Mem) (H : Heap) (locs : List Loc) (ls : Array Slot), K26 v1 v2 v3 v4 v5 v6 v7 M → XI D T ad A H0 M H locs → lv_has ls 9 [(0, .ref (ad 0)), (1, .int v1), (2, .int v2), (3, .int v3), (4, .int v4), (5, .int v5), (6, .int v6), (7, .int v7)] → W p l e rX0_forceOf s m args below meth c H locs 0 0 Qs (F0 m 26 ls [])) (v1 : Int32) (v2 : Int32) (v3 : Int32) (v4 : Int32) (v6 : Int32) (v7 : Int32) (v8 : Int32) (s0 : Int32) (M : Mem) (H : Heap) (locs : List Loc) (ls : Array Slot) (h : w0_forceOf_b83 Q K26 v1 v2 v3 v4 v6 v7 v8 s0 M) (I : XI D T ad A H0 M H locs) (hl : lv_has ls 9 [(0, .ref (ad 0)), (1, .int v1), (2, .int v2), (3, .int v3), (4, .int v4), (6, .int v6), (7, .int v7), (8, .int v8)]) : W p l e rX0_forceOf s m args below meth c H locs 0 0 Qs (F0 m 83 ls [.int s0]) := by
  have hx := C.1.1
  have hb := C.1.2.1
  have how := C.1.2.2.2.1
  have hts := C.1.2.2.2.2
  unfold w0_forceOf_b83 at h
  refine lv_istore (lv' := [(5, .int s0), (0, .ref (ad 0)), (1, .int v1), (2, .int v2), (3, .int v3), (4, .int v4), (6, .int v6), (7, .int v7), (8, .int v8)]) hx hb dX0_forceOf_83 hl (by decide) rfl (fun ls hl => ?_)
  refine lv_iload hx hb dX0_forceOf_85 (lv_at hl 8 rfl) ?_
  refine lv_if_eq (tgt := 95) hx hb dX0_forceOf_87 (by decide) (fun c => ?_) (fun c => ?_)
  · have h := h.1 c
    refine lv_iload hx hb dX0_forceOf_95 (lv_at hl 6 rfl) ?_
    exact t0_forceOf_b97 C hQ hK26 v1 v2 v3 v4 s0 v7 v6 M _ _ _ h I (lv_sub hl [1, 2, 3, 4, 5, 0, 7] rfl)
  · have h := h.2 c
    refine lv_iload hx hb dX0_forceOf_90 (lv_at hl 7 rfl) ?_
    refine lv_goto (tgt := 97) hx hb dX0_forceOf_92 (by decide) ?_
    exact t0_forceOf_b97 C hQ hK26 v1 v2 v3 v4 s0 v7 v7 M _ _ _ h I (lv_sub hl [1, 2, 3, 4, 5, 0, 7] rfl)
theorem t0_forceOf_b81 {p : Program} {l : Launch} {e : Env} {s : State} {m : MethodId} {args : Array Value} {below : List Frame} {meth : Method} {c : Code} {D : va_G} {T ad : Nat → Nat} {A : Nat → Prop} {H0 : Heap} {Qs : State → Prop} {Q : Int32 → Mem → Prop} {K26 : Int32 → Int32 → Int32 → Int32 → Int32 → Int32 → Int32 → Mem → Prop} (C : XC D T RX0 p m c cX0_forceOf 9 s args) (hQ : xExi p l e rX0_forceOf s m args below meth c cX0_forceOf D T ad A H0 Qs Q) (hK26 : ∀ (v1 : Int32) (v2 : Int32) (v3 : Int32) (v4 : Int32) (v5 : Int32) (v6 : Int32) (v7 : Int32) (M : Mem) (H : Heap) (locs : List Loc) (ls : Array Slot), K26 v1 v2 v3 v4 v5 v6 v7 M → XI D T ad A H0 M H locs → lv_has ls 9 [(0, .ref (ad 0)), (1, .int v1), (2, .int v2), (3, .int v3), (4, .int v4), (5, .int v5), (6, .int v6), (7, .int v7)] → W p l e rX0_forceOf s m args below meth c H locs 0 0 Qs (F0 m 26 ls [])) (v1 : Int32) (v2 : Int32) (v3 : Int32) (v4 : Int32) (v5 : Int32) (v6 : Int32) (v7 : Int32) (v8 : Int32) (M : Mem) (H : Heap) (locs : List Loc) (ls : Array Slot) (h : w0_forceOf_b81 Q K26 v1 v2 v3 v4 v5 v6 v7 v8 M) (I : XI D T ad A H0 M H locs) (hl : lv_has ls 9 [(0, .ref (ad 0)), (1, .int v1), (2, .int v2), (3, .int v3), (4, .int v4), (5, .int v5), (6, .int v6), (7, .int v7), (8, .int v8)]) : W p l e rX0_forceOf s m args below meth c H locs 0 0 Qs (F0 m 81 ls []) := by
  have hx := C.1.1
  have hb := C.1.2.1
  have how := C.1.2.2.2.1
  have hts := C.1.2.2.2.2
  unfold w0_forceOf_b81 at h
  refine lv_iload hx hb dX0_forceOf_81 (lv_at hl 5 rfl) ?_
  exact t0_forceOf_b83 C hQ hK26 v1 v2 v3 v4 v6 v7 v8 v5 M _ _ _ h I (lv_sub hl [0, 1, 2, 3, 4, 6, 7, 8] rfl)
theorem t0_forceOf_b62 {p : Program} {l : Launch} {e : Env} {s : State} {m : MethodId} {args : Array Value} {below : List Frame} {meth : Method} {c : Code} {D : va_G} {T ad : Nat → Nat} {A : Nat → Prop} {H0 : Heap} {Qs : State → Prop} {Q : Int32 → Mem → Prop} {K26 : Int32 → Int32 → Int32 → Int32 → Int32 → Int32 → Int32 → Mem → Prop} (C : XC D T RX0 p m c cX0_forceOf 9 s args) (hQ : xExi p l e rX0_forceOf s m args below meth c cX0_forceOf D T ad A H0 Qs Q) (hK26 : ∀ (v1 : Int32) (v2 : Int32) (v3 : Int32) (v4 : Int32) (v5 : Int32) (v6 : Int32) (v7 : Int32) (M : Mem) (H : Heap) (locs : List Loc) (ls : Array Slot), K26 v1 v2 v3 v4 v5 v6 v7 M → XI D T ad A H0 M H locs → lv_has ls 9 [(0, .ref (ad 0)), (1, .int v1), (2, .int v2), (3, .int v3), (4, .int v4), (5, .int v5), (6, .int v6), (7, .int v7)] → W p l e rX0_forceOf s m args below meth c H locs 0 0 Qs (F0 m 26 ls [])) (v1 : Int32) (v2 : Int32) (v3 : Int32) (v5 : Int32) (v6 : Int32) (v7 : Int32) (v8 : Int32) (s0 : Int32) (s1 : Int32) (M : Mem) (H : Heap) (locs : List Loc) (ls : Array Slot) (h : w0_forceOf_b62 Q K26 v1 v2 v3 v5 v6 v7 v8 s0 s1 M) (I : XI D T ad A H0 M H locs) (hl : lv_has ls 9 [(0, .ref (ad 0)), (1, .int v1), (2, .int v2), (3, .int v3), (5, .int v5), (6, .int v6), (7, .int v7), (8, .int v8)]) : W p l e rX0_forceOf s m args below meth c H locs 0 0 Qs (F0 m 62 ls [.int s1, .int s0]) := by
  have hx := C.1.1
  have hb := C.1.2.1
  have how := C.1.2.2.2.1
  have hts := C.1.2.2.2.2
  unfold w0_forceOf_b62 at h
  refine lv_iadd hx hb dX0_forceOf_62 ?_
  refine lv_istore (lv' := [(4, .int (s0 + s1)), (0, .ref (ad 0)), (1, .int v1), (2, .int v2), (3, .int v3), (5, .int v5), (6, .int v6), (7, .int v7), (8, .int v8)]) hx hb dX0_forceOf_63 hl (by decide) rfl (fun ls hl => ?_)
  refine lv_iload hx hb dX0_forceOf_65 (lv_at hl 8 rfl) ?_
  refine lv_if_eq (tgt := 81) hx hb dX0_forceOf_67 (by decide) (fun c => ?_) (fun c => ?_)
  · have h := h.1 c
    exact t0_forceOf_b81 C hQ hK26 v1 v2 v3 (s0 + s1) v5 v6 v7 v8 M _ _ _ h I (lv_sub hl [1, 2, 3, 4, 0, 5, 6, 7, 8] rfl)
  · have h := h.2 c
    refine lv_iload hx hb dX0_forceOf_70 (lv_at hl 5 rfl) ?_
    refine lv_iconst (v := -1) hx hb dX0_forceOf_72 (by decide) ?_
    refine lv_icmp_ne (tgt := 81) hx hb dX0_forceOf_73 (by decide) (fun c => ?_) (fun c => ?_)
    · have h := h.2 c
      exact t0_forceOf_b81 C hQ hK26 v1 v2 v3 (s0 + s1) v5 v6 v7 v8 M _ _ _ h I (lv_sub hl [1, 2, 3, 4, 0, 5, 6, 7, 8] rfl)
    · have h := h.1 c
      refine lv_iload hx hb dX0_forceOf_76 (lv_at hl 7 rfl) ?_
      refine lv_goto (tgt := 83) hx hb dX0_forceOf_78 (by decide) ?_
      exact t0_forceOf_b83 C hQ hK26 v1 v2 v3 (s0 + s1) v6 v7 v8 v7 M _ _ _ h I (lv_sub hl [1, 2, 3, 4, 0, 6, 7, 8] rfl)
theorem t0_forceOf_b26_f {p : Program} {l : Launch} {e : Env} {s : State} {m : MethodId} {args : Array Value} {below : List Frame} {meth : Method} {c : Code} {D : va_G} {T ad : Nat → Nat} {A : Nat → Prop} {H0 : Heap} {Qs : State → Prop} {Q : Int32 → Mem → Prop} {K26 : Int32 → Int32 → Int32 → Int32 → Int32 → Int32 → Int32 → Mem → Prop} (C : XC D T RX0 p m c cX0_forceOf 9 s args) (hQ : xExi p l e rX0_forceOf s m args below meth c cX0_forceOf D T ad A H0 Qs Q) (hK26 : ∀ (v1 : Int32) (v2 : Int32) (v3 : Int32) (v4 : Int32) (v5 : Int32) (v6 : Int32) (v7 : Int32) (M : Mem) (H : Heap) (locs : List Loc) (ls : Array Slot), K26 v1 v2 v3 v4 v5 v6 v7 M → XI D T ad A H0 M H locs → lv_has ls 9 [(0, .ref (ad 0)), (1, .int v1), (2, .int v2), (3, .int v3), (4, .int v4), (5, .int v5), (6, .int v6), (7, .int v7)] → W p l e rX0_forceOf s m args below meth c H locs 0 0 Qs (F0 m 26 ls [])) (v1 : Int32) (v2 : Int32) (v3 : Int32) (v4 : Int32) (v5 : Int32) (v6 : Int32) (v7 : Int32) (M : Mem) (H : Heap) (locs : List Loc) (ls : Array Slot) (h : w0_forceOf_b26_f Q K26 v1 v2 v3 v4 v5 v6 v7 M) (I : XI D T ad A H0 M H locs) (hl : lv_has ls 9 [(0, .ref (ad 0)), (1, .int v1), (2, .int v2), (3, .int v3), (4, .int v4), (5, .int v5), (6, .int v6), (7, .int v7)]) : W p l e rX0_forceOf s m args below meth c H locs 0 0 Qs (F0 m 26 ls []) := by
  have hx := C.1.1
  have hb := C.1.2.1
  have how := C.1.2.2.2.1
  have hts := C.1.2.2.2.2
  unfold w0_forceOf_b26_f at h
  refine lv_iload hx hb dX0_forceOf_26 (lv_at hl 7 rfl) ?_
  refine lv_bipush (v := 100) hx hb dX0_forceOf_28 (by decide) ?_
  refine lv_icmp_ge (tgt := 105) hx hb dX0_forceOf_30 (by decide) (fun c => ?_) (fun c => ?_)
  · have h := h.1 c
    refine lv_aload_n hx hb dX0_forceOf_105 rfl (lv_at hl 0 rfl) ?_
    refine xg_all C I dX0_forceOf_106 ?_
    refine lv_iload_n hx hb dX0_forceOf_109 rfl (lv_at hl 1 rfl) ?_
    obtain ⟨hg1, h⟩ := h
    refine xa_all C I hg1 dX0_forceOf_110 ?_
    refine lv_iload_n hx hb dX0_forceOf_111 rfl (lv_at hl 3 rfl) ?_
    refine xcp0_strength C I (isCar_of hg1) dX0_forceOf_112 (fun M2 H locs eM2 I => ?_)
    have h := h M2 eM2
    refine lv_iload_n hx hb dX0_forceOf_115 rfl (lv_at hl 2 rfl) ?_
    refine lv_if_ne (tgt := 124) hx hb dX0_forceOf_116 (by decide) (fun c => ?_) (fun c => ?_)
    · have h := h.2 c
      refine lv_iload_n hx hb dX0_forceOf_124 rfl (lv_at hl 2 rfl) ?_
      refine lv_iconst (v := 1) hx hb dX0_forceOf_125 (by decide) ?_
      refine lv_icmp_ne (tgt := 134) hx hb dX0_forceOf_126 (by decide) (fun c => ?_) (fun c => ?_)
      · have h := h.2 c
        refine lv_iload hx hb dX0_forceOf_134 (lv_at hl 6 rfl) ?_
        exact t0_forceOf_b136 C hQ v6 M2 _ _ _ h I (lv_sub hl [0] rfl)
      · have h := h.1 c
        refine lv_iload hx hb dX0_forceOf_129 (lv_at hl 5 rfl) ?_
        refine lv_goto (tgt := 136) hx hb dX0_forceOf_131 (by decide) ?_
        exact t0_forceOf_b136 C hQ v5 M2 _ _ _ h I (lv_sub hl [0] rfl)
    · have h := h.1 c
      refine lv_iload hx hb dX0_forceOf_119 (lv_at hl 4 rfl) ?_
      refine lv_goto (tgt := 136) hx hb dX0_forceOf_121 (by decide) ?_
      exact t0_forceOf_b136 C hQ v4 M2 _ _ _ h I (lv_sub hl [0] rfl)
  · have h := h.2 c
    refine lv_aload_n hx hb dX0_forceOf_33 rfl (lv_at hl 0 rfl) ?_
    refine xg_all C I dX0_forceOf_34 ?_
    refine lv_iload_n hx hb dX0_forceOf_37 rfl (lv_at hl 1 rfl) ?_
    obtain ⟨hg3, h⟩ := h
    refine xa_all C I hg3 dX0_forceOf_38 ?_
    refine lv_iload hx hb dX0_forceOf_39 (lv_at hl 7 rfl) ?_
    refine xcp0_strength C I (isCar_of hg3) dX0_forceOf_41 (fun M4 H locs eM4 I => ?_)
    have h := h M4 eM4
    refine lv_aload_n hx hb dX0_forceOf_44 rfl (lv_at hl 0 rfl) ?_
    refine x_calli (As := []) (rest := []) C I (fun ra => met0_fits l D T ad ra M4 h) (cw0_340 hts ⟨Nat.le_of_ble_eq_true rfl, Nat.le_of_ble_eq_true rfl⟩) rfl hl.1 rfl (Nat.le_of_ble_eq_true rfl) ⟨Nat.zero_le _, Nat.zero_le _⟩ dX0_forceOf_45 (fun r5 M6 H locs h I => ?_)
    refine lv_istore (lv' := [(8, .int r5), (0, .ref (ad 0)), (1, .int v1), (2, .int v2), (3, .int v3), (4, .int v4), (5, .int v5), (6, .int v6), (7, .int v7)]) hx hb dX0_forceOf_48 hl (by decide) rfl (fun ls hl => ?_)
    refine lv_iload hx hb dX0_forceOf_50 (lv_at hl 5 rfl) ?_
    refine lv_iload hx hb dX0_forceOf_52 (lv_at hl 0 rfl) ?_
    refine lv_if_eq (tgt := 61) hx hb dX0_forceOf_54 (by decide) (fun c => ?_) (fun c => ?_)
    · have h := h.1 c
      refine lv_iconst (v := 0) hx hb dX0_forceOf_61 (by decide) ?_
      exact t0_forceOf_b62 C hQ hK26 v1 v2 v3 v5 v6 v7 r5 v4 0 M6 _ _ _ h I (lv_sub hl [1, 2, 3, 4, 6, 7, 8, 0] rfl)
    · have h := h.2 c
      refine lv_iconst (v := 1) hx hb dX0_forceOf_57 (by decide) ?_
      refine lv_goto (tgt := 62) hx hb dX0_forceOf_58 (by decide) ?_
      exact t0_forceOf_b62 C hQ hK26 v1 v2 v3 v5 v6 v7 r5 v4 1 M6 _ _ _ h I (lv_sub hl [1, 2, 3, 4, 6, 7, 8, 0] rfl)
theorem t0_forceOf_b26 {p : Program} {l : Launch} {e : Env} {s : State} {m : MethodId} {args : Array Value} {below : List Frame} {meth : Method} {c : Code} {D : va_G} {T ad : Nat → Nat} {A : Nat → Prop} {H0 : Heap} {Qs : State → Prop} {Q : Int32 → Mem → Prop}  (C : XC D T RX0 p m c cX0_forceOf 9 s args) (hQ : xExi p l e rX0_forceOf s m args below meth c cX0_forceOf D T ad A H0 Qs Q)  : ∀ (n : Nat) (v1 : Int32) (v2 : Int32) (v3 : Int32) (v4 : Int32) (v5 : Int32) (v6 : Int32) (v7 : Int32) (M : Mem) (H : Heap) (locs : List Loc) (ls : Array Slot), w0_forceOf_b26 Q n v1 v2 v3 v4 v5 v6 v7 M → XI D T ad A H0 M H locs → lv_has ls 9 [(0, .ref (ad 0)), (1, .int v1), (2, .int v2), (3, .int v3), (4, .int v4), (5, .int v5), (6, .int v6), (7, .int v7)] → W p l e rX0_forceOf s m args below meth c H locs 0 0 Qs (F0 m 26 ls []) := by
  intro n
  induction n with
  | zero => intro v1 v2 v3 v4 v5 v6 v7 M H locs ls h; exact h.elim
  | succ n ih => intro v1 v2 v3 v4 v5 v6 v7 M H locs ls h I hl; exact t0_forceOf_b26_f C hQ  ih v1 v2 v3 v4 v5 v6 v7 M H locs ls h I hl
theorem t0_forceOf {p : Program} {l : Launch} {e : Env} {s : State} {m : MethodId} {args : Array Value} {below : List Frame} {meth : Method} {c : Code} {D : va_G} {T ad : Nat → Nat} {A : Nat → Prop} {H0 : Heap} {Qs : State → Prop} {Q : Int32 → Mem → Prop} (C : XC D T RX0 p m c cX0_forceOf 9 s args) (hQ : xExi p l e rX0_forceOf s m args below meth c cX0_forceOf D T ad A H0 Qs Q) (v1 : Int32) (v2 : Int32) (M : Mem) (H : Heap) (locs : List Loc) (ls : Array Slot) (h : w0_forceOf v1 v2 M Q) (I : XI D T ad A H0 M H locs) (hl : lv_has ls 9 [(0, .ref (ad 0)), (1, .int v1), (2, .int v2)]) : W p l e rX0_forceOf s m args below meth c H locs 0 0 Qs (F0 m 0 ls []) := by
  have hx := C.1.1
  have hb := C.1.2.1
  have how := C.1.2.2.2.1
  have hts := C.1.2.2.2.2
  unfold w0_forceOf at h
  refine lv_aload_n hx hb dX0_forceOf_0 rfl (lv_at hl 0 rfl) ?_
  refine x_callv (As := []) (rest := []) C I (fun ra => met0_asTold l D T ad ra M h) (cw0_273 hts ⟨Nat.le_of_ble_eq_true rfl, Nat.le_of_ble_eq_true rfl⟩) rfl hl.1 rfl (Nat.le_of_ble_eq_true rfl) ⟨Nat.zero_le _, Nat.zero_le _⟩ dX0_forceOf_1 (fun M7 H locs h I => ?_)
  refine lv_aload_n hx hb dX0_forceOf_4 rfl (lv_at hl 0 rfl) ?_
  refine xg_all C I dX0_forceOf_5 ?_
  refine lv_iload_n hx hb dX0_forceOf_8 rfl (lv_at hl 1 rfl) ?_
  obtain ⟨hg8, h⟩ := h
  refine xa_all C I hg8 dX0_forceOf_9 ?_
  refine xcg0_strength C I (isCar_of hg8) dX0_forceOf_10 ?_
  refine lv_istore_n (lv' := [(3, .int (M7 (30 + ci v1) 3)), (0, .ref (ad 0)), (1, .int v1), (2, .int v2)]) hx hb dX0_forceOf_13 rfl hl (by decide) rfl (fun ls hl => ?_)
  refine lv_iconst (v := 0) hx hb dX0_forceOf_14 (by decide) ?_
  refine lv_istore (lv' := [(4, .int 0), (3, .int (M7 (30 + ci v1) 3)), (0, .ref (ad 0)), (1, .int v1), (2, .int v2)]) hx hb dX0_forceOf_15 hl (by decide) rfl (fun ls hl => ?_)
  refine lv_iconst (v := -1) hx hb dX0_forceOf_17 (by decide) ?_
  refine lv_istore (lv' := [(5, .int (-1)), (4, .int 0), (3, .int (M7 (30 + ci v1) 3)), (0, .ref (ad 0)), (1, .int v1), (2, .int v2)]) hx hb dX0_forceOf_18 hl (by decide) rfl (fun ls hl => ?_)
  refine lv_iconst (v := -1) hx hb dX0_forceOf_20 (by decide) ?_
  refine lv_istore (lv' := [(6, .int (-1)), (5, .int (-1)), (4, .int 0), (3, .int (M7 (30 + ci v1) 3)), (0, .ref (ad 0)), (1, .int v1), (2, .int v2)]) hx hb dX0_forceOf_21 hl (by decide) rfl (fun ls hl => ?_)
  refine lv_iconst (v := 0) hx hb dX0_forceOf_23 (by decide) ?_
  refine lv_istore (lv' := [(7, .int 0), (6, .int (-1)), (5, .int (-1)), (4, .int 0), (3, .int (M7 (30 + ci v1) 3)), (0, .ref (ad 0)), (1, .int v1), (2, .int v2)]) hx hb dX0_forceOf_24 hl (by decide) rfl (fun ls hl => ?_)
  obtain ⟨n, h⟩ := h
  exact t0_forceOf_b26 C hQ n v1 v2 (M7 (30 + ci v1) 3) 0 (-1) (-1) 0 M7 _ _ _ h I (lv_sub hl [5, 6, 7, 4, 3, 2, 1, 0] rfl)
theorem met0_forceOf (l : Launch) (D : va_G) (T ad ra : Nat → Nat) (v1 : Int32) (v2 : Int32) (M : Mem) {Qp : Int32 → Mem → Prop} (h : w0_forceOf v1 v2 M Qp) (sz : Nat) : Met l yX0_forceOf (ws_ yX0_forceOf cX0_forceOf 9 (some .int)) rX0_forceOf (xPc D T ad ra 0 [.int v1, .int v2] M sz) (xQi D T ad ra M Qp sz) 0 0 (fA (cX T ad ra M) sz) :=
  x_metI (own := RX0) (As := [.int v1, .int v2]) rfl rfl (Nat.le_of_ble_eq_true rfl) (fun p e s m args below meth c A Qs ls C hQ I hl => t0_forceOf C hQ v1 v2 M _ _ ls h I hl) sz
/-! force -/
abbrev rX0_force : Room := { frames := 9, cells := 0, slots := 0, locals := 205 }
theorem cw0_353 {R : Room} {s : State} {args : Array Value} (hts : ∀ w ∈ lw_all, w.before args s = true) (hR : rX0_forceOf.frames + 1 ≤ R.frames ∧ 8 + (9 + 11) + rX0_forceOf.locals ≤ R.locals) : CallW R s args RX0 RX0 353 yX0_forceOf cX0_forceOf 9 (some .int) (ws_ yX0_forceOf cX0_forceOf 9 (some .int)) rX0_forceOf 0 0 2 := cwV 2 hts (lw_V q472 q474 qs41 q89 q475) rfl rfl rfl (by decide +kernel) hR
theorem t0_force_b28 {p : Program} {l : Launch} {e : Env} {s : State} {m : MethodId} {args : Array Value} {below : List Frame} {meth : Method} {c : Code} {D : va_G} {T ad : Nat → Nat} {A : Nat → Prop} {H0 : Heap} {Qs : State → Prop} {Q : Int32 → Mem → Prop}  (C : XC D T RX0 p m c cX0_force 3 s args) (hQ : xExi p l e rX0_force s m args below meth c cX0_force D T ad A H0 Qs Q)  (s0 : Int32) (M : Mem) (H : Heap) (locs : List Loc) (ls : Array Slot) (h : w0_force_b28 Q s0 M) (I : XI D T ad A H0 M H locs) (hl : lv_has ls 3 [(0, .ref (ad 0))]) : W p l e rX0_force s m args below meth c H locs 0 0 Qs (F0 m 28 ls [.int s0]) := by
  have hx := C.1.1
  have hb := C.1.2.1
  have how := C.1.2.2.2.1
  have hts := C.1.2.2.2.2
  unfold w0_force_b28 at h
  exact hQ _ _ _ _ _ _ h I dX0_force_28
theorem t0_force_b26 {p : Program} {l : Launch} {e : Env} {s : State} {m : MethodId} {args : Array Value} {below : List Frame} {meth : Method} {c : Code} {D : va_G} {T ad : Nat → Nat} {A : Nat → Prop} {H0 : Heap} {Qs : State → Prop} {Q : Int32 → Mem → Prop}  (C : XC D T RX0 p m c cX0_force 3 s args) (hQ : xExi p l e rX0_force s m args below meth c cX0_force D T ad A H0 Qs Q)   (M : Mem) (H : Heap) (locs : List Loc) (ls : Array Slot) (h : w0_force_b26 Q M) (I : XI D T ad A H0 M H locs) (hl : lv_has ls 3 [(0, .ref (ad 0))]) : W p l e rX0_force s m args below meth c H locs 0 0 Qs (F0 m 26 ls []) := by
  have hx := C.1.1
  have hb := C.1.2.1
  have how := C.1.2.2.2.1
  have hts := C.1.2.2.2.2
  unfold w0_force_b26 at h
  refine lv_bipush (v := -2) hx hb dX0_force_26 (by decide) ?_
  exact t0_force_b28 C hQ (-2) M _ _ _ h I (lv_sub hl [0] rfl)
theorem t0_force {p : Program} {l : Launch} {e : Env} {s : State} {m : MethodId} {args : Array Value} {below : List Frame} {meth : Method} {c : Code} {D : va_G} {T ad : Nat → Nat} {A : Nat → Prop} {H0 : Heap} {Qs : State → Prop} {Q : Int32 → Mem → Prop} (C : XC D T RX0 p m c cX0_force 3 s args) (hQ : xExi p l e rX0_force s m args below meth c cX0_force D T ad A H0 Qs Q) (v1 : Int32) (v2 : Int32) (M : Mem) (H : Heap) (locs : List Loc) (ls : Array Slot) (h : w0_force v1 v2 M Q) (I : XI D T ad A H0 M H locs) (hl : lv_has ls 3 [(0, .ref (ad 0)), (1, .int v1), (2, .int v2)]) : W p l e rX0_force s m args below meth c H locs 0 0 Qs (F0 m 0 ls []) := by
  have hx := C.1.1
  have hb := C.1.2.1
  have how := C.1.2.2.2.1
  have hts := C.1.2.2.2.2
  unfold w0_force at h
  refine lv_aload_n hx hb dX0_force_0 rfl (lv_at hl 0 rfl) ?_
  refine lv_iload_n hx hb dX0_force_1 rfl (lv_at hl 1 rfl) ?_
  refine x_calli (As := [.int v1]) (rest := []) C I (fun ra => met0_isCarter l D T ad ra v1 M h) (cw0_126 hts ⟨Nat.le_of_ble_eq_true rfl, Nat.le_of_ble_eq_true rfl⟩) rfl hl.1 rfl (Nat.le_of_ble_eq_true rfl) ⟨Nat.zero_le _, Nat.zero_le _⟩ dX0_force_2 (fun r1 M2 H locs h I => ?_)
  refine lv_if_eq (tgt := 26) hx hb dX0_force_5 (by decide) (fun c => ?_) (fun c => ?_)
  · have h := h.1 c
    exact t0_force_b26 C hQ M2 _ _ _ h I (lv_sub hl [0] rfl)
  · have h := h.2 c
    refine lv_iload_n hx hb dX0_force_8 rfl (lv_at hl 2 rfl) ?_
    refine lv_iconst (v := 0) hx hb dX0_force_9 (by decide) ?_
    refine lv_iconst (v := 2) hx hb dX0_force_10 (by decide) ?_
    refine x_purei (As := [.int v2, .int 0, .int 2]) (rest := []) C I (met0_in l v2 0 2 h) (cw0_5 hts ⟨Nat.le_of_ble_eq_true rfl, Nat.le_of_ble_eq_true rfl⟩) rfl hl.1 rfl (Nat.le_of_ble_eq_true rfl) ⟨Nat.zero_le _, Nat.zero_le _⟩ dX0_force_11 (fun r3 H locs h I => ?_)
    refine lv_if_eq (tgt := 26) hx hb dX0_force_14 (by decide) (fun c => ?_) (fun c => ?_)
    · have h := h.1 c
      exact t0_force_b26 C hQ M2 _ _ _ h I (lv_sub hl [0] rfl)
    · have h := h.2 c
      refine lv_aload_n hx hb dX0_force_17 rfl (lv_at hl 0 rfl) ?_
      refine lv_iload_n hx hb dX0_force_18 rfl (lv_at hl 1 rfl) ?_
      refine lv_iload_n hx hb dX0_force_19 rfl (lv_at hl 2 rfl) ?_
      refine x_calli (As := [.int v1, .int v2]) (rest := []) C I (fun ra => met0_forceOf l D T ad ra v1 v2 M2 h) (cw0_353 hts ⟨Nat.le_of_ble_eq_true rfl, Nat.le_of_ble_eq_true rfl⟩) rfl hl.1 rfl (Nat.le_of_ble_eq_true rfl) ⟨Nat.zero_le _, Nat.zero_le _⟩ dX0_force_20 (fun r4 M5 H locs h I => ?_)
      refine lv_goto (tgt := 28) hx hb dX0_force_23 (by decide) ?_
      exact t0_force_b28 C hQ r4 M5 _ _ _ h I (lv_sub hl [0] rfl)
theorem met0_force (l : Launch) (D : va_G) (T ad ra : Nat → Nat) (v1 : Int32) (v2 : Int32) (M : Mem) {Qp : Int32 → Mem → Prop} (h : w0_force v1 v2 M Qp) (sz : Nat) : Met l yX0_force (ws_ yX0_force cX0_force 3 (some .int)) rX0_force (xPc D T ad ra 0 [.int v1, .int v2] M sz) (xQi D T ad ra M Qp sz) 0 0 (fA (cX T ad ra M) sz) :=
  x_metI (own := RX0) (As := [.int v1, .int v2]) rfl rfl (Nat.le_of_ble_eq_true rfl) (fun p e s m args below meth c A Qs ls C hQ I hl => t0_force C hQ v1 v2 M _ _ ls h I hl) sz
/-! mostAlike -/
abbrev rX0_mostAlike : Room := { frames := 1, cells := 0, slots := 0, locals := 21 }
theorem t0_mostAlike_b69 {p : Program} {l : Launch} {e : Env} {s : State} {m : MethodId} {args : Array Value} {below : List Frame} {meth : Method} {c : Code} {D : va_G} {T ad : Nat → Nat} {A : Nat → Prop} {H0 : Heap} {Qs : State → Prop} {Q : Int32 → Mem → Prop} {K5 : Int32 → Int32 → Int32 → Int32 → Mem → Prop} {K17 : Int32 → Int32 → Int32 → Int32 → Int32 → Int32 → Mem → Prop} (C : XC D T RX0 p m c cX0_mostAlike 7 s args) (hQ : xExi p l e rX0_mostAlike s m args below meth c cX0_mostAlike D T ad A H0 Qs Q) (hK5 : ∀ (v1 : Int32) (v2 : Int32) (v3 : Int32) (v4 : Int32) (M : Mem) (H : Heap) (locs : List Loc) (ls : Array Slot), K5 v1 v2 v3 v4 M → XI D T ad A H0 M H locs → lv_has ls 7 [(0, .ref (ad 0)), (1, .int v1), (2, .int v2), (3, .int v3), (4, .int v4)] → W p l e rX0_mostAlike s m args below meth c H locs 0 0 Qs (F0 m 5 ls [])) (hK17 : ∀ (v1 : Int32) (v2 : Int32) (v3 : Int32) (v4 : Int32) (v5 : Int32) (v6 : Int32) (M : Mem) (H : Heap) (locs : List Loc) (ls : Array Slot), K17 v1 v2 v3 v4 v5 v6 M → XI D T ad A H0 M H locs → lv_has ls 7 [(0, .ref (ad 0)), (1, .int v1), (2, .int v2), (3, .int v3), (4, .int v4), (5, .int v5), (6, .int v6)] → W p l e rX0_mostAlike s m args below meth c H locs 0 0 Qs (F0 m 17 ls [])) (v1 : Int32) (v2 : Int32) (v3 : Int32) (v4 : Int32) (v6 : Int32) (s0 : Int32) (s1 : Int32) (M : Mem) (H : Heap) (locs : List Loc) (ls : Array Slot) (h : w0_mostAlike_b69 Q K5 K17 v1 v2 v3 v4 v6 s0 s1 M) (I : XI D T ad A H0 M H locs) (hl : lv_has ls 7 [(0, .ref (ad 0)), (1, .int v1), (2, .int v2), (3, .int v3), (4, .int v4), (6, .int v6)]) : W p l e rX0_mostAlike s m args below meth c H locs 0 0 Qs (F0 m 69 ls [.int s1, .int s0]) := by
  have hx := C.1.1
  have hb := C.1.2.1
  have how := C.1.2.2.2.1
  have hts := C.1.2.2.2.2
  unfold w0_mostAlike_b69 at h
  refine lv_iadd hx hb dX0_mostAlike_69 ?_
  refine lv_istore (lv' := [(5, .int (s0 + s1)), (0, .ref (ad 0)), (1, .int v1), (2, .int v2), (3, .int v3), (4, .int v4), (6, .int v6)]) hx hb dX0_mostAlike_70 hl (by decide) rfl (fun ls hl => ?_)
  refine lv_iinc (v := (v6 + 1)) (lv' := [(6, .int (v6 + 1)), (5, .int (s0 + s1)), (0, .ref (ad 0)), (1, .int v1), (2, .int v2), (3, .int v3), (4, .int v4)]) hx hb dX0_mostAlike_72 hl (k := 6) rfl (ii_1 _) (by decide) rfl (fun ls hl => ?_)
  refine lv_goto (tgt := 17) hx hb dX0_mostAlike_75 (by decide) ?_
  exact hK17 v1 v2 v3 v4 (s0 + s1) (v6 + 1) M _ _ _ h I (lv_sub hl [2, 3, 4, 5, 6, 1, 0] rfl)
theorem t0_mostAlike_b68 {p : Program} {l : Launch} {e : Env} {s : State} {m : MethodId} {args : Array Value} {below : List Frame} {meth : Method} {c : Code} {D : va_G} {T ad : Nat → Nat} {A : Nat → Prop} {H0 : Heap} {Qs : State → Prop} {Q : Int32 → Mem → Prop} {K5 : Int32 → Int32 → Int32 → Int32 → Mem → Prop} {K17 : Int32 → Int32 → Int32 → Int32 → Int32 → Int32 → Mem → Prop} (C : XC D T RX0 p m c cX0_mostAlike 7 s args) (hQ : xExi p l e rX0_mostAlike s m args below meth c cX0_mostAlike D T ad A H0 Qs Q) (hK5 : ∀ (v1 : Int32) (v2 : Int32) (v3 : Int32) (v4 : Int32) (M : Mem) (H : Heap) (locs : List Loc) (ls : Array Slot), K5 v1 v2 v3 v4 M → XI D T ad A H0 M H locs → lv_has ls 7 [(0, .ref (ad 0)), (1, .int v1), (2, .int v2), (3, .int v3), (4, .int v4)] → W p l e rX0_mostAlike s m args below meth c H locs 0 0 Qs (F0 m 5 ls [])) (hK17 : ∀ (v1 : Int32) (v2 : Int32) (v3 : Int32) (v4 : Int32) (v5 : Int32) (v6 : Int32) (M : Mem) (H : Heap) (locs : List Loc) (ls : Array Slot), K17 v1 v2 v3 v4 v5 v6 M → XI D T ad A H0 M H locs → lv_has ls 7 [(0, .ref (ad 0)), (1, .int v1), (2, .int v2), (3, .int v3), (4, .int v4), (5, .int v5), (6, .int v6)] → W p l e rX0_mostAlike s m args below meth c H locs 0 0 Qs (F0 m 17 ls [])) (v1 : Int32) (v2 : Int32) (v3 : Int32) (v4 : Int32) (v6 : Int32) (s0 : Int32) (M : Mem) (H : Heap) (locs : List Loc) (ls : Array Slot) (h : w0_mostAlike_b68 Q K5 K17 v1 v2 v3 v4 v6 s0 M) (I : XI D T ad A H0 M H locs) (hl : lv_has ls 7 [(0, .ref (ad 0)), (1, .int v1), (2, .int v2), (3, .int v3), (4, .int v4), (6, .int v6)]) : W p l e rX0_mostAlike s m args below meth c H locs 0 0 Qs (F0 m 68 ls [.int s0]) := by
  have hx := C.1.1
  have hb := C.1.2.1
  have how := C.1.2.2.2.1
  have hts := C.1.2.2.2.2
  unfold w0_mostAlike_b68 at h
  refine lv_iconst (v := 0) hx hb dX0_mostAlike_68 (by decide) ?_
  exact t0_mostAlike_b69 C hQ hK5 hK17 v1 v2 v3 v4 v6 s0 0 M _ _ _ h I (lv_sub hl [0, 1, 2, 3, 4, 5] rfl)
theorem t0_mostAlike_b17_f {p : Program} {l : Launch} {e : Env} {s : State} {m : MethodId} {args : Array Value} {below : List Frame} {meth : Method} {c : Code} {D : va_G} {T ad : Nat → Nat} {A : Nat → Prop} {H0 : Heap} {Qs : State → Prop} {Q : Int32 → Mem → Prop} {K5 : Int32 → Int32 → Int32 → Int32 → Mem → Prop} {K17 : Int32 → Int32 → Int32 → Int32 → Int32 → Int32 → Mem → Prop} (C : XC D T RX0 p m c cX0_mostAlike 7 s args) (hQ : xExi p l e rX0_mostAlike s m args below meth c cX0_mostAlike D T ad A H0 Qs Q) (hK5 : ∀ (v1 : Int32) (v2 : Int32) (v3 : Int32) (v4 : Int32) (M : Mem) (H : Heap) (locs : List Loc) (ls : Array Slot), K5 v1 v2 v3 v4 M → XI D T ad A H0 M H locs → lv_has ls 7 [(0, .ref (ad 0)), (1, .int v1), (2, .int v2), (3, .int v3), (4, .int v4)] → W p l e rX0_mostAlike s m args below meth c H locs 0 0 Qs (F0 m 5 ls [])) (hK17 : ∀ (v1 : Int32) (v2 : Int32) (v3 : Int32) (v4 : Int32) (v5 : Int32) (v6 : Int32) (M : Mem) (H : Heap) (locs : List Loc) (ls : Array Slot), K17 v1 v2 v3 v4 v5 v6 M → XI D T ad A H0 M H locs → lv_has ls 7 [(0, .ref (ad 0)), (1, .int v1), (2, .int v2), (3, .int v3), (4, .int v4), (5, .int v5), (6, .int v6)] → W p l e rX0_mostAlike s m args below meth c H locs 0 0 Qs (F0 m 17 ls [])) (v1 : Int32) (v2 : Int32) (v3 : Int32) (v4 : Int32) (v5 : Int32) (v6 : Int32) (M : Mem) (H : Heap) (locs : List Loc) (ls : Array Slot) (h : w0_mostAlike_b17_f Q K5 K17 v1 v2 v3 v4 v5 v6 M) (I : XI D T ad A H0 M H locs) (hl : lv_has ls 7 [(0, .ref (ad 0)), (1, .int v1), (2, .int v2), (3, .int v3), (4, .int v4), (5, .int v5), (6, .int v6)]) : W p l e rX0_mostAlike s m args below meth c H locs 0 0 Qs (F0 m 17 ls []) := by
  have hx := C.1.1
  have hb := C.1.2.1
  have how := C.1.2.2.2.1
  have hts := C.1.2.2.2.2
  unfold w0_mostAlike_b17_f at h
  refine lv_iload hx hb dX0_mostAlike_17 (lv_at hl 6 rfl) ?_
  refine lv_iconst (v := 3) hx hb dX0_mostAlike_19 (by decide) ?_
  refine lv_icmp_ge (tgt := 78) hx hb dX0_mostAlike_20 (by decide) (fun c => ?_) (fun c => ?_)
  · have h := h.1 c
    refine lv_iload_n hx hb dX0_mostAlike_78 rfl (lv_at hl 3 rfl) ?_
    refine lv_iload hx hb dX0_mostAlike_79 (lv_at hl 5 rfl) ?_
    refine x_max (x := v3) (z := v5) C hl.1 (Nat.le_of_ble_eq_true rfl) (Nat.le_of_ble_eq_true rfl) ⟨Nat.zero_le _, Nat.zero_le _⟩ dX0_mostAlike_81 ?_
    refine lv_istore_n (lv' := [(3, .int (imax v3 v5)), (0, .ref (ad 0)), (1, .int v1), (2, .int v2), (4, .int v4), (5, .int v5), (6, .int v6)]) hx hb dX0_mostAlike_84 rfl hl (by decide) rfl (fun ls hl => ?_)
    refine lv_iinc (v := (v4 + 1)) (lv' := [(4, .int (v4 + 1)), (3, .int (imax v3 v5)), (0, .ref (ad 0)), (1, .int v1), (2, .int v2), (5, .int v5), (6, .int v6)]) hx hb dX0_mostAlike_85 hl (k := 4) rfl (ii_1 _) (by decide) rfl (fun ls hl => ?_)
    refine lv_goto (tgt := 5) hx hb dX0_mostAlike_88 (by decide) ?_
    exact hK5 v1 v2 (imax v3 v5) (v4 + 1) M _ _ _ h I (lv_sub hl [2, 3, 4, 1, 0] rfl)
  · have h := h.2 c
    refine lv_iload hx hb dX0_mostAlike_23 (lv_at hl 5 rfl) ?_
    refine lv_iload_n hx hb dX0_mostAlike_25 rfl (lv_at hl 1 rfl) ?_
    refine lv_iload hx hb dX0_mostAlike_26 (lv_at hl 4 rfl) ?_
    refine x_purei (As := [.int v1, .int v4]) (rest := [.int v5]) C I (met0_has l v1 v4 h) (cw0_206 hts ⟨Nat.le_of_ble_eq_true rfl, Nat.le_of_ble_eq_true rfl⟩) rfl hl.1 rfl (Nat.le_of_ble_eq_true rfl) ⟨Nat.zero_le _, Nat.zero_le _⟩ dX0_mostAlike_28 (fun r1 H locs h I => ?_)
    refine lv_if_eq (tgt := 68) hx hb dX0_mostAlike_31 (by decide) (fun c => ?_) (fun c => ?_)
    · have h := h.1 c
      exact t0_mostAlike_b68 C hQ hK5 hK17 v1 v2 v3 v4 v6 v5 M _ _ _ h I (lv_sub hl [0, 1, 2, 3, 4, 6] rfl)
    · have h := h.2 c
      refine lv_iload_n hx hb dX0_mostAlike_34 rfl (lv_at hl 1 rfl) ?_
      refine lv_iload hx hb dX0_mostAlike_35 (lv_at hl 6 rfl) ?_
      refine x_purei (As := [.int v1, .int v6]) (rest := [.int v5]) C I (met0_has l v1 v6 h) (cw0_206 hts ⟨Nat.le_of_ble_eq_true rfl, Nat.le_of_ble_eq_true rfl⟩) rfl hl.1 rfl (Nat.le_of_ble_eq_true rfl) ⟨Nat.zero_le _, Nat.zero_le _⟩ dX0_mostAlike_37 (fun r2 H locs h I => ?_)
      refine lv_if_eq (tgt := 68) hx hb dX0_mostAlike_40 (by decide) (fun c => ?_) (fun c => ?_)
      · have h := h.1 c
        exact t0_mostAlike_b68 C hQ hK5 hK17 v1 v2 v3 v4 v6 v5 M _ _ _ h I (lv_sub hl [0, 1, 2, 3, 4, 6] rfl)
      · have h := h.2 c
        refine lv_aload_n hx hb dX0_mostAlike_43 rfl (lv_at hl 0 rfl) ?_
        refine xg_placeBy C I dX0_mostAlike_44 ?_
        refine lv_iload hx hb dX0_mostAlike_47 (lv_at hl 4 rfl) ?_
        obtain ⟨hg3, h⟩ := h
        refine xa_placeBy C I hg3 dX0_mostAlike_49 ?_
        refine lv_iload_n hx hb dX0_mostAlike_50 rfl (lv_at hl 2 rfl) ?_
        obtain ⟨hg4, h⟩ := h
        refine x_iald C I (100 + ci v4) (lenX (100 + ci v4)) rfl hg4 dX0_mostAlike_51 ?_
        refine lv_aload_n hx hb dX0_mostAlike_52 rfl (lv_at hl 0 rfl) ?_
        refine xg_placeBy C I dX0_mostAlike_53 ?_
        refine lv_iload hx hb dX0_mostAlike_56 (lv_at hl 6 rfl) ?_
        obtain ⟨hg5, h⟩ := h
        refine xa_placeBy C I hg5 dX0_mostAlike_58 ?_
        refine lv_iload_n hx hb dX0_mostAlike_59 rfl (lv_at hl 2 rfl) ?_
        obtain ⟨hg6, h⟩ := h
        refine x_iald C I (100 + ci v6) (lenX (100 + ci v6)) rfl hg6 dX0_mostAlike_60 ?_
        refine lv_icmp_ne (tgt := 68) hx hb dX0_mostAlike_61 (by decide) (fun c => ?_) (fun c => ?_)
        · have h := h.2 c
          exact t0_mostAlike_b68 C hQ hK5 hK17 v1 v2 v3 v4 v6 v5 M _ _ _ h I (lv_sub hl [0, 1, 2, 3, 4, 6] rfl)
        · have h := h.1 c
          refine lv_iconst (v := 1) hx hb dX0_mostAlike_64 (by decide) ?_
          refine lv_goto (tgt := 69) hx hb dX0_mostAlike_65 (by decide) ?_
          exact t0_mostAlike_b69 C hQ hK5 hK17 v1 v2 v3 v4 v6 v5 1 M _ _ _ h I (lv_sub hl [0, 1, 2, 3, 4, 6] rfl)
theorem t0_mostAlike_b17 {p : Program} {l : Launch} {e : Env} {s : State} {m : MethodId} {args : Array Value} {below : List Frame} {meth : Method} {c : Code} {D : va_G} {T ad : Nat → Nat} {A : Nat → Prop} {H0 : Heap} {Qs : State → Prop} {Q : Int32 → Mem → Prop} {K5 : Int32 → Int32 → Int32 → Int32 → Mem → Prop} (C : XC D T RX0 p m c cX0_mostAlike 7 s args) (hQ : xExi p l e rX0_mostAlike s m args below meth c cX0_mostAlike D T ad A H0 Qs Q) (hK5 : ∀ (v1 : Int32) (v2 : Int32) (v3 : Int32) (v4 : Int32) (M : Mem) (H : Heap) (locs : List Loc) (ls : Array Slot), K5 v1 v2 v3 v4 M → XI D T ad A H0 M H locs → lv_has ls 7 [(0, .ref (ad 0)), (1, .int v1), (2, .int v2), (3, .int v3), (4, .int v4)] → W p l e rX0_mostAlike s m args below meth c H locs 0 0 Qs (F0 m 5 ls [])) : ∀ (n : Nat) (v1 : Int32) (v2 : Int32) (v3 : Int32) (v4 : Int32) (v5 : Int32) (v6 : Int32) (M : Mem) (H : Heap) (locs : List Loc) (ls : Array Slot), w0_mostAlike_b17 Q K5 n v1 v2 v3 v4 v5 v6 M → XI D T ad A H0 M H locs → lv_has ls 7 [(0, .ref (ad 0)), (1, .int v1), (2, .int v2), (3, .int v3), (4, .int v4), (5, .int v5), (6, .int v6)] → W p l e rX0_mostAlike s m args below meth c H locs 0 0 Qs (F0 m 17 ls []) := by
  intro n
  induction n with
  | zero => intro v1 v2 v3 v4 v5 v6 M H locs ls h; exact h.elim
  | succ n ih => intro v1 v2 v3 v4 v5 v6 M H locs ls h I hl; exact t0_mostAlike_b17_f C hQ hK5 ih v1 v2 v3 v4 v5 v6 M H locs ls h I hl
theorem t0_mostAlike_b5_f {p : Program} {l : Launch} {e : Env} {s : State} {m : MethodId} {args : Array Value} {below : List Frame} {meth : Method} {c : Code} {D : va_G} {T ad : Nat → Nat} {A : Nat → Prop} {H0 : Heap} {Qs : State → Prop} {Q : Int32 → Mem → Prop} {K5 : Int32 → Int32 → Int32 → Int32 → Mem → Prop} (C : XC D T RX0 p m c cX0_mostAlike 7 s args) (hQ : xExi p l e rX0_mostAlike s m args below meth c cX0_mostAlike D T ad A H0 Qs Q) (hK5 : ∀ (v1 : Int32) (v2 : Int32) (v3 : Int32) (v4 : Int32) (M : Mem) (H : Heap) (locs : List Loc) (ls : Array Slot), K5 v1 v2 v3 v4 M → XI D T ad A H0 M H locs → lv_has ls 7 [(0, .ref (ad 0)), (1, .int v1), (2, .int v2), (3, .int v3), (4, .int v4)] → W p l e rX0_mostAlike s m args below meth c H locs 0 0 Qs (F0 m 5 ls [])) (v1 : Int32) (v2 : Int32) (v3 : Int32) (v4 : Int32) (M : Mem) (H : Heap) (locs : List Loc) (ls : Array Slot) (h : w0_mostAlike_b5_f Q K5 v1 v2 v3 v4 M) (I : XI D T ad A H0 M H locs) (hl : lv_has ls 7 [(0, .ref (ad 0)), (1, .int v1), (2, .int v2), (3, .int v3), (4, .int v4)]) : W p l e rX0_mostAlike s m args below meth c H locs 0 0 Qs (F0 m 5 ls []) := by
  have hx := C.1.1
  have hb := C.1.2.1
  have how := C.1.2.2.2.1
  have hts := C.1.2.2.2.2
  unfold w0_mostAlike_b5_f at h
  refine lv_iload hx hb dX0_mostAlike_5 (lv_at hl 4 rfl) ?_
  refine lv_iconst (v := 3) hx hb dX0_mostAlike_7 (by decide) ?_
  refine lv_icmp_ge (tgt := 91) hx hb dX0_mostAlike_8 (by decide) (fun c => ?_) (fun c => ?_)
  · have h := h.1 c
    refine lv_iload_n hx hb dX0_mostAlike_91 rfl (lv_at hl 3 rfl) ?_
    exact hQ _ _ _ _ _ _ h I dX0_mostAlike_92
  · have h := h.2 c
    refine lv_iconst (v := 0) hx hb dX0_mostAlike_11 (by decide) ?_
    refine lv_istore (lv' := [(5, .int 0), (0, .ref (ad 0)), (1, .int v1), (2, .int v2), (3, .int v3), (4, .int v4)]) hx hb dX0_mostAlike_12 hl (by decide) rfl (fun ls hl => ?_)
    refine lv_iconst (v := 0) hx hb dX0_mostAlike_14 (by decide) ?_
    refine lv_istore (lv' := [(6, .int 0), (5, .int 0), (0, .ref (ad 0)), (1, .int v1), (2, .int v2), (3, .int v3), (4, .int v4)]) hx hb dX0_mostAlike_15 hl (by decide) rfl (fun ls hl => ?_)
    obtain ⟨n, h⟩ := h
    exact t0_mostAlike_b17 C hQ hK5 n v1 v2 v3 v4 0 0 M _ _ _ h I (lv_sub hl [2, 3, 4, 5, 6, 1, 0] rfl)
theorem t0_mostAlike_b5 {p : Program} {l : Launch} {e : Env} {s : State} {m : MethodId} {args : Array Value} {below : List Frame} {meth : Method} {c : Code} {D : va_G} {T ad : Nat → Nat} {A : Nat → Prop} {H0 : Heap} {Qs : State → Prop} {Q : Int32 → Mem → Prop}  (C : XC D T RX0 p m c cX0_mostAlike 7 s args) (hQ : xExi p l e rX0_mostAlike s m args below meth c cX0_mostAlike D T ad A H0 Qs Q)  : ∀ (n : Nat) (v1 : Int32) (v2 : Int32) (v3 : Int32) (v4 : Int32) (M : Mem) (H : Heap) (locs : List Loc) (ls : Array Slot), w0_mostAlike_b5 Q n v1 v2 v3 v4 M → XI D T ad A H0 M H locs → lv_has ls 7 [(0, .ref (ad 0)), (1, .int v1), (2, .int v2), (3, .int v3), (4, .int v4)] → W p l e rX0_mostAlike s m args below meth c H locs 0 0 Qs (F0 m 5 ls []) := by
  intro n
  induction n with
  | zero => intro v1 v2 v3 v4 M H locs ls h; exact h.elim
  | succ n ih => intro v1 v2 v3 v4 M H locs ls h I hl; exact t0_mostAlike_b5_f C hQ  ih v1 v2 v3 v4 M H locs ls h I hl
theorem t0_mostAlike {p : Program} {l : Launch} {e : Env} {s : State} {m : MethodId} {args : Array Value} {below : List Frame} {meth : Method} {c : Code} {D : va_G} {T ad : Nat → Nat} {A : Nat → Prop} {H0 : Heap} {Qs : State → Prop} {Q : Int32 → Mem → Prop} (C : XC D T RX0 p m c cX0_mostAlike 7 s args) (hQ : xExi p l e rX0_mostAlike s m args below meth c cX0_mostAlike D T ad A H0 Qs Q) (v1 : Int32) (v2 : Int32) (M : Mem) (H : Heap) (locs : List Loc) (ls : Array Slot) (h : w0_mostAlike v1 v2 M Q) (I : XI D T ad A H0 M H locs) (hl : lv_has ls 7 [(0, .ref (ad 0)), (1, .int v1), (2, .int v2)]) : W p l e rX0_mostAlike s m args below meth c H locs 0 0 Qs (F0 m 0 ls []) := by
  have hx := C.1.1
  have hb := C.1.2.1
  have how := C.1.2.2.2.1
  have hts := C.1.2.2.2.2
  unfold w0_mostAlike at h
  refine lv_iconst (v := 0) hx hb dX0_mostAlike_0 (by decide) ?_
  refine lv_istore_n (lv' := [(3, .int 0), (0, .ref (ad 0)), (1, .int v1), (2, .int v2)]) hx hb dX0_mostAlike_1 rfl hl (by decide) rfl (fun ls hl => ?_)
  refine lv_iconst (v := 0) hx hb dX0_mostAlike_2 (by decide) ?_
  refine lv_istore (lv' := [(4, .int 0), (3, .int 0), (0, .ref (ad 0)), (1, .int v1), (2, .int v2)]) hx hb dX0_mostAlike_3 hl (by decide) rfl (fun ls hl => ?_)
  obtain ⟨n, h⟩ := h
  exact t0_mostAlike_b5 C hQ n v1 v2 0 0 M _ _ _ h I (lv_sub hl [2, 3, 4, 1, 0] rfl)
theorem met0_mostAlike (l : Launch) (D : va_G) (T ad ra : Nat → Nat) (v1 : Int32) (v2 : Int32) (M : Mem) {Qp : Int32 → Mem → Prop} (h : w0_mostAlike v1 v2 M Qp) (sz : Nat) : Met l yX0_mostAlike (ws_ yX0_mostAlike cX0_mostAlike 7 (some .int)) rX0_mostAlike (xPc D T ad ra 0 [.int v1, .int v2] M sz) (xQi D T ad ra M Qp sz) 0 0 (fA (cX T ad ra M) sz) :=
  x_metI (own := RX0) (As := [.int v1, .int v2]) rfl rfl (Nat.le_of_ble_eq_true rfl) (fun p e s m args below meth c A Qs ls C hQ I hl => t0_mostAlike C hQ v1 v2 M _ _ ls h I hl) sz
/-! askOf -/
abbrev rX0_askOf : Room := { frames := 9, cells := 0, slots := 0, locals := 202 }
theorem cw0_356 {R : Room} {s : State} {args : Array Value} (hts : ∀ w ∈ lw_all, w.before args s = true) (hR : rX0_mostAlike.frames + 1 ≤ R.frames ∧ 8 + (7 + 11) + rX0_mostAlike.locals ≤ R.locals) : CallW R s args RX0 RX0 356 yX0_mostAlike cX0_mostAlike 7 (some .int) (ws_ yX0_mostAlike cX0_mostAlike 7 (some .int)) rX0_mostAlike 0 0 2 := cwV 2 hts (lw_V q484 q486 qs43 q89 q487) rfl rfl rfl (by decide +kernel) hR
theorem t0_askOf_b40 {p : Program} {l : Launch} {e : Env} {s : State} {m : MethodId} {args : Array Value} {below : List Frame} {meth : Method} {c : Code} {D : va_G} {T ad : Nat → Nat} {A : Nat → Prop} {H0 : Heap} {Qs : State → Prop} {Q : Int32 → Mem → Prop} {K11 : Int32 → Int32 → Int32 → Mem → Prop} (C : XC D T RX0 p m c cX0_askOf 5 s args) (hQ : xExi p l e rX0_askOf s m args below meth c cX0_askOf D T ad A H0 Qs Q) (hK11 : ∀ (v2 : Int32) (v3 : Int32) (v4 : Int32) (M : Mem) (H : Heap) (locs : List Loc) (ls : Array Slot), K11 v2 v3 v4 M → XI D T ad A H0 M H locs → lv_has ls 5 [(0, .ref (ad 0)), (2, .int v2), (3, .int v3), (4, .int v4)] → W p l e rX0_askOf s m args below meth c H locs 0 0 Qs (F0 m 11 ls [])) (v2 : Int32) (v4 : Int32) (s0 : Int32) (M : Mem) (H : Heap) (locs : List Loc) (ls : Array Slot) (h : w0_askOf_b40 Q K11 v2 v4 s0 M) (I : XI D T ad A H0 M H locs) (hl : lv_has ls 5 [(0, .ref (ad 0)), (2, .int v2), (4, .int v4)]) : W p l e rX0_askOf s m args below meth c H locs 0 0 Qs (F0 m 40 ls [.int s0]) := by
  have hx := C.1.1
  have hb := C.1.2.1
  have how := C.1.2.2.2.1
  have hts := C.1.2.2.2.2
  unfold w0_askOf_b40 at h
  refine lv_istore_n (lv' := [(3, .int s0), (0, .ref (ad 0)), (2, .int v2), (4, .int v4)]) hx hb dX0_askOf_40 rfl hl (by decide) rfl (fun ls hl => ?_)
  refine lv_iinc (v := (v4 + 1)) (lv' := [(4, .int (v4 + 1)), (3, .int s0), (0, .ref (ad 0)), (2, .int v2)]) hx hb dX0_askOf_41 hl (k := 3) rfl (ii_1 _) (by decide) rfl (fun ls hl => ?_)
  refine lv_goto (tgt := 11) hx hb dX0_askOf_44 (by decide) ?_
  exact hK11 v2 s0 (v4 + 1) M _ _ _ h I (lv_sub hl [2, 3, 1, 0] rfl)
theorem t0_askOf_b11_f {p : Program} {l : Launch} {e : Env} {s : State} {m : MethodId} {args : Array Value} {below : List Frame} {meth : Method} {c : Code} {D : va_G} {T ad : Nat → Nat} {A : Nat → Prop} {H0 : Heap} {Qs : State → Prop} {Q : Int32 → Mem → Prop} {K11 : Int32 → Int32 → Int32 → Mem → Prop} (C : XC D T RX0 p m c cX0_askOf 5 s args) (hQ : xExi p l e rX0_askOf s m args below meth c cX0_askOf D T ad A H0 Qs Q) (hK11 : ∀ (v2 : Int32) (v3 : Int32) (v4 : Int32) (M : Mem) (H : Heap) (locs : List Loc) (ls : Array Slot), K11 v2 v3 v4 M → XI D T ad A H0 M H locs → lv_has ls 5 [(0, .ref (ad 0)), (2, .int v2), (3, .int v3), (4, .int v4)] → W p l e rX0_askOf s m args below meth c H locs 0 0 Qs (F0 m 11 ls [])) (v2 : Int32) (v3 : Int32) (v4 : Int32) (M : Mem) (H : Heap) (locs : List Loc) (ls : Array Slot) (h : w0_askOf_b11_f Q K11 v2 v3 v4 M) (I : XI D T ad A H0 M H locs) (hl : lv_has ls 5 [(0, .ref (ad 0)), (2, .int v2), (3, .int v3), (4, .int v4)]) : W p l e rX0_askOf s m args below meth c H locs 0 0 Qs (F0 m 11 ls []) := by
  have hx := C.1.1
  have hb := C.1.2.1
  have how := C.1.2.2.2.1
  have hts := C.1.2.2.2.2
  unfold w0_askOf_b11_f at h
  refine lv_iload hx hb dX0_askOf_11 (lv_at hl 3 rfl) ?_
  refine lv_bipush (v := 40) hx hb dX0_askOf_13 (by decide) ?_
  refine lv_icmp_ge (tgt := 47) hx hb dX0_askOf_15 (by decide) (fun c => ?_) (fun c => ?_)
  · have h := h.1 c
    refine lv_iload_n hx hb dX0_askOf_47 rfl (lv_at hl 2 rfl) ?_
    exact hQ _ _ _ _ _ _ h I dX0_askOf_48
  · have h := h.2 c
    refine lv_aload_n hx hb dX0_askOf_18 rfl (lv_at hl 0 rfl) ?_
    refine lv_iload_n hx hb dX0_askOf_19 rfl (lv_at hl 1 rfl) ?_
    refine lv_iload hx hb dX0_askOf_20 (lv_at hl 3 rfl) ?_
    refine x_calli (As := [.int v2, .int v4]) (rest := []) C I (fun ra => met0_mostAlike l D T ad ra v2 v4 M h) (cw0_356 hts ⟨Nat.le_of_ble_eq_true rfl, Nat.le_of_ble_eq_true rfl⟩) rfl hl.1 rfl (Nat.le_of_ble_eq_true rfl) ⟨Nat.zero_le _, Nat.zero_le _⟩ dX0_askOf_22 (fun r1 M2 H locs h I => ?_)
    refine lv_aload_n hx hb dX0_askOf_25 rfl (lv_at hl 0 rfl) ?_
    refine lv_iload_n hx hb dX0_askOf_26 rfl (lv_at hl 1 rfl) ?_
    refine lv_iload_n hx hb dX0_askOf_27 rfl (lv_at hl 2 rfl) ?_
    refine x_calli (As := [.int v2, .int v3]) (rest := [.int r1]) C I (fun ra => met0_mostAlike l D T ad ra v2 v3 M2 h) (cw0_356 hts ⟨Nat.le_of_ble_eq_true rfl, Nat.le_of_ble_eq_true rfl⟩) rfl hl.1 rfl (Nat.le_of_ble_eq_true rfl) ⟨Nat.zero_le _, Nat.zero_le _⟩ dX0_askOf_28 (fun r3 M4 H locs h I => ?_)
    refine lv_icmp_ge (tgt := 39) hx hb dX0_askOf_31 (by decide) (fun c => ?_) (fun c => ?_)
    · have h := h.1 c
      refine lv_iload_n hx hb dX0_askOf_39 rfl (lv_at hl 2 rfl) ?_
      exact t0_askOf_b40 C hQ hK11 v2 v4 v3 M4 _ _ _ h I (lv_sub hl [0, 1, 3] rfl)
    · have h := h.2 c
      refine lv_iload hx hb dX0_askOf_34 (lv_at hl 3 rfl) ?_
      refine lv_goto (tgt := 40) hx hb dX0_askOf_36 (by decide) ?_
      exact t0_askOf_b40 C hQ hK11 v2 v4 v4 M4 _ _ _ h I (lv_sub hl [0, 1, 3] rfl)
theorem t0_askOf_b11 {p : Program} {l : Launch} {e : Env} {s : State} {m : MethodId} {args : Array Value} {below : List Frame} {meth : Method} {c : Code} {D : va_G} {T ad : Nat → Nat} {A : Nat → Prop} {H0 : Heap} {Qs : State → Prop} {Q : Int32 → Mem → Prop}  (C : XC D T RX0 p m c cX0_askOf 5 s args) (hQ : xExi p l e rX0_askOf s m args below meth c cX0_askOf D T ad A H0 Qs Q)  : ∀ (n : Nat) (v2 : Int32) (v3 : Int32) (v4 : Int32) (M : Mem) (H : Heap) (locs : List Loc) (ls : Array Slot), w0_askOf_b11 Q n v2 v3 v4 M → XI D T ad A H0 M H locs → lv_has ls 5 [(0, .ref (ad 0)), (2, .int v2), (3, .int v3), (4, .int v4)] → W p l e rX0_askOf s m args below meth c H locs 0 0 Qs (F0 m 11 ls []) := by
  intro n
  induction n with
  | zero => intro v2 v3 v4 M H locs ls h; exact h.elim
  | succ n ih => intro v2 v3 v4 M H locs ls h I hl; exact t0_askOf_b11_f C hQ  ih v2 v3 v4 M H locs ls h I hl
theorem t0_askOf {p : Program} {l : Launch} {e : Env} {s : State} {m : MethodId} {args : Array Value} {below : List Frame} {meth : Method} {c : Code} {D : va_G} {T ad : Nat → Nat} {A : Nat → Prop} {H0 : Heap} {Qs : State → Prop} {Q : Int32 → Mem → Prop} (C : XC D T RX0 p m c cX0_askOf 5 s args) (hQ : xExi p l e rX0_askOf s m args below meth c cX0_askOf D T ad A H0 Qs Q) (v1 : Int32) (M : Mem) (H : Heap) (locs : List Loc) (ls : Array Slot) (h : w0_askOf v1 M Q) (I : XI D T ad A H0 M H locs) (hl : lv_has ls 5 [(0, .ref (ad 0)), (1, .int v1)]) : W p l e rX0_askOf s m args below meth c H locs 0 0 Qs (F0 m 0 ls []) := by
  have hx := C.1.1
  have hb := C.1.2.1
  have how := C.1.2.2.2.1
  have hts := C.1.2.2.2.2
  unfold w0_askOf at h
  refine lv_aload_n hx hb dX0_askOf_0 rfl (lv_at hl 0 rfl) ?_
  refine lv_iload_n hx hb dX0_askOf_1 rfl (lv_at hl 1 rfl) ?_
  refine x_calli (As := [.int v1]) (rest := []) C I (fun ra => met0_sortOf l D T ad ra v1 M h) (cw0_350 hts ⟨Nat.le_of_ble_eq_true rfl, Nat.le_of_ble_eq_true rfl⟩) rfl hl.1 rfl (Nat.le_of_ble_eq_true rfl) ⟨Nat.zero_le _, Nat.zero_le _⟩ dX0_askOf_2 (fun r5 M6 H locs h I => ?_)
  refine lv_istore_n (lv' := [(2, .int r5), (0, .ref (ad 0)), (1, .int v1)]) hx hb dX0_askOf_5 rfl hl (by decide) rfl (fun ls hl => ?_)
  refine lv_iconst (v := 0) hx hb dX0_askOf_6 (by decide) ?_
  refine lv_istore_n (lv' := [(3, .int 0), (2, .int r5), (0, .ref (ad 0)), (1, .int v1)]) hx hb dX0_askOf_7 rfl hl (by decide) rfl (fun ls hl => ?_)
  refine lv_iconst (v := 1) hx hb dX0_askOf_8 (by decide) ?_
  refine lv_istore (lv' := [(4, .int 1), (3, .int 0), (2, .int r5), (0, .ref (ad 0)), (1, .int v1)]) hx hb dX0_askOf_9 hl (by decide) rfl (fun ls hl => ?_)
  obtain ⟨n, h⟩ := h
  exact t0_askOf_b11 C hQ n r5 0 1 M6 _ _ _ h I (lv_sub hl [3, 2, 1, 0] rfl)
theorem met0_askOf (l : Launch) (D : va_G) (T ad ra : Nat → Nat) (v1 : Int32) (M : Mem) {Qp : Int32 → Mem → Prop} (h : w0_askOf v1 M Qp) (sz : Nat) : Met l yX0_askOf (ws_ yX0_askOf cX0_askOf 5 (some .int)) rX0_askOf (xPc D T ad ra 0 [.int v1] M sz) (xQi D T ad ra M Qp sz) 0 0 (fA (cX T ad ra M) sz) :=
  x_metI (own := RX0) (As := [.int v1]) rfl rfl (Nat.le_of_ble_eq_true rfl) (fun p e s m args below meth c A Qs ls C hQ I hl => t0_askOf C hQ v1 M _ _ ls h I hl) sz
/-! ask -/
abbrev rX0_ask : Room := { frames := 10, cells := 0, slots := 0, locals := 226 }
theorem cw0_359 {R : Room} {s : State} {args : Array Value} (hts : ∀ w ∈ lw_all, w.before args s = true) (hR : rX0_askOf.frames + 1 ≤ R.frames ∧ 8 + (5 + 11) + rX0_askOf.locals ≤ R.locals) : CallW R s args RX0 RX0 359 yX0_askOf cX0_askOf 5 (some .int) (ws_ yX0_askOf cX0_askOf 5 (some .int)) rX0_askOf 0 0 1 := cwV 1 hts (lw_V q480 q482 qs42 q89 q483) rfl rfl rfl (by decide +kernel) hR
theorem t0_ask_b18 {p : Program} {l : Launch} {e : Env} {s : State} {m : MethodId} {args : Array Value} {below : List Frame} {meth : Method} {c : Code} {D : va_G} {T ad : Nat → Nat} {A : Nat → Prop} {H0 : Heap} {Qs : State → Prop} {Q : Int32 → Mem → Prop}  (C : XC D T RX0 p m c cX0_ask 2 s args) (hQ : xExi p l e rX0_ask s m args below meth c cX0_ask D T ad A H0 Qs Q)  (s0 : Int32) (M : Mem) (H : Heap) (locs : List Loc) (ls : Array Slot) (h : w0_ask_b18 Q s0 M) (I : XI D T ad A H0 M H locs) (hl : lv_has ls 2 [(0, .ref (ad 0))]) : W p l e rX0_ask s m args below meth c H locs 0 0 Qs (F0 m 18 ls [.int s0]) := by
  have hx := C.1.1
  have hb := C.1.2.1
  have how := C.1.2.2.2.1
  have hts := C.1.2.2.2.2
  unfold w0_ask_b18 at h
  exact hQ _ _ _ _ _ _ h I dX0_ask_18
theorem t0_ask {p : Program} {l : Launch} {e : Env} {s : State} {m : MethodId} {args : Array Value} {below : List Frame} {meth : Method} {c : Code} {D : va_G} {T ad : Nat → Nat} {A : Nat → Prop} {H0 : Heap} {Qs : State → Prop} {Q : Int32 → Mem → Prop} (C : XC D T RX0 p m c cX0_ask 2 s args) (hQ : xExi p l e rX0_ask s m args below meth c cX0_ask D T ad A H0 Qs Q) (v1 : Int32) (M : Mem) (H : Heap) (locs : List Loc) (ls : Array Slot) (h : w0_ask v1 M Q) (I : XI D T ad A H0 M H locs) (hl : lv_has ls 2 [(0, .ref (ad 0)), (1, .int v1)]) : W p l e rX0_ask s m args below meth c H locs 0 0 Qs (F0 m 0 ls []) := by
  have hx := C.1.1
  have hb := C.1.2.1
  have how := C.1.2.2.2.1
  have hts := C.1.2.2.2.2
  unfold w0_ask at h
  refine lv_aload_n hx hb dX0_ask_0 rfl (lv_at hl 0 rfl) ?_
  refine lv_iload_n hx hb dX0_ask_1 rfl (lv_at hl 1 rfl) ?_
  refine x_calli (As := [.int v1]) (rest := []) C I (fun ra => met0_isCarter l D T ad ra v1 M h) (cw0_126 hts ⟨Nat.le_of_ble_eq_true rfl, Nat.le_of_ble_eq_true rfl⟩) rfl hl.1 rfl (Nat.le_of_ble_eq_true rfl) ⟨Nat.zero_le _, Nat.zero_le _⟩ dX0_ask_2 (fun r1 M2 H locs h I => ?_)
  refine lv_if_eq (tgt := 16) hx hb dX0_ask_5 (by decide) (fun c => ?_) (fun c => ?_)
  · have h := h.1 c
    refine lv_bipush (v := -2) hx hb dX0_ask_16 (by decide) ?_
    exact t0_ask_b18 C hQ (-2) M2 _ _ _ h I (lv_sub hl [0] rfl)
  · have h := h.2 c
    refine lv_aload_n hx hb dX0_ask_8 rfl (lv_at hl 0 rfl) ?_
    refine lv_iload_n hx hb dX0_ask_9 rfl (lv_at hl 1 rfl) ?_
    refine x_calli (As := [.int v1]) (rest := []) C I (fun ra => met0_askOf l D T ad ra v1 M2 h) (cw0_359 hts ⟨Nat.le_of_ble_eq_true rfl, Nat.le_of_ble_eq_true rfl⟩) rfl hl.1 rfl (Nat.le_of_ble_eq_true rfl) ⟨Nat.zero_le _, Nat.zero_le _⟩ dX0_ask_10 (fun r3 M4 H locs h I => ?_)
    refine lv_goto (tgt := 18) hx hb dX0_ask_13 (by decide) ?_
    exact t0_ask_b18 C hQ r3 M4 _ _ _ h I (lv_sub hl [0] rfl)
theorem met0_ask (l : Launch) (D : va_G) (T ad ra : Nat → Nat) (v1 : Int32) (M : Mem) {Qp : Int32 → Mem → Prop} (h : w0_ask v1 M Qp) (sz : Nat) : Met l yX0_ask (ws_ yX0_ask cX0_ask 2 (some .int)) rX0_ask (xPc D T ad ra 0 [.int v1] M sz) (xQi D T ad ra M Qp sz) 0 0 (fA (cX T ad ra M) sz) :=
  x_metI (own := RX0) (As := [.int v1]) rfl rfl (Nat.le_of_ble_eq_true rfl) (fun p e s m args below meth c A Qs ls C hQ I hl => t0_ask C hQ v1 M _ _ ls h I hl) sz
/-! lowest -/
abbrev rX0_lowest : Room := { frames := 0, cells := 0, slots := 0, locals := 0 }
theorem t0_lowest_b47 {p : Program} {l : Launch} {e : Env} {s : State} {m : MethodId} {args : Array Value} {below : List Frame} {meth : Method} {c : Code} {A : Nat → Prop} {H0 : Heap} {Qs : State → Prop} {Q : Int64 → Prop}  (S : CallFix p m c cX0_lowest 11 s args lw_all RX0) (hA : ∀ q, H0.size ≤ q → A q) (hQ : pExl p l e rX0_lowest s m args below meth c cX0_lowest A H0 Qs Q)  (s0 : Int64) (H : Heap) (locs : List Loc) (ls : Array Slot) (h : w0_lowest_b47 Q s0) (hS : va_S A H0 H locs) (hl : lv_has ls 11 []) : W p l e rX0_lowest s m args below meth c H locs 0 0 Qs (F0 m 47 ls [.long s0]) := by
  have hx := S.1
  have hb := S.2.1
  have how := S.2.2.2.1
  have hts := S.2.2.2.2
  unfold w0_lowest_b47 at h
  exact hQ _ _ _ _ _ h hS dX0_lowest_47
theorem t0_lowest_b6_f {p : Program} {l : Launch} {e : Env} {s : State} {m : MethodId} {args : Array Value} {below : List Frame} {meth : Method} {c : Code} {A : Nat → Prop} {H0 : Heap} {Qs : State → Prop} {Q : Int64 → Prop} {K6 : Int64 → Int64 → Int32 → Int64 → Int64 → Prop} (S : CallFix p m c cX0_lowest 11 s args lw_all RX0) (hA : ∀ q, H0.size ≤ q → A q) (hQ : pExl p l e rX0_lowest s m args below meth c cX0_lowest A H0 Qs Q) (hK6 : ∀ (v0 : Int64) (v2 : Int64) (v4 : Int32) (v5 : Int64) (v7 : Int64) (H : Heap) (locs : List Loc) (ls : Array Slot), K6 v0 v2 v4 v5 v7 → va_S A H0 H locs → lv_has ls 11 [(0, .long v0), (2, .long v2), (4, .int v4), (5, .long v5), (7, .long v7)] → W p l e rX0_lowest s m args below meth c H locs 0 0 Qs (F0 m 6 ls [])) (v0 : Int64) (v2 : Int64) (v4 : Int32) (v5 : Int64) (v7 : Int64) (H : Heap) (locs : List Loc) (ls : Array Slot) (h : w0_lowest_b6_f Q K6 v0 v2 v4 v5 v7) (hS : va_S A H0 H locs) (hl : lv_has ls 11 [(0, .long v0), (2, .long v2), (4, .int v4), (5, .long v5), (7, .long v7)]) : W p l e rX0_lowest s m args below meth c H locs 0 0 Qs (F0 m 6 ls []) := by
  have hx := S.1
  have hb := S.2.1
  have how := S.2.2.2.1
  have hts := S.2.2.2.2
  unfold w0_lowest_b6_f at h
  refine lv_lload hx hb dX0_lowest_6 (lv_at hl 4 rfl) ?_
  refine lv_lconst (v := 0) hx hb dX0_lowest_8 rfl ?_
  refine W.lcmp hx hb dX0_lowest_9 ?_
  refine lv_if_eq (tgt := 31) hx hb dX0_lowest_10 (by decide) (fun c => ?_) (fun c => ?_)
  · have h := h.1 c
    refine lv_iload hx hb dX0_lowest_31 (lv_at hl 2 rfl) ?_
    refine lv_if_ne (tgt := 43) hx hb dX0_lowest_33 (by decide) (fun c => ?_) (fun c => ?_)
    · have h := h.2 c
      refine lv_lload_n hx hb dX0_lowest_43 rfl (lv_at hl 1 rfl) ?_
      refine lv_lload hx hb dX0_lowest_44 (lv_at hl 3 rfl) ?_
      obtain ⟨hg2, h⟩ := h
      refine lv_ldiv hx hb dX0_lowest_46 hg2 ?_
      exact t0_lowest_b47 S hA hQ (v2 / v5) _ _ _ h hS (lv_sub hl [] rfl)
    · have h := h.1 c
      refine lv_lload_n hx hb dX0_lowest_36 rfl (lv_at hl 0 rfl) ?_
      refine lv_lload hx hb dX0_lowest_37 (lv_at hl 3 rfl) ?_
      obtain ⟨hg1, h⟩ := h
      refine lv_ldiv hx hb dX0_lowest_39 hg1 ?_
      refine lv_goto (tgt := 47) hx hb dX0_lowest_40 (by decide) ?_
      exact t0_lowest_b47 S hA hQ (v0 / v5) _ _ _ h hS (lv_sub hl [] rfl)
  · have h := h.2 c
    refine lv_lload hx hb dX0_lowest_13 (lv_at hl 3 rfl) ?_
    refine lv_lload hx hb dX0_lowest_15 (lv_at hl 4 rfl) ?_
    obtain ⟨hg3, h⟩ := h
    refine lv_lrem hx hb dX0_lowest_17 hg3 ?_
    refine lv_lstore (lv' := [(9, .long (v5 - v5 / v7 * v7)), (0, .long v0), (2, .long v2), (4, .int v4), (5, .long v5), (7, .long v7)]) hx hb dX0_lowest_18 hl (by decide) rfl (fun ls hl => ?_)
    refine lv_lload hx hb dX0_lowest_20 (lv_at hl 5 rfl) ?_
    refine lv_lstore (lv' := [(5, .long v7), (9, .long (v5 - v5 / v7 * v7)), (0, .long v0), (2, .long v2), (4, .int v4), (7, .long v7)]) hx hb dX0_lowest_22 hl (by decide) rfl (fun ls hl => ?_)
    refine lv_lload hx hb dX0_lowest_24 (lv_at hl 1 rfl) ?_
    refine lv_lstore (lv' := [(7, .long (v5 - v5 / v7 * v7)), (5, .long v7), (9, .long (v5 - v5 / v7 * v7)), (0, .long v0), (2, .long v2), (4, .int v4)]) hx hb dX0_lowest_26 hl (by decide) rfl (fun ls hl => ?_)
    refine lv_goto (tgt := 6) hx hb dX0_lowest_28 (by decide) ?_
    exact hK6 v0 v2 v4 v7 (v5 - v5 / v7 * v7) _ _ _ h hS (lv_sub hl [3, 4, 5, 1, 0] rfl)
theorem t0_lowest_b6 {p : Program} {l : Launch} {e : Env} {s : State} {m : MethodId} {args : Array Value} {below : List Frame} {meth : Method} {c : Code} {A : Nat → Prop} {H0 : Heap} {Qs : State → Prop} {Q : Int64 → Prop}  (S : CallFix p m c cX0_lowest 11 s args lw_all RX0) (hA : ∀ q, H0.size ≤ q → A q) (hQ : pExl p l e rX0_lowest s m args below meth c cX0_lowest A H0 Qs Q)  : ∀ (n : Nat) (v0 : Int64) (v2 : Int64) (v4 : Int32) (v5 : Int64) (v7 : Int64) (H : Heap) (locs : List Loc) (ls : Array Slot), w0_lowest_b6 Q n v0 v2 v4 v5 v7 → va_S A H0 H locs → lv_has ls 11 [(0, .long v0), (2, .long v2), (4, .int v4), (5, .long v5), (7, .long v7)] → W p l e rX0_lowest s m args below meth c H locs 0 0 Qs (F0 m 6 ls []) := by
  intro n
  induction n with
  | zero => intro v0 v2 v4 v5 v7 H locs ls h; exact h.elim
  | succ n ih => intro v0 v2 v4 v5 v7 H locs ls h I hl; exact t0_lowest_b6_f S hA hQ  ih v0 v2 v4 v5 v7 H locs ls h I hl
theorem t0_lowest {p : Program} {l : Launch} {e : Env} {s : State} {m : MethodId} {args : Array Value} {below : List Frame} {meth : Method} {c : Code} {A : Nat → Prop} {H0 : Heap} {Qs : State → Prop} {Q : Int64 → Prop} (S : CallFix p m c cX0_lowest 11 s args lw_all RX0) (hA : ∀ q, H0.size ≤ q → A q) (hQ : pExl p l e rX0_lowest s m args below meth c cX0_lowest A H0 Qs Q) (v0 : Int64) (v2 : Int64) (v4 : Int32) (H : Heap) (locs : List Loc) (ls : Array Slot) (h : w0_lowest v0 v2 v4 Q) (hS : va_S A H0 H locs) (hl : lv_has ls 11 [(0, .long v0), (2, .long v2), (4, .int v4)]) : W p l e rX0_lowest s m args below meth c H locs 0 0 Qs (F0 m 0 ls []) := by
  have hx := S.1
  have hb := S.2.1
  have how := S.2.2.2.1
  have hts := S.2.2.2.2
  unfold w0_lowest at h
  refine lv_lload_n hx hb dX0_lowest_0 rfl (lv_at hl 0 rfl) ?_
  refine lv_lstore (lv' := [(5, .long v0), (0, .long v0), (2, .long v2), (4, .int v4)]) hx hb dX0_lowest_1 hl (by decide) rfl (fun ls hl => ?_)
  refine lv_lload_n hx hb dX0_lowest_3 rfl (lv_at hl 2 rfl) ?_
  refine lv_lstore (lv' := [(7, .long v2), (5, .long v0), (0, .long v0), (2, .long v2), (4, .int v4)]) hx hb dX0_lowest_4 hl (by decide) rfl (fun ls hl => ?_)
  obtain ⟨n, h⟩ := h
  exact t0_lowest_b6 S hA hQ n v0 v2 v4 v0 v2 _ _ _ h hS (lv_sub hl [2, 3, 4, 1, 0] rfl)
theorem met0_lowest (l : Launch) (v0 : Int64) (v2 : Int64) (v4 : Int32) {Qp : Int64 → Prop} (h : w0_lowest v0 v2 v4 Qp) (sz : Nat) : Met l yX0_lowest (ws_ yX0_lowest cX0_lowest 11 (some .long)) rX0_lowest (pPc [.long v0, .long v2, .int v4] sz) (pQl Qp sz) 0 0 (pA sz) :=
  p_metL (As := [.long v0, .long v2, .int v4]) rfl (Nat.le_of_ble_eq_true rfl) (fun p e s m args below meth c Qs ls S hQ hl => t0_lowest S (fun q h => h) hQ v0 v2 v4 _ _ ls h va_S.rf hl) sz
/-! rumourOf -/
abbrev rX0_rumourOf : Room := { frames := 8, cells := 0, slots := 0, locals := 177 }
theorem cw0_362 {R : Room} {s : State} {args : Array Value} (hts : ∀ w ∈ lw_all, w.before args s = true) (hR : rX0_lowest.frames + 1 ≤ R.frames ∧ 8 + (11 + 11) + rX0_lowest.locals ≤ R.locals) : CallB R s args RX0 362 yX0_lowest cX0_lowest 11 (some .long) (ws_ yX0_lowest cX0_lowest 11 (some .long)) rX0_lowest 0 0 3 ∧ (Cond.static yX0_lowest).before args s = true := va_cwS 3 hts (lw_S q496 q497 q89 q498) rfl rfl rfl (by decide +kernel) hR
theorem t0_rumourOf_b110 {p : Program} {l : Launch} {e : Env} {s : State} {m : MethodId} {args : Array Value} {below : List Frame} {meth : Method} {c : Code} {D : va_G} {T ad : Nat → Nat} {A : Nat → Prop} {H0 : Heap} {Qs : State → Prop} {Q : Int64 → Mem → Prop} {K10 : Int32 → Int32 → Int32 → Int64 → Int32 → Mem → Prop} (C : XC D T RX0 p m c cX0_rumourOf 10 s args) (hQ : xExl p l e rX0_rumourOf s m args below meth c cX0_rumourOf D T ad A H0 Qs Q) (hK10 : ∀ (v1 : Int32) (v2 : Int32) (v3 : Int32) (v4 : Int64) (v6 : Int32) (M : Mem) (H : Heap) (locs : List Loc) (ls : Array Slot), K10 v1 v2 v3 v4 v6 M → XI D T ad A H0 M H locs → lv_has ls 10 [(0, .ref (ad 0)), (1, .int v1), (2, .int v2), (3, .int v3), (4, .long v4), (6, .int v6)] → W p l e rX0_rumourOf s m args below meth c H locs 0 0 Qs (F0 m 10 ls [])) (v1 : Int32) (v2 : Int32) (v3 : Int32) (v4 : Int64) (v6 : Int32) (M : Mem) (H : Heap) (locs : List Loc) (ls : Array Slot) (h : w0_rumourOf_b110 Q K10 v1 v2 v3 v4 v6 M) (I : XI D T ad A H0 M H locs) (hl : lv_has ls 10 [(0, .ref (ad 0)), (1, .int v1), (2, .int v2), (3, .int v3), (4, .long v4), (6, .int v6)]) : W p l e rX0_rumourOf s m args below meth c H locs 0 0 Qs (F0 m 110 ls []) := by
  have hx := C.1.1
  have hb := C.1.2.1
  have how := C.1.2.2.2.1
  have hts := C.1.2.2.2.2
  unfold w0_rumourOf_b110 at h
  refine lv_iinc (v := (v6 + 1)) (lv' := [(6, .int (v6 + 1)), (0, .ref (ad 0)), (1, .int v1), (2, .int v2), (3, .int v3), (4, .long v4)]) hx hb dX0_rumourOf_110 hl (k := 5) rfl (ii_1 _) (by decide) rfl (fun ls hl => ?_)
  refine lv_goto (tgt := 10) hx hb dX0_rumourOf_113 (by decide) ?_
  exact hK10 v1 v2 v3 v4 (v6 + 1) M _ _ _ h I (lv_sub hl [1, 2, 3, 4, 5, 0] rfl)
theorem t0_rumourOf_b107 {p : Program} {l : Launch} {e : Env} {s : State} {m : MethodId} {args : Array Value} {below : List Frame} {meth : Method} {c : Code} {D : va_G} {T ad : Nat → Nat} {A : Nat → Prop} {H0 : Heap} {Qs : State → Prop} {Q : Int64 → Mem → Prop} {K10 : Int32 → Int32 → Int32 → Int64 → Int32 → Mem → Prop} (C : XC D T RX0 p m c cX0_rumourOf 10 s args) (hQ : xExl p l e rX0_rumourOf s m args below meth c cX0_rumourOf D T ad A H0 Qs Q) (hK10 : ∀ (v1 : Int32) (v2 : Int32) (v3 : Int32) (v4 : Int64) (v6 : Int32) (M : Mem) (H : Heap) (locs : List Loc) (ls : Array Slot), K10 v1 v2 v3 v4 v6 M → XI D T ad A H0 M H locs → lv_has ls 10 [(0, .ref (ad 0)), (1, .int v1), (2, .int v2), (3, .int v3), (4, .long v4), (6, .int v6)] → W p l e rX0_rumourOf s m args below meth c H locs 0 0 Qs (F0 m 10 ls [])) (v1 : Int32) (v2 : Int32) (v3 : Int32) (v6 : Int32) (s0 : Int64) (s1 : Int64) (M : Mem) (H : Heap) (locs : List Loc) (ls : Array Slot) (h : w0_rumourOf_b107 Q K10 v1 v2 v3 v6 s0 s1 M) (I : XI D T ad A H0 M H locs) (hl : lv_has ls 10 [(0, .ref (ad 0)), (1, .int v1), (2, .int v2), (3, .int v3), (6, .int v6)]) : W p l e rX0_rumourOf s m args below meth c H locs 0 0 Qs (F0 m 107 ls [.long s1, .long s0]) := by
  have hx := C.1.1
  have hb := C.1.2.1
  have how := C.1.2.2.2.1
  have hts := C.1.2.2.2.2
  unfold w0_rumourOf_b107 at h
  refine lv_ladd hx hb dX0_rumourOf_107 ?_
  refine lv_lstore (lv' := [(4, .long (s0 + s1)), (0, .ref (ad 0)), (1, .int v1), (2, .int v2), (3, .int v3), (6, .int v6)]) hx hb dX0_rumourOf_108 hl (by decide) rfl (fun ls hl => ?_)
  exact t0_rumourOf_b110 C hQ hK10 v1 v2 v3 (s0 + s1) v6 M _ _ _ h I (lv_sub hl [1, 2, 3, 4, 0, 5] rfl)
theorem t0_rumourOf_b58 {p : Program} {l : Launch} {e : Env} {s : State} {m : MethodId} {args : Array Value} {below : List Frame} {meth : Method} {c : Code} {D : va_G} {T ad : Nat → Nat} {A : Nat → Prop} {H0 : Heap} {Qs : State → Prop} {Q : Int64 → Mem → Prop} {K10 : Int32 → Int32 → Int32 → Int64 → Int32 → Mem → Prop} {K27 : Int32 → Int32 → Int32 → Int64 → Int32 → Int64 → Int32 → Mem → Prop} (C : XC D T RX0 p m c cX0_rumourOf 10 s args) (hQ : xExl p l e rX0_rumourOf s m args below meth c cX0_rumourOf D T ad A H0 Qs Q) (hK10 : ∀ (v1 : Int32) (v2 : Int32) (v3 : Int32) (v4 : Int64) (v6 : Int32) (M : Mem) (H : Heap) (locs : List Loc) (ls : Array Slot), K10 v1 v2 v3 v4 v6 M → XI D T ad A H0 M H locs → lv_has ls 10 [(0, .ref (ad 0)), (1, .int v1), (2, .int v2), (3, .int v3), (4, .long v4), (6, .int v6)] → W p l e rX0_rumourOf s m args below meth c H locs 0 0 Qs (F0 m 10 ls [])) (hK27 : ∀ (v1 : Int32) (v2 : Int32) (v3 : Int32) (v4 : Int64) (v6 : Int32) (v7 : Int64) (v9 : Int32) (M : Mem) (H : Heap) (locs : List Loc) (ls : Array Slot), K27 v1 v2 v3 v4 v6 v7 v9 M → XI D T ad A H0 M H locs → lv_has ls 10 [(0, .ref (ad 0)), (1, .int v1), (2, .int v2), (3, .int v3), (4, .long v4), (6, .int v6), (7, .long v7), (9, .int v9)] → W p l e rX0_rumourOf s m args below meth c H locs 0 0 Qs (F0 m 27 ls [])) (v1 : Int32) (v2 : Int32) (v3 : Int32) (v4 : Int64) (v6 : Int32) (v9 : Int32) (s0 : Int64) (s1 : Int64) (M : Mem) (H : Heap) (locs : List Loc) (ls : Array Slot) (h : w0_rumourOf_b58 Q K10 K27 v1 v2 v3 v4 v6 v9 s0 s1 M) (I : XI D T ad A H0 M H locs) (hl : lv_has ls 10 [(0, .ref (ad 0)), (1, .int v1), (2, .int v2), (3, .int v3), (4, .long v4), (6, .int v6), (9, .int v9)]) : W p l e rX0_rumourOf s m args below meth c H locs 0 0 Qs (F0 m 58 ls [.long s1, .long s0]) := by
  have hx := C.1.1
  have hb := C.1.2.1
  have how := C.1.2.2.2.1
  have hts := C.1.2.2.2.2
  unfold w0_rumourOf_b58 at h
  refine lv_lmul hx hb dX0_rumourOf_58 ?_
  refine lv_lstore (lv' := [(7, .long (s0 * s1)), (0, .ref (ad 0)), (1, .int v1), (2, .int v2), (3, .int v3), (4, .long v4), (6, .int v6), (9, .int v9)]) hx hb dX0_rumourOf_59 hl (by decide) rfl (fun ls hl => ?_)
  refine lv_iinc (v := (v9 + 1)) (lv' := [(9, .int (v9 + 1)), (7, .long (s0 * s1)), (0, .ref (ad 0)), (1, .int v1), (2, .int v2), (3, .int v3), (4, .long v4), (6, .int v6)]) hx hb dX0_rumourOf_61 hl (k := 7) rfl (ii_1 _) (by decide) rfl (fun ls hl => ?_)
  refine lv_goto (tgt := 27) hx hb dX0_rumourOf_64 (by decide) ?_
  exact hK27 v1 v2 v3 v4 v6 (s0 * s1) (v9 + 1) M _ _ _ h I (lv_sub hl [2, 3, 4, 5, 6, 7, 1, 0] rfl)
theorem t0_rumourOf_b27_f {p : Program} {l : Launch} {e : Env} {s : State} {m : MethodId} {args : Array Value} {below : List Frame} {meth : Method} {c : Code} {D : va_G} {T ad : Nat → Nat} {A : Nat → Prop} {H0 : Heap} {Qs : State → Prop} {Q : Int64 → Mem → Prop} {K10 : Int32 → Int32 → Int32 → Int64 → Int32 → Mem → Prop} {K27 : Int32 → Int32 → Int32 → Int64 → Int32 → Int64 → Int32 → Mem → Prop} (C : XC D T RX0 p m c cX0_rumourOf 10 s args) (hQ : xExl p l e rX0_rumourOf s m args below meth c cX0_rumourOf D T ad A H0 Qs Q) (hK10 : ∀ (v1 : Int32) (v2 : Int32) (v3 : Int32) (v4 : Int64) (v6 : Int32) (M : Mem) (H : Heap) (locs : List Loc) (ls : Array Slot), K10 v1 v2 v3 v4 v6 M → XI D T ad A H0 M H locs → lv_has ls 10 [(0, .ref (ad 0)), (1, .int v1), (2, .int v2), (3, .int v3), (4, .long v4), (6, .int v6)] → W p l e rX0_rumourOf s m args below meth c H locs 0 0 Qs (F0 m 10 ls [])) (hK27 : ∀ (v1 : Int32) (v2 : Int32) (v3 : Int32) (v4 : Int64) (v6 : Int32) (v7 : Int64) (v9 : Int32) (M : Mem) (H : Heap) (locs : List Loc) (ls : Array Slot), K27 v1 v2 v3 v4 v6 v7 v9 M → XI D T ad A H0 M H locs → lv_has ls 10 [(0, .ref (ad 0)), (1, .int v1), (2, .int v2), (3, .int v3), (4, .long v4), (6, .int v6), (7, .long v7), (9, .int v9)] → W p l e rX0_rumourOf s m args below meth c H locs 0 0 Qs (F0 m 27 ls [])) (v1 : Int32) (v2 : Int32) (v3 : Int32) (v4 : Int64) (v6 : Int32) (v7 : Int64) (v9 : Int32) (M : Mem) (H : Heap) (locs : List Loc) (ls : Array Slot) (h : w0_rumourOf_b27_f Q K10 K27 v1 v2 v3 v4 v6 v7 v9 M) (I : XI D T ad A H0 M H locs) (hl : lv_has ls 10 [(0, .ref (ad 0)), (1, .int v1), (2, .int v2), (3, .int v3), (4, .long v4), (6, .int v6), (7, .long v7), (9, .int v9)]) : W p l e rX0_rumourOf s m args below meth c H locs 0 0 Qs (F0 m 27 ls []) := by
  have hx := C.1.1
  have hb := C.1.2.1
  have how := C.1.2.2.2.1
  have hts := C.1.2.2.2.2
  unfold w0_rumourOf_b27_f at h
  refine lv_iload hx hb dX0_rumourOf_27 (lv_at hl 7 rfl) ?_
  refine lv_aload_n hx hb dX0_rumourOf_29 rfl (lv_at hl 0 rfl) ?_
  refine xg_answers C I dX0_rumourOf_30 ?_
  refine lv_icmp_ge (tgt := 67) hx hb dX0_rumourOf_33 (by decide) (fun c => ?_) (fun c => ?_)
  · have h := h.1 c
    refine lv_lload hx hb dX0_rumourOf_67 (lv_at hl 6 rfl) ?_
    refine lv_lconst (v := 0) hx hb dX0_rumourOf_69 rfl ?_
    refine W.lcmp hx hb dX0_rumourOf_70 ?_
    refine lv_if_le (tgt := 110) hx hb dX0_rumourOf_71 (by decide) (fun c => ?_) (fun c => ?_)
    · have h := h.1 c
      exact t0_rumourOf_b110 C hQ hK10 v1 v2 v3 v4 v6 M _ _ _ h I (lv_sub hl [0, 1, 2, 3, 4, 5] rfl)
    · have h := h.2 c
      refine lv_aload_n hx hb dX0_rumourOf_74 rfl (lv_at hl 0 rfl) ?_
      refine lv_iload hx hb dX0_rumourOf_75 (lv_at hl 5 rfl) ?_
      refine xp_notAnswers C I dX0_rumourOf_77 (fun M1 H locs eM1 I => ?_)
      have h := h M1 eM1
      refine lv_aload_n hx hb dX0_rumourOf_80 rfl (lv_at hl 0 rfl) ?_
      refine lv_bipush (v := 39) hx hb dX0_rumourOf_81 (by decide) ?_
      refine x_callv (As := [.int 39]) (rest := []) C I (fun ra => met0_runs l D T ad ra 39 M1 h) (cw0_276 hts ⟨Nat.le_of_ble_eq_true rfl, Nat.le_of_ble_eq_true rfl⟩) rfl hl.1 rfl (Nat.le_of_ble_eq_true rfl) ⟨Nat.zero_le _, Nat.zero_le _⟩ dX0_rumourOf_83 (fun M2 H locs h I => ?_)
      refine lv_lload hx hb dX0_rumourOf_86 (lv_at hl 4 rfl) ?_
      refine lv_aload_n hx hb dX0_rumourOf_88 rfl (lv_at hl 0 rfl) ?_
      refine xg_all C I dX0_rumourOf_89 ?_
      refine lv_iload_n hx hb dX0_rumourOf_92 rfl (lv_at hl 2 rfl) ?_
      obtain ⟨hg3, h⟩ := h
      refine xa_all C I hg3 dX0_rumourOf_93 ?_
      refine xcg0_is C I (isCar_of hg3) dX0_rumourOf_94 ?_
      refine lv_iconst (v := 2) hx hb dX0_rumourOf_97 (by decide) ?_
      refine lv_icmp_ne (tgt := 106) hx hb dX0_rumourOf_98 (by decide) (fun c => ?_) (fun c => ?_)
      · have h := h.2 c
        refine lv_lconst (v := 0) hx hb dX0_rumourOf_106 rfl ?_
        exact t0_rumourOf_b107 C hQ hK10 v1 v2 v3 v6 v4 0 M2 _ _ _ h I (lv_sub hl [0, 1, 2, 3, 5] rfl)
      · have h := h.1 c
        refine lv_lload hx hb dX0_rumourOf_101 (lv_at hl 6 rfl) ?_
        refine lv_goto (tgt := 107) hx hb dX0_rumourOf_103 (by decide) ?_
        exact t0_rumourOf_b107 C hQ hK10 v1 v2 v3 v6 v4 v7 M2 _ _ _ h I (lv_sub hl [0, 1, 2, 3, 5] rfl)
  · have h := h.2 c
    refine lv_lload hx hb dX0_rumourOf_36 (lv_at hl 6 rfl) ?_
    refine lv_iload hx hb dX0_rumourOf_38 (lv_at hl 5 rfl) ?_
    refine lv_iload hx hb dX0_rumourOf_40 (lv_at hl 7 rfl) ?_
    refine x_purei (As := [.int v6, .int v9]) (rest := [.long v7]) C I (met0_has l v6 v9 h) (cw0_206 hts ⟨Nat.le_of_ble_eq_true rfl, Nat.le_of_ble_eq_true rfl⟩) rfl hl.1 rfl (Nat.le_of_ble_eq_true rfl) ⟨Nat.zero_le _, Nat.zero_le _⟩ dX0_rumourOf_42 (fun r4 H locs h I => ?_)
    refine lv_if_eq (tgt := 56) hx hb dX0_rumourOf_45 (by decide) (fun c => ?_) (fun c => ?_)
    · have h := h.1 c
      refine lv_iload_n hx hb dX0_rumourOf_56 rfl (lv_at hl 1 rfl) ?_
      refine lv_i2l hx hb dX0_rumourOf_57 rfl ?_
      exact t0_rumourOf_b58 C hQ hK10 hK27 v1 v2 v3 v4 v6 v9 v7 (Int32.toInt64 v1) M _ _ _ h I (lv_sub hl [0, 1, 2, 3, 4, 5, 7] rfl)
    · have h := h.2 c
      refine lv_bipush (v := 16) hx hb dX0_rumourOf_48 (by decide) ?_
      refine lv_iload_n hx hb dX0_rumourOf_50 rfl (lv_at hl 1 rfl) ?_
      refine lv_isub hx hb dX0_rumourOf_51 ?_
      refine lv_i2l hx hb dX0_rumourOf_52 rfl ?_
      refine lv_goto (tgt := 58) hx hb dX0_rumourOf_53 (by decide) ?_
      exact t0_rumourOf_b58 C hQ hK10 hK27 v1 v2 v3 v4 v6 v9 v7 (Int32.toInt64 (16 - v1)) M _ _ _ h I (lv_sub hl [0, 1, 2, 3, 4, 5, 7] rfl)
theorem t0_rumourOf_b27 {p : Program} {l : Launch} {e : Env} {s : State} {m : MethodId} {args : Array Value} {below : List Frame} {meth : Method} {c : Code} {D : va_G} {T ad : Nat → Nat} {A : Nat → Prop} {H0 : Heap} {Qs : State → Prop} {Q : Int64 → Mem → Prop} {K10 : Int32 → Int32 → Int32 → Int64 → Int32 → Mem → Prop} (C : XC D T RX0 p m c cX0_rumourOf 10 s args) (hQ : xExl p l e rX0_rumourOf s m args below meth c cX0_rumourOf D T ad A H0 Qs Q) (hK10 : ∀ (v1 : Int32) (v2 : Int32) (v3 : Int32) (v4 : Int64) (v6 : Int32) (M : Mem) (H : Heap) (locs : List Loc) (ls : Array Slot), K10 v1 v2 v3 v4 v6 M → XI D T ad A H0 M H locs → lv_has ls 10 [(0, .ref (ad 0)), (1, .int v1), (2, .int v2), (3, .int v3), (4, .long v4), (6, .int v6)] → W p l e rX0_rumourOf s m args below meth c H locs 0 0 Qs (F0 m 10 ls [])) : ∀ (n : Nat) (v1 : Int32) (v2 : Int32) (v3 : Int32) (v4 : Int64) (v6 : Int32) (v7 : Int64) (v9 : Int32) (M : Mem) (H : Heap) (locs : List Loc) (ls : Array Slot), w0_rumourOf_b27 Q K10 n v1 v2 v3 v4 v6 v7 v9 M → XI D T ad A H0 M H locs → lv_has ls 10 [(0, .ref (ad 0)), (1, .int v1), (2, .int v2), (3, .int v3), (4, .long v4), (6, .int v6), (7, .long v7), (9, .int v9)] → W p l e rX0_rumourOf s m args below meth c H locs 0 0 Qs (F0 m 27 ls []) := by
  intro n
  induction n with
  | zero => intro v1 v2 v3 v4 v6 v7 v9 M H locs ls h; exact h.elim
  | succ n ih => intro v1 v2 v3 v4 v6 v7 v9 M H locs ls h I hl; exact t0_rumourOf_b27_f C hQ hK10 ih v1 v2 v3 v4 v6 v7 v9 M H locs ls h I hl
theorem t0_rumourOf_b10_f {p : Program} {l : Launch} {e : Env} {s : State} {m : MethodId} {args : Array Value} {below : List Frame} {meth : Method} {c : Code} {D : va_G} {T ad : Nat → Nat} {A : Nat → Prop} {H0 : Heap} {Qs : State → Prop} {Q : Int64 → Mem → Prop} {K10 : Int32 → Int32 → Int32 → Int64 → Int32 → Mem → Prop} (C : XC D T RX0 p m c cX0_rumourOf 10 s args) (hQ : xExl p l e rX0_rumourOf s m args below meth c cX0_rumourOf D T ad A H0 Qs Q) (hK10 : ∀ (v1 : Int32) (v2 : Int32) (v3 : Int32) (v4 : Int64) (v6 : Int32) (M : Mem) (H : Heap) (locs : List Loc) (ls : Array Slot), K10 v1 v2 v3 v4 v6 M → XI D T ad A H0 M H locs → lv_has ls 10 [(0, .ref (ad 0)), (1, .int v1), (2, .int v2), (3, .int v3), (4, .long v4), (6, .int v6)] → W p l e rX0_rumourOf s m args below meth c H locs 0 0 Qs (F0 m 10 ls [])) (v1 : Int32) (v2 : Int32) (v3 : Int32) (v4 : Int64) (v6 : Int32) (M : Mem) (H : Heap) (locs : List Loc) (ls : Array Slot) (h : w0_rumourOf_b10_f Q K10 v1 v2 v3 v4 v6 M) (I : XI D T ad A H0 M H locs) (hl : lv_has ls 10 [(0, .ref (ad 0)), (1, .int v1), (2, .int v2), (3, .int v3), (4, .long v4), (6, .int v6)]) : W p l e rX0_rumourOf s m args below meth c H locs 0 0 Qs (F0 m 10 ls []) := by
  have hx := C.1.1
  have hb := C.1.2.1
  have how := C.1.2.2.2.1
  have hts := C.1.2.2.2.2
  unfold w0_rumourOf_b10_f at h
  refine lv_iload hx hb dX0_rumourOf_10 (lv_at hl 5 rfl) ?_
  refine lv_iconst (v := 1) hx hb dX0_rumourOf_12 (by decide) ?_
  refine lv_aload_n hx hb dX0_rumourOf_13 rfl (lv_at hl 0 rfl) ?_
  refine xg_answers C I dX0_rumourOf_14 ?_
  refine lv_ishl hx hb dX0_rumourOf_17 ?_
  refine lv_icmp_ge (tgt := 116) hx hb dX0_rumourOf_18 (by decide) (fun c => ?_) (fun c => ?_)
  · have h := h.1 c
    refine lv_lload hx hb dX0_rumourOf_116 (lv_at hl 4 rfl) ?_
    refine lv_lconst (v := 1) hx hb dX0_rumourOf_118 rfl ?_
    refine lv_iconst (v := 4) hx hb dX0_rumourOf_119 (by decide) ?_
    refine lv_aload_n hx hb dX0_rumourOf_120 rfl (lv_at hl 0 rfl) ?_
    refine xg_answers C I dX0_rumourOf_121 ?_
    refine lv_imul hx hb dX0_rumourOf_124 ?_
    refine lv_lshl hx hb dX0_rumourOf_125 rfl ?_
    refine lv_iload_n hx hb dX0_rumourOf_126 rfl (lv_at hl 3 rfl) ?_
    refine x_purel (As := [.long v4, .long (1 <<< (Int32.toInt64 (4 * (M 0 12)) &&& 63)), .int v3]) (rest := []) C I (met0_lowest l v4 (1 <<< (Int32.toInt64 (4 * (M 0 12)) &&& 63)) v3 h) (cw0_362 hts ⟨Nat.le_of_ble_eq_true rfl, Nat.le_of_ble_eq_true rfl⟩) rfl hl.1 rfl (Nat.le_of_ble_eq_true rfl) ⟨Nat.zero_le _, Nat.zero_le _⟩ dX0_rumourOf_127 (fun r5 H locs h I => ?_)
    exact hQ _ _ _ _ _ _ h I dX0_rumourOf_130
  · have h := h.2 c
    refine lv_lconst (v := 1) hx hb dX0_rumourOf_21 rfl ?_
    refine lv_lstore (lv' := [(7, .long 1), (0, .ref (ad 0)), (1, .int v1), (2, .int v2), (3, .int v3), (4, .long v4), (6, .int v6)]) hx hb dX0_rumourOf_22 hl (by decide) rfl (fun ls hl => ?_)
    refine lv_iconst (v := 0) hx hb dX0_rumourOf_24 (by decide) ?_
    refine lv_istore (lv' := [(9, .int 0), (7, .long 1), (0, .ref (ad 0)), (1, .int v1), (2, .int v2), (3, .int v3), (4, .long v4), (6, .int v6)]) hx hb dX0_rumourOf_25 hl (by decide) rfl (fun ls hl => ?_)
    obtain ⟨n, h⟩ := h
    exact t0_rumourOf_b27 C hQ hK10 n v1 v2 v3 v4 v6 1 0 M _ _ _ h I (lv_sub hl [2, 3, 4, 5, 6, 7, 1, 0] rfl)
theorem t0_rumourOf_b10 {p : Program} {l : Launch} {e : Env} {s : State} {m : MethodId} {args : Array Value} {below : List Frame} {meth : Method} {c : Code} {D : va_G} {T ad : Nat → Nat} {A : Nat → Prop} {H0 : Heap} {Qs : State → Prop} {Q : Int64 → Mem → Prop}  (C : XC D T RX0 p m c cX0_rumourOf 10 s args) (hQ : xExl p l e rX0_rumourOf s m args below meth c cX0_rumourOf D T ad A H0 Qs Q)  : ∀ (n : Nat) (v1 : Int32) (v2 : Int32) (v3 : Int32) (v4 : Int64) (v6 : Int32) (M : Mem) (H : Heap) (locs : List Loc) (ls : Array Slot), w0_rumourOf_b10 Q n v1 v2 v3 v4 v6 M → XI D T ad A H0 M H locs → lv_has ls 10 [(0, .ref (ad 0)), (1, .int v1), (2, .int v2), (3, .int v3), (4, .long v4), (6, .int v6)] → W p l e rX0_rumourOf s m args below meth c H locs 0 0 Qs (F0 m 10 ls []) := by
  intro n
  induction n with
  | zero => intro v1 v2 v3 v4 v6 M H locs ls h; exact h.elim
  | succ n ih => intro v1 v2 v3 v4 v6 M H locs ls h I hl; exact t0_rumourOf_b10_f C hQ  ih v1 v2 v3 v4 v6 M H locs ls h I hl
theorem t0_rumourOf {p : Program} {l : Launch} {e : Env} {s : State} {m : MethodId} {args : Array Value} {below : List Frame} {meth : Method} {c : Code} {D : va_G} {T ad : Nat → Nat} {A : Nat → Prop} {H0 : Heap} {Qs : State → Prop} {Q : Int64 → Mem → Prop} (C : XC D T RX0 p m c cX0_rumourOf 10 s args) (hQ : xExl p l e rX0_rumourOf s m args below meth c cX0_rumourOf D T ad A H0 Qs Q) (v1 : Int32) (v2 : Int32) (v3 : Int32) (M : Mem) (H : Heap) (locs : List Loc) (ls : Array Slot) (h : w0_rumourOf v1 v2 v3 M Q) (I : XI D T ad A H0 M H locs) (hl : lv_has ls 10 [(0, .ref (ad 0)), (1, .int v1), (2, .int v2), (3, .int v3)]) : W p l e rX0_rumourOf s m args below meth c H locs 0 0 Qs (F0 m 0 ls []) := by
  have hx := C.1.1
  have hb := C.1.2.1
  have how := C.1.2.2.2.1
  have hts := C.1.2.2.2.2
  unfold w0_rumourOf at h
  refine lv_aload_n hx hb dX0_rumourOf_0 rfl (lv_at hl 0 rfl) ?_
  refine x_callv (As := []) (rest := []) C I (fun ra => met0_asTold l D T ad ra M h) (cw0_273 hts ⟨Nat.le_of_ble_eq_true rfl, Nat.le_of_ble_eq_true rfl⟩) rfl hl.1 rfl (Nat.le_of_ble_eq_true rfl) ⟨Nat.zero_le _, Nat.zero_le _⟩ dX0_rumourOf_1 (fun M6 H locs h I => ?_)
  refine lv_lconst (v := 0) hx hb dX0_rumourOf_4 rfl ?_
  refine lv_lstore (lv' := [(4, .long 0), (0, .ref (ad 0)), (1, .int v1), (2, .int v2), (3, .int v3)]) hx hb dX0_rumourOf_5 hl (by decide) rfl (fun ls hl => ?_)
  refine lv_iconst (v := 0) hx hb dX0_rumourOf_7 (by decide) ?_
  refine lv_istore (lv' := [(6, .int 0), (4, .long 0), (0, .ref (ad 0)), (1, .int v1), (2, .int v2), (3, .int v3)]) hx hb dX0_rumourOf_8 hl (by decide) rfl (fun ls hl => ?_)
  obtain ⟨n, h⟩ := h
  exact t0_rumourOf_b10 C hQ n v1 v2 v3 0 0 M6 _ _ _ h I (lv_sub hl [2, 3, 4, 5, 1, 0] rfl)
theorem met0_rumourOf (l : Launch) (D : va_G) (T ad ra : Nat → Nat) (v1 : Int32) (v2 : Int32) (v3 : Int32) (M : Mem) {Qp : Int64 → Mem → Prop} (h : w0_rumourOf v1 v2 v3 M Qp) (sz : Nat) : Met l yX0_rumourOf (ws_ yX0_rumourOf cX0_rumourOf 10 (some .long)) rX0_rumourOf (xPc D T ad ra 0 [.int v1, .int v2, .int v3] M sz) (xQl D T ad ra M Qp sz) 0 0 (fA (cX T ad ra M) sz) :=
  x_metL (own := RX0) (As := [.int v1, .int v2, .int v3]) rfl rfl (Nat.le_of_ble_eq_true rfl) (fun p e s m args below meth c A Qs ls C hQ I hl => t0_rumourOf C hQ v1 v2 v3 M _ _ ls h I hl) sz
/-! no -/
abbrev rX0_no : Room := { frames := 0, cells := 0, slots := 0, locals := 0 }
theorem t0_no {p : Program} {l : Launch} {e : Env} {s : State} {m : MethodId} {args : Array Value} {below : List Frame} {meth : Method} {c : Code} {A : Nat → Prop} {H0 : Heap} {Qs : State → Prop} {Q : Int64 → Prop} (S : CallFix p m c cX0_no 1 s args lw_all RX0) (hA : ∀ q, H0.size ≤ q → A q) (hQ : pExl p l e rX0_no s m args below meth c cX0_no A H0 Qs Q) (v0 : Int32) (H : Heap) (locs : List Loc) (ls : Array Slot) (h : w0_no v0 Q) (hS : va_S A H0 H locs) (hl : lv_has ls 1 [(0, .int v0)]) : W p l e rX0_no s m args below meth c H locs 0 0 Qs (F0 m 0 ls []) := by
  have hx := S.1
  have hb := S.2.1
  have how := S.2.2.2.1
  have hts := S.2.2.2.2
  unfold w0_no at h
  refine lv_ldc2 hx hb how (hts _ q502) dX0_no_0 ?_
  refine lv_iload_n hx hb dX0_no_3 rfl (lv_at hl 0 rfl) ?_
  refine lv_i2l hx hb dX0_no_4 rfl ?_
  refine lv_lsub hx hb dX0_no_5 ?_
  exact hQ _ _ _ _ _ h hS dX0_no_6
theorem met0_no (l : Launch) (v0 : Int32) {Qp : Int64 → Prop} (h : w0_no v0 Qp) (sz : Nat) : Met l yX0_no (ws_ yX0_no cX0_no 1 (some .long)) rX0_no (pPc [.int v0] sz) (pQl Qp sz) 0 0 (pA sz) :=
  p_metL (As := [.int v0]) rfl (Nat.le_of_ble_eq_true rfl) (fun p e s m args below meth c Qs ls S hQ hl => t0_no S (fun q h => h) hQ v0 _ _ ls h va_S.rf hl) sz
/-! rumour -/
abbrev rX0_rumour : Room := { frames := 9, cells := 0, slots := 0, locals := 206 }
theorem cw0_366 {R : Room} {s : State} {args : Array Value} (hts : ∀ w ∈ lw_all, w.before args s = true) (hR : rX0_rumourOf.frames + 1 ≤ R.frames ∧ 8 + (10 + 11) + rX0_rumourOf.locals ≤ R.locals) : CallW R s args RX0 RX0 366 yX0_rumourOf cX0_rumourOf 10 (some .long) (ws_ yX0_rumourOf cX0_rumourOf 10 (some .long)) rX0_rumourOf 0 0 3 := cwV 3 hts (lw_V q492 q494 qs44 q89 q495) rfl rfl rfl (by decide +kernel) hR
theorem cw0_370 {R : Room} {s : State} {args : Array Value} (hts : ∀ w ∈ lw_all, w.before args s = true) (hR : rX0_no.frames + 1 ≤ R.frames ∧ 8 + (1 + 11) + rX0_no.locals ≤ R.locals) : CallB R s args RX0 370 yX0_no cX0_no 1 (some .long) (ws_ yX0_no cX0_no 1 (some .long)) rX0_no 0 0 1 ∧ (Cond.static yX0_no).before args s = true := va_cwS 1 hts (lw_S q499 q500 q89 q501) rfl rfl rfl (by decide +kernel) hR
theorem t0_rumour_b40 {p : Program} {l : Launch} {e : Env} {s : State} {m : MethodId} {args : Array Value} {below : List Frame} {meth : Method} {c : Code} {D : va_G} {T ad : Nat → Nat} {A : Nat → Prop} {H0 : Heap} {Qs : State → Prop} {Q : Int64 → Mem → Prop}  (C : XC D T RX0 p m c cX0_rumour 4 s args) (hQ : xExl p l e rX0_rumour s m args below meth c cX0_rumour D T ad A H0 Qs Q)  (s0 : Int64) (M : Mem) (H : Heap) (locs : List Loc) (ls : Array Slot) (h : w0_rumour_b40 Q s0 M) (I : XI D T ad A H0 M H locs) (hl : lv_has ls 4 [(0, .ref (ad 0))]) : W p l e rX0_rumour s m args below meth c H locs 0 0 Qs (F0 m 40 ls [.long s0]) := by
  have hx := C.1.1
  have hb := C.1.2.1
  have how := C.1.2.2.2.1
  have hts := C.1.2.2.2.2
  unfold w0_rumour_b40 at h
  exact hQ _ _ _ _ _ _ h I dX0_rumour_40
theorem t0_rumour_b35 {p : Program} {l : Launch} {e : Env} {s : State} {m : MethodId} {args : Array Value} {below : List Frame} {meth : Method} {c : Code} {D : va_G} {T ad : Nat → Nat} {A : Nat → Prop} {H0 : Heap} {Qs : State → Prop} {Q : Int64 → Mem → Prop}  (C : XC D T RX0 p m c cX0_rumour 4 s args) (hQ : xExl p l e rX0_rumour s m args below meth c cX0_rumour D T ad A H0 Qs Q)   (M : Mem) (H : Heap) (locs : List Loc) (ls : Array Slot) (h : w0_rumour_b35 Q M) (I : XI D T ad A H0 M H locs) (hl : lv_has ls 4 [(0, .ref (ad 0))]) : W p l e rX0_rumour s m args below meth c H locs 0 0 Qs (F0 m 35 ls []) := by
  have hx := C.1.1
  have hb := C.1.2.1
  have how := C.1.2.2.2.1
  have hts := C.1.2.2.2.2
  unfold w0_rumour_b35 at h
  refine lv_bipush (v := -2) hx hb dX0_rumour_35 (by decide) ?_
  refine x_purel (As := [.int (-2)]) (rest := []) C I (met0_no l (-2) h) (cw0_370 hts ⟨Nat.le_of_ble_eq_true rfl, Nat.le_of_ble_eq_true rfl⟩) rfl hl.1 rfl (Nat.le_of_ble_eq_true rfl) ⟨Nat.zero_le _, Nat.zero_le _⟩ dX0_rumour_37 (fun r1 H locs h I => ?_)
  exact t0_rumour_b40 C hQ r1 M _ _ _ h I (lv_sub hl [0] rfl)
theorem t0_rumour {p : Program} {l : Launch} {e : Env} {s : State} {m : MethodId} {args : Array Value} {below : List Frame} {meth : Method} {c : Code} {D : va_G} {T ad : Nat → Nat} {A : Nat → Prop} {H0 : Heap} {Qs : State → Prop} {Q : Int64 → Mem → Prop} (C : XC D T RX0 p m c cX0_rumour 4 s args) (hQ : xExl p l e rX0_rumour s m args below meth c cX0_rumour D T ad A H0 Qs Q) (v1 : Int32) (v2 : Int32) (v3 : Int32) (M : Mem) (H : Heap) (locs : List Loc) (ls : Array Slot) (h : w0_rumour v1 v2 v3 M Q) (I : XI D T ad A H0 M H locs) (hl : lv_has ls 4 [(0, .ref (ad 0)), (1, .int v1), (2, .int v2), (3, .int v3)]) : W p l e rX0_rumour s m args below meth c H locs 0 0 Qs (F0 m 0 ls []) := by
  have hx := C.1.1
  have hb := C.1.2.1
  have how := C.1.2.2.2.1
  have hts := C.1.2.2.2.2
  unfold w0_rumour at h
  refine lv_iload_n hx hb dX0_rumour_0 rfl (lv_at hl 1 rfl) ?_
  refine lv_iconst (v := 0) hx hb dX0_rumour_1 (by decide) ?_
  refine lv_bipush (v := 16) hx hb dX0_rumour_2 (by decide) ?_
  refine x_purei (As := [.int v1, .int 0, .int 16]) (rest := []) C I (met0_in l v1 0 16 h) (cw0_5 hts ⟨Nat.le_of_ble_eq_true rfl, Nat.le_of_ble_eq_true rfl⟩) rfl hl.1 rfl (Nat.le_of_ble_eq_true rfl) ⟨Nat.zero_le _, Nat.zero_le _⟩ dX0_rumour_4 (fun r2 H locs h I => ?_)
  refine lv_if_eq (tgt := 35) hx hb dX0_rumour_7 (by decide) (fun c => ?_) (fun c => ?_)
  · have h := h.1 c
    exact t0_rumour_b35 C hQ M _ _ _ h I (lv_sub hl [0] rfl)
  · have h := h.2 c
    refine lv_aload_n hx hb dX0_rumour_10 rfl (lv_at hl 0 rfl) ?_
    refine lv_iload_n hx hb dX0_rumour_11 rfl (lv_at hl 2 rfl) ?_
    refine x_calli (As := [.int v2]) (rest := []) C I (fun ra => met0_isCarter l D T ad ra v2 M h) (cw0_126 hts ⟨Nat.le_of_ble_eq_true rfl, Nat.le_of_ble_eq_true rfl⟩) rfl hl.1 rfl (Nat.le_of_ble_eq_true rfl) ⟨Nat.zero_le _, Nat.zero_le _⟩ dX0_rumour_12 (fun r3 M4 H locs h I => ?_)
    refine lv_if_eq (tgt := 35) hx hb dX0_rumour_15 (by decide) (fun c => ?_) (fun c => ?_)
    · have h := h.1 c
      exact t0_rumour_b35 C hQ M4 _ _ _ h I (lv_sub hl [0] rfl)
    · have h := h.2 c
      refine lv_iload_n hx hb dX0_rumour_18 rfl (lv_at hl 3 rfl) ?_
      refine x_purei (As := [.int v3]) (rest := []) C I (met0_isTwo l v3 h) (cw0_294 hts ⟨Nat.le_of_ble_eq_true rfl, Nat.le_of_ble_eq_true rfl⟩) rfl hl.1 rfl (Nat.le_of_ble_eq_true rfl) ⟨Nat.zero_le _, Nat.zero_le _⟩ dX0_rumour_19 (fun r5 H locs h I => ?_)
      refine lv_if_eq (tgt := 35) hx hb dX0_rumour_22 (by decide) (fun c => ?_) (fun c => ?_)
      · have h := h.1 c
        exact t0_rumour_b35 C hQ M4 _ _ _ h I (lv_sub hl [0] rfl)
      · have h := h.2 c
        refine lv_aload_n hx hb dX0_rumour_25 rfl (lv_at hl 0 rfl) ?_
        refine lv_iload_n hx hb dX0_rumour_26 rfl (lv_at hl 1 rfl) ?_
        refine lv_iload_n hx hb dX0_rumour_27 rfl (lv_at hl 2 rfl) ?_
        refine lv_iload_n hx hb dX0_rumour_28 rfl (lv_at hl 3 rfl) ?_
        refine x_calll (As := [.int v1, .int v2, .int v3]) (rest := []) C I (fun ra => met0_rumourOf l D T ad ra v1 v2 v3 M4 h) (cw0_366 hts ⟨Nat.le_of_ble_eq_true rfl, Nat.le_of_ble_eq_true rfl⟩) rfl hl.1 rfl (Nat.le_of_ble_eq_true rfl) ⟨Nat.zero_le _, Nat.zero_le _⟩ dX0_rumour_29 (fun r6 M7 H locs h I => ?_)
        refine lv_goto (tgt := 40) hx hb dX0_rumour_32 (by decide) ?_
        exact t0_rumour_b40 C hQ r6 M7 _ _ _ h I (lv_sub hl [0] rfl)
theorem met0_rumour (l : Launch) (D : va_G) (T ad ra : Nat → Nat) (v1 : Int32) (v2 : Int32) (v3 : Int32) (M : Mem) {Qp : Int64 → Mem → Prop} (h : w0_rumour v1 v2 v3 M Qp) (sz : Nat) : Met l yX0_rumour (ws_ yX0_rumour cX0_rumour 4 (some .long)) rX0_rumour (xPc D T ad ra 0 [.int v1, .int v2, .int v3] M sz) (xQl D T ad ra M Qp sz) 0 0 (fA (cX T ad ra M) sz) :=
  x_metL (own := RX0) (As := [.int v1, .int v2, .int v3]) rfl rfl (Nat.le_of_ble_eq_true rfl) (fun p e s m args below meth c A Qs ls C hQ I hl => t0_rumour C hQ v1 v2 v3 M _ _ ls h I hl) sz
/-! marketOf -/
abbrev rX0_marketOf : Room := { frames := 8, cells := 0, slots := 0, locals := 177 }
theorem t0_marketOf_b119 {p : Program} {l : Launch} {e : Env} {s : State} {m : MethodId} {args : Array Value} {below : List Frame} {meth : Method} {c : Code} {D : va_G} {T ad : Nat → Nat} {A : Nat → Prop} {H0 : Heap} {Qs : State → Prop} {Q : Int32 → Mem → Prop}  (C : XC D T RX0 p m c cX0_marketOf 5 s args) (hQ : xExi p l e rX0_marketOf s m args below meth c cX0_marketOf D T ad A H0 Qs Q)  (s1 : Int32) (M : Mem) (H : Heap) (locs : List Loc) (ls : Array Slot) (h : w0_marketOf_b119 Q s1 M) (I : XI D T ad A H0 M H locs) (hl : lv_has ls 5 [(0, .ref (ad 0))]) : W p l e rX0_marketOf s m args below meth c H locs 0 0 Qs (F0 m 119 ls [.int s1, .ref (ad 0)]) := by
  have hx := C.1.1
  have hb := C.1.2.1
  have how := C.1.2.2.2.1
  have hts := C.1.2.2.2.2
  unfold w0_marketOf_b119 at h
  refine x_calli (As := [.int s1]) (rest := []) C I (fun ra => met0_whoNow l D T ad ra s1 M h) (cw0_288 hts ⟨Nat.le_of_ble_eq_true rfl, Nat.le_of_ble_eq_true rfl⟩) rfl hl.1 rfl (Nat.le_of_ble_eq_true rfl) ⟨Nat.zero_le _, Nat.zero_le _⟩ dX0_marketOf_119 (fun r1 M2 H locs h I => ?_)
  refine x_purei (As := [.int r1]) (rest := []) C I (met0_many l r1 h) (cw0_303 hts ⟨Nat.le_of_ble_eq_true rfl, Nat.le_of_ble_eq_true rfl⟩) rfl hl.1 rfl (Nat.le_of_ble_eq_true rfl) ⟨Nat.zero_le _, Nat.zero_le _⟩ dX0_marketOf_122 (fun r3 H locs h I => ?_)
  exact hQ _ _ _ _ _ _ h I dX0_marketOf_125
theorem t0_marketOf_b77_f {p : Program} {l : Launch} {e : Env} {s : State} {m : MethodId} {args : Array Value} {below : List Frame} {meth : Method} {c : Code} {D : va_G} {T ad : Nat → Nat} {A : Nat → Prop} {H0 : Heap} {Qs : State → Prop} {Q : Int32 → Mem → Prop} {K77 : Int32 → Int32 → Mem → Prop} (C : XC D T RX0 p m c cX0_marketOf 5 s args) (hQ : xExi p l e rX0_marketOf s m args below meth c cX0_marketOf D T ad A H0 Qs Q) (hK77 : ∀ (v2 : Int32) (v4 : Int32) (M : Mem) (H : Heap) (locs : List Loc) (ls : Array Slot), K77 v2 v4 M → XI D T ad A H0 M H locs → lv_has ls 5 [(0, .ref (ad 0)), (2, .int v2), (4, .int v4)] → W p l e rX0_marketOf s m args below meth c H locs 0 0 Qs (F0 m 77 ls [])) (v2 : Int32) (v4 : Int32) (M : Mem) (H : Heap) (locs : List Loc) (ls : Array Slot) (h : w0_marketOf_b77_f Q K77 v2 v4 M) (I : XI D T ad A H0 M H locs) (hl : lv_has ls 5 [(0, .ref (ad 0)), (2, .int v2), (4, .int v4)]) : W p l e rX0_marketOf s m args below meth c H locs 0 0 Qs (F0 m 77 ls []) := by
  have hx := C.1.1
  have hb := C.1.2.1
  have how := C.1.2.2.2.1
  have hts := C.1.2.2.2.2
  unfold w0_marketOf_b77_f at h
  refine lv_iload hx hb dX0_marketOf_77 (lv_at hl 2 rfl) ?_
  refine lv_aload_n hx hb dX0_marketOf_79 rfl (lv_at hl 0 rfl) ?_
  refine xg_carters C I dX0_marketOf_80 ?_
  refine lv_icmp_ge (tgt := 109) hx hb dX0_marketOf_83 (by decide) (fun c => ?_) (fun c => ?_)
  · have h := h.1 c
    refine lv_aload_n hx hb dX0_marketOf_109 rfl (lv_at hl 0 rfl) ?_
    refine lv_iload_n hx hb dX0_marketOf_110 rfl (lv_at hl 1 rfl) ?_
    refine lv_if_ne (tgt := 118) hx hb dX0_marketOf_111 (by decide) (fun c => ?_) (fun c => ?_)
    · have h := h.2 c
      refine lv_iconst (v := 4) hx hb dX0_marketOf_118 (by decide) ?_
      exact t0_marketOf_b119 C hQ 4 M _ _ _ h I (lv_sub hl [0] rfl)
    · have h := h.1 c
      refine lv_iconst (v := 2) hx hb dX0_marketOf_114 (by decide) ?_
      refine lv_goto (tgt := 119) hx hb dX0_marketOf_115 (by decide) ?_
      exact t0_marketOf_b119 C hQ 2 M _ _ _ h I (lv_sub hl [0] rfl)
  · have h := h.2 c
    refine lv_aload_n hx hb dX0_marketOf_86 rfl (lv_at hl 0 rfl) ?_
    refine xg_all C I dX0_marketOf_87 ?_
    refine lv_iload hx hb dX0_marketOf_90 (lv_at hl 2 rfl) ?_
    obtain ⟨hg4, h⟩ := h
    refine xa_all C I hg4 dX0_marketOf_92 ?_
    refine lv_aload_n hx hb dX0_marketOf_93 rfl (lv_at hl 0 rfl) ?_
    refine xg_ownStrengths C I dX0_marketOf_94 ?_
    refine lv_iload hx hb dX0_marketOf_97 (lv_at hl 2 rfl) ?_
    refine x_iald C I 23 8 rfl hg4 dX0_marketOf_99 ?_
    refine xcp0_strength C I (isCar_of hg4) dX0_marketOf_100 (fun M5 H locs eM5 I => ?_)
    have h := h M5 eM5
    refine lv_iinc (v := (v4 + 1)) (lv' := [(4, .int (v4 + 1)), (0, .ref (ad 0)), (2, .int v2)]) hx hb dX0_marketOf_103 hl (k := 2) rfl (ii_1 _) (by decide) rfl (fun ls hl => ?_)
    refine lv_goto (tgt := 77) hx hb dX0_marketOf_106 (by decide) ?_
    exact hK77 v2 (v4 + 1) M5 _ _ _ h I (lv_sub hl [1, 2, 0] rfl)
theorem t0_marketOf_b77 {p : Program} {l : Launch} {e : Env} {s : State} {m : MethodId} {args : Array Value} {below : List Frame} {meth : Method} {c : Code} {D : va_G} {T ad : Nat → Nat} {A : Nat → Prop} {H0 : Heap} {Qs : State → Prop} {Q : Int32 → Mem → Prop}  (C : XC D T RX0 p m c cX0_marketOf 5 s args) (hQ : xExi p l e rX0_marketOf s m args below meth c cX0_marketOf D T ad A H0 Qs Q)  : ∀ (n : Nat) (v2 : Int32) (v4 : Int32) (M : Mem) (H : Heap) (locs : List Loc) (ls : Array Slot), w0_marketOf_b77 Q n v2 v4 M → XI D T ad A H0 M H locs → lv_has ls 5 [(0, .ref (ad 0)), (2, .int v2), (4, .int v4)] → W p l e rX0_marketOf s m args below meth c H locs 0 0 Qs (F0 m 77 ls []) := by
  intro n
  induction n with
  | zero => intro v2 v4 M H locs ls h; exact h.elim
  | succ n ih => intro v2 v4 M H locs ls h I hl; exact t0_marketOf_b77_f C hQ  ih v2 v4 M H locs ls h I hl
theorem t0_marketOf_b9_f {p : Program} {l : Launch} {e : Env} {s : State} {m : MethodId} {args : Array Value} {below : List Frame} {meth : Method} {c : Code} {D : va_G} {T ad : Nat → Nat} {A : Nat → Prop} {H0 : Heap} {Qs : State → Prop} {Q : Int32 → Mem → Prop} {K9 : Int32 → Int32 → Int32 → Mem → Prop} (C : XC D T RX0 p m c cX0_marketOf 5 s args) (hQ : xExi p l e rX0_marketOf s m args below meth c cX0_marketOf D T ad A H0 Qs Q) (hK9 : ∀ (v2 : Int32) (v3 : Int32) (v4 : Int32) (M : Mem) (H : Heap) (locs : List Loc) (ls : Array Slot), K9 v2 v3 v4 M → XI D T ad A H0 M H locs → lv_has ls 5 [(0, .ref (ad 0)), (2, .int v2), (3, .int v3), (4, .int v4)] → W p l e rX0_marketOf s m args below meth c H locs 0 0 Qs (F0 m 9 ls [])) (v2 : Int32) (v3 : Int32) (v4 : Int32) (M : Mem) (H : Heap) (locs : List Loc) (ls : Array Slot) (h : w0_marketOf_b9_f Q K9 v2 v3 v4 M) (I : XI D T ad A H0 M H locs) (hl : lv_has ls 5 [(0, .ref (ad 0)), (2, .int v2), (3, .int v3), (4, .int v4)]) : W p l e rX0_marketOf s m args below meth c H locs 0 0 Qs (F0 m 9 ls []) := by
  have hx := C.1.1
  have hb := C.1.2.1
  have how := C.1.2.2.2.1
  have hts := C.1.2.2.2.2
  unfold w0_marketOf_b9_f at h
  refine lv_iload hx hb dX0_marketOf_9 (lv_at hl 3 rfl) ?_
  refine lv_aload_n hx hb dX0_marketOf_11 rfl (lv_at hl 0 rfl) ?_
  refine xg_carters C I dX0_marketOf_12 ?_
  refine lv_icmp_ge (tgt := 68) hx hb dX0_marketOf_15 (by decide) (fun c => ?_) (fun c => ?_)
  · have h := h.1 c
    refine lv_aload_n hx hb dX0_marketOf_68 rfl (lv_at hl 0 rfl) ?_
    refine lv_bipush (v := 39) hx hb dX0_marketOf_69 (by decide) ?_
    refine x_callv (As := [.int 39]) (rest := []) C I (fun ra => met0_runs l D T ad ra 39 M h) (cw0_276 hts ⟨Nat.le_of_ble_eq_true rfl, Nat.le_of_ble_eq_true rfl⟩) rfl hl.1 rfl (Nat.le_of_ble_eq_true rfl) ⟨Nat.zero_le _, Nat.zero_le _⟩ dX0_marketOf_71 (fun M6 H locs h I => ?_)
    refine lv_iconst (v := 0) hx hb dX0_marketOf_74 (by decide) ?_
    refine lv_istore (lv' := [(4, .int 0), (0, .ref (ad 0)), (2, .int v2), (3, .int v3)]) hx hb dX0_marketOf_75 hl (by decide) rfl (fun ls hl => ?_)
    obtain ⟨n, h⟩ := h
    exact t0_marketOf_b77 C hQ n v2 0 M6 _ _ _ h I (lv_sub hl [1, 2, 0] rfl)
  · have h := h.2 c
    refine lv_aload_n hx hb dX0_marketOf_18 rfl (lv_at hl 0 rfl) ?_
    refine xg_ownStrengths C I dX0_marketOf_19 ?_
    refine lv_iload hx hb dX0_marketOf_22 (lv_at hl 3 rfl) ?_
    refine lv_aload_n hx hb dX0_marketOf_24 rfl (lv_at hl 0 rfl) ?_
    refine xg_all C I dX0_marketOf_25 ?_
    refine lv_iload hx hb dX0_marketOf_28 (lv_at hl 3 rfl) ?_
    obtain ⟨hg7, h⟩ := h
    refine xa_all C I hg7 dX0_marketOf_30 ?_
    refine xcg0_strength C I (isCar_of hg7) dX0_marketOf_31 ?_
    refine x_iast C I 23 8 rfl hg7 dX0_marketOf_34 (fun M8 H locs eM8 I => ?_)
    have h := h M8 eM8
    refine lv_ldcw hx hb how (hts _ q511) dX0_marketOf_35 ?_
    refine lv_iload_n hx hb dX0_marketOf_38 rfl (lv_at hl 2 rfl) ?_
    refine lv_imul hx hb dX0_marketOf_39 ?_
    refine lv_sipush (v := 12345) hx hb dX0_marketOf_40 (by decide) ?_
    refine lv_iadd hx hb dX0_marketOf_43 ?_
    refine lv_topi (fun x9 ex9 => ?_)
    have h := h x9 ex9
    refine lv_istore_n (lv' := [(3, .int x9), (0, .ref (ad 0)), (2, .int v2), (4, .int v4)]) hx hb dX0_marketOf_44 rfl hl (by decide) rfl (fun ls hl => ?_)
    refine lv_aload_n hx hb dX0_marketOf_45 rfl (lv_at hl 1 rfl) ?_
    refine xg_all C I dX0_marketOf_46 ?_
    refine lv_iload hx hb dX0_marketOf_49 (lv_at hl 3 rfl) ?_
    refine xa_all C I hg7 dX0_marketOf_51 ?_
    refine lv_iload_n hx hb dX0_marketOf_52 rfl (lv_at hl 0 rfl) ?_
    refine lv_bipush (v := 16) hx hb dX0_marketOf_53 (by decide) ?_
    refine lv_iushr hx hb dX0_marketOf_55 rfl ?_
    refine lv_bipush (v := 100) hx hb dX0_marketOf_56 (by decide) ?_
    refine lv_irem hx hb dX0_marketOf_58 (by decide) ?_
    refine xcp0_strength C I (isCar_of hg7) dX0_marketOf_59 (fun M10 H locs eM10 I => ?_)
    have h := h M10 eM10
    refine lv_iinc (v := (v4 + 1)) (lv' := [(4, .int (v4 + 1)), (3, .int x9), (0, .ref (ad 0)), (2, .int v2)]) hx hb dX0_marketOf_62 hl (k := 3) rfl (ii_1 _) (by decide) rfl (fun ls hl => ?_)
    refine lv_goto (tgt := 9) hx hb dX0_marketOf_65 (by decide) ?_
    exact hK9 v2 x9 (v4 + 1) M10 _ _ _ h I (lv_sub hl [2, 3, 1, 0] rfl)
theorem t0_marketOf_b9 {p : Program} {l : Launch} {e : Env} {s : State} {m : MethodId} {args : Array Value} {below : List Frame} {meth : Method} {c : Code} {D : va_G} {T ad : Nat → Nat} {A : Nat → Prop} {H0 : Heap} {Qs : State → Prop} {Q : Int32 → Mem → Prop}  (C : XC D T RX0 p m c cX0_marketOf 5 s args) (hQ : xExi p l e rX0_marketOf s m args below meth c cX0_marketOf D T ad A H0 Qs Q)  : ∀ (n : Nat) (v2 : Int32) (v3 : Int32) (v4 : Int32) (M : Mem) (H : Heap) (locs : List Loc) (ls : Array Slot), w0_marketOf_b9 Q n v2 v3 v4 M → XI D T ad A H0 M H locs → lv_has ls 5 [(0, .ref (ad 0)), (2, .int v2), (3, .int v3), (4, .int v4)] → W p l e rX0_marketOf s m args below meth c H locs 0 0 Qs (F0 m 9 ls []) := by
  intro n
  induction n with
  | zero => intro v2 v3 v4 M H locs ls h; exact h.elim
  | succ n ih => intro v2 v3 v4 M H locs ls h I hl; exact t0_marketOf_b9_f C hQ  ih v2 v3 v4 M H locs ls h I hl
theorem t0_marketOf {p : Program} {l : Launch} {e : Env} {s : State} {m : MethodId} {args : Array Value} {below : List Frame} {meth : Method} {c : Code} {D : va_G} {T ad : Nat → Nat} {A : Nat → Prop} {H0 : Heap} {Qs : State → Prop} {Q : Int32 → Mem → Prop} (C : XC D T RX0 p m c cX0_marketOf 5 s args) (hQ : xExi p l e rX0_marketOf s m args below meth c cX0_marketOf D T ad A H0 Qs Q) (v1 : Int32) (v2 : Int32) (M : Mem) (H : Heap) (locs : List Loc) (ls : Array Slot) (h : w0_marketOf v1 v2 M Q) (I : XI D T ad A H0 M H locs) (hl : lv_has ls 5 [(0, .ref (ad 0)), (1, .int v1), (2, .int v2)]) : W p l e rX0_marketOf s m args below meth c H locs 0 0 Qs (F0 m 0 ls []) := by
  have hx := C.1.1
  have hb := C.1.2.1
  have how := C.1.2.2.2.1
  have hts := C.1.2.2.2.2
  unfold w0_marketOf at h
  refine lv_aload_n hx hb dX0_marketOf_0 rfl (lv_at hl 0 rfl) ?_
  refine x_callv (As := []) (rest := []) C I (fun ra => met0_asTold l D T ad ra M h) (cw0_273 hts ⟨Nat.le_of_ble_eq_true rfl, Nat.le_of_ble_eq_true rfl⟩) rfl hl.1 rfl (Nat.le_of_ble_eq_true rfl) ⟨Nat.zero_le _, Nat.zero_le _⟩ dX0_marketOf_1 (fun M11 H locs h I => ?_)
  refine lv_iload_n hx hb dX0_marketOf_4 rfl (lv_at hl 1 rfl) ?_
  refine lv_istore_n (lv' := [(3, .int v1), (0, .ref (ad 0)), (1, .int v1), (2, .int v2)]) hx hb dX0_marketOf_5 rfl hl (by decide) rfl (fun ls hl => ?_)
  refine lv_iconst (v := 0) hx hb dX0_marketOf_6 (by decide) ?_
  refine lv_istore (lv' := [(4, .int 0), (3, .int v1), (0, .ref (ad 0)), (1, .int v1), (2, .int v2)]) hx hb dX0_marketOf_7 hl (by decide) rfl (fun ls hl => ?_)
  obtain ⟨n, h⟩ := h
  exact t0_marketOf_b9 C hQ n v2 v1 0 M11 _ _ _ h I (lv_sub hl [2, 4, 1, 0] rfl)
theorem met0_marketOf (l : Launch) (D : va_G) (T ad ra : Nat → Nat) (v1 : Int32) (v2 : Int32) (M : Mem) {Qp : Int32 → Mem → Prop} (h : w0_marketOf v1 v2 M Qp) (sz : Nat) : Met l yX0_marketOf (ws_ yX0_marketOf cX0_marketOf 5 (some .int)) rX0_marketOf (xPc D T ad ra 0 [.int v1, .int v2] M sz) (xQi D T ad ra M Qp sz) 0 0 (fA (cX T ad ra M) sz) :=
  x_metI (own := RX0) (As := [.int v1, .int v2]) rfl rfl (Nat.le_of_ble_eq_true rfl) (fun p e s m args below meth c A Qs ls C hQ I hl => t0_marketOf C hQ v1 v2 M _ _ ls h I hl) sz
/-! market -/
abbrev rX0_market : Room := { frames := 9, cells := 0, slots := 0, locals := 201 }
theorem cw0_378 {R : Room} {s : State} {args : Array Value} (hts : ∀ w ∈ lw_all, w.before args s = true) (hR : rX0_marketOf.frames + 1 ≤ R.frames ∧ 8 + (5 + 11) + rX0_marketOf.locals ≤ R.locals) : CallW R s args RX0 RX0 378 yX0_marketOf cX0_marketOf 5 (some .int) (ws_ yX0_marketOf cX0_marketOf 5 (some .int)) rX0_marketOf 0 0 2 := cwV 2 hts (lw_V q507 q509 qs45 q89 q510) rfl rfl rfl (by decide +kernel) hR
theorem t0_market_b18 {p : Program} {l : Launch} {e : Env} {s : State} {m : MethodId} {args : Array Value} {below : List Frame} {meth : Method} {c : Code} {D : va_G} {T ad : Nat → Nat} {A : Nat → Prop} {H0 : Heap} {Qs : State → Prop} {Q : Int32 → Mem → Prop}  (C : XC D T RX0 p m c cX0_market 3 s args) (hQ : xExi p l e rX0_market s m args below meth c cX0_market D T ad A H0 Qs Q)  (s0 : Int32) (M : Mem) (H : Heap) (locs : List Loc) (ls : Array Slot) (h : w0_market_b18 Q s0 M) (I : XI D T ad A H0 M H locs) (hl : lv_has ls 3 [(0, .ref (ad 0))]) : W p l e rX0_market s m args below meth c H locs 0 0 Qs (F0 m 18 ls [.int s0]) := by
  have hx := C.1.1
  have hb := C.1.2.1
  have how := C.1.2.2.2.1
  have hts := C.1.2.2.2.2
  unfold w0_market_b18 at h
  exact hQ _ _ _ _ _ _ h I dX0_market_18
theorem t0_market {p : Program} {l : Launch} {e : Env} {s : State} {m : MethodId} {args : Array Value} {below : List Frame} {meth : Method} {c : Code} {D : va_G} {T ad : Nat → Nat} {A : Nat → Prop} {H0 : Heap} {Qs : State → Prop} {Q : Int32 → Mem → Prop} (C : XC D T RX0 p m c cX0_market 3 s args) (hQ : xExi p l e rX0_market s m args below meth c cX0_market D T ad A H0 Qs Q) (v1 : Int32) (v2 : Int32) (M : Mem) (H : Heap) (locs : List Loc) (ls : Array Slot) (h : w0_market v1 v2 M Q) (I : XI D T ad A H0 M H locs) (hl : lv_has ls 3 [(0, .ref (ad 0)), (1, .int v1), (2, .int v2)]) : W p l e rX0_market s m args below meth c H locs 0 0 Qs (F0 m 0 ls []) := by
  have hx := C.1.1
  have hb := C.1.2.1
  have how := C.1.2.2.2.1
  have hts := C.1.2.2.2.2
  unfold w0_market at h
  refine lv_iload_n hx hb dX0_market_0 rfl (lv_at hl 2 rfl) ?_
  refine x_purei (As := [.int v2]) (rest := []) C I (met0_isTwo l v2 h) (cw0_294 hts ⟨Nat.le_of_ble_eq_true rfl, Nat.le_of_ble_eq_true rfl⟩) rfl hl.1 rfl (Nat.le_of_ble_eq_true rfl) ⟨Nat.zero_le _, Nat.zero_le _⟩ dX0_market_1 (fun r1 H locs h I => ?_)
  refine lv_if_eq (tgt := 16) hx hb dX0_market_4 (by decide) (fun c => ?_) (fun c => ?_)
  · have h := h.1 c
    refine lv_bipush (v := -2) hx hb dX0_market_16 (by decide) ?_
    exact t0_market_b18 C hQ (-2) M _ _ _ h I (lv_sub hl [0] rfl)
  · have h := h.2 c
    refine lv_aload_n hx hb dX0_market_7 rfl (lv_at hl 0 rfl) ?_
    refine lv_iload_n hx hb dX0_market_8 rfl (lv_at hl 1 rfl) ?_
    refine lv_iload_n hx hb dX0_market_9 rfl (lv_at hl 2 rfl) ?_
    refine x_calli (As := [.int v1, .int v2]) (rest := []) C I (fun ra => met0_marketOf l D T ad ra v1 v2 M h) (cw0_378 hts ⟨Nat.le_of_ble_eq_true rfl, Nat.le_of_ble_eq_true rfl⟩) rfl hl.1 rfl (Nat.le_of_ble_eq_true rfl) ⟨Nat.zero_le _, Nat.zero_le _⟩ dX0_market_10 (fun r2 M3 H locs h I => ?_)
    refine lv_goto (tgt := 18) hx hb dX0_market_13 (by decide) ?_
    exact t0_market_b18 C hQ r2 M3 _ _ _ h I (lv_sub hl [0] rfl)
theorem met0_market (l : Launch) (D : va_G) (T ad ra : Nat → Nat) (v1 : Int32) (v2 : Int32) (M : Mem) {Qp : Int32 → Mem → Prop} (h : w0_market v1 v2 M Qp) (sz : Nat) : Met l yX0_market (ws_ yX0_market cX0_market 3 (some .int)) rX0_market (xPc D T ad ra 0 [.int v1, .int v2] M sz) (xQi D T ad ra M Qp sz) 0 0 (fA (cX T ad ra M) sz) :=
  x_metI (own := RX0) (As := [.int v1, .int v2]) rfl rfl (Nat.le_of_ble_eq_true rfl) (fun p e s m args below meth c A Qs ls C hQ I hl => t0_market C hQ v1 v2 M _ _ ls h I hl) sz
/-! sumOf -/
abbrev rX0_sumOf : Room := { frames := 8, cells := 0, slots := 0, locals := 177 }
theorem t0_sumOf_b75 {p : Program} {l : Launch} {e : Env} {s : State} {m : MethodId} {args : Array Value} {below : List Frame} {meth : Method} {c : Code} {D : va_G} {T ad : Nat → Nat} {A : Nat → Prop} {H0 : Heap} {Qs : State → Prop} {Q : Int32 → Mem → Prop}  (C : XC D T RX0 p m c cX0_sumOf 4 s args) (hQ : xExi p l e rX0_sumOf s m args below meth c cX0_sumOf D T ad A H0 Qs Q)  (s0 : Int32) (M : Mem) (H : Heap) (locs : List Loc) (ls : Array Slot) (h : w0_sumOf_b75 Q s0 M) (I : XI D T ad A H0 M H locs) (hl : lv_has ls 4 [(0, .ref (ad 0))]) : W p l e rX0_sumOf s m args below meth c H locs 0 0 Qs (F0 m 75 ls [.int s0]) := by
  have hx := C.1.1
  have hb := C.1.2.1
  have how := C.1.2.2.2.1
  have hts := C.1.2.2.2.2
  unfold w0_sumOf_b75 at h
  exact hQ _ _ _ _ _ _ h I dX0_sumOf_75
theorem t0_sumOf_b14_f {p : Program} {l : Launch} {e : Env} {s : State} {m : MethodId} {args : Array Value} {below : List Frame} {meth : Method} {c : Code} {D : va_G} {T ad : Nat → Nat} {A : Nat → Prop} {H0 : Heap} {Qs : State → Prop} {Q : Int32 → Mem → Prop} {K14 : Int32 → Int32 → Int32 → Mem → Prop} (C : XC D T RX0 p m c cX0_sumOf 4 s args) (hQ : xExi p l e rX0_sumOf s m args below meth c cX0_sumOf D T ad A H0 Qs Q) (hK14 : ∀ (v1 : Int32) (v2 : Int32) (v3 : Int32) (M : Mem) (H : Heap) (locs : List Loc) (ls : Array Slot), K14 v1 v2 v3 M → XI D T ad A H0 M H locs → lv_has ls 4 [(0, .ref (ad 0)), (1, .int v1), (2, .int v2), (3, .int v3)] → W p l e rX0_sumOf s m args below meth c H locs 0 0 Qs (F0 m 14 ls [])) (v1 : Int32) (v2 : Int32) (v3 : Int32) (M : Mem) (H : Heap) (locs : List Loc) (ls : Array Slot) (h : w0_sumOf_b14_f Q K14 v1 v2 v3 M) (I : XI D T ad A H0 M H locs) (hl : lv_has ls 4 [(0, .ref (ad 0)), (1, .int v1), (2, .int v2), (3, .int v3)]) : W p l e rX0_sumOf s m args below meth c H locs 0 0 Qs (F0 m 14 ls []) := by
  have hx := C.1.1
  have hb := C.1.2.1
  have how := C.1.2.2.2.1
  have hts := C.1.2.2.2.2
  unfold w0_sumOf_b14_f at h
  refine lv_iload_n hx hb dX0_sumOf_14 rfl (lv_at hl 3 rfl) ?_
  refine lv_bipush (v := 8) hx hb dX0_sumOf_15 (by decide) ?_
  refine lv_icmp_ge (tgt := 35) hx hb dX0_sumOf_17 (by decide) (fun c => ?_) (fun c => ?_)
  · have h := h.1 c
    refine lv_iload_n hx hb dX0_sumOf_35 rfl (lv_at hl 1 rfl) ?_
    refine lv_if_ne (tgt := 46) hx hb dX0_sumOf_36 (by decide) (fun c => ?_) (fun c => ?_)
    · have h := h.2 c
      refine lv_iload_n hx hb dX0_sumOf_46 rfl (lv_at hl 1 rfl) ?_
      refine lv_iconst (v := 1) hx hb dX0_sumOf_47 (by decide) ?_
      refine lv_icmp_ne (tgt := 58) hx hb dX0_sumOf_48 (by decide) (fun c => ?_) (fun c => ?_)
      · have h := h.2 c
        refine lv_iload_n hx hb dX0_sumOf_58 rfl (lv_at hl 1 rfl) ?_
        refine lv_iconst (v := 5) hx hb dX0_sumOf_59 (by decide) ?_
        refine lv_icmp_ne (tgt := 74) hx hb dX0_sumOf_60 (by decide) (fun c => ?_) (fun c => ?_)
        · have h := h.2 c
          refine lv_iload_n hx hb dX0_sumOf_74 rfl (lv_at hl 2 rfl) ?_
          exact t0_sumOf_b75 C hQ v2 M _ _ _ h I (lv_sub hl [0] rfl)
        · have h := h.1 c
          refine lv_aload_n hx hb dX0_sumOf_63 rfl (lv_at hl 0 rfl) ?_
          refine lv_iconst (v := 2) hx hb dX0_sumOf_64 (by decide) ?_
          refine x_calli (As := [.int 2]) (rest := []) C I (fun ra => met0_whoNow l D T ad ra 2 M h) (cw0_288 hts ⟨Nat.le_of_ble_eq_true rfl, Nat.le_of_ble_eq_true rfl⟩) rfl hl.1 rfl (Nat.le_of_ble_eq_true rfl) ⟨Nat.zero_le _, Nat.zero_le _⟩ dX0_sumOf_65 (fun r1 M2 H locs h I => ?_)
          refine x_purei (As := [.int r1]) (rest := []) C I (met0_many l r1 h) (cw0_303 hts ⟨Nat.le_of_ble_eq_true rfl, Nat.le_of_ble_eq_true rfl⟩) rfl hl.1 rfl (Nat.le_of_ble_eq_true rfl) ⟨Nat.zero_le _, Nat.zero_le _⟩ dX0_sumOf_68 (fun r3 H locs h I => ?_)
          refine lv_goto (tgt := 75) hx hb dX0_sumOf_71 (by decide) ?_
          exact t0_sumOf_b75 C hQ r3 M2 _ _ _ h I (lv_sub hl [0] rfl)
      · have h := h.1 c
        refine lv_aload_n hx hb dX0_sumOf_51 rfl (lv_at hl 0 rfl) ?_
        refine xg_carters C I dX0_sumOf_52 ?_
        refine lv_goto (tgt := 75) hx hb dX0_sumOf_55 (by decide) ?_
        exact t0_sumOf_b75 C hQ (M 0 9) M _ _ _ h I (lv_sub hl [0] rfl)
    · have h := h.1 c
      refine lv_aload_n hx hb dX0_sumOf_39 rfl (lv_at hl 0 rfl) ?_
      refine xg_ways C I dX0_sumOf_40 ?_
      refine lv_goto (tgt := 75) hx hb dX0_sumOf_43 (by decide) ?_
      exact t0_sumOf_b75 C hQ (M 0 4) M _ _ _ h I (lv_sub hl [0] rfl)
  · have h := h.2 c
    refine lv_iload_n hx hb dX0_sumOf_20 rfl (lv_at hl 2 rfl) ?_
    refine lv_aload_n hx hb dX0_sumOf_21 rfl (lv_at hl 0 rfl) ?_
    refine xg_arrivals C I dX0_sumOf_22 ?_
    refine lv_iload_n hx hb dX0_sumOf_25 rfl (lv_at hl 3 rfl) ?_
    obtain ⟨hg4, h⟩ := h
    refine x_iald C I 17 8 rfl hg4 dX0_sumOf_26 ?_
    refine lv_iadd hx hb dX0_sumOf_27 ?_
    refine lv_istore_n (lv' := [(2, .int (v2 + (M 17 (ci v3)))), (0, .ref (ad 0)), (1, .int v1), (3, .int v3)]) hx hb dX0_sumOf_28 rfl hl (by decide) rfl (fun ls hl => ?_)
    refine lv_iinc (v := (v3 + 1)) (lv' := [(3, .int (v3 + 1)), (2, .int (v2 + (M 17 (ci v3)))), (0, .ref (ad 0)), (1, .int v1)]) hx hb dX0_sumOf_29 hl (k := 3) rfl (ii_1 _) (by decide) rfl (fun ls hl => ?_)
    refine lv_goto (tgt := 14) hx hb dX0_sumOf_32 (by decide) ?_
    exact hK14 v1 (v2 + (M 17 (ci v3))) (v3 + 1) M _ _ _ h I (lv_sub hl [2, 3, 1, 0] rfl)
theorem t0_sumOf_b14 {p : Program} {l : Launch} {e : Env} {s : State} {m : MethodId} {args : Array Value} {below : List Frame} {meth : Method} {c : Code} {D : va_G} {T ad : Nat → Nat} {A : Nat → Prop} {H0 : Heap} {Qs : State → Prop} {Q : Int32 → Mem → Prop}  (C : XC D T RX0 p m c cX0_sumOf 4 s args) (hQ : xExi p l e rX0_sumOf s m args below meth c cX0_sumOf D T ad A H0 Qs Q)  : ∀ (n : Nat) (v1 : Int32) (v2 : Int32) (v3 : Int32) (M : Mem) (H : Heap) (locs : List Loc) (ls : Array Slot), w0_sumOf_b14 Q n v1 v2 v3 M → XI D T ad A H0 M H locs → lv_has ls 4 [(0, .ref (ad 0)), (1, .int v1), (2, .int v2), (3, .int v3)] → W p l e rX0_sumOf s m args below meth c H locs 0 0 Qs (F0 m 14 ls []) := by
  intro n
  induction n with
  | zero => intro v1 v2 v3 M H locs ls h; exact h.elim
  | succ n ih => intro v1 v2 v3 M H locs ls h I hl; exact t0_sumOf_b14_f C hQ  ih v1 v2 v3 M H locs ls h I hl
theorem t0_sumOf {p : Program} {l : Launch} {e : Env} {s : State} {m : MethodId} {args : Array Value} {below : List Frame} {meth : Method} {c : Code} {D : va_G} {T ad : Nat → Nat} {A : Nat → Prop} {H0 : Heap} {Qs : State → Prop} {Q : Int32 → Mem → Prop} (C : XC D T RX0 p m c cX0_sumOf 4 s args) (hQ : xExi p l e rX0_sumOf s m args below meth c cX0_sumOf D T ad A H0 Qs Q) (v1 : Int32) (M : Mem) (H : Heap) (locs : List Loc) (ls : Array Slot) (h : w0_sumOf v1 M Q) (I : XI D T ad A H0 M H locs) (hl : lv_has ls 4 [(0, .ref (ad 0)), (1, .int v1)]) : W p l e rX0_sumOf s m args below meth c H locs 0 0 Qs (F0 m 0 ls []) := by
  have hx := C.1.1
  have hb := C.1.2.1
  have how := C.1.2.2.2.1
  have hts := C.1.2.2.2.2
  unfold w0_sumOf at h
  refine lv_aload_n hx hb dX0_sumOf_0 rfl (lv_at hl 0 rfl) ?_
  refine x_callv (As := []) (rest := []) C I (fun ra => met0_asTold l D T ad ra M h) (cw0_273 hts ⟨Nat.le_of_ble_eq_true rfl, Nat.le_of_ble_eq_true rfl⟩) rfl hl.1 rfl (Nat.le_of_ble_eq_true rfl) ⟨Nat.zero_le _, Nat.zero_le _⟩ dX0_sumOf_1 (fun M5 H locs h I => ?_)
  refine lv_aload_n hx hb dX0_sumOf_4 rfl (lv_at hl 0 rfl) ?_
  refine lv_bipush (v := 39) hx hb dX0_sumOf_5 (by decide) ?_
  refine x_callv (As := [.int 39]) (rest := []) C I (fun ra => met0_runs l D T ad ra 39 M5 h) (cw0_276 hts ⟨Nat.le_of_ble_eq_true rfl, Nat.le_of_ble_eq_true rfl⟩) rfl hl.1 rfl (Nat.le_of_ble_eq_true rfl) ⟨Nat.zero_le _, Nat.zero_le _⟩ dX0_sumOf_7 (fun M6 H locs h I => ?_)
  refine lv_iconst (v := 0) hx hb dX0_sumOf_10 (by decide) ?_
  refine lv_istore_n (lv' := [(2, .int 0), (0, .ref (ad 0)), (1, .int v1)]) hx hb dX0_sumOf_11 rfl hl (by decide) rfl (fun ls hl => ?_)
  refine lv_iconst (v := 0) hx hb dX0_sumOf_12 (by decide) ?_
  refine lv_istore_n (lv' := [(3, .int 0), (2, .int 0), (0, .ref (ad 0)), (1, .int v1)]) hx hb dX0_sumOf_13 rfl hl (by decide) rfl (fun ls hl => ?_)
  obtain ⟨n, h⟩ := h
  exact t0_sumOf_b14 C hQ n v1 0 0 M6 _ _ _ h I (lv_sub hl [2, 3, 1, 0] rfl)
theorem met0_sumOf (l : Launch) (D : va_G) (T ad ra : Nat → Nat) (v1 : Int32) (M : Mem) {Qp : Int32 → Mem → Prop} (h : w0_sumOf v1 M Qp) (sz : Nat) : Met l yX0_sumOf (ws_ yX0_sumOf cX0_sumOf 4 (some .int)) rX0_sumOf (xPc D T ad ra 0 [.int v1] M sz) (xQi D T ad ra M Qp sz) 0 0 (fA (cX T ad ra M) sz) :=
  x_metI (own := RX0) (As := [.int v1]) rfl rfl (Nat.le_of_ble_eq_true rfl) (fun p e s m args below meth c A Qs ls C hQ I hl => t0_sumOf C hQ v1 M _ _ ls h I hl) sz
/-! count -/
abbrev rX0_count : Room := { frames := 9, cells := 0, slots := 0, locals := 200 }
theorem cw0_430 {R : Room} {s : State} {args : Array Value} (hts : ∀ w ∈ lw_all, w.before args s = true) (hR : rX0_sumOf.frames + 1 ≤ R.frames ∧ 8 + (4 + 11) + rX0_sumOf.locals ≤ R.locals) : CallW R s args RX0 RX0 430 yX0_sumOf cX0_sumOf 4 (some .int) (ws_ yX0_sumOf cX0_sumOf 4 (some .int)) rX0_sumOf 0 0 1 := cwV 1 hts (lw_V q887 q889 qs48 q89 q890) rfl rfl rfl (by decide +kernel) hR
theorem t0_count_b58 {p : Program} {l : Launch} {e : Env} {s : State} {m : MethodId} {args : Array Value} {below : List Frame} {meth : Method} {c : Code} {D : va_G} {T ad : Nat → Nat} {A : Nat → Prop} {H0 : Heap} {Qs : State → Prop} {Q : Int32 → Mem → Prop}  (C : XC D T RX0 p m c cX0_count 2 s args) (hQ : xExi p l e rX0_count s m args below meth c cX0_count D T ad A H0 Qs Q)  (v1 : Int32) (M : Mem) (H : Heap) (locs : List Loc) (ls : Array Slot) (h : w0_count_b58 Q v1 M) (I : XI D T ad A H0 M H locs) (hl : lv_has ls 2 [(0, .ref (ad 0)), (1, .int v1)]) : W p l e rX0_count s m args below meth c H locs 0 0 Qs (F0 m 58 ls []) := by
  have hx := C.1.1
  have hb := C.1.2.1
  have how := C.1.2.2.2.1
  have hts := C.1.2.2.2.2
  unfold w0_count_b58 at h
  refine lv_aload_n hx hb dX0_count_58 rfl (lv_at hl 0 rfl) ?_
  refine xg_typed C I dX0_count_59 ?_
  refine lv_iload_n hx hb dX0_count_62 rfl (lv_at hl 1 rfl) ?_
  refine lv_iconst (v := 2) hx hb dX0_count_63 (by decide) ?_
  refine lv_isub hx hb dX0_count_64 ?_
  obtain ⟨hg1, h⟩ := h
  refine x_iald C I 4 2 rfl hg1 dX0_count_65 ?_
  exact hQ _ _ _ _ _ _ h I dX0_count_66
theorem t0_count_b52 {p : Program} {l : Launch} {e : Env} {s : State} {m : MethodId} {args : Array Value} {below : List Frame} {meth : Method} {c : Code} {D : va_G} {T ad : Nat → Nat} {A : Nat → Prop} {H0 : Heap} {Qs : State → Prop} {Q : Int32 → Mem → Prop}  (C : XC D T RX0 p m c cX0_count 2 s args) (hQ : xExi p l e rX0_count s m args below meth c cX0_count D T ad A H0 Qs Q)  (v1 : Int32) (M : Mem) (H : Heap) (locs : List Loc) (ls : Array Slot) (h : w0_count_b52 Q v1 M) (I : XI D T ad A H0 M H locs) (hl : lv_has ls 2 [(0, .ref (ad 0)), (1, .int v1)]) : W p l e rX0_count s m args below meth c H locs 0 0 Qs (F0 m 52 ls []) := by
  have hx := C.1.1
  have hb := C.1.2.1
  have how := C.1.2.2.2.1
  have hts := C.1.2.2.2.2
  unfold w0_count_b52 at h
  refine lv_aload_n hx hb dX0_count_52 rfl (lv_at hl 0 rfl) ?_
  refine lv_iload_n hx hb dX0_count_53 rfl (lv_at hl 1 rfl) ?_
  refine x_calli (As := [.int v1]) (rest := []) C I (fun ra => met0_sumOf l D T ad ra v1 M h) (cw0_430 hts ⟨Nat.le_of_ble_eq_true rfl, Nat.le_of_ble_eq_true rfl⟩) rfl hl.1 rfl (Nat.le_of_ble_eq_true rfl) ⟨Nat.zero_le _, Nat.zero_le _⟩ dX0_count_54 (fun r2 M3 H locs h I => ?_)
  exact hQ _ _ _ _ _ _ h I dX0_count_57
theorem t0_count {p : Program} {l : Launch} {e : Env} {s : State} {m : MethodId} {args : Array Value} {below : List Frame} {meth : Method} {c : Code} {D : va_G} {T ad : Nat → Nat} {A : Nat → Prop} {H0 : Heap} {Qs : State → Prop} {Q : Int32 → Mem → Prop} (C : XC D T RX0 p m c cX0_count 2 s args) (hQ : xExi p l e rX0_count s m args below meth c cX0_count D T ad A H0 Qs Q) (v1 : Int32) (M : Mem) (H : Heap) (locs : List Loc) (ls : Array Slot) (h : w0_count v1 M Q) (I : XI D T ad A H0 M H locs) (hl : lv_has ls 2 [(0, .ref (ad 0)), (1, .int v1)]) : W p l e rX0_count s m args below meth c H locs 0 0 Qs (F0 m 0 ls []) := by
  have hx := C.1.1
  have hb := C.1.2.1
  have how := C.1.2.2.2.1
  have hts := C.1.2.2.2.2
  unfold w0_count at h
  refine lv_iload_n hx hb dX0_count_0 rfl (lv_at hl 1 rfl) ?_
  by_cases c0 : v1 = 0
  · have h := h.1 c0
    refine lv_tableIn (off := 51) (tgt := 52) hx hb dX0_count_1 (by rw [c0]; decide) (by rw [c0]; decide) (by rw [c0]; rfl) (by decide) ?_
    exact t0_count_b52 C hQ v1 M _ _ _ h I (lv_sub hl [0, 1] rfl)
  have h := h.2 c0
  by_cases c1 : v1 = 1
  · have h := h.1 c1
    refine lv_tableIn (off := 51) (tgt := 52) hx hb dX0_count_1 (by rw [c1]; decide) (by rw [c1]; decide) (by rw [c1]; rfl) (by decide) ?_
    exact t0_count_b52 C hQ v1 M _ _ _ h I (lv_sub hl [0, 1] rfl)
  have h := h.2 c1
  by_cases c2 : v1 = 2
  · have h := h.1 c2
    refine lv_tableIn (off := 57) (tgt := 58) hx hb dX0_count_1 (by rw [c2]; decide) (by rw [c2]; decide) (by rw [c2]; rfl) (by decide) ?_
    exact t0_count_b58 C hQ v1 M _ _ _ h I (lv_sub hl [0, 1] rfl)
  have h := h.2 c2
  by_cases c3 : v1 = 3
  · have h := h.1 c3
    refine lv_tableIn (off := 57) (tgt := 58) hx hb dX0_count_1 (by rw [c3]; decide) (by rw [c3]; decide) (by rw [c3]; rfl) (by decide) ?_
    exact t0_count_b58 C hQ v1 M _ _ _ h I (lv_sub hl [0, 1] rfl)
  have h := h.2 c3
  by_cases c4 : v1 = 4
  · have h := h.1 c4
    refine lv_tableIn (off := 66) (tgt := 67) hx hb dX0_count_1 (by rw [c4]; decide) (by rw [c4]; decide) (by rw [c4]; rfl) (by decide) ?_
    refine lv_aload_n hx hb dX0_count_67 rfl (lv_at hl 0 rfl) ?_
    refine xg_answers C I dX0_count_68 ?_
    exact hQ _ _ _ _ _ _ h I dX0_count_71
  have h := h.2 c4
  by_cases c5 : v1 = 5
  · have h := h.1 c5
    refine lv_tableIn (off := 51) (tgt := 52) hx hb dX0_count_1 (by rw [c5]; decide) (by rw [c5]; decide) (by rw [c5]; rfl) (by decide) ?_
    exact t0_count_b52 C hQ v1 M _ _ _ h I (lv_sub hl [0, 1] rfl)
  have h := h.2 c5
  by_cases c6 : v1 = 6
  · have h := h.1 c6
    refine lv_tableIn (off := 51) (tgt := 52) hx hb dX0_count_1 (by rw [c6]; decide) (by rw [c6]; decide) (by rw [c6]; rfl) (by decide) ?_
    exact t0_count_b52 C hQ v1 M _ _ _ h I (lv_sub hl [0, 1] rfl)
  have h := h.2 c6
  by_cases c7 : v1 = 7
  · have h := h.1 c7
    refine lv_tableIn (off := 71) (tgt := 72) hx hb dX0_count_1 (by rw [c7]; decide) (by rw [c7]; decide) (by rw [c7]; rfl) (by decide) ?_
    refine lv_aload_n hx hb dX0_count_72 rfl (lv_at hl 0 rfl) ?_
    refine xg_sights C I dX0_count_73 ?_
    exact hQ _ _ _ _ _ _ h I dX0_count_76
  have h := h.2 c7
  by_cases c8 : v1 = 8
  · have h := h.1 c8
    refine lv_tableIn (off := 76) (tgt := 77) hx hb dX0_count_1 (by rw [c8]; decide) (by rw [c8]; decide) (by rw [c8]; rfl) (by decide) ?_
    refine lv_aload_n hx hb dX0_count_77 rfl (lv_at hl 0 rfl) ?_
    refine xg_finding C I dX0_count_78 ?_
    exact hQ _ _ _ _ _ _ h I dX0_count_81
  have h := h.2 c8
  refine lv_tableOut (tgt := 82) hx hb dX0_count_1 (sw_out9 c0 c1 c2 c3 c4 c5 c6 c7 c8) (by decide) ?_
  refine lv_bipush (v := -2) hx hb dX0_count_82 (by decide) ?_
  exact hQ _ _ _ _ _ _ h I dX0_count_84
theorem met0_count (l : Launch) (D : va_G) (T ad ra : Nat → Nat) (v1 : Int32) (M : Mem) {Qp : Int32 → Mem → Prop} (h : w0_count v1 M Qp) (sz : Nat) : Met l yX0_count (ws_ yX0_count cX0_count 2 (some .int)) rX0_count (xPc D T ad ra 0 [.int v1] M sz) (xQi D T ad ra M Qp sz) 0 0 (fA (cX T ad ra M) sz) :=
  x_metI (own := RX0) (As := [.int v1]) rfl rfl (Nat.le_of_ble_eq_true rfl) (fun p e s m args below meth c A Qs ls C hQ I hl => t0_count C hQ v1 M _ _ ls h I hl) sz
/-! hourDigest -/
abbrev rX0_hourDigest : Room := { frames := 9, cells := 0, slots := 0, locals := 201 }
theorem t0_hourDigest_b6_f {p : Program} {l : Launch} {e : Env} {s : State} {m : MethodId} {args : Array Value} {below : List Frame} {meth : Method} {c : Code} {D : va_G} {T ad : Nat → Nat} {A : Nat → Prop} {H0 : Heap} {Qs : State → Prop} {Q : Int64 → Mem → Prop} {K6 : Int32 → Int32 → Int64 → Int32 → Mem → Prop} (C : XC D T RX0 p m c cX0_hourDigest 8 s args) (hQ : xExl p l e rX0_hourDigest s m args below meth c cX0_hourDigest D T ad A H0 Qs Q) (hK6 : ∀ (v3 : Int32) (v4 : Int32) (v5 : Int64) (v7 : Int32) (M : Mem) (H : Heap) (locs : List Loc) (ls : Array Slot), K6 v3 v4 v5 v7 M → XI D T ad A H0 M H locs → lv_has ls 8 [(0, .ref (ad 0)), (3, .int v3), (4, .int v4), (5, .long v5), (7, .int v7)] → W p l e rX0_hourDigest s m args below meth c H locs 0 0 Qs (F0 m 6 ls [])) (v3 : Int32) (v4 : Int32) (v5 : Int64) (v7 : Int32) (M : Mem) (H : Heap) (locs : List Loc) (ls : Array Slot) (h : w0_hourDigest_b6_f Q K6 v3 v4 v5 v7 M) (I : XI D T ad A H0 M H locs) (hl : lv_has ls 8 [(0, .ref (ad 0)), (3, .int v3), (4, .int v4), (5, .long v5), (7, .int v7)]) : W p l e rX0_hourDigest s m args below meth c H locs 0 0 Qs (F0 m 6 ls []) := by
  have hx := C.1.1
  have hb := C.1.2.1
  have how := C.1.2.2.2.1
  have hts := C.1.2.2.2.2
  unfold w0_hourDigest_b6_f at h
  refine lv_iload hx hb dX0_hourDigest_6 (lv_at hl 4 rfl) ?_
  refine lv_iconst (v := 4) hx hb dX0_hourDigest_8 (by decide) ?_
  refine lv_icmp_ge (tgt := 37) hx hb dX0_hourDigest_9 (by decide) (fun c => ?_) (fun c => ?_)
  · have h := h.1 c
    refine lv_lload hx hb dX0_hourDigest_37 (lv_at hl 3 rfl) ?_
    exact hQ _ _ _ _ _ _ h I dX0_hourDigest_39
  · have h := h.2 c
    refine lv_ldc2 hx hb how (hts _ q896) dX0_hourDigest_12 ?_
    refine lv_lload hx hb dX0_hourDigest_15 (lv_at hl 3 rfl) ?_
    refine lv_lmul hx hb dX0_hourDigest_17 ?_
    refine lv_aload_n hx hb dX0_hourDigest_18 rfl (lv_at hl 0 rfl) ?_
    refine lv_iload_n hx hb dX0_hourDigest_19 rfl (lv_at hl 1 rfl) ?_
    refine lv_iload hx hb dX0_hourDigest_20 (lv_at hl 2 rfl) ?_
    refine lv_iload hx hb dX0_hourDigest_22 (lv_at hl 4 rfl) ?_
    refine x_calli (As := [.int v3, .int v4, .int v7]) (rest := [.long (31 * v5)]) C I (fun ra => met0_atOf l D T ad ra v3 v4 v7 M h) (cw0_279 hts ⟨Nat.le_of_ble_eq_true rfl, Nat.le_of_ble_eq_true rfl⟩) rfl hl.1 rfl (Nat.le_of_ble_eq_true rfl) ⟨Nat.zero_le _, Nat.zero_le _⟩ dX0_hourDigest_24 (fun r1 M2 H locs h I => ?_)
    refine lv_i2l hx hb dX0_hourDigest_27 rfl ?_
    refine lv_ladd hx hb dX0_hourDigest_28 ?_
    refine lv_topl (fun x3 ex3 => ?_)
    have h := h x3 ex3
    refine lv_lstore (lv' := [(5, .long x3), (0, .ref (ad 0)), (3, .int v3), (4, .int v4), (7, .int v7)]) hx hb dX0_hourDigest_29 hl (by decide) rfl (fun ls hl => ?_)
    refine lv_iinc (v := (v7 + 1)) (lv' := [(7, .int (v7 + 1)), (5, .long x3), (0, .ref (ad 0)), (3, .int v3), (4, .int v4)]) hx hb dX0_hourDigest_31 hl (k := 4) rfl (ii_1 _) (by decide) rfl (fun ls hl => ?_)
    refine lv_goto (tgt := 6) hx hb dX0_hourDigest_34 (by decide) ?_
    exact hK6 v3 v4 x3 (v7 + 1) M2 _ _ _ h I (lv_sub hl [2, 3, 4, 1, 0] rfl)
theorem t0_hourDigest_b6 {p : Program} {l : Launch} {e : Env} {s : State} {m : MethodId} {args : Array Value} {below : List Frame} {meth : Method} {c : Code} {D : va_G} {T ad : Nat → Nat} {A : Nat → Prop} {H0 : Heap} {Qs : State → Prop} {Q : Int64 → Mem → Prop}  (C : XC D T RX0 p m c cX0_hourDigest 8 s args) (hQ : xExl p l e rX0_hourDigest s m args below meth c cX0_hourDigest D T ad A H0 Qs Q)  : ∀ (n : Nat) (v3 : Int32) (v4 : Int32) (v5 : Int64) (v7 : Int32) (M : Mem) (H : Heap) (locs : List Loc) (ls : Array Slot), w0_hourDigest_b6 Q n v3 v4 v5 v7 M → XI D T ad A H0 M H locs → lv_has ls 8 [(0, .ref (ad 0)), (3, .int v3), (4, .int v4), (5, .long v5), (7, .int v7)] → W p l e rX0_hourDigest s m args below meth c H locs 0 0 Qs (F0 m 6 ls []) := by
  intro n
  induction n with
  | zero => intro v3 v4 v5 v7 M H locs ls h; exact h.elim
  | succ n ih => intro v3 v4 v5 v7 M H locs ls h I hl; exact t0_hourDigest_b6_f C hQ  ih v3 v4 v5 v7 M H locs ls h I hl
theorem t0_hourDigest {p : Program} {l : Launch} {e : Env} {s : State} {m : MethodId} {args : Array Value} {below : List Frame} {meth : Method} {c : Code} {D : va_G} {T ad : Nat → Nat} {A : Nat → Prop} {H0 : Heap} {Qs : State → Prop} {Q : Int64 → Mem → Prop} (C : XC D T RX0 p m c cX0_hourDigest 8 s args) (hQ : xExl p l e rX0_hourDigest s m args below meth c cX0_hourDigest D T ad A H0 Qs Q) (v1 : Int64) (v3 : Int32) (v4 : Int32) (M : Mem) (H : Heap) (locs : List Loc) (ls : Array Slot) (h : w0_hourDigest v1 v3 v4 M Q) (I : XI D T ad A H0 M H locs) (hl : lv_has ls 8 [(0, .ref (ad 0)), (1, .long v1), (3, .int v3), (4, .int v4)]) : W p l e rX0_hourDigest s m args below meth c H locs 0 0 Qs (F0 m 0 ls []) := by
  have hx := C.1.1
  have hb := C.1.2.1
  have how := C.1.2.2.2.1
  have hts := C.1.2.2.2.2
  unfold w0_hourDigest at h
  refine lv_lload_n hx hb dX0_hourDigest_0 rfl (lv_at hl 1 rfl) ?_
  refine lv_lstore (lv' := [(5, .long v1), (0, .ref (ad 0)), (1, .long v1), (3, .int v3), (4, .int v4)]) hx hb dX0_hourDigest_1 hl (by decide) rfl (fun ls hl => ?_)
  refine lv_iconst (v := 0) hx hb dX0_hourDigest_3 (by decide) ?_
  refine lv_istore (lv' := [(7, .int 0), (5, .long v1), (0, .ref (ad 0)), (1, .long v1), (3, .int v3), (4, .int v4)]) hx hb dX0_hourDigest_4 hl (by decide) rfl (fun ls hl => ?_)
  obtain ⟨n, h⟩ := h
  exact t0_hourDigest_b6 C hQ n v3 v4 v1 0 M _ _ _ h I (lv_sub hl [2, 4, 5, 1, 0] rfl)
theorem met0_hourDigest (l : Launch) (D : va_G) (T ad ra : Nat → Nat) (v1 : Int64) (v3 : Int32) (v4 : Int32) (M : Mem) {Qp : Int64 → Mem → Prop} (h : w0_hourDigest v1 v3 v4 M Qp) (sz : Nat) : Met l yX0_hourDigest (ws_ yX0_hourDigest cX0_hourDigest 8 (some .long)) rX0_hourDigest (xPc D T ad ra 0 [.long v1, .int v3, .int v4] M sz) (xQl D T ad ra M Qp sz) 0 0 (fA (cX T ad ra M) sz) :=
  x_metL (own := RX0) (As := [.long v1, .int v3, .int v4]) rfl rfl (Nat.le_of_ble_eq_true rfl) (fun p e s m args below meth c A Qs ls C hQ I hl => t0_hourDigest C hQ v1 v3 v4 M _ _ ls h I hl) sz
/-! carterDigest -/
abbrev rX0_carterDigest : Room := { frames := 10, cells := 0, slots := 0, locals := 228 }
theorem cw0_435 {R : Room} {s : State} {args : Array Value} (hts : ∀ w ∈ lw_all, w.before args s = true) (hR : rX0_hourDigest.frames + 1 ≤ R.frames ∧ 8 + (8 + 11) + rX0_hourDigest.locals ≤ R.locals) : CallW R s args RX0 RX0 435 yX0_hourDigest cX0_hourDigest 8 (some .long) (ws_ yX0_hourDigest cX0_hourDigest 8 (some .long)) rX0_hourDigest 0 0 3 := cwV 3 hts (lw_V q902 q904 qs50 q89 q905) rfl rfl rfl (by decide +kernel) hR
theorem t0_carterDigest_b157_f {p : Program} {l : Launch} {e : Env} {s : State} {m : MethodId} {args : Array Value} {below : List Frame} {meth : Method} {c : Code} {D : va_G} {T ad : Nat → Nat} {A : Nat → Prop} {H0 : Heap} {Qs : State → Prop} {Q : Int64 → Mem → Prop} {K157 : Int32 → Int64 → Int32 → Mem → Prop} (C : XC D T RX0 p m c cX0_carterDigest 7 s args) (hQ : xExl p l e rX0_carterDigest s m args below meth c cX0_carterDigest D T ad A H0 Qs Q) (hK157 : ∀ (v3 : Int32) (v4 : Int64) (v6 : Int32) (M : Mem) (H : Heap) (locs : List Loc) (ls : Array Slot), K157 v3 v4 v6 M → XI D T ad A H0 M H locs → lv_has ls 7 [(0, .ref (ad 0)), (3, .int v3), (4, .long v4), (6, .int v6)] → W p l e rX0_carterDigest s m args below meth c H locs 0 0 Qs (F0 m 157 ls [])) (v3 : Int32) (v4 : Int64) (v6 : Int32) (M : Mem) (H : Heap) (locs : List Loc) (ls : Array Slot) (h : w0_carterDigest_b157_f Q K157 v3 v4 v6 M) (I : XI D T ad A H0 M H locs) (hl : lv_has ls 7 [(0, .ref (ad 0)), (3, .int v3), (4, .long v4), (6, .int v6)]) : W p l e rX0_carterDigest s m args below meth c H locs 0 0 Qs (F0 m 157 ls []) := by
  have hx := C.1.1
  have hb := C.1.2.1
  have how := C.1.2.2.2.1
  have hts := C.1.2.2.2.2
  unfold w0_carterDigest_b157_f at h
  refine lv_iload hx hb dX0_carterDigest_157 (lv_at hl 3 rfl) ?_
  refine lv_iconst (v := 3) hx hb dX0_carterDigest_159 (by decide) ?_
  refine lv_icmp_ge (tgt := 186) hx hb dX0_carterDigest_160 (by decide) (fun c => ?_) (fun c => ?_)
  · have h := h.1 c
    refine lv_ldc2 hx hb how (hts _ q896) dX0_carterDigest_186 ?_
    refine lv_lload hx hb dX0_carterDigest_189 (lv_at hl 2 rfl) ?_
    refine lv_lmul hx hb dX0_carterDigest_191 ?_
    refine lv_aload_n hx hb dX0_carterDigest_192 rfl (lv_at hl 0 rfl) ?_
    refine lv_iload_n hx hb dX0_carterDigest_193 rfl (lv_at hl 1 rfl) ?_
    refine x_calli (As := [.int v3]) (rest := [.long (31 * v4)]) C I (fun ra => met0_askOf l D T ad ra v3 M h) (cw0_359 hts ⟨Nat.le_of_ble_eq_true rfl, Nat.le_of_ble_eq_true rfl⟩) rfl hl.1 rfl (Nat.le_of_ble_eq_true rfl) ⟨Nat.zero_le _, Nat.zero_le _⟩ dX0_carterDigest_194 (fun r1 M2 H locs h I => ?_)
    refine lv_i2l hx hb dX0_carterDigest_197 rfl ?_
    refine lv_ladd hx hb dX0_carterDigest_198 ?_
    refine lv_topl (fun x3 ex3 => ?_)
    have h := h x3 ex3
    refine lv_lstore (lv' := [(4, .long x3), (0, .ref (ad 0)), (3, .int v3), (6, .int v6)]) hx hb dX0_carterDigest_199 hl (by decide) rfl (fun ls hl => ?_)
    refine lv_ldc2 hx hb how (hts _ q896) dX0_carterDigest_201 ?_
    refine lv_lload hx hb dX0_carterDigest_204 (lv_at hl 0 rfl) ?_
    refine lv_lmul hx hb dX0_carterDigest_206 ?_
    refine lv_aload_n hx hb dX0_carterDigest_207 rfl (lv_at hl 1 rfl) ?_
    refine lv_iconst (v := 5) hx hb dX0_carterDigest_208 (by decide) ?_
    refine lv_iload_n hx hb dX0_carterDigest_209 rfl (lv_at hl 2 rfl) ?_
    refine lv_iconst (v := 0) hx hb dX0_carterDigest_210 (by decide) ?_
    refine x_calll (As := [.int 5, .int v3, .int 0]) (rest := [.long (31 * x3)]) C I (fun ra => met0_rumourOf l D T ad ra 5 v3 0 M2 h) (cw0_366 hts ⟨Nat.le_of_ble_eq_true rfl, Nat.le_of_ble_eq_true rfl⟩) rfl hl.1 rfl (Nat.le_of_ble_eq_true rfl) ⟨Nat.zero_le _, Nat.zero_le _⟩ dX0_carterDigest_211 (fun r4 M5 H locs h I => ?_)
    refine lv_ladd hx hb dX0_carterDigest_214 ?_
    refine lv_lstore (lv' := [(4, .long ((31 * x3) + r4)), (0, .ref (ad 0)), (3, .int v3), (6, .int v6)]) hx hb dX0_carterDigest_215 hl (by decide) rfl (fun ls hl => ?_)
    refine lv_ldc2 hx hb how (hts _ q896) dX0_carterDigest_217 ?_
    refine lv_lload hx hb dX0_carterDigest_220 (lv_at hl 0 rfl) ?_
    refine lv_lmul hx hb dX0_carterDigest_222 ?_
    refine lv_aload_n hx hb dX0_carterDigest_223 rfl (lv_at hl 1 rfl) ?_
    refine lv_iconst (v := 5) hx hb dX0_carterDigest_224 (by decide) ?_
    refine lv_iload_n hx hb dX0_carterDigest_225 rfl (lv_at hl 2 rfl) ?_
    refine lv_iconst (v := 1) hx hb dX0_carterDigest_226 (by decide) ?_
    refine x_calll (As := [.int 5, .int v3, .int 1]) (rest := [.long (31 * ((31 * x3) + r4))]) C I (fun ra => met0_rumourOf l D T ad ra 5 v3 1 M5 h) (cw0_366 hts ⟨Nat.le_of_ble_eq_true rfl, Nat.le_of_ble_eq_true rfl⟩) rfl hl.1 rfl (Nat.le_of_ble_eq_true rfl) ⟨Nat.zero_le _, Nat.zero_le _⟩ dX0_carterDigest_227 (fun r6 M7 H locs h I => ?_)
    refine lv_ladd hx hb dX0_carterDigest_230 ?_
    exact hQ _ _ _ _ _ _ h I dX0_carterDigest_231
  · have h := h.2 c
    refine lv_ldc2 hx hb how (hts _ q896) dX0_carterDigest_163 ?_
    refine lv_lload hx hb dX0_carterDigest_166 (lv_at hl 2 rfl) ?_
    refine lv_lmul hx hb dX0_carterDigest_168 ?_
    refine lv_aload_n hx hb dX0_carterDigest_169 rfl (lv_at hl 0 rfl) ?_
    refine lv_iload_n hx hb dX0_carterDigest_170 rfl (lv_at hl 1 rfl) ?_
    refine lv_iload hx hb dX0_carterDigest_171 (lv_at hl 3 rfl) ?_
    refine x_calli (As := [.int v3, .int v6]) (rest := [.long (31 * v4)]) C I (fun ra => met0_forceOf l D T ad ra v3 v6 M h) (cw0_353 hts ⟨Nat.le_of_ble_eq_true rfl, Nat.le_of_ble_eq_true rfl⟩) rfl hl.1 rfl (Nat.le_of_ble_eq_true rfl) ⟨Nat.zero_le _, Nat.zero_le _⟩ dX0_carterDigest_173 (fun r8 M9 H locs h I => ?_)
    refine lv_i2l hx hb dX0_carterDigest_176 rfl ?_
    refine lv_ladd hx hb dX0_carterDigest_177 ?_
    refine lv_topl (fun x10 ex10 => ?_)
    have h := h x10 ex10
    refine lv_lstore (lv' := [(4, .long x10), (0, .ref (ad 0)), (3, .int v3), (6, .int v6)]) hx hb dX0_carterDigest_178 hl (by decide) rfl (fun ls hl => ?_)
    refine lv_iinc (v := (v6 + 1)) (lv' := [(6, .int (v6 + 1)), (4, .long x10), (0, .ref (ad 0)), (3, .int v3)]) hx hb dX0_carterDigest_180 hl (k := 3) rfl (ii_1 _) (by decide) rfl (fun ls hl => ?_)
    refine lv_goto (tgt := 157) hx hb dX0_carterDigest_183 (by decide) ?_
    exact hK157 v3 x10 (v6 + 1) M9 _ _ _ h I (lv_sub hl [2, 3, 1, 0] rfl)
theorem t0_carterDigest_b157 {p : Program} {l : Launch} {e : Env} {s : State} {m : MethodId} {args : Array Value} {below : List Frame} {meth : Method} {c : Code} {D : va_G} {T ad : Nat → Nat} {A : Nat → Prop} {H0 : Heap} {Qs : State → Prop} {Q : Int64 → Mem → Prop}  (C : XC D T RX0 p m c cX0_carterDigest 7 s args) (hQ : xExl p l e rX0_carterDigest s m args below meth c cX0_carterDigest D T ad A H0 Qs Q)  : ∀ (n : Nat) (v3 : Int32) (v4 : Int64) (v6 : Int32) (M : Mem) (H : Heap) (locs : List Loc) (ls : Array Slot), w0_carterDigest_b157 Q n v3 v4 v6 M → XI D T ad A H0 M H locs → lv_has ls 7 [(0, .ref (ad 0)), (3, .int v3), (4, .long v4), (6, .int v6)] → W p l e rX0_carterDigest s m args below meth c H locs 0 0 Qs (F0 m 157 ls []) := by
  intro n
  induction n with
  | zero => intro v3 v4 v6 M H locs ls h; exact h.elim
  | succ n ih => intro v3 v4 v6 M H locs ls h I hl; exact t0_carterDigest_b157_f C hQ  ih v3 v4 v6 M H locs ls h I hl
theorem t0_carterDigest_b6_f {p : Program} {l : Launch} {e : Env} {s : State} {m : MethodId} {args : Array Value} {below : List Frame} {meth : Method} {c : Code} {D : va_G} {T ad : Nat → Nat} {A : Nat → Prop} {H0 : Heap} {Qs : State → Prop} {Q : Int64 → Mem → Prop} {K6 : Int32 → Int64 → Int32 → Mem → Prop} (C : XC D T RX0 p m c cX0_carterDigest 7 s args) (hQ : xExl p l e rX0_carterDigest s m args below meth c cX0_carterDigest D T ad A H0 Qs Q) (hK6 : ∀ (v3 : Int32) (v4 : Int64) (v6 : Int32) (M : Mem) (H : Heap) (locs : List Loc) (ls : Array Slot), K6 v3 v4 v6 M → XI D T ad A H0 M H locs → lv_has ls 7 [(0, .ref (ad 0)), (3, .int v3), (4, .long v4), (6, .int v6)] → W p l e rX0_carterDigest s m args below meth c H locs 0 0 Qs (F0 m 6 ls [])) (v3 : Int32) (v4 : Int64) (v6 : Int32) (M : Mem) (H : Heap) (locs : List Loc) (ls : Array Slot) (h : w0_carterDigest_b6_f Q K6 v3 v4 v6 M) (I : XI D T ad A H0 M H locs) (hl : lv_has ls 7 [(0, .ref (ad 0)), (3, .int v3), (4, .long v4), (6, .int v6)]) : W p l e rX0_carterDigest s m args below meth c H locs 0 0 Qs (F0 m 6 ls []) := by
  have hx := C.1.1
  have hb := C.1.2.1
  have how := C.1.2.2.2.1
  have hts := C.1.2.2.2.2
  unfold w0_carterDigest_b6_f at h
  refine lv_iload hx hb dX0_carterDigest_6 (lv_at hl 3 rfl) ?_
  refine lv_iconst (v := 5) hx hb dX0_carterDigest_8 (by decide) ?_
  refine lv_icmp_ge (tgt := 35) hx hb dX0_carterDigest_9 (by decide) (fun c => ?_) (fun c => ?_)
  · have h := h.1 c
    refine lv_aload_n hx hb dX0_carterDigest_35 rfl (lv_at hl 0 rfl) ?_
    refine lv_lload hx hb dX0_carterDigest_36 (lv_at hl 2 rfl) ?_
    refine lv_iconst (v := 0) hx hb dX0_carterDigest_38 (by decide) ?_
    refine lv_iload_n hx hb dX0_carterDigest_39 rfl (lv_at hl 1 rfl) ?_
    refine x_calll (As := [.long v4, .int 0, .int v3]) (rest := []) C I (fun ra => met0_hourDigest l D T ad ra v4 0 v3 M h) (cw0_435 hts ⟨Nat.le_of_ble_eq_true rfl, Nat.le_of_ble_eq_true rfl⟩) rfl hl.1 rfl (Nat.le_of_ble_eq_true rfl) ⟨Nat.zero_le _, Nat.zero_le _⟩ dX0_carterDigest_40 (fun r11 M12 H locs h I => ?_)
    refine lv_lstore (lv' := [(4, .long r11), (0, .ref (ad 0)), (3, .int v3), (6, .int v6)]) hx hb dX0_carterDigest_43 hl (by decide) rfl (fun ls hl => ?_)
    refine lv_aload_n hx hb dX0_carterDigest_45 rfl (lv_at hl 1 rfl) ?_
    refine lv_lload hx hb dX0_carterDigest_46 (lv_at hl 0 rfl) ?_
    refine lv_iconst (v := 5) hx hb dX0_carterDigest_48 (by decide) ?_
    refine lv_iload_n hx hb dX0_carterDigest_49 rfl (lv_at hl 2 rfl) ?_
    refine x_calll (As := [.long r11, .int 5, .int v3]) (rest := []) C I (fun ra => met0_hourDigest l D T ad ra r11 5 v3 M12 h) (cw0_435 hts ⟨Nat.le_of_ble_eq_true rfl, Nat.le_of_ble_eq_true rfl⟩) rfl hl.1 rfl (Nat.le_of_ble_eq_true rfl) ⟨Nat.zero_le _, Nat.zero_le _⟩ dX0_carterDigest_50 (fun r13 M14 H locs h I => ?_)
    refine lv_lstore (lv' := [(4, .long r13), (0, .ref (ad 0)), (3, .int v3), (6, .int v6)]) hx hb dX0_carterDigest_53 hl (by decide) rfl (fun ls hl => ?_)
    refine lv_aload_n hx hb dX0_carterDigest_55 rfl (lv_at hl 1 rfl) ?_
    refine lv_lload hx hb dX0_carterDigest_56 (lv_at hl 0 rfl) ?_
    refine lv_bipush (v := 15) hx hb dX0_carterDigest_58 (by decide) ?_
    refine lv_iload_n hx hb dX0_carterDigest_60 rfl (lv_at hl 2 rfl) ?_
    refine x_calll (As := [.long r13, .int 15, .int v3]) (rest := []) C I (fun ra => met0_hourDigest l D T ad ra r13 15 v3 M14 h) (cw0_435 hts ⟨Nat.le_of_ble_eq_true rfl, Nat.le_of_ble_eq_true rfl⟩) rfl hl.1 rfl (Nat.le_of_ble_eq_true rfl) ⟨Nat.zero_le _, Nat.zero_le _⟩ dX0_carterDigest_61 (fun r15 M16 H locs h I => ?_)
    refine lv_lstore (lv' := [(4, .long r15), (0, .ref (ad 0)), (3, .int v3), (6, .int v6)]) hx hb dX0_carterDigest_64 hl (by decide) rfl (fun ls hl => ?_)
    refine lv_aload_n hx hb dX0_carterDigest_66 rfl (lv_at hl 1 rfl) ?_
    refine lv_lload hx hb dX0_carterDigest_67 (lv_at hl 0 rfl) ?_
    refine lv_bipush (v := 39) hx hb dX0_carterDigest_69 (by decide) ?_
    refine lv_iload_n hx hb dX0_carterDigest_71 rfl (lv_at hl 2 rfl) ?_
    refine x_calll (As := [.long r15, .int 39, .int v3]) (rest := []) C I (fun ra => met0_hourDigest l D T ad ra r15 39 v3 M16 h) (cw0_435 hts ⟨Nat.le_of_ble_eq_true rfl, Nat.le_of_ble_eq_true rfl⟩) rfl hl.1 rfl (Nat.le_of_ble_eq_true rfl) ⟨Nat.zero_le _, Nat.zero_le _⟩ dX0_carterDigest_72 (fun r17 M18 H locs h I => ?_)
    refine lv_lstore (lv' := [(4, .long r17), (0, .ref (ad 0)), (3, .int v3), (6, .int v6)]) hx hb dX0_carterDigest_75 hl (by decide) rfl (fun ls hl => ?_)
    refine lv_ldc2 hx hb how (hts _ q896) dX0_carterDigest_77 ?_
    refine lv_lload hx hb dX0_carterDigest_80 (lv_at hl 0 rfl) ?_
    refine lv_lmul hx hb dX0_carterDigest_82 ?_
    refine lv_aload_n hx hb dX0_carterDigest_83 rfl (lv_at hl 1 rfl) ?_
    refine lv_iload_n hx hb dX0_carterDigest_84 rfl (lv_at hl 2 rfl) ?_
    refine x_calli (As := [.int v3]) (rest := [.long (31 * r17)]) C I (fun ra => met0_endsOf l D T ad ra v3 M18 h) (cw0_285 hts ⟨Nat.le_of_ble_eq_true rfl, Nat.le_of_ble_eq_true rfl⟩) rfl hl.1 rfl (Nat.le_of_ble_eq_true rfl) ⟨Nat.zero_le _, Nat.zero_le _⟩ dX0_carterDigest_85 (fun r19 M20 H locs h I => ?_)
    refine lv_i2l hx hb dX0_carterDigest_88 rfl ?_
    refine lv_ladd hx hb dX0_carterDigest_89 ?_
    refine lv_topl (fun x21 ex21 => ?_)
    have h := h x21 ex21
    refine lv_lstore (lv' := [(4, .long x21), (0, .ref (ad 0)), (3, .int v3), (6, .int v6)]) hx hb dX0_carterDigest_90 hl (by decide) rfl (fun ls hl => ?_)
    refine lv_ldc2 hx hb how (hts _ q896) dX0_carterDigest_92 ?_
    refine lv_lload hx hb dX0_carterDigest_95 (lv_at hl 0 rfl) ?_
    refine lv_lmul hx hb dX0_carterDigest_97 ?_
    refine lv_aload_n hx hb dX0_carterDigest_98 rfl (lv_at hl 1 rfl) ?_
    refine lv_iload_n hx hb dX0_carterDigest_99 rfl (lv_at hl 2 rfl) ?_
    refine x_calli (As := [.int v3]) (rest := [.long (31 * x21)]) C I (fun ra => met0_needsOf l D T ad ra v3 M20 h) (cw0_306 hts ⟨Nat.le_of_ble_eq_true rfl, Nat.le_of_ble_eq_true rfl⟩) rfl hl.1 rfl (Nat.le_of_ble_eq_true rfl) ⟨Nat.zero_le _, Nat.zero_le _⟩ dX0_carterDigest_100 (fun r22 M23 H locs h I => ?_)
    refine lv_i2l hx hb dX0_carterDigest_103 rfl ?_
    refine lv_ladd hx hb dX0_carterDigest_104 ?_
    refine lv_topl (fun x24 ex24 => ?_)
    have h := h x24 ex24
    refine lv_lstore (lv' := [(4, .long x24), (0, .ref (ad 0)), (3, .int v3), (6, .int v6)]) hx hb dX0_carterDigest_105 hl (by decide) rfl (fun ls hl => ?_)
    refine lv_ldc2 hx hb how (hts _ q896) dX0_carterDigest_107 ?_
    refine lv_lload hx hb dX0_carterDigest_110 (lv_at hl 0 rfl) ?_
    refine lv_lmul hx hb dX0_carterDigest_112 ?_
    refine lv_aload_n hx hb dX0_carterDigest_113 rfl (lv_at hl 1 rfl) ?_
    refine lv_iload_n hx hb dX0_carterDigest_114 rfl (lv_at hl 2 rfl) ?_
    refine lv_iconst (v := 0) hx hb dX0_carterDigest_115 (by decide) ?_
    refine x_calli (As := [.int v3, .int 0]) (rest := [.long (31 * x24)]) C I (fun ra => met0_delayOf l D T ad ra v3 0 M23 h) (cw0_322 hts ⟨Nat.le_of_ble_eq_true rfl, Nat.le_of_ble_eq_true rfl⟩) rfl hl.1 rfl (Nat.le_of_ble_eq_true rfl) ⟨Nat.zero_le _, Nat.zero_le _⟩ dX0_carterDigest_116 (fun r25 M26 H locs h I => ?_)
    refine lv_i2l hx hb dX0_carterDigest_119 rfl ?_
    refine lv_ladd hx hb dX0_carterDigest_120 ?_
    refine lv_topl (fun x27 ex27 => ?_)
    have h := h x27 ex27
    refine lv_lstore (lv' := [(4, .long x27), (0, .ref (ad 0)), (3, .int v3), (6, .int v6)]) hx hb dX0_carterDigest_121 hl (by decide) rfl (fun ls hl => ?_)
    refine lv_ldc2 hx hb how (hts _ q896) dX0_carterDigest_123 ?_
    refine lv_lload hx hb dX0_carterDigest_126 (lv_at hl 0 rfl) ?_
    refine lv_lmul hx hb dX0_carterDigest_128 ?_
    refine lv_aload_n hx hb dX0_carterDigest_129 rfl (lv_at hl 1 rfl) ?_
    refine lv_iload_n hx hb dX0_carterDigest_130 rfl (lv_at hl 2 rfl) ?_
    refine lv_iconst (v := 1) hx hb dX0_carterDigest_131 (by decide) ?_
    refine x_calli (As := [.int v3, .int 1]) (rest := [.long (31 * x27)]) C I (fun ra => met0_delayOf l D T ad ra v3 1 M26 h) (cw0_322 hts ⟨Nat.le_of_ble_eq_true rfl, Nat.le_of_ble_eq_true rfl⟩) rfl hl.1 rfl (Nat.le_of_ble_eq_true rfl) ⟨Nat.zero_le _, Nat.zero_le _⟩ dX0_carterDigest_132 (fun r28 M29 H locs h I => ?_)
    refine lv_i2l hx hb dX0_carterDigest_135 rfl ?_
    refine lv_ladd hx hb dX0_carterDigest_136 ?_
    refine lv_topl (fun x30 ex30 => ?_)
    have h := h x30 ex30
    refine lv_lstore (lv' := [(4, .long x30), (0, .ref (ad 0)), (3, .int v3), (6, .int v6)]) hx hb dX0_carterDigest_137 hl (by decide) rfl (fun ls hl => ?_)
    refine lv_ldc2 hx hb how (hts _ q896) dX0_carterDigest_139 ?_
    refine lv_lload hx hb dX0_carterDigest_142 (lv_at hl 0 rfl) ?_
    refine lv_lmul hx hb dX0_carterDigest_144 ?_
    refine lv_aload_n hx hb dX0_carterDigest_145 rfl (lv_at hl 1 rfl) ?_
    refine lv_iload_n hx hb dX0_carterDigest_146 rfl (lv_at hl 2 rfl) ?_
    refine x_calli (As := [.int v3]) (rest := [.long (31 * x30)]) C I (fun ra => met0_sortOf l D T ad ra v3 M29 h) (cw0_350 hts ⟨Nat.le_of_ble_eq_true rfl, Nat.le_of_ble_eq_true rfl⟩) rfl hl.1 rfl (Nat.le_of_ble_eq_true rfl) ⟨Nat.zero_le _, Nat.zero_le _⟩ dX0_carterDigest_147 (fun r31 M32 H locs h I => ?_)
    refine lv_i2l hx hb dX0_carterDigest_150 rfl ?_
    refine lv_ladd hx hb dX0_carterDigest_151 ?_
    refine lv_topl (fun x33 ex33 => ?_)
    have h := h x33 ex33
    refine lv_lstore (lv' := [(4, .long x33), (0, .ref (ad 0)), (3, .int v3), (6, .int v6)]) hx hb dX0_carterDigest_152 hl (by decide) rfl (fun ls hl => ?_)
    refine lv_iconst (v := 0) hx hb dX0_carterDigest_154 (by decide) ?_
    refine lv_istore (lv' := [(6, .int 0), (4, .long x33), (0, .ref (ad 0)), (3, .int v3)]) hx hb dX0_carterDigest_155 hl (by decide) rfl (fun ls hl => ?_)
    obtain ⟨n, h⟩ := h
    exact t0_carterDigest_b157 C hQ n v3 x33 0 M32 _ _ _ h I (lv_sub hl [2, 3, 1, 0] rfl)
  · have h := h.2 c
    refine lv_ldc2 hx hb how (hts _ q896) dX0_carterDigest_12 ?_
    refine lv_lload hx hb dX0_carterDigest_15 (lv_at hl 2 rfl) ?_
    refine lv_lmul hx hb dX0_carterDigest_17 ?_
    refine lv_aload_n hx hb dX0_carterDigest_18 rfl (lv_at hl 0 rfl) ?_
    refine lv_iload_n hx hb dX0_carterDigest_19 rfl (lv_at hl 1 rfl) ?_
    refine lv_iload hx hb dX0_carterDigest_20 (lv_at hl 3 rfl) ?_
    refine x_calli (As := [.int v3, .int v6]) (rest := [.long (31 * v4)]) C I (fun ra => met0_carterOf l D T ad ra v3 v6 M h) (cw0_129 hts ⟨Nat.le_of_ble_eq_true rfl, Nat.le_of_ble_eq_true rfl⟩) rfl hl.1 rfl (Nat.le_of_ble_eq_true rfl) ⟨Nat.zero_le _, Nat.zero_le _⟩ dX0_carterDigest_22 (fun r34 M35 H locs h I => ?_)
    refine lv_i2l hx hb dX0_carterDigest_25 rfl ?_
    refine lv_ladd hx hb dX0_carterDigest_26 ?_
    refine lv_topl (fun x36 ex36 => ?_)
    have h := h x36 ex36
    refine lv_lstore (lv' := [(4, .long x36), (0, .ref (ad 0)), (3, .int v3), (6, .int v6)]) hx hb dX0_carterDigest_27 hl (by decide) rfl (fun ls hl => ?_)
    refine lv_iinc (v := (v6 + 1)) (lv' := [(6, .int (v6 + 1)), (4, .long x36), (0, .ref (ad 0)), (3, .int v3)]) hx hb dX0_carterDigest_29 hl (k := 3) rfl (ii_1 _) (by decide) rfl (fun ls hl => ?_)
    refine lv_goto (tgt := 6) hx hb dX0_carterDigest_32 (by decide) ?_
    exact hK6 v3 x36 (v6 + 1) M35 _ _ _ h I (lv_sub hl [2, 3, 1, 0] rfl)
theorem t0_carterDigest_b6 {p : Program} {l : Launch} {e : Env} {s : State} {m : MethodId} {args : Array Value} {below : List Frame} {meth : Method} {c : Code} {D : va_G} {T ad : Nat → Nat} {A : Nat → Prop} {H0 : Heap} {Qs : State → Prop} {Q : Int64 → Mem → Prop}  (C : XC D T RX0 p m c cX0_carterDigest 7 s args) (hQ : xExl p l e rX0_carterDigest s m args below meth c cX0_carterDigest D T ad A H0 Qs Q)  : ∀ (n : Nat) (v3 : Int32) (v4 : Int64) (v6 : Int32) (M : Mem) (H : Heap) (locs : List Loc) (ls : Array Slot), w0_carterDigest_b6 Q n v3 v4 v6 M → XI D T ad A H0 M H locs → lv_has ls 7 [(0, .ref (ad 0)), (3, .int v3), (4, .long v4), (6, .int v6)] → W p l e rX0_carterDigest s m args below meth c H locs 0 0 Qs (F0 m 6 ls []) := by
  intro n
  induction n with
  | zero => intro v3 v4 v6 M H locs ls h; exact h.elim
  | succ n ih => intro v3 v4 v6 M H locs ls h I hl; exact t0_carterDigest_b6_f C hQ  ih v3 v4 v6 M H locs ls h I hl
theorem t0_carterDigest {p : Program} {l : Launch} {e : Env} {s : State} {m : MethodId} {args : Array Value} {below : List Frame} {meth : Method} {c : Code} {D : va_G} {T ad : Nat → Nat} {A : Nat → Prop} {H0 : Heap} {Qs : State → Prop} {Q : Int64 → Mem → Prop} (C : XC D T RX0 p m c cX0_carterDigest 7 s args) (hQ : xExl p l e rX0_carterDigest s m args below meth c cX0_carterDigest D T ad A H0 Qs Q) (v1 : Int64) (v3 : Int32) (M : Mem) (H : Heap) (locs : List Loc) (ls : Array Slot) (h : w0_carterDigest v1 v3 M Q) (I : XI D T ad A H0 M H locs) (hl : lv_has ls 7 [(0, .ref (ad 0)), (1, .long v1), (3, .int v3)]) : W p l e rX0_carterDigest s m args below meth c H locs 0 0 Qs (F0 m 0 ls []) := by
  have hx := C.1.1
  have hb := C.1.2.1
  have how := C.1.2.2.2.1
  have hts := C.1.2.2.2.2
  unfold w0_carterDigest at h
  refine lv_lload_n hx hb dX0_carterDigest_0 rfl (lv_at hl 1 rfl) ?_
  refine lv_lstore (lv' := [(4, .long v1), (0, .ref (ad 0)), (1, .long v1), (3, .int v3)]) hx hb dX0_carterDigest_1 hl (by decide) rfl (fun ls hl => ?_)
  refine lv_iconst (v := 0) hx hb dX0_carterDigest_3 (by decide) ?_
  refine lv_istore (lv' := [(6, .int 0), (4, .long v1), (0, .ref (ad 0)), (1, .long v1), (3, .int v3)]) hx hb dX0_carterDigest_4 hl (by decide) rfl (fun ls hl => ?_)
  obtain ⟨n, h⟩ := h
  exact t0_carterDigest_b6 C hQ n v3 v1 0 M _ _ _ h I (lv_sub hl [2, 4, 1, 0] rfl)
theorem met0_carterDigest (l : Launch) (D : va_G) (T ad ra : Nat → Nat) (v1 : Int64) (v3 : Int32) (M : Mem) {Qp : Int64 → Mem → Prop} (h : w0_carterDigest v1 v3 M Qp) (sz : Nat) : Met l yX0_carterDigest (ws_ yX0_carterDigest cX0_carterDigest 7 (some .long)) rX0_carterDigest (xPc D T ad ra 0 [.long v1, .int v3] M sz) (xQl D T ad ra M Qp sz) 0 0 (fA (cX T ad ra M) sz) :=
  x_metL (own := RX0) (As := [.long v1, .int v3]) rfl rfl (Nat.le_of_ble_eq_true rfl) (fun p e s m args below meth c A Qs ls C hQ I hl => t0_carterDigest C hQ v1 v3 M _ _ ls h I hl) sz
/-! digest -/
abbrev rX0_digest : Room := { frames := 11, cells := 0, slots := 0, locals := 254 }
theorem cw0_441 {R : Room} {s : State} {args : Array Value} (hts : ∀ w ∈ lw_all, w.before args s = true) (hR : rX0_count.frames + 1 ≤ R.frames ∧ 8 + (2 + 11) + rX0_count.locals ≤ R.locals) : CallW R s args RX0 RX0 441 yX0_count cX0_count 2 (some .int) (ws_ yX0_count cX0_count 2 (some .int)) rX0_count 0 0 1 := cwV 1 hts (lw_V q897 q884 q885 q89 q886) rfl rfl rfl (by decide +kernel) hR
theorem cw0_444 {R : Room} {s : State} {args : Array Value} (hts : ∀ w ∈ lw_all, w.before args s = true) (hR : rX0_carterDigest.frames + 1 ≤ R.frames ∧ 8 + (7 + 11) + rX0_carterDigest.locals ≤ R.locals) : CallW R s args RX0 RX0 444 yX0_carterDigest cX0_carterDigest 7 (some .long) (ws_ yX0_carterDigest cX0_carterDigest 7 (some .long)) rX0_carterDigest 0 0 2 := cwV 2 hts (lw_V q898 q900 qs49 q89 q901) rfl rfl rfl (by decide +kernel) hR
theorem t0_digest_b234_f {p : Program} {l : Launch} {e : Env} {s : State} {m : MethodId} {args : Array Value} {below : List Frame} {meth : Method} {c : Code} {D : va_G} {T ad : Nat → Nat} {A : Nat → Prop} {H0 : Heap} {Qs : State → Prop} {Q : Int64 → Mem → Prop} {K234 : Int64 → Int32 → Mem → Prop} (C : XC D T RX0 p m c cX0_digest 5 s args) (hQ : xExl p l e rX0_digest s m args below meth c cX0_digest D T ad A H0 Qs Q) (hK234 : ∀ (v1 : Int64) (v3 : Int32) (M : Mem) (H : Heap) (locs : List Loc) (ls : Array Slot), K234 v1 v3 M → XI D T ad A H0 M H locs → lv_has ls 5 [(0, .ref (ad 0)), (1, .long v1), (3, .int v3)] → W p l e rX0_digest s m args below meth c H locs 0 0 Qs (F0 m 234 ls [])) (v1 : Int64) (v3 : Int32) (M : Mem) (H : Heap) (locs : List Loc) (ls : Array Slot) (h : w0_digest_b234_f Q K234 v1 v3 M) (I : XI D T ad A H0 M H locs) (hl : lv_has ls 5 [(0, .ref (ad 0)), (1, .long v1), (3, .int v3)]) : W p l e rX0_digest s m args below meth c H locs 0 0 Qs (F0 m 234 ls []) := by
  have hx := C.1.1
  have hb := C.1.2.1
  have how := C.1.2.2.2.1
  have hts := C.1.2.2.2.2
  unfold w0_digest_b234_f at h
  refine lv_iload_n hx hb dX0_digest_234 rfl (lv_at hl 2 rfl) ?_
  refine lv_iconst (v := 3) hx hb dX0_digest_235 (by decide) ?_
  refine lv_icmp_ge (tgt := 258) hx hb dX0_digest_236 (by decide) (fun c => ?_) (fun c => ?_)
  · have h := h.1 c
    refine lv_ldc2 hx hb how (hts _ q896) dX0_digest_258 ?_
    refine lv_lload_n hx hb dX0_digest_261 rfl (lv_at hl 1 rfl) ?_
    refine lv_lmul hx hb dX0_digest_262 ?_
    refine lv_aload_n hx hb dX0_digest_263 rfl (lv_at hl 0 rfl) ?_
    refine lv_iconst (v := 0) hx hb dX0_digest_264 (by decide) ?_
    refine x_calli (As := [.int 0]) (rest := [.long (31 * v1)]) C I (fun ra => met0_levelOf l D T ad ra 0 M h) (cw0_325 hts ⟨Nat.le_of_ble_eq_true rfl, Nat.le_of_ble_eq_true rfl⟩) rfl hl.1 rfl (Nat.le_of_ble_eq_true rfl) ⟨Nat.zero_le _, Nat.zero_le _⟩ dX0_digest_265 (fun r1 M2 H locs h I => ?_)
    refine lv_i2l hx hb dX0_digest_268 rfl ?_
    refine lv_ladd hx hb dX0_digest_269 ?_
    refine lv_topl (fun x3 ex3 => ?_)
    have h := h x3 ex3
    refine lv_lstore_n (lv' := [(1, .long x3), (0, .ref (ad 0)), (3, .int v3)]) hx hb dX0_digest_270 rfl hl (by decide) rfl (fun ls hl => ?_)
    refine lv_ldc2 hx hb how (hts _ q896) dX0_digest_271 ?_
    refine lv_lload_n hx hb dX0_digest_274 rfl (lv_at hl 0 rfl) ?_
    refine lv_lmul hx hb dX0_digest_275 ?_
    refine lv_aload_n hx hb dX0_digest_276 rfl (lv_at hl 1 rfl) ?_
    refine lv_iconst (v := 1) hx hb dX0_digest_277 (by decide) ?_
    refine x_calli (As := [.int 1]) (rest := [.long (31 * x3)]) C I (fun ra => met0_levelOf l D T ad ra 1 M2 h) (cw0_325 hts ⟨Nat.le_of_ble_eq_true rfl, Nat.le_of_ble_eq_true rfl⟩) rfl hl.1 rfl (Nat.le_of_ble_eq_true rfl) ⟨Nat.zero_le _, Nat.zero_le _⟩ dX0_digest_278 (fun r4 M5 H locs h I => ?_)
    refine lv_i2l hx hb dX0_digest_281 rfl ?_
    refine lv_ladd hx hb dX0_digest_282 ?_
    refine lv_topl (fun x6 ex6 => ?_)
    have h := h x6 ex6
    refine lv_lstore_n (lv' := [(1, .long x6), (0, .ref (ad 0)), (3, .int v3)]) hx hb dX0_digest_283 rfl hl (by decide) rfl (fun ls hl => ?_)
    refine lv_ldc2 hx hb how (hts _ q896) dX0_digest_284 ?_
    refine lv_lload_n hx hb dX0_digest_287 rfl (lv_at hl 0 rfl) ?_
    refine lv_lmul hx hb dX0_digest_288 ?_
    refine lv_aload_n hx hb dX0_digest_289 rfl (lv_at hl 1 rfl) ?_
    refine x_calli (As := []) (rest := [.long (31 * x6)]) C I (fun ra => met0_neverNow l D T ad ra M5 h) (cw0_344 hts ⟨Nat.le_of_ble_eq_true rfl, Nat.le_of_ble_eq_true rfl⟩) rfl hl.1 rfl (Nat.le_of_ble_eq_true rfl) ⟨Nat.zero_le _, Nat.zero_le _⟩ dX0_digest_290 (fun r7 M8 H locs h I => ?_)
    refine lv_i2l hx hb dX0_digest_293 rfl ?_
    refine lv_ladd hx hb dX0_digest_294 ?_
    refine lv_topl (fun x9 ex9 => ?_)
    have h := h x9 ex9
    refine lv_lstore_n (lv' := [(1, .long x9), (0, .ref (ad 0)), (3, .int v3)]) hx hb dX0_digest_295 rfl hl (by decide) rfl (fun ls hl => ?_)
    refine lv_ldc2 hx hb how (hts _ q896) dX0_digest_296 ?_
    refine lv_lload_n hx hb dX0_digest_299 rfl (lv_at hl 0 rfl) ?_
    refine lv_lmul hx hb dX0_digest_300 ?_
    refine lv_aload_n hx hb dX0_digest_301 rfl (lv_at hl 1 rfl) ?_
    refine lv_bipush (v := 7) hx hb dX0_digest_302 (by decide) ?_
    refine lv_iconst (v := 0) hx hb dX0_digest_304 (by decide) ?_
    refine x_calli (As := [.int 7, .int 0]) (rest := [.long (31 * x9)]) C I (fun ra => met0_marketOf l D T ad ra 7 0 M8 h) (cw0_378 hts ⟨Nat.le_of_ble_eq_true rfl, Nat.le_of_ble_eq_true rfl⟩) rfl hl.1 rfl (Nat.le_of_ble_eq_true rfl) ⟨Nat.zero_le _, Nat.zero_le _⟩ dX0_digest_305 (fun r10 M11 H locs h I => ?_)
    refine lv_i2l hx hb dX0_digest_308 rfl ?_
    refine lv_ladd hx hb dX0_digest_309 ?_
    refine lv_topl (fun x12 ex12 => ?_)
    have h := h x12 ex12
    refine lv_lstore_n (lv' := [(1, .long x12), (0, .ref (ad 0)), (3, .int v3)]) hx hb dX0_digest_310 rfl hl (by decide) rfl (fun ls hl => ?_)
    refine lv_ldc2 hx hb how (hts _ q896) dX0_digest_311 ?_
    refine lv_lload_n hx hb dX0_digest_314 rfl (lv_at hl 0 rfl) ?_
    refine lv_lmul hx hb dX0_digest_315 ?_
    refine lv_aload_n hx hb dX0_digest_316 rfl (lv_at hl 1 rfl) ?_
    refine lv_bipush (v := 7) hx hb dX0_digest_317 (by decide) ?_
    refine lv_iconst (v := 1) hx hb dX0_digest_319 (by decide) ?_
    refine x_calli (As := [.int 7, .int 1]) (rest := [.long (31 * x12)]) C I (fun ra => met0_marketOf l D T ad ra 7 1 M11 h) (cw0_378 hts ⟨Nat.le_of_ble_eq_true rfl, Nat.le_of_ble_eq_true rfl⟩) rfl hl.1 rfl (Nat.le_of_ble_eq_true rfl) ⟨Nat.zero_le _, Nat.zero_le _⟩ dX0_digest_320 (fun r13 M14 H locs h I => ?_)
    refine lv_i2l hx hb dX0_digest_323 rfl ?_
    refine lv_ladd hx hb dX0_digest_324 ?_
    exact hQ _ _ _ _ _ _ h I dX0_digest_325
  · have h := h.2 c
    refine lv_ldc2 hx hb how (hts _ q896) dX0_digest_239 ?_
    refine lv_lload_n hx hb dX0_digest_242 rfl (lv_at hl 1 rfl) ?_
    refine lv_lmul hx hb dX0_digest_243 ?_
    refine lv_aload_n hx hb dX0_digest_244 rfl (lv_at hl 0 rfl) ?_
    refine lv_iload_n hx hb dX0_digest_245 rfl (lv_at hl 2 rfl) ?_
    refine x_calli (As := [.int v3]) (rest := [.long (31 * v1)]) C I (fun ra => met0_lendOf l D T ad ra v3 M h) (cw0_319 hts ⟨Nat.le_of_ble_eq_true rfl, Nat.le_of_ble_eq_true rfl⟩) rfl hl.1 rfl (Nat.le_of_ble_eq_true rfl) ⟨Nat.zero_le _, Nat.zero_le _⟩ dX0_digest_246 (fun r15 M16 H locs h I => ?_)
    refine lv_i2l hx hb dX0_digest_249 rfl ?_
    refine lv_ladd hx hb dX0_digest_250 ?_
    refine lv_topl (fun x17 ex17 => ?_)
    have h := h x17 ex17
    refine lv_lstore_n (lv' := [(1, .long x17), (0, .ref (ad 0)), (3, .int v3)]) hx hb dX0_digest_251 rfl hl (by decide) rfl (fun ls hl => ?_)
    refine lv_iinc (v := (v3 + 1)) (lv' := [(3, .int (v3 + 1)), (1, .long x17), (0, .ref (ad 0))]) hx hb dX0_digest_252 hl (k := 2) rfl (ii_1 _) (by decide) rfl (fun ls hl => ?_)
    refine lv_goto (tgt := 234) hx hb dX0_digest_255 (by decide) ?_
    exact hK234 x17 (v3 + 1) M16 _ _ _ h I (lv_sub hl [2, 1, 0] rfl)
theorem t0_digest_b234 {p : Program} {l : Launch} {e : Env} {s : State} {m : MethodId} {args : Array Value} {below : List Frame} {meth : Method} {c : Code} {D : va_G} {T ad : Nat → Nat} {A : Nat → Prop} {H0 : Heap} {Qs : State → Prop} {Q : Int64 → Mem → Prop}  (C : XC D T RX0 p m c cX0_digest 5 s args) (hQ : xExl p l e rX0_digest s m args below meth c cX0_digest D T ad A H0 Qs Q)  : ∀ (n : Nat) (v1 : Int64) (v3 : Int32) (M : Mem) (H : Heap) (locs : List Loc) (ls : Array Slot), w0_digest_b234 Q n v1 v3 M → XI D T ad A H0 M H locs → lv_has ls 5 [(0, .ref (ad 0)), (1, .long v1), (3, .int v3)] → W p l e rX0_digest s m args below meth c H locs 0 0 Qs (F0 m 234 ls []) := by
  intro n
  induction n with
  | zero => intro v1 v3 M H locs ls h; exact h.elim
  | succ n ih => intro v1 v3 M H locs ls h I hl; exact t0_digest_b234_f C hQ  ih v1 v3 M H locs ls h I hl
theorem t0_digest_b170_f {p : Program} {l : Launch} {e : Env} {s : State} {m : MethodId} {args : Array Value} {below : List Frame} {meth : Method} {c : Code} {D : va_G} {T ad : Nat → Nat} {A : Nat → Prop} {H0 : Heap} {Qs : State → Prop} {Q : Int64 → Mem → Prop} {K170 : Int64 → Int32 → Mem → Prop} (C : XC D T RX0 p m c cX0_digest 5 s args) (hQ : xExl p l e rX0_digest s m args below meth c cX0_digest D T ad A H0 Qs Q) (hK170 : ∀ (v1 : Int64) (v3 : Int32) (M : Mem) (H : Heap) (locs : List Loc) (ls : Array Slot), K170 v1 v3 M → XI D T ad A H0 M H locs → lv_has ls 5 [(0, .ref (ad 0)), (1, .long v1), (3, .int v3)] → W p l e rX0_digest s m args below meth c H locs 0 0 Qs (F0 m 170 ls [])) (v1 : Int64) (v3 : Int32) (M : Mem) (H : Heap) (locs : List Loc) (ls : Array Slot) (h : w0_digest_b170_f Q K170 v1 v3 M) (I : XI D T ad A H0 M H locs) (hl : lv_has ls 5 [(0, .ref (ad 0)), (1, .long v1), (3, .int v3)]) : W p l e rX0_digest s m args below meth c H locs 0 0 Qs (F0 m 170 ls []) := by
  have hx := C.1.1
  have hb := C.1.2.1
  have how := C.1.2.2.2.1
  have hts := C.1.2.2.2.2
  unfold w0_digest_b170_f at h
  refine lv_iload_n hx hb dX0_digest_170 rfl (lv_at hl 2 rfl) ?_
  refine lv_iconst (v := 5) hx hb dX0_digest_171 (by decide) ?_
  refine lv_icmp_gt (tgt := 194) hx hb dX0_digest_172 (by decide) (fun c => ?_) (fun c => ?_)
  · have h := h.1 c
    refine lv_ldc2 hx hb how (hts _ q896) dX0_digest_194 ?_
    refine lv_lload_n hx hb dX0_digest_197 rfl (lv_at hl 1 rfl) ?_
    refine lv_lmul hx hb dX0_digest_198 ?_
    refine lv_aload_n hx hb dX0_digest_199 rfl (lv_at hl 0 rfl) ?_
    refine lv_iconst (v := 0) hx hb dX0_digest_200 (by decide) ?_
    refine x_calli (As := [.int 0]) (rest := [.long (31 * v1)]) C I (fun ra => met0_metOf l D T ad ra 0 M h) (cw0_297 hts ⟨Nat.le_of_ble_eq_true rfl, Nat.le_of_ble_eq_true rfl⟩) rfl hl.1 rfl (Nat.le_of_ble_eq_true rfl) ⟨Nat.zero_le _, Nat.zero_le _⟩ dX0_digest_201 (fun r18 M19 H locs h I => ?_)
    refine lv_i2l hx hb dX0_digest_204 rfl ?_
    refine lv_ladd hx hb dX0_digest_205 ?_
    refine lv_topl (fun x20 ex20 => ?_)
    have h := h x20 ex20
    refine lv_lstore_n (lv' := [(1, .long x20), (0, .ref (ad 0)), (3, .int v3)]) hx hb dX0_digest_206 rfl hl (by decide) rfl (fun ls hl => ?_)
    refine lv_ldc2 hx hb how (hts _ q896) dX0_digest_207 ?_
    refine lv_lload_n hx hb dX0_digest_210 rfl (lv_at hl 0 rfl) ?_
    refine lv_lmul hx hb dX0_digest_211 ?_
    refine lv_aload_n hx hb dX0_digest_212 rfl (lv_at hl 1 rfl) ?_
    refine lv_iconst (v := 1) hx hb dX0_digest_213 (by decide) ?_
    refine x_calli (As := [.int 1]) (rest := [.long (31 * x20)]) C I (fun ra => met0_metOf l D T ad ra 1 M19 h) (cw0_297 hts ⟨Nat.le_of_ble_eq_true rfl, Nat.le_of_ble_eq_true rfl⟩) rfl hl.1 rfl (Nat.le_of_ble_eq_true rfl) ⟨Nat.zero_le _, Nat.zero_le _⟩ dX0_digest_214 (fun r21 M22 H locs h I => ?_)
    refine lv_i2l hx hb dX0_digest_217 rfl ?_
    refine lv_ladd hx hb dX0_digest_218 ?_
    refine lv_topl (fun x23 ex23 => ?_)
    have h := h x23 ex23
    refine lv_lstore_n (lv' := [(1, .long x23), (0, .ref (ad 0)), (3, .int v3)]) hx hb dX0_digest_219 rfl hl (by decide) rfl (fun ls hl => ?_)
    refine lv_ldc2 hx hb how (hts _ q896) dX0_digest_220 ?_
    refine lv_lload_n hx hb dX0_digest_223 rfl (lv_at hl 0 rfl) ?_
    refine lv_lmul hx hb dX0_digest_224 ?_
    refine lv_aload_n hx hb dX0_digest_225 rfl (lv_at hl 1 rfl) ?_
    refine x_calli (As := []) (rest := [.long (31 * x23)]) C I (fun ra => met0_busiestNow l D T ad ra M22 h) (cw0_300 hts ⟨Nat.le_of_ble_eq_true rfl, Nat.le_of_ble_eq_true rfl⟩) rfl hl.1 rfl (Nat.le_of_ble_eq_true rfl) ⟨Nat.zero_le _, Nat.zero_le _⟩ dX0_digest_226 (fun r24 M25 H locs h I => ?_)
    refine lv_i2l hx hb dX0_digest_229 rfl ?_
    refine lv_ladd hx hb dX0_digest_230 ?_
    refine lv_topl (fun x26 ex26 => ?_)
    have h := h x26 ex26
    refine lv_lstore_n (lv' := [(1, .long x26), (0, .ref (ad 0)), (3, .int v3)]) hx hb dX0_digest_231 rfl hl (by decide) rfl (fun ls hl => ?_)
    refine lv_iconst (v := 0) hx hb dX0_digest_232 (by decide) ?_
    refine lv_istore_n (lv' := [(3, .int 0), (1, .long x26), (0, .ref (ad 0))]) hx hb dX0_digest_233 rfl hl (by decide) rfl (fun ls hl => ?_)
    obtain ⟨n, h⟩ := h
    exact t0_digest_b234 C hQ n x26 0 M25 _ _ _ h I (lv_sub hl [2, 1, 0] rfl)
  · have h := h.2 c
    refine lv_ldc2 hx hb how (hts _ q896) dX0_digest_175 ?_
    refine lv_lload_n hx hb dX0_digest_178 rfl (lv_at hl 1 rfl) ?_
    refine lv_lmul hx hb dX0_digest_179 ?_
    refine lv_aload_n hx hb dX0_digest_180 rfl (lv_at hl 0 rfl) ?_
    refine lv_iload_n hx hb dX0_digest_181 rfl (lv_at hl 2 rfl) ?_
    refine x_calli (As := [.int v3]) (rest := [.long (31 * v1)]) C I (fun ra => met0_whoOf l D T ad ra v3 M h) (cw0_291 hts ⟨Nat.le_of_ble_eq_true rfl, Nat.le_of_ble_eq_true rfl⟩) rfl hl.1 rfl (Nat.le_of_ble_eq_true rfl) ⟨Nat.zero_le _, Nat.zero_le _⟩ dX0_digest_182 (fun r27 M28 H locs h I => ?_)
    refine lv_i2l hx hb dX0_digest_185 rfl ?_
    refine lv_ladd hx hb dX0_digest_186 ?_
    refine lv_topl (fun x29 ex29 => ?_)
    have h := h x29 ex29
    refine lv_lstore_n (lv' := [(1, .long x29), (0, .ref (ad 0)), (3, .int v3)]) hx hb dX0_digest_187 rfl hl (by decide) rfl (fun ls hl => ?_)
    refine lv_iinc (v := (v3 + 1)) (lv' := [(3, .int (v3 + 1)), (1, .long x29), (0, .ref (ad 0))]) hx hb dX0_digest_188 hl (k := 2) rfl (ii_1 _) (by decide) rfl (fun ls hl => ?_)
    refine lv_goto (tgt := 170) hx hb dX0_digest_191 (by decide) ?_
    exact hK170 x29 (v3 + 1) M28 _ _ _ h I (lv_sub hl [2, 1, 0] rfl)
theorem t0_digest_b170 {p : Program} {l : Launch} {e : Env} {s : State} {m : MethodId} {args : Array Value} {below : List Frame} {meth : Method} {c : Code} {D : va_G} {T ad : Nat → Nat} {A : Nat → Prop} {H0 : Heap} {Qs : State → Prop} {Q : Int64 → Mem → Prop}  (C : XC D T RX0 p m c cX0_digest 5 s args) (hQ : xExl p l e rX0_digest s m args below meth c cX0_digest D T ad A H0 Qs Q)  : ∀ (n : Nat) (v1 : Int64) (v3 : Int32) (M : Mem) (H : Heap) (locs : List Loc) (ls : Array Slot), w0_digest_b170 Q n v1 v3 M → XI D T ad A H0 M H locs → lv_has ls 5 [(0, .ref (ad 0)), (1, .long v1), (3, .int v3)] → W p l e rX0_digest s m args below meth c H locs 0 0 Qs (F0 m 170 ls []) := by
  intro n
  induction n with
  | zero => intro v1 v3 M H locs ls h; exact h.elim
  | succ n ih => intro v1 v3 M H locs ls h I hl; exact t0_digest_b170_f C hQ  ih v1 v3 M H locs ls h I hl
theorem t0_digest_b147_f {p : Program} {l : Launch} {e : Env} {s : State} {m : MethodId} {args : Array Value} {below : List Frame} {meth : Method} {c : Code} {D : va_G} {T ad : Nat → Nat} {A : Nat → Prop} {H0 : Heap} {Qs : State → Prop} {Q : Int64 → Mem → Prop} {K147 : Int64 → Int32 → Mem → Prop} (C : XC D T RX0 p m c cX0_digest 5 s args) (hQ : xExl p l e rX0_digest s m args below meth c cX0_digest D T ad A H0 Qs Q) (hK147 : ∀ (v1 : Int64) (v3 : Int32) (M : Mem) (H : Heap) (locs : List Loc) (ls : Array Slot), K147 v1 v3 M → XI D T ad A H0 M H locs → lv_has ls 5 [(0, .ref (ad 0)), (1, .long v1), (3, .int v3)] → W p l e rX0_digest s m args below meth c H locs 0 0 Qs (F0 m 147 ls [])) (v1 : Int64) (v3 : Int32) (M : Mem) (H : Heap) (locs : List Loc) (ls : Array Slot) (h : w0_digest_b147_f Q K147 v1 v3 M) (I : XI D T ad A H0 M H locs) (hl : lv_has ls 5 [(0, .ref (ad 0)), (1, .long v1), (3, .int v3)]) : W p l e rX0_digest s m args below meth c H locs 0 0 Qs (F0 m 147 ls []) := by
  have hx := C.1.1
  have hb := C.1.2.1
  have how := C.1.2.2.2.1
  have hts := C.1.2.2.2.2
  unfold w0_digest_b147_f at h
  refine lv_iload_n hx hb dX0_digest_147 rfl (lv_at hl 2 rfl) ?_
  refine lv_aload_n hx hb dX0_digest_148 rfl (lv_at hl 0 rfl) ?_
  refine xg_carters C I dX0_digest_149 ?_
  refine lv_icmp_ge (tgt := 168) hx hb dX0_digest_152 (by decide) (fun c => ?_) (fun c => ?_)
  · have h := h.1 c
    refine lv_iconst (v := 2) hx hb dX0_digest_168 (by decide) ?_
    refine lv_istore_n (lv' := [(3, .int 2), (0, .ref (ad 0)), (1, .long v1)]) hx hb dX0_digest_169 rfl hl (by decide) rfl (fun ls hl => ?_)
    obtain ⟨n, h⟩ := h
    exact t0_digest_b170 C hQ n v1 2 M _ _ _ h I (lv_sub hl [1, 2, 0] rfl)
  · have h := h.2 c
    refine lv_aload_n hx hb dX0_digest_155 rfl (lv_at hl 0 rfl) ?_
    refine lv_lload_n hx hb dX0_digest_156 rfl (lv_at hl 1 rfl) ?_
    refine lv_iload_n hx hb dX0_digest_157 rfl (lv_at hl 2 rfl) ?_
    refine x_calll (As := [.long v1, .int v3]) (rest := []) C I (fun ra => met0_carterDigest l D T ad ra v1 v3 M h) (cw0_444 hts ⟨Nat.le_of_ble_eq_true rfl, Nat.le_of_ble_eq_true rfl⟩) rfl hl.1 rfl (Nat.le_of_ble_eq_true rfl) ⟨Nat.zero_le _, Nat.zero_le _⟩ dX0_digest_158 (fun r30 M31 H locs h I => ?_)
    refine lv_lstore_n (lv' := [(1, .long r30), (0, .ref (ad 0)), (3, .int v3)]) hx hb dX0_digest_161 rfl hl (by decide) rfl (fun ls hl => ?_)
    refine lv_iinc (v := (v3 + 1)) (lv' := [(3, .int (v3 + 1)), (1, .long r30), (0, .ref (ad 0))]) hx hb dX0_digest_162 hl (k := 2) rfl (ii_1 _) (by decide) rfl (fun ls hl => ?_)
    refine lv_goto (tgt := 147) hx hb dX0_digest_165 (by decide) ?_
    exact hK147 r30 (v3 + 1) M31 _ _ _ h I (lv_sub hl [2, 1, 0] rfl)
theorem t0_digest_b147 {p : Program} {l : Launch} {e : Env} {s : State} {m : MethodId} {args : Array Value} {below : List Frame} {meth : Method} {c : Code} {D : va_G} {T ad : Nat → Nat} {A : Nat → Prop} {H0 : Heap} {Qs : State → Prop} {Q : Int64 → Mem → Prop}  (C : XC D T RX0 p m c cX0_digest 5 s args) (hQ : xExl p l e rX0_digest s m args below meth c cX0_digest D T ad A H0 Qs Q)  : ∀ (n : Nat) (v1 : Int64) (v3 : Int32) (M : Mem) (H : Heap) (locs : List Loc) (ls : Array Slot), w0_digest_b147 Q n v1 v3 M → XI D T ad A H0 M H locs → lv_has ls 5 [(0, .ref (ad 0)), (1, .long v1), (3, .int v3)] → W p l e rX0_digest s m args below meth c H locs 0 0 Qs (F0 m 147 ls []) := by
  intro n
  induction n with
  | zero => intro v1 v3 M H locs ls h; exact h.elim
  | succ n ih => intro v1 v3 M H locs ls h I hl; exact t0_digest_b147_f C hQ  ih v1 v3 M H locs ls h I hl
theorem t0_digest_b105_f {p : Program} {l : Launch} {e : Env} {s : State} {m : MethodId} {args : Array Value} {below : List Frame} {meth : Method} {c : Code} {D : va_G} {T ad : Nat → Nat} {A : Nat → Prop} {H0 : Heap} {Qs : State → Prop} {Q : Int64 → Mem → Prop} {K105 : Int64 → Int32 → Mem → Prop} (C : XC D T RX0 p m c cX0_digest 5 s args) (hQ : xExl p l e rX0_digest s m args below meth c cX0_digest D T ad A H0 Qs Q) (hK105 : ∀ (v1 : Int64) (v3 : Int32) (M : Mem) (H : Heap) (locs : List Loc) (ls : Array Slot), K105 v1 v3 M → XI D T ad A H0 M H locs → lv_has ls 5 [(0, .ref (ad 0)), (1, .long v1), (3, .int v3)] → W p l e rX0_digest s m args below meth c H locs 0 0 Qs (F0 m 105 ls [])) (v1 : Int64) (v3 : Int32) (M : Mem) (H : Heap) (locs : List Loc) (ls : Array Slot) (h : w0_digest_b105_f Q K105 v1 v3 M) (I : XI D T ad A H0 M H locs) (hl : lv_has ls 5 [(0, .ref (ad 0)), (1, .long v1), (3, .int v3)]) : W p l e rX0_digest s m args below meth c H locs 0 0 Qs (F0 m 105 ls []) := by
  have hx := C.1.1
  have hb := C.1.2.1
  have how := C.1.2.2.2.1
  have hts := C.1.2.2.2.2
  unfold w0_digest_b105_f at h
  refine lv_iload_n hx hb dX0_digest_105 rfl (lv_at hl 2 rfl) ?_
  refine lv_bipush (v := 8) hx hb dX0_digest_106 (by decide) ?_
  refine lv_icmp_ge (tgt := 145) hx hb dX0_digest_108 (by decide) (fun c => ?_) (fun c => ?_)
  · have h := h.1 c
    refine lv_iconst (v := 0) hx hb dX0_digest_145 (by decide) ?_
    refine lv_istore_n (lv' := [(3, .int 0), (0, .ref (ad 0)), (1, .long v1)]) hx hb dX0_digest_146 rfl hl (by decide) rfl (fun ls hl => ?_)
    obtain ⟨n, h⟩ := h
    exact t0_digest_b147 C hQ n v1 0 M _ _ _ h I (lv_sub hl [1, 2, 0] rfl)
  · have h := h.2 c
    refine lv_ldc2 hx hb how (hts _ q896) dX0_digest_111 ?_
    refine lv_lload_n hx hb dX0_digest_114 rfl (lv_at hl 1 rfl) ?_
    refine lv_lmul hx hb dX0_digest_115 ?_
    refine lv_aload_n hx hb dX0_digest_116 rfl (lv_at hl 0 rfl) ?_
    refine lv_iconst (v := 0) hx hb dX0_digest_117 (by decide) ?_
    refine lv_iload_n hx hb dX0_digest_118 rfl (lv_at hl 2 rfl) ?_
    refine x_calli (As := [.int 0, .int v3]) (rest := [.long (31 * v1)]) C I (fun ra => met0_farOf l D T ad ra 0 v3 M h) (cw0_200 hts ⟨Nat.le_of_ble_eq_true rfl, Nat.le_of_ble_eq_true rfl⟩) rfl hl.1 rfl (Nat.le_of_ble_eq_true rfl) ⟨Nat.zero_le _, Nat.zero_le _⟩ dX0_digest_119 (fun r32 M33 H locs h I => ?_)
    refine lv_i2l hx hb dX0_digest_122 rfl ?_
    refine lv_ladd hx hb dX0_digest_123 ?_
    refine lv_topl (fun x34 ex34 => ?_)
    have h := h x34 ex34
    refine lv_lstore_n (lv' := [(1, .long x34), (0, .ref (ad 0)), (3, .int v3)]) hx hb dX0_digest_124 rfl hl (by decide) rfl (fun ls hl => ?_)
    refine lv_ldc2 hx hb how (hts _ q896) dX0_digest_125 ?_
    refine lv_lload_n hx hb dX0_digest_128 rfl (lv_at hl 0 rfl) ?_
    refine lv_lmul hx hb dX0_digest_129 ?_
    refine lv_aload_n hx hb dX0_digest_130 rfl (lv_at hl 1 rfl) ?_
    refine lv_iload_n hx hb dX0_digest_131 rfl (lv_at hl 2 rfl) ?_
    refine lv_iconst (v := 3) hx hb dX0_digest_132 (by decide) ?_
    refine x_calli (As := [.int v3, .int 3]) (rest := [.long (31 * x34)]) C I (fun ra => met0_farOf l D T ad ra v3 3 M33 h) (cw0_200 hts ⟨Nat.le_of_ble_eq_true rfl, Nat.le_of_ble_eq_true rfl⟩) rfl hl.1 rfl (Nat.le_of_ble_eq_true rfl) ⟨Nat.zero_le _, Nat.zero_le _⟩ dX0_digest_133 (fun r35 M36 H locs h I => ?_)
    refine lv_i2l hx hb dX0_digest_136 rfl ?_
    refine lv_ladd hx hb dX0_digest_137 ?_
    refine lv_topl (fun x37 ex37 => ?_)
    have h := h x37 ex37
    refine lv_lstore_n (lv' := [(1, .long x37), (0, .ref (ad 0)), (3, .int v3)]) hx hb dX0_digest_138 rfl hl (by decide) rfl (fun ls hl => ?_)
    refine lv_iinc (v := (v3 + 1)) (lv' := [(3, .int (v3 + 1)), (1, .long x37), (0, .ref (ad 0))]) hx hb dX0_digest_139 hl (k := 2) rfl (ii_1 _) (by decide) rfl (fun ls hl => ?_)
    refine lv_goto (tgt := 105) hx hb dX0_digest_142 (by decide) ?_
    exact hK105 x37 (v3 + 1) M36 _ _ _ h I (lv_sub hl [2, 1, 0] rfl)
theorem t0_digest_b105 {p : Program} {l : Launch} {e : Env} {s : State} {m : MethodId} {args : Array Value} {below : List Frame} {meth : Method} {c : Code} {D : va_G} {T ad : Nat → Nat} {A : Nat → Prop} {H0 : Heap} {Qs : State → Prop} {Q : Int64 → Mem → Prop}  (C : XC D T RX0 p m c cX0_digest 5 s args) (hQ : xExl p l e rX0_digest s m args below meth c cX0_digest D T ad A H0 Qs Q)  : ∀ (n : Nat) (v1 : Int64) (v3 : Int32) (M : Mem) (H : Heap) (locs : List Loc) (ls : Array Slot), w0_digest_b105 Q n v1 v3 M → XI D T ad A H0 M H locs → lv_has ls 5 [(0, .ref (ad 0)), (1, .long v1), (3, .int v3)] → W p l e rX0_digest s m args below meth c H locs 0 0 Qs (F0 m 105 ls []) := by
  intro n
  induction n with
  | zero => intro v1 v3 M H locs ls h; exact h.elim
  | succ n ih => intro v1 v3 M H locs ls h I hl; exact t0_digest_b105_f C hQ  ih v1 v3 M H locs ls h I hl
theorem t0_digest_b70_f {p : Program} {l : Launch} {e : Env} {s : State} {m : MethodId} {args : Array Value} {below : List Frame} {meth : Method} {c : Code} {D : va_G} {T ad : Nat → Nat} {A : Nat → Prop} {H0 : Heap} {Qs : State → Prop} {Q : Int64 → Mem → Prop} {K59 : Int64 → Int32 → Mem → Prop} {K70 : Int64 → Int32 → Int32 → Mem → Prop} (C : XC D T RX0 p m c cX0_digest 5 s args) (hQ : xExl p l e rX0_digest s m args below meth c cX0_digest D T ad A H0 Qs Q) (hK59 : ∀ (v1 : Int64) (v3 : Int32) (M : Mem) (H : Heap) (locs : List Loc) (ls : Array Slot), K59 v1 v3 M → XI D T ad A H0 M H locs → lv_has ls 5 [(0, .ref (ad 0)), (1, .long v1), (3, .int v3)] → W p l e rX0_digest s m args below meth c H locs 0 0 Qs (F0 m 59 ls [])) (hK70 : ∀ (v1 : Int64) (v3 : Int32) (v4 : Int32) (M : Mem) (H : Heap) (locs : List Loc) (ls : Array Slot), K70 v1 v3 v4 M → XI D T ad A H0 M H locs → lv_has ls 5 [(0, .ref (ad 0)), (1, .long v1), (3, .int v3), (4, .int v4)] → W p l e rX0_digest s m args below meth c H locs 0 0 Qs (F0 m 70 ls [])) (v1 : Int64) (v3 : Int32) (v4 : Int32) (M : Mem) (H : Heap) (locs : List Loc) (ls : Array Slot) (h : w0_digest_b70_f Q K59 K70 v1 v3 v4 M) (I : XI D T ad A H0 M H locs) (hl : lv_has ls 5 [(0, .ref (ad 0)), (1, .long v1), (3, .int v3), (4, .int v4)]) : W p l e rX0_digest s m args below meth c H locs 0 0 Qs (F0 m 70 ls []) := by
  have hx := C.1.1
  have hb := C.1.2.1
  have how := C.1.2.2.2.1
  have hts := C.1.2.2.2.2
  unfold w0_digest_b70_f at h
  refine lv_iload hx hb dX0_digest_70 (lv_at hl 3 rfl) ?_
  refine lv_iconst (v := 4) hx hb dX0_digest_72 (by decide) ?_
  refine lv_icmp_ge (tgt := 97) hx hb dX0_digest_73 (by decide) (fun c => ?_) (fun c => ?_)
  · have h := h.1 c
    refine lv_iinc (v := (v3 + 1)) (lv' := [(3, .int (v3 + 1)), (0, .ref (ad 0)), (1, .long v1), (4, .int v4)]) hx hb dX0_digest_97 hl (k := 2) rfl (ii_1 _) (by decide) rfl (fun ls hl => ?_)
    refine lv_goto (tgt := 59) hx hb dX0_digest_100 (by decide) ?_
    exact hK59 v1 (v3 + 1) M _ _ _ h I (lv_sub hl [1, 2, 0] rfl)
  · have h := h.2 c
    refine lv_ldc2 hx hb how (hts _ q896) dX0_digest_76 ?_
    refine lv_lload_n hx hb dX0_digest_79 rfl (lv_at hl 1 rfl) ?_
    refine lv_lmul hx hb dX0_digest_80 ?_
    refine lv_aload_n hx hb dX0_digest_81 rfl (lv_at hl 0 rfl) ?_
    refine lv_iload_n hx hb dX0_digest_82 rfl (lv_at hl 2 rfl) ?_
    refine lv_iload hx hb dX0_digest_83 (lv_at hl 3 rfl) ?_
    refine x_calli (As := [.int v3, .int v4]) (rest := [.long (31 * v1)]) C I (fun ra => met0_wayOf l D T ad ra v3 v4 M h) (cw0_117 hts ⟨Nat.le_of_ble_eq_true rfl, Nat.le_of_ble_eq_true rfl⟩) rfl hl.1 rfl (Nat.le_of_ble_eq_true rfl) ⟨Nat.zero_le _, Nat.zero_le _⟩ dX0_digest_85 (fun r38 M39 H locs h I => ?_)
    refine lv_i2l hx hb dX0_digest_88 rfl ?_
    refine lv_ladd hx hb dX0_digest_89 ?_
    refine lv_topl (fun x40 ex40 => ?_)
    have h := h x40 ex40
    refine lv_lstore_n (lv' := [(1, .long x40), (0, .ref (ad 0)), (3, .int v3), (4, .int v4)]) hx hb dX0_digest_90 rfl hl (by decide) rfl (fun ls hl => ?_)
    refine lv_iinc (v := (v4 + 1)) (lv' := [(4, .int (v4 + 1)), (1, .long x40), (0, .ref (ad 0)), (3, .int v3)]) hx hb dX0_digest_91 hl (k := 3) rfl (ii_1 _) (by decide) rfl (fun ls hl => ?_)
    refine lv_goto (tgt := 70) hx hb dX0_digest_94 (by decide) ?_
    exact hK70 x40 v3 (v4 + 1) M39 _ _ _ h I (lv_sub hl [2, 1, 3, 0] rfl)
theorem t0_digest_b70 {p : Program} {l : Launch} {e : Env} {s : State} {m : MethodId} {args : Array Value} {below : List Frame} {meth : Method} {c : Code} {D : va_G} {T ad : Nat → Nat} {A : Nat → Prop} {H0 : Heap} {Qs : State → Prop} {Q : Int64 → Mem → Prop} {K59 : Int64 → Int32 → Mem → Prop} (C : XC D T RX0 p m c cX0_digest 5 s args) (hQ : xExl p l e rX0_digest s m args below meth c cX0_digest D T ad A H0 Qs Q) (hK59 : ∀ (v1 : Int64) (v3 : Int32) (M : Mem) (H : Heap) (locs : List Loc) (ls : Array Slot), K59 v1 v3 M → XI D T ad A H0 M H locs → lv_has ls 5 [(0, .ref (ad 0)), (1, .long v1), (3, .int v3)] → W p l e rX0_digest s m args below meth c H locs 0 0 Qs (F0 m 59 ls [])) : ∀ (n : Nat) (v1 : Int64) (v3 : Int32) (v4 : Int32) (M : Mem) (H : Heap) (locs : List Loc) (ls : Array Slot), w0_digest_b70 Q K59 n v1 v3 v4 M → XI D T ad A H0 M H locs → lv_has ls 5 [(0, .ref (ad 0)), (1, .long v1), (3, .int v3), (4, .int v4)] → W p l e rX0_digest s m args below meth c H locs 0 0 Qs (F0 m 70 ls []) := by
  intro n
  induction n with
  | zero => intro v1 v3 v4 M H locs ls h; exact h.elim
  | succ n ih => intro v1 v3 v4 M H locs ls h I hl; exact t0_digest_b70_f C hQ hK59 ih v1 v3 v4 M H locs ls h I hl
theorem t0_digest_b59_f {p : Program} {l : Launch} {e : Env} {s : State} {m : MethodId} {args : Array Value} {below : List Frame} {meth : Method} {c : Code} {D : va_G} {T ad : Nat → Nat} {A : Nat → Prop} {H0 : Heap} {Qs : State → Prop} {Q : Int64 → Mem → Prop} {K59 : Int64 → Int32 → Mem → Prop} (C : XC D T RX0 p m c cX0_digest 5 s args) (hQ : xExl p l e rX0_digest s m args below meth c cX0_digest D T ad A H0 Qs Q) (hK59 : ∀ (v1 : Int64) (v3 : Int32) (M : Mem) (H : Heap) (locs : List Loc) (ls : Array Slot), K59 v1 v3 M → XI D T ad A H0 M H locs → lv_has ls 5 [(0, .ref (ad 0)), (1, .long v1), (3, .int v3)] → W p l e rX0_digest s m args below meth c H locs 0 0 Qs (F0 m 59 ls [])) (v1 : Int64) (v3 : Int32) (M : Mem) (H : Heap) (locs : List Loc) (ls : Array Slot) (h : w0_digest_b59_f Q K59 v1 v3 M) (I : XI D T ad A H0 M H locs) (hl : lv_has ls 5 [(0, .ref (ad 0)), (1, .long v1), (3, .int v3)]) : W p l e rX0_digest s m args below meth c H locs 0 0 Qs (F0 m 59 ls []) := by
  have hx := C.1.1
  have hb := C.1.2.1
  have how := C.1.2.2.2.1
  have hts := C.1.2.2.2.2
  unfold w0_digest_b59_f at h
  refine lv_iload_n hx hb dX0_digest_59 rfl (lv_at hl 2 rfl) ?_
  refine lv_aload_n hx hb dX0_digest_60 rfl (lv_at hl 0 rfl) ?_
  refine xg_ways C I dX0_digest_61 ?_
  refine lv_icmp_ge (tgt := 103) hx hb dX0_digest_64 (by decide) (fun c => ?_) (fun c => ?_)
  · have h := h.1 c
    refine lv_iconst (v := 0) hx hb dX0_digest_103 (by decide) ?_
    refine lv_istore_n (lv' := [(3, .int 0), (0, .ref (ad 0)), (1, .long v1)]) hx hb dX0_digest_104 rfl hl (by decide) rfl (fun ls hl => ?_)
    obtain ⟨n, h⟩ := h
    exact t0_digest_b105 C hQ n v1 0 M _ _ _ h I (lv_sub hl [1, 2, 0] rfl)
  · have h := h.2 c
    refine lv_iconst (v := 0) hx hb dX0_digest_67 (by decide) ?_
    refine lv_istore (lv' := [(4, .int 0), (0, .ref (ad 0)), (1, .long v1), (3, .int v3)]) hx hb dX0_digest_68 hl (by decide) rfl (fun ls hl => ?_)
    obtain ⟨n, h⟩ := h
    exact t0_digest_b70 C hQ hK59 n v1 v3 0 M _ _ _ h I (lv_sub hl [1, 2, 3, 0] rfl)
theorem t0_digest_b59 {p : Program} {l : Launch} {e : Env} {s : State} {m : MethodId} {args : Array Value} {below : List Frame} {meth : Method} {c : Code} {D : va_G} {T ad : Nat → Nat} {A : Nat → Prop} {H0 : Heap} {Qs : State → Prop} {Q : Int64 → Mem → Prop}  (C : XC D T RX0 p m c cX0_digest 5 s args) (hQ : xExl p l e rX0_digest s m args below meth c cX0_digest D T ad A H0 Qs Q)  : ∀ (n : Nat) (v1 : Int64) (v3 : Int32) (M : Mem) (H : Heap) (locs : List Loc) (ls : Array Slot), w0_digest_b59 Q n v1 v3 M → XI D T ad A H0 M H locs → lv_has ls 5 [(0, .ref (ad 0)), (1, .long v1), (3, .int v3)] → W p l e rX0_digest s m args below meth c H locs 0 0 Qs (F0 m 59 ls []) := by
  intro n
  induction n with
  | zero => intro v1 v3 M H locs ls h; exact h.elim
  | succ n ih => intro v1 v3 M H locs ls h I hl; exact t0_digest_b59_f C hQ  ih v1 v3 M H locs ls h I hl
theorem t0_digest_b6_f {p : Program} {l : Launch} {e : Env} {s : State} {m : MethodId} {args : Array Value} {below : List Frame} {meth : Method} {c : Code} {D : va_G} {T ad : Nat → Nat} {A : Nat → Prop} {H0 : Heap} {Qs : State → Prop} {Q : Int64 → Mem → Prop} {K6 : Int64 → Int32 → Mem → Prop} (C : XC D T RX0 p m c cX0_digest 5 s args) (hQ : xExl p l e rX0_digest s m args below meth c cX0_digest D T ad A H0 Qs Q) (hK6 : ∀ (v1 : Int64) (v3 : Int32) (M : Mem) (H : Heap) (locs : List Loc) (ls : Array Slot), K6 v1 v3 M → XI D T ad A H0 M H locs → lv_has ls 5 [(0, .ref (ad 0)), (1, .long v1), (3, .int v3)] → W p l e rX0_digest s m args below meth c H locs 0 0 Qs (F0 m 6 ls [])) (v1 : Int64) (v3 : Int32) (M : Mem) (H : Heap) (locs : List Loc) (ls : Array Slot) (h : w0_digest_b6_f Q K6 v1 v3 M) (I : XI D T ad A H0 M H locs) (hl : lv_has ls 5 [(0, .ref (ad 0)), (1, .long v1), (3, .int v3)]) : W p l e rX0_digest s m args below meth c H locs 0 0 Qs (F0 m 6 ls []) := by
  have hx := C.1.1
  have hb := C.1.2.1
  have how := C.1.2.2.2.1
  have hts := C.1.2.2.2.2
  unfold w0_digest_b6_f at h
  refine lv_iload_n hx hb dX0_digest_6 rfl (lv_at hl 2 rfl) ?_
  refine lv_bipush (v := 8) hx hb dX0_digest_7 (by decide) ?_
  refine lv_icmp_ge (tgt := 31) hx hb dX0_digest_9 (by decide) (fun c => ?_) (fun c => ?_)
  · have h := h.1 c
    refine lv_ldc2 hx hb how (hts _ q896) dX0_digest_31 ?_
    refine lv_lload_n hx hb dX0_digest_34 rfl (lv_at hl 1 rfl) ?_
    refine lv_lmul hx hb dX0_digest_35 ?_
    refine lv_aload_n hx hb dX0_digest_36 rfl (lv_at hl 0 rfl) ?_
    refine lv_iconst (v := 0) hx hb dX0_digest_37 (by decide) ?_
    refine x_calli (As := [.int 0]) (rest := [.long (31 * v1)]) C I (fun ra => met0_faultOf l D T ad ra 0 M h) (cw0_111 hts ⟨Nat.le_of_ble_eq_true rfl, Nat.le_of_ble_eq_true rfl⟩) rfl hl.1 rfl (Nat.le_of_ble_eq_true rfl) ⟨Nat.zero_le _, Nat.zero_le _⟩ dX0_digest_38 (fun r41 M42 H locs h I => ?_)
    refine lv_i2l hx hb dX0_digest_41 rfl ?_
    refine lv_ladd hx hb dX0_digest_42 ?_
    refine lv_topl (fun x43 ex43 => ?_)
    have h := h x43 ex43
    refine lv_lstore_n (lv' := [(1, .long x43), (0, .ref (ad 0)), (3, .int v3)]) hx hb dX0_digest_43 rfl hl (by decide) rfl (fun ls hl => ?_)
    refine lv_ldc2 hx hb how (hts _ q896) dX0_digest_44 ?_
    refine lv_lload_n hx hb dX0_digest_47 rfl (lv_at hl 0 rfl) ?_
    refine lv_lmul hx hb dX0_digest_48 ?_
    refine lv_aload_n hx hb dX0_digest_49 rfl (lv_at hl 1 rfl) ?_
    refine lv_iconst (v := 1) hx hb dX0_digest_50 (by decide) ?_
    refine x_calli (As := [.int 1]) (rest := [.long (31 * x43)]) C I (fun ra => met0_faultOf l D T ad ra 1 M42 h) (cw0_111 hts ⟨Nat.le_of_ble_eq_true rfl, Nat.le_of_ble_eq_true rfl⟩) rfl hl.1 rfl (Nat.le_of_ble_eq_true rfl) ⟨Nat.zero_le _, Nat.zero_le _⟩ dX0_digest_51 (fun r44 M45 H locs h I => ?_)
    refine lv_i2l hx hb dX0_digest_54 rfl ?_
    refine lv_ladd hx hb dX0_digest_55 ?_
    refine lv_topl (fun x46 ex46 => ?_)
    have h := h x46 ex46
    refine lv_lstore_n (lv' := [(1, .long x46), (0, .ref (ad 0)), (3, .int v3)]) hx hb dX0_digest_56 rfl hl (by decide) rfl (fun ls hl => ?_)
    refine lv_iconst (v := 0) hx hb dX0_digest_57 (by decide) ?_
    refine lv_istore_n (lv' := [(3, .int 0), (1, .long x46), (0, .ref (ad 0))]) hx hb dX0_digest_58 rfl hl (by decide) rfl (fun ls hl => ?_)
    obtain ⟨n, h⟩ := h
    exact t0_digest_b59 C hQ n x46 0 M45 _ _ _ h I (lv_sub hl [2, 1, 0] rfl)
  · have h := h.2 c
    refine lv_ldc2 hx hb how (hts _ q896) dX0_digest_12 ?_
    refine lv_lload_n hx hb dX0_digest_15 rfl (lv_at hl 1 rfl) ?_
    refine lv_lmul hx hb dX0_digest_16 ?_
    refine lv_aload_n hx hb dX0_digest_17 rfl (lv_at hl 0 rfl) ?_
    refine lv_iload_n hx hb dX0_digest_18 rfl (lv_at hl 2 rfl) ?_
    refine x_calli (As := [.int v3]) (rest := [.long (31 * v1)]) C I (fun ra => met0_count l D T ad ra v3 M h) (cw0_441 hts ⟨Nat.le_of_ble_eq_true rfl, Nat.le_of_ble_eq_true rfl⟩) rfl hl.1 rfl (Nat.le_of_ble_eq_true rfl) ⟨Nat.zero_le _, Nat.zero_le _⟩ dX0_digest_19 (fun r47 M48 H locs h I => ?_)
    refine lv_i2l hx hb dX0_digest_22 rfl ?_
    refine lv_ladd hx hb dX0_digest_23 ?_
    refine lv_topl (fun x49 ex49 => ?_)
    have h := h x49 ex49
    refine lv_lstore_n (lv' := [(1, .long x49), (0, .ref (ad 0)), (3, .int v3)]) hx hb dX0_digest_24 rfl hl (by decide) rfl (fun ls hl => ?_)
    refine lv_iinc (v := (v3 + 1)) (lv' := [(3, .int (v3 + 1)), (1, .long x49), (0, .ref (ad 0))]) hx hb dX0_digest_25 hl (k := 2) rfl (ii_1 _) (by decide) rfl (fun ls hl => ?_)
    refine lv_goto (tgt := 6) hx hb dX0_digest_28 (by decide) ?_
    exact hK6 x49 (v3 + 1) M48 _ _ _ h I (lv_sub hl [2, 1, 0] rfl)
theorem t0_digest_b6 {p : Program} {l : Launch} {e : Env} {s : State} {m : MethodId} {args : Array Value} {below : List Frame} {meth : Method} {c : Code} {D : va_G} {T ad : Nat → Nat} {A : Nat → Prop} {H0 : Heap} {Qs : State → Prop} {Q : Int64 → Mem → Prop}  (C : XC D T RX0 p m c cX0_digest 5 s args) (hQ : xExl p l e rX0_digest s m args below meth c cX0_digest D T ad A H0 Qs Q)  : ∀ (n : Nat) (v1 : Int64) (v3 : Int32) (M : Mem) (H : Heap) (locs : List Loc) (ls : Array Slot), w0_digest_b6 Q n v1 v3 M → XI D T ad A H0 M H locs → lv_has ls 5 [(0, .ref (ad 0)), (1, .long v1), (3, .int v3)] → W p l e rX0_digest s m args below meth c H locs 0 0 Qs (F0 m 6 ls []) := by
  intro n
  induction n with
  | zero => intro v1 v3 M H locs ls h; exact h.elim
  | succ n ih => intro v1 v3 M H locs ls h I hl; exact t0_digest_b6_f C hQ  ih v1 v3 M H locs ls h I hl
theorem t0_digest {p : Program} {l : Launch} {e : Env} {s : State} {m : MethodId} {args : Array Value} {below : List Frame} {meth : Method} {c : Code} {D : va_G} {T ad : Nat → Nat} {A : Nat → Prop} {H0 : Heap} {Qs : State → Prop} {Q : Int64 → Mem → Prop} (C : XC D T RX0 p m c cX0_digest 5 s args) (hQ : xExl p l e rX0_digest s m args below meth c cX0_digest D T ad A H0 Qs Q)  (M : Mem) (H : Heap) (locs : List Loc) (ls : Array Slot) (h : w0_digest M Q) (I : XI D T ad A H0 M H locs) (hl : lv_has ls 5 [(0, .ref (ad 0))]) : W p l e rX0_digest s m args below meth c H locs 0 0 Qs (F0 m 0 ls []) := by
  have hx := C.1.1
  have hb := C.1.2.1
  have how := C.1.2.2.2.1
  have hts := C.1.2.2.2.2
  unfold w0_digest at h
  refine lv_ldc2 hx hb how (hts _ q895) dX0_digest_0 ?_
  refine lv_lstore_n (lv' := [(1, .long 17), (0, .ref (ad 0))]) hx hb dX0_digest_3 rfl hl (by decide) rfl (fun ls hl => ?_)
  refine lv_iconst (v := 0) hx hb dX0_digest_4 (by decide) ?_
  refine lv_istore_n (lv' := [(3, .int 0), (1, .long 17), (0, .ref (ad 0))]) hx hb dX0_digest_5 rfl hl (by decide) rfl (fun ls hl => ?_)
  obtain ⟨n, h⟩ := h
  exact t0_digest_b6 C hQ n 17 0 M _ _ _ h I (lv_sub hl [2, 1, 0] rfl)
theorem met0_digest (l : Launch) (D : va_G) (T ad ra : Nat → Nat)  (M : Mem) {Qp : Int64 → Mem → Prop} (h : w0_digest M Qp) (sz : Nat) : Met l yX0_digest (ws_ yX0_digest cX0_digest 5 (some .long)) rX0_digest (xPc D T ad ra 0 [] M sz) (xQl D T ad ra M Qp sz) 0 0 (fA (cX T ad ra M) sz) :=
  x_metL (own := RX0) (As := []) rfl rfl (Nat.le_of_ble_eq_true rfl) (fun p e s m args below meth c A Qs ls C hQ I hl => t0_digest C hQ M _ _ ls h I hl) sz
