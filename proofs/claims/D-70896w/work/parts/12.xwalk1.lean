/-! the system: walks, printed by gen.py -/
/-! in -/
abbrev rX0_in : Room := { frames := 0, cells := 0, slots := 0, locals := 0 }
theorem t0_in_b15 {p : Program} {l : Launch} {e : Env} {s : State} {m : MethodId} {args : Array Value} {below : List Frame} {meth : Method} {c : Code} {A : Nat → Prop} {H0 : Heap} {Qs : State → Prop} {Q : Int32 → Prop}  (S : CallFix p m c cX0_in 3 s args lw_all RX0) (hA : ∀ q, H0.size ≤ q → A q) (hQ : pExi p l e rX0_in s m args below meth c cX0_in A H0 Qs Q)  (s0 : Int32) (H : Heap) (locs : List Loc) (ls : Array Slot) (h : w0_in_b15 Q s0) (hS : va_S A H0 H locs) (hl : lv_has ls 3 []) : W p l e rX0_in s m args below meth c H locs 0 0 Qs (F0 m 15 ls [.int s0]) := by
  have hx := S.1
  have hb := S.2.1
  have how := S.2.2.2.1
  have hts := S.2.2.2.2
  unfold w0_in_b15 at h
  exact hQ _ _ _ _ _ h hS dX0_in_15
theorem t0_in_b14 {p : Program} {l : Launch} {e : Env} {s : State} {m : MethodId} {args : Array Value} {below : List Frame} {meth : Method} {c : Code} {A : Nat → Prop} {H0 : Heap} {Qs : State → Prop} {Q : Int32 → Prop}  (S : CallFix p m c cX0_in 3 s args lw_all RX0) (hA : ∀ q, H0.size ≤ q → A q) (hQ : pExi p l e rX0_in s m args below meth c cX0_in A H0 Qs Q)   (H : Heap) (locs : List Loc) (ls : Array Slot) (h : w0_in_b14 Q ) (hS : va_S A H0 H locs) (hl : lv_has ls 3 []) : W p l e rX0_in s m args below meth c H locs 0 0 Qs (F0 m 14 ls []) := by
  have hx := S.1
  have hb := S.2.1
  have how := S.2.2.2.1
  have hts := S.2.2.2.2
  unfold w0_in_b14 at h
  refine lv_iconst (v := 0) hx hb dX0_in_14 (by decide) ?_
  exact t0_in_b15 S hA hQ 0 _ _ _ h hS (lv_sub hl [] rfl)
theorem t0_in {p : Program} {l : Launch} {e : Env} {s : State} {m : MethodId} {args : Array Value} {below : List Frame} {meth : Method} {c : Code} {A : Nat → Prop} {H0 : Heap} {Qs : State → Prop} {Q : Int32 → Prop} (S : CallFix p m c cX0_in 3 s args lw_all RX0) (hA : ∀ q, H0.size ≤ q → A q) (hQ : pExi p l e rX0_in s m args below meth c cX0_in A H0 Qs Q) (v0 : Int32) (v1 : Int32) (v2 : Int32) (H : Heap) (locs : List Loc) (ls : Array Slot) (h : w0_in_z v0 v1 v2 Q) (hS : va_S A H0 H locs) (hl : lv_has ls 3 [(0, .int v0), (1, .int v1), (2, .int v2)]) : W p l e rX0_in s m args below meth c H locs 0 0 Qs (F0 m 0 ls []) := by
  have hx := S.1
  have hb := S.2.1
  have how := S.2.2.2.1
  have hts := S.2.2.2.2
  unfold w0_in_z at h
  refine lv_iload_n hx hb dX0_in_0 rfl (lv_at hl 0 rfl) ?_
  refine lv_iload_n hx hb dX0_in_1 rfl (lv_at hl 1 rfl) ?_
  refine lv_icmp_lt (tgt := 14) hx hb dX0_in_2 (by decide) (fun c => ?_) (fun c => ?_)
  · have h := h.1 c
    exact t0_in_b14 S hA hQ _ _ _ h hS (lv_sub hl [] rfl)
  · have h := h.2 c
    refine lv_iload_n hx hb dX0_in_5 rfl (lv_at hl 0 rfl) ?_
    refine lv_iload_n hx hb dX0_in_6 rfl (lv_at hl 2 rfl) ?_
    refine lv_icmp_gt (tgt := 14) hx hb dX0_in_7 (by decide) (fun c => ?_) (fun c => ?_)
    · have h := h.1 c
      exact t0_in_b14 S hA hQ _ _ _ h hS (lv_sub hl [] rfl)
    · have h := h.2 c
      refine lv_iconst (v := 1) hx hb dX0_in_10 (by decide) ?_
      refine lv_goto (tgt := 15) hx hb dX0_in_11 (by decide) ?_
      exact t0_in_b15 S hA hQ 1 _ _ _ h hS (lv_sub hl [] rfl)
theorem met0_in (l : Launch) (v0 : Int32) (v1 : Int32) (v2 : Int32) {Qp : Int32 → Prop} (h : w0_in v0 v1 v2 Qp) (sz : Nat) : Met l yX0_in (ws_ yX0_in cX0_in 3 (some .boolean)) rX0_in (pPc [.int v0, .int v1, .int v2] sz) (pQi Qp sz) 0 0 (pA sz) :=
  p_metZ (As := [.int v0, .int v1, .int v2]) rfl (Nat.le_of_ble_eq_true rfl) (fun p e s m args below meth c Qs ls S hQ hl => t0_in S (fun q h => h) hQ v0 v1 v2 _ _ ls h va_S.rf hl) sz
/-! isText -/
abbrev rX0_isText : Room := { frames := 1, cells := 0, slots := 0, locals := 22 }
theorem cw0_5 {R : Room} {s : State} {args : Array Value} (hts : ∀ w ∈ lw_all, w.before args s = true) (hR : rX0_in.frames + 1 ≤ R.frames ∧ 8 + (3 + 11) + rX0_in.locals ≤ R.locals) : CallB R s args RX0 5 yX0_in cX0_in 3 (some .boolean) (ws_ yX0_in cX0_in 3 (some .boolean)) rX0_in 0 0 3 ∧ (Cond.static yX0_in).before args s = true := va_cwS 3 hts (lw_S q114 q115 q89 q116) rfl rfl rfl (by decide +kernel) hR
theorem t0_isText {p : Program} {l : Launch} {e : Env} {s : State} {m : MethodId} {args : Array Value} {below : List Frame} {meth : Method} {c : Code} {A : Nat → Prop} {H0 : Heap} {Qs : State → Prop} {Q : Int32 → Prop} (S : CallFix p m c cX0_isText 1 s args lw_all RX0) (hA : ∀ q, H0.size ≤ q → A q) (hQ : pExi p l e rX0_isText s m args below meth c cX0_isText A H0 Qs Q) (v0 : Int32) (H : Heap) (locs : List Loc) (ls : Array Slot) (h : w0_isText_z v0 Q) (hS : va_S A H0 H locs) (hl : lv_has ls 1 [(0, .int v0)]) : W p l e rX0_isText s m args below meth c H locs 0 0 Qs (F0 m 0 ls []) := by
  have hx := S.1
  have hb := S.2.1
  have how := S.2.2.2.1
  have hts := S.2.2.2.2
  unfold w0_isText_z at h
  refine lv_iload_n hx hb dX0_isText_0 rfl (lv_at hl 0 rfl) ?_
  refine lv_iconst (v := 0) hx hb dX0_isText_1 (by decide) ?_
  refine lv_iconst (v := 1) hx hb dX0_isText_2 (by decide) ?_
  refine p_calli (As := [.int v0, .int 0, .int 1]) (rest := []) S hS hA (met0_in l v0 0 1 h) (cw0_5 hts ⟨Nat.le_of_ble_eq_true rfl, Nat.le_of_ble_eq_true rfl⟩) rfl hl.1 rfl (Nat.le_of_ble_eq_true rfl) ⟨Nat.zero_le _, Nat.zero_le _⟩ dX0_isText_3 (fun r1 H locs h _ hS => ?_)
  exact hQ _ _ _ _ _ h hS dX0_isText_6
theorem met0_isText (l : Launch) (v0 : Int32) {Qp : Int32 → Prop} (h : w0_isText v0 Qp) (sz : Nat) : Met l yX0_isText (ws_ yX0_isText cX0_isText 1 (some .boolean)) rX0_isText (pPc [.int v0] sz) (pQi Qp sz) 0 0 (pA sz) :=
  p_metZ (As := [.int v0]) rfl (Nat.le_of_ble_eq_true rfl) (fun p e s m args below meth c Qs ls S hQ hl => t0_isText S (fun q h => h) hQ v0 _ _ ls h va_S.rf hl) sz
/-! type -/
abbrev rX0_type : Room := { frames := 2, cells := 0, slots := 0, locals := 42 }
theorem cw0_9 {R : Room} {s : State} {args : Array Value} (hts : ∀ w ∈ lw_all, w.before args s = true) (hR : rX0_isText.frames + 1 ≤ R.frames ∧ 8 + (1 + 11) + rX0_isText.locals ≤ R.locals) : CallB R s args RX0 9 yX0_isText cX0_isText 1 (some .boolean) (ws_ yX0_isText cX0_isText 1 (some .boolean)) rX0_isText 0 0 1 ∧ (Cond.static yX0_isText).before args s = true := va_cwS 1 hts (lw_S q111 q112 q89 q113) rfl rfl rfl (by decide +kernel) hR
theorem t0_type_b18 {p : Program} {l : Launch} {e : Env} {s : State} {m : MethodId} {args : Array Value} {below : List Frame} {meth : Method} {c : Code} {D : va_G} {T ad : Nat → Nat} {A : Nat → Prop} {H0 : Heap} {Qs : State → Prop} {Q : Int32 → Mem → Prop}  (C : XC D T RX0 p m c cX0_type 3 s args) (hQ : xExi p l e rX0_type s m args below meth c cX0_type D T ad A H0 Qs Q)   (M : Mem) (H : Heap) (locs : List Loc) (ls : Array Slot) (h : w0_type_b18 Q M) (I : XI D T ad A H0 M H locs) (hl : lv_has ls 3 [(0, .ref (ad 0))]) : W p l e rX0_type s m args below meth c H locs 0 0 Qs (F0 m 18 ls []) := by
  have hx := C.1.1
  have hb := C.1.2.1
  have how := C.1.2.2.2.1
  have hts := C.1.2.2.2.2
  unfold w0_type_b18 at h
  refine lv_bipush (v := -2) hx hb dX0_type_18 (by decide) ?_
  exact hQ _ _ _ _ _ _ h I dX0_type_20
theorem t0_type {p : Program} {l : Launch} {e : Env} {s : State} {m : MethodId} {args : Array Value} {below : List Frame} {meth : Method} {c : Code} {D : va_G} {T ad : Nat → Nat} {A : Nat → Prop} {H0 : Heap} {Qs : State → Prop} {Q : Int32 → Mem → Prop} (C : XC D T RX0 p m c cX0_type 3 s args) (hQ : xExi p l e rX0_type s m args below meth c cX0_type D T ad A H0 Qs Q) (v1 : Int32) (v2 : Int32) (M : Mem) (H : Heap) (locs : List Loc) (ls : Array Slot) (h : w0_type v1 v2 M Q) (I : XI D T ad A H0 M H locs) (hl : lv_has ls 3 [(0, .ref (ad 0)), (1, .int v1), (2, .int v2)]) : W p l e rX0_type s m args below meth c H locs 0 0 Qs (F0 m 0 ls []) := by
  have hx := C.1.1
  have hb := C.1.2.1
  have how := C.1.2.2.2.1
  have hts := C.1.2.2.2.2
  unfold w0_type at h
  refine lv_iload_n hx hb dX0_type_0 rfl (lv_at hl 1 rfl) ?_
  refine x_purei (As := [.int v1]) (rest := []) C I (met0_isText l v1 h) (cw0_9 hts ⟨Nat.le_of_ble_eq_true rfl, Nat.le_of_ble_eq_true rfl⟩) rfl hl.1 rfl (Nat.le_of_ble_eq_true rfl) ⟨Nat.zero_le _, Nat.zero_le _⟩ dX0_type_1 (fun r1 H locs h I => ?_)
  refine lv_if_eq (tgt := 18) hx hb dX0_type_4 (by decide) (fun c => ?_) (fun c => ?_)
  · have h := h.1 c
    exact t0_type_b18 C hQ M _ _ _ h I (lv_sub hl [0] rfl)
  · have h := h.2 c
    refine lv_iload_n hx hb dX0_type_7 rfl (lv_at hl 2 rfl) ?_
    refine lv_iconst (v := 0) hx hb dX0_type_8 (by decide) ?_
    refine lv_sipush (v := 255) hx hb dX0_type_9 (by decide) ?_
    refine x_purei (As := [.int v2, .int 0, .int 255]) (rest := []) C I (met0_in l v2 0 255 h) (cw0_5 hts ⟨Nat.le_of_ble_eq_true rfl, Nat.le_of_ble_eq_true rfl⟩) rfl hl.1 rfl (Nat.le_of_ble_eq_true rfl) ⟨Nat.zero_le _, Nat.zero_le _⟩ dX0_type_12 (fun r2 H locs h I => ?_)
    refine lv_if_ne (tgt := 21) hx hb dX0_type_15 (by decide) (fun c => ?_) (fun c => ?_)
    · have h := h.2 c
      refine lv_aload_n hx hb dX0_type_21 rfl (lv_at hl 0 rfl) ?_
      refine xg_typed C I dX0_type_22 ?_
      refine lv_iload_n hx hb dX0_type_25 rfl (lv_at hl 1 rfl) ?_
      obtain ⟨hg3, h⟩ := h
      refine x_iald C I 4 2 rfl hg3 dX0_type_26 ?_
      refine lv_aload_n hx hb dX0_type_27 rfl (lv_at hl 0 rfl) ?_
      refine xg_texts C I dX0_type_28 ?_
      refine lv_iload_n hx hb dX0_type_31 rfl (lv_at hl 1 rfl) ?_
      refine xa_texts C I hg3 dX0_type_32 ?_
      obtain ⟨hg4, h⟩ := h
      refine x_alen C I (2 + ci v1) (lenX (2 + ci v1)) rfl hg4 dX0_type_33 ?_
      refine lv_icmp_ne (tgt := 40) hx hb dX0_type_34 (by decide) (fun c => ?_) (fun c => ?_)
      · have h := h.2 c
        refine lv_aload_n hx hb dX0_type_40 rfl (lv_at hl 0 rfl) ?_
        refine xg_texts C I dX0_type_41 ?_
        refine lv_iload_n hx hb dX0_type_44 rfl (lv_at hl 1 rfl) ?_
        refine xa_texts C I hg3 dX0_type_45 ?_
        refine lv_aload_n hx hb dX0_type_46 rfl (lv_at hl 0 rfl) ?_
        refine xg_typed C I dX0_type_47 ?_
        refine lv_iload_n hx hb dX0_type_50 rfl (lv_at hl 1 rfl) ?_
        refine x_iald C I 4 2 rfl hg3 dX0_type_51 ?_
        refine lv_iload_n hx hb dX0_type_52 rfl (lv_at hl 2 rfl) ?_
        obtain ⟨hg5, h⟩ := h
        refine x_iast C I (2 + ci v1) (lenX (2 + ci v1)) rfl hg5 dX0_type_53 (fun M6 H locs eM6 I => ?_)
        have h := h M6 eM6
        refine lv_aload_n hx hb dX0_type_54 rfl (lv_at hl 0 rfl) ?_
        refine xg_typed C I dX0_type_55 ?_
        refine lv_iload_n hx hb dX0_type_58 rfl (lv_at hl 1 rfl) ?_
        refine lv_dup2_11 hx hb dX0_type_59 rfl rfl ?_
        refine x_iald C I 4 2 rfl hg3 dX0_type_60 ?_
        refine lv_iconst (v := 1) hx hb dX0_type_61 (by decide) ?_
        refine lv_iadd hx hb dX0_type_62 ?_
        refine x_iast C I 4 2 rfl hg3 dX0_type_63 (fun M7 H locs eM7 I => ?_)
        have h := h M7 eM7
        refine lv_aload_n hx hb dX0_type_64 rfl (lv_at hl 0 rfl) ?_
        refine lv_iconst (v := 0) hx hb dX0_type_65 (by decide) ?_
        obtain ⟨hg8, h⟩ := h
        refine xp_isRead C I hg8 dX0_type_66 (fun M9 H locs eM9 I => ?_)
        have h := h M9 eM9
        refine lv_aload_n hx hb dX0_type_69 rfl (lv_at hl 0 rfl) ?_
        refine xg_typed C I dX0_type_70 ?_
        refine lv_iload_n hx hb dX0_type_73 rfl (lv_at hl 1 rfl) ?_
        refine x_iald C I 4 2 rfl hg3 dX0_type_74 ?_
        exact hQ _ _ _ _ _ _ h I dX0_type_75
      · have h := h.1 c
        refine lv_bipush (v := -4) hx hb dX0_type_37 (by decide) ?_
        exact hQ _ _ _ _ _ _ h I dX0_type_39
    · have h := h.1 c
      exact t0_type_b18 C hQ M _ _ _ h I (lv_sub hl [0] rfl)
theorem met0_type (l : Launch) (D : va_G) (T ad ra : Nat → Nat) (v1 : Int32) (v2 : Int32) (M : Mem) {Qp : Int32 → Mem → Prop} (h : w0_type v1 v2 M Qp) (sz : Nat) : Met l yX0_type (ws_ yX0_type cX0_type 3 (some .int)) rX0_type (xPc D T ad ra 0 [.int v1, .int v2] M sz) (xQi D T ad ra M Qp sz) 0 0 (fA (cX T ad ra M) sz) :=
  x_metI (own := RX0) (As := [.int v1, .int v2]) rfl rfl (Nat.le_of_ble_eq_true rfl) (fun p e s m args below meth c A Qs ls C hQ I hl => t0_type C hQ v1 v2 M _ _ ls h I hl) sz
/-! wipe -/
abbrev rX0_wipe : Room := { frames := 2, cells := 0, slots := 0, locals := 42 }
theorem t0_wipe {p : Program} {l : Launch} {e : Env} {s : State} {m : MethodId} {args : Array Value} {below : List Frame} {meth : Method} {c : Code} {D : va_G} {T ad : Nat → Nat} {A : Nat → Prop} {H0 : Heap} {Qs : State → Prop} {Q : Int32 → Mem → Prop} (C : XC D T RX0 p m c cX0_wipe 3 s args) (hQ : xExi p l e rX0_wipe s m args below meth c cX0_wipe D T ad A H0 Qs Q) (v1 : Int32) (M : Mem) (H : Heap) (locs : List Loc) (ls : Array Slot) (h : w0_wipe v1 M Q) (I : XI D T ad A H0 M H locs) (hl : lv_has ls 3 [(0, .ref (ad 0)), (1, .int v1)]) : W p l e rX0_wipe s m args below meth c H locs 0 0 Qs (F0 m 0 ls []) := by
  have hx := C.1.1
  have hb := C.1.2.1
  have how := C.1.2.2.2.1
  have hts := C.1.2.2.2.2
  unfold w0_wipe at h
  refine lv_iload_n hx hb dX0_wipe_0 rfl (lv_at hl 1 rfl) ?_
  refine x_purei (As := [.int v1]) (rest := []) C I (met0_isText l v1 h) (cw0_9 hts ⟨Nat.le_of_ble_eq_true rfl, Nat.le_of_ble_eq_true rfl⟩) rfl hl.1 rfl (Nat.le_of_ble_eq_true rfl) ⟨Nat.zero_le _, Nat.zero_le _⟩ dX0_wipe_1 (fun r1 H locs h I => ?_)
  refine lv_if_ne (tgt := 10) hx hb dX0_wipe_4 (by decide) (fun c => ?_) (fun c => ?_)
  · have h := h.2 c
    refine lv_aload_n hx hb dX0_wipe_10 rfl (lv_at hl 0 rfl) ?_
    refine xg_typed C I dX0_wipe_11 ?_
    refine lv_iload_n hx hb dX0_wipe_14 rfl (lv_at hl 1 rfl) ?_
    obtain ⟨hg2, h⟩ := h
    refine x_iald C I 4 2 rfl hg2 dX0_wipe_15 ?_
    refine lv_istore_n (lv' := [(2, .int (M 4 (ci v1))), (0, .ref (ad 0)), (1, .int v1)]) hx hb dX0_wipe_16 rfl hl (by decide) rfl (fun ls hl => ?_)
    refine lv_aload_n hx hb dX0_wipe_17 rfl (lv_at hl 1 rfl) ?_
    refine xg_typed C I dX0_wipe_18 ?_
    refine lv_iload_n hx hb dX0_wipe_21 rfl (lv_at hl 2 rfl) ?_
    refine lv_iconst (v := 0) hx hb dX0_wipe_22 (by decide) ?_
    refine x_iast C I 4 2 rfl hg2 dX0_wipe_23 (fun M3 H locs eM3 I => ?_)
    have h := h M3 eM3
    refine lv_aload_n hx hb dX0_wipe_24 rfl (lv_at hl 1 rfl) ?_
    refine lv_iconst (v := 0) hx hb dX0_wipe_25 (by decide) ?_
    obtain ⟨hg4, h⟩ := h
    refine xp_isRead C I hg4 dX0_wipe_26 (fun M5 H locs eM5 I => ?_)
    have h := h M5 eM5
    refine lv_iload_n hx hb dX0_wipe_29 rfl (lv_at hl 0 rfl) ?_
    exact hQ _ _ _ _ _ _ h I dX0_wipe_30
  · have h := h.1 c
    refine lv_bipush (v := -2) hx hb dX0_wipe_7 (by decide) ?_
    exact hQ _ _ _ _ _ _ h I dX0_wipe_9
theorem met0_wipe (l : Launch) (D : va_G) (T ad ra : Nat → Nat) (v1 : Int32) (M : Mem) {Qp : Int32 → Mem → Prop} (h : w0_wipe v1 M Qp) (sz : Nat) : Met l yX0_wipe (ws_ yX0_wipe cX0_wipe 3 (some .int)) rX0_wipe (xPc D T ad ra 0 [.int v1] M sz) (xQi D T ad ra M Qp sz) 0 0 (fA (cX T ad ra M) sz) :=
  x_metI (own := RX0) (As := [.int v1]) rfl rfl (Nat.le_of_ble_eq_true rfl) (fun p e s m args below meth c A Qs ls C hQ I hl => t0_wipe C hQ v1 M _ _ ls h I hl) sz
/-! undo -/
abbrev rX0_undo : Room := { frames := 2, cells := 0, slots := 0, locals := 42 }
theorem t0_undo {p : Program} {l : Launch} {e : Env} {s : State} {m : MethodId} {args : Array Value} {below : List Frame} {meth : Method} {c : Code} {D : va_G} {T ad : Nat → Nat} {A : Nat → Prop} {H0 : Heap} {Qs : State → Prop} {Q : Int32 → Mem → Prop} (C : XC D T RX0 p m c cX0_undo 2 s args) (hQ : xExi p l e rX0_undo s m args below meth c cX0_undo D T ad A H0 Qs Q) (v1 : Int32) (M : Mem) (H : Heap) (locs : List Loc) (ls : Array Slot) (h : w0_undo v1 M Q) (I : XI D T ad A H0 M H locs) (hl : lv_has ls 2 [(0, .ref (ad 0)), (1, .int v1)]) : W p l e rX0_undo s m args below meth c H locs 0 0 Qs (F0 m 0 ls []) := by
  have hx := C.1.1
  have hb := C.1.2.1
  have how := C.1.2.2.2.1
  have hts := C.1.2.2.2.2
  unfold w0_undo at h
  refine lv_iload_n hx hb dX0_undo_0 rfl (lv_at hl 1 rfl) ?_
  refine x_purei (As := [.int v1]) (rest := []) C I (met0_isText l v1 h) (cw0_9 hts ⟨Nat.le_of_ble_eq_true rfl, Nat.le_of_ble_eq_true rfl⟩) rfl hl.1 rfl (Nat.le_of_ble_eq_true rfl) ⟨Nat.zero_le _, Nat.zero_le _⟩ dX0_undo_1 (fun r1 H locs h I => ?_)
  refine lv_if_ne (tgt := 10) hx hb dX0_undo_4 (by decide) (fun c => ?_) (fun c => ?_)
  · have h := h.2 c
    refine lv_aload_n hx hb dX0_undo_10 rfl (lv_at hl 0 rfl) ?_
    refine xg_typed C I dX0_undo_11 ?_
    refine lv_iload_n hx hb dX0_undo_14 rfl (lv_at hl 1 rfl) ?_
    obtain ⟨hg2, h⟩ := h
    refine x_iald C I 4 2 rfl hg2 dX0_undo_15 ?_
    refine lv_if_ne (tgt := 22) hx hb dX0_undo_16 (by decide) (fun c => ?_) (fun c => ?_)
    · have h := h.2 c
      refine lv_aload_n hx hb dX0_undo_22 rfl (lv_at hl 0 rfl) ?_
      refine xg_typed C I dX0_undo_23 ?_
      refine lv_iload_n hx hb dX0_undo_26 rfl (lv_at hl 1 rfl) ?_
      refine lv_dup2_11 hx hb dX0_undo_27 rfl rfl ?_
      refine x_iald C I 4 2 rfl hg2 dX0_undo_28 ?_
      refine lv_iconst (v := 1) hx hb dX0_undo_29 (by decide) ?_
      refine lv_isub hx hb dX0_undo_30 ?_
      refine x_iast C I 4 2 rfl hg2 dX0_undo_31 (fun M3 H locs eM3 I => ?_)
      have h := h M3 eM3
      refine lv_aload_n hx hb dX0_undo_32 rfl (lv_at hl 0 rfl) ?_
      refine lv_iconst (v := 0) hx hb dX0_undo_33 (by decide) ?_
      obtain ⟨hg4, h⟩ := h
      refine xp_isRead C I hg4 dX0_undo_34 (fun M5 H locs eM5 I => ?_)
      have h := h M5 eM5
      refine lv_aload_n hx hb dX0_undo_37 rfl (lv_at hl 0 rfl) ?_
      refine xg_typed C I dX0_undo_38 ?_
      refine lv_iload_n hx hb dX0_undo_41 rfl (lv_at hl 1 rfl) ?_
      refine x_iald C I 4 2 rfl hg2 dX0_undo_42 ?_
      exact hQ _ _ _ _ _ _ h I dX0_undo_43
    · have h := h.1 c
      refine lv_bipush (v := -3) hx hb dX0_undo_19 (by decide) ?_
      exact hQ _ _ _ _ _ _ h I dX0_undo_21
  · have h := h.1 c
    refine lv_bipush (v := -2) hx hb dX0_undo_7 (by decide) ?_
    exact hQ _ _ _ _ _ _ h I dX0_undo_9
theorem met0_undo (l : Launch) (D : va_G) (T ad ra : Nat → Nat) (v1 : Int32) (M : Mem) {Qp : Int32 → Mem → Prop} (h : w0_undo v1 M Qp) (sz : Nat) : Met l yX0_undo (ws_ yX0_undo cX0_undo 2 (some .int)) rX0_undo (xPc D T ad ra 0 [.int v1] M sz) (xQi D T ad ra M Qp sz) 0 0 (fA (cX T ad ra M) sz) :=
  x_metI (own := RX0) (As := [.int v1]) rfl rfl (Nat.le_of_ble_eq_true rfl) (fun p e s m args below meth c A Qs ls C hQ I hl => t0_undo C hQ v1 M _ _ ls h I hl) sz
/-! byteAt -/
abbrev rX0_byteAt : Room := { frames := 0, cells := 0, slots := 0, locals := 0 }
theorem t0_byteAt_b22 {p : Program} {l : Launch} {e : Env} {s : State} {m : MethodId} {args : Array Value} {below : List Frame} {meth : Method} {c : Code} {D : va_G} {T ad : Nat → Nat} {A : Nat → Prop} {H0 : Heap} {Qs : State → Prop} {Q : Int32 → Mem → Prop}  (C : XC D T RX0 p m c cX0_byteAt 3 s args) (hQ : xExi p l e rX0_byteAt s m args below meth c cX0_byteAt D T ad A H0 Qs Q)  (s0 : Int32) (M : Mem) (H : Heap) (locs : List Loc) (ls : Array Slot) (h : w0_byteAt_b22 Q s0 M) (I : XI D T ad A H0 M H locs) (hl : lv_has ls 3 [(0, .ref (ad 0))]) : W p l e rX0_byteAt s m args below meth c H locs 0 0 Qs (F0 m 22 ls [.int s0]) := by
  have hx := C.1.1
  have hb := C.1.2.1
  have how := C.1.2.2.2.1
  have hts := C.1.2.2.2.2
  unfold w0_byteAt_b22 at h
  exact hQ _ _ _ _ _ _ h I dX0_byteAt_22
theorem t0_byteAt {p : Program} {l : Launch} {e : Env} {s : State} {m : MethodId} {args : Array Value} {below : List Frame} {meth : Method} {c : Code} {D : va_G} {T ad : Nat → Nat} {A : Nat → Prop} {H0 : Heap} {Qs : State → Prop} {Q : Int32 → Mem → Prop} (C : XC D T RX0 p m c cX0_byteAt 3 s args) (hQ : xExi p l e rX0_byteAt s m args below meth c cX0_byteAt D T ad A H0 Qs Q) (v1 : Int32) (v2 : Int32) (M : Mem) (H : Heap) (locs : List Loc) (ls : Array Slot) (h : w0_byteAt v1 v2 M Q) (I : XI D T ad A H0 M H locs) (hl : lv_has ls 3 [(0, .ref (ad 0)), (1, .int v1), (2, .int v2)]) : W p l e rX0_byteAt s m args below meth c H locs 0 0 Qs (F0 m 0 ls []) := by
  have hx := C.1.1
  have hb := C.1.2.1
  have how := C.1.2.2.2.1
  have hts := C.1.2.2.2.2
  unfold w0_byteAt at h
  refine lv_iload_n hx hb dX0_byteAt_0 rfl (lv_at hl 2 rfl) ?_
  refine lv_aload_n hx hb dX0_byteAt_1 rfl (lv_at hl 0 rfl) ?_
  refine xg_typed C I dX0_byteAt_2 ?_
  refine lv_iload_n hx hb dX0_byteAt_5 rfl (lv_at hl 1 rfl) ?_
  obtain ⟨hg1, h⟩ := h
  refine x_iald C I 4 2 rfl hg1 dX0_byteAt_6 ?_
  refine lv_icmp_ge (tgt := 21) hx hb dX0_byteAt_7 (by decide) (fun c => ?_) (fun c => ?_)
  · have h := h.1 c
    refine lv_iconst (v := -1) hx hb dX0_byteAt_21 (by decide) ?_
    exact t0_byteAt_b22 C hQ (-1) M _ _ _ h I (lv_sub hl [0] rfl)
  · have h := h.2 c
    refine lv_aload_n hx hb dX0_byteAt_10 rfl (lv_at hl 0 rfl) ?_
    refine xg_texts C I dX0_byteAt_11 ?_
    refine lv_iload_n hx hb dX0_byteAt_14 rfl (lv_at hl 1 rfl) ?_
    refine xa_texts C I hg1 dX0_byteAt_15 ?_
    refine lv_iload_n hx hb dX0_byteAt_16 rfl (lv_at hl 2 rfl) ?_
    obtain ⟨hg2, h⟩ := h
    refine x_iald C I (2 + ci v1) (lenX (2 + ci v1)) rfl hg2 dX0_byteAt_17 ?_
    refine lv_goto (tgt := 22) hx hb dX0_byteAt_18 (by decide) ?_
    exact t0_byteAt_b22 C hQ (M (2 + ci v1) (ci v2)) M _ _ _ h I (lv_sub hl [0] rfl)
theorem met0_byteAt (l : Launch) (D : va_G) (T ad ra : Nat → Nat) (v1 : Int32) (v2 : Int32) (M : Mem) {Qp : Int32 → Mem → Prop} (h : w0_byteAt v1 v2 M Qp) (sz : Nat) : Met l yX0_byteAt (ws_ yX0_byteAt cX0_byteAt 3 (some .int)) rX0_byteAt (xPc D T ad ra 0 [.int v1, .int v2] M sz) (xQi D T ad ra M Qp sz) 0 0 (fA (cX T ad ra M) sz) :=
  x_metI (own := RX0) (As := [.int v1, .int v2]) rfl rfl (Nat.le_of_ble_eq_true rfl) (fun p e s m args below meth c A Qs ls C hQ I hl => t0_byteAt C hQ v1 v2 M _ _ ls h I hl) sz
/-! isPlace -/
abbrev rX0_isPlace : Room := { frames := 1, cells := 0, slots := 0, locals := 22 }
theorem t0_isPlace {p : Program} {l : Launch} {e : Env} {s : State} {m : MethodId} {args : Array Value} {below : List Frame} {meth : Method} {c : Code} {A : Nat → Prop} {H0 : Heap} {Qs : State → Prop} {Q : Int32 → Prop} (S : CallFix p m c cX0_isPlace 1 s args lw_all RX0) (hA : ∀ q, H0.size ≤ q → A q) (hQ : pExi p l e rX0_isPlace s m args below meth c cX0_isPlace A H0 Qs Q) (v0 : Int32) (H : Heap) (locs : List Loc) (ls : Array Slot) (h : w0_isPlace_z v0 Q) (hS : va_S A H0 H locs) (hl : lv_has ls 1 [(0, .int v0)]) : W p l e rX0_isPlace s m args below meth c H locs 0 0 Qs (F0 m 0 ls []) := by
  have hx := S.1
  have hb := S.2.1
  have how := S.2.2.2.1
  have hts := S.2.2.2.2
  unfold w0_isPlace_z at h
  refine lv_iload_n hx hb dX0_isPlace_0 rfl (lv_at hl 0 rfl) ?_
  refine lv_iconst (v := 0) hx hb dX0_isPlace_1 (by decide) ?_
  refine lv_bipush (v := 7) hx hb dX0_isPlace_2 (by decide) ?_
  refine p_calli (As := [.int v0, .int 0, .int 7]) (rest := []) S hS hA (met0_in l v0 0 7 h) (cw0_5 hts ⟨Nat.le_of_ble_eq_true rfl, Nat.le_of_ble_eq_true rfl⟩) rfl hl.1 rfl (Nat.le_of_ble_eq_true rfl) ⟨Nat.zero_le _, Nat.zero_le _⟩ dX0_isPlace_4 (fun r1 H locs h _ hS => ?_)
  exact hQ _ _ _ _ _ h hS dX0_isPlace_7
theorem met0_isPlace (l : Launch) (v0 : Int32) {Qp : Int32 → Prop} (h : w0_isPlace v0 Qp) (sz : Nat) : Met l yX0_isPlace (ws_ yX0_isPlace cX0_isPlace 1 (some .boolean)) rX0_isPlace (pPc [.int v0] sz) (pQi Qp sz) 0 0 (pA sz) :=
  p_metZ (As := [.int v0]) rfl (Nat.le_of_ble_eq_true rfl) (fun p e s m args below meth c Qs ls S hQ hl => t0_isPlace S (fun q h => h) hQ v0 _ _ ls h va_S.rf hl) sz
/-! placeAt -/
abbrev rX0_placeAt : Room := { frames := 2, cells := 0, slots := 0, locals := 42 }
theorem cw0_25 {R : Room} {s : State} {args : Array Value} (hts : ∀ w ∈ lw_all, w.before args s = true) (hR : rX0_byteAt.frames + 1 ≤ R.frames ∧ 8 + (3 + 11) + rX0_byteAt.locals ≤ R.locals) : CallW R s args RX0 RX0 25 yX0_byteAt cX0_byteAt 3 (some .int) (ws_ yX0_byteAt cX0_byteAt 3 (some .int)) rX0_byteAt 0 0 2 := cwV 2 hts (lw_V q150 q152 qs5 q89 q153) rfl rfl rfl (by decide +kernel) hR
theorem cw0_29 {R : Room} {s : State} {args : Array Value} (hts : ∀ w ∈ lw_all, w.before args s = true) (hR : rX0_isPlace.frames + 1 ≤ R.frames ∧ 8 + (1 + 11) + rX0_isPlace.locals ≤ R.locals) : CallB R s args RX0 29 yX0_isPlace cX0_isPlace 1 (some .boolean) (ws_ yX0_isPlace cX0_isPlace 1 (some .boolean)) rX0_isPlace 0 0 1 ∧ (Cond.static yX0_isPlace).before args s = true := va_cwS 1 hts (lw_S q154 q155 q89 q156) rfl rfl rfl (by decide +kernel) hR
theorem t0_placeAt_b22 {p : Program} {l : Launch} {e : Env} {s : State} {m : MethodId} {args : Array Value} {below : List Frame} {meth : Method} {c : Code} {D : va_G} {T ad : Nat → Nat} {A : Nat → Prop} {H0 : Heap} {Qs : State → Prop} {Q : Int32 → Mem → Prop}  (C : XC D T RX0 p m c cX0_placeAt 4 s args) (hQ : xExi p l e rX0_placeAt s m args below meth c cX0_placeAt D T ad A H0 Qs Q)  (s0 : Int32) (M : Mem) (H : Heap) (locs : List Loc) (ls : Array Slot) (h : w0_placeAt_b22 Q s0 M) (I : XI D T ad A H0 M H locs) (hl : lv_has ls 4 [(0, .ref (ad 0))]) : W p l e rX0_placeAt s m args below meth c H locs 0 0 Qs (F0 m 22 ls [.int s0]) := by
  have hx := C.1.1
  have hb := C.1.2.1
  have how := C.1.2.2.2.1
  have hts := C.1.2.2.2.2
  unfold w0_placeAt_b22 at h
  exact hQ _ _ _ _ _ _ h I dX0_placeAt_22
theorem t0_placeAt {p : Program} {l : Launch} {e : Env} {s : State} {m : MethodId} {args : Array Value} {below : List Frame} {meth : Method} {c : Code} {D : va_G} {T ad : Nat → Nat} {A : Nat → Prop} {H0 : Heap} {Qs : State → Prop} {Q : Int32 → Mem → Prop} (C : XC D T RX0 p m c cX0_placeAt 4 s args) (hQ : xExi p l e rX0_placeAt s m args below meth c cX0_placeAt D T ad A H0 Qs Q) (v1 : Int32) (v2 : Int32) (M : Mem) (H : Heap) (locs : List Loc) (ls : Array Slot) (h : w0_placeAt v1 v2 M Q) (I : XI D T ad A H0 M H locs) (hl : lv_has ls 4 [(0, .ref (ad 0)), (1, .int v1), (2, .int v2)]) : W p l e rX0_placeAt s m args below meth c H locs 0 0 Qs (F0 m 0 ls []) := by
  have hx := C.1.1
  have hb := C.1.2.1
  have how := C.1.2.2.2.1
  have hts := C.1.2.2.2.2
  unfold w0_placeAt at h
  refine lv_aload_n hx hb dX0_placeAt_0 rfl (lv_at hl 0 rfl) ?_
  refine lv_iload_n hx hb dX0_placeAt_1 rfl (lv_at hl 1 rfl) ?_
  refine lv_iload_n hx hb dX0_placeAt_2 rfl (lv_at hl 2 rfl) ?_
  refine x_calli (As := [.int v1, .int v2]) (rest := []) C I (fun ra => met0_byteAt l D T ad ra v1 v2 M h) (cw0_25 hts ⟨Nat.le_of_ble_eq_true rfl, Nat.le_of_ble_eq_true rfl⟩) rfl hl.1 rfl (Nat.le_of_ble_eq_true rfl) ⟨Nat.zero_le _, Nat.zero_le _⟩ dX0_placeAt_3 (fun r1 M2 H locs h I => ?_)
  refine lv_bipush (v := 97) hx hb dX0_placeAt_6 (by decide) ?_
  refine lv_isub hx hb dX0_placeAt_8 ?_
  refine lv_istore_n (lv' := [(3, .int (r1 - 97)), (0, .ref (ad 0)), (1, .int v1), (2, .int v2)]) hx hb dX0_placeAt_9 rfl hl (by decide) rfl (fun ls hl => ?_)
  refine lv_iload_n hx hb dX0_placeAt_10 rfl (lv_at hl 0 rfl) ?_
  refine x_purei (As := [.int (r1 - 97)]) (rest := []) C I (met0_isPlace l (r1 - 97) h) (cw0_29 hts ⟨Nat.le_of_ble_eq_true rfl, Nat.le_of_ble_eq_true rfl⟩) rfl hl.1 rfl (Nat.le_of_ble_eq_true rfl) ⟨Nat.zero_le _, Nat.zero_le _⟩ dX0_placeAt_11 (fun r3 H locs h I => ?_)
  refine lv_if_eq (tgt := 21) hx hb dX0_placeAt_14 (by decide) (fun c => ?_) (fun c => ?_)
  · have h := h.1 c
    refine lv_iconst (v := -1) hx hb dX0_placeAt_21 (by decide) ?_
    exact t0_placeAt_b22 C hQ (-1) M2 _ _ _ h I (lv_sub hl [1] rfl)
  · have h := h.2 c
    refine lv_iload_n hx hb dX0_placeAt_17 rfl (lv_at hl 0 rfl) ?_
    refine lv_goto (tgt := 22) hx hb dX0_placeAt_18 (by decide) ?_
    exact t0_placeAt_b22 C hQ (r1 - 97) M2 _ _ _ h I (lv_sub hl [1] rfl)
theorem met0_placeAt (l : Launch) (D : va_G) (T ad ra : Nat → Nat) (v1 : Int32) (v2 : Int32) (M : Mem) {Qp : Int32 → Mem → Prop} (h : w0_placeAt v1 v2 M Qp) (sz : Nat) : Met l yX0_placeAt (ws_ yX0_placeAt cX0_placeAt 4 (some .int)) rX0_placeAt (xPc D T ad ra 0 [.int v1, .int v2] M sz) (xQi D T ad ra M Qp sz) 0 0 (fA (cX T ad ra M) sz) :=
  x_metI (own := RX0) (As := [.int v1, .int v2]) rfl rfl (Nat.le_of_ble_eq_true rfl) (fun p e s m args below meth c A Qs ls C hQ I hl => t0_placeAt C hQ v1 v2 M _ _ ls h I hl) sz
/-! figureAt -/
abbrev rX0_figureAt : Room := { frames := 1, cells := 0, slots := 0, locals := 22 }
theorem t0_figureAt_b28 {p : Program} {l : Launch} {e : Env} {s : State} {m : MethodId} {args : Array Value} {below : List Frame} {meth : Method} {c : Code} {D : va_G} {T ad : Nat → Nat} {A : Nat → Prop} {H0 : Heap} {Qs : State → Prop} {Q : Int32 → Mem → Prop}  (C : XC D T RX0 p m c cX0_figureAt 5 s args) (hQ : xExi p l e rX0_figureAt s m args below meth c cX0_figureAt D T ad A H0 Qs Q)  (s0 : Int32) (M : Mem) (H : Heap) (locs : List Loc) (ls : Array Slot) (h : w0_figureAt_b28 Q s0 M) (I : XI D T ad A H0 M H locs) (hl : lv_has ls 5 [(0, .ref (ad 0))]) : W p l e rX0_figureAt s m args below meth c H locs 0 0 Qs (F0 m 28 ls [.int s0]) := by
  have hx := C.1.1
  have hb := C.1.2.1
  have how := C.1.2.2.2.1
  have hts := C.1.2.2.2.2
  unfold w0_figureAt_b28 at h
  exact hQ _ _ _ _ _ _ h I dX0_figureAt_28
theorem t0_figureAt {p : Program} {l : Launch} {e : Env} {s : State} {m : MethodId} {args : Array Value} {below : List Frame} {meth : Method} {c : Code} {D : va_G} {T ad : Nat → Nat} {A : Nat → Prop} {H0 : Heap} {Qs : State → Prop} {Q : Int32 → Mem → Prop} (C : XC D T RX0 p m c cX0_figureAt 5 s args) (hQ : xExi p l e rX0_figureAt s m args below meth c cX0_figureAt D T ad A H0 Qs Q) (v1 : Int32) (v2 : Int32) (v3 : Int32) (M : Mem) (H : Heap) (locs : List Loc) (ls : Array Slot) (h : w0_figureAt v1 v2 v3 M Q) (I : XI D T ad A H0 M H locs) (hl : lv_has ls 5 [(0, .ref (ad 0)), (1, .int v1), (2, .int v2), (3, .int v3)]) : W p l e rX0_figureAt s m args below meth c H locs 0 0 Qs (F0 m 0 ls []) := by
  have hx := C.1.1
  have hb := C.1.2.1
  have how := C.1.2.2.2.1
  have hts := C.1.2.2.2.2
  unfold w0_figureAt at h
  refine lv_aload_n hx hb dX0_figureAt_0 rfl (lv_at hl 0 rfl) ?_
  refine lv_iload_n hx hb dX0_figureAt_1 rfl (lv_at hl 1 rfl) ?_
  refine lv_iload_n hx hb dX0_figureAt_2 rfl (lv_at hl 2 rfl) ?_
  refine x_calli (As := [.int v1, .int v2]) (rest := []) C I (fun ra => met0_byteAt l D T ad ra v1 v2 M h) (cw0_25 hts ⟨Nat.le_of_ble_eq_true rfl, Nat.le_of_ble_eq_true rfl⟩) rfl hl.1 rfl (Nat.le_of_ble_eq_true rfl) ⟨Nat.zero_le _, Nat.zero_le _⟩ dX0_figureAt_3 (fun r1 M2 H locs h I => ?_)
  refine lv_bipush (v := 48) hx hb dX0_figureAt_6 (by decide) ?_
  refine lv_isub hx hb dX0_figureAt_8 ?_
  refine lv_istore (lv' := [(4, .int (r1 - 48)), (0, .ref (ad 0)), (1, .int v1), (2, .int v2), (3, .int v3)]) hx hb dX0_figureAt_9 hl (by decide) rfl (fun ls hl => ?_)
  refine lv_iload hx hb dX0_figureAt_11 (lv_at hl 0 rfl) ?_
  refine lv_iload_n hx hb dX0_figureAt_13 rfl (lv_at hl 4 rfl) ?_
  refine lv_bipush (v := 9) hx hb dX0_figureAt_14 (by decide) ?_
  refine x_purei (As := [.int (r1 - 48), .int v3, .int 9]) (rest := []) C I (met0_in l (r1 - 48) v3 9 h) (cw0_5 hts ⟨Nat.le_of_ble_eq_true rfl, Nat.le_of_ble_eq_true rfl⟩) rfl hl.1 rfl (Nat.le_of_ble_eq_true rfl) ⟨Nat.zero_le _, Nat.zero_le _⟩ dX0_figureAt_16 (fun r3 H locs h I => ?_)
  refine lv_if_eq (tgt := 27) hx hb dX0_figureAt_19 (by decide) (fun c => ?_) (fun c => ?_)
  · have h := h.1 c
    refine lv_iconst (v := -1) hx hb dX0_figureAt_27 (by decide) ?_
    exact t0_figureAt_b28 C hQ (-1) M2 _ _ _ h I (lv_sub hl [1] rfl)
  · have h := h.2 c
    refine lv_iload hx hb dX0_figureAt_22 (lv_at hl 0 rfl) ?_
    refine lv_goto (tgt := 28) hx hb dX0_figureAt_24 (by decide) ?_
    exact t0_figureAt_b28 C hQ (r1 - 48) M2 _ _ _ h I (lv_sub hl [1] rfl)
theorem met0_figureAt (l : Launch) (D : va_G) (T ad ra : Nat → Nat) (v1 : Int32) (v2 : Int32) (v3 : Int32) (M : Mem) {Qp : Int32 → Mem → Prop} (h : w0_figureAt v1 v2 v3 M Qp) (sz : Nat) : Met l yX0_figureAt (ws_ yX0_figureAt cX0_figureAt 5 (some .int)) rX0_figureAt (xPc D T ad ra 0 [.int v1, .int v2, .int v3] M sz) (xQi D T ad ra M Qp sz) 0 0 (fA (cX T ad ra M) sz) :=
  x_metI (own := RX0) (As := [.int v1, .int v2, .int v3]) rfl rfl (Nat.le_of_ble_eq_true rfl) (fun p e s m args below meth c A Qs ls C hQ I hl => t0_figureAt C hQ v1 v2 v3 M _ _ ls h I hl) sz
/-! slopeOf -/
abbrev rX0_slopeOf : Room := { frames := 0, cells := 0, slots := 0, locals := 0 }
theorem t0_slopeOf_b31 {p : Program} {l : Launch} {e : Env} {s : State} {m : MethodId} {args : Array Value} {below : List Frame} {meth : Method} {c : Code} {A : Nat → Prop} {H0 : Heap} {Qs : State → Prop} {Q : Int32 → Prop}  (S : CallFix p m c cX0_slopeOf 1 s args lw_all RX0) (hA : ∀ q, H0.size ≤ q → A q) (hQ : pExi p l e rX0_slopeOf s m args below meth c cX0_slopeOf A H0 Qs Q)  (s0 : Int32) (H : Heap) (locs : List Loc) (ls : Array Slot) (h : w0_slopeOf_b31 Q s0) (hS : va_S A H0 H locs) (hl : lv_has ls 1 []) : W p l e rX0_slopeOf s m args below meth c H locs 0 0 Qs (F0 m 31 ls [.int s0]) := by
  have hx := S.1
  have hb := S.2.1
  have how := S.2.2.2.1
  have hts := S.2.2.2.2
  unfold w0_slopeOf_b31 at h
  exact hQ _ _ _ _ _ h hS dX0_slopeOf_31
theorem t0_slopeOf {p : Program} {l : Launch} {e : Env} {s : State} {m : MethodId} {args : Array Value} {below : List Frame} {meth : Method} {c : Code} {A : Nat → Prop} {H0 : Heap} {Qs : State → Prop} {Q : Int32 → Prop} (S : CallFix p m c cX0_slopeOf 1 s args lw_all RX0) (hA : ∀ q, H0.size ≤ q → A q) (hQ : pExi p l e rX0_slopeOf s m args below meth c cX0_slopeOf A H0 Qs Q) (v0 : Int32) (H : Heap) (locs : List Loc) (ls : Array Slot) (h : w0_slopeOf v0 Q) (hS : va_S A H0 H locs) (hl : lv_has ls 1 [(0, .int v0)]) : W p l e rX0_slopeOf s m args below meth c H locs 0 0 Qs (F0 m 0 ls []) := by
  have hx := S.1
  have hb := S.2.1
  have how := S.2.2.2.1
  have hts := S.2.2.2.2
  unfold w0_slopeOf at h
  refine lv_iload_n hx hb dX0_slopeOf_0 rfl (lv_at hl 0 rfl) ?_
  refine lv_bipush (v := 117) hx hb dX0_slopeOf_1 (by decide) ?_
  refine lv_icmp_ne (tgt := 10) hx hb dX0_slopeOf_3 (by decide) (fun c => ?_) (fun c => ?_)
  · have h := h.2 c
    refine lv_iload_n hx hb dX0_slopeOf_10 rfl (lv_at hl 0 rfl) ?_
    refine lv_bipush (v := 102) hx hb dX0_slopeOf_11 (by decide) ?_
    refine lv_icmp_ne (tgt := 20) hx hb dX0_slopeOf_13 (by decide) (fun c => ?_) (fun c => ?_)
    · have h := h.2 c
      refine lv_iload_n hx hb dX0_slopeOf_20 rfl (lv_at hl 0 rfl) ?_
      refine lv_bipush (v := 100) hx hb dX0_slopeOf_21 (by decide) ?_
      refine lv_icmp_ne (tgt := 30) hx hb dX0_slopeOf_23 (by decide) (fun c => ?_) (fun c => ?_)
      · have h := h.2 c
        refine lv_iconst (v := -1) hx hb dX0_slopeOf_30 (by decide) ?_
        exact t0_slopeOf_b31 S hA hQ (-1) _ _ _ h hS (lv_sub hl [] rfl)
      · have h := h.1 c
        refine lv_iconst (v := 2) hx hb dX0_slopeOf_26 (by decide) ?_
        refine lv_goto (tgt := 31) hx hb dX0_slopeOf_27 (by decide) ?_
        exact t0_slopeOf_b31 S hA hQ 2 _ _ _ h hS (lv_sub hl [] rfl)
    · have h := h.1 c
      refine lv_iconst (v := 1) hx hb dX0_slopeOf_16 (by decide) ?_
      refine lv_goto (tgt := 31) hx hb dX0_slopeOf_17 (by decide) ?_
      exact t0_slopeOf_b31 S hA hQ 1 _ _ _ h hS (lv_sub hl [] rfl)
  · have h := h.1 c
    refine lv_iconst (v := 0) hx hb dX0_slopeOf_6 (by decide) ?_
    refine lv_goto (tgt := 31) hx hb dX0_slopeOf_7 (by decide) ?_
    exact t0_slopeOf_b31 S hA hQ 0 _ _ _ h hS (lv_sub hl [] rfl)
theorem met0_slopeOf (l : Launch) (v0 : Int32) {Qp : Int32 → Prop} (h : w0_slopeOf v0 Qp) (sz : Nat) : Met l yX0_slopeOf (ws_ yX0_slopeOf cX0_slopeOf 1 (some .int)) rX0_slopeOf (pPc [.int v0] sz) (pQi Qp sz) 0 0 (pA sz) :=
  p_metI (As := [.int v0]) rfl (Nat.le_of_ble_eq_true rfl) (fun p e s m args below meth c Qs ls S hQ hl => t0_slopeOf S (fun q h => h) hQ v0 _ _ ls h va_S.rf hl) sz
/-! readsWay -/
abbrev rX0_readsWay : Room := { frames := 3, cells := 0, slots := 0, locals := 65 }
theorem cw0_32 {R : Room} {s : State} {args : Array Value} (hts : ∀ w ∈ lw_all, w.before args s = true) (hR : rX0_placeAt.frames + 1 ≤ R.frames ∧ 8 + (4 + 11) + rX0_placeAt.locals ≤ R.locals) : CallW R s args RX0 RX0 32 yX0_placeAt cX0_placeAt 4 (some .int) (ws_ yX0_placeAt cX0_placeAt 4 (some .int)) rX0_placeAt 0 0 2 := cwV 2 hts (lw_V q146 q148 qs4 q89 q149) rfl rfl rfl (by decide +kernel) hR
theorem cw0_35 {R : Room} {s : State} {args : Array Value} (hts : ∀ w ∈ lw_all, w.before args s = true) (hR : rX0_figureAt.frames + 1 ≤ R.frames ∧ 8 + (5 + 11) + rX0_figureAt.locals ≤ R.locals) : CallW R s args RX0 RX0 35 yX0_figureAt cX0_figureAt 5 (some .int) (ws_ yX0_figureAt cX0_figureAt 5 (some .int)) rX0_figureAt 0 0 3 := cwV 3 hts (lw_V q157 q159 qs6 q89 q160) rfl rfl rfl (by decide +kernel) hR
theorem cw0_39 {R : Room} {s : State} {args : Array Value} (hts : ∀ w ∈ lw_all, w.before args s = true) (hR : rX0_slopeOf.frames + 1 ≤ R.frames ∧ 8 + (1 + 11) + rX0_slopeOf.locals ≤ R.locals) : CallB R s args RX0 39 yX0_slopeOf cX0_slopeOf 1 (some .int) (ws_ yX0_slopeOf cX0_slopeOf 1 (some .int)) rX0_slopeOf 0 0 1 ∧ (Cond.static yX0_slopeOf).before args s = true := va_cwS 1 hts (lw_S q161 q162 q89 q163) rfl rfl rfl (by decide +kernel) hR
theorem t0_readsWay_b132 {p : Program} {l : Launch} {e : Env} {s : State} {m : MethodId} {args : Array Value} {below : List Frame} {meth : Method} {c : Code} {D : va_G} {T ad : Nat → Nat} {A : Nat → Prop} {H0 : Heap} {Qs : State → Prop} {Q : Int32 → Mem → Prop}  (C : XC D T RX0 p m c cX0_readsWay 8 s args) (hQ : xExi p l e rX0_readsWay s m args below meth c cX0_readsWay D T ad A H0 Qs Q)  (v7 : Int32) (M : Mem) (H : Heap) (locs : List Loc) (ls : Array Slot) (h : w0_readsWay_b132 Q v7 M) (I : XI D T ad A H0 M H locs) (hl : lv_has ls 8 [(0, .ref (ad 0)), (7, .int v7)]) : W p l e rX0_readsWay s m args below meth c H locs 0 0 Qs (F0 m 132 ls []) := by
  have hx := C.1.1
  have hb := C.1.2.1
  have how := C.1.2.2.2.1
  have hts := C.1.2.2.2.2
  unfold w0_readsWay_b132 at h
  refine lv_iload hx hb dX0_readsWay_132 (lv_at hl 1 rfl) ?_
  exact hQ _ _ _ _ _ _ h I dX0_readsWay_134
theorem t0_readsWay_b93 {p : Program} {l : Launch} {e : Env} {s : State} {m : MethodId} {args : Array Value} {below : List Frame} {meth : Method} {c : Code} {D : va_G} {T ad : Nat → Nat} {A : Nat → Prop} {H0 : Heap} {Qs : State → Prop} {Q : Int32 → Mem → Prop}  (C : XC D T RX0 p m c cX0_readsWay 8 s args) (hQ : xExi p l e rX0_readsWay s m args below meth c cX0_readsWay D T ad A H0 Qs Q)  (v1 : Int32) (v3 : Int32) (v4 : Int32) (v5 : Int32) (v6 : Int32) (s0 : Int32) (M : Mem) (H : Heap) (locs : List Loc) (ls : Array Slot) (h : w0_readsWay_b93 Q v1 v3 v4 v5 v6 s0 M) (I : XI D T ad A H0 M H locs) (hl : lv_has ls 8 [(0, .ref (ad 0)), (1, .int v1), (3, .int v3), (4, .int v4), (5, .int v5), (6, .int v6)]) : W p l e rX0_readsWay s m args below meth c H locs 0 0 Qs (F0 m 93 ls [.int s0]) := by
  have hx := C.1.1
  have hb := C.1.2.1
  have how := C.1.2.2.2.1
  have hts := C.1.2.2.2.2
  unfold w0_readsWay_b93 at h
  refine lv_istore (lv' := [(7, .int s0), (0, .ref (ad 0)), (1, .int v1), (3, .int v3), (4, .int v4), (5, .int v5), (6, .int v6)]) hx hb dX0_readsWay_93 hl (by decide) rfl (fun ls hl => ?_)
  refine lv_iload hx hb dX0_readsWay_95 (lv_at hl 0 rfl) ?_
  refine lv_iconst (v := 4) hx hb dX0_readsWay_97 (by decide) ?_
  refine lv_icmp_ne (tgt := 132) hx hb dX0_readsWay_98 (by decide) (fun c => ?_) (fun c => ?_)
  · have h := h.2 c
    exact t0_readsWay_b132 C hQ s0 M _ _ _ h I (lv_sub hl [1, 0] rfl)
  · have h := h.1 c
    refine lv_aload_n hx hb dX0_readsWay_101 rfl (lv_at hl 1 rfl) ?_
    refine xg_wayFrom C I dX0_readsWay_102 ?_
    refine lv_iload_n hx hb dX0_readsWay_105 rfl (lv_at hl 2 rfl) ?_
    refine lv_iload_n hx hb dX0_readsWay_106 rfl (lv_at hl 3 rfl) ?_
    obtain ⟨hg1, h⟩ := h
    refine x_iast C I 6 10 rfl hg1 dX0_readsWay_107 (fun M2 H locs eM2 I => ?_)
    have h := h M2 eM2
    refine lv_aload_n hx hb dX0_readsWay_108 rfl (lv_at hl 1 rfl) ?_
    refine xg_wayTo C I dX0_readsWay_109 ?_
    refine lv_iload_n hx hb dX0_readsWay_112 rfl (lv_at hl 2 rfl) ?_
    refine lv_iload hx hb dX0_readsWay_113 (lv_at hl 4 rfl) ?_
    refine x_iast C I 7 10 rfl hg1 dX0_readsWay_115 (fun M3 H locs eM3 I => ?_)
    have h := h M3 eM3
    refine lv_aload_n hx hb dX0_readsWay_116 rfl (lv_at hl 1 rfl) ?_
    refine xg_wayLong C I dX0_readsWay_117 ?_
    refine lv_iload_n hx hb dX0_readsWay_120 rfl (lv_at hl 2 rfl) ?_
    refine lv_iload hx hb dX0_readsWay_121 (lv_at hl 5 rfl) ?_
    refine x_iast C I 8 10 rfl hg1 dX0_readsWay_123 (fun M4 H locs eM4 I => ?_)
    have h := h M4 eM4
    refine lv_aload_n hx hb dX0_readsWay_124 rfl (lv_at hl 1 rfl) ?_
    refine xg_waySlope C I dX0_readsWay_125 ?_
    refine lv_iload_n hx hb dX0_readsWay_128 rfl (lv_at hl 2 rfl) ?_
    refine lv_iload hx hb dX0_readsWay_129 (lv_at hl 6 rfl) ?_
    refine x_iast C I 9 10 rfl hg1 dX0_readsWay_131 (fun M5 H locs eM5 I => ?_)
    have h := h M5 eM5
    exact t0_readsWay_b132 C hQ s0 M5 _ _ _ h I (lv_sub hl [1, 0] rfl)
theorem t0_readsWay_b68 {p : Program} {l : Launch} {e : Env} {s : State} {m : MethodId} {args : Array Value} {below : List Frame} {meth : Method} {c : Code} {D : va_G} {T ad : Nat → Nat} {A : Nat → Prop} {H0 : Heap} {Qs : State → Prop} {Q : Int32 → Mem → Prop}  (C : XC D T RX0 p m c cX0_readsWay 8 s args) (hQ : xExi p l e rX0_readsWay s m args below meth c cX0_readsWay D T ad A H0 Qs Q)  (v1 : Int32) (v3 : Int32) (v4 : Int32) (v5 : Int32) (v6 : Int32) (M : Mem) (H : Heap) (locs : List Loc) (ls : Array Slot) (h : w0_readsWay_b68 Q v1 v3 v4 v5 v6 M) (I : XI D T ad A H0 M H locs) (hl : lv_has ls 8 [(0, .ref (ad 0)), (1, .int v1), (3, .int v3), (4, .int v4), (5, .int v5), (6, .int v6)]) : W p l e rX0_readsWay s m args below meth c H locs 0 0 Qs (F0 m 68 ls []) := by
  have hx := C.1.1
  have hb := C.1.2.1
  have how := C.1.2.2.2.1
  have hts := C.1.2.2.2.2
  unfold w0_readsWay_b68 at h
  refine lv_iconst (v := 1) hx hb dX0_readsWay_68 (by decide) ?_
  refine lv_goto (tgt := 93) hx hb dX0_readsWay_69 (by decide) ?_
  exact t0_readsWay_b93 C hQ v1 v3 v4 v5 v6 1 M _ _ _ h I (lv_sub hl [0, 1, 2, 3, 4, 5] rfl)
theorem t0_readsWay_b52 {p : Program} {l : Launch} {e : Env} {s : State} {m : MethodId} {args : Array Value} {below : List Frame} {meth : Method} {c : Code} {D : va_G} {T ad : Nat → Nat} {A : Nat → Prop} {H0 : Heap} {Qs : State → Prop} {Q : Int32 → Mem → Prop}  (C : XC D T RX0 p m c cX0_readsWay 8 s args) (hQ : xExi p l e rX0_readsWay s m args below meth c cX0_readsWay D T ad A H0 Qs Q)  (v1 : Int32) (v3 : Int32) (v4 : Int32) (v5 : Int32) (v6 : Int32) (M : Mem) (H : Heap) (locs : List Loc) (ls : Array Slot) (h : w0_readsWay_b52 Q v1 v3 v4 v5 v6 M) (I : XI D T ad A H0 M H locs) (hl : lv_has ls 8 [(0, .ref (ad 0)), (1, .int v1), (3, .int v3), (4, .int v4), (5, .int v5), (6, .int v6)]) : W p l e rX0_readsWay s m args below meth c H locs 0 0 Qs (F0 m 52 ls []) := by
  have hx := C.1.1
  have hb := C.1.2.1
  have how := C.1.2.2.2.1
  have hts := C.1.2.2.2.2
  unfold w0_readsWay_b52 at h
  refine lv_iconst (v := 0) hx hb dX0_readsWay_52 (by decide) ?_
  refine lv_goto (tgt := 93) hx hb dX0_readsWay_53 (by decide) ?_
  exact t0_readsWay_b93 C hQ v1 v3 v4 v5 v6 0 M _ _ _ h I (lv_sub hl [0, 1, 2, 3, 4, 5] rfl)
theorem t0_readsWay {p : Program} {l : Launch} {e : Env} {s : State} {m : MethodId} {args : Array Value} {below : List Frame} {meth : Method} {c : Code} {D : va_G} {T ad : Nat → Nat} {A : Nat → Prop} {H0 : Heap} {Qs : State → Prop} {Q : Int32 → Mem → Prop} (C : XC D T RX0 p m c cX0_readsWay 8 s args) (hQ : xExi p l e rX0_readsWay s m args below meth c cX0_readsWay D T ad A H0 Qs Q) (v1 : Int32) (v2 : Int32) (M : Mem) (H : Heap) (locs : List Loc) (ls : Array Slot) (h : w0_readsWay v1 v2 M Q) (I : XI D T ad A H0 M H locs) (hl : lv_has ls 8 [(0, .ref (ad 0)), (1, .int v1), (2, .int v2)]) : W p l e rX0_readsWay s m args below meth c H locs 0 0 Qs (F0 m 0 ls []) := by
  have hx := C.1.1
  have hb := C.1.2.1
  have how := C.1.2.2.2.1
  have hts := C.1.2.2.2.2
  unfold w0_readsWay at h
  refine lv_aload_n hx hb dX0_readsWay_0 rfl (lv_at hl 0 rfl) ?_
  refine lv_iconst (v := 0) hx hb dX0_readsWay_1 (by decide) ?_
  refine lv_iload_n hx hb dX0_readsWay_2 rfl (lv_at hl 2 rfl) ?_
  refine x_calli (As := [.int 0, .int v2]) (rest := []) C I (fun ra => met0_placeAt l D T ad ra 0 v2 M h) (cw0_32 hts ⟨Nat.le_of_ble_eq_true rfl, Nat.le_of_ble_eq_true rfl⟩) rfl hl.1 rfl (Nat.le_of_ble_eq_true rfl) ⟨Nat.zero_le _, Nat.zero_le _⟩ dX0_readsWay_3 (fun r6 M7 H locs h I => ?_)
  refine lv_istore_n (lv' := [(3, .int r6), (0, .ref (ad 0)), (1, .int v1), (2, .int v2)]) hx hb dX0_readsWay_6 rfl hl (by decide) rfl (fun ls hl => ?_)
  refine lv_aload_n hx hb dX0_readsWay_7 rfl (lv_at hl 1 rfl) ?_
  refine lv_iconst (v := 0) hx hb dX0_readsWay_8 (by decide) ?_
  refine lv_iload_n hx hb dX0_readsWay_9 rfl (lv_at hl 3 rfl) ?_
  refine lv_iconst (v := 1) hx hb dX0_readsWay_10 (by decide) ?_
  refine lv_iadd hx hb dX0_readsWay_11 ?_
  refine x_calli (As := [.int 0, .int (v2 + 1)]) (rest := []) C I (fun ra => met0_placeAt l D T ad ra 0 (v2 + 1) M7 h) (cw0_32 hts ⟨Nat.le_of_ble_eq_true rfl, Nat.le_of_ble_eq_true rfl⟩) rfl hl.1 rfl (Nat.le_of_ble_eq_true rfl) ⟨Nat.zero_le _, Nat.zero_le _⟩ dX0_readsWay_12 (fun r8 M9 H locs h I => ?_)
  refine lv_istore (lv' := [(4, .int r8), (3, .int r6), (0, .ref (ad 0)), (1, .int v1), (2, .int v2)]) hx hb dX0_readsWay_15 hl (by decide) rfl (fun ls hl => ?_)
  refine lv_aload_n hx hb dX0_readsWay_17 rfl (lv_at hl 2 rfl) ?_
  refine lv_iconst (v := 0) hx hb dX0_readsWay_18 (by decide) ?_
  refine lv_iload_n hx hb dX0_readsWay_19 rfl (lv_at hl 4 rfl) ?_
  refine lv_iconst (v := 2) hx hb dX0_readsWay_20 (by decide) ?_
  refine lv_iadd hx hb dX0_readsWay_21 ?_
  refine lv_iconst (v := 1) hx hb dX0_readsWay_22 (by decide) ?_
  refine x_calli (As := [.int 0, .int (v2 + 2), .int 1]) (rest := []) C I (fun ra => met0_figureAt l D T ad ra 0 (v2 + 2) 1 M9 h) (cw0_35 hts ⟨Nat.le_of_ble_eq_true rfl, Nat.le_of_ble_eq_true rfl⟩) rfl hl.1 rfl (Nat.le_of_ble_eq_true rfl) ⟨Nat.zero_le _, Nat.zero_le _⟩ dX0_readsWay_23 (fun r10 M11 H locs h I => ?_)
  refine lv_istore (lv' := [(5, .int r10), (4, .int r8), (3, .int r6), (0, .ref (ad 0)), (1, .int v1), (2, .int v2)]) hx hb dX0_readsWay_26 hl (by decide) rfl (fun ls hl => ?_)
  refine lv_aload_n hx hb dX0_readsWay_28 rfl (lv_at hl 3 rfl) ?_
  refine lv_iconst (v := 0) hx hb dX0_readsWay_29 (by decide) ?_
  refine lv_iload_n hx hb dX0_readsWay_30 rfl (lv_at hl 5 rfl) ?_
  refine lv_iconst (v := 3) hx hb dX0_readsWay_31 (by decide) ?_
  refine lv_iadd hx hb dX0_readsWay_32 ?_
  refine x_calli (As := [.int 0, .int (v2 + 3)]) (rest := []) C I (fun ra => met0_byteAt l D T ad ra 0 (v2 + 3) M11 h) (cw0_25 hts ⟨Nat.le_of_ble_eq_true rfl, Nat.le_of_ble_eq_true rfl⟩) rfl hl.1 rfl (Nat.le_of_ble_eq_true rfl) ⟨Nat.zero_le _, Nat.zero_le _⟩ dX0_readsWay_33 (fun r12 M13 H locs h I => ?_)
  refine x_purei (As := [.int r12]) (rest := []) C I (met0_slopeOf l r12 h) (cw0_39 hts ⟨Nat.le_of_ble_eq_true rfl, Nat.le_of_ble_eq_true rfl⟩) rfl hl.1 rfl (Nat.le_of_ble_eq_true rfl) ⟨Nat.zero_le _, Nat.zero_le _⟩ dX0_readsWay_36 (fun r14 H locs h I => ?_)
  refine lv_istore (lv' := [(6, .int r14), (5, .int r10), (4, .int r8), (3, .int r6), (0, .ref (ad 0)), (1, .int v1), (2, .int v2)]) hx hb dX0_readsWay_39 hl (by decide) rfl (fun ls hl => ?_)
  refine lv_iload_n hx hb dX0_readsWay_41 rfl (lv_at hl 5 rfl) ?_
  refine lv_bipush (v := 10) hx hb dX0_readsWay_42 (by decide) ?_
  refine lv_icmp_eq (tgt := 52) hx hb dX0_readsWay_44 (by decide) (fun c => ?_) (fun c => ?_)
  · have h := h.1 c
    exact t0_readsWay_b52 C hQ v1 r6 r8 r10 r14 M13 _ _ _ h I (lv_sub hl [4, 5, 3, 2, 1, 0] rfl)
  · have h := h.2 c
    refine lv_iload_n hx hb dX0_readsWay_47 rfl (lv_at hl 3 rfl) ?_
    refine lv_iconst (v := -1) hx hb dX0_readsWay_48 (by decide) ?_
    refine lv_icmp_ne (tgt := 56) hx hb dX0_readsWay_49 (by decide) (fun c => ?_) (fun c => ?_)
    · have h := h.2 c
      refine lv_iload hx hb dX0_readsWay_56 (lv_at hl 2 rfl) ?_
      refine lv_iconst (v := -1) hx hb dX0_readsWay_58 (by decide) ?_
      refine lv_icmp_eq (tgt := 68) hx hb dX0_readsWay_59 (by decide) (fun c => ?_) (fun c => ?_)
      · have h := h.1 c
        exact t0_readsWay_b68 C hQ v1 r6 r8 r10 r14 M13 _ _ _ h I (lv_sub hl [4, 5, 3, 2, 1, 0] rfl)
      · have h := h.2 c
        refine lv_iload hx hb dX0_readsWay_62 (lv_at hl 2 rfl) ?_
        refine lv_iload_n hx hb dX0_readsWay_64 rfl (lv_at hl 3 rfl) ?_
        refine lv_icmp_ne (tgt := 72) hx hb dX0_readsWay_65 (by decide) (fun c => ?_) (fun c => ?_)
        · have h := h.2 c
          refine lv_iload hx hb dX0_readsWay_72 (lv_at hl 1 rfl) ?_
          refine lv_iconst (v := -1) hx hb dX0_readsWay_74 (by decide) ?_
          refine lv_icmp_ne (tgt := 82) hx hb dX0_readsWay_75 (by decide) (fun c => ?_) (fun c => ?_)
          · have h := h.2 c
            refine lv_iload hx hb dX0_readsWay_82 (lv_at hl 0 rfl) ?_
            refine lv_iconst (v := -1) hx hb dX0_readsWay_84 (by decide) ?_
            refine lv_icmp_ne (tgt := 92) hx hb dX0_readsWay_85 (by decide) (fun c => ?_) (fun c => ?_)
            · have h := h.2 c
              refine lv_iconst (v := 4) hx hb dX0_readsWay_92 (by decide) ?_
              exact t0_readsWay_b93 C hQ v1 r6 r8 r10 r14 4 M13 _ _ _ h I (lv_sub hl [4, 5, 3, 2, 1, 0] rfl)
            · have h := h.1 c
              refine lv_iconst (v := 3) hx hb dX0_readsWay_88 (by decide) ?_
              refine lv_goto (tgt := 93) hx hb dX0_readsWay_89 (by decide) ?_
              exact t0_readsWay_b93 C hQ v1 r6 r8 r10 r14 3 M13 _ _ _ h I (lv_sub hl [4, 5, 3, 2, 1, 0] rfl)
          · have h := h.1 c
            refine lv_iconst (v := 2) hx hb dX0_readsWay_78 (by decide) ?_
            refine lv_goto (tgt := 93) hx hb dX0_readsWay_79 (by decide) ?_
            exact t0_readsWay_b93 C hQ v1 r6 r8 r10 r14 2 M13 _ _ _ h I (lv_sub hl [4, 5, 3, 2, 1, 0] rfl)
        · have h := h.1 c
          exact t0_readsWay_b68 C hQ v1 r6 r8 r10 r14 M13 _ _ _ h I (lv_sub hl [4, 5, 3, 2, 1, 0] rfl)
    · have h := h.1 c
      exact t0_readsWay_b52 C hQ v1 r6 r8 r10 r14 M13 _ _ _ h I (lv_sub hl [4, 5, 3, 2, 1, 0] rfl)
theorem met0_readsWay (l : Launch) (D : va_G) (T ad ra : Nat → Nat) (v1 : Int32) (v2 : Int32) (M : Mem) {Qp : Int32 → Mem → Prop} (h : w0_readsWay v1 v2 M Qp) (sz : Nat) : Met l yX0_readsWay (ws_ yX0_readsWay cX0_readsWay 8 (some .int)) rX0_readsWay (xPc D T ad ra 0 [.int v1, .int v2] M sz) (xQi D T ad ra M Qp sz) 0 0 (fA (cX T ad ra M) sz) :=
  x_metI (own := RX0) (As := [.int v1, .int v2]) rfl rfl (Nat.le_of_ble_eq_true rfl) (fun p e s m args below meth c A Qs ls C hQ I hl => t0_readsWay C hQ v1 v2 M _ _ ls h I hl) sz
/-! kindOf -/
abbrev rX0_kindOf : Room := { frames := 0, cells := 0, slots := 0, locals := 0 }
theorem t0_kindOf_b31 {p : Program} {l : Launch} {e : Env} {s : State} {m : MethodId} {args : Array Value} {below : List Frame} {meth : Method} {c : Code} {A : Nat → Prop} {H0 : Heap} {Qs : State → Prop} {Q : Int32 → Prop}  (S : CallFix p m c cX0_kindOf 1 s args lw_all RX0) (hA : ∀ q, H0.size ≤ q → A q) (hQ : pExi p l e rX0_kindOf s m args below meth c cX0_kindOf A H0 Qs Q)  (s0 : Int32) (H : Heap) (locs : List Loc) (ls : Array Slot) (h : w0_kindOf_b31 Q s0) (hS : va_S A H0 H locs) (hl : lv_has ls 1 []) : W p l e rX0_kindOf s m args below meth c H locs 0 0 Qs (F0 m 31 ls [.int s0]) := by
  have hx := S.1
  have hb := S.2.1
  have how := S.2.2.2.1
  have hts := S.2.2.2.2
  unfold w0_kindOf_b31 at h
  exact hQ _ _ _ _ _ h hS dX0_kindOf_31
theorem t0_kindOf {p : Program} {l : Launch} {e : Env} {s : State} {m : MethodId} {args : Array Value} {below : List Frame} {meth : Method} {c : Code} {A : Nat → Prop} {H0 : Heap} {Qs : State → Prop} {Q : Int32 → Prop} (S : CallFix p m c cX0_kindOf 1 s args lw_all RX0) (hA : ∀ q, H0.size ≤ q → A q) (hQ : pExi p l e rX0_kindOf s m args below meth c cX0_kindOf A H0 Qs Q) (v0 : Int32) (H : Heap) (locs : List Loc) (ls : Array Slot) (h : w0_kindOf v0 Q) (hS : va_S A H0 H locs) (hl : lv_has ls 1 [(0, .int v0)]) : W p l e rX0_kindOf s m args below meth c H locs 0 0 Qs (F0 m 0 ls []) := by
  have hx := S.1
  have hb := S.2.1
  have how := S.2.2.2.1
  have hts := S.2.2.2.2
  unfold w0_kindOf at h
  refine lv_iload_n hx hb dX0_kindOf_0 rfl (lv_at hl 0 rfl) ?_
  refine lv_bipush (v := 111) hx hb dX0_kindOf_1 (by decide) ?_
  refine lv_icmp_ne (tgt := 10) hx hb dX0_kindOf_3 (by decide) (fun c => ?_) (fun c => ?_)
  · have h := h.2 c
    refine lv_iload_n hx hb dX0_kindOf_10 rfl (lv_at hl 0 rfl) ?_
    refine lv_bipush (v := 99) hx hb dX0_kindOf_11 (by decide) ?_
    refine lv_icmp_ne (tgt := 20) hx hb dX0_kindOf_13 (by decide) (fun c => ?_) (fun c => ?_)
    · have h := h.2 c
      refine lv_iload_n hx hb dX0_kindOf_20 rfl (lv_at hl 0 rfl) ?_
      refine lv_bipush (v := 114) hx hb dX0_kindOf_21 (by decide) ?_
      refine lv_icmp_ne (tgt := 30) hx hb dX0_kindOf_23 (by decide) (fun c => ?_) (fun c => ?_)
      · have h := h.2 c
        refine lv_iconst (v := -1) hx hb dX0_kindOf_30 (by decide) ?_
        exact t0_kindOf_b31 S hA hQ (-1) _ _ _ h hS (lv_sub hl [] rfl)
      · have h := h.1 c
        refine lv_iconst (v := 2) hx hb dX0_kindOf_26 (by decide) ?_
        refine lv_goto (tgt := 31) hx hb dX0_kindOf_27 (by decide) ?_
        exact t0_kindOf_b31 S hA hQ 2 _ _ _ h hS (lv_sub hl [] rfl)
    · have h := h.1 c
      refine lv_iconst (v := 1) hx hb dX0_kindOf_16 (by decide) ?_
      refine lv_goto (tgt := 31) hx hb dX0_kindOf_17 (by decide) ?_
      exact t0_kindOf_b31 S hA hQ 1 _ _ _ h hS (lv_sub hl [] rfl)
  · have h := h.1 c
    refine lv_iconst (v := 0) hx hb dX0_kindOf_6 (by decide) ?_
    refine lv_goto (tgt := 31) hx hb dX0_kindOf_7 (by decide) ?_
    exact t0_kindOf_b31 S hA hQ 0 _ _ _ h hS (lv_sub hl [] rfl)
theorem met0_kindOf (l : Launch) (v0 : Int32) {Qp : Int32 → Prop} (h : w0_kindOf v0 Qp) (sz : Nat) : Met l yX0_kindOf (ws_ yX0_kindOf cX0_kindOf 1 (some .int)) rX0_kindOf (pPc [.int v0] sz) (pQi Qp sz) 0 0 (pA sz) :=
  p_metI (As := [.int v0]) rfl (Nat.le_of_ble_eq_true rfl) (fun p e s m args below meth c Qs ls S hQ hl => t0_kindOf S (fun q h => h) hQ v0 _ _ ls h va_S.rf hl) sz
/-! isCarterByte -/
abbrev rX0_isCarterByte : Room := { frames := 3, cells := 0, slots := 0, locals := 65 }
theorem cw0_55 {R : Room} {s : State} {args : Array Value} (hts : ∀ w ∈ lw_all, w.before args s = true) (hR : rX0_kindOf.frames + 1 ≤ R.frames ∧ 8 + (1 + 11) + rX0_kindOf.locals ≤ R.locals) : CallB R s args RX0 55 yX0_kindOf cX0_kindOf 1 (some .int) (ws_ yX0_kindOf cX0_kindOf 1 (some .int)) rX0_kindOf 0 0 1 ∧ (Cond.static yX0_kindOf).before args s = true := va_cwS 1 hts (lw_S q172 q173 q89 q174) rfl rfl rfl (by decide +kernel) hR
theorem t0_isCarterByte_b71 {p : Program} {l : Launch} {e : Env} {s : State} {m : MethodId} {args : Array Value} {below : List Frame} {meth : Method} {c : Code} {D : va_G} {T ad : Nat → Nat} {A : Nat → Prop} {H0 : Heap} {Qs : State → Prop} {Q : Int32 → Mem → Prop}  (C : XC D T RX0 p m c cX0_isCarterByte 3 s args) (hQ : xExi p l e rX0_isCarterByte s m args below meth c cX0_isCarterByte D T ad A H0 Qs Q)  (s0 : Int32) (M : Mem) (H : Heap) (locs : List Loc) (ls : Array Slot) (h : w0_isCarterByte_b71 Q s0 M) (I : XI D T ad A H0 M H locs) (hl : lv_has ls 3 [(0, .ref (ad 0))]) : W p l e rX0_isCarterByte s m args below meth c H locs 0 0 Qs (F0 m 71 ls [.int s0]) := by
  have hx := C.1.1
  have hb := C.1.2.1
  have how := C.1.2.2.2.1
  have hts := C.1.2.2.2.2
  unfold w0_isCarterByte_b71 at h
  exact hQ _ _ _ _ _ _ h I dX0_isCarterByte_71
theorem t0_isCarterByte {p : Program} {l : Launch} {e : Env} {s : State} {m : MethodId} {args : Array Value} {below : List Frame} {meth : Method} {c : Code} {D : va_G} {T ad : Nat → Nat} {A : Nat → Prop} {H0 : Heap} {Qs : State → Prop} {Q : Int32 → Mem → Prop} (C : XC D T RX0 p m c cX0_isCarterByte 3 s args) (hQ : xExi p l e rX0_isCarterByte s m args below meth c cX0_isCarterByte D T ad A H0 Qs Q) (v1 : Int32) (v2 : Int32) (M : Mem) (H : Heap) (locs : List Loc) (ls : Array Slot) (h : w0_isCarterByte_z v1 v2 M Q) (I : XI D T ad A H0 M H locs) (hl : lv_has ls 3 [(0, .ref (ad 0)), (1, .int v1), (2, .int v2)]) : W p l e rX0_isCarterByte s m args below meth c H locs 0 0 Qs (F0 m 0 ls []) := by
  have hx := C.1.1
  have hb := C.1.2.1
  have how := C.1.2.2.2.1
  have hts := C.1.2.2.2.2
  unfold w0_isCarterByte_z at h
  refine lv_iload_n hx hb dX0_isCarterByte_0 rfl (lv_at hl 2 rfl) ?_
  refine lv_iconst (v := 2) hx hb dX0_isCarterByte_1 (by decide) ?_
  refine lv_icmp_ge (tgt := 25) hx hb dX0_isCarterByte_2 (by decide) (fun c => ?_) (fun c => ?_)
  · have h := h.1 c
    refine lv_iload_n hx hb dX0_isCarterByte_25 rfl (lv_at hl 2 rfl) ?_
    refine lv_iconst (v := 2) hx hb dX0_isCarterByte_26 (by decide) ?_
    refine lv_icmp_ne (tgt := 53) hx hb dX0_isCarterByte_27 (by decide) (fun c => ?_) (fun c => ?_)
    · have h := h.2 c
      refine lv_aload_n hx hb dX0_isCarterByte_53 rfl (lv_at hl 0 rfl) ?_
      refine lv_iconst (v := 1) hx hb dX0_isCarterByte_54 (by decide) ?_
      refine lv_iload_n hx hb dX0_isCarterByte_55 rfl (lv_at hl 1 rfl) ?_
      refine lv_iload_n hx hb dX0_isCarterByte_56 rfl (lv_at hl 2 rfl) ?_
      refine lv_iadd hx hb dX0_isCarterByte_57 ?_
      refine lv_iconst (v := 0) hx hb dX0_isCarterByte_58 (by decide) ?_
      refine x_calli (As := [.int 1, .int (v1 + v2), .int 0]) (rest := []) C I (fun ra => met0_figureAt l D T ad ra 1 (v1 + v2) 0 M h) (cw0_35 hts ⟨Nat.le_of_ble_eq_true rfl, Nat.le_of_ble_eq_true rfl⟩) rfl hl.1 rfl (Nat.le_of_ble_eq_true rfl) ⟨Nat.zero_le _, Nat.zero_le _⟩ dX0_isCarterByte_59 (fun r4 M5 H locs h I => ?_)
      refine lv_iconst (v := -1) hx hb dX0_isCarterByte_62 (by decide) ?_
      refine lv_icmp_eq (tgt := 70) hx hb dX0_isCarterByte_63 (by decide) (fun c => ?_) (fun c => ?_)
      · have h := h.1 c
        refine lv_iconst (v := 0) hx hb dX0_isCarterByte_70 (by decide) ?_
        exact t0_isCarterByte_b71 C hQ 0 M5 _ _ _ h I (lv_sub hl [0] rfl)
      · have h := h.2 c
        refine lv_iconst (v := 1) hx hb dX0_isCarterByte_66 (by decide) ?_
        refine lv_goto (tgt := 71) hx hb dX0_isCarterByte_67 (by decide) ?_
        exact t0_isCarterByte_b71 C hQ 1 M5 _ _ _ h I (lv_sub hl [0] rfl)
    · have h := h.1 c
      refine lv_aload_n hx hb dX0_isCarterByte_30 rfl (lv_at hl 0 rfl) ?_
      refine lv_iconst (v := 1) hx hb dX0_isCarterByte_31 (by decide) ?_
      refine lv_iload_n hx hb dX0_isCarterByte_32 rfl (lv_at hl 1 rfl) ?_
      refine lv_iload_n hx hb dX0_isCarterByte_33 rfl (lv_at hl 2 rfl) ?_
      refine lv_iadd hx hb dX0_isCarterByte_34 ?_
      refine x_calli (As := [.int 1, .int (v1 + v2)]) (rest := []) C I (fun ra => met0_byteAt l D T ad ra 1 (v1 + v2) M h) (cw0_25 hts ⟨Nat.le_of_ble_eq_true rfl, Nat.le_of_ble_eq_true rfl⟩) rfl hl.1 rfl (Nat.le_of_ble_eq_true rfl) ⟨Nat.zero_le _, Nat.zero_le _⟩ dX0_isCarterByte_35 (fun r1 M2 H locs h I => ?_)
      refine x_purei (As := [.int r1]) (rest := []) C I (met0_kindOf l r1 h) (cw0_55 hts ⟨Nat.le_of_ble_eq_true rfl, Nat.le_of_ble_eq_true rfl⟩) rfl hl.1 rfl (Nat.le_of_ble_eq_true rfl) ⟨Nat.zero_le _, Nat.zero_le _⟩ dX0_isCarterByte_38 (fun r3 H locs h I => ?_)
      refine lv_iconst (v := -1) hx hb dX0_isCarterByte_41 (by decide) ?_
      refine lv_icmp_eq (tgt := 49) hx hb dX0_isCarterByte_42 (by decide) (fun c => ?_) (fun c => ?_)
      · have h := h.1 c
        refine lv_iconst (v := 0) hx hb dX0_isCarterByte_49 (by decide) ?_
        refine lv_goto (tgt := 71) hx hb dX0_isCarterByte_50 (by decide) ?_
        exact t0_isCarterByte_b71 C hQ 0 M2 _ _ _ h I (lv_sub hl [0] rfl)
      · have h := h.2 c
        refine lv_iconst (v := 1) hx hb dX0_isCarterByte_45 (by decide) ?_
        refine lv_goto (tgt := 71) hx hb dX0_isCarterByte_46 (by decide) ?_
        exact t0_isCarterByte_b71 C hQ 1 M2 _ _ _ h I (lv_sub hl [0] rfl)
  · have h := h.2 c
    refine lv_aload_n hx hb dX0_isCarterByte_5 rfl (lv_at hl 0 rfl) ?_
    refine lv_iconst (v := 1) hx hb dX0_isCarterByte_6 (by decide) ?_
    refine lv_iload_n hx hb dX0_isCarterByte_7 rfl (lv_at hl 1 rfl) ?_
    refine lv_iload_n hx hb dX0_isCarterByte_8 rfl (lv_at hl 2 rfl) ?_
    refine lv_iadd hx hb dX0_isCarterByte_9 ?_
    refine x_calli (As := [.int 1, .int (v1 + v2)]) (rest := []) C I (fun ra => met0_placeAt l D T ad ra 1 (v1 + v2) M h) (cw0_32 hts ⟨Nat.le_of_ble_eq_true rfl, Nat.le_of_ble_eq_true rfl⟩) rfl hl.1 rfl (Nat.le_of_ble_eq_true rfl) ⟨Nat.zero_le _, Nat.zero_le _⟩ dX0_isCarterByte_10 (fun r6 M7 H locs h I => ?_)
    refine lv_iconst (v := -1) hx hb dX0_isCarterByte_13 (by decide) ?_
    refine lv_icmp_eq (tgt := 21) hx hb dX0_isCarterByte_14 (by decide) (fun c => ?_) (fun c => ?_)
    · have h := h.1 c
      refine lv_iconst (v := 0) hx hb dX0_isCarterByte_21 (by decide) ?_
      refine lv_goto (tgt := 71) hx hb dX0_isCarterByte_22 (by decide) ?_
      exact t0_isCarterByte_b71 C hQ 0 M7 _ _ _ h I (lv_sub hl [0] rfl)
    · have h := h.2 c
      refine lv_iconst (v := 1) hx hb dX0_isCarterByte_17 (by decide) ?_
      refine lv_goto (tgt := 71) hx hb dX0_isCarterByte_18 (by decide) ?_
      exact t0_isCarterByte_b71 C hQ 1 M7 _ _ _ h I (lv_sub hl [0] rfl)
theorem met0_isCarterByte (l : Launch) (D : va_G) (T ad ra : Nat → Nat) (v1 : Int32) (v2 : Int32) (M : Mem) {Qp : Int32 → Mem → Prop} (h : w0_isCarterByte v1 v2 M Qp) (sz : Nat) : Met l yX0_isCarterByte (ws_ yX0_isCarterByte cX0_isCarterByte 3 (some .boolean)) rX0_isCarterByte (xPc D T ad ra 0 [.int v1, .int v2] M sz) (xQi D T ad ra M Qp sz) 0 0 (fA (cX T ad ra M) sz) :=
  x_metZ (own := RX0) (As := [.int v1, .int v2]) rfl rfl (Nat.le_of_ble_eq_true rfl) (fun p e s m args below meth c A Qs ls C hQ I hl => t0_isCarterByte C hQ v1 v2 M _ _ ls h I hl) sz
/-! readsCarter -/
abbrev rX0_readsCarter : Room := { frames := 4, cells := 0, slots := 0, locals := 87 }
theorem cw0_58 {R : Room} {s : State} {args : Array Value} (hts : ∀ w ∈ lw_all, w.before args s = true) (hR : rX0_isCarterByte.frames + 1 ≤ R.frames ∧ 8 + (3 + 11) + rX0_isCarterByte.locals ≤ R.locals) : CallW R s args RX0 RX0 58 yX0_isCarterByte cX0_isCarterByte 3 (some .boolean) (ws_ yX0_isCarterByte cX0_isCarterByte 3 (some .boolean)) rX0_isCarterByte 0 0 2 := cwV 2 hts (lw_V q168 q170 qs8 q89 q171) rfl rfl rfl (by decide +kernel) hR
theorem t0_readsCarter_b129 {p : Program} {l : Launch} {e : Env} {s : State} {m : MethodId} {args : Array Value} {below : List Frame} {meth : Method} {c : Code} {D : va_G} {T ad : Nat → Nat} {A : Nat → Prop} {H0 : Heap} {Qs : State → Prop} {Q : Int32 → Mem → Prop}  (C : XC D T RX0 p m c cX0_readsCarter 5 s args) (hQ : xExi p l e rX0_readsCarter s m args below meth c cX0_readsCarter D T ad A H0 Qs Q)  (v3 : Int32) (M : Mem) (H : Heap) (locs : List Loc) (ls : Array Slot) (h : w0_readsCarter_b129 Q v3 M) (I : XI D T ad A H0 M H locs) (hl : lv_has ls 5 [(0, .ref (ad 0)), (3, .int v3)]) : W p l e rX0_readsCarter s m args below meth c H locs 0 0 Qs (F0 m 129 ls []) := by
  have hx := C.1.1
  have hb := C.1.2.1
  have how := C.1.2.2.2.1
  have hts := C.1.2.2.2.2
  unfold w0_readsCarter_b129 at h
  refine lv_iload_n hx hb dX0_readsCarter_129 rfl (lv_at hl 1 rfl) ?_
  exact hQ _ _ _ _ _ _ h I dX0_readsCarter_130
theorem t0_readsCarter_b29 {p : Program} {l : Launch} {e : Env} {s : State} {m : MethodId} {args : Array Value} {below : List Frame} {meth : Method} {c : Code} {D : va_G} {T ad : Nat → Nat} {A : Nat → Prop} {H0 : Heap} {Qs : State → Prop} {Q : Int32 → Mem → Prop}  (C : XC D T RX0 p m c cX0_readsCarter 5 s args) (hQ : xExi p l e rX0_readsCarter s m args below meth c cX0_readsCarter D T ad A H0 Qs Q)  (v1 : Int32) (v2 : Int32) (v3 : Int32) (M : Mem) (H : Heap) (locs : List Loc) (ls : Array Slot) (h : w0_readsCarter_b29 Q v1 v2 v3 M) (I : XI D T ad A H0 M H locs) (hl : lv_has ls 5 [(0, .ref (ad 0)), (1, .int v1), (2, .int v2), (3, .int v3)]) : W p l e rX0_readsCarter s m args below meth c H locs 0 0 Qs (F0 m 29 ls []) := by
  have hx := C.1.1
  have hb := C.1.2.1
  have how := C.1.2.2.2.1
  have hts := C.1.2.2.2.2
  unfold w0_readsCarter_b29 at h
  refine lv_iload_n hx hb dX0_readsCarter_29 rfl (lv_at hl 3 rfl) ?_
  refine lv_bipush (v := 6) hx hb dX0_readsCarter_30 (by decide) ?_
  refine lv_icmp_ne (tgt := 129) hx hb dX0_readsCarter_32 (by decide) (fun c => ?_) (fun c => ?_)
  · have h := h.2 c
    exact t0_readsCarter_b129 C hQ v3 M _ _ _ h I (lv_sub hl [0, 3] rfl)
  · have h := h.1 c
    refine lv_aload_n hx hb dX0_readsCarter_35 rfl (lv_at hl 0 rfl) ?_
    refine xg_all C I dX0_readsCarter_36 ?_
    refine lv_iload_n hx hb dX0_readsCarter_39 rfl (lv_at hl 1 rfl) ?_
    obtain ⟨hg1, h⟩ := h
    refine xa_all C I hg1 dX0_readsCarter_40 ?_
    refine lv_astore (lv' := [(4, .ref (ad (30 + ci v1))), (0, .ref (ad 0)), (1, .int v1), (2, .int v2), (3, .int v3)]) hx hb dX0_readsCarter_41 hl (by decide) rfl (fun ls hl => ?_)
    refine lv_aload hx hb dX0_readsCarter_43 (lv_at hl 0 rfl) ?_
    refine lv_aload_n hx hb dX0_readsCarter_45 rfl (lv_at hl 1 rfl) ?_
    refine lv_iconst (v := 1) hx hb dX0_readsCarter_46 (by decide) ?_
    refine lv_iload_n hx hb dX0_readsCarter_47 rfl (lv_at hl 3 rfl) ?_
    refine x_calli (As := [.int 1, .int v2]) (rest := [.ref (ad (30 + ci v1))]) C I (fun ra => met0_placeAt l D T ad ra 1 v2 M h) (cw0_32 hts ⟨Nat.le_of_ble_eq_true rfl, Nat.le_of_ble_eq_true rfl⟩) rfl hl.1 rfl (Nat.le_of_ble_eq_true rfl) ⟨Nat.zero_le _, Nat.zero_le _⟩ dX0_readsCarter_48 (fun r2 M3 H locs h I => ?_)
    refine xcp0_from C I (isCar_of hg1) dX0_readsCarter_51 (fun M4 H locs eM4 I => ?_)
    have h := h M4 eM4
    refine lv_aload hx hb dX0_readsCarter_54 (lv_at hl 0 rfl) ?_
    refine lv_aload_n hx hb dX0_readsCarter_56 rfl (lv_at hl 1 rfl) ?_
    refine lv_iconst (v := 1) hx hb dX0_readsCarter_57 (by decide) ?_
    refine lv_iload_n hx hb dX0_readsCarter_58 rfl (lv_at hl 3 rfl) ?_
    refine lv_iconst (v := 1) hx hb dX0_readsCarter_59 (by decide) ?_
    refine lv_iadd hx hb dX0_readsCarter_60 ?_
    refine x_calli (As := [.int 1, .int (v2 + 1)]) (rest := [.ref (ad (30 + ci v1))]) C I (fun ra => met0_placeAt l D T ad ra 1 (v2 + 1) M4 h) (cw0_32 hts ⟨Nat.le_of_ble_eq_true rfl, Nat.le_of_ble_eq_true rfl⟩) rfl hl.1 rfl (Nat.le_of_ble_eq_true rfl) ⟨Nat.zero_le _, Nat.zero_le _⟩ dX0_readsCarter_61 (fun r5 M6 H locs h I => ?_)
    refine xcp0_goal C I (isCar_of hg1) dX0_readsCarter_64 (fun M7 H locs eM7 I => ?_)
    have h := h M7 eM7
    refine lv_aload hx hb dX0_readsCarter_67 (lv_at hl 0 rfl) ?_
    refine lv_aload_n hx hb dX0_readsCarter_69 rfl (lv_at hl 1 rfl) ?_
    refine xg_kinds C I dX0_readsCarter_70 ?_
    refine lv_aload_n hx hb dX0_readsCarter_73 rfl (lv_at hl 1 rfl) ?_
    refine lv_iconst (v := 1) hx hb dX0_readsCarter_74 (by decide) ?_
    refine lv_iload_n hx hb dX0_readsCarter_75 rfl (lv_at hl 3 rfl) ?_
    refine lv_iconst (v := 2) hx hb dX0_readsCarter_76 (by decide) ?_
    refine lv_iadd hx hb dX0_readsCarter_77 ?_
    refine x_calli (As := [.int 1, .int (v2 + 2)]) (rest := [.ref (ad 11), .ref (ad (30 + ci v1))]) C I (fun ra => met0_byteAt l D T ad ra 1 (v2 + 2) M7 h) (cw0_25 hts ⟨Nat.le_of_ble_eq_true rfl, Nat.le_of_ble_eq_true rfl⟩) rfl hl.1 rfl (Nat.le_of_ble_eq_true rfl) ⟨Nat.zero_le _, Nat.zero_le _⟩ dX0_readsCarter_78 (fun r8 M9 H locs h I => ?_)
    refine x_purei (As := [.int r8]) (rest := [.ref (ad 11), .ref (ad (30 + ci v1))]) C I (met0_kindOf l r8 h) (cw0_55 hts ⟨Nat.le_of_ble_eq_true rfl, Nat.le_of_ble_eq_true rfl⟩) rfl hl.1 rfl (Nat.le_of_ble_eq_true rfl) ⟨Nat.zero_le _, Nat.zero_le _⟩ dX0_readsCarter_81 (fun r10 H locs h I => ?_)
    obtain ⟨hg11, h⟩ := h
    refine xa_kinds C I hg11 dX0_readsCarter_84 ?_
    refine xcp0_question C I (isCar_of hg1) hg11 dX0_readsCarter_85 (fun M12 H locs eM12 I => ?_)
    have h := h M12 eM12
    refine lv_aload hx hb dX0_readsCarter_88 (lv_at hl 0 rfl) ?_
    refine lv_bipush (v := 10) hx hb dX0_readsCarter_90 (by decide) ?_
    refine lv_aload_n hx hb dX0_readsCarter_92 rfl (lv_at hl 1 rfl) ?_
    refine lv_iconst (v := 1) hx hb dX0_readsCarter_93 (by decide) ?_
    refine lv_iload_n hx hb dX0_readsCarter_94 rfl (lv_at hl 3 rfl) ?_
    refine lv_iconst (v := 3) hx hb dX0_readsCarter_95 (by decide) ?_
    refine lv_iadd hx hb dX0_readsCarter_96 ?_
    refine lv_iconst (v := 0) hx hb dX0_readsCarter_97 (by decide) ?_
    refine x_calli (As := [.int 1, .int (v2 + 3), .int 0]) (rest := [.int 10, .ref (ad (30 + ci v1))]) C I (fun ra => met0_figureAt l D T ad ra 1 (v2 + 3) 0 M12 h) (cw0_35 hts ⟨Nat.le_of_ble_eq_true rfl, Nat.le_of_ble_eq_true rfl⟩) rfl hl.1 rfl (Nat.le_of_ble_eq_true rfl) ⟨Nat.zero_le _, Nat.zero_le _⟩ dX0_readsCarter_98 (fun r13 M14 H locs h I => ?_)
    refine lv_imul hx hb dX0_readsCarter_101 ?_
    refine lv_aload_n hx hb dX0_readsCarter_102 rfl (lv_at hl 1 rfl) ?_
    refine lv_iconst (v := 1) hx hb dX0_readsCarter_103 (by decide) ?_
    refine lv_iload_n hx hb dX0_readsCarter_104 rfl (lv_at hl 3 rfl) ?_
    refine lv_iconst (v := 4) hx hb dX0_readsCarter_105 (by decide) ?_
    refine lv_iadd hx hb dX0_readsCarter_106 ?_
    refine lv_iconst (v := 0) hx hb dX0_readsCarter_107 (by decide) ?_
    refine x_calli (As := [.int 1, .int (v2 + 4), .int 0]) (rest := [.int (10 * r13), .ref (ad (30 + ci v1))]) C I (fun ra => met0_figureAt l D T ad ra 1 (v2 + 4) 0 M14 h) (cw0_35 hts ⟨Nat.le_of_ble_eq_true rfl, Nat.le_of_ble_eq_true rfl⟩) rfl hl.1 rfl (Nat.le_of_ble_eq_true rfl) ⟨Nat.zero_le _, Nat.zero_le _⟩ dX0_readsCarter_108 (fun r15 M16 H locs h I => ?_)
    refine lv_iadd hx hb dX0_readsCarter_111 ?_
    refine xcp0_strength C I (isCar_of hg1) dX0_readsCarter_112 (fun M17 H locs eM17 I => ?_)
    have h := h M17 eM17
    refine lv_aload hx hb dX0_readsCarter_115 (lv_at hl 0 rfl) ?_
    refine lv_aload_n hx hb dX0_readsCarter_117 rfl (lv_at hl 1 rfl) ?_
    refine lv_iconst (v := 1) hx hb dX0_readsCarter_118 (by decide) ?_
    refine lv_iload_n hx hb dX0_readsCarter_119 rfl (lv_at hl 3 rfl) ?_
    refine lv_iconst (v := 5) hx hb dX0_readsCarter_120 (by decide) ?_
    refine lv_iadd hx hb dX0_readsCarter_121 ?_
    refine lv_iconst (v := 0) hx hb dX0_readsCarter_122 (by decide) ?_
    refine x_calli (As := [.int 1, .int (v2 + 5), .int 0]) (rest := [.ref (ad (30 + ci v1))]) C I (fun ra => met0_figureAt l D T ad ra 1 (v2 + 5) 0 M17 h) (cw0_35 hts ⟨Nat.le_of_ble_eq_true rfl, Nat.le_of_ble_eq_true rfl⟩) rfl hl.1 rfl (Nat.le_of_ble_eq_true rfl) ⟨Nat.zero_le _, Nat.zero_le _⟩ dX0_readsCarter_123 (fun r18 M19 H locs h I => ?_)
    refine xcp0_load C I (isCar_of hg1) dX0_readsCarter_126 (fun M20 H locs eM20 I => ?_)
    have h := h M20 eM20
    exact t0_readsCarter_b129 C hQ v3 M20 _ _ _ h I (lv_sub hl [1, 4] rfl)
theorem t0_readsCarter_b2_f {p : Program} {l : Launch} {e : Env} {s : State} {m : MethodId} {args : Array Value} {below : List Frame} {meth : Method} {c : Code} {D : va_G} {T ad : Nat → Nat} {A : Nat → Prop} {H0 : Heap} {Qs : State → Prop} {Q : Int32 → Mem → Prop} {K2 : Int32 → Int32 → Int32 → Mem → Prop} (C : XC D T RX0 p m c cX0_readsCarter 5 s args) (hQ : xExi p l e rX0_readsCarter s m args below meth c cX0_readsCarter D T ad A H0 Qs Q) (hK2 : ∀ (v1 : Int32) (v2 : Int32) (v3 : Int32) (M : Mem) (H : Heap) (locs : List Loc) (ls : Array Slot), K2 v1 v2 v3 M → XI D T ad A H0 M H locs → lv_has ls 5 [(0, .ref (ad 0)), (1, .int v1), (2, .int v2), (3, .int v3)] → W p l e rX0_readsCarter s m args below meth c H locs 0 0 Qs (F0 m 2 ls [])) (v1 : Int32) (v2 : Int32) (v3 : Int32) (M : Mem) (H : Heap) (locs : List Loc) (ls : Array Slot) (h : w0_readsCarter_b2_f Q K2 v1 v2 v3 M) (I : XI D T ad A H0 M H locs) (hl : lv_has ls 5 [(0, .ref (ad 0)), (1, .int v1), (2, .int v2), (3, .int v3)]) : W p l e rX0_readsCarter s m args below meth c H locs 0 0 Qs (F0 m 2 ls []) := by
  have hx := C.1.1
  have hb := C.1.2.1
  have how := C.1.2.2.2.1
  have hts := C.1.2.2.2.2
  unfold w0_readsCarter_b2_f at h
  refine lv_iload_n hx hb dX0_readsCarter_2 rfl (lv_at hl 1 rfl) ?_
  refine lv_bipush (v := 8) hx hb dX0_readsCarter_3 (by decide) ?_
  refine lv_icmp_ge (tgt := 29) hx hb dX0_readsCarter_5 (by decide) (fun c => ?_) (fun c => ?_)
  · have h := h.1 c
    exact t0_readsCarter_b29 C hQ v1 v2 v3 M _ _ _ h I (lv_sub hl [0, 1, 2, 3] rfl)
  · have h := h.2 c
    refine lv_iload_n hx hb dX0_readsCarter_8 rfl (lv_at hl 3 rfl) ?_
    refine lv_bipush (v := 6) hx hb dX0_readsCarter_9 (by decide) ?_
    refine lv_icmp_ge (tgt := 29) hx hb dX0_readsCarter_11 (by decide) (fun c => ?_) (fun c => ?_)
    · have h := h.1 c
      exact t0_readsCarter_b29 C hQ v1 v2 v3 M _ _ _ h I (lv_sub hl [0, 1, 2, 3] rfl)
    · have h := h.2 c
      refine lv_aload_n hx hb dX0_readsCarter_14 rfl (lv_at hl 0 rfl) ?_
      refine lv_iload_n hx hb dX0_readsCarter_15 rfl (lv_at hl 2 rfl) ?_
      refine lv_iload_n hx hb dX0_readsCarter_16 rfl (lv_at hl 3 rfl) ?_
      refine x_calli (As := [.int v2, .int v3]) (rest := []) C I (fun ra => met0_isCarterByte l D T ad ra v2 v3 M h) (cw0_58 hts ⟨Nat.le_of_ble_eq_true rfl, Nat.le_of_ble_eq_true rfl⟩) rfl hl.1 rfl (Nat.le_of_ble_eq_true rfl) ⟨Nat.zero_le _, Nat.zero_le _⟩ dX0_readsCarter_17 (fun r21 M22 H locs h I => ?_)
      refine lv_if_eq (tgt := 29) hx hb dX0_readsCarter_20 (by decide) (fun c => ?_) (fun c => ?_)
      · have h := h.1 c
        exact t0_readsCarter_b29 C hQ v1 v2 v3 M22 _ _ _ h I (lv_sub hl [0, 1, 2, 3] rfl)
      · have h := h.2 c
        refine lv_iinc (v := (v3 + 1)) (lv' := [(3, .int (v3 + 1)), (0, .ref (ad 0)), (1, .int v1), (2, .int v2)]) hx hb dX0_readsCarter_23 hl (k := 3) rfl (ii_1 _) (by decide) rfl (fun ls hl => ?_)
        refine lv_goto (tgt := 2) hx hb dX0_readsCarter_26 (by decide) ?_
        exact hK2 v1 v2 (v3 + 1) M22 _ _ _ h I (lv_sub hl [1, 2, 3, 0] rfl)
theorem t0_readsCarter_b2 {p : Program} {l : Launch} {e : Env} {s : State} {m : MethodId} {args : Array Value} {below : List Frame} {meth : Method} {c : Code} {D : va_G} {T ad : Nat → Nat} {A : Nat → Prop} {H0 : Heap} {Qs : State → Prop} {Q : Int32 → Mem → Prop}  (C : XC D T RX0 p m c cX0_readsCarter 5 s args) (hQ : xExi p l e rX0_readsCarter s m args below meth c cX0_readsCarter D T ad A H0 Qs Q)  : ∀ (n : Nat) (v1 : Int32) (v2 : Int32) (v3 : Int32) (M : Mem) (H : Heap) (locs : List Loc) (ls : Array Slot), w0_readsCarter_b2 Q n v1 v2 v3 M → XI D T ad A H0 M H locs → lv_has ls 5 [(0, .ref (ad 0)), (1, .int v1), (2, .int v2), (3, .int v3)] → W p l e rX0_readsCarter s m args below meth c H locs 0 0 Qs (F0 m 2 ls []) := by
  intro n
  induction n with
  | zero => intro v1 v2 v3 M H locs ls h; exact h.elim
  | succ n ih => intro v1 v2 v3 M H locs ls h I hl; exact t0_readsCarter_b2_f C hQ  ih v1 v2 v3 M H locs ls h I hl
theorem t0_readsCarter {p : Program} {l : Launch} {e : Env} {s : State} {m : MethodId} {args : Array Value} {below : List Frame} {meth : Method} {c : Code} {D : va_G} {T ad : Nat → Nat} {A : Nat → Prop} {H0 : Heap} {Qs : State → Prop} {Q : Int32 → Mem → Prop} (C : XC D T RX0 p m c cX0_readsCarter 5 s args) (hQ : xExi p l e rX0_readsCarter s m args below meth c cX0_readsCarter D T ad A H0 Qs Q) (v1 : Int32) (v2 : Int32) (M : Mem) (H : Heap) (locs : List Loc) (ls : Array Slot) (h : w0_readsCarter v1 v2 M Q) (I : XI D T ad A H0 M H locs) (hl : lv_has ls 5 [(0, .ref (ad 0)), (1, .int v1), (2, .int v2)]) : W p l e rX0_readsCarter s m args below meth c H locs 0 0 Qs (F0 m 0 ls []) := by
  have hx := C.1.1
  have hb := C.1.2.1
  have how := C.1.2.2.2.1
  have hts := C.1.2.2.2.2
  unfold w0_readsCarter at h
  refine lv_iconst (v := 0) hx hb dX0_readsCarter_0 (by decide) ?_
  refine lv_istore_n (lv' := [(3, .int 0), (0, .ref (ad 0)), (1, .int v1), (2, .int v2)]) hx hb dX0_readsCarter_1 rfl hl (by decide) rfl (fun ls hl => ?_)
  obtain ⟨n, h⟩ := h
  exact t0_readsCarter_b2 C hQ n v1 v2 0 M _ _ _ h I (lv_sub hl [1, 2, 3, 0] rfl)
theorem met0_readsCarter (l : Launch) (D : va_G) (T ad ra : Nat → Nat) (v1 : Int32) (v2 : Int32) (M : Mem) {Qp : Int32 → Mem → Prop} (h : w0_readsCarter v1 v2 M Qp) (sz : Nat) : Met l yX0_readsCarter (ws_ yX0_readsCarter cX0_readsCarter 5 (some .int)) rX0_readsCarter (xPc D T ad ra 0 [.int v1, .int v2] M sz) (xQi D T ad ra M Qp sz) 0 0 (fA (cX T ad ra M) sz) :=
  x_metI (own := RX0) (As := [.int v1, .int v2]) rfl rfl (Nat.le_of_ble_eq_true rfl) (fun p e s m args below meth c A Qs ls C hQ I hl => t0_readsCarter C hQ v1 v2 M _ _ ls h I hl) sz
/-! readsParts -/
abbrev rX0_readsParts : Room := { frames := 5, cells := 0, slots := 0, locals := 111 }
theorem cw0_89 {R : Room} {s : State} {args : Array Value} (hts : ∀ w ∈ lw_all, w.before args s = true) (hR : rX0_readsWay.frames + 1 ≤ R.frames ∧ 8 + (8 + 11) + rX0_readsWay.locals ≤ R.locals) : CallW R s args RX0 RX0 89 yX0_readsWay cX0_readsWay 8 (some .int) (ws_ yX0_readsWay cX0_readsWay 8 (some .int)) rX0_readsWay 0 0 2 := cwV 2 hts (lw_V q142 q144 qs3 q89 q145) rfl rfl rfl (by decide +kernel) hR
theorem cw0_92 {R : Room} {s : State} {args : Array Value} (hts : ∀ w ∈ lw_all, w.before args s = true) (hR : rX0_readsCarter.frames + 1 ≤ R.frames ∧ 8 + (5 + 11) + rX0_readsCarter.locals ≤ R.locals) : CallW R s args RX0 RX0 92 yX0_readsCarter cX0_readsCarter 5 (some .int) (ws_ yX0_readsCarter cX0_readsCarter 5 (some .int)) rX0_readsCarter 0 0 2 := cwV 2 hts (lw_V q164 q166 qs7 q89 q167) rfl rfl rfl (by decide +kernel) hR
theorem t0_readsParts_b169 {p : Program} {l : Launch} {e : Env} {s : State} {m : MethodId} {args : Array Value} {below : List Frame} {meth : Method} {c : Code} {D : va_G} {T ad : Nat → Nat} {A : Nat → Prop} {H0 : Heap} {Qs : State → Prop} {Q : Int32 → Mem → Prop}  (C : XC D T RX0 p m c cX0_readsParts 7 s args) (hQ : xExi p l e rX0_readsParts s m args below meth c cX0_readsParts D T ad A H0 Qs Q)  (s1 : Int32) (M : Mem) (H : Heap) (locs : List Loc) (ls : Array Slot) (h : w0_readsParts_b169 Q s1 M) (I : XI D T ad A H0 M H locs) (hl : lv_has ls 7 [(0, .ref (ad 0))]) : W p l e rX0_readsParts s m args below meth c H locs 0 0 Qs (F0 m 169 ls [.int s1, .ref (ad 0)]) := by
  have hx := C.1.1
  have hb := C.1.2.1
  have how := C.1.2.2.2.1
  have hts := C.1.2.2.2.2
  unfold w0_readsParts_b169 at h
  refine xp_carters C I dX0_readsParts_169 (fun M1 H locs eM1 I => ?_)
  have h := h M1 eM1
  refine lv_iconst (v := -1) hx hb dX0_readsParts_172 (by decide) ?_
  exact hQ _ _ _ _ _ _ h I dX0_readsParts_173
theorem t0_readsParts_b152 {p : Program} {l : Launch} {e : Env} {s : State} {m : MethodId} {args : Array Value} {below : List Frame} {meth : Method} {c : Code} {D : va_G} {T ad : Nat → Nat} {A : Nat → Prop} {H0 : Heap} {Qs : State → Prop} {Q : Int32 → Mem → Prop}  (C : XC D T RX0 p m c cX0_readsParts 7 s args) (hQ : xExi p l e rX0_readsParts s m args below meth c cX0_readsParts D T ad A H0 Qs Q)  (v1 : Int32) (v3 : Int32) (s1 : Int32) (M : Mem) (H : Heap) (locs : List Loc) (ls : Array Slot) (h : w0_readsParts_b152 Q v1 v3 s1 M) (I : XI D T ad A H0 M H locs) (hl : lv_has ls 7 [(0, .ref (ad 0)), (1, .int v1), (3, .int v3)]) : W p l e rX0_readsParts s m args below meth c H locs 0 0 Qs (F0 m 152 ls [.int s1, .ref (ad 0)]) := by
  have hx := C.1.1
  have hb := C.1.2.1
  have how := C.1.2.2.2.1
  have hts := C.1.2.2.2.2
  unfold w0_readsParts_b152 at h
  refine xp_ways C I dX0_readsParts_152 (fun M2 H locs eM2 I => ?_)
  have h := h M2 eM2
  refine lv_aload_n hx hb dX0_readsParts_155 rfl (lv_at hl 0 rfl) ?_
  refine lv_iload_n hx hb dX0_readsParts_156 rfl (lv_at hl 1 rfl) ?_
  refine lv_iconst (v := 1) hx hb dX0_readsParts_157 (by decide) ?_
  refine lv_icmp_ne (tgt := 165) hx hb dX0_readsParts_158 (by decide) (fun c => ?_) (fun c => ?_)
  · have h := h.2 c
    refine lv_aload_n hx hb dX0_readsParts_165 rfl (lv_at hl 0 rfl) ?_
    refine xg_carters C I dX0_readsParts_166 ?_
    exact t0_readsParts_b169 C hQ (M2 0 9) M2 _ _ _ h I (lv_sub hl [0] rfl)
  · have h := h.1 c
    refine lv_iload_n hx hb dX0_readsParts_161 rfl (lv_at hl 2 rfl) ?_
    refine lv_goto (tgt := 169) hx hb dX0_readsParts_162 (by decide) ?_
    exact t0_readsParts_b169 C hQ v3 M2 _ _ _ h I (lv_sub hl [0] rfl)
theorem t0_readsParts_b133 {p : Program} {l : Launch} {e : Env} {s : State} {m : MethodId} {args : Array Value} {below : List Frame} {meth : Method} {c : Code} {D : va_G} {T ad : Nat → Nat} {A : Nat → Prop} {H0 : Heap} {Qs : State → Prop} {Q : Int32 → Mem → Prop} {K32 : Int32 → Int32 → Int32 → Int32 → Int32 → Mem → Prop} (C : XC D T RX0 p m c cX0_readsParts 7 s args) (hQ : xExi p l e rX0_readsParts s m args below meth c cX0_readsParts D T ad A H0 Qs Q) (hK32 : ∀ (v1 : Int32) (v2 : Int32) (v3 : Int32) (v4 : Int32) (v5 : Int32) (M : Mem) (H : Heap) (locs : List Loc) (ls : Array Slot), K32 v1 v2 v3 v4 v5 M → XI D T ad A H0 M H locs → lv_has ls 7 [(0, .ref (ad 0)), (1, .int v1), (2, .int v2), (3, .int v3), (4, .int v4), (5, .int v5)] → W p l e rX0_readsParts s m args below meth c H locs 0 0 Qs (F0 m 32 ls [])) (v1 : Int32) (v2 : Int32) (v3 : Int32) (v5 : Int32) (s0 : Int32) (s1 : Int32) (M : Mem) (H : Heap) (locs : List Loc) (ls : Array Slot) (h : w0_readsParts_b133 Q K32 v1 v2 v3 v5 s0 s1 M) (I : XI D T ad A H0 M H locs) (hl : lv_has ls 7 [(0, .ref (ad 0)), (1, .int v1), (2, .int v2), (3, .int v3), (5, .int v5)]) : W p l e rX0_readsParts s m args below meth c H locs 0 0 Qs (F0 m 133 ls [.int s1, .int s0]) := by
  have hx := C.1.1
  have hb := C.1.2.1
  have how := C.1.2.2.2.1
  have hts := C.1.2.2.2.2
  unfold w0_readsParts_b133 at h
  refine lv_iadd hx hb dX0_readsParts_133 ?_
  refine lv_istore (lv' := [(4, .int (s0 + s1)), (0, .ref (ad 0)), (1, .int v1), (2, .int v2), (3, .int v3), (5, .int v5)]) hx hb dX0_readsParts_134 hl (by decide) rfl (fun ls hl => ?_)
  refine lv_goto (tgt := 32) hx hb dX0_readsParts_136 (by decide) ?_
  exact hK32 v1 v2 v3 (s0 + s1) v5 M _ _ _ h I (lv_sub hl [1, 2, 3, 4, 0, 5] rfl)
theorem t0_readsParts_b121 {p : Program} {l : Launch} {e : Env} {s : State} {m : MethodId} {args : Array Value} {below : List Frame} {meth : Method} {c : Code} {D : va_G} {T ad : Nat → Nat} {A : Nat → Prop} {H0 : Heap} {Qs : State → Prop} {Q : Int32 → Mem → Prop} {K32 : Int32 → Int32 → Int32 → Int32 → Int32 → Mem → Prop} (C : XC D T RX0 p m c cX0_readsParts 7 s args) (hQ : xExi p l e rX0_readsParts s m args below meth c cX0_readsParts D T ad A H0 Qs Q) (hK32 : ∀ (v1 : Int32) (v2 : Int32) (v3 : Int32) (v4 : Int32) (v5 : Int32) (M : Mem) (H : Heap) (locs : List Loc) (ls : Array Slot), K32 v1 v2 v3 v4 v5 M → XI D T ad A H0 M H locs → lv_has ls 7 [(0, .ref (ad 0)), (1, .int v1), (2, .int v2), (3, .int v3), (4, .int v4), (5, .int v5)] → W p l e rX0_readsParts s m args below meth c H locs 0 0 Qs (F0 m 32 ls [])) (v1 : Int32) (v2 : Int32) (v3 : Int32) (v4 : Int32) (v5 : Int32) (M : Mem) (H : Heap) (locs : List Loc) (ls : Array Slot) (h : w0_readsParts_b121 Q K32 v1 v2 v3 v4 v5 M) (I : XI D T ad A H0 M H locs) (hl : lv_has ls 7 [(0, .ref (ad 0)), (1, .int v1), (2, .int v2), (3, .int v3), (4, .int v4), (5, .int v5)]) : W p l e rX0_readsParts s m args below meth c H locs 0 0 Qs (F0 m 121 ls []) := by
  have hx := C.1.1
  have hb := C.1.2.1
  have how := C.1.2.2.2.1
  have hts := C.1.2.2.2.2
  unfold w0_readsParts_b121 at h
  refine lv_iload hx hb dX0_readsParts_121 (lv_at hl 4 rfl) ?_
  refine lv_iload hx hb dX0_readsParts_123 (lv_at hl 5 rfl) ?_
  refine lv_if_eq (tgt := 132) hx hb dX0_readsParts_125 (by decide) (fun c => ?_) (fun c => ?_)
  · have h := h.1 c
    refine lv_iconst (v := 0) hx hb dX0_readsParts_132 (by decide) ?_
    exact t0_readsParts_b133 C hQ hK32 v1 v2 v3 v5 v4 0 M _ _ _ h I (lv_sub hl [0, 1, 2, 3, 5] rfl)
  · have h := h.2 c
    refine lv_iconst (v := 1) hx hb dX0_readsParts_128 (by decide) ?_
    refine lv_goto (tgt := 133) hx hb dX0_readsParts_129 (by decide) ?_
    exact t0_readsParts_b133 C hQ hK32 v1 v2 v3 v5 v4 1 M _ _ _ h I (lv_sub hl [0, 1, 2, 3, 5] rfl)
theorem t0_readsParts_b97 {p : Program} {l : Launch} {e : Env} {s : State} {m : MethodId} {args : Array Value} {below : List Frame} {meth : Method} {c : Code} {D : va_G} {T ad : Nat → Nat} {A : Nat → Prop} {H0 : Heap} {Qs : State → Prop} {Q : Int32 → Mem → Prop} {K32 : Int32 → Int32 → Int32 → Int32 → Int32 → Mem → Prop} (C : XC D T RX0 p m c cX0_readsParts 7 s args) (hQ : xExi p l e rX0_readsParts s m args below meth c cX0_readsParts D T ad A H0 Qs Q) (hK32 : ∀ (v1 : Int32) (v2 : Int32) (v3 : Int32) (v4 : Int32) (v5 : Int32) (M : Mem) (H : Heap) (locs : List Loc) (ls : Array Slot), K32 v1 v2 v3 v4 v5 M → XI D T ad A H0 M H locs → lv_has ls 7 [(0, .ref (ad 0)), (1, .int v1), (2, .int v2), (3, .int v3), (4, .int v4), (5, .int v5)] → W p l e rX0_readsParts s m args below meth c H locs 0 0 Qs (F0 m 32 ls [])) (v1 : Int32) (v2 : Int32) (v3 : Int32) (v4 : Int32) (s0 : Int32) (M : Mem) (H : Heap) (locs : List Loc) (ls : Array Slot) (h : w0_readsParts_b97 Q K32 v1 v2 v3 v4 s0 M) (I : XI D T ad A H0 M H locs) (hl : lv_has ls 7 [(0, .ref (ad 0)), (1, .int v1), (2, .int v2), (3, .int v3), (4, .int v4)]) : W p l e rX0_readsParts s m args below meth c H locs 0 0 Qs (F0 m 97 ls [.int s0]) := by
  have hx := C.1.1
  have hb := C.1.2.1
  have how := C.1.2.2.2.1
  have hts := C.1.2.2.2.2
  unfold w0_readsParts_b97 at h
  refine lv_istore (lv' := [(5, .int s0), (0, .ref (ad 0)), (1, .int v1), (2, .int v2), (3, .int v3), (4, .int v4)]) hx hb dX0_readsParts_97 hl (by decide) rfl (fun ls hl => ?_)
  refine lv_iload hx hb dX0_readsParts_99 (lv_at hl 0 rfl) ?_
  refine lv_if_eq (tgt := 121) hx hb dX0_readsParts_101 (by decide) (fun c => ?_) (fun c => ?_)
  · have h := h.1 c
    exact t0_readsParts_b121 C hQ hK32 v1 v2 v3 v4 s0 M _ _ _ h I (lv_sub hl [1, 2, 3, 4, 5, 0] rfl)
  · have h := h.2 c
    refine lv_aload_n hx hb dX0_readsParts_104 rfl (lv_at hl 1 rfl) ?_
    refine xg_texts C I dX0_readsParts_105 ?_
    refine lv_iload_n hx hb dX0_readsParts_108 rfl (lv_at hl 2 rfl) ?_
    obtain ⟨hg3, h⟩ := h
    refine xa_texts C I hg3 dX0_readsParts_109 ?_
    refine lv_iload hx hb dX0_readsParts_110 (lv_at hl 5 rfl) ?_
    obtain ⟨hg4, h⟩ := h
    refine x_iald C I (2 + ci v1) (lenX (2 + ci v1)) rfl hg4 dX0_readsParts_112 ?_
    refine lv_bipush (v := 59) hx hb dX0_readsParts_113 (by decide) ?_
    refine lv_icmp_eq (tgt := 121) hx hb dX0_readsParts_115 (by decide) (fun c => ?_) (fun c => ?_)
    · have h := h.1 c
      exact t0_readsParts_b121 C hQ hK32 v1 v2 v3 v4 s0 M _ _ _ h I (lv_sub hl [1, 2, 3, 4, 5, 0] rfl)
    · have h := h.2 c
      refine lv_iload hx hb dX0_readsParts_118 (lv_at hl 5 rfl) ?_
      exact hQ _ _ _ _ _ _ h I dX0_readsParts_120
theorem t0_readsParts_b58 {p : Program} {l : Launch} {e : Env} {s : State} {m : MethodId} {args : Array Value} {below : List Frame} {meth : Method} {c : Code} {D : va_G} {T ad : Nat → Nat} {A : Nat → Prop} {H0 : Heap} {Qs : State → Prop} {Q : Int32 → Mem → Prop} {K32 : Int32 → Int32 → Int32 → Int32 → Int32 → Mem → Prop} (C : XC D T RX0 p m c cX0_readsParts 7 s args) (hQ : xExi p l e rX0_readsParts s m args below meth c cX0_readsParts D T ad A H0 Qs Q) (hK32 : ∀ (v1 : Int32) (v2 : Int32) (v3 : Int32) (v4 : Int32) (v5 : Int32) (M : Mem) (H : Heap) (locs : List Loc) (ls : Array Slot), K32 v1 v2 v3 v4 v5 M → XI D T ad A H0 M H locs → lv_has ls 7 [(0, .ref (ad 0)), (1, .int v1), (2, .int v2), (3, .int v3), (4, .int v4), (5, .int v5)] → W p l e rX0_readsParts s m args below meth c H locs 0 0 Qs (F0 m 32 ls [])) (v1 : Int32) (v2 : Int32) (v3 : Int32) (v4 : Int32) (s0 : Int32) (M : Mem) (H : Heap) (locs : List Loc) (ls : Array Slot) (h : w0_readsParts_b58 Q K32 v1 v2 v3 v4 s0 M) (I : XI D T ad A H0 M H locs) (hl : lv_has ls 7 [(0, .ref (ad 0)), (1, .int v1), (2, .int v2), (3, .int v3), (4, .int v4)]) : W p l e rX0_readsParts s m args below meth c H locs 0 0 Qs (F0 m 58 ls [.int s0]) := by
  have hx := C.1.1
  have hb := C.1.2.1
  have how := C.1.2.2.2.1
  have hts := C.1.2.2.2.2
  unfold w0_readsParts_b58 at h
  refine lv_istore (lv' := [(6, .int s0), (0, .ref (ad 0)), (1, .int v1), (2, .int v2), (3, .int v3), (4, .int v4)]) hx hb dX0_readsParts_58 hl (by decide) rfl (fun ls hl => ?_)
  refine lv_iload hx hb dX0_readsParts_60 (lv_at hl 0 rfl) ?_
  refine lv_iload_n hx hb dX0_readsParts_62 rfl (lv_at hl 3 rfl) ?_
  refine lv_icmp_ge (tgt := 72) hx hb dX0_readsParts_63 (by decide) (fun c => ?_) (fun c => ?_)
  · have h := h.1 c
    refine lv_iinc (v := (v3 + 1)) (lv' := [(3, .int (v3 + 1)), (6, .int s0), (0, .ref (ad 0)), (1, .int v1), (2, .int v2), (4, .int v4)]) hx hb dX0_readsParts_72 hl (k := 4) rfl (ii_1 _) (by decide) rfl (fun ls hl => ?_)
    refine lv_iload hx hb dX0_readsParts_75 (lv_at hl 5 rfl) ?_
    refine lv_iload_n hx hb dX0_readsParts_77 rfl (lv_at hl 4 rfl) ?_
    refine lv_iadd hx hb dX0_readsParts_78 ?_
    refine lv_istore (lv' := [(4, .int (v4 + v2)), (3, .int (v3 + 1)), (6, .int s0), (0, .ref (ad 0)), (1, .int v1), (2, .int v2)]) hx hb dX0_readsParts_79 hl (by decide) rfl (fun ls hl => ?_)
    refine lv_iload hx hb dX0_readsParts_81 (lv_at hl 0 rfl) ?_
    refine lv_aload_n hx hb dX0_readsParts_83 rfl (lv_at hl 3 rfl) ?_
    refine xg_typed C I dX0_readsParts_84 ?_
    refine lv_iload_n hx hb dX0_readsParts_87 rfl (lv_at hl 4 rfl) ?_
    obtain ⟨hg5, h⟩ := h
    refine x_iald C I 4 2 rfl hg5 dX0_readsParts_88 ?_
    refine lv_icmp_ge (tgt := 96) hx hb dX0_readsParts_89 (by decide) (fun c => ?_) (fun c => ?_)
    · have h := h.1 c
      refine lv_iconst (v := 0) hx hb dX0_readsParts_96 (by decide) ?_
      exact t0_readsParts_b97 C hQ hK32 v1 v2 (v3 + 1) (v4 + v2) 0 M _ _ _ h I (lv_sub hl [3, 4, 5, 1, 0] rfl)
    · have h := h.2 c
      refine lv_iconst (v := 1) hx hb dX0_readsParts_92 (by decide) ?_
      refine lv_goto (tgt := 97) hx hb dX0_readsParts_93 (by decide) ?_
      exact t0_readsParts_b97 C hQ hK32 v1 v2 (v3 + 1) (v4 + v2) 1 M _ _ _ h I (lv_sub hl [3, 4, 5, 1, 0] rfl)
  · have h := h.2 c
    refine lv_iload hx hb dX0_readsParts_66 (lv_at hl 5 rfl) ?_
    refine lv_iload hx hb dX0_readsParts_68 (lv_at hl 0 rfl) ?_
    refine lv_iadd hx hb dX0_readsParts_70 ?_
    exact hQ _ _ _ _ _ _ h I dX0_readsParts_71
theorem t0_readsParts_b32_f {p : Program} {l : Launch} {e : Env} {s : State} {m : MethodId} {args : Array Value} {below : List Frame} {meth : Method} {c : Code} {D : va_G} {T ad : Nat → Nat} {A : Nat → Prop} {H0 : Heap} {Qs : State → Prop} {Q : Int32 → Mem → Prop} {K32 : Int32 → Int32 → Int32 → Int32 → Int32 → Mem → Prop} (C : XC D T RX0 p m c cX0_readsParts 7 s args) (hQ : xExi p l e rX0_readsParts s m args below meth c cX0_readsParts D T ad A H0 Qs Q) (hK32 : ∀ (v1 : Int32) (v2 : Int32) (v3 : Int32) (v4 : Int32) (v5 : Int32) (M : Mem) (H : Heap) (locs : List Loc) (ls : Array Slot), K32 v1 v2 v3 v4 v5 M → XI D T ad A H0 M H locs → lv_has ls 7 [(0, .ref (ad 0)), (1, .int v1), (2, .int v2), (3, .int v3), (4, .int v4), (5, .int v5)] → W p l e rX0_readsParts s m args below meth c H locs 0 0 Qs (F0 m 32 ls [])) (v1 : Int32) (v2 : Int32) (v3 : Int32) (v4 : Int32) (v5 : Int32) (M : Mem) (H : Heap) (locs : List Loc) (ls : Array Slot) (h : w0_readsParts_b32_f Q K32 v1 v2 v3 v4 v5 M) (I : XI D T ad A H0 M H locs) (hl : lv_has ls 7 [(0, .ref (ad 0)), (1, .int v1), (2, .int v2), (3, .int v3), (4, .int v4), (5, .int v5)]) : W p l e rX0_readsParts s m args below meth c H locs 0 0 Qs (F0 m 32 ls []) := by
  have hx := C.1.1
  have hb := C.1.2.1
  have how := C.1.2.2.2.1
  have hts := C.1.2.2.2.2
  unfold w0_readsParts_b32_f at h
  refine lv_iload hx hb dX0_readsParts_32 (lv_at hl 5 rfl) ?_
  refine lv_if_eq (tgt := 139) hx hb dX0_readsParts_34 (by decide) (fun c => ?_) (fun c => ?_)
  · have h := h.1 c
    refine lv_aload_n hx hb dX0_readsParts_139 rfl (lv_at hl 0 rfl) ?_
    refine lv_iload_n hx hb dX0_readsParts_140 rfl (lv_at hl 1 rfl) ?_
    refine lv_if_ne (tgt := 148) hx hb dX0_readsParts_141 (by decide) (fun c => ?_) (fun c => ?_)
    · have h := h.2 c
      refine lv_aload_n hx hb dX0_readsParts_148 rfl (lv_at hl 0 rfl) ?_
      refine xg_ways C I dX0_readsParts_149 ?_
      exact t0_readsParts_b152 C hQ v1 v3 (M 0 4) M _ _ _ h I (lv_sub hl [0, 1, 3] rfl)
    · have h := h.1 c
      refine lv_iload_n hx hb dX0_readsParts_144 rfl (lv_at hl 3 rfl) ?_
      refine lv_goto (tgt := 152) hx hb dX0_readsParts_145 (by decide) ?_
      exact t0_readsParts_b152 C hQ v1 v3 v3 M _ _ _ h I (lv_sub hl [0, 1, 3] rfl)
  · have h := h.2 c
    refine lv_iload_n hx hb dX0_readsParts_37 rfl (lv_at hl 1 rfl) ?_
    refine lv_if_ne (tgt := 51) hx hb dX0_readsParts_38 (by decide) (fun c => ?_) (fun c => ?_)
    · have h := h.2 c
      refine lv_aload_n hx hb dX0_readsParts_51 rfl (lv_at hl 0 rfl) ?_
      refine lv_iload_n hx hb dX0_readsParts_52 rfl (lv_at hl 3 rfl) ?_
      refine lv_iload hx hb dX0_readsParts_53 (lv_at hl 4 rfl) ?_
      refine x_calli (As := [.int v3, .int v4]) (rest := []) C I (fun ra => met0_readsCarter l D T ad ra v3 v4 M h) (cw0_92 hts ⟨Nat.le_of_ble_eq_true rfl, Nat.le_of_ble_eq_true rfl⟩) rfl hl.1 rfl (Nat.le_of_ble_eq_true rfl) ⟨Nat.zero_le _, Nat.zero_le _⟩ dX0_readsParts_55 (fun r8 M9 H locs h I => ?_)
      exact t0_readsParts_b58 C hQ hK32 v1 v2 v3 v4 r8 M9 _ _ _ h I (lv_sub hl [0, 1, 2, 3, 4] rfl)
    · have h := h.1 c
      refine lv_aload_n hx hb dX0_readsParts_41 rfl (lv_at hl 0 rfl) ?_
      refine lv_iload_n hx hb dX0_readsParts_42 rfl (lv_at hl 3 rfl) ?_
      refine lv_iload hx hb dX0_readsParts_43 (lv_at hl 4 rfl) ?_
      refine x_calli (As := [.int v3, .int v4]) (rest := []) C I (fun ra => met0_readsWay l D T ad ra v3 v4 M h) (cw0_89 hts ⟨Nat.le_of_ble_eq_true rfl, Nat.le_of_ble_eq_true rfl⟩) rfl hl.1 rfl (Nat.le_of_ble_eq_true rfl) ⟨Nat.zero_le _, Nat.zero_le _⟩ dX0_readsParts_45 (fun r6 M7 H locs h I => ?_)
      refine lv_goto (tgt := 58) hx hb dX0_readsParts_48 (by decide) ?_
      exact t0_readsParts_b58 C hQ hK32 v1 v2 v3 v4 r6 M7 _ _ _ h I (lv_sub hl [0, 1, 2, 3, 4] rfl)
theorem t0_readsParts_b32 {p : Program} {l : Launch} {e : Env} {s : State} {m : MethodId} {args : Array Value} {below : List Frame} {meth : Method} {c : Code} {D : va_G} {T ad : Nat → Nat} {A : Nat → Prop} {H0 : Heap} {Qs : State → Prop} {Q : Int32 → Mem → Prop}  (C : XC D T RX0 p m c cX0_readsParts 7 s args) (hQ : xExi p l e rX0_readsParts s m args below meth c cX0_readsParts D T ad A H0 Qs Q)  : ∀ (n : Nat) (v1 : Int32) (v2 : Int32) (v3 : Int32) (v4 : Int32) (v5 : Int32) (M : Mem) (H : Heap) (locs : List Loc) (ls : Array Slot), w0_readsParts_b32 Q n v1 v2 v3 v4 v5 M → XI D T ad A H0 M H locs → lv_has ls 7 [(0, .ref (ad 0)), (1, .int v1), (2, .int v2), (3, .int v3), (4, .int v4), (5, .int v5)] → W p l e rX0_readsParts s m args below meth c H locs 0 0 Qs (F0 m 32 ls []) := by
  intro n
  induction n with
  | zero => intro v1 v2 v3 v4 v5 M H locs ls h; exact h.elim
  | succ n ih => intro v1 v2 v3 v4 v5 M H locs ls h I hl; exact t0_readsParts_b32_f C hQ  ih v1 v2 v3 v4 v5 M H locs ls h I hl
theorem t0_readsParts_b30 {p : Program} {l : Launch} {e : Env} {s : State} {m : MethodId} {args : Array Value} {below : List Frame} {meth : Method} {c : Code} {D : va_G} {T ad : Nat → Nat} {A : Nat → Prop} {H0 : Heap} {Qs : State → Prop} {Q : Int32 → Mem → Prop}  (C : XC D T RX0 p m c cX0_readsParts 7 s args) (hQ : xExi p l e rX0_readsParts s m args below meth c cX0_readsParts D T ad A H0 Qs Q)  (v1 : Int32) (v2 : Int32) (v3 : Int32) (v4 : Int32) (s0 : Int32) (M : Mem) (H : Heap) (locs : List Loc) (ls : Array Slot) (h : w0_readsParts_b30 Q v1 v2 v3 v4 s0 M) (I : XI D T ad A H0 M H locs) (hl : lv_has ls 7 [(0, .ref (ad 0)), (1, .int v1), (2, .int v2), (3, .int v3), (4, .int v4)]) : W p l e rX0_readsParts s m args below meth c H locs 0 0 Qs (F0 m 30 ls [.int s0]) := by
  have hx := C.1.1
  have hb := C.1.2.1
  have how := C.1.2.2.2.1
  have hts := C.1.2.2.2.2
  unfold w0_readsParts_b30 at h
  refine lv_istore (lv' := [(5, .int s0), (0, .ref (ad 0)), (1, .int v1), (2, .int v2), (3, .int v3), (4, .int v4)]) hx hb dX0_readsParts_30 hl (by decide) rfl (fun ls hl => ?_)
  obtain ⟨n, h⟩ := h
  exact t0_readsParts_b32 C hQ n v1 v2 v3 v4 s0 M _ _ _ h I (lv_sub hl [1, 2, 3, 4, 5, 0] rfl)
theorem t0_readsParts_b10 {p : Program} {l : Launch} {e : Env} {s : State} {m : MethodId} {args : Array Value} {below : List Frame} {meth : Method} {c : Code} {D : va_G} {T ad : Nat → Nat} {A : Nat → Prop} {H0 : Heap} {Qs : State → Prop} {Q : Int32 → Mem → Prop}  (C : XC D T RX0 p m c cX0_readsParts 7 s args) (hQ : xExi p l e rX0_readsParts s m args below meth c cX0_readsParts D T ad A H0 Qs Q)  (v1 : Int32) (s0 : Int32) (M : Mem) (H : Heap) (locs : List Loc) (ls : Array Slot) (h : w0_readsParts_b10 Q v1 s0 M) (I : XI D T ad A H0 M H locs) (hl : lv_has ls 7 [(0, .ref (ad 0)), (1, .int v1)]) : W p l e rX0_readsParts s m args below meth c H locs 0 0 Qs (F0 m 10 ls [.int s0]) := by
  have hx := C.1.1
  have hb := C.1.2.1
  have how := C.1.2.2.2.1
  have hts := C.1.2.2.2.2
  unfold w0_readsParts_b10 at h
  refine lv_istore_n (lv' := [(2, .int s0), (0, .ref (ad 0)), (1, .int v1)]) hx hb dX0_readsParts_10 rfl hl (by decide) rfl (fun ls hl => ?_)
  refine lv_iconst (v := 0) hx hb dX0_readsParts_11 (by decide) ?_
  refine lv_istore_n (lv' := [(3, .int 0), (2, .int s0), (0, .ref (ad 0)), (1, .int v1)]) hx hb dX0_readsParts_12 rfl hl (by decide) rfl (fun ls hl => ?_)
  refine lv_iconst (v := 0) hx hb dX0_readsParts_13 (by decide) ?_
  refine lv_istore (lv' := [(4, .int 0), (3, .int 0), (2, .int s0), (0, .ref (ad 0)), (1, .int v1)]) hx hb dX0_readsParts_14 hl (by decide) rfl (fun ls hl => ?_)
  refine lv_aload_n hx hb dX0_readsParts_16 rfl (lv_at hl 3 rfl) ?_
  refine xg_typed C I dX0_readsParts_17 ?_
  refine lv_iload_n hx hb dX0_readsParts_20 rfl (lv_at hl 4 rfl) ?_
  obtain ⟨hg10, h⟩ := h
  refine x_iald C I 4 2 rfl hg10 dX0_readsParts_21 ?_
  refine lv_if_le (tgt := 29) hx hb dX0_readsParts_22 (by decide) (fun c => ?_) (fun c => ?_)
  · have h := h.1 c
    refine lv_iconst (v := 0) hx hb dX0_readsParts_29 (by decide) ?_
    exact t0_readsParts_b30 C hQ v1 s0 0 0 0 M _ _ _ h I (lv_sub hl [3, 4, 2, 1, 0] rfl)
  · have h := h.2 c
    refine lv_iconst (v := 1) hx hb dX0_readsParts_25 (by decide) ?_
    refine lv_goto (tgt := 30) hx hb dX0_readsParts_26 (by decide) ?_
    exact t0_readsParts_b30 C hQ v1 s0 0 0 1 M _ _ _ h I (lv_sub hl [3, 4, 2, 1, 0] rfl)
theorem t0_readsParts {p : Program} {l : Launch} {e : Env} {s : State} {m : MethodId} {args : Array Value} {below : List Frame} {meth : Method} {c : Code} {D : va_G} {T ad : Nat → Nat} {A : Nat → Prop} {H0 : Heap} {Qs : State → Prop} {Q : Int32 → Mem → Prop} (C : XC D T RX0 p m c cX0_readsParts 7 s args) (hQ : xExi p l e rX0_readsParts s m args below meth c cX0_readsParts D T ad A H0 Qs Q) (v1 : Int32) (M : Mem) (H : Heap) (locs : List Loc) (ls : Array Slot) (h : w0_readsParts v1 M Q) (I : XI D T ad A H0 M H locs) (hl : lv_has ls 7 [(0, .ref (ad 0)), (1, .int v1)]) : W p l e rX0_readsParts s m args below meth c H locs 0 0 Qs (F0 m 0 ls []) := by
  have hx := C.1.1
  have hb := C.1.2.1
  have how := C.1.2.2.2.1
  have hts := C.1.2.2.2.2
  unfold w0_readsParts at h
  refine lv_iload_n hx hb dX0_readsParts_0 rfl (lv_at hl 1 rfl) ?_
  refine lv_if_ne (tgt := 8) hx hb dX0_readsParts_1 (by decide) (fun c => ?_) (fun c => ?_)
  · have h := h.2 c
    refine lv_bipush (v := 6) hx hb dX0_readsParts_8 (by decide) ?_
    exact t0_readsParts_b10 C hQ v1 6 M _ _ _ h I (lv_sub hl [0, 1] rfl)
  · have h := h.1 c
    refine lv_iconst (v := 4) hx hb dX0_readsParts_4 (by decide) ?_
    refine lv_goto (tgt := 10) hx hb dX0_readsParts_5 (by decide) ?_
    exact t0_readsParts_b10 C hQ v1 4 M _ _ _ h I (lv_sub hl [0, 1] rfl)
theorem met0_readsParts (l : Launch) (D : va_G) (T ad ra : Nat → Nat) (v1 : Int32) (M : Mem) {Qp : Int32 → Mem → Prop} (h : w0_readsParts v1 M Qp) (sz : Nat) : Met l yX0_readsParts (ws_ yX0_readsParts cX0_readsParts 7 (some .int)) rX0_readsParts (xPc D T ad ra 0 [.int v1] M sz) (xQi D T ad ra M Qp sz) 0 0 (fA (cX T ad ra M) sz) :=
  x_metI (own := RX0) (As := [.int v1]) rfl rfl (Nat.le_of_ble_eq_true rfl) (fun p e s m args below meth c A Qs ls C hQ I hl => t0_readsParts C hQ v1 M _ _ ls h I hl) sz
/-! reads -/
abbrev rX0_reads : Room := { frames := 6, cells := 0, slots := 0, locals := 137 }
theorem cw0_104 {R : Room} {s : State} {args : Array Value} (hts : ∀ w ∈ lw_all, w.before args s = true) (hR : rX0_readsParts.frames + 1 ≤ R.frames ∧ 8 + (7 + 11) + rX0_readsParts.locals ≤ R.locals) : CallW R s args RX0 RX0 104 yX0_readsParts cX0_readsParts 7 (some .int) (ws_ yX0_readsParts cX0_readsParts 7 (some .int)) rX0_readsParts 0 0 1 := cwV 1 hts (lw_V q138 q140 qs2 q89 q141) rfl rfl rfl (by decide +kernel) hR
theorem t0_reads_b44 {p : Program} {l : Launch} {e : Env} {s : State} {m : MethodId} {args : Array Value} {below : List Frame} {meth : Method} {c : Code} {D : va_G} {T ad : Nat → Nat} {A : Nat → Prop} {H0 : Heap} {Qs : State → Prop} {Q : Mem → Prop}  (C : XC D T RX0 p m c cX0_reads 1 s args) (hQ : xExv p l e rX0_reads s m args below meth c cX0_reads D T ad A H0 Qs Q)   (M : Mem) (H : Heap) (locs : List Loc) (ls : Array Slot) (h : w0_reads_b44 Q M) (I : XI D T ad A H0 M H locs) (hl : lv_has ls 1 [(0, .ref (ad 0))]) : W p l e rX0_reads s m args below meth c H locs 0 0 Qs (F0 m 44 ls []) := by
  have hx := C.1.1
  have hb := C.1.2.1
  have how := C.1.2.2.2.1
  have hts := C.1.2.2.2.2
  unfold w0_reads_b44 at h
  exact hQ _ _ _ _ _ h I dX0_reads_44
theorem t0_reads {p : Program} {l : Launch} {e : Env} {s : State} {m : MethodId} {args : Array Value} {below : List Frame} {meth : Method} {c : Code} {D : va_G} {T ad : Nat → Nat} {A : Nat → Prop} {H0 : Heap} {Qs : State → Prop} {Q : Mem → Prop} (C : XC D T RX0 p m c cX0_reads 1 s args) (hQ : xExv p l e rX0_reads s m args below meth c cX0_reads D T ad A H0 Qs Q)  (M : Mem) (H : Heap) (locs : List Loc) (ls : Array Slot) (h : w0_reads M Q) (I : XI D T ad A H0 M H locs) (hl : lv_has ls 1 [(0, .ref (ad 0))]) : W p l e rX0_reads s m args below meth c H locs 0 0 Qs (F0 m 0 ls []) := by
  have hx := C.1.1
  have hb := C.1.2.1
  have how := C.1.2.2.2.1
  have hts := C.1.2.2.2.2
  unfold w0_reads at h
  refine lv_aload_n hx hb dX0_reads_0 rfl (lv_at hl 0 rfl) ?_
  refine xg_isRead C I dX0_reads_1 ?_
  refine lv_if_ne (tgt := 44) hx hb dX0_reads_4 (by decide) (fun c => ?_) (fun c => ?_)
  · have h := h.2 c
    exact t0_reads_b44 C hQ M _ _ _ h I (lv_sub hl [0] rfl)
  · have h := h.1 c
    refine lv_aload_n hx hb dX0_reads_7 rfl (lv_at hl 0 rfl) ?_
    refine lv_iconst (v := 1) hx hb dX0_reads_8 (by decide) ?_
    obtain ⟨hg1, h⟩ := h
    refine xp_isRead C I hg1 dX0_reads_9 (fun M2 H locs eM2 I => ?_)
    have h := h M2 eM2
    refine lv_aload_n hx hb dX0_reads_12 rfl (lv_at hl 0 rfl) ?_
    refine lv_iconst (v := 0) hx hb dX0_reads_13 (by decide) ?_
    refine xp_ways C I dX0_reads_14 (fun M3 H locs eM3 I => ?_)
    have h := h M3 eM3
    refine lv_aload_n hx hb dX0_reads_17 rfl (lv_at hl 0 rfl) ?_
    refine lv_iconst (v := 0) hx hb dX0_reads_18 (by decide) ?_
    refine xp_carters C I dX0_reads_19 (fun M4 H locs eM4 I => ?_)
    have h := h M4 eM4
    refine lv_aload_n hx hb dX0_reads_22 rfl (lv_at hl 0 rfl) ?_
    refine xg_faults C I dX0_reads_23 ?_
    refine lv_iconst (v := 0) hx hb dX0_reads_26 (by decide) ?_
    refine lv_aload_n hx hb dX0_reads_27 rfl (lv_at hl 0 rfl) ?_
    refine lv_iconst (v := 0) hx hb dX0_reads_28 (by decide) ?_
    refine x_calli (As := [.int 0]) (rest := [.int 0, .ref (ad 5)]) C I (fun ra => met0_readsParts l D T ad ra 0 M4 h) (cw0_104 hts ⟨Nat.le_of_ble_eq_true rfl, Nat.le_of_ble_eq_true rfl⟩) rfl hl.1 rfl (Nat.le_of_ble_eq_true rfl) ⟨Nat.zero_le _, Nat.zero_le _⟩ dX0_reads_29 (fun r5 M6 H locs h I => ?_)
    obtain ⟨hg7, h⟩ := h
    refine x_iast C I 5 2 rfl hg7 dX0_reads_32 (fun M8 H locs eM8 I => ?_)
    have h := h M8 eM8
    refine lv_aload_n hx hb dX0_reads_33 rfl (lv_at hl 0 rfl) ?_
    refine xg_faults C I dX0_reads_34 ?_
    refine lv_iconst (v := 1) hx hb dX0_reads_37 (by decide) ?_
    refine lv_aload_n hx hb dX0_reads_38 rfl (lv_at hl 0 rfl) ?_
    refine lv_iconst (v := 1) hx hb dX0_reads_39 (by decide) ?_
    refine x_calli (As := [.int 1]) (rest := [.int 1, .ref (ad 5)]) C I (fun ra => met0_readsParts l D T ad ra 1 M8 h) (cw0_104 hts ⟨Nat.le_of_ble_eq_true rfl, Nat.le_of_ble_eq_true rfl⟩) rfl hl.1 rfl (Nat.le_of_ble_eq_true rfl) ⟨Nat.zero_le _, Nat.zero_le _⟩ dX0_reads_40 (fun r9 M10 H locs h I => ?_)
    obtain ⟨hg11, h⟩ := h
    refine x_iast C I 5 2 rfl hg11 dX0_reads_43 (fun M12 H locs eM12 I => ?_)
    have h := h M12 eM12
    exact t0_reads_b44 C hQ M12 _ _ _ h I (lv_sub hl [0] rfl)
theorem met0_reads (l : Launch) (D : va_G) (T ad ra : Nat → Nat)  (M : Mem) {Qp : Mem → Prop} (h : w0_reads M Qp) (sz : Nat) : Met l yX0_reads (ws_ yX0_reads cX0_reads 1 none) rX0_reads (xPc D T ad ra 0 [] M sz) (xQv D T ad ra M Qp sz) 0 0 (fA (cX T ad ra M) sz) :=
  x_metV (own := RX0) (As := []) rfl rfl (Nat.le_of_ble_eq_true rfl) (fun p e s m args below meth c A Qs ls C hQ I hl => t0_reads C hQ M _ _ ls h I hl) sz
/-! faultOf -/
abbrev rX0_faultOf : Room := { frames := 7, cells := 0, slots := 0, locals := 157 }
theorem cw0_107 {R : Room} {s : State} {args : Array Value} (hts : ∀ w ∈ lw_all, w.before args s = true) (hR : rX0_reads.frames + 1 ≤ R.frames ∧ 8 + (1 + 11) + rX0_reads.locals ≤ R.locals) : CallW R s args RX0 RX0 107 yX0_reads cX0_reads 1 none (ws_ yX0_reads cX0_reads 1 none) rX0_reads 0 0 0 := cwV 0 hts (lw_V q134 q136 qs1 q89 q137) rfl rfl rfl (by decide +kernel) hR
theorem t0_faultOf {p : Program} {l : Launch} {e : Env} {s : State} {m : MethodId} {args : Array Value} {below : List Frame} {meth : Method} {c : Code} {D : va_G} {T ad : Nat → Nat} {A : Nat → Prop} {H0 : Heap} {Qs : State → Prop} {Q : Int32 → Mem → Prop} (C : XC D T RX0 p m c cX0_faultOf 2 s args) (hQ : xExi p l e rX0_faultOf s m args below meth c cX0_faultOf D T ad A H0 Qs Q) (v1 : Int32) (M : Mem) (H : Heap) (locs : List Loc) (ls : Array Slot) (h : w0_faultOf v1 M Q) (I : XI D T ad A H0 M H locs) (hl : lv_has ls 2 [(0, .ref (ad 0)), (1, .int v1)]) : W p l e rX0_faultOf s m args below meth c H locs 0 0 Qs (F0 m 0 ls []) := by
  have hx := C.1.1
  have hb := C.1.2.1
  have how := C.1.2.2.2.1
  have hts := C.1.2.2.2.2
  unfold w0_faultOf at h
  refine lv_aload_n hx hb dX0_faultOf_0 rfl (lv_at hl 0 rfl) ?_
  refine x_callv (As := []) (rest := []) C I (fun ra => met0_reads l D T ad ra M h) (cw0_107 hts ⟨Nat.le_of_ble_eq_true rfl, Nat.le_of_ble_eq_true rfl⟩) rfl hl.1 rfl (Nat.le_of_ble_eq_true rfl) ⟨Nat.zero_le _, Nat.zero_le _⟩ dX0_faultOf_1 (fun M1 H locs h I => ?_)
  refine lv_aload_n hx hb dX0_faultOf_4 rfl (lv_at hl 0 rfl) ?_
  refine xg_faults C I dX0_faultOf_5 ?_
  refine lv_iload_n hx hb dX0_faultOf_8 rfl (lv_at hl 1 rfl) ?_
  obtain ⟨hg2, h⟩ := h
  refine x_iald C I 5 2 rfl hg2 dX0_faultOf_9 ?_
  exact hQ _ _ _ _ _ _ h I dX0_faultOf_10
theorem met0_faultOf (l : Launch) (D : va_G) (T ad ra : Nat → Nat) (v1 : Int32) (M : Mem) {Qp : Int32 → Mem → Prop} (h : w0_faultOf v1 M Qp) (sz : Nat) : Met l yX0_faultOf (ws_ yX0_faultOf cX0_faultOf 2 (some .int)) rX0_faultOf (xPc D T ad ra 0 [.int v1] M sz) (xQi D T ad ra M Qp sz) 0 0 (fA (cX T ad ra M) sz) :=
  x_metI (own := RX0) (As := [.int v1]) rfl rfl (Nat.le_of_ble_eq_true rfl) (fun p e s m args below meth c A Qs ls C hQ I hl => t0_faultOf C hQ v1 M _ _ ls h I hl) sz
/-! fault -/
abbrev rX0_fault : Room := { frames := 8, cells := 0, slots := 0, locals := 178 }
theorem cw0_111 {R : Room} {s : State} {args : Array Value} (hts : ∀ w ∈ lw_all, w.before args s = true) (hR : rX0_faultOf.frames + 1 ≤ R.frames ∧ 8 + (2 + 11) + rX0_faultOf.locals ≤ R.locals) : CallW R s args RX0 RX0 111 yX0_faultOf cX0_faultOf 2 (some .int) (ws_ yX0_faultOf cX0_faultOf 2 (some .int)) rX0_faultOf 0 0 1 := cwV 1 hts (lw_V q129 q131 qs0 q89 q133) rfl rfl rfl (by decide +kernel) hR
theorem t0_fault_b17 {p : Program} {l : Launch} {e : Env} {s : State} {m : MethodId} {args : Array Value} {below : List Frame} {meth : Method} {c : Code} {D : va_G} {T ad : Nat → Nat} {A : Nat → Prop} {H0 : Heap} {Qs : State → Prop} {Q : Int32 → Mem → Prop}  (C : XC D T RX0 p m c cX0_fault 2 s args) (hQ : xExi p l e rX0_fault s m args below meth c cX0_fault D T ad A H0 Qs Q)  (s0 : Int32) (M : Mem) (H : Heap) (locs : List Loc) (ls : Array Slot) (h : w0_fault_b17 Q s0 M) (I : XI D T ad A H0 M H locs) (hl : lv_has ls 2 [(0, .ref (ad 0))]) : W p l e rX0_fault s m args below meth c H locs 0 0 Qs (F0 m 17 ls [.int s0]) := by
  have hx := C.1.1
  have hb := C.1.2.1
  have how := C.1.2.2.2.1
  have hts := C.1.2.2.2.2
  unfold w0_fault_b17 at h
  exact hQ _ _ _ _ _ _ h I dX0_fault_17
theorem t0_fault {p : Program} {l : Launch} {e : Env} {s : State} {m : MethodId} {args : Array Value} {below : List Frame} {meth : Method} {c : Code} {D : va_G} {T ad : Nat → Nat} {A : Nat → Prop} {H0 : Heap} {Qs : State → Prop} {Q : Int32 → Mem → Prop} (C : XC D T RX0 p m c cX0_fault 2 s args) (hQ : xExi p l e rX0_fault s m args below meth c cX0_fault D T ad A H0 Qs Q) (v1 : Int32) (M : Mem) (H : Heap) (locs : List Loc) (ls : Array Slot) (h : w0_fault v1 M Q) (I : XI D T ad A H0 M H locs) (hl : lv_has ls 2 [(0, .ref (ad 0)), (1, .int v1)]) : W p l e rX0_fault s m args below meth c H locs 0 0 Qs (F0 m 0 ls []) := by
  have hx := C.1.1
  have hb := C.1.2.1
  have how := C.1.2.2.2.1
  have hts := C.1.2.2.2.2
  unfold w0_fault at h
  refine lv_iload_n hx hb dX0_fault_0 rfl (lv_at hl 1 rfl) ?_
  refine x_purei (As := [.int v1]) (rest := []) C I (met0_isText l v1 h) (cw0_9 hts ⟨Nat.le_of_ble_eq_true rfl, Nat.le_of_ble_eq_true rfl⟩) rfl hl.1 rfl (Nat.le_of_ble_eq_true rfl) ⟨Nat.zero_le _, Nat.zero_le _⟩ dX0_fault_1 (fun r1 H locs h I => ?_)
  refine lv_if_eq (tgt := 15) hx hb dX0_fault_4 (by decide) (fun c => ?_) (fun c => ?_)
  · have h := h.1 c
    refine lv_bipush (v := -2) hx hb dX0_fault_15 (by decide) ?_
    exact t0_fault_b17 C hQ (-2) M _ _ _ h I (lv_sub hl [0] rfl)
  · have h := h.2 c
    refine lv_aload_n hx hb dX0_fault_7 rfl (lv_at hl 0 rfl) ?_
    refine lv_iload_n hx hb dX0_fault_8 rfl (lv_at hl 1 rfl) ?_
    refine x_calli (As := [.int v1]) (rest := []) C I (fun ra => met0_faultOf l D T ad ra v1 M h) (cw0_111 hts ⟨Nat.le_of_ble_eq_true rfl, Nat.le_of_ble_eq_true rfl⟩) rfl hl.1 rfl (Nat.le_of_ble_eq_true rfl) ⟨Nat.zero_le _, Nat.zero_le _⟩ dX0_fault_9 (fun r2 M3 H locs h I => ?_)
    refine lv_goto (tgt := 17) hx hb dX0_fault_12 (by decide) ?_
    exact t0_fault_b17 C hQ r2 M3 _ _ _ h I (lv_sub hl [0] rfl)
theorem met0_fault (l : Launch) (D : va_G) (T ad ra : Nat → Nat) (v1 : Int32) (M : Mem) {Qp : Int32 → Mem → Prop} (h : w0_fault v1 M Qp) (sz : Nat) : Met l yX0_fault (ws_ yX0_fault cX0_fault 2 (some .int)) rX0_fault (xPc D T ad ra 0 [.int v1] M sz) (xQi D T ad ra M Qp sz) 0 0 (fA (cX T ad ra M) sz) :=
  x_metI (own := RX0) (As := [.int v1]) rfl rfl (Nat.le_of_ble_eq_true rfl) (fun p e s m args below meth c A Qs ls C hQ I hl => t0_fault C hQ v1 M _ _ ls h I hl) sz
/-! isWay -/
abbrev rX0_isWay : Room := { frames := 7, cells := 0, slots := 0, locals := 157 }
theorem t0_isWay {p : Program} {l : Launch} {e : Env} {s : State} {m : MethodId} {args : Array Value} {below : List Frame} {meth : Method} {c : Code} {D : va_G} {T ad : Nat → Nat} {A : Nat → Prop} {H0 : Heap} {Qs : State → Prop} {Q : Int32 → Mem → Prop} (C : XC D T RX0 p m c cX0_isWay 2 s args) (hQ : xExi p l e rX0_isWay s m args below meth c cX0_isWay D T ad A H0 Qs Q) (v1 : Int32) (M : Mem) (H : Heap) (locs : List Loc) (ls : Array Slot) (h : w0_isWay_z v1 M Q) (I : XI D T ad A H0 M H locs) (hl : lv_has ls 2 [(0, .ref (ad 0)), (1, .int v1)]) : W p l e rX0_isWay s m args below meth c H locs 0 0 Qs (F0 m 0 ls []) := by
  have hx := C.1.1
  have hb := C.1.2.1
  have how := C.1.2.2.2.1
  have hts := C.1.2.2.2.2
  unfold w0_isWay_z at h
  refine lv_aload_n hx hb dX0_isWay_0 rfl (lv_at hl 0 rfl) ?_
  refine x_callv (As := []) (rest := []) C I (fun ra => met0_reads l D T ad ra M h) (cw0_107 hts ⟨Nat.le_of_ble_eq_true rfl, Nat.le_of_ble_eq_true rfl⟩) rfl hl.1 rfl (Nat.le_of_ble_eq_true rfl) ⟨Nat.zero_le _, Nat.zero_le _⟩ dX0_isWay_1 (fun M1 H locs h I => ?_)
  refine lv_iload_n hx hb dX0_isWay_4 rfl (lv_at hl 1 rfl) ?_
  refine lv_iconst (v := 0) hx hb dX0_isWay_5 (by decide) ?_
  refine lv_aload_n hx hb dX0_isWay_6 rfl (lv_at hl 0 rfl) ?_
  refine xg_ways C I dX0_isWay_7 ?_
  refine lv_iconst (v := 1) hx hb dX0_isWay_10 (by decide) ?_
  refine lv_isub hx hb dX0_isWay_11 ?_
  refine x_purei (As := [.int v1, .int 0, .int ((M1 0 4) - 1)]) (rest := []) C I (met0_in l v1 0 ((M1 0 4) - 1) h) (cw0_5 hts ⟨Nat.le_of_ble_eq_true rfl, Nat.le_of_ble_eq_true rfl⟩) rfl hl.1 rfl (Nat.le_of_ble_eq_true rfl) ⟨Nat.zero_le _, Nat.zero_le _⟩ dX0_isWay_12 (fun r2 H locs h I => ?_)
  exact hQ _ _ _ _ _ _ h I dX0_isWay_15
theorem met0_isWay (l : Launch) (D : va_G) (T ad ra : Nat → Nat) (v1 : Int32) (M : Mem) {Qp : Int32 → Mem → Prop} (h : w0_isWay v1 M Qp) (sz : Nat) : Met l yX0_isWay (ws_ yX0_isWay cX0_isWay 2 (some .boolean)) rX0_isWay (xPc D T ad ra 0 [.int v1] M sz) (xQi D T ad ra M Qp sz) 0 0 (fA (cX T ad ra M) sz) :=
  x_metZ (own := RX0) (As := [.int v1]) rfl rfl (Nat.le_of_ble_eq_true rfl) (fun p e s m args below meth c A Qs ls C hQ I hl => t0_isWay C hQ v1 M _ _ ls h I hl) sz
/-! wayOf -/
abbrev rX0_wayOf : Room := { frames := 0, cells := 0, slots := 0, locals := 0 }
theorem t0_wayOf_b47 {p : Program} {l : Launch} {e : Env} {s : State} {m : MethodId} {args : Array Value} {below : List Frame} {meth : Method} {c : Code} {D : va_G} {T ad : Nat → Nat} {A : Nat → Prop} {H0 : Heap} {Qs : State → Prop} {Q : Int32 → Mem → Prop}  (C : XC D T RX0 p m c cX0_wayOf 3 s args) (hQ : xExi p l e rX0_wayOf s m args below meth c cX0_wayOf D T ad A H0 Qs Q)  (s0 : Int32) (M : Mem) (H : Heap) (locs : List Loc) (ls : Array Slot) (h : w0_wayOf_b47 Q s0 M) (I : XI D T ad A H0 M H locs) (hl : lv_has ls 3 [(0, .ref (ad 0))]) : W p l e rX0_wayOf s m args below meth c H locs 0 0 Qs (F0 m 47 ls [.int s0]) := by
  have hx := C.1.1
  have hb := C.1.2.1
  have how := C.1.2.2.2.1
  have hts := C.1.2.2.2.2
  unfold w0_wayOf_b47 at h
  exact hQ _ _ _ _ _ _ h I dX0_wayOf_47
theorem t0_wayOf {p : Program} {l : Launch} {e : Env} {s : State} {m : MethodId} {args : Array Value} {below : List Frame} {meth : Method} {c : Code} {D : va_G} {T ad : Nat → Nat} {A : Nat → Prop} {H0 : Heap} {Qs : State → Prop} {Q : Int32 → Mem → Prop} (C : XC D T RX0 p m c cX0_wayOf 3 s args) (hQ : xExi p l e rX0_wayOf s m args below meth c cX0_wayOf D T ad A H0 Qs Q) (v1 : Int32) (v2 : Int32) (M : Mem) (H : Heap) (locs : List Loc) (ls : Array Slot) (h : w0_wayOf v1 v2 M Q) (I : XI D T ad A H0 M H locs) (hl : lv_has ls 3 [(0, .ref (ad 0)), (1, .int v1), (2, .int v2)]) : W p l e rX0_wayOf s m args below meth c H locs 0 0 Qs (F0 m 0 ls []) := by
  have hx := C.1.1
  have hb := C.1.2.1
  have how := C.1.2.2.2.1
  have hts := C.1.2.2.2.2
  unfold w0_wayOf at h
  refine lv_iload_n hx hb dX0_wayOf_0 rfl (lv_at hl 2 rfl) ?_
  refine lv_if_ne (tgt := 13) hx hb dX0_wayOf_1 (by decide) (fun c => ?_) (fun c => ?_)
  · have h := h.2 c
    refine lv_iload_n hx hb dX0_wayOf_13 rfl (lv_at hl 2 rfl) ?_
    refine lv_iconst (v := 1) hx hb dX0_wayOf_14 (by decide) ?_
    refine lv_icmp_ne (tgt := 27) hx hb dX0_wayOf_15 (by decide) (fun c => ?_) (fun c => ?_)
    · have h := h.2 c
      refine lv_iload_n hx hb dX0_wayOf_27 rfl (lv_at hl 2 rfl) ?_
      refine lv_iconst (v := 2) hx hb dX0_wayOf_28 (by decide) ?_
      refine lv_icmp_ne (tgt := 41) hx hb dX0_wayOf_29 (by decide) (fun c => ?_) (fun c => ?_)
      · have h := h.2 c
        refine lv_aload_n hx hb dX0_wayOf_41 rfl (lv_at hl 0 rfl) ?_
        refine xg_waySlope C I dX0_wayOf_42 ?_
        refine lv_iload_n hx hb dX0_wayOf_45 rfl (lv_at hl 1 rfl) ?_
        obtain ⟨hg4, h⟩ := h
        refine x_iald C I 9 10 rfl hg4 dX0_wayOf_46 ?_
        exact t0_wayOf_b47 C hQ (M 9 (ci v1)) M _ _ _ h I (lv_sub hl [0] rfl)
      · have h := h.1 c
        refine lv_aload_n hx hb dX0_wayOf_32 rfl (lv_at hl 0 rfl) ?_
        refine xg_wayLong C I dX0_wayOf_33 ?_
        refine lv_iload_n hx hb dX0_wayOf_36 rfl (lv_at hl 1 rfl) ?_
        obtain ⟨hg3, h⟩ := h
        refine x_iald C I 8 10 rfl hg3 dX0_wayOf_37 ?_
        refine lv_goto (tgt := 47) hx hb dX0_wayOf_38 (by decide) ?_
        exact t0_wayOf_b47 C hQ (M 8 (ci v1)) M _ _ _ h I (lv_sub hl [0] rfl)
    · have h := h.1 c
      refine lv_aload_n hx hb dX0_wayOf_18 rfl (lv_at hl 0 rfl) ?_
      refine xg_wayTo C I dX0_wayOf_19 ?_
      refine lv_iload_n hx hb dX0_wayOf_22 rfl (lv_at hl 1 rfl) ?_
      obtain ⟨hg2, h⟩ := h
      refine x_iald C I 7 10 rfl hg2 dX0_wayOf_23 ?_
      refine lv_goto (tgt := 47) hx hb dX0_wayOf_24 (by decide) ?_
      exact t0_wayOf_b47 C hQ (M 7 (ci v1)) M _ _ _ h I (lv_sub hl [0] rfl)
  · have h := h.1 c
    refine lv_aload_n hx hb dX0_wayOf_4 rfl (lv_at hl 0 rfl) ?_
    refine xg_wayFrom C I dX0_wayOf_5 ?_
    refine lv_iload_n hx hb dX0_wayOf_8 rfl (lv_at hl 1 rfl) ?_
    obtain ⟨hg1, h⟩ := h
    refine x_iald C I 6 10 rfl hg1 dX0_wayOf_9 ?_
    refine lv_goto (tgt := 47) hx hb dX0_wayOf_10 (by decide) ?_
    exact t0_wayOf_b47 C hQ (M 6 (ci v1)) M _ _ _ h I (lv_sub hl [0] rfl)
theorem met0_wayOf (l : Launch) (D : va_G) (T ad ra : Nat → Nat) (v1 : Int32) (v2 : Int32) (M : Mem) {Qp : Int32 → Mem → Prop} (h : w0_wayOf v1 v2 M Qp) (sz : Nat) : Met l yX0_wayOf (ws_ yX0_wayOf cX0_wayOf 3 (some .int)) rX0_wayOf (xPc D T ad ra 0 [.int v1, .int v2] M sz) (xQi D T ad ra M Qp sz) 0 0 (fA (cX T ad ra M) sz) :=
  x_metI (own := RX0) (As := [.int v1, .int v2]) rfl rfl (Nat.le_of_ble_eq_true rfl) (fun p e s m args below meth c A Qs ls C hQ I hl => t0_wayOf C hQ v1 v2 M _ _ ls h I hl) sz
/-! way -/
abbrev rX0_way : Room := { frames := 8, cells := 0, slots := 0, locals := 178 }
theorem cw0_114 {R : Room} {s : State} {args : Array Value} (hts : ∀ w ∈ lw_all, w.before args s = true) (hR : rX0_isWay.frames + 1 ≤ R.frames ∧ 8 + (2 + 11) + rX0_isWay.locals ≤ R.locals) : CallW R s args RX0 RX0 114 yX0_isWay cX0_isWay 2 (some .boolean) (ws_ yX0_isWay cX0_isWay 2 (some .boolean)) rX0_isWay 0 0 1 := cwV 1 hts (lw_V q179 q181 qs9 q89 q182) rfl rfl rfl (by decide +kernel) hR
theorem cw0_117 {R : Room} {s : State} {args : Array Value} (hts : ∀ w ∈ lw_all, w.before args s = true) (hR : rX0_wayOf.frames + 1 ≤ R.frames ∧ 8 + (3 + 11) + rX0_wayOf.locals ≤ R.locals) : CallW R s args RX0 RX0 117 yX0_wayOf cX0_wayOf 3 (some .int) (ws_ yX0_wayOf cX0_wayOf 3 (some .int)) rX0_wayOf 0 0 2 := cwV 2 hts (lw_V q183 q185 qs10 q89 q186) rfl rfl rfl (by decide +kernel) hR
theorem t0_way_b28 {p : Program} {l : Launch} {e : Env} {s : State} {m : MethodId} {args : Array Value} {below : List Frame} {meth : Method} {c : Code} {D : va_G} {T ad : Nat → Nat} {A : Nat → Prop} {H0 : Heap} {Qs : State → Prop} {Q : Int32 → Mem → Prop}  (C : XC D T RX0 p m c cX0_way 3 s args) (hQ : xExi p l e rX0_way s m args below meth c cX0_way D T ad A H0 Qs Q)  (s0 : Int32) (M : Mem) (H : Heap) (locs : List Loc) (ls : Array Slot) (h : w0_way_b28 Q s0 M) (I : XI D T ad A H0 M H locs) (hl : lv_has ls 3 [(0, .ref (ad 0))]) : W p l e rX0_way s m args below meth c H locs 0 0 Qs (F0 m 28 ls [.int s0]) := by
  have hx := C.1.1
  have hb := C.1.2.1
  have how := C.1.2.2.2.1
  have hts := C.1.2.2.2.2
  unfold w0_way_b28 at h
  exact hQ _ _ _ _ _ _ h I dX0_way_28
theorem t0_way_b26 {p : Program} {l : Launch} {e : Env} {s : State} {m : MethodId} {args : Array Value} {below : List Frame} {meth : Method} {c : Code} {D : va_G} {T ad : Nat → Nat} {A : Nat → Prop} {H0 : Heap} {Qs : State → Prop} {Q : Int32 → Mem → Prop}  (C : XC D T RX0 p m c cX0_way 3 s args) (hQ : xExi p l e rX0_way s m args below meth c cX0_way D T ad A H0 Qs Q)   (M : Mem) (H : Heap) (locs : List Loc) (ls : Array Slot) (h : w0_way_b26 Q M) (I : XI D T ad A H0 M H locs) (hl : lv_has ls 3 [(0, .ref (ad 0))]) : W p l e rX0_way s m args below meth c H locs 0 0 Qs (F0 m 26 ls []) := by
  have hx := C.1.1
  have hb := C.1.2.1
  have how := C.1.2.2.2.1
  have hts := C.1.2.2.2.2
  unfold w0_way_b26 at h
  refine lv_bipush (v := -2) hx hb dX0_way_26 (by decide) ?_
  exact t0_way_b28 C hQ (-2) M _ _ _ h I (lv_sub hl [0] rfl)
theorem t0_way {p : Program} {l : Launch} {e : Env} {s : State} {m : MethodId} {args : Array Value} {below : List Frame} {meth : Method} {c : Code} {D : va_G} {T ad : Nat → Nat} {A : Nat → Prop} {H0 : Heap} {Qs : State → Prop} {Q : Int32 → Mem → Prop} (C : XC D T RX0 p m c cX0_way 3 s args) (hQ : xExi p l e rX0_way s m args below meth c cX0_way D T ad A H0 Qs Q) (v1 : Int32) (v2 : Int32) (M : Mem) (H : Heap) (locs : List Loc) (ls : Array Slot) (h : w0_way v1 v2 M Q) (I : XI D T ad A H0 M H locs) (hl : lv_has ls 3 [(0, .ref (ad 0)), (1, .int v1), (2, .int v2)]) : W p l e rX0_way s m args below meth c H locs 0 0 Qs (F0 m 0 ls []) := by
  have hx := C.1.1
  have hb := C.1.2.1
  have how := C.1.2.2.2.1
  have hts := C.1.2.2.2.2
  unfold w0_way at h
  refine lv_aload_n hx hb dX0_way_0 rfl (lv_at hl 0 rfl) ?_
  refine lv_iload_n hx hb dX0_way_1 rfl (lv_at hl 1 rfl) ?_
  refine x_calli (As := [.int v1]) (rest := []) C I (fun ra => met0_isWay l D T ad ra v1 M h) (cw0_114 hts ⟨Nat.le_of_ble_eq_true rfl, Nat.le_of_ble_eq_true rfl⟩) rfl hl.1 rfl (Nat.le_of_ble_eq_true rfl) ⟨Nat.zero_le _, Nat.zero_le _⟩ dX0_way_2 (fun r1 M2 H locs h I => ?_)
  refine lv_if_eq (tgt := 26) hx hb dX0_way_5 (by decide) (fun c => ?_) (fun c => ?_)
  · have h := h.1 c
    exact t0_way_b26 C hQ M2 _ _ _ h I (lv_sub hl [0] rfl)
  · have h := h.2 c
    refine lv_iload_n hx hb dX0_way_8 rfl (lv_at hl 2 rfl) ?_
    refine lv_iconst (v := 0) hx hb dX0_way_9 (by decide) ?_
    refine lv_iconst (v := 3) hx hb dX0_way_10 (by decide) ?_
    refine x_purei (As := [.int v2, .int 0, .int 3]) (rest := []) C I (met0_in l v2 0 3 h) (cw0_5 hts ⟨Nat.le_of_ble_eq_true rfl, Nat.le_of_ble_eq_true rfl⟩) rfl hl.1 rfl (Nat.le_of_ble_eq_true rfl) ⟨Nat.zero_le _, Nat.zero_le _⟩ dX0_way_11 (fun r3 H locs h I => ?_)
    refine lv_if_eq (tgt := 26) hx hb dX0_way_14 (by decide) (fun c => ?_) (fun c => ?_)
    · have h := h.1 c
      exact t0_way_b26 C hQ M2 _ _ _ h I (lv_sub hl [0] rfl)
    · have h := h.2 c
      refine lv_aload_n hx hb dX0_way_17 rfl (lv_at hl 0 rfl) ?_
      refine lv_iload_n hx hb dX0_way_18 rfl (lv_at hl 1 rfl) ?_
      refine lv_iload_n hx hb dX0_way_19 rfl (lv_at hl 2 rfl) ?_
      refine x_calli (As := [.int v1, .int v2]) (rest := []) C I (fun ra => met0_wayOf l D T ad ra v1 v2 M2 h) (cw0_117 hts ⟨Nat.le_of_ble_eq_true rfl, Nat.le_of_ble_eq_true rfl⟩) rfl hl.1 rfl (Nat.le_of_ble_eq_true rfl) ⟨Nat.zero_le _, Nat.zero_le _⟩ dX0_way_20 (fun r4 M5 H locs h I => ?_)
      refine lv_goto (tgt := 28) hx hb dX0_way_23 (by decide) ?_
      exact t0_way_b28 C hQ r4 M5 _ _ _ h I (lv_sub hl [0] rfl)
theorem met0_way (l : Launch) (D : va_G) (T ad ra : Nat → Nat) (v1 : Int32) (v2 : Int32) (M : Mem) {Qp : Int32 → Mem → Prop} (h : w0_way v1 v2 M Qp) (sz : Nat) : Met l yX0_way (ws_ yX0_way cX0_way 3 (some .int)) rX0_way (xPc D T ad ra 0 [.int v1, .int v2] M sz) (xQi D T ad ra M Qp sz) 0 0 (fA (cX T ad ra M) sz) :=
  x_metI (own := RX0) (As := [.int v1, .int v2]) rfl rfl (Nat.le_of_ble_eq_true rfl) (fun p e s m args below meth c A Qs ls C hQ I hl => t0_way C hQ v1 v2 M _ _ ls h I hl) sz
/-! isCarter -/
abbrev rX0_isCarter : Room := { frames := 7, cells := 0, slots := 0, locals := 157 }
theorem t0_isCarter {p : Program} {l : Launch} {e : Env} {s : State} {m : MethodId} {args : Array Value} {below : List Frame} {meth : Method} {c : Code} {D : va_G} {T ad : Nat → Nat} {A : Nat → Prop} {H0 : Heap} {Qs : State → Prop} {Q : Int32 → Mem → Prop} (C : XC D T RX0 p m c cX0_isCarter 2 s args) (hQ : xExi p l e rX0_isCarter s m args below meth c cX0_isCarter D T ad A H0 Qs Q) (v1 : Int32) (M : Mem) (H : Heap) (locs : List Loc) (ls : Array Slot) (h : w0_isCarter_z v1 M Q) (I : XI D T ad A H0 M H locs) (hl : lv_has ls 2 [(0, .ref (ad 0)), (1, .int v1)]) : W p l e rX0_isCarter s m args below meth c H locs 0 0 Qs (F0 m 0 ls []) := by
  have hx := C.1.1
  have hb := C.1.2.1
  have how := C.1.2.2.2.1
  have hts := C.1.2.2.2.2
  unfold w0_isCarter_z at h
  refine lv_aload_n hx hb dX0_isCarter_0 rfl (lv_at hl 0 rfl) ?_
  refine x_callv (As := []) (rest := []) C I (fun ra => met0_reads l D T ad ra M h) (cw0_107 hts ⟨Nat.le_of_ble_eq_true rfl, Nat.le_of_ble_eq_true rfl⟩) rfl hl.1 rfl (Nat.le_of_ble_eq_true rfl) ⟨Nat.zero_le _, Nat.zero_le _⟩ dX0_isCarter_1 (fun M1 H locs h I => ?_)
  refine lv_iload_n hx hb dX0_isCarter_4 rfl (lv_at hl 1 rfl) ?_
  refine lv_iconst (v := 0) hx hb dX0_isCarter_5 (by decide) ?_
  refine lv_aload_n hx hb dX0_isCarter_6 rfl (lv_at hl 0 rfl) ?_
  refine xg_carters C I dX0_isCarter_7 ?_
  refine lv_iconst (v := 1) hx hb dX0_isCarter_10 (by decide) ?_
  refine lv_isub hx hb dX0_isCarter_11 ?_
  refine x_purei (As := [.int v1, .int 0, .int ((M1 0 9) - 1)]) (rest := []) C I (met0_in l v1 0 ((M1 0 9) - 1) h) (cw0_5 hts ⟨Nat.le_of_ble_eq_true rfl, Nat.le_of_ble_eq_true rfl⟩) rfl hl.1 rfl (Nat.le_of_ble_eq_true rfl) ⟨Nat.zero_le _, Nat.zero_le _⟩ dX0_isCarter_12 (fun r2 H locs h I => ?_)
  exact hQ _ _ _ _ _ _ h I dX0_isCarter_15
theorem met0_isCarter (l : Launch) (D : va_G) (T ad ra : Nat → Nat) (v1 : Int32) (M : Mem) {Qp : Int32 → Mem → Prop} (h : w0_isCarter v1 M Qp) (sz : Nat) : Met l yX0_isCarter (ws_ yX0_isCarter cX0_isCarter 2 (some .boolean)) rX0_isCarter (xPc D T ad ra 0 [.int v1] M sz) (xQi D T ad ra M Qp sz) 0 0 (fA (cX T ad ra M) sz) :=
  x_metZ (own := RX0) (As := [.int v1]) rfl rfl (Nat.le_of_ble_eq_true rfl) (fun p e s m args below meth c A Qs ls C hQ I hl => t0_isCarter C hQ v1 M _ _ ls h I hl) sz
/-! carterOf -/
abbrev rX0_carterOf : Room := { frames := 1, cells := 0, slots := 0, locals := 20 }
theorem t0_carterOf_b61 {p : Program} {l : Launch} {e : Env} {s : State} {m : MethodId} {args : Array Value} {below : List Frame} {meth : Method} {c : Code} {D : va_G} {T ad : Nat → Nat} {A : Nat → Prop} {H0 : Heap} {Qs : State → Prop} {Q : Int32 → Mem → Prop}  (C : XC D T RX0 p m c cX0_carterOf 4 s args) (hQ : xExi p l e rX0_carterOf s m args below meth c cX0_carterOf D T ad A H0 Qs Q)  (s0 : Int32) (M : Mem) (H : Heap) (locs : List Loc) (ls : Array Slot) (h : w0_carterOf_b61 Q s0 M) (I : XI D T ad A H0 M H locs) (hl : lv_has ls 4 [(0, .ref (ad 0))]) : W p l e rX0_carterOf s m args below meth c H locs 0 0 Qs (F0 m 61 ls [.int s0]) := by
  have hx := C.1.1
  have hb := C.1.2.1
  have how := C.1.2.2.2.1
  have hts := C.1.2.2.2.2
  unfold w0_carterOf_b61 at h
  exact hQ _ _ _ _ _ _ h I dX0_carterOf_61
theorem t0_carterOf {p : Program} {l : Launch} {e : Env} {s : State} {m : MethodId} {args : Array Value} {below : List Frame} {meth : Method} {c : Code} {D : va_G} {T ad : Nat → Nat} {A : Nat → Prop} {H0 : Heap} {Qs : State → Prop} {Q : Int32 → Mem → Prop} (C : XC D T RX0 p m c cX0_carterOf 4 s args) (hQ : xExi p l e rX0_carterOf s m args below meth c cX0_carterOf D T ad A H0 Qs Q) (v1 : Int32) (v2 : Int32) (M : Mem) (H : Heap) (locs : List Loc) (ls : Array Slot) (h : w0_carterOf v1 v2 M Q) (I : XI D T ad A H0 M H locs) (hl : lv_has ls 4 [(0, .ref (ad 0)), (1, .int v1), (2, .int v2)]) : W p l e rX0_carterOf s m args below meth c H locs 0 0 Qs (F0 m 0 ls []) := by
  have hx := C.1.1
  have hb := C.1.2.1
  have how := C.1.2.2.2.1
  have hts := C.1.2.2.2.2
  unfold w0_carterOf at h
  refine lv_aload_n hx hb dX0_carterOf_0 rfl (lv_at hl 0 rfl) ?_
  refine xg_all C I dX0_carterOf_1 ?_
  refine lv_iload_n hx hb dX0_carterOf_4 rfl (lv_at hl 1 rfl) ?_
  obtain ⟨hg1, h⟩ := h
  refine xa_all C I hg1 dX0_carterOf_5 ?_
  refine lv_astore_n (lv' := [(3, .ref (ad (30 + ci v1))), (0, .ref (ad 0)), (1, .int v1), (2, .int v2)]) hx hb dX0_carterOf_6 rfl hl (by decide) rfl (fun ls hl => ?_)
  refine lv_iload_n hx hb dX0_carterOf_7 rfl (lv_at hl 3 rfl) ?_
  refine lv_if_ne (tgt := 18) hx hb dX0_carterOf_8 (by decide) (fun c => ?_) (fun c => ?_)
  · have h := h.2 c
    refine lv_iload_n hx hb dX0_carterOf_18 rfl (lv_at hl 3 rfl) ?_
    refine lv_iconst (v := 1) hx hb dX0_carterOf_19 (by decide) ?_
    refine lv_icmp_ne (tgt := 30) hx hb dX0_carterOf_20 (by decide) (fun c => ?_) (fun c => ?_)
    · have h := h.2 c
      refine lv_iload_n hx hb dX0_carterOf_30 rfl (lv_at hl 3 rfl) ?_
      refine lv_iconst (v := 2) hx hb dX0_carterOf_31 (by decide) ?_
      refine lv_icmp_ne (tgt := 45) hx hb dX0_carterOf_32 (by decide) (fun c => ?_) (fun c => ?_)
      · have h := h.2 c
        refine lv_iload_n hx hb dX0_carterOf_45 rfl (lv_at hl 3 rfl) ?_
        refine lv_iconst (v := 3) hx hb dX0_carterOf_46 (by decide) ?_
        refine lv_icmp_ne (tgt := 57) hx hb dX0_carterOf_47 (by decide) (fun c => ?_) (fun c => ?_)
        · have h := h.2 c
          refine lv_aload_n hx hb dX0_carterOf_57 rfl (lv_at hl 0 rfl) ?_
          refine xcg0_load C I (isCar_of hg1) dX0_carterOf_58 ?_
          exact t0_carterOf_b61 C hQ (M (30 + ci v1) 4) M _ _ _ h I (lv_sub hl [1] rfl)
        · have h := h.1 c
          refine lv_aload_n hx hb dX0_carterOf_50 rfl (lv_at hl 0 rfl) ?_
          refine xcg0_strength C I (isCar_of hg1) dX0_carterOf_51 ?_
          refine lv_goto (tgt := 61) hx hb dX0_carterOf_54 (by decide) ?_
          exact t0_carterOf_b61 C hQ (M (30 + ci v1) 3) M _ _ _ h I (lv_sub hl [1] rfl)
      · have h := h.1 c
        refine lv_aload_n hx hb dX0_carterOf_35 rfl (lv_at hl 0 rfl) ?_
        obtain ⟨hg2, h⟩ := h
        refine xcg0_question C I (isCar_of hg1) hg2 dX0_carterOf_36 ?_
        refine x_kind (rest := []) C I hg2 (Nat.le_of_ble_eq_true rfl) (Nat.le_of_ble_eq_true rfl) hl.1 (Nat.le_of_ble_eq_true rfl) ⟨Nat.zero_le _, Nat.zero_le _⟩ dX0_carterOf_39 (fun H locs I => ?_)
        refine lv_goto (tgt := 61) hx hb dX0_carterOf_42 (by decide) ?_
        exact t0_carterOf_b61 C hQ (qkind (M (30 + ci v1) 2)) M _ _ _ h I (lv_sub hl [1] rfl)
    · have h := h.1 c
      refine lv_aload_n hx hb dX0_carterOf_23 rfl (lv_at hl 0 rfl) ?_
      refine xcg0_goal C I (isCar_of hg1) dX0_carterOf_24 ?_
      refine lv_goto (tgt := 61) hx hb dX0_carterOf_27 (by decide) ?_
      exact t0_carterOf_b61 C hQ (M (30 + ci v1) 1) M _ _ _ h I (lv_sub hl [1] rfl)
  · have h := h.1 c
    refine lv_aload_n hx hb dX0_carterOf_11 rfl (lv_at hl 0 rfl) ?_
    refine xcg0_from C I (isCar_of hg1) dX0_carterOf_12 ?_
    refine lv_goto (tgt := 61) hx hb dX0_carterOf_15 (by decide) ?_
    exact t0_carterOf_b61 C hQ (M (30 + ci v1) 0) M _ _ _ h I (lv_sub hl [1] rfl)
theorem met0_carterOf (l : Launch) (D : va_G) (T ad ra : Nat → Nat) (v1 : Int32) (v2 : Int32) (M : Mem) {Qp : Int32 → Mem → Prop} (h : w0_carterOf v1 v2 M Qp) (sz : Nat) : Met l yX0_carterOf (ws_ yX0_carterOf cX0_carterOf 4 (some .int)) rX0_carterOf (xPc D T ad ra 0 [.int v1, .int v2] M sz) (xQi D T ad ra M Qp sz) 0 0 (fA (cX T ad ra M) sz) :=
  x_metI (own := RX0) (As := [.int v1, .int v2]) rfl rfl (Nat.le_of_ble_eq_true rfl) (fun p e s m args below meth c A Qs ls C hQ I hl => t0_carterOf C hQ v1 v2 M _ _ ls h I hl) sz
/-! carter -/
abbrev rX0_carter : Room := { frames := 8, cells := 0, slots := 0, locals := 178 }
theorem cw0_126 {R : Room} {s : State} {args : Array Value} (hts : ∀ w ∈ lw_all, w.before args s = true) (hR : rX0_isCarter.frames + 1 ≤ R.frames ∧ 8 + (2 + 11) + rX0_isCarter.locals ≤ R.locals) : CallW R s args RX0 RX0 126 yX0_isCarter cX0_isCarter 2 (some .boolean) (ws_ yX0_isCarter cX0_isCarter 2 (some .boolean)) rX0_isCarter 0 0 1 := cwV 1 hts (lw_V q191 q193 qs11 q89 q194) rfl rfl rfl (by decide +kernel) hR
theorem cw0_129 {R : Room} {s : State} {args : Array Value} (hts : ∀ w ∈ lw_all, w.before args s = true) (hR : rX0_carterOf.frames + 1 ≤ R.frames ∧ 8 + (4 + 11) + rX0_carterOf.locals ≤ R.locals) : CallW R s args RX0 RX0 129 yX0_carterOf cX0_carterOf 4 (some .int) (ws_ yX0_carterOf cX0_carterOf 4 (some .int)) rX0_carterOf 0 0 2 := cwV 2 hts (lw_V q195 q197 qs12 q89 q198) rfl rfl rfl (by decide +kernel) hR
theorem t0_carter_b28 {p : Program} {l : Launch} {e : Env} {s : State} {m : MethodId} {args : Array Value} {below : List Frame} {meth : Method} {c : Code} {D : va_G} {T ad : Nat → Nat} {A : Nat → Prop} {H0 : Heap} {Qs : State → Prop} {Q : Int32 → Mem → Prop}  (C : XC D T RX0 p m c cX0_carter 3 s args) (hQ : xExi p l e rX0_carter s m args below meth c cX0_carter D T ad A H0 Qs Q)  (s0 : Int32) (M : Mem) (H : Heap) (locs : List Loc) (ls : Array Slot) (h : w0_carter_b28 Q s0 M) (I : XI D T ad A H0 M H locs) (hl : lv_has ls 3 [(0, .ref (ad 0))]) : W p l e rX0_carter s m args below meth c H locs 0 0 Qs (F0 m 28 ls [.int s0]) := by
  have hx := C.1.1
  have hb := C.1.2.1
  have how := C.1.2.2.2.1
  have hts := C.1.2.2.2.2
  unfold w0_carter_b28 at h
  exact hQ _ _ _ _ _ _ h I dX0_carter_28
theorem t0_carter_b26 {p : Program} {l : Launch} {e : Env} {s : State} {m : MethodId} {args : Array Value} {below : List Frame} {meth : Method} {c : Code} {D : va_G} {T ad : Nat → Nat} {A : Nat → Prop} {H0 : Heap} {Qs : State → Prop} {Q : Int32 → Mem → Prop}  (C : XC D T RX0 p m c cX0_carter 3 s args) (hQ : xExi p l e rX0_carter s m args below meth c cX0_carter D T ad A H0 Qs Q)   (M : Mem) (H : Heap) (locs : List Loc) (ls : Array Slot) (h : w0_carter_b26 Q M) (I : XI D T ad A H0 M H locs) (hl : lv_has ls 3 [(0, .ref (ad 0))]) : W p l e rX0_carter s m args below meth c H locs 0 0 Qs (F0 m 26 ls []) := by
  have hx := C.1.1
  have hb := C.1.2.1
  have how := C.1.2.2.2.1
  have hts := C.1.2.2.2.2
  unfold w0_carter_b26 at h
  refine lv_bipush (v := -2) hx hb dX0_carter_26 (by decide) ?_
  exact t0_carter_b28 C hQ (-2) M _ _ _ h I (lv_sub hl [0] rfl)
theorem t0_carter {p : Program} {l : Launch} {e : Env} {s : State} {m : MethodId} {args : Array Value} {below : List Frame} {meth : Method} {c : Code} {D : va_G} {T ad : Nat → Nat} {A : Nat → Prop} {H0 : Heap} {Qs : State → Prop} {Q : Int32 → Mem → Prop} (C : XC D T RX0 p m c cX0_carter 3 s args) (hQ : xExi p l e rX0_carter s m args below meth c cX0_carter D T ad A H0 Qs Q) (v1 : Int32) (v2 : Int32) (M : Mem) (H : Heap) (locs : List Loc) (ls : Array Slot) (h : w0_carter v1 v2 M Q) (I : XI D T ad A H0 M H locs) (hl : lv_has ls 3 [(0, .ref (ad 0)), (1, .int v1), (2, .int v2)]) : W p l e rX0_carter s m args below meth c H locs 0 0 Qs (F0 m 0 ls []) := by
  have hx := C.1.1
  have hb := C.1.2.1
  have how := C.1.2.2.2.1
  have hts := C.1.2.2.2.2
  unfold w0_carter at h
  refine lv_aload_n hx hb dX0_carter_0 rfl (lv_at hl 0 rfl) ?_
  refine lv_iload_n hx hb dX0_carter_1 rfl (lv_at hl 1 rfl) ?_
  refine x_calli (As := [.int v1]) (rest := []) C I (fun ra => met0_isCarter l D T ad ra v1 M h) (cw0_126 hts ⟨Nat.le_of_ble_eq_true rfl, Nat.le_of_ble_eq_true rfl⟩) rfl hl.1 rfl (Nat.le_of_ble_eq_true rfl) ⟨Nat.zero_le _, Nat.zero_le _⟩ dX0_carter_2 (fun r1 M2 H locs h I => ?_)
  refine lv_if_eq (tgt := 26) hx hb dX0_carter_5 (by decide) (fun c => ?_) (fun c => ?_)
  · have h := h.1 c
    exact t0_carter_b26 C hQ M2 _ _ _ h I (lv_sub hl [0] rfl)
  · have h := h.2 c
    refine lv_iload_n hx hb dX0_carter_8 rfl (lv_at hl 2 rfl) ?_
    refine lv_iconst (v := 0) hx hb dX0_carter_9 (by decide) ?_
    refine lv_iconst (v := 4) hx hb dX0_carter_10 (by decide) ?_
    refine x_purei (As := [.int v2, .int 0, .int 4]) (rest := []) C I (met0_in l v2 0 4 h) (cw0_5 hts ⟨Nat.le_of_ble_eq_true rfl, Nat.le_of_ble_eq_true rfl⟩) rfl hl.1 rfl (Nat.le_of_ble_eq_true rfl) ⟨Nat.zero_le _, Nat.zero_le _⟩ dX0_carter_11 (fun r3 H locs h I => ?_)
    refine lv_if_eq (tgt := 26) hx hb dX0_carter_14 (by decide) (fun c => ?_) (fun c => ?_)
    · have h := h.1 c
      exact t0_carter_b26 C hQ M2 _ _ _ h I (lv_sub hl [0] rfl)
    · have h := h.2 c
      refine lv_aload_n hx hb dX0_carter_17 rfl (lv_at hl 0 rfl) ?_
      refine lv_iload_n hx hb dX0_carter_18 rfl (lv_at hl 1 rfl) ?_
      refine lv_iload_n hx hb dX0_carter_19 rfl (lv_at hl 2 rfl) ?_
      refine x_calli (As := [.int v1, .int v2]) (rest := []) C I (fun ra => met0_carterOf l D T ad ra v1 v2 M2 h) (cw0_129 hts ⟨Nat.le_of_ble_eq_true rfl, Nat.le_of_ble_eq_true rfl⟩) rfl hl.1 rfl (Nat.le_of_ble_eq_true rfl) ⟨Nat.zero_le _, Nat.zero_le _⟩ dX0_carter_20 (fun r4 M5 H locs h I => ?_)
      refine lv_goto (tgt := 28) hx hb dX0_carter_23 (by decide) ?_
      exact t0_carter_b28 C hQ r4 M5 _ _ _ h I (lv_sub hl [0] rfl)
theorem met0_carter (l : Launch) (D : va_G) (T ad ra : Nat → Nat) (v1 : Int32) (v2 : Int32) (M : Mem) {Qp : Int32 → Mem → Prop} (h : w0_carter v1 v2 M Qp) (sz : Nat) : Met l yX0_carter (ws_ yX0_carter cX0_carter 3 (some .int)) rX0_carter (xPc D T ad ra 0 [.int v1, .int v2] M sz) (xQi D T ad ra M Qp sz) 0 0 (fA (cX T ad ra M) sz) :=
  x_metI (own := RX0) (As := [.int v1, .int v2]) rfl rfl (Nat.le_of_ble_eq_true rfl) (fun p e s m args below meth c A Qs ls C hQ I hl => t0_carter C hQ v1 v2 M _ _ ls h I hl) sz
/-! isEight -/
abbrev rX0_isEight : Room := { frames := 1, cells := 0, slots := 0, locals := 22 }
theorem t0_isEight {p : Program} {l : Launch} {e : Env} {s : State} {m : MethodId} {args : Array Value} {below : List Frame} {meth : Method} {c : Code} {A : Nat → Prop} {H0 : Heap} {Qs : State → Prop} {Q : Int32 → Prop} (S : CallFix p m c cX0_isEight 1 s args lw_all RX0) (hA : ∀ q, H0.size ≤ q → A q) (hQ : pExi p l e rX0_isEight s m args below meth c cX0_isEight A H0 Qs Q) (v0 : Int32) (H : Heap) (locs : List Loc) (ls : Array Slot) (h : w0_isEight_z v0 Q) (hS : va_S A H0 H locs) (hl : lv_has ls 1 [(0, .int v0)]) : W p l e rX0_isEight s m args below meth c H locs 0 0 Qs (F0 m 0 ls []) := by
  have hx := S.1
  have hb := S.2.1
  have how := S.2.2.2.1
  have hts := S.2.2.2.2
  unfold w0_isEight_z at h
  refine lv_iload_n hx hb dX0_isEight_0 rfl (lv_at hl 0 rfl) ?_
  refine lv_iconst (v := 0) hx hb dX0_isEight_1 (by decide) ?_
  refine lv_bipush (v := 7) hx hb dX0_isEight_2 (by decide) ?_
  refine p_calli (As := [.int v0, .int 0, .int 7]) (rest := []) S hS hA (met0_in l v0 0 7 h) (cw0_5 hts ⟨Nat.le_of_ble_eq_true rfl, Nat.le_of_ble_eq_true rfl⟩) rfl hl.1 rfl (Nat.le_of_ble_eq_true rfl) ⟨Nat.zero_le _, Nat.zero_le _⟩ dX0_isEight_4 (fun r1 H locs h _ hS => ?_)
  exact hQ _ _ _ _ _ h hS dX0_isEight_7
theorem met0_isEight (l : Launch) (v0 : Int32) {Qp : Int32 → Prop} (h : w0_isEight v0 Qp) (sz : Nat) : Met l yX0_isEight (ws_ yX0_isEight cX0_isEight 1 (some .boolean)) rX0_isEight (pPc [.int v0] sz) (pQi Qp sz) 0 0 (pA sz) :=
  p_metZ (As := [.int v0]) rfl (Nat.le_of_ble_eq_true rfl) (fun p e s m args below meth c Qs ls S hQ hl => t0_isEight S (fun q h => h) hQ v0 _ _ ls h va_S.rf hl) sz
/-! late -/
abbrev rX0_late : Room := { frames := 2, cells := 0, slots := 0, locals := 42 }
theorem cw0_132 {R : Room} {s : State} {args : Array Value} (hts : ∀ w ∈ lw_all, w.before args s = true) (hR : rX0_isEight.frames + 1 ≤ R.frames ∧ 8 + (1 + 11) + rX0_isEight.locals ≤ R.locals) : CallB R s args RX0 132 yX0_isEight cX0_isEight 1 (some .boolean) (ws_ yX0_isEight cX0_isEight 1 (some .boolean)) rX0_isEight 0 0 1 ∧ (Cond.static yX0_isEight).before args s = true := va_cwS 1 hts (lw_S q214 q215 q89 q216) rfl rfl rfl (by decide +kernel) hR
theorem t0_late_b17 {p : Program} {l : Launch} {e : Env} {s : State} {m : MethodId} {args : Array Value} {below : List Frame} {meth : Method} {c : Code} {D : va_G} {T ad : Nat → Nat} {A : Nat → Prop} {H0 : Heap} {Qs : State → Prop} {Q : Int32 → Mem → Prop}  (C : XC D T RX0 p m c cX0_late 4 s args) (hQ : xExi p l e rX0_late s m args below meth c cX0_late D T ad A H0 Qs Q)   (M : Mem) (H : Heap) (locs : List Loc) (ls : Array Slot) (h : w0_late_b17 Q M) (I : XI D T ad A H0 M H locs) (hl : lv_has ls 4 [(0, .ref (ad 0))]) : W p l e rX0_late s m args below meth c H locs 0 0 Qs (F0 m 17 ls []) := by
  have hx := C.1.1
  have hb := C.1.2.1
  have how := C.1.2.2.2.1
  have hts := C.1.2.2.2.2
  unfold w0_late_b17 at h
  refine lv_bipush (v := -2) hx hb dX0_late_17 (by decide) ?_
  exact hQ _ _ _ _ _ _ h I dX0_late_19
theorem t0_late {p : Program} {l : Launch} {e : Env} {s : State} {m : MethodId} {args : Array Value} {below : List Frame} {meth : Method} {c : Code} {D : va_G} {T ad : Nat → Nat} {A : Nat → Prop} {H0 : Heap} {Qs : State → Prop} {Q : Int32 → Mem → Prop} (C : XC D T RX0 p m c cX0_late 4 s args) (hQ : xExi p l e rX0_late s m args below meth c cX0_late D T ad A H0 Qs Q) (v1 : Int32) (v2 : Int32) (M : Mem) (H : Heap) (locs : List Loc) (ls : Array Slot) (h : w0_late v1 v2 M Q) (I : XI D T ad A H0 M H locs) (hl : lv_has ls 4 [(0, .ref (ad 0)), (1, .int v1), (2, .int v2)]) : W p l e rX0_late s m args below meth c H locs 0 0 Qs (F0 m 0 ls []) := by
  have hx := C.1.1
  have hb := C.1.2.1
  have how := C.1.2.2.2.1
  have hts := C.1.2.2.2.2
  unfold w0_late at h
  refine lv_iload_n hx hb dX0_late_0 rfl (lv_at hl 1 rfl) ?_
  refine x_purei (As := [.int v1]) (rest := []) C I (met0_isEight l v1 h) (cw0_132 hts ⟨Nat.le_of_ble_eq_true rfl, Nat.le_of_ble_eq_true rfl⟩) rfl hl.1 rfl (Nat.le_of_ble_eq_true rfl) ⟨Nat.zero_le _, Nat.zero_le _⟩ dX0_late_1 (fun r1 H locs h I => ?_)
  refine lv_if_eq (tgt := 17) hx hb dX0_late_4 (by decide) (fun c => ?_) (fun c => ?_)
  · have h := h.1 c
    exact t0_late_b17 C hQ M _ _ _ h I (lv_sub hl [0] rfl)
  · have h := h.2 c
    refine lv_iload_n hx hb dX0_late_7 rfl (lv_at hl 2 rfl) ?_
    refine lv_iconst (v := 0) hx hb dX0_late_8 (by decide) ?_
    refine lv_bipush (v := 9) hx hb dX0_late_9 (by decide) ?_
    refine x_purei (As := [.int v2, .int 0, .int 9]) (rest := []) C I (met0_in l v2 0 9 h) (cw0_5 hts ⟨Nat.le_of_ble_eq_true rfl, Nat.le_of_ble_eq_true rfl⟩) rfl hl.1 rfl (Nat.le_of_ble_eq_true rfl) ⟨Nat.zero_le _, Nat.zero_le _⟩ dX0_late_11 (fun r2 H locs h I => ?_)
    refine lv_if_ne (tgt := 20) hx hb dX0_late_14 (by decide) (fun c => ?_) (fun c => ?_)
    · have h := h.2 c
      refine lv_aload_n hx hb dX0_late_20 rfl (lv_at hl 0 rfl) ?_
      refine xg_all C I dX0_late_21 ?_
      refine lv_iload_n hx hb dX0_late_24 rfl (lv_at hl 1 rfl) ?_
      obtain ⟨hg3, h⟩ := h
      refine xa_all C I hg3 dX0_late_25 ?_
      refine xcg0_late C I (isCar_of hg3) dX0_late_26 ?_
      refine lv_istore_n (lv' := [(3, .int (M (30 + ci v1) 5)), (0, .ref (ad 0)), (1, .int v1), (2, .int v2)]) hx hb dX0_late_29 rfl hl (by decide) rfl (fun ls hl => ?_)
      refine lv_aload_n hx hb dX0_late_30 rfl (lv_at hl 1 rfl) ?_
      refine xg_all C I dX0_late_31 ?_
      refine lv_iload_n hx hb dX0_late_34 rfl (lv_at hl 2 rfl) ?_
      refine xa_all C I hg3 dX0_late_35 ?_
      refine lv_iload_n hx hb dX0_late_36 rfl (lv_at hl 3 rfl) ?_
      refine xcp0_late C I (isCar_of hg3) dX0_late_37 (fun M4 H locs eM4 I => ?_)
      have h := h M4 eM4
      refine lv_iload_n hx hb dX0_late_40 rfl (lv_at hl 0 rfl) ?_
      exact hQ _ _ _ _ _ _ h I dX0_late_41
    · have h := h.1 c
      exact t0_late_b17 C hQ M _ _ _ h I (lv_sub hl [0] rfl)
theorem met0_late (l : Launch) (D : va_G) (T ad ra : Nat → Nat) (v1 : Int32) (v2 : Int32) (M : Mem) {Qp : Int32 → Mem → Prop} (h : w0_late v1 v2 M Qp) (sz : Nat) : Met l yX0_late (ws_ yX0_late cX0_late 4 (some .int)) rX0_late (xPc D T ad ra 0 [.int v1, .int v2] M sz) (xQi D T ad ra M Qp sz) 0 0 (fA (cX T ad ra M) sz) :=
  x_metI (own := RX0) (As := [.int v1, .int v2]) rfl rfl (Nat.le_of_ble_eq_true rfl) (fun p e s m args below meth c A Qs ls C hQ I hl => t0_late C hQ v1 v2 M _ _ ls h I hl) sz
/-! isHour -/
abbrev rX0_isHour : Room := { frames := 1, cells := 0, slots := 0, locals := 22 }
theorem t0_isHour {p : Program} {l : Launch} {e : Env} {s : State} {m : MethodId} {args : Array Value} {below : List Frame} {meth : Method} {c : Code} {A : Nat → Prop} {H0 : Heap} {Qs : State → Prop} {Q : Int32 → Prop} (S : CallFix p m c cX0_isHour 1 s args lw_all RX0) (hA : ∀ q, H0.size ≤ q → A q) (hQ : pExi p l e rX0_isHour s m args below meth c cX0_isHour A H0 Qs Q) (v0 : Int32) (H : Heap) (locs : List Loc) (ls : Array Slot) (h : w0_isHour_z v0 Q) (hS : va_S A H0 H locs) (hl : lv_has ls 1 [(0, .int v0)]) : W p l e rX0_isHour s m args below meth c H locs 0 0 Qs (F0 m 0 ls []) := by
  have hx := S.1
  have hb := S.2.1
  have how := S.2.2.2.1
  have hts := S.2.2.2.2
  unfold w0_isHour_z at h
  refine lv_iload_n hx hb dX0_isHour_0 rfl (lv_at hl 0 rfl) ?_
  refine lv_iconst (v := 0) hx hb dX0_isHour_1 (by decide) ?_
  refine lv_bipush (v := 39) hx hb dX0_isHour_2 (by decide) ?_
  refine p_calli (As := [.int v0, .int 0, .int 39]) (rest := []) S hS hA (met0_in l v0 0 39 h) (cw0_5 hts ⟨Nat.le_of_ble_eq_true rfl, Nat.le_of_ble_eq_true rfl⟩) rfl hl.1 rfl (Nat.le_of_ble_eq_true rfl) ⟨Nat.zero_le _, Nat.zero_le _⟩ dX0_isHour_4 (fun r1 H locs h _ hS => ?_)
  exact hQ _ _ _ _ _ h hS dX0_isHour_7
theorem met0_isHour (l : Launch) (v0 : Int32) {Qp : Int32 → Prop} (h : w0_isHour v0 Qp) (sz : Nat) : Met l yX0_isHour (ws_ yX0_isHour cX0_isHour 1 (some .boolean)) rX0_isHour (pPc [.int v0] sz) (pQi Qp sz) 0 0 (pA sz) :=
  p_metZ (As := [.int v0]) rfl (Nat.le_of_ble_eq_true rfl) (fun p e s m args below meth c Qs ls S hQ hl => t0_isHour S (fun q h => h) hQ v0 _ _ ls h va_S.rf hl) sz
/-! more -/
abbrev rX0_more : Room := { frames := 2, cells := 0, slots := 0, locals := 42 }
theorem cw0_138 {R : Room} {s : State} {args : Array Value} (hts : ∀ w ∈ lw_all, w.before args s = true) (hR : rX0_isHour.frames + 1 ≤ R.frames ∧ 8 + (1 + 11) + rX0_isHour.locals ≤ R.locals) : CallB R s args RX0 138 yX0_isHour cX0_isHour 1 (some .boolean) (ws_ yX0_isHour cX0_isHour 1 (some .boolean)) rX0_isHour 0 0 1 ∧ (Cond.static yX0_isHour).before args s = true := va_cwS 1 hts (lw_S q225 q226 q89 q227) rfl rfl rfl (by decide +kernel) hR
theorem t0_more_b14 {p : Program} {l : Launch} {e : Env} {s : State} {m : MethodId} {args : Array Value} {below : List Frame} {meth : Method} {c : Code} {D : va_G} {T ad : Nat → Nat} {A : Nat → Prop} {H0 : Heap} {Qs : State → Prop} {Q : Int32 → Mem → Prop}  (C : XC D T RX0 p m c cX0_more 3 s args) (hQ : xExi p l e rX0_more s m args below meth c cX0_more D T ad A H0 Qs Q)   (M : Mem) (H : Heap) (locs : List Loc) (ls : Array Slot) (h : w0_more_b14 Q M) (I : XI D T ad A H0 M H locs) (hl : lv_has ls 3 [(0, .ref (ad 0))]) : W p l e rX0_more s m args below meth c H locs 0 0 Qs (F0 m 14 ls []) := by
  have hx := C.1.1
  have hb := C.1.2.1
  have how := C.1.2.2.2.1
  have hts := C.1.2.2.2.2
  unfold w0_more_b14 at h
  refine lv_bipush (v := -2) hx hb dX0_more_14 (by decide) ?_
  exact hQ _ _ _ _ _ _ h I dX0_more_16
theorem t0_more {p : Program} {l : Launch} {e : Env} {s : State} {m : MethodId} {args : Array Value} {below : List Frame} {meth : Method} {c : Code} {D : va_G} {T ad : Nat → Nat} {A : Nat → Prop} {H0 : Heap} {Qs : State → Prop} {Q : Int32 → Mem → Prop} (C : XC D T RX0 p m c cX0_more 3 s args) (hQ : xExi p l e rX0_more s m args below meth c cX0_more D T ad A H0 Qs Q) (v1 : Int32) (v2 : Int32) (M : Mem) (H : Heap) (locs : List Loc) (ls : Array Slot) (h : w0_more v1 v2 M Q) (I : XI D T ad A H0 M H locs) (hl : lv_has ls 3 [(0, .ref (ad 0)), (1, .int v1), (2, .int v2)]) : W p l e rX0_more s m args below meth c H locs 0 0 Qs (F0 m 0 ls []) := by
  have hx := C.1.1
  have hb := C.1.2.1
  have how := C.1.2.2.2.1
  have hts := C.1.2.2.2.2
  unfold w0_more at h
  refine lv_iload_n hx hb dX0_more_0 rfl (lv_at hl 1 rfl) ?_
  refine x_purei (As := [.int v1]) (rest := []) C I (met0_isHour l v1 h) (cw0_138 hts ⟨Nat.le_of_ble_eq_true rfl, Nat.le_of_ble_eq_true rfl⟩) rfl hl.1 rfl (Nat.le_of_ble_eq_true rfl) ⟨Nat.zero_le _, Nat.zero_le _⟩ dX0_more_1 (fun r1 H locs h I => ?_)
  refine lv_if_eq (tgt := 14) hx hb dX0_more_4 (by decide) (fun c => ?_) (fun c => ?_)
  · have h := h.1 c
    exact t0_more_b14 C hQ M _ _ _ h I (lv_sub hl [0] rfl)
  · have h := h.2 c
    refine lv_iload_n hx hb dX0_more_7 rfl (lv_at hl 2 rfl) ?_
    refine x_purei (As := [.int v2]) (rest := []) C I (met0_isPlace l v2 h) (cw0_29 hts ⟨Nat.le_of_ble_eq_true rfl, Nat.le_of_ble_eq_true rfl⟩) rfl hl.1 rfl (Nat.le_of_ble_eq_true rfl) ⟨Nat.zero_le _, Nat.zero_le _⟩ dX0_more_8 (fun r2 H locs h I => ?_)
    refine lv_if_ne (tgt := 17) hx hb dX0_more_11 (by decide) (fun c => ?_) (fun c => ?_)
    · have h := h.2 c
      refine lv_aload_n hx hb dX0_more_17 rfl (lv_at hl 0 rfl) ?_
      refine xg_answers C I dX0_more_18 ?_
      refine lv_bipush (v := 8) hx hb dX0_more_21 (by decide) ?_
      refine lv_icmp_ne (tgt := 29) hx hb dX0_more_23 (by decide) (fun c => ?_) (fun c => ?_)
      · have h := h.2 c
        refine lv_aload_n hx hb dX0_more_29 rfl (lv_at hl 0 rfl) ?_
        refine xg_answerHour C I dX0_more_30 ?_
        refine lv_aload_n hx hb dX0_more_33 rfl (lv_at hl 0 rfl) ?_
        refine xg_answers C I dX0_more_34 ?_
        refine lv_iload_n hx hb dX0_more_37 rfl (lv_at hl 1 rfl) ?_
        obtain ⟨hg3, h⟩ := h
        refine x_iast C I 12 8 rfl hg3 dX0_more_38 (fun M4 H locs eM4 I => ?_)
        have h := h M4 eM4
        refine lv_aload_n hx hb dX0_more_39 rfl (lv_at hl 0 rfl) ?_
        refine xg_answerPlace C I dX0_more_40 ?_
        refine lv_aload_n hx hb dX0_more_43 rfl (lv_at hl 0 rfl) ?_
        refine xg_answers C I dX0_more_44 ?_
        refine lv_iload_n hx hb dX0_more_47 rfl (lv_at hl 2 rfl) ?_
        obtain ⟨hg5, h⟩ := h
        refine x_iast C I 13 8 rfl hg5 dX0_more_48 (fun M6 H locs eM6 I => ?_)
        have h := h M6 eM6
        refine lv_aload_n hx hb dX0_more_49 rfl (lv_at hl 0 rfl) ?_
        refine lv_dup hx hb dX0_more_50 rfl ?_
        refine xg_answers C I dX0_more_51 ?_
        refine lv_iconst (v := 1) hx hb dX0_more_54 (by decide) ?_
        refine lv_iadd hx hb dX0_more_55 ?_
        refine xp_answers C I dX0_more_56 (fun M7 H locs eM7 I => ?_)
        have h := h M7 eM7
        refine lv_aload_n hx hb dX0_more_59 rfl (lv_at hl 0 rfl) ?_
        refine xg_answers C I dX0_more_60 ?_
        exact hQ _ _ _ _ _ _ h I dX0_more_63
      · have h := h.1 c
        refine lv_bipush (v := -4) hx hb dX0_more_26 (by decide) ?_
        exact hQ _ _ _ _ _ _ h I dX0_more_28
    · have h := h.1 c
      exact t0_more_b14 C hQ M _ _ _ h I (lv_sub hl [0] rfl)
theorem met0_more (l : Launch) (D : va_G) (T ad ra : Nat → Nat) (v1 : Int32) (v2 : Int32) (M : Mem) {Qp : Int32 → Mem → Prop} (h : w0_more v1 v2 M Qp) (sz : Nat) : Met l yX0_more (ws_ yX0_more cX0_more 3 (some .int)) rX0_more (xPc D T ad ra 0 [.int v1, .int v2] M sz) (xQi D T ad ra M Qp sz) 0 0 (fA (cX T ad ra M) sz) :=
  x_metI (own := RX0) (As := [.int v1, .int v2]) rfl rfl (Nat.le_of_ble_eq_true rfl) (fun p e s m args below meth c A Qs ls C hQ I hl => t0_more C hQ v1 v2 M _ _ ls h I hl) sz
/-! answer -/
abbrev rX0_answer : Room := { frames := 3, cells := 0, slots := 0, locals := 64 }
theorem cw0_150 {R : Room} {s : State} {args : Array Value} (hts : ∀ w ∈ lw_all, w.before args s = true) (hR : rX0_more.frames + 1 ≤ R.frames ∧ 8 + (3 + 11) + rX0_more.locals ≤ R.locals) : CallW R s args RX0 RX0 150 yX0_more cX0_more 3 (some .int) (ws_ yX0_more cX0_more 3 (some .int)) rX0_more 0 0 2 := cwV 2 hts (lw_V q221 q223 qs13 q89 q224) rfl rfl rfl (by decide +kernel) hR
theorem t0_answer {p : Program} {l : Launch} {e : Env} {s : State} {m : MethodId} {args : Array Value} {below : List Frame} {meth : Method} {c : Code} {D : va_G} {T ad : Nat → Nat} {A : Nat → Prop} {H0 : Heap} {Qs : State → Prop} {Q : Int32 → Mem → Prop} (C : XC D T RX0 p m c cX0_answer 3 s args) (hQ : xExi p l e rX0_answer s m args below meth c cX0_answer D T ad A H0 Qs Q) (v1 : Int32) (v2 : Int32) (M : Mem) (H : Heap) (locs : List Loc) (ls : Array Slot) (h : w0_answer v1 v2 M Q) (I : XI D T ad A H0 M H locs) (hl : lv_has ls 3 [(0, .ref (ad 0)), (1, .int v1), (2, .int v2)]) : W p l e rX0_answer s m args below meth c H locs 0 0 Qs (F0 m 0 ls []) := by
  have hx := C.1.1
  have hb := C.1.2.1
  have how := C.1.2.2.2.1
  have hts := C.1.2.2.2.2
  unfold w0_answer at h
  refine lv_aload_n hx hb dX0_answer_0 rfl (lv_at hl 0 rfl) ?_
  refine lv_iload_n hx hb dX0_answer_1 rfl (lv_at hl 1 rfl) ?_
  refine lv_iload_n hx hb dX0_answer_2 rfl (lv_at hl 2 rfl) ?_
  refine x_calli (As := [.int v1, .int v2]) (rest := []) C I (fun ra => met0_more l D T ad ra v1 v2 M h) (cw0_150 hts ⟨Nat.le_of_ble_eq_true rfl, Nat.le_of_ble_eq_true rfl⟩) rfl hl.1 rfl (Nat.le_of_ble_eq_true rfl) ⟨Nat.zero_le _, Nat.zero_le _⟩ dX0_answer_3 (fun r1 M2 H locs h I => ?_)
  exact hQ _ _ _ _ _ _ h I dX0_answer_6
theorem met0_answer (l : Launch) (D : va_G) (T ad ra : Nat → Nat) (v1 : Int32) (v2 : Int32) (M : Mem) {Qp : Int32 → Mem → Prop} (h : w0_answer v1 v2 M Qp) (sz : Nat) : Met l yX0_answer (ws_ yX0_answer cX0_answer 3 (some .int)) rX0_answer (xPc D T ad ra 0 [.int v1, .int v2] M sz) (xQi D T ad ra M Qp sz) 0 0 (fA (cX T ad ra M) sz) :=
  x_metI (own := RX0) (As := [.int v1, .int v2]) rfl rfl (Nat.le_of_ble_eq_true rfl) (fun p e s m args below meth c A Qs ls C hQ I hl => t0_answer C hQ v1 v2 M _ _ ls h I hl) sz
/-! back -/
abbrev rX0_back : Room := { frames := 0, cells := 0, slots := 0, locals := 0 }
theorem t0_back {p : Program} {l : Launch} {e : Env} {s : State} {m : MethodId} {args : Array Value} {below : List Frame} {meth : Method} {c : Code} {D : va_G} {T ad : Nat → Nat} {A : Nat → Prop} {H0 : Heap} {Qs : State → Prop} {Q : Int32 → Mem → Prop} (C : XC D T RX0 p m c cX0_back 1 s args) (hQ : xExi p l e rX0_back s m args below meth c cX0_back D T ad A H0 Qs Q)  (M : Mem) (H : Heap) (locs : List Loc) (ls : Array Slot) (h : w0_back M Q) (I : XI D T ad A H0 M H locs) (hl : lv_has ls 1 [(0, .ref (ad 0))]) : W p l e rX0_back s m args below meth c H locs 0 0 Qs (F0 m 0 ls []) := by
  have hx := C.1.1
  have hb := C.1.2.1
  have how := C.1.2.2.2.1
  have hts := C.1.2.2.2.2
  unfold w0_back at h
  refine lv_aload_n hx hb dX0_back_0 rfl (lv_at hl 0 rfl) ?_
  refine xg_answers C I dX0_back_1 ?_
  refine lv_if_ne (tgt := 10) hx hb dX0_back_4 (by decide) (fun c => ?_) (fun c => ?_)
  · have h := h.2 c
    refine lv_aload_n hx hb dX0_back_10 rfl (lv_at hl 0 rfl) ?_
    refine lv_dup hx hb dX0_back_11 rfl ?_
    refine xg_answers C I dX0_back_12 ?_
    refine lv_iconst (v := 1) hx hb dX0_back_15 (by decide) ?_
    refine lv_isub hx hb dX0_back_16 ?_
    refine xp_answers C I dX0_back_17 (fun M1 H locs eM1 I => ?_)
    have h := h M1 eM1
    refine lv_aload_n hx hb dX0_back_20 rfl (lv_at hl 0 rfl) ?_
    refine xg_answers C I dX0_back_21 ?_
    exact hQ _ _ _ _ _ _ h I dX0_back_24
  · have h := h.1 c
    refine lv_bipush (v := -3) hx hb dX0_back_7 (by decide) ?_
    exact hQ _ _ _ _ _ _ h I dX0_back_9
theorem met0_back (l : Launch) (D : va_G) (T ad ra : Nat → Nat)  (M : Mem) {Qp : Int32 → Mem → Prop} (h : w0_back M Qp) (sz : Nat) : Met l yX0_back (ws_ yX0_back cX0_back 1 (some .int)) rX0_back (xPc D T ad ra 0 [] M sz) (xQi D T ad ra M Qp sz) 0 0 (fA (cX T ad ra M) sz) :=
  x_metI (own := RX0) (As := []) rfl rfl (Nat.le_of_ble_eq_true rfl) (fun p e s m args below meth c A Qs ls C hQ I hl => t0_back C hQ M _ _ ls h I hl) sz
/-! isSheet -/
abbrev rX0_isSheet : Room := { frames := 1, cells := 0, slots := 0, locals := 22 }
theorem t0_isSheet {p : Program} {l : Launch} {e : Env} {s : State} {m : MethodId} {args : Array Value} {below : List Frame} {meth : Method} {c : Code} {A : Nat → Prop} {H0 : Heap} {Qs : State → Prop} {Q : Int32 → Prop} (S : CallFix p m c cX0_isSheet 1 s args lw_all RX0) (hA : ∀ q, H0.size ≤ q → A q) (hQ : pExi p l e rX0_isSheet s m args below meth c cX0_isSheet A H0 Qs Q) (v0 : Int32) (H : Heap) (locs : List Loc) (ls : Array Slot) (h : w0_isSheet_z v0 Q) (hS : va_S A H0 H locs) (hl : lv_has ls 1 [(0, .int v0)]) : W p l e rX0_isSheet s m args below meth c H locs 0 0 Qs (F0 m 0 ls []) := by
  have hx := S.1
  have hb := S.2.1
  have how := S.2.2.2.1
  have hts := S.2.2.2.2
  unfold w0_isSheet_z at h
  refine lv_iload_n hx hb dX0_isSheet_0 rfl (lv_at hl 0 rfl) ?_
  refine lv_iconst (v := 0) hx hb dX0_isSheet_1 (by decide) ?_
  refine lv_iconst (v := 3) hx hb dX0_isSheet_2 (by decide) ?_
  refine p_calli (As := [.int v0, .int 0, .int 3]) (rest := []) S hS hA (met0_in l v0 0 3 h) (cw0_5 hts ⟨Nat.le_of_ble_eq_true rfl, Nat.le_of_ble_eq_true rfl⟩) rfl hl.1 rfl (Nat.le_of_ble_eq_true rfl) ⟨Nat.zero_le _, Nat.zero_le _⟩ dX0_isSheet_3 (fun r1 H locs h _ hS => ?_)
  exact hQ _ _ _ _ _ h hS dX0_isSheet_6
theorem met0_isSheet (l : Launch) (v0 : Int32) {Qp : Int32 → Prop} (h : w0_isSheet v0 Qp) (sz : Nat) : Met l yX0_isSheet (ws_ yX0_isSheet cX0_isSheet 1 (some .boolean)) rX0_isSheet (pPc [.int v0] sz) (pQi Qp sz) 0 0 (pA sz) :=
  p_metZ (As := [.int v0]) rfl (Nat.le_of_ble_eq_true rfl) (fun p e s m args below meth c Qs ls S hQ hl => t0_isSheet S (fun q h => h) hQ v0 _ _ ls h va_S.rf hl) sz
/-! meets -/
abbrev rX0_meets : Room := { frames := 0, cells := 0, slots := 0, locals := 0 }
theorem t0_meets {p : Program} {l : Launch} {e : Env} {s : State} {m : MethodId} {args : Array Value} {below : List Frame} {meth : Method} {c : Code} {D : va_G} {T ad : Nat → Nat} {A : Nat → Prop} {H0 : Heap} {Qs : State → Prop} {Q : Int32 → Mem → Prop} (C : XC D T RX0 p m c cX0_meets 2 s args) (hQ : xExi p l e rX0_meets s m args below meth c cX0_meets D T ad A H0 Qs Q) (v1 : Int32) (M : Mem) (H : Heap) (locs : List Loc) (ls : Array Slot) (h : w0_meets v1 M Q) (I : XI D T ad A H0 M H locs) (hl : lv_has ls 2 [(0, .ref (ad 0)), (1, .int v1)]) : W p l e rX0_meets s m args below meth c H locs 0 0 Qs (F0 m 0 ls []) := by
  have hx := C.1.1
  have hb := C.1.2.1
  have how := C.1.2.2.2.1
  have hts := C.1.2.2.2.2
  unfold w0_meets at h
  refine lv_aload_n hx hb dX0_meets_0 rfl (lv_at hl 0 rfl) ?_
  refine lv_iload_n hx hb dX0_meets_1 rfl (lv_at hl 1 rfl) ?_
  refine xp_finding C I dX0_meets_2 (fun M1 H locs eM1 I => ?_)
  have h := h M1 eM1
  refine lv_bipush (v := -10) hx hb dX0_meets_5 (by decide) ?_
  refine lv_iload_n hx hb dX0_meets_7 rfl (lv_at hl 1 rfl) ?_
  refine lv_isub hx hb dX0_meets_8 ?_
  exact hQ _ _ _ _ _ _ h I dX0_meets_9
theorem met0_meets (l : Launch) (D : va_G) (T ad ra : Nat → Nat) (v1 : Int32) (M : Mem) {Qp : Int32 → Mem → Prop} (h : w0_meets v1 M Qp) (sz : Nat) : Met l yX0_meets (ws_ yX0_meets cX0_meets 2 (some .int)) rX0_meets (xPc D T ad ra 0 [.int v1] M sz) (xQi D T ad ra M Qp sz) 0 0 (fA (cX T ad ra M) sz) :=
  x_metI (own := RX0) (As := [.int v1]) rfl rfl (Nat.le_of_ble_eq_true rfl) (fun p e s m args below meth c A Qs ls C hQ I hl => t0_meets C hQ v1 M _ _ ls h I hl) sz
/-! joins -/
abbrev rX0_joins : Room := { frames := 1, cells := 0, slots := 0, locals := 21 }
theorem t0_joins {p : Program} {l : Launch} {e : Env} {s : State} {m : MethodId} {args : Array Value} {below : List Frame} {meth : Method} {c : Code} {D : va_G} {T ad : Nat → Nat} {A : Nat → Prop} {H0 : Heap} {Qs : State → Prop} {Q : Mem → Prop} (C : XC D T RX0 p m c cX0_joins 4 s args) (hQ : xExv p l e rX0_joins s m args below meth c cX0_joins D T ad A H0 Qs Q) (v1 : Int32) (v2 : Int32) (v3 : Int32) (M : Mem) (H : Heap) (locs : List Loc) (ls : Array Slot) (h : w0_joins v1 v2 v3 M Q) (I : XI D T ad A H0 M H locs) (hl : lv_has ls 4 [(0, .ref (ad 0)), (1, .int v1), (2, .int v2), (3, .int v3)]) : W p l e rX0_joins s m args below meth c H locs 0 0 Qs (F0 m 0 ls []) := by
  have hx := C.1.1
  have hb := C.1.2.1
  have how := C.1.2.2.2.1
  have hts := C.1.2.2.2.2
  unfold w0_joins at h
  refine lv_aload_n hx hb dX0_joins_0 rfl (lv_at hl 0 rfl) ?_
  refine xg_beside C I dX0_joins_1 ?_
  refine lv_iload_n hx hb dX0_joins_4 rfl (lv_at hl 1 rfl) ?_
  obtain ⟨hg1, h⟩ := h
  refine xa_beside C I hg1 dX0_joins_5 ?_
  refine lv_iload_n hx hb dX0_joins_6 rfl (lv_at hl 2 rfl) ?_
  refine lv_aload_n hx hb dX0_joins_7 rfl (lv_at hl 0 rfl) ?_
  refine xg_beside C I dX0_joins_8 ?_
  refine lv_iload_n hx hb dX0_joins_11 rfl (lv_at hl 1 rfl) ?_
  refine xa_beside C I hg1 dX0_joins_12 ?_
  refine lv_iload_n hx hb dX0_joins_13 rfl (lv_at hl 2 rfl) ?_
  obtain ⟨hg2, h⟩ := h
  refine x_iald C I (40 + ci v1) (lenX (40 + ci v1)) rfl hg2 dX0_joins_14 ?_
  refine lv_iload_n hx hb dX0_joins_15 rfl (lv_at hl 3 rfl) ?_
  refine x_min (x := (M (40 + ci v1) (ci v2))) (z := v3) C hl.1 (Nat.le_of_ble_eq_true rfl) (Nat.le_of_ble_eq_true rfl) ⟨Nat.zero_le _, Nat.zero_le _⟩ dX0_joins_16 ?_
  refine x_iast C I (40 + ci v1) (lenX (40 + ci v1)) rfl hg2 dX0_joins_19 (fun M3 H locs eM3 I => ?_)
  have h := h M3 eM3
  exact hQ _ _ _ _ _ h I dX0_joins_20
theorem met0_joins (l : Launch) (D : va_G) (T ad ra : Nat → Nat) (v1 : Int32) (v2 : Int32) (v3 : Int32) (M : Mem) {Qp : Mem → Prop} (h : w0_joins v1 v2 v3 M Qp) (sz : Nat) : Met l yX0_joins (ws_ yX0_joins cX0_joins 4 none) rX0_joins (xPc D T ad ra 0 [.int v1, .int v2, .int v3] M sz) (xQv D T ad ra M Qp sz) 0 0 (fA (cX T ad ra M) sz) :=
  x_metV (own := RX0) (As := [.int v1, .int v2, .int v3]) rfl rfl (Nat.le_of_ble_eq_true rfl) (fun p e s m args below meth c A Qs ls C hQ I hl => t0_joins C hQ v1 v2 v3 M _ _ ls h I hl) sz
/-! measures -/
abbrev rX0_measures : Room := { frames := 2, cells := 0, slots := 0, locals := 60 }
theorem cw0_183 {R : Room} {s : State} {args : Array Value} (hts : ∀ w ∈ lw_all, w.before args s = true) (hR : rX0_joins.frames + 1 ≤ R.frames ∧ 8 + (4 + 11) + rX0_joins.locals ≤ R.locals) : CallW R s args RX0 RX0 183 yX0_joins cX0_joins 4 none (ws_ yX0_joins cX0_joins 4 none) rX0_joins 0 0 3 := cwV 3 hts (lw_V q272 q274 qs17 q89 q275) rfl rfl rfl (by decide +kernel) hR
theorem t0_measures_b184_f {p : Program} {l : Launch} {e : Env} {s : State} {m : MethodId} {args : Array Value} {below : List Frame} {meth : Method} {c : Code} {D : va_G} {T ad : Nat → Nat} {A : Nat → Prop} {H0 : Heap} {Qs : State → Prop} {Q : Mem → Prop} {K167 : Int32 → Mem → Prop} {K175 : Int32 → Int32 → Mem → Prop} {K184 : Int32 → Int32 → Int32 → Mem → Prop} (C : XC D T RX0 p m c cX0_measures 5 s args) (hQ : xExv p l e rX0_measures s m args below meth c cX0_measures D T ad A H0 Qs Q) (hK167 : ∀ (v2 : Int32) (M : Mem) (H : Heap) (locs : List Loc) (ls : Array Slot), K167 v2 M → XI D T ad A H0 M H locs → lv_has ls 5 [(0, .ref (ad 0)), (2, .int v2)] → W p l e rX0_measures s m args below meth c H locs 0 0 Qs (F0 m 167 ls [])) (hK175 : ∀ (v2 : Int32) (v3 : Int32) (M : Mem) (H : Heap) (locs : List Loc) (ls : Array Slot), K175 v2 v3 M → XI D T ad A H0 M H locs → lv_has ls 5 [(0, .ref (ad 0)), (2, .int v2), (3, .int v3)] → W p l e rX0_measures s m args below meth c H locs 0 0 Qs (F0 m 175 ls [])) (hK184 : ∀ (v2 : Int32) (v3 : Int32) (v4 : Int32) (M : Mem) (H : Heap) (locs : List Loc) (ls : Array Slot), K184 v2 v3 v4 M → XI D T ad A H0 M H locs → lv_has ls 5 [(0, .ref (ad 0)), (2, .int v2), (3, .int v3), (4, .int v4)] → W p l e rX0_measures s m args below meth c H locs 0 0 Qs (F0 m 184 ls [])) (v2 : Int32) (v3 : Int32) (v4 : Int32) (M : Mem) (H : Heap) (locs : List Loc) (ls : Array Slot) (h : w0_measures_b184_f Q K167 K175 K184 v2 v3 v4 M) (I : XI D T ad A H0 M H locs) (hl : lv_has ls 5 [(0, .ref (ad 0)), (2, .int v2), (3, .int v3), (4, .int v4)]) : W p l e rX0_measures s m args below meth c H locs 0 0 Qs (F0 m 184 ls []) := by
  have hx := C.1.1
  have hb := C.1.2.1
  have how := C.1.2.2.2.1
  have hts := C.1.2.2.2.2
  unfold w0_measures_b184_f at h
  refine lv_iload hx hb dX0_measures_184 (lv_at hl 3 rfl) ?_
  refine lv_bipush (v := 8) hx hb dX0_measures_186 (by decide) ?_
  refine lv_icmp_ge (tgt := 236) hx hb dX0_measures_188 (by decide) (fun c => ?_) (fun c => ?_)
  · have h := h.1 c
    refine lv_iinc (v := (v3 + 1)) (lv' := [(3, .int (v3 + 1)), (0, .ref (ad 0)), (2, .int v2), (4, .int v4)]) hx hb dX0_measures_236 hl (k := 2) rfl (ii_1 _) (by decide) rfl (fun ls hl => ?_)
    refine lv_goto (tgt := 175) hx hb dX0_measures_239 (by decide) ?_
    exact hK175 v2 (v3 + 1) M _ _ _ h I (lv_sub hl [1, 2, 0] rfl)
  · have h := h.2 c
    refine lv_aload_n hx hb dX0_measures_191 rfl (lv_at hl 0 rfl) ?_
    refine xg_farNow C I dX0_measures_192 ?_
    refine lv_iload_n hx hb dX0_measures_195 rfl (lv_at hl 2 rfl) ?_
    obtain ⟨hg1, h⟩ := h
    refine xa_farNow C I hg1 dX0_measures_196 ?_
    refine lv_iload hx hb dX0_measures_197 (lv_at hl 3 rfl) ?_
    refine lv_aload_n hx hb dX0_measures_199 rfl (lv_at hl 0 rfl) ?_
    refine xg_farNow C I dX0_measures_200 ?_
    refine lv_iload_n hx hb dX0_measures_203 rfl (lv_at hl 2 rfl) ?_
    refine xa_farNow C I hg1 dX0_measures_204 ?_
    refine lv_iload hx hb dX0_measures_205 (lv_at hl 3 rfl) ?_
    obtain ⟨hg2, h⟩ := h
    refine x_iald C I (50 + ci v3) (lenX (50 + ci v3)) rfl hg2 dX0_measures_207 ?_
    refine lv_aload_n hx hb dX0_measures_208 rfl (lv_at hl 0 rfl) ?_
    refine xg_farNow C I dX0_measures_209 ?_
    refine lv_iload_n hx hb dX0_measures_212 rfl (lv_at hl 2 rfl) ?_
    refine xa_farNow C I hg1 dX0_measures_213 ?_
    refine lv_iload_n hx hb dX0_measures_214 rfl (lv_at hl 1 rfl) ?_
    obtain ⟨hg3, h⟩ := h
    refine x_iald C I (50 + ci v3) (lenX (50 + ci v3)) rfl hg3 dX0_measures_215 ?_
    refine lv_aload_n hx hb dX0_measures_216 rfl (lv_at hl 0 rfl) ?_
    refine xg_farNow C I dX0_measures_217 ?_
    refine lv_iload_n hx hb dX0_measures_220 rfl (lv_at hl 1 rfl) ?_
    obtain ⟨hg4, h⟩ := h
    refine xa_farNow C I hg4 dX0_measures_221 ?_
    refine lv_iload hx hb dX0_measures_222 (lv_at hl 3 rfl) ?_
    obtain ⟨hg5, h⟩ := h
    refine x_iald C I (50 + ci v2) (lenX (50 + ci v2)) rfl hg5 dX0_measures_224 ?_
    refine lv_iadd hx hb dX0_measures_225 ?_
    refine x_min (x := (M (50 + ci v3) (ci v4))) (z := ((M (50 + ci v3) (ci v2)) + (M (50 + ci v2) (ci v4)))) C hl.1 (Nat.le_of_ble_eq_true rfl) (Nat.le_of_ble_eq_true rfl) ⟨Nat.zero_le _, Nat.zero_le _⟩ dX0_measures_226 ?_
    refine x_iast C I (50 + ci v3) (lenX (50 + ci v3)) rfl hg2 dX0_measures_229 (fun M6 H locs eM6 I => ?_)
    have h := h M6 eM6
    refine lv_iinc (v := (v4 + 1)) (lv' := [(4, .int (v4 + 1)), (0, .ref (ad 0)), (2, .int v2), (3, .int v3)]) hx hb dX0_measures_230 hl (k := 3) rfl (ii_1 _) (by decide) rfl (fun ls hl => ?_)
    refine lv_goto (tgt := 184) hx hb dX0_measures_233 (by decide) ?_
    exact hK184 v2 v3 (v4 + 1) M6 _ _ _ h I (lv_sub hl [1, 2, 3, 0] rfl)
theorem t0_measures_b184 {p : Program} {l : Launch} {e : Env} {s : State} {m : MethodId} {args : Array Value} {below : List Frame} {meth : Method} {c : Code} {D : va_G} {T ad : Nat → Nat} {A : Nat → Prop} {H0 : Heap} {Qs : State → Prop} {Q : Mem → Prop} {K167 : Int32 → Mem → Prop} {K175 : Int32 → Int32 → Mem → Prop} (C : XC D T RX0 p m c cX0_measures 5 s args) (hQ : xExv p l e rX0_measures s m args below meth c cX0_measures D T ad A H0 Qs Q) (hK167 : ∀ (v2 : Int32) (M : Mem) (H : Heap) (locs : List Loc) (ls : Array Slot), K167 v2 M → XI D T ad A H0 M H locs → lv_has ls 5 [(0, .ref (ad 0)), (2, .int v2)] → W p l e rX0_measures s m args below meth c H locs 0 0 Qs (F0 m 167 ls [])) (hK175 : ∀ (v2 : Int32) (v3 : Int32) (M : Mem) (H : Heap) (locs : List Loc) (ls : Array Slot), K175 v2 v3 M → XI D T ad A H0 M H locs → lv_has ls 5 [(0, .ref (ad 0)), (2, .int v2), (3, .int v3)] → W p l e rX0_measures s m args below meth c H locs 0 0 Qs (F0 m 175 ls [])) : ∀ (n : Nat) (v2 : Int32) (v3 : Int32) (v4 : Int32) (M : Mem) (H : Heap) (locs : List Loc) (ls : Array Slot), w0_measures_b184 Q K167 K175 n v2 v3 v4 M → XI D T ad A H0 M H locs → lv_has ls 5 [(0, .ref (ad 0)), (2, .int v2), (3, .int v3), (4, .int v4)] → W p l e rX0_measures s m args below meth c H locs 0 0 Qs (F0 m 184 ls []) := by
  intro n
  induction n with
  | zero => intro v2 v3 v4 M H locs ls h; exact h.elim
  | succ n ih => intro v2 v3 v4 M H locs ls h I hl; exact t0_measures_b184_f C hQ hK167 hK175 ih v2 v3 v4 M H locs ls h I hl
theorem t0_measures_b175_f {p : Program} {l : Launch} {e : Env} {s : State} {m : MethodId} {args : Array Value} {below : List Frame} {meth : Method} {c : Code} {D : va_G} {T ad : Nat → Nat} {A : Nat → Prop} {H0 : Heap} {Qs : State → Prop} {Q : Mem → Prop} {K167 : Int32 → Mem → Prop} {K175 : Int32 → Int32 → Mem → Prop} (C : XC D T RX0 p m c cX0_measures 5 s args) (hQ : xExv p l e rX0_measures s m args below meth c cX0_measures D T ad A H0 Qs Q) (hK167 : ∀ (v2 : Int32) (M : Mem) (H : Heap) (locs : List Loc) (ls : Array Slot), K167 v2 M → XI D T ad A H0 M H locs → lv_has ls 5 [(0, .ref (ad 0)), (2, .int v2)] → W p l e rX0_measures s m args below meth c H locs 0 0 Qs (F0 m 167 ls [])) (hK175 : ∀ (v2 : Int32) (v3 : Int32) (M : Mem) (H : Heap) (locs : List Loc) (ls : Array Slot), K175 v2 v3 M → XI D T ad A H0 M H locs → lv_has ls 5 [(0, .ref (ad 0)), (2, .int v2), (3, .int v3)] → W p l e rX0_measures s m args below meth c H locs 0 0 Qs (F0 m 175 ls [])) (v2 : Int32) (v3 : Int32) (M : Mem) (H : Heap) (locs : List Loc) (ls : Array Slot) (h : w0_measures_b175_f Q K167 K175 v2 v3 M) (I : XI D T ad A H0 M H locs) (hl : lv_has ls 5 [(0, .ref (ad 0)), (2, .int v2), (3, .int v3)]) : W p l e rX0_measures s m args below meth c H locs 0 0 Qs (F0 m 175 ls []) := by
  have hx := C.1.1
  have hb := C.1.2.1
  have how := C.1.2.2.2.1
  have hts := C.1.2.2.2.2
  unfold w0_measures_b175_f at h
  refine lv_iload_n hx hb dX0_measures_175 rfl (lv_at hl 2 rfl) ?_
  refine lv_bipush (v := 8) hx hb dX0_measures_176 (by decide) ?_
  refine lv_icmp_ge (tgt := 242) hx hb dX0_measures_178 (by decide) (fun c => ?_) (fun c => ?_)
  · have h := h.1 c
    refine lv_iinc (v := (v2 + 1)) (lv' := [(2, .int (v2 + 1)), (0, .ref (ad 0)), (3, .int v3)]) hx hb dX0_measures_242 hl (k := 1) rfl (ii_1 _) (by decide) rfl (fun ls hl => ?_)
    refine lv_goto (tgt := 167) hx hb dX0_measures_245 (by decide) ?_
    exact hK167 (v2 + 1) M _ _ _ h I (lv_sub hl [1, 0] rfl)
  · have h := h.2 c
    refine lv_iconst (v := 0) hx hb dX0_measures_181 (by decide) ?_
    refine lv_istore (lv' := [(4, .int 0), (0, .ref (ad 0)), (2, .int v2), (3, .int v3)]) hx hb dX0_measures_182 hl (by decide) rfl (fun ls hl => ?_)
    obtain ⟨n, h⟩ := h
    exact t0_measures_b184 C hQ hK167 hK175 n v2 v3 0 M _ _ _ h I (lv_sub hl [1, 2, 3, 0] rfl)
theorem t0_measures_b175 {p : Program} {l : Launch} {e : Env} {s : State} {m : MethodId} {args : Array Value} {below : List Frame} {meth : Method} {c : Code} {D : va_G} {T ad : Nat → Nat} {A : Nat → Prop} {H0 : Heap} {Qs : State → Prop} {Q : Mem → Prop} {K167 : Int32 → Mem → Prop} (C : XC D T RX0 p m c cX0_measures 5 s args) (hQ : xExv p l e rX0_measures s m args below meth c cX0_measures D T ad A H0 Qs Q) (hK167 : ∀ (v2 : Int32) (M : Mem) (H : Heap) (locs : List Loc) (ls : Array Slot), K167 v2 M → XI D T ad A H0 M H locs → lv_has ls 5 [(0, .ref (ad 0)), (2, .int v2)] → W p l e rX0_measures s m args below meth c H locs 0 0 Qs (F0 m 167 ls [])) : ∀ (n : Nat) (v2 : Int32) (v3 : Int32) (M : Mem) (H : Heap) (locs : List Loc) (ls : Array Slot), w0_measures_b175 Q K167 n v2 v3 M → XI D T ad A H0 M H locs → lv_has ls 5 [(0, .ref (ad 0)), (2, .int v2), (3, .int v3)] → W p l e rX0_measures s m args below meth c H locs 0 0 Qs (F0 m 175 ls []) := by
  intro n
  induction n with
  | zero => intro v2 v3 M H locs ls h; exact h.elim
  | succ n ih => intro v2 v3 M H locs ls h I hl; exact t0_measures_b175_f C hQ hK167 ih v2 v3 M H locs ls h I hl
theorem t0_measures_b167_f {p : Program} {l : Launch} {e : Env} {s : State} {m : MethodId} {args : Array Value} {below : List Frame} {meth : Method} {c : Code} {D : va_G} {T ad : Nat → Nat} {A : Nat → Prop} {H0 : Heap} {Qs : State → Prop} {Q : Mem → Prop} {K167 : Int32 → Mem → Prop} (C : XC D T RX0 p m c cX0_measures 5 s args) (hQ : xExv p l e rX0_measures s m args below meth c cX0_measures D T ad A H0 Qs Q) (hK167 : ∀ (v2 : Int32) (M : Mem) (H : Heap) (locs : List Loc) (ls : Array Slot), K167 v2 M → XI D T ad A H0 M H locs → lv_has ls 5 [(0, .ref (ad 0)), (2, .int v2)] → W p l e rX0_measures s m args below meth c H locs 0 0 Qs (F0 m 167 ls [])) (v2 : Int32) (M : Mem) (H : Heap) (locs : List Loc) (ls : Array Slot) (h : w0_measures_b167_f Q K167 v2 M) (I : XI D T ad A H0 M H locs) (hl : lv_has ls 5 [(0, .ref (ad 0)), (2, .int v2)]) : W p l e rX0_measures s m args below meth c H locs 0 0 Qs (F0 m 167 ls []) := by
  have hx := C.1.1
  have hb := C.1.2.1
  have how := C.1.2.2.2.1
  have hts := C.1.2.2.2.2
  unfold w0_measures_b167_f at h
  refine lv_iload_n hx hb dX0_measures_167 rfl (lv_at hl 1 rfl) ?_
  refine lv_bipush (v := 8) hx hb dX0_measures_168 (by decide) ?_
  refine lv_icmp_ge (tgt := 248) hx hb dX0_measures_170 (by decide) (fun c => ?_) (fun c => ?_)
  · have h := h.1 c
    exact hQ _ _ _ _ _ h I dX0_measures_248
  · have h := h.2 c
    refine lv_iconst (v := 0) hx hb dX0_measures_173 (by decide) ?_
    refine lv_istore_n (lv' := [(3, .int 0), (0, .ref (ad 0)), (2, .int v2)]) hx hb dX0_measures_174 rfl hl (by decide) rfl (fun ls hl => ?_)
    obtain ⟨n, h⟩ := h
    exact t0_measures_b175 C hQ hK167 n v2 0 M _ _ _ h I (lv_sub hl [1, 2, 0] rfl)
theorem t0_measures_b167 {p : Program} {l : Launch} {e : Env} {s : State} {m : MethodId} {args : Array Value} {below : List Frame} {meth : Method} {c : Code} {D : va_G} {T ad : Nat → Nat} {A : Nat → Prop} {H0 : Heap} {Qs : State → Prop} {Q : Mem → Prop}  (C : XC D T RX0 p m c cX0_measures 5 s args) (hQ : xExv p l e rX0_measures s m args below meth c cX0_measures D T ad A H0 Qs Q)  : ∀ (n : Nat) (v2 : Int32) (M : Mem) (H : Heap) (locs : List Loc) (ls : Array Slot), w0_measures_b167 Q n v2 M → XI D T ad A H0 M H locs → lv_has ls 5 [(0, .ref (ad 0)), (2, .int v2)] → W p l e rX0_measures s m args below meth c H locs 0 0 Qs (F0 m 167 ls []) := by
  intro n
  induction n with
  | zero => intro v2 M H locs ls h; exact h.elim
  | succ n ih => intro v2 M H locs ls h I hl; exact t0_measures_b167_f C hQ  ih v2 M H locs ls h I hl
theorem t0_measures_b134_f {p : Program} {l : Launch} {e : Env} {s : State} {m : MethodId} {args : Array Value} {below : List Frame} {meth : Method} {c : Code} {D : va_G} {T ad : Nat → Nat} {A : Nat → Prop} {H0 : Heap} {Qs : State → Prop} {Q : Mem → Prop} {K134 : Int32 → Mem → Prop} (C : XC D T RX0 p m c cX0_measures 5 s args) (hQ : xExv p l e rX0_measures s m args below meth c cX0_measures D T ad A H0 Qs Q) (hK134 : ∀ (v2 : Int32) (M : Mem) (H : Heap) (locs : List Loc) (ls : Array Slot), K134 v2 M → XI D T ad A H0 M H locs → lv_has ls 5 [(0, .ref (ad 0)), (2, .int v2)] → W p l e rX0_measures s m args below meth c H locs 0 0 Qs (F0 m 134 ls [])) (v2 : Int32) (M : Mem) (H : Heap) (locs : List Loc) (ls : Array Slot) (h : w0_measures_b134_f Q K134 v2 M) (I : XI D T ad A H0 M H locs) (hl : lv_has ls 5 [(0, .ref (ad 0)), (2, .int v2)]) : W p l e rX0_measures s m args below meth c H locs 0 0 Qs (F0 m 134 ls []) := by
  have hx := C.1.1
  have hb := C.1.2.1
  have how := C.1.2.2.2.1
  have hts := C.1.2.2.2.2
  unfold w0_measures_b134_f at h
  refine lv_iload_n hx hb dX0_measures_134 rfl (lv_at hl 1 rfl) ?_
  refine lv_bipush (v := 8) hx hb dX0_measures_135 (by decide) ?_
  refine lv_icmp_ge (tgt := 165) hx hb dX0_measures_137 (by decide) (fun c => ?_) (fun c => ?_)
  · have h := h.1 c
    refine lv_iconst (v := 0) hx hb dX0_measures_165 (by decide) ?_
    refine lv_istore_n (lv' := [(2, .int 0), (0, .ref (ad 0))]) hx hb dX0_measures_166 rfl hl (by decide) rfl (fun ls hl => ?_)
    obtain ⟨n, h⟩ := h
    exact t0_measures_b167 C hQ n 0 M _ _ _ h I (lv_sub hl [1, 0] rfl)
  · have h := h.2 c
    refine lv_aload_n hx hb dX0_measures_140 rfl (lv_at hl 0 rfl) ?_
    refine xg_beside C I dX0_measures_141 ?_
    refine lv_iload_n hx hb dX0_measures_144 rfl (lv_at hl 1 rfl) ?_
    obtain ⟨hg7, h⟩ := h
    refine xa_beside C I hg7 dX0_measures_145 ?_
    refine lv_iconst (v := 0) hx hb dX0_measures_146 (by decide) ?_
    refine lv_aload_n hx hb dX0_measures_147 rfl (lv_at hl 0 rfl) ?_
    refine xg_farNow C I dX0_measures_148 ?_
    refine lv_iload_n hx hb dX0_measures_151 rfl (lv_at hl 1 rfl) ?_
    refine xa_farNow C I hg7 dX0_measures_152 ?_
    refine lv_iconst (v := 0) hx hb dX0_measures_153 (by decide) ?_
    refine lv_bipush (v := 8) hx hb dX0_measures_154 (by decide) ?_
    obtain ⟨hg8, h⟩ := h
    obtain ⟨hg9, h⟩ := h
    obtain ⟨hg10, h⟩ := h
    obtain ⟨hg11, h⟩ := h
    obtain ⟨hg12, h⟩ := h
    refine x_copy C I (40 + ci v2) (50 + ci v2) hg8 (by decide) (by decide) (by decide) hg9 hg10 hg11 hg12 hl.1 (Nat.le_of_ble_eq_true rfl) (Nat.le_of_ble_eq_true rfl) dX0_measures_156 (fun M13 H locs eM13 I => ?_)
    have h := h M13 eM13
    refine lv_iinc (v := (v2 + 1)) (lv' := [(2, .int (v2 + 1)), (0, .ref (ad 0))]) hx hb dX0_measures_159 hl (k := 1) rfl (ii_1 _) (by decide) rfl (fun ls hl => ?_)
    refine lv_goto (tgt := 134) hx hb dX0_measures_162 (by decide) ?_
    exact hK134 (v2 + 1) M13 _ _ _ h I (lv_sub hl [1, 0] rfl)
theorem t0_measures_b134 {p : Program} {l : Launch} {e : Env} {s : State} {m : MethodId} {args : Array Value} {below : List Frame} {meth : Method} {c : Code} {D : va_G} {T ad : Nat → Nat} {A : Nat → Prop} {H0 : Heap} {Qs : State → Prop} {Q : Mem → Prop}  (C : XC D T RX0 p m c cX0_measures 5 s args) (hQ : xExv p l e rX0_measures s m args below meth c cX0_measures D T ad A H0 Qs Q)  : ∀ (n : Nat) (v2 : Int32) (M : Mem) (H : Heap) (locs : List Loc) (ls : Array Slot), w0_measures_b134 Q n v2 M → XI D T ad A H0 M H locs → lv_has ls 5 [(0, .ref (ad 0)), (2, .int v2)] → W p l e rX0_measures s m args below meth c H locs 0 0 Qs (F0 m 134 ls []) := by
  intro n
  induction n with
  | zero => intro v2 M H locs ls h; exact h.elim
  | succ n ih => intro v2 M H locs ls h I hl; exact t0_measures_b134_f C hQ  ih v2 M H locs ls h I hl
theorem t0_measures_b73 {p : Program} {l : Launch} {e : Env} {s : State} {m : MethodId} {args : Array Value} {below : List Frame} {meth : Method} {c : Code} {D : va_G} {T ad : Nat → Nat} {A : Nat → Prop} {H0 : Heap} {Qs : State → Prop} {Q : Mem → Prop} {K50 : Int32 → Int32 → Mem → Prop} (C : XC D T RX0 p m c cX0_measures 5 s args) (hQ : xExv p l e rX0_measures s m args below meth c cX0_measures D T ad A H0 Qs Q) (hK50 : ∀ (v1 : Int32) (v2 : Int32) (M : Mem) (H : Heap) (locs : List Loc) (ls : Array Slot), K50 v1 v2 M → XI D T ad A H0 M H locs → lv_has ls 5 [(0, .ref (ad 0)), (1, .int v1), (2, .int v2)] → W p l e rX0_measures s m args below meth c H locs 0 0 Qs (F0 m 50 ls [])) (v1 : Int32) (v2 : Int32) (s0 : Int32) (M : Mem) (H : Heap) (locs : List Loc) (ls : Array Slot) (h : w0_measures_b73 Q K50 v1 v2 s0 M) (I : XI D T ad A H0 M H locs) (hl : lv_has ls 5 [(0, .ref (ad 0)), (1, .int v1), (2, .int v2)]) : W p l e rX0_measures s m args below meth c H locs 0 0 Qs (F0 m 73 ls [.int s0]) := by
  have hx := C.1.1
  have hb := C.1.2.1
  have how := C.1.2.2.2.1
  have hts := C.1.2.2.2.2
  unfold w0_measures_b73 at h
  refine lv_istore_n (lv' := [(3, .int s0), (0, .ref (ad 0)), (1, .int v1), (2, .int v2)]) hx hb dX0_measures_73 rfl hl (by decide) rfl (fun ls hl => ?_)
  refine lv_aload_n hx hb dX0_measures_74 rfl (lv_at hl 1 rfl) ?_
  refine lv_aload_n hx hb dX0_measures_75 rfl (lv_at hl 1 rfl) ?_
  refine xg_wayFrom C I dX0_measures_76 ?_
  refine lv_iload_n hx hb dX0_measures_79 rfl (lv_at hl 3 rfl) ?_
  obtain ⟨hg14, h⟩ := h
  refine x_iald C I 6 10 rfl hg14 dX0_measures_80 ?_
  refine lv_aload_n hx hb dX0_measures_81 rfl (lv_at hl 1 rfl) ?_
  refine xg_wayTo C I dX0_measures_82 ?_
  refine lv_iload_n hx hb dX0_measures_85 rfl (lv_at hl 3 rfl) ?_
  refine x_iald C I 7 10 rfl hg14 dX0_measures_86 ?_
  refine lv_aload_n hx hb dX0_measures_87 rfl (lv_at hl 1 rfl) ?_
  refine xg_wayLong C I dX0_measures_88 ?_
  refine lv_iload_n hx hb dX0_measures_91 rfl (lv_at hl 3 rfl) ?_
  refine x_iald C I 8 10 rfl hg14 dX0_measures_92 ?_
  refine lv_iconst (v := 3) hx hb dX0_measures_93 (by decide) ?_
  refine lv_iload_n hx hb dX0_measures_94 rfl (lv_at hl 0 rfl) ?_
  refine lv_isub hx hb dX0_measures_95 ?_
  refine lv_imul hx hb dX0_measures_96 ?_
  refine x_callv (As := [.int (M 6 (ci v2)), .int (M 7 (ci v2)), .int ((M 8 (ci v2)) * (3 - s0))]) (rest := []) C I (fun ra => met0_joins l D T ad ra (M 6 (ci v2)) (M 7 (ci v2)) ((M 8 (ci v2)) * (3 - s0)) M h) (cw0_183 hts ⟨Nat.le_of_ble_eq_true rfl, Nat.le_of_ble_eq_true rfl⟩) rfl hl.1 rfl (Nat.le_of_ble_eq_true rfl) ⟨Nat.zero_le _, Nat.zero_le _⟩ dX0_measures_97 (fun M15 H locs h I => ?_)
  refine lv_aload_n hx hb dX0_measures_100 rfl (lv_at hl 1 rfl) ?_
  refine lv_aload_n hx hb dX0_measures_101 rfl (lv_at hl 1 rfl) ?_
  refine xg_wayTo C I dX0_measures_102 ?_
  refine lv_iload_n hx hb dX0_measures_105 rfl (lv_at hl 3 rfl) ?_
  refine x_iald C I 7 10 rfl hg14 dX0_measures_106 ?_
  refine lv_aload_n hx hb dX0_measures_107 rfl (lv_at hl 1 rfl) ?_
  refine xg_wayFrom C I dX0_measures_108 ?_
  refine lv_iload_n hx hb dX0_measures_111 rfl (lv_at hl 3 rfl) ?_
  refine x_iald C I 6 10 rfl hg14 dX0_measures_112 ?_
  refine lv_aload_n hx hb dX0_measures_113 rfl (lv_at hl 1 rfl) ?_
  refine xg_wayLong C I dX0_measures_114 ?_
  refine lv_iload_n hx hb dX0_measures_117 rfl (lv_at hl 3 rfl) ?_
  refine x_iald C I 8 10 rfl hg14 dX0_measures_118 ?_
  refine lv_iconst (v := 1) hx hb dX0_measures_119 (by decide) ?_
  refine lv_iload_n hx hb dX0_measures_120 rfl (lv_at hl 0 rfl) ?_
  refine lv_iadd hx hb dX0_measures_121 ?_
  refine lv_imul hx hb dX0_measures_122 ?_
  refine x_callv (As := [.int (M15 7 (ci v2)), .int (M15 6 (ci v2)), .int ((M15 8 (ci v2)) * (1 + s0))]) (rest := []) C I (fun ra => met0_joins l D T ad ra (M15 7 (ci v2)) (M15 6 (ci v2)) ((M15 8 (ci v2)) * (1 + s0)) M15 h) (cw0_183 hts ⟨Nat.le_of_ble_eq_true rfl, Nat.le_of_ble_eq_true rfl⟩) rfl hl.1 rfl (Nat.le_of_ble_eq_true rfl) ⟨Nat.zero_le _, Nat.zero_le _⟩ dX0_measures_123 (fun M16 H locs h I => ?_)
  refine lv_iinc (v := (v2 + 1)) (lv' := [(2, .int (v2 + 1)), (3, .int s0), (0, .ref (ad 0)), (1, .int v1)]) hx hb dX0_measures_126 hl (k := 3) rfl (ii_1 _) (by decide) rfl (fun ls hl => ?_)
  refine lv_goto (tgt := 50) hx hb dX0_measures_129 (by decide) ?_
  exact hK50 v1 (v2 + 1) M16 _ _ _ h I (lv_sub hl [2, 3, 0] rfl)
theorem t0_measures_b50_f {p : Program} {l : Launch} {e : Env} {s : State} {m : MethodId} {args : Array Value} {below : List Frame} {meth : Method} {c : Code} {D : va_G} {T ad : Nat → Nat} {A : Nat → Prop} {H0 : Heap} {Qs : State → Prop} {Q : Mem → Prop} {K50 : Int32 → Int32 → Mem → Prop} (C : XC D T RX0 p m c cX0_measures 5 s args) (hQ : xExv p l e rX0_measures s m args below meth c cX0_measures D T ad A H0 Qs Q) (hK50 : ∀ (v1 : Int32) (v2 : Int32) (M : Mem) (H : Heap) (locs : List Loc) (ls : Array Slot), K50 v1 v2 M → XI D T ad A H0 M H locs → lv_has ls 5 [(0, .ref (ad 0)), (1, .int v1), (2, .int v2)] → W p l e rX0_measures s m args below meth c H locs 0 0 Qs (F0 m 50 ls [])) (v1 : Int32) (v2 : Int32) (M : Mem) (H : Heap) (locs : List Loc) (ls : Array Slot) (h : w0_measures_b50_f Q K50 v1 v2 M) (I : XI D T ad A H0 M H locs) (hl : lv_has ls 5 [(0, .ref (ad 0)), (1, .int v1), (2, .int v2)]) : W p l e rX0_measures s m args below meth c H locs 0 0 Qs (F0 m 50 ls []) := by
  have hx := C.1.1
  have hb := C.1.2.1
  have how := C.1.2.2.2.1
  have hts := C.1.2.2.2.2
  unfold w0_measures_b50_f at h
  refine lv_iload_n hx hb dX0_measures_50 rfl (lv_at hl 2 rfl) ?_
  refine lv_aload_n hx hb dX0_measures_51 rfl (lv_at hl 0 rfl) ?_
  refine xg_ways C I dX0_measures_52 ?_
  refine lv_icmp_ge (tgt := 132) hx hb dX0_measures_55 (by decide) (fun c => ?_) (fun c => ?_)
  · have h := h.1 c
    refine lv_iconst (v := 0) hx hb dX0_measures_132 (by decide) ?_
    refine lv_istore_n (lv' := [(2, .int 0), (0, .ref (ad 0)), (1, .int v1)]) hx hb dX0_measures_133 rfl hl (by decide) rfl (fun ls hl => ?_)
    obtain ⟨n, h⟩ := h
    exact t0_measures_b134 C hQ n 0 M _ _ _ h I (lv_sub hl [1, 0] rfl)
  · have h := h.2 c
    refine lv_iload_n hx hb dX0_measures_58 rfl (lv_at hl 2 rfl) ?_
    refine lv_iload_n hx hb dX0_measures_59 rfl (lv_at hl 1 rfl) ?_
    refine lv_icmp_ne (tgt := 67) hx hb dX0_measures_60 (by decide) (fun c => ?_) (fun c => ?_)
    · have h := h.2 c
      refine lv_aload_n hx hb dX0_measures_67 rfl (lv_at hl 0 rfl) ?_
      refine xg_waySlope C I dX0_measures_68 ?_
      refine lv_iload_n hx hb dX0_measures_71 rfl (lv_at hl 2 rfl) ?_
      obtain ⟨hg17, h⟩ := h
      refine x_iald C I 9 10 rfl hg17 dX0_measures_72 ?_
      exact t0_measures_b73 C hQ hK50 v1 v2 (M 9 (ci v2)) M _ _ _ h I (lv_sub hl [0, 1, 2] rfl)
    · have h := h.1 c
      refine lv_iconst (v := 1) hx hb dX0_measures_63 (by decide) ?_
      refine lv_goto (tgt := 73) hx hb dX0_measures_64 (by decide) ?_
      exact t0_measures_b73 C hQ hK50 v1 v2 1 M _ _ _ h I (lv_sub hl [0, 1, 2] rfl)
theorem t0_measures_b50 {p : Program} {l : Launch} {e : Env} {s : State} {m : MethodId} {args : Array Value} {below : List Frame} {meth : Method} {c : Code} {D : va_G} {T ad : Nat → Nat} {A : Nat → Prop} {H0 : Heap} {Qs : State → Prop} {Q : Mem → Prop}  (C : XC D T RX0 p m c cX0_measures 5 s args) (hQ : xExv p l e rX0_measures s m args below meth c cX0_measures D T ad A H0 Qs Q)  : ∀ (n : Nat) (v1 : Int32) (v2 : Int32) (M : Mem) (H : Heap) (locs : List Loc) (ls : Array Slot), w0_measures_b50 Q n v1 v2 M → XI D T ad A H0 M H locs → lv_has ls 5 [(0, .ref (ad 0)), (1, .int v1), (2, .int v2)] → W p l e rX0_measures s m args below meth c H locs 0 0 Qs (F0 m 50 ls []) := by
  intro n
  induction n with
  | zero => intro v1 v2 M H locs ls h; exact h.elim
  | succ n ih => intro v1 v2 M H locs ls h I hl; exact t0_measures_b50_f C hQ  ih v1 v2 M H locs ls h I hl
theorem t0_measures_b35 {p : Program} {l : Launch} {e : Env} {s : State} {m : MethodId} {args : Array Value} {below : List Frame} {meth : Method} {c : Code} {D : va_G} {T ad : Nat → Nat} {A : Nat → Prop} {H0 : Heap} {Qs : State → Prop} {Q : Mem → Prop} {K2 : Int32 → Int32 → Mem → Prop} {K10 : Int32 → Int32 → Int32 → Mem → Prop} (C : XC D T RX0 p m c cX0_measures 5 s args) (hQ : xExv p l e rX0_measures s m args below meth c cX0_measures D T ad A H0 Qs Q) (hK2 : ∀ (v1 : Int32) (v2 : Int32) (M : Mem) (H : Heap) (locs : List Loc) (ls : Array Slot), K2 v1 v2 M → XI D T ad A H0 M H locs → lv_has ls 5 [(0, .ref (ad 0)), (1, .int v1), (2, .int v2)] → W p l e rX0_measures s m args below meth c H locs 0 0 Qs (F0 m 2 ls [])) (hK10 : ∀ (v1 : Int32) (v2 : Int32) (v3 : Int32) (M : Mem) (H : Heap) (locs : List Loc) (ls : Array Slot), K10 v1 v2 v3 M → XI D T ad A H0 M H locs → lv_has ls 5 [(0, .ref (ad 0)), (1, .int v1), (2, .int v2), (3, .int v3)] → W p l e rX0_measures s m args below meth c H locs 0 0 Qs (F0 m 10 ls [])) (v1 : Int32) (v2 : Int32) (v3 : Int32) (s0 : Nat) (s1 : Int32) (s2 : Int32) (M : Mem) (H : Heap) (locs : List Loc) (ls : Array Slot) (h : w0_measures_b35 Q K2 K10 v1 v2 v3 s0 s1 s2 M) (I : XI D T ad A H0 M H locs) (hl : lv_has ls 5 [(0, .ref (ad 0)), (1, .int v1), (2, .int v2), (3, .int v3)]) : W p l e rX0_measures s m args below meth c H locs 0 0 Qs (F0 m 35 ls [.int s2, .int s1, .ref (ad s0)]) := by
  have hx := C.1.1
  have hb := C.1.2.1
  have how := C.1.2.2.2.1
  have hts := C.1.2.2.2.2
  unfold w0_measures_b35 at h
  obtain ⟨hg18, h⟩ := h
  refine x_iast C I s0 (lenX s0) rfl hg18 dX0_measures_35 (fun M19 H locs eM19 I => ?_)
  have h := h M19 eM19
  refine lv_iinc (v := (v3 + 1)) (lv' := [(3, .int (v3 + 1)), (0, .ref (ad 0)), (1, .int v1), (2, .int v2)]) hx hb dX0_measures_36 hl (k := 3) rfl (ii_1 _) (by decide) rfl (fun ls hl => ?_)
  refine lv_goto (tgt := 10) hx hb dX0_measures_39 (by decide) ?_
  exact hK10 v1 v2 (v3 + 1) M19 _ _ _ h I (lv_sub hl [1, 2, 3, 0] rfl)
theorem t0_measures_b10_f {p : Program} {l : Launch} {e : Env} {s : State} {m : MethodId} {args : Array Value} {below : List Frame} {meth : Method} {c : Code} {D : va_G} {T ad : Nat → Nat} {A : Nat → Prop} {H0 : Heap} {Qs : State → Prop} {Q : Mem → Prop} {K2 : Int32 → Int32 → Mem → Prop} {K10 : Int32 → Int32 → Int32 → Mem → Prop} (C : XC D T RX0 p m c cX0_measures 5 s args) (hQ : xExv p l e rX0_measures s m args below meth c cX0_measures D T ad A H0 Qs Q) (hK2 : ∀ (v1 : Int32) (v2 : Int32) (M : Mem) (H : Heap) (locs : List Loc) (ls : Array Slot), K2 v1 v2 M → XI D T ad A H0 M H locs → lv_has ls 5 [(0, .ref (ad 0)), (1, .int v1), (2, .int v2)] → W p l e rX0_measures s m args below meth c H locs 0 0 Qs (F0 m 2 ls [])) (hK10 : ∀ (v1 : Int32) (v2 : Int32) (v3 : Int32) (M : Mem) (H : Heap) (locs : List Loc) (ls : Array Slot), K10 v1 v2 v3 M → XI D T ad A H0 M H locs → lv_has ls 5 [(0, .ref (ad 0)), (1, .int v1), (2, .int v2), (3, .int v3)] → W p l e rX0_measures s m args below meth c H locs 0 0 Qs (F0 m 10 ls [])) (v1 : Int32) (v2 : Int32) (v3 : Int32) (M : Mem) (H : Heap) (locs : List Loc) (ls : Array Slot) (h : w0_measures_b10_f Q K2 K10 v1 v2 v3 M) (I : XI D T ad A H0 M H locs) (hl : lv_has ls 5 [(0, .ref (ad 0)), (1, .int v1), (2, .int v2), (3, .int v3)]) : W p l e rX0_measures s m args below meth c H locs 0 0 Qs (F0 m 10 ls []) := by
  have hx := C.1.1
  have hb := C.1.2.1
  have how := C.1.2.2.2.1
  have hts := C.1.2.2.2.2
  unfold w0_measures_b10_f at h
  refine lv_iload_n hx hb dX0_measures_10 rfl (lv_at hl 3 rfl) ?_
  refine lv_bipush (v := 8) hx hb dX0_measures_11 (by decide) ?_
  refine lv_icmp_ge (tgt := 42) hx hb dX0_measures_13 (by decide) (fun c => ?_) (fun c => ?_)
  · have h := h.1 c
    refine lv_iinc (v := (v2 + 1)) (lv' := [(2, .int (v2 + 1)), (0, .ref (ad 0)), (1, .int v1), (3, .int v3)]) hx hb dX0_measures_42 hl (k := 2) rfl (ii_1 _) (by decide) rfl (fun ls hl => ?_)
    refine lv_goto (tgt := 2) hx hb dX0_measures_45 (by decide) ?_
    exact hK2 v1 (v2 + 1) M _ _ _ h I (lv_sub hl [1, 2, 0] rfl)
  · have h := h.2 c
    refine lv_aload_n hx hb dX0_measures_16 rfl (lv_at hl 0 rfl) ?_
    refine xg_beside C I dX0_measures_17 ?_
    refine lv_iload_n hx hb dX0_measures_20 rfl (lv_at hl 2 rfl) ?_
    obtain ⟨hg20, h⟩ := h
    refine xa_beside C I hg20 dX0_measures_21 ?_
    refine lv_iload_n hx hb dX0_measures_22 rfl (lv_at hl 3 rfl) ?_
    refine lv_iload_n hx hb dX0_measures_23 rfl (lv_at hl 2 rfl) ?_
    refine lv_iload_n hx hb dX0_measures_24 rfl (lv_at hl 3 rfl) ?_
    refine lv_icmp_ne (tgt := 32) hx hb dX0_measures_25 (by decide) (fun c => ?_) (fun c => ?_)
    · have h := h.2 c
      refine lv_sipush (v := 9999) hx hb dX0_measures_32 (by decide) ?_
      exact t0_measures_b35 C hQ hK2 hK10 v1 v2 v3 (40 + ci v2) v3 9999 M _ _ _ h I (lv_sub hl [0, 1, 2, 3] rfl)
    · have h := h.1 c
      refine lv_iconst (v := 0) hx hb dX0_measures_28 (by decide) ?_
      refine lv_goto (tgt := 35) hx hb dX0_measures_29 (by decide) ?_
      exact t0_measures_b35 C hQ hK2 hK10 v1 v2 v3 (40 + ci v2) v3 0 M _ _ _ h I (lv_sub hl [0, 1, 2, 3] rfl)
theorem t0_measures_b10 {p : Program} {l : Launch} {e : Env} {s : State} {m : MethodId} {args : Array Value} {below : List Frame} {meth : Method} {c : Code} {D : va_G} {T ad : Nat → Nat} {A : Nat → Prop} {H0 : Heap} {Qs : State → Prop} {Q : Mem → Prop} {K2 : Int32 → Int32 → Mem → Prop} (C : XC D T RX0 p m c cX0_measures 5 s args) (hQ : xExv p l e rX0_measures s m args below meth c cX0_measures D T ad A H0 Qs Q) (hK2 : ∀ (v1 : Int32) (v2 : Int32) (M : Mem) (H : Heap) (locs : List Loc) (ls : Array Slot), K2 v1 v2 M → XI D T ad A H0 M H locs → lv_has ls 5 [(0, .ref (ad 0)), (1, .int v1), (2, .int v2)] → W p l e rX0_measures s m args below meth c H locs 0 0 Qs (F0 m 2 ls [])) : ∀ (n : Nat) (v1 : Int32) (v2 : Int32) (v3 : Int32) (M : Mem) (H : Heap) (locs : List Loc) (ls : Array Slot), w0_measures_b10 Q K2 n v1 v2 v3 M → XI D T ad A H0 M H locs → lv_has ls 5 [(0, .ref (ad 0)), (1, .int v1), (2, .int v2), (3, .int v3)] → W p l e rX0_measures s m args below meth c H locs 0 0 Qs (F0 m 10 ls []) := by
  intro n
  induction n with
  | zero => intro v1 v2 v3 M H locs ls h; exact h.elim
  | succ n ih => intro v1 v2 v3 M H locs ls h I hl; exact t0_measures_b10_f C hQ hK2 ih v1 v2 v3 M H locs ls h I hl
theorem t0_measures_b2_f {p : Program} {l : Launch} {e : Env} {s : State} {m : MethodId} {args : Array Value} {below : List Frame} {meth : Method} {c : Code} {D : va_G} {T ad : Nat → Nat} {A : Nat → Prop} {H0 : Heap} {Qs : State → Prop} {Q : Mem → Prop} {K2 : Int32 → Int32 → Mem → Prop} (C : XC D T RX0 p m c cX0_measures 5 s args) (hQ : xExv p l e rX0_measures s m args below meth c cX0_measures D T ad A H0 Qs Q) (hK2 : ∀ (v1 : Int32) (v2 : Int32) (M : Mem) (H : Heap) (locs : List Loc) (ls : Array Slot), K2 v1 v2 M → XI D T ad A H0 M H locs → lv_has ls 5 [(0, .ref (ad 0)), (1, .int v1), (2, .int v2)] → W p l e rX0_measures s m args below meth c H locs 0 0 Qs (F0 m 2 ls [])) (v1 : Int32) (v2 : Int32) (M : Mem) (H : Heap) (locs : List Loc) (ls : Array Slot) (h : w0_measures_b2_f Q K2 v1 v2 M) (I : XI D T ad A H0 M H locs) (hl : lv_has ls 5 [(0, .ref (ad 0)), (1, .int v1), (2, .int v2)]) : W p l e rX0_measures s m args below meth c H locs 0 0 Qs (F0 m 2 ls []) := by
  have hx := C.1.1
  have hb := C.1.2.1
  have how := C.1.2.2.2.1
  have hts := C.1.2.2.2.2
  unfold w0_measures_b2_f at h
  refine lv_iload_n hx hb dX0_measures_2 rfl (lv_at hl 2 rfl) ?_
  refine lv_bipush (v := 8) hx hb dX0_measures_3 (by decide) ?_
  refine lv_icmp_ge (tgt := 48) hx hb dX0_measures_5 (by decide) (fun c => ?_) (fun c => ?_)
  · have h := h.1 c
    refine lv_iconst (v := 0) hx hb dX0_measures_48 (by decide) ?_
    refine lv_istore_n (lv' := [(2, .int 0), (0, .ref (ad 0)), (1, .int v1)]) hx hb dX0_measures_49 rfl hl (by decide) rfl (fun ls hl => ?_)
    obtain ⟨n, h⟩ := h
    exact t0_measures_b50 C hQ n v1 0 M _ _ _ h I (lv_sub hl [1, 2, 0] rfl)
  · have h := h.2 c
    refine lv_iconst (v := 0) hx hb dX0_measures_8 (by decide) ?_
    refine lv_istore_n (lv' := [(3, .int 0), (0, .ref (ad 0)), (1, .int v1), (2, .int v2)]) hx hb dX0_measures_9 rfl hl (by decide) rfl (fun ls hl => ?_)
    obtain ⟨n, h⟩ := h
    exact t0_measures_b10 C hQ hK2 n v1 v2 0 M _ _ _ h I (lv_sub hl [1, 2, 3, 0] rfl)
theorem t0_measures_b2 {p : Program} {l : Launch} {e : Env} {s : State} {m : MethodId} {args : Array Value} {below : List Frame} {meth : Method} {c : Code} {D : va_G} {T ad : Nat → Nat} {A : Nat → Prop} {H0 : Heap} {Qs : State → Prop} {Q : Mem → Prop}  (C : XC D T RX0 p m c cX0_measures 5 s args) (hQ : xExv p l e rX0_measures s m args below meth c cX0_measures D T ad A H0 Qs Q)  : ∀ (n : Nat) (v1 : Int32) (v2 : Int32) (M : Mem) (H : Heap) (locs : List Loc) (ls : Array Slot), w0_measures_b2 Q n v1 v2 M → XI D T ad A H0 M H locs → lv_has ls 5 [(0, .ref (ad 0)), (1, .int v1), (2, .int v2)] → W p l e rX0_measures s m args below meth c H locs 0 0 Qs (F0 m 2 ls []) := by
  intro n
  induction n with
  | zero => intro v1 v2 M H locs ls h; exact h.elim
  | succ n ih => intro v1 v2 M H locs ls h I hl; exact t0_measures_b2_f C hQ  ih v1 v2 M H locs ls h I hl
theorem t0_measures {p : Program} {l : Launch} {e : Env} {s : State} {m : MethodId} {args : Array Value} {below : List Frame} {meth : Method} {c : Code} {D : va_G} {T ad : Nat → Nat} {A : Nat → Prop} {H0 : Heap} {Qs : State → Prop} {Q : Mem → Prop} (C : XC D T RX0 p m c cX0_measures 5 s args) (hQ : xExv p l e rX0_measures s m args below meth c cX0_measures D T ad A H0 Qs Q) (v1 : Int32) (M : Mem) (H : Heap) (locs : List Loc) (ls : Array Slot) (h : w0_measures v1 M Q) (I : XI D T ad A H0 M H locs) (hl : lv_has ls 5 [(0, .ref (ad 0)), (1, .int v1)]) : W p l e rX0_measures s m args below meth c H locs 0 0 Qs (F0 m 0 ls []) := by
  have hx := C.1.1
  have hb := C.1.2.1
  have how := C.1.2.2.2.1
  have hts := C.1.2.2.2.2
  unfold w0_measures at h
  refine lv_iconst (v := 0) hx hb dX0_measures_0 (by decide) ?_
  refine lv_istore_n (lv' := [(2, .int 0), (0, .ref (ad 0)), (1, .int v1)]) hx hb dX0_measures_1 rfl hl (by decide) rfl (fun ls hl => ?_)
  obtain ⟨n, h⟩ := h
  exact t0_measures_b2 C hQ n v1 0 M _ _ _ h I (lv_sub hl [1, 2, 0] rfl)
theorem met0_measures (l : Launch) (D : va_G) (T ad ra : Nat → Nat) (v1 : Int32) (M : Mem) {Qp : Mem → Prop} (h : w0_measures v1 M Qp) (sz : Nat) : Met l yX0_measures (ws_ yX0_measures cX0_measures 5 none) rX0_measures (xPc D T ad ra 0 [.int v1] M sz) (xQv D T ad ra M Qp sz) 0 0 (fA (cX T ad ra M) sz) :=
  x_metV (own := RX0) (As := [.int v1]) rfl rfl (Nat.le_of_ble_eq_true rfl) (fun p e s m args below meth c A Qs ls C hQ I hl => t0_measures C hQ v1 M _ _ ls h I hl) sz
