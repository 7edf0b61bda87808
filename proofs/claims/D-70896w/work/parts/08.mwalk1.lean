/-! the reference: walks, printed by gen.py -/
/-! in -/
abbrev rX6_in : Room := { frames := 0, cells := 0, slots := 0, locals := 0 }
theorem t6_in_b18 {p : Program} {l : Launch} {e : Env} {s : State} {m : MethodId} {args : Array Value} {below : List Frame} {meth : Method} {c : Code} {A : Nat → Prop} {H0 : Heap} {Qs : State → Prop} {Q : Int32 → Prop}  (S : CallFix p m c cX6_in 6 s args lw_all RX6) (hA : ∀ q, H0.size ≤ q → A q) (hQ : pExi p l e rX6_in s m args below meth c cX6_in A H0 Qs Q)  (s0 : Int32) (H : Heap) (locs : List Loc) (ls : Array Slot) (h : w6_in_b18 Q s0) (hS : va_S A H0 H locs) (hl : lv_has ls 6 []) : W p l e rX6_in s m args below meth c H locs 0 0 Qs (F0 m 18 ls [.int s0]) := by
  have hx := S.1
  have hb := S.2.1
  have how := S.2.2.2.1
  have hts := S.2.2.2.2
  unfold w6_in_b18 at h
  exact hQ _ _ _ _ _ h hS dX6_in_18
theorem t6_in_b17 {p : Program} {l : Launch} {e : Env} {s : State} {m : MethodId} {args : Array Value} {below : List Frame} {meth : Method} {c : Code} {A : Nat → Prop} {H0 : Heap} {Qs : State → Prop} {Q : Int32 → Prop}  (S : CallFix p m c cX6_in 6 s args lw_all RX6) (hA : ∀ q, H0.size ≤ q → A q) (hQ : pExi p l e rX6_in s m args below meth c cX6_in A H0 Qs Q)   (H : Heap) (locs : List Loc) (ls : Array Slot) (h : w6_in_b17 Q ) (hS : va_S A H0 H locs) (hl : lv_has ls 6 []) : W p l e rX6_in s m args below meth c H locs 0 0 Qs (F0 m 17 ls []) := by
  have hx := S.1
  have hb := S.2.1
  have how := S.2.2.2.1
  have hts := S.2.2.2.2
  unfold w6_in_b17 at h
  refine lv_iconst (v := 0) hx hb dX6_in_17 (by decide) ?_
  exact t6_in_b18 S hA hQ 0 _ _ _ h hS (lv_sub hl [] rfl)
theorem t6_in {p : Program} {l : Launch} {e : Env} {s : State} {m : MethodId} {args : Array Value} {below : List Frame} {meth : Method} {c : Code} {A : Nat → Prop} {H0 : Heap} {Qs : State → Prop} {Q : Int32 → Prop} (S : CallFix p m c cX6_in 6 s args lw_all RX6) (hA : ∀ q, H0.size ≤ q → A q) (hQ : pExi p l e rX6_in s m args below meth c cX6_in A H0 Qs Q) (v0 : Int64) (v2 : Int64) (v4 : Int64) (H : Heap) (locs : List Loc) (ls : Array Slot) (h : w6_in_z v0 v2 v4 Q) (hS : va_S A H0 H locs) (hl : lv_has ls 6 [(0, .long v0), (2, .long v2), (4, .long v4)]) : W p l e rX6_in s m args below meth c H locs 0 0 Qs (F0 m 0 ls []) := by
  have hx := S.1
  have hb := S.2.1
  have how := S.2.2.2.1
  have hts := S.2.2.2.2
  unfold w6_in_z at h
  refine lv_lload_n hx hb dX6_in_0 rfl (lv_at hl 0 rfl) ?_
  refine lv_lload_n hx hb dX6_in_1 rfl (lv_at hl 1 rfl) ?_
  refine W.lcmp hx hb dX6_in_2 ?_
  refine lv_if_lt (tgt := 17) hx hb dX6_in_3 (by decide) (fun c => ?_) (fun c => ?_)
  · have h := h.1 c
    exact t6_in_b17 S hA hQ _ _ _ h hS (lv_sub hl [] rfl)
  · have h := h.2 c
    refine lv_lload_n hx hb dX6_in_6 rfl (lv_at hl 0 rfl) ?_
    refine lv_lload hx hb dX6_in_7 (lv_at hl 2 rfl) ?_
    refine W.lcmp hx hb dX6_in_9 ?_
    refine lv_if_gt (tgt := 17) hx hb dX6_in_10 (by decide) (fun c => ?_) (fun c => ?_)
    · have h := h.1 c
      exact t6_in_b17 S hA hQ _ _ _ h hS (lv_sub hl [] rfl)
    · have h := h.2 c
      refine lv_iconst (v := 1) hx hb dX6_in_13 (by decide) ?_
      refine lv_goto (tgt := 18) hx hb dX6_in_14 (by decide) ?_
      exact t6_in_b18 S hA hQ 1 _ _ _ h hS (lv_sub hl [] rfl)
theorem met6_in (l : Launch) (v0 : Int64) (v2 : Int64) (v4 : Int64) {Qp : Int32 → Prop} (h : w6_in v0 v2 v4 Qp) (sz : Nat) : Met l yX6_in (ws_ yX6_in cX6_in 6 (some .boolean)) rX6_in (pPc [.long v0, .long v2, .long v4] sz) (pQi Qp sz) 0 0 (pA sz) :=
  p_metZ (As := [.long v0, .long v2, .long v4]) rfl (Nat.le_of_ble_eq_true rfl) (fun p e s m args below meth c Qs ls S hQ hl => t6_in S (fun q h => h) hQ v0 v2 v4 _ _ ls h va_S.rf hl) sz
/-! isSheet -/
abbrev rX6_isSheet : Room := { frames := 1, cells := 0, slots := 0, locals := 25 }
theorem cw6_81 {R : Room} {s : State} {args : Array Value} (hts : ∀ w ∈ lw_all, w.before args s = true) (hR : rX6_in.frames + 1 ≤ R.frames ∧ 8 + (6 + 11) + rX6_in.locals ≤ R.locals) : CallB R s args RX6 81 yX6_in cX6_in 6 (some .boolean) (ws_ yX6_in cX6_in 6 (some .boolean)) rX6_in 0 0 3 ∧ (Cond.static yX6_in).before args s = true := va_cwS 3 hts (lw_S q1017 q1018 q95 q1019) rfl rfl rfl (by decide +kernel) hR
theorem t6_isSheet {p : Program} {l : Launch} {e : Env} {s : State} {m : MethodId} {args : Array Value} {below : List Frame} {meth : Method} {c : Code} {A : Nat → Prop} {H0 : Heap} {Qs : State → Prop} {Q : Int32 → Prop} (S : CallFix p m c cX6_isSheet 1 s args lw_all RX6) (hA : ∀ q, H0.size ≤ q → A q) (hQ : pExi p l e rX6_isSheet s m args below meth c cX6_isSheet A H0 Qs Q) (v0 : Int32) (H : Heap) (locs : List Loc) (ls : Array Slot) (h : w6_isSheet_z v0 Q) (hS : va_S A H0 H locs) (hl : lv_has ls 1 [(0, .int v0)]) : W p l e rX6_isSheet s m args below meth c H locs 0 0 Qs (F0 m 0 ls []) := by
  have hx := S.1
  have hb := S.2.1
  have how := S.2.2.2.1
  have hts := S.2.2.2.2
  unfold w6_isSheet_z at h
  refine lv_iload_n hx hb dX6_isSheet_0 rfl (lv_at hl 0 rfl) ?_
  refine lv_i2l hx hb dX6_isSheet_1 rfl ?_
  refine lv_lconst (v := 0) hx hb dX6_isSheet_2 rfl ?_
  refine lv_ldc2 hx hb how (hts _ q1016) dX6_isSheet_3 ?_
  refine p_calli (As := [.long (Int32.toInt64 v0), .long 0, .long 3]) (rest := []) S hS hA (met6_in l (Int32.toInt64 v0) 0 3 h) (cw6_81 hts ⟨Nat.le_of_ble_eq_true rfl, Nat.le_of_ble_eq_true rfl⟩) rfl hl.1 rfl (Nat.le_of_ble_eq_true rfl) ⟨Nat.zero_le _, Nat.zero_le _⟩ dX6_isSheet_6 (fun r1 H locs h _ hS => ?_)
  exact hQ _ _ _ _ _ h hS dX6_isSheet_9
theorem met6_isSheet (l : Launch) (v0 : Int32) {Qp : Int32 → Prop} (h : w6_isSheet v0 Qp) (sz : Nat) : Met l yX6_isSheet (ws_ yX6_isSheet cX6_isSheet 1 (some .boolean)) rX6_isSheet (pPc [.int v0] sz) (pQi Qp sz) 0 0 (pA sz) :=
  p_metZ (As := [.int v0]) rfl (Nat.le_of_ble_eq_true rfl) (fun p e s m args below meth c Qs ls S hQ hl => t6_isSheet S (fun q h => h) hQ v0 _ _ ls h va_S.rf hl) sz
/-! finds -/
abbrev rX6_finds : Room := { frames := 0, cells := 0, slots := 0, locals := 0 }
theorem t6_finds {p : Program} {l : Launch} {e : Env} {s : State} {m : MethodId} {args : Array Value} {below : List Frame} {meth : Method} {c : Code} {D : va_G} {T ad : Nat → Nat} {A : Nat → Prop} {H0 : Heap} {Qs : State → Prop} {Q : Int32 → Mem → Prop} (C : MC D T p m c cX6_finds 2 s args) (hQ : mExi p l e rX6_finds s m args below meth c cX6_finds D T ad A H0 Qs Q) (v1 : Int32) (M : Mem) (H : Heap) (locs : List Loc) (ls : Array Slot) (h : w6_finds v1 M Q) (I : MI D T ad A H0 M H locs) (hl : lv_has ls 2 [(0, .ref (ad 0)), (1, .int v1)]) : W p l e rX6_finds s m args below meth c H locs 0 0 Qs (F0 m 0 ls []) := by
  have hx := C.1.1
  have hb := C.1.2.1
  have how := C.1.2.2.2.1
  have hts := C.1.2.2.2.2
  unfold w6_finds at h
  refine lv_aload_n hx hb dX6_finds_0 rfl (lv_at hl 0 rfl) ?_
  refine lv_iload_n hx hb dX6_finds_1 rfl (lv_at hl 1 rfl) ?_
  refine mp_latest C I dX6_finds_2 (fun M1 H locs eM1 I => ?_)
  have h := h M1 eM1
  refine lv_bipush (v := -10) hx hb dX6_finds_5 (by decide) ?_
  refine lv_iload_n hx hb dX6_finds_7 rfl (lv_at hl 1 rfl) ?_
  refine lv_isub hx hb dX6_finds_8 ?_
  exact hQ _ _ _ _ _ _ h I dX6_finds_9
theorem met6_finds (l : Launch) (D : va_G) (T ad : Nat → Nat) (v1 : Int32) (M : Mem) {Qp : Int32 → Mem → Prop} (h : w6_finds v1 M Qp) (sz : Nat) : Met l yX6_finds (ws_ yX6_finds cX6_finds 2 (some .int)) rX6_finds (mPc D T ad [.int v1] M sz) (mQi D T ad M Qp sz) 0 0 (fA (cM T ad M) sz) :=
  m_metI (As := [.int v1]) rfl rfl (Nat.le_of_ble_eq_true rfl) (fun p e s m args below meth c A Qs ls C hQ I hl => t6_finds C hQ v1 M _ _ ls h I hl) sz
/-! sheet -/
abbrev rX6_sheet : Room := { frames := 2, cells := 0, slots := 0, locals := 45 }
theorem cw6_91 {R : Room} {s : State} {args : Array Value} (hts : ∀ w ∈ lw_all, w.before args s = true) (hR : rX6_isSheet.frames + 1 ≤ R.frames ∧ 8 + (1 + 11) + rX6_isSheet.locals ≤ R.locals) : CallB R s args RX6 91 yX6_isSheet cX6_isSheet 1 (some .boolean) (ws_ yX6_isSheet cX6_isSheet 1 (some .boolean)) rX6_isSheet 0 0 1 ∧ (Cond.static yX6_isSheet).before args s = true := va_cwS 1 hts (lw_S q1013 q1014 q95 q1015) rfl rfl rfl (by decide +kernel) hR
theorem cw6_97 {R : Room} {s : State} {args : Array Value} (hts : ∀ w ∈ lw_all, w.before args s = true) (hR : rX6_finds.frames + 1 ≤ R.frames ∧ 8 + (2 + 11) + rX6_finds.locals ≤ R.locals) : CallW R s args RX6 RX6 97 yX6_finds cX6_finds 2 (some .int) (ws_ yX6_finds cX6_finds 2 (some .int)) rX6_finds 0 0 1 := cwV 1 hts (lw_V q1021 q1023 qs51 q95 q1024) rfl rfl rfl (by decide +kernel) hR
theorem t6_sheet_b55_f {p : Program} {l : Launch} {e : Env} {s : State} {m : MethodId} {args : Array Value} {below : List Frame} {meth : Method} {c : Code} {D : va_G} {T ad : Nat → Nat} {A : Nat → Prop} {H0 : Heap} {Qs : State → Prop} {Q : Int32 → Mem → Prop} {K55 : Int32 → Int32 → Int32 → Mem → Prop} (C : MC D T p m c cX6_sheet 5 s args) (hQ : mExi p l e rX6_sheet s m args below meth c cX6_sheet D T ad A H0 Qs Q) (hK55 : ∀ (v1 : Int32) (v3 : Int32) (v4 : Int32) (M : Mem) (H : Heap) (locs : List Loc) (ls : Array Slot), K55 v1 v3 v4 M → MI D T ad A H0 M H locs → lv_has ls 5 [(0, .ref (ad 0)), (1, .int v1), (3, .int v3), (4, .int v4)] → W p l e rX6_sheet s m args below meth c H locs 0 0 Qs (F0 m 55 ls [])) (v1 : Int32) (v3 : Int32) (v4 : Int32) (M : Mem) (H : Heap) (locs : List Loc) (ls : Array Slot) (h : w6_sheet_b55_f Q K55 v1 v3 v4 M) (I : MI D T ad A H0 M H locs) (hl : lv_has ls 5 [(0, .ref (ad 0)), (1, .int v1), (3, .int v3), (4, .int v4)]) : W p l e rX6_sheet s m args below meth c H locs 0 0 Qs (F0 m 55 ls []) := by
  have hx := C.1.1
  have hb := C.1.2.1
  have how := C.1.2.2.2.1
  have hts := C.1.2.2.2.2
  unfold w6_sheet_b55_f at h
  refine lv_iload hx hb dX6_sheet_55 (lv_at hl 3 rfl) ?_
  refine lv_iload_n hx hb dX6_sheet_57 rfl (lv_at hl 2 rfl) ?_
  refine lv_icmp_ge (tgt := 80) hx hb dX6_sheet_58 (by decide) (fun c => ?_) (fun c => ?_)
  · have h := h.1 c
    refine lv_iload_n hx hb dX6_sheet_80 rfl (lv_at hl 2 rfl) ?_
    exact hQ _ _ _ _ _ _ h I dX6_sheet_81
  · have h := h.2 c
    refine lv_aload_n hx hb dX6_sheet_61 rfl (lv_at hl 0 rfl) ?_
    refine mg_items C I dX6_sheet_62 ?_
    refine lv_bipush (v := 60) hx hb dX6_sheet_65 (by decide) ?_
    refine lv_iload_n hx hb dX6_sheet_67 rfl (lv_at hl 1 rfl) ?_
    refine lv_imul hx hb dX6_sheet_68 ?_
    refine lv_iload hx hb dX6_sheet_69 (lv_at hl 3 rfl) ?_
    refine lv_iadd hx hb dX6_sheet_71 ?_
    refine lv_iconst (v := 0) hx hb dX6_sheet_72 (by decide) ?_
    obtain ⟨hg1, h⟩ := h
    refine m_iast C I 3 240 rfl (by decide) hg1 dX6_sheet_73 (fun M2 H locs eM2 I => ?_)
    have h := h M2 eM2
    refine lv_iinc (v := (v4 + 1)) (lv' := [(4, .int (v4 + 1)), (0, .ref (ad 0)), (1, .int v1), (3, .int v3)]) hx hb dX6_sheet_74 hl (k := 3) rfl (ii_1 _) (by decide) rfl (fun ls hl => ?_)
    refine lv_goto (tgt := 55) hx hb dX6_sheet_77 (by decide) ?_
    exact hK55 v1 v3 (v4 + 1) M2 _ _ _ h I (lv_sub hl [1, 2, 3, 0] rfl)
theorem t6_sheet_b55 {p : Program} {l : Launch} {e : Env} {s : State} {m : MethodId} {args : Array Value} {below : List Frame} {meth : Method} {c : Code} {D : va_G} {T ad : Nat → Nat} {A : Nat → Prop} {H0 : Heap} {Qs : State → Prop} {Q : Int32 → Mem → Prop}  (C : MC D T p m c cX6_sheet 5 s args) (hQ : mExi p l e rX6_sheet s m args below meth c cX6_sheet D T ad A H0 Qs Q)  : ∀ (n : Nat) (v1 : Int32) (v3 : Int32) (v4 : Int32) (M : Mem) (H : Heap) (locs : List Loc) (ls : Array Slot), w6_sheet_b55 Q n v1 v3 v4 M → MI D T ad A H0 M H locs → lv_has ls 5 [(0, .ref (ad 0)), (1, .int v1), (3, .int v3), (4, .int v4)] → W p l e rX6_sheet s m args below meth c H locs 0 0 Qs (F0 m 55 ls []) := by
  intro n
  induction n with
  | zero => intro v1 v3 v4 M H locs ls h; exact h.elim
  | succ n ih => intro v1 v3 v4 M H locs ls h I hl; exact t6_sheet_b55_f C hQ  ih v1 v3 v4 M H locs ls h I hl
theorem t6_sheet_b25 {p : Program} {l : Launch} {e : Env} {s : State} {m : MethodId} {args : Array Value} {below : List Frame} {meth : Method} {c : Code} {D : va_G} {T ad : Nat → Nat} {A : Nat → Prop} {H0 : Heap} {Qs : State → Prop} {Q : Int32 → Mem → Prop}  (C : MC D T p m c cX6_sheet 5 s args) (hQ : mExi p l e rX6_sheet s m args below meth c cX6_sheet D T ad A H0 Qs Q)   (M : Mem) (H : Heap) (locs : List Loc) (ls : Array Slot) (h : w6_sheet_b25 Q M) (I : MI D T ad A H0 M H locs) (hl : lv_has ls 5 [(0, .ref (ad 0))]) : W p l e rX6_sheet s m args below meth c H locs 0 0 Qs (F0 m 25 ls []) := by
  have hx := C.1.1
  have hb := C.1.2.1
  have how := C.1.2.2.2.1
  have hts := C.1.2.2.2.2
  unfold w6_sheet_b25 at h
  refine lv_bipush (v := -2) hx hb dX6_sheet_25 (by decide) ?_
  exact hQ _ _ _ _ _ _ h I dX6_sheet_27
theorem t6_sheet {p : Program} {l : Launch} {e : Env} {s : State} {m : MethodId} {args : Array Value} {below : List Frame} {meth : Method} {c : Code} {D : va_G} {T ad : Nat → Nat} {A : Nat → Prop} {H0 : Heap} {Qs : State → Prop} {Q : Int32 → Mem → Prop} (C : MC D T p m c cX6_sheet 5 s args) (hQ : mExi p l e rX6_sheet s m args below meth c cX6_sheet D T ad A H0 Qs Q) (v1 : Int32) (v2 : Int32) (v3 : Int32) (M : Mem) (H : Heap) (locs : List Loc) (ls : Array Slot) (h : w6_sheet v1 v2 v3 M Q) (I : MI D T ad A H0 M H locs) (hl : lv_has ls 5 [(0, .ref (ad 0)), (1, .int v1), (2, .int v2), (3, .int v3)]) : W p l e rX6_sheet s m args below meth c H locs 0 0 Qs (F0 m 0 ls []) := by
  have hx := C.1.1
  have hb := C.1.2.1
  have how := C.1.2.2.2.1
  have hts := C.1.2.2.2.2
  unfold w6_sheet at h
  refine lv_iload_n hx hb dX6_sheet_0 rfl (lv_at hl 1 rfl) ?_
  refine m_purei (As := [.int v1]) (rest := []) C I (met6_isSheet l v1 h) (cw6_91 hts ⟨Nat.le_of_ble_eq_true rfl, Nat.le_of_ble_eq_true rfl⟩) rfl hl.1 rfl (Nat.le_of_ble_eq_true rfl) ⟨Nat.zero_le _, Nat.zero_le _⟩ dX6_sheet_1 (fun r3 H locs h I => ?_)
  refine lv_if_eq (tgt := 25) hx hb dX6_sheet_4 (by decide) (fun c => ?_) (fun c => ?_)
  · have h := h.1 c
    exact t6_sheet_b25 C hQ M _ _ _ h I (lv_sub hl [0] rfl)
  · have h := h.2 c
    refine lv_iload_n hx hb dX6_sheet_7 rfl (lv_at hl 2 rfl) ?_
    refine lv_i2l hx hb dX6_sheet_8 rfl ?_
    refine lv_lconst (v := 0) hx hb dX6_sheet_9 rfl ?_
    refine lv_ldc2 hx hb how (hts _ q1020) dX6_sheet_10 ?_
    refine m_purei (As := [.long (Int32.toInt64 v2), .long 0, .long 2]) (rest := []) C I (met6_in l (Int32.toInt64 v2) 0 2 h) (cw6_81 hts ⟨Nat.le_of_ble_eq_true rfl, Nat.le_of_ble_eq_true rfl⟩) rfl hl.1 rfl (Nat.le_of_ble_eq_true rfl) ⟨Nat.zero_le _, Nat.zero_le _⟩ dX6_sheet_13 (fun r4 H locs h I => ?_)
    refine lv_if_eq (tgt := 25) hx hb dX6_sheet_16 (by decide) (fun c => ?_) (fun c => ?_)
    · have h := h.1 c
      exact t6_sheet_b25 C hQ M _ _ _ h I (lv_sub hl [0] rfl)
    · have h := h.2 c
      refine lv_iload_n hx hb dX6_sheet_19 rfl (lv_at hl 3 rfl) ?_
      refine lv_bipush (v := 60) hx hb dX6_sheet_20 (by decide) ?_
      refine lv_icmp_le (tgt := 28) hx hb dX6_sheet_22 (by decide) (fun c => ?_) (fun c => ?_)
      · have h := h.1 c
        refine lv_iload_n hx hb dX6_sheet_28 rfl (lv_at hl 3 rfl) ?_
        refine lv_if_ge (tgt := 38) hx hb dX6_sheet_29 (by decide) (fun c => ?_) (fun c => ?_)
        · have h := h.1 c
          refine lv_aload_n hx hb dX6_sheet_38 rfl (lv_at hl 0 rfl) ?_
          refine mg_forms C I dX6_sheet_39 ?_
          refine lv_iload_n hx hb dX6_sheet_42 rfl (lv_at hl 1 rfl) ?_
          refine lv_iload_n hx hb dX6_sheet_43 rfl (lv_at hl 2 rfl) ?_
          obtain ⟨hg5, h⟩ := h
          refine m_iast C I 1 4 rfl (by decide) hg5 dX6_sheet_44 (fun M6 H locs eM6 I => ?_)
          have h := h M6 eM6
          refine lv_aload_n hx hb dX6_sheet_45 rfl (lv_at hl 0 rfl) ?_
          refine mg_sizes C I dX6_sheet_46 ?_
          refine lv_iload_n hx hb dX6_sheet_49 rfl (lv_at hl 1 rfl) ?_
          refine lv_iload_n hx hb dX6_sheet_50 rfl (lv_at hl 3 rfl) ?_
          refine m_iast C I 2 4 rfl (by decide) hg5 dX6_sheet_51 (fun M7 H locs eM7 I => ?_)
          have h := h M7 eM7
          refine lv_iconst (v := 0) hx hb dX6_sheet_52 (by decide) ?_
          refine lv_istore (lv' := [(4, .int 0), (0, .ref (ad 0)), (1, .int v1), (2, .int v2), (3, .int v3)]) hx hb dX6_sheet_53 hl (by decide) rfl (fun ls hl => ?_)
          obtain ⟨n, h⟩ := h
          exact t6_sheet_b55 C hQ n v1 v3 0 M7 _ _ _ h I (lv_sub hl [1, 2, 4, 0] rfl)
        · have h := h.2 c
          refine lv_aload_n hx hb dX6_sheet_32 rfl (lv_at hl 0 rfl) ?_
          refine lv_iconst (v := 5) hx hb dX6_sheet_33 (by decide) ?_
          refine m_calli (As := [.int 5]) (rest := []) C I (met6_finds l D T ad 5 M h) (cw6_97 hts ⟨Nat.le_of_ble_eq_true rfl, Nat.le_of_ble_eq_true rfl⟩) rfl hl.1 rfl (Nat.le_of_ble_eq_true rfl) ⟨Nat.zero_le _, Nat.zero_le _⟩ dX6_sheet_34 (fun r8 M9 H locs h I => ?_)
          exact hQ _ _ _ _ _ _ h I dX6_sheet_37
      · have h := h.2 c
        exact t6_sheet_b25 C hQ M _ _ _ h I (lv_sub hl [0] rfl)
theorem met6_sheet (l : Launch) (D : va_G) (T ad : Nat → Nat) (v1 : Int32) (v2 : Int32) (v3 : Int32) (M : Mem) {Qp : Int32 → Mem → Prop} (h : w6_sheet v1 v2 v3 M Qp) (sz : Nat) : Met l yX6_sheet (ws_ yX6_sheet cX6_sheet 5 (some .int)) rX6_sheet (mPc D T ad [.int v1, .int v2, .int v3] M sz) (mQi D T ad M Qp sz) 0 0 (fA (cM T ad M) sz) :=
  m_metI (As := [.int v1, .int v2, .int v3]) rfl rfl (Nat.le_of_ble_eq_true rfl) (fun p e s m args below meth c A Qs ls C hQ I hl => t6_sheet C hQ v1 v2 v3 M _ _ ls h I hl) sz
/-! lose -/
abbrev rX6_lose : Room := { frames := 2, cells := 0, slots := 0, locals := 45 }
theorem t6_lose {p : Program} {l : Launch} {e : Env} {s : State} {m : MethodId} {args : Array Value} {below : List Frame} {meth : Method} {c : Code} {D : va_G} {T ad : Nat → Nat} {A : Nat → Prop} {H0 : Heap} {Qs : State → Prop} {Q : Int32 → Mem → Prop} (C : MC D T p m c cX6_lose 2 s args) (hQ : mExi p l e rX6_lose s m args below meth c cX6_lose D T ad A H0 Qs Q) (v1 : Int32) (M : Mem) (H : Heap) (locs : List Loc) (ls : Array Slot) (h : w6_lose v1 M Q) (I : MI D T ad A H0 M H locs) (hl : lv_has ls 2 [(0, .ref (ad 0)), (1, .int v1)]) : W p l e rX6_lose s m args below meth c H locs 0 0 Qs (F0 m 0 ls []) := by
  have hx := C.1.1
  have hb := C.1.2.1
  have how := C.1.2.2.2.1
  have hts := C.1.2.2.2.2
  unfold w6_lose at h
  refine lv_iload_n hx hb dX6_lose_0 rfl (lv_at hl 1 rfl) ?_
  refine m_purei (As := [.int v1]) (rest := []) C I (met6_isSheet l v1 h) (cw6_91 hts ⟨Nat.le_of_ble_eq_true rfl, Nat.le_of_ble_eq_true rfl⟩) rfl hl.1 rfl (Nat.le_of_ble_eq_true rfl) ⟨Nat.zero_le _, Nat.zero_le _⟩ dX6_lose_1 (fun r1 H locs h I => ?_)
  refine lv_if_ne (tgt := 10) hx hb dX6_lose_4 (by decide) (fun c => ?_) (fun c => ?_)
  · have h := h.2 c
    refine lv_aload_n hx hb dX6_lose_10 rfl (lv_at hl 0 rfl) ?_
    refine mg_forms C I dX6_lose_11 ?_
    refine lv_iload_n hx hb dX6_lose_14 rfl (lv_at hl 1 rfl) ?_
    obtain ⟨hg2, h⟩ := h
    refine m_iald C I 1 4 rfl (by decide) hg2 dX6_lose_15 ?_
    refine lv_if_ge (tgt := 25) hx hb dX6_lose_16 (by decide) (fun c => ?_) (fun c => ?_)
    · have h := h.1 c
      refine lv_aload_n hx hb dX6_lose_25 rfl (lv_at hl 0 rfl) ?_
      refine mg_forms C I dX6_lose_26 ?_
      refine lv_iload_n hx hb dX6_lose_29 rfl (lv_at hl 1 rfl) ?_
      refine lv_iconst (v := -1) hx hb dX6_lose_30 (by decide) ?_
      refine m_iast C I 1 4 rfl (by decide) hg2 dX6_lose_31 (fun M3 H locs eM3 I => ?_)
      have h := h M3 eM3
      refine lv_aload_n hx hb dX6_lose_32 rfl (lv_at hl 0 rfl) ?_
      refine mg_sizes C I dX6_lose_33 ?_
      refine lv_iload_n hx hb dX6_lose_36 rfl (lv_at hl 1 rfl) ?_
      refine m_iald C I 2 4 rfl (by decide) hg2 dX6_lose_37 ?_
      exact hQ _ _ _ _ _ _ h I dX6_lose_38
    · have h := h.2 c
      refine lv_aload_n hx hb dX6_lose_19 rfl (lv_at hl 0 rfl) ?_
      refine lv_iconst (v := 1) hx hb dX6_lose_20 (by decide) ?_
      refine m_calli (As := [.int 1]) (rest := []) C I (met6_finds l D T ad 1 M h) (cw6_97 hts ⟨Nat.le_of_ble_eq_true rfl, Nat.le_of_ble_eq_true rfl⟩) rfl hl.1 rfl (Nat.le_of_ble_eq_true rfl) ⟨Nat.zero_le _, Nat.zero_le _⟩ dX6_lose_21 (fun r4 M5 H locs h I => ?_)
      exact hQ _ _ _ _ _ _ h I dX6_lose_24
  · have h := h.1 c
    refine lv_bipush (v := -2) hx hb dX6_lose_7 (by decide) ?_
    exact hQ _ _ _ _ _ _ h I dX6_lose_9
theorem met6_lose (l : Launch) (D : va_G) (T ad : Nat → Nat) (v1 : Int32) (M : Mem) {Qp : Int32 → Mem → Prop} (h : w6_lose v1 M Qp) (sz : Nat) : Met l yX6_lose (ws_ yX6_lose cX6_lose 2 (some .int)) rX6_lose (mPc D T ad [.int v1] M sz) (mQi D T ad M Qp sz) 0 0 (fA (cM T ad M) sz) :=
  m_metI (As := [.int v1]) rfl rfl (Nat.le_of_ble_eq_true rfl) (fun p e s m args below meth c A Qs ls C hQ I hl => t6_lose C hQ v1 M _ _ ls h I hl) sz
/-! lacks -/
abbrev rX6_lacks : Room := { frames := 1, cells := 0, slots := 0, locals := 25 }
theorem t6_lacks_b58 {p : Program} {l : Launch} {e : Env} {s : State} {m : MethodId} {args : Array Value} {below : List Frame} {meth : Method} {c : Code} {D : va_G} {T ad : Nat → Nat} {A : Nat → Prop} {H0 : Heap} {Qs : State → Prop} {Q : Int32 → Mem → Prop}  (C : MC D T p m c cX6_lacks 4 s args) (hQ : mExi p l e rX6_lacks s m args below meth c cX6_lacks D T ad A H0 Qs Q)  (s0 : Int32) (M : Mem) (H : Heap) (locs : List Loc) (ls : Array Slot) (h : w6_lacks_b58 Q s0 M) (I : MI D T ad A H0 M H locs) (hl : lv_has ls 4 [(0, .ref (ad 0))]) : W p l e rX6_lacks s m args below meth c H locs 0 0 Qs (F0 m 58 ls [.int s0]) := by
  have hx := C.1.1
  have hb := C.1.2.1
  have how := C.1.2.2.2.1
  have hts := C.1.2.2.2.2
  unfold w6_lacks_b58 at h
  exact hQ _ _ _ _ _ _ h I dX6_lacks_58
theorem t6_lacks {p : Program} {l : Launch} {e : Env} {s : State} {m : MethodId} {args : Array Value} {below : List Frame} {meth : Method} {c : Code} {D : va_G} {T ad : Nat → Nat} {A : Nat → Prop} {H0 : Heap} {Qs : State → Prop} {Q : Int32 → Mem → Prop} (C : MC D T p m c cX6_lacks 4 s args) (hQ : mExi p l e rX6_lacks s m args below meth c cX6_lacks D T ad A H0 Qs Q) (v1 : Int32) (v2 : Int32) (v3 : Int32) (M : Mem) (H : Heap) (locs : List Loc) (ls : Array Slot) (h : w6_lacks v1 v2 v3 M Q) (I : MI D T ad A H0 M H locs) (hl : lv_has ls 4 [(0, .ref (ad 0)), (1, .int v1), (2, .int v2), (3, .int v3)]) : W p l e rX6_lacks s m args below meth c H locs 0 0 Qs (F0 m 0 ls []) := by
  have hx := C.1.1
  have hb := C.1.2.1
  have how := C.1.2.2.2.1
  have hts := C.1.2.2.2.2
  unfold w6_lacks at h
  refine lv_aload_n hx hb dX6_lacks_0 rfl (lv_at hl 0 rfl) ?_
  refine mg_forms C I dX6_lacks_1 ?_
  refine lv_iload_n hx hb dX6_lacks_4 rfl (lv_at hl 1 rfl) ?_
  obtain ⟨hg1, h⟩ := h
  refine m_iald C I 1 4 rfl (by decide) hg1 dX6_lacks_5 ?_
  refine lv_if_ge (tgt := 15) hx hb dX6_lacks_6 (by decide) (fun c => ?_) (fun c => ?_)
  · have h := h.1 c
    refine lv_aload_n hx hb dX6_lacks_15 rfl (lv_at hl 0 rfl) ?_
    refine mg_forms C I dX6_lacks_16 ?_
    refine lv_iload_n hx hb dX6_lacks_19 rfl (lv_at hl 1 rfl) ?_
    refine m_iald C I 1 4 rfl (by decide) hg1 dX6_lacks_20 ?_
    refine lv_iload_n hx hb dX6_lacks_21 rfl (lv_at hl 2 rfl) ?_
    refine lv_icmp_eq (tgt := 31) hx hb dX6_lacks_22 (by decide) (fun c => ?_) (fun c => ?_)
    · have h := h.1 c
      refine lv_iload_n hx hb dX6_lacks_31 rfl (lv_at hl 3 rfl) ?_
      refine lv_i2l hx hb dX6_lacks_32 rfl ?_
      refine lv_lconst (v := 0) hx hb dX6_lacks_33 rfl ?_
      refine lv_aload_n hx hb dX6_lacks_34 rfl (lv_at hl 0 rfl) ?_
      refine mg_sizes C I dX6_lacks_35 ?_
      refine lv_iload_n hx hb dX6_lacks_38 rfl (lv_at hl 1 rfl) ?_
      refine m_iald C I 2 4 rfl (by decide) hg1 dX6_lacks_39 ?_
      refine lv_iconst (v := 1) hx hb dX6_lacks_40 (by decide) ?_
      refine lv_isub hx hb dX6_lacks_41 ?_
      refine lv_i2l hx hb dX6_lacks_42 rfl ?_
      refine m_purei (As := [.long (Int32.toInt64 v3), .long 0, .long (Int32.toInt64 ((M 2 (ci v1)) - 1))]) (rest := []) C I (met6_in l (Int32.toInt64 v3) 0 (Int32.toInt64 ((M 2 (ci v1)) - 1)) h) (cw6_81 hts ⟨Nat.le_of_ble_eq_true rfl, Nat.le_of_ble_eq_true rfl⟩) rfl hl.1 rfl (Nat.le_of_ble_eq_true rfl) ⟨Nat.zero_le _, Nat.zero_le _⟩ dX6_lacks_43 (fun r2 H locs h I => ?_)
      refine lv_if_eq (tgt := 53) hx hb dX6_lacks_46 (by decide) (fun c => ?_) (fun c => ?_)
      · have h := h.1 c
        refine lv_aload_n hx hb dX6_lacks_53 rfl (lv_at hl 0 rfl) ?_
        refine lv_iconst (v := 2) hx hb dX6_lacks_54 (by decide) ?_
        refine m_calli (As := [.int 2]) (rest := []) C I (met6_finds l D T ad 2 M h) (cw6_97 hts ⟨Nat.le_of_ble_eq_true rfl, Nat.le_of_ble_eq_true rfl⟩) rfl hl.1 rfl (Nat.le_of_ble_eq_true rfl) ⟨Nat.zero_le _, Nat.zero_le _⟩ dX6_lacks_55 (fun r3 M4 H locs h I => ?_)
        exact t6_lacks_b58 C hQ r3 M4 _ _ _ h I (lv_sub hl [0] rfl)
      · have h := h.2 c
        refine lv_iconst (v := 0) hx hb dX6_lacks_49 (by decide) ?_
        refine lv_goto (tgt := 58) hx hb dX6_lacks_50 (by decide) ?_
        exact t6_lacks_b58 C hQ 0 M _ _ _ h I (lv_sub hl [0] rfl)
    · have h := h.2 c
      refine lv_aload_n hx hb dX6_lacks_25 rfl (lv_at hl 0 rfl) ?_
      refine lv_iconst (v := 3) hx hb dX6_lacks_26 (by decide) ?_
      refine m_calli (As := [.int 3]) (rest := []) C I (met6_finds l D T ad 3 M h) (cw6_97 hts ⟨Nat.le_of_ble_eq_true rfl, Nat.le_of_ble_eq_true rfl⟩) rfl hl.1 rfl (Nat.le_of_ble_eq_true rfl) ⟨Nat.zero_le _, Nat.zero_le _⟩ dX6_lacks_27 (fun r5 M6 H locs h I => ?_)
      exact hQ _ _ _ _ _ _ h I dX6_lacks_30
  · have h := h.2 c
    refine lv_aload_n hx hb dX6_lacks_9 rfl (lv_at hl 0 rfl) ?_
    refine lv_iconst (v := 1) hx hb dX6_lacks_10 (by decide) ?_
    refine m_calli (As := [.int 1]) (rest := []) C I (met6_finds l D T ad 1 M h) (cw6_97 hts ⟨Nat.le_of_ble_eq_true rfl, Nat.le_of_ble_eq_true rfl⟩) rfl hl.1 rfl (Nat.le_of_ble_eq_true rfl) ⟨Nat.zero_le _, Nat.zero_le _⟩ dX6_lacks_11 (fun r7 M8 H locs h I => ?_)
    exact hQ _ _ _ _ _ _ h I dX6_lacks_14
theorem met6_lacks (l : Launch) (D : va_G) (T ad : Nat → Nat) (v1 : Int32) (v2 : Int32) (v3 : Int32) (M : Mem) {Qp : Int32 → Mem → Prop} (h : w6_lacks v1 v2 v3 M Qp) (sz : Nat) : Met l yX6_lacks (ws_ yX6_lacks cX6_lacks 4 (some .int)) rX6_lacks (mPc D T ad [.int v1, .int v2, .int v3] M sz) (mQi D T ad M Qp sz) 0 0 (fA (cM T ad M) sz) :=
  m_metI (As := [.int v1, .int v2, .int v3]) rfl rfl (Nat.le_of_ble_eq_true rfl) (fun p e s m args below meth c A Qs ls C hQ I hl => t6_lacks C hQ v1 v2 v3 M _ _ ls h I hl) sz
/-! cut -/
abbrev rX6_cut : Room := { frames := 0, cells := 0, slots := 0, locals := 0 }
theorem t6_cut_b20 {p : Program} {l : Launch} {e : Env} {s : State} {m : MethodId} {args : Array Value} {below : List Frame} {meth : Method} {c : Code} {A : Nat → Prop} {H0 : Heap} {Qs : State → Prop} {Q : Int32 → Prop}  (S : CallFix p m c cX6_cut 2 s args lw_all RX6) (hA : ∀ q, H0.size ≤ q → A q) (hQ : pExi p l e rX6_cut s m args below meth c cX6_cut A H0 Qs Q)  (s0 : Int32) (H : Heap) (locs : List Loc) (ls : Array Slot) (h : w6_cut_b20 Q s0) (hS : va_S A H0 H locs) (hl : lv_has ls 2 []) : W p l e rX6_cut s m args below meth c H locs 0 0 Qs (F0 m 20 ls [.int s0]) := by
  have hx := S.1
  have hb := S.2.1
  have how := S.2.2.2.1
  have hts := S.2.2.2.2
  unfold w6_cut_b20 at h
  exact hQ _ _ _ _ _ h hS dX6_cut_20
theorem t6_cut {p : Program} {l : Launch} {e : Env} {s : State} {m : MethodId} {args : Array Value} {below : List Frame} {meth : Method} {c : Code} {A : Nat → Prop} {H0 : Heap} {Qs : State → Prop} {Q : Int32 → Prop} (S : CallFix p m c cX6_cut 2 s args lw_all RX6) (hA : ∀ q, H0.size ≤ q → A q) (hQ : pExi p l e rX6_cut s m args below meth c cX6_cut A H0 Qs Q) (v0 : Int32) (v1 : Int32) (H : Heap) (locs : List Loc) (ls : Array Slot) (h : w6_cut v0 v1 Q) (hS : va_S A H0 H locs) (hl : lv_has ls 2 [(0, .int v0), (1, .int v1)]) : W p l e rX6_cut s m args below meth c H locs 0 0 Qs (F0 m 0 ls []) := by
  have hx := S.1
  have hb := S.2.1
  have how := S.2.2.2.1
  have hts := S.2.2.2.2
  unfold w6_cut at h
  refine lv_iload_n hx hb dX6_cut_0 rfl (lv_at hl 0 rfl) ?_
  refine lv_if_ne (tgt := 9) hx hb dX6_cut_1 (by decide) (fun c => ?_) (fun c => ?_)
  · have h := h.2 c
    refine lv_iload_n hx hb dX6_cut_9 rfl (lv_at hl 0 rfl) ?_
    refine lv_iconst (v := 1) hx hb dX6_cut_10 (by decide) ?_
    refine lv_icmp_ne (tgt := 19) hx hb dX6_cut_11 (by decide) (fun c => ?_) (fun c => ?_)
    · have h := h.2 c
      refine lv_iload_n hx hb dX6_cut_19 rfl (lv_at hl 1 rfl) ?_
      exact t6_cut_b20 S hA hQ v1 _ _ _ h hS (lv_sub hl [] rfl)
    · have h := h.1 c
      refine lv_iload_n hx hb dX6_cut_14 rfl (lv_at hl 1 rfl) ?_
      refine lv_i2s hx hb dX6_cut_15 rfl ?_
      refine lv_goto (tgt := 20) hx hb dX6_cut_16 (by decide) ?_
      exact t6_cut_b20 S hA hQ ((Int32.toInt16 v1).toInt32) _ _ _ h hS (lv_sub hl [] rfl)
  · have h := h.1 c
    refine lv_iload_n hx hb dX6_cut_4 rfl (lv_at hl 1 rfl) ?_
    refine lv_i2b hx hb dX6_cut_5 rfl ?_
    refine lv_goto (tgt := 20) hx hb dX6_cut_6 (by decide) ?_
    exact t6_cut_b20 S hA hQ ((Int32.toInt8 v1).toInt32) _ _ _ h hS (lv_sub hl [] rfl)
theorem met6_cut (l : Launch) (v0 : Int32) (v1 : Int32) {Qp : Int32 → Prop} (h : w6_cut v0 v1 Qp) (sz : Nat) : Met l yX6_cut (ws_ yX6_cut cX6_cut 2 (some .int)) rX6_cut (pPc [.int v0, .int v1] sz) (pQi Qp sz) 0 0 (pA sz) :=
  p_metI (As := [.int v0, .int v1]) rfl (Nat.le_of_ble_eq_true rfl) (fun p e s m args below meth c Qs ls S hQ hl => t6_cut S (fun q h => h) hQ v0 v1 _ _ ls h va_S.rf hl) sz
/-! lay -/
abbrev rX6_lay : Room := { frames := 2, cells := 0, slots := 0, locals := 48 }
theorem cw6_101 {R : Room} {s : State} {args : Array Value} (hts : ∀ w ∈ lw_all, w.before args s = true) (hR : rX6_lacks.frames + 1 ≤ R.frames ∧ 8 + (4 + 11) + rX6_lacks.locals ≤ R.locals) : CallW R s args RX6 RX6 101 yX6_lacks cX6_lacks 4 (some .int) (ws_ yX6_lacks cX6_lacks 4 (some .int)) rX6_lacks 0 0 3 := cwV 3 hts (lw_V q1033 q1035 qs52 q95 q1036) rfl rfl rfl (by decide +kernel) hR
theorem cw6_105 {R : Room} {s : State} {args : Array Value} (hts : ∀ w ∈ lw_all, w.before args s = true) (hR : rX6_cut.frames + 1 ≤ R.frames ∧ 8 + (2 + 11) + rX6_cut.locals ≤ R.locals) : CallB R s args RX6 105 yX6_cut cX6_cut 2 (some .int) (ws_ yX6_cut cX6_cut 2 (some .int)) rX6_cut 0 0 2 ∧ (Cond.static yX6_cut).before args s = true := va_cwS 2 hts (lw_S q1037 q1038 q95 q1039) rfl rfl rfl (by decide +kernel) hR
theorem t6_lay_b19 {p : Program} {l : Launch} {e : Env} {s : State} {m : MethodId} {args : Array Value} {below : List Frame} {meth : Method} {c : Code} {D : va_G} {T ad : Nat → Nat} {A : Nat → Prop} {H0 : Heap} {Qs : State → Prop} {Q : Int32 → Mem → Prop}  (C : MC D T p m c cX6_lay 6 s args) (hQ : mExi p l e rX6_lay s m args below meth c cX6_lay D T ad A H0 Qs Q)   (M : Mem) (H : Heap) (locs : List Loc) (ls : Array Slot) (h : w6_lay_b19 Q M) (I : MI D T ad A H0 M H locs) (hl : lv_has ls 6 [(0, .ref (ad 0))]) : W p l e rX6_lay s m args below meth c H locs 0 0 Qs (F0 m 19 ls []) := by
  have hx := C.1.1
  have hb := C.1.2.1
  have how := C.1.2.2.2.1
  have hts := C.1.2.2.2.2
  unfold w6_lay_b19 at h
  refine lv_bipush (v := -2) hx hb dX6_lay_19 (by decide) ?_
  exact hQ _ _ _ _ _ _ h I dX6_lay_21
theorem t6_lay {p : Program} {l : Launch} {e : Env} {s : State} {m : MethodId} {args : Array Value} {below : List Frame} {meth : Method} {c : Code} {D : va_G} {T ad : Nat → Nat} {A : Nat → Prop} {H0 : Heap} {Qs : State → Prop} {Q : Int32 → Mem → Prop} (C : MC D T p m c cX6_lay 6 s args) (hQ : mExi p l e rX6_lay s m args below meth c cX6_lay D T ad A H0 Qs Q) (v1 : Int32) (v2 : Int32) (v3 : Int32) (v4 : Int32) (M : Mem) (H : Heap) (locs : List Loc) (ls : Array Slot) (h : w6_lay v1 v2 v3 v4 M Q) (I : MI D T ad A H0 M H locs) (hl : lv_has ls 6 [(0, .ref (ad 0)), (1, .int v1), (2, .int v2), (3, .int v3), (4, .int v4)]) : W p l e rX6_lay s m args below meth c H locs 0 0 Qs (F0 m 0 ls []) := by
  have hx := C.1.1
  have hb := C.1.2.1
  have how := C.1.2.2.2.1
  have hts := C.1.2.2.2.2
  unfold w6_lay at h
  refine lv_iload_n hx hb dX6_lay_0 rfl (lv_at hl 1 rfl) ?_
  refine m_purei (As := [.int v1]) (rest := []) C I (met6_isSheet l v1 h) (cw6_91 hts ⟨Nat.le_of_ble_eq_true rfl, Nat.le_of_ble_eq_true rfl⟩) rfl hl.1 rfl (Nat.le_of_ble_eq_true rfl) ⟨Nat.zero_le _, Nat.zero_le _⟩ dX6_lay_1 (fun r1 H locs h I => ?_)
  refine lv_if_eq (tgt := 19) hx hb dX6_lay_4 (by decide) (fun c => ?_) (fun c => ?_)
  · have h := h.1 c
    exact t6_lay_b19 C hQ M _ _ _ h I (lv_sub hl [0] rfl)
  · have h := h.2 c
    refine lv_iload_n hx hb dX6_lay_7 rfl (lv_at hl 2 rfl) ?_
    refine lv_i2l hx hb dX6_lay_8 rfl ?_
    refine lv_lconst (v := 0) hx hb dX6_lay_9 rfl ?_
    refine lv_ldc2 hx hb how (hts _ q1020) dX6_lay_10 ?_
    refine m_purei (As := [.long (Int32.toInt64 v2), .long 0, .long 2]) (rest := []) C I (met6_in l (Int32.toInt64 v2) 0 2 h) (cw6_81 hts ⟨Nat.le_of_ble_eq_true rfl, Nat.le_of_ble_eq_true rfl⟩) rfl hl.1 rfl (Nat.le_of_ble_eq_true rfl) ⟨Nat.zero_le _, Nat.zero_le _⟩ dX6_lay_13 (fun r2 H locs h I => ?_)
    refine lv_if_ne (tgt := 22) hx hb dX6_lay_16 (by decide) (fun c => ?_) (fun c => ?_)
    · have h := h.2 c
      refine lv_aload_n hx hb dX6_lay_22 rfl (lv_at hl 0 rfl) ?_
      refine lv_iload_n hx hb dX6_lay_23 rfl (lv_at hl 1 rfl) ?_
      refine lv_iload_n hx hb dX6_lay_24 rfl (lv_at hl 2 rfl) ?_
      refine lv_iload_n hx hb dX6_lay_25 rfl (lv_at hl 3 rfl) ?_
      refine m_calli (As := [.int v1, .int v2, .int v3]) (rest := []) C I (met6_lacks l D T ad v1 v2 v3 M h) (cw6_101 hts ⟨Nat.le_of_ble_eq_true rfl, Nat.le_of_ble_eq_true rfl⟩) rfl hl.1 rfl (Nat.le_of_ble_eq_true rfl) ⟨Nat.zero_le _, Nat.zero_le _⟩ dX6_lay_26 (fun r3 M4 H locs h I => ?_)
      refine lv_istore (lv' := [(5, .int r3), (0, .ref (ad 0)), (1, .int v1), (2, .int v2), (3, .int v3), (4, .int v4)]) hx hb dX6_lay_29 hl (by decide) rfl (fun ls hl => ?_)
      refine lv_iload hx hb dX6_lay_31 (lv_at hl 0 rfl) ?_
      refine lv_if_eq (tgt := 39) hx hb dX6_lay_33 (by decide) (fun c => ?_) (fun c => ?_)
      · have h := h.1 c
        refine lv_aload_n hx hb dX6_lay_39 rfl (lv_at hl 1 rfl) ?_
        refine mg_items C I dX6_lay_40 ?_
        refine lv_bipush (v := 60) hx hb dX6_lay_43 (by decide) ?_
        refine lv_iload_n hx hb dX6_lay_45 rfl (lv_at hl 2 rfl) ?_
        refine lv_imul hx hb dX6_lay_46 ?_
        refine lv_iload_n hx hb dX6_lay_47 rfl (lv_at hl 4 rfl) ?_
        refine lv_iadd hx hb dX6_lay_48 ?_
        refine lv_iload_n hx hb dX6_lay_49 rfl (lv_at hl 3 rfl) ?_
        refine lv_iload hx hb dX6_lay_50 (lv_at hl 5 rfl) ?_
        refine m_purei (As := [.int v2, .int v4]) (rest := [.int ((60 * v1) + v3), .ref (ad 3)]) C I (met6_cut l v2 v4 h) (cw6_105 hts ⟨Nat.le_of_ble_eq_true rfl, Nat.le_of_ble_eq_true rfl⟩) rfl hl.1 rfl (Nat.le_of_ble_eq_true rfl) ⟨Nat.zero_le _, Nat.zero_le _⟩ dX6_lay_52 (fun r5 H locs h I => ?_)
        obtain ⟨hg6, h⟩ := h
        refine m_iast C I 3 240 rfl (by decide) hg6 dX6_lay_55 (fun M7 H locs eM7 I => ?_)
        have h := h M7 eM7
        refine lv_iconst (v := 1) hx hb dX6_lay_56 (by decide) ?_
        exact hQ _ _ _ _ _ _ h I dX6_lay_57
      · have h := h.2 c
        refine lv_iload hx hb dX6_lay_36 (lv_at hl 0 rfl) ?_
        exact hQ _ _ _ _ _ _ h I dX6_lay_38
    · have h := h.1 c
      exact t6_lay_b19 C hQ M _ _ _ h I (lv_sub hl [0] rfl)
theorem met6_lay (l : Launch) (D : va_G) (T ad : Nat → Nat) (v1 : Int32) (v2 : Int32) (v3 : Int32) (v4 : Int32) (M : Mem) {Qp : Int32 → Mem → Prop} (h : w6_lay v1 v2 v3 v4 M Qp) (sz : Nat) : Met l yX6_lay (ws_ yX6_lay cX6_lay 6 (some .int)) rX6_lay (mPc D T ad [.int v1, .int v2, .int v3, .int v4] M sz) (mQi D T ad M Qp sz) 0 0 (fA (cM T ad M) sz) :=
  m_metI (As := [.int v1, .int v2, .int v3, .int v4]) rfl rfl (Nat.le_of_ble_eq_true rfl) (fun p e s m args below meth c A Qs ls C hQ I hl => t6_lay C hQ v1 v2 v3 v4 M _ _ ls h I hl) sz
/-! get -/
abbrev rX6_get : Room := { frames := 2, cells := 0, slots := 0, locals := 48 }
theorem t6_get_b29 {p : Program} {l : Launch} {e : Env} {s : State} {m : MethodId} {args : Array Value} {below : List Frame} {meth : Method} {c : Code} {D : va_G} {T ad : Nat → Nat} {A : Nat → Prop} {H0 : Heap} {Qs : State → Prop} {Q : Int32 → Mem → Prop}  (C : MC D T p m c cX6_get 4 s args) (hQ : mExi p l e rX6_get s m args below meth c cX6_get D T ad A H0 Qs Q)   (M : Mem) (H : Heap) (locs : List Loc) (ls : Array Slot) (h : w6_get_b29 Q M) (I : MI D T ad A H0 M H locs) (hl : lv_has ls 4 [(0, .ref (ad 0))]) : W p l e rX6_get s m args below meth c H locs 0 0 Qs (F0 m 29 ls []) := by
  have hx := C.1.1
  have hb := C.1.2.1
  have how := C.1.2.2.2.1
  have hts := C.1.2.2.2.2
  unfold w6_get_b29 at h
  refine lv_ldc hx hb how (hts _ q1044) dX6_get_29 ?_
  exact hQ _ _ _ _ _ _ h I dX6_get_31
theorem t6_get {p : Program} {l : Launch} {e : Env} {s : State} {m : MethodId} {args : Array Value} {below : List Frame} {meth : Method} {c : Code} {D : va_G} {T ad : Nat → Nat} {A : Nat → Prop} {H0 : Heap} {Qs : State → Prop} {Q : Int32 → Mem → Prop} (C : MC D T p m c cX6_get 4 s args) (hQ : mExi p l e rX6_get s m args below meth c cX6_get D T ad A H0 Qs Q) (v1 : Int32) (v2 : Int32) (v3 : Int32) (M : Mem) (H : Heap) (locs : List Loc) (ls : Array Slot) (h : w6_get v1 v2 v3 M Q) (I : MI D T ad A H0 M H locs) (hl : lv_has ls 4 [(0, .ref (ad 0)), (1, .int v1), (2, .int v2), (3, .int v3)]) : W p l e rX6_get s m args below meth c H locs 0 0 Qs (F0 m 0 ls []) := by
  have hx := C.1.1
  have hb := C.1.2.1
  have how := C.1.2.2.2.1
  have hts := C.1.2.2.2.2
  unfold w6_get at h
  refine lv_iload_n hx hb dX6_get_0 rfl (lv_at hl 1 rfl) ?_
  refine m_purei (As := [.int v1]) (rest := []) C I (met6_isSheet l v1 h) (cw6_91 hts ⟨Nat.le_of_ble_eq_true rfl, Nat.le_of_ble_eq_true rfl⟩) rfl hl.1 rfl (Nat.le_of_ble_eq_true rfl) ⟨Nat.zero_le _, Nat.zero_le _⟩ dX6_get_1 (fun r1 H locs h I => ?_)
  refine lv_if_eq (tgt := 29) hx hb dX6_get_4 (by decide) (fun c => ?_) (fun c => ?_)
  · have h := h.1 c
    exact t6_get_b29 C hQ M _ _ _ h I (lv_sub hl [0] rfl)
  · have h := h.2 c
    refine lv_iload_n hx hb dX6_get_7 rfl (lv_at hl 2 rfl) ?_
    refine lv_i2l hx hb dX6_get_8 rfl ?_
    refine lv_lconst (v := 0) hx hb dX6_get_9 rfl ?_
    refine lv_ldc2 hx hb how (hts _ q1020) dX6_get_10 ?_
    refine m_purei (As := [.long (Int32.toInt64 v2), .long 0, .long 2]) (rest := []) C I (met6_in l (Int32.toInt64 v2) 0 2 h) (cw6_81 hts ⟨Nat.le_of_ble_eq_true rfl, Nat.le_of_ble_eq_true rfl⟩) rfl hl.1 rfl (Nat.le_of_ble_eq_true rfl) ⟨Nat.zero_le _, Nat.zero_le _⟩ dX6_get_13 (fun r2 H locs h I => ?_)
    refine lv_if_eq (tgt := 29) hx hb dX6_get_16 (by decide) (fun c => ?_) (fun c => ?_)
    · have h := h.1 c
      exact t6_get_b29 C hQ M _ _ _ h I (lv_sub hl [0] rfl)
    · have h := h.2 c
      refine lv_aload_n hx hb dX6_get_19 rfl (lv_at hl 0 rfl) ?_
      refine lv_iload_n hx hb dX6_get_20 rfl (lv_at hl 1 rfl) ?_
      refine lv_iload_n hx hb dX6_get_21 rfl (lv_at hl 2 rfl) ?_
      refine lv_iload_n hx hb dX6_get_22 rfl (lv_at hl 3 rfl) ?_
      refine m_calli (As := [.int v1, .int v2, .int v3]) (rest := []) C I (met6_lacks l D T ad v1 v2 v3 M h) (cw6_101 hts ⟨Nat.le_of_ble_eq_true rfl, Nat.le_of_ble_eq_true rfl⟩) rfl hl.1 rfl (Nat.le_of_ble_eq_true rfl) ⟨Nat.zero_le _, Nat.zero_le _⟩ dX6_get_23 (fun r3 M4 H locs h I => ?_)
      refine lv_if_eq (tgt := 32) hx hb dX6_get_26 (by decide) (fun c => ?_) (fun c => ?_)
      · have h := h.1 c
        refine lv_aload_n hx hb dX6_get_32 rfl (lv_at hl 0 rfl) ?_
        refine mg_items C I dX6_get_33 ?_
        refine lv_bipush (v := 60) hx hb dX6_get_36 (by decide) ?_
        refine lv_iload_n hx hb dX6_get_38 rfl (lv_at hl 1 rfl) ?_
        refine lv_imul hx hb dX6_get_39 ?_
        refine lv_iload_n hx hb dX6_get_40 rfl (lv_at hl 3 rfl) ?_
        refine lv_iadd hx hb dX6_get_41 ?_
        obtain ⟨hg5, h⟩ := h
        refine m_iald C I 3 240 rfl (by decide) hg5 dX6_get_42 ?_
        exact hQ _ _ _ _ _ _ h I dX6_get_43
      · have h := h.2 c
        exact t6_get_b29 C hQ M4 _ _ _ h I (lv_sub hl [0] rfl)
theorem met6_get (l : Launch) (D : va_G) (T ad : Nat → Nat) (v1 : Int32) (v2 : Int32) (v3 : Int32) (M : Mem) {Qp : Int32 → Mem → Prop} (h : w6_get v1 v2 v3 M Qp) (sz : Nat) : Met l yX6_get (ws_ yX6_get cX6_get 4 (some .int)) rX6_get (mPc D T ad [.int v1, .int v2, .int v3] M sz) (mQi D T ad M Qp sz) 0 0 (fA (cM T ad M) sz) :=
  m_metI (As := [.int v1, .int v2, .int v3]) rfl rfl (Nat.le_of_ble_eq_true rfl) (fun p e s m args below meth c A Qs ls C hQ I hl => t6_get C hQ v1 v2 v3 M _ _ ls h I hl) sz
/-! copy -/
abbrev rX6_copy : Room := { frames := 2, cells := 0, slots := 0, locals := 45 }
theorem t6_copy_b157_f {p : Program} {l : Launch} {e : Env} {s : State} {m : MethodId} {args : Array Value} {below : List Frame} {meth : Method} {c : Code} {D : va_G} {T ad : Nat → Nat} {A : Nat → Prop} {H0 : Heap} {Qs : State → Prop} {Q : Int32 → Mem → Prop} {K157 : Int32 → Int32 → Int32 → Int32 → Mem → Prop} (C : MC D T p m c cX6_copy 7 s args) (hQ : mExi p l e rX6_copy s m args below meth c cX6_copy D T ad A H0 Qs Q) (hK157 : ∀ (v3 : Int32) (v4 : Int32) (v5 : Int32) (v6 : Int32) (M : Mem) (H : Heap) (locs : List Loc) (ls : Array Slot), K157 v3 v4 v5 v6 M → MI D T ad A H0 M H locs → lv_has ls 7 [(0, .ref (ad 0)), (3, .int v3), (4, .int v4), (5, .int v5), (6, .int v6)] → W p l e rX6_copy s m args below meth c H locs 0 0 Qs (F0 m 157 ls [])) (v3 : Int32) (v4 : Int32) (v5 : Int32) (v6 : Int32) (M : Mem) (H : Heap) (locs : List Loc) (ls : Array Slot) (h : w6_copy_b157_f Q K157 v3 v4 v5 v6 M) (I : MI D T ad A H0 M H locs) (hl : lv_has ls 7 [(0, .ref (ad 0)), (3, .int v3), (4, .int v4), (5, .int v5), (6, .int v6)]) : W p l e rX6_copy s m args below meth c H locs 0 0 Qs (F0 m 157 ls []) := by
  have hx := C.1.1
  have hb := C.1.2.1
  have how := C.1.2.2.2.1
  have hts := C.1.2.2.2.2
  unfold w6_copy_b157_f at h
  refine lv_iload hx hb dX6_copy_157 (lv_at hl 4 rfl) ?_
  refine lv_iload hx hb dX6_copy_159 (lv_at hl 3 rfl) ?_
  refine lv_icmp_ge (tgt := 192) hx hb dX6_copy_161 (by decide) (fun c => ?_) (fun c => ?_)
  · have h := h.1 c
    refine lv_iconst (v := 1) hx hb dX6_copy_192 (by decide) ?_
    exact hQ _ _ _ _ _ _ h I dX6_copy_193
  · have h := h.2 c
    refine lv_aload_n hx hb dX6_copy_164 rfl (lv_at hl 0 rfl) ?_
    refine mg_items C I dX6_copy_165 ?_
    refine lv_bipush (v := 60) hx hb dX6_copy_168 (by decide) ?_
    refine lv_iload_n hx hb dX6_copy_170 rfl (lv_at hl 1 rfl) ?_
    refine lv_imul hx hb dX6_copy_171 ?_
    refine lv_iload hx hb dX6_copy_172 (lv_at hl 2 rfl) ?_
    refine lv_iadd hx hb dX6_copy_174 ?_
    refine lv_iload hx hb dX6_copy_175 (lv_at hl 4 rfl) ?_
    refine lv_iadd hx hb dX6_copy_177 ?_
    refine lv_aload_n hx hb dX6_copy_178 rfl (lv_at hl 0 rfl) ?_
    refine mg_moved C I dX6_copy_179 ?_
    refine lv_iload hx hb dX6_copy_182 (lv_at hl 4 rfl) ?_
    obtain ⟨hg1, h⟩ := h
    refine m_iald C I 4 60 rfl (by decide) hg1 dX6_copy_184 ?_
    obtain ⟨hg2, h⟩ := h
    refine m_iast C I 3 240 rfl (by decide) hg2 dX6_copy_185 (fun M3 H locs eM3 I => ?_)
    have h := h M3 eM3
    refine lv_iinc (v := (v6 + 1)) (lv' := [(6, .int (v6 + 1)), (0, .ref (ad 0)), (3, .int v3), (4, .int v4), (5, .int v5)]) hx hb dX6_copy_186 hl (k := 4) rfl (ii_1 _) (by decide) rfl (fun ls hl => ?_)
    refine lv_goto (tgt := 157) hx hb dX6_copy_189 (by decide) ?_
    exact hK157 v3 v4 v5 (v6 + 1) M3 _ _ _ h I (lv_sub hl [1, 2, 3, 4, 0] rfl)
theorem t6_copy_b157 {p : Program} {l : Launch} {e : Env} {s : State} {m : MethodId} {args : Array Value} {below : List Frame} {meth : Method} {c : Code} {D : va_G} {T ad : Nat → Nat} {A : Nat → Prop} {H0 : Heap} {Qs : State → Prop} {Q : Int32 → Mem → Prop}  (C : MC D T p m c cX6_copy 7 s args) (hQ : mExi p l e rX6_copy s m args below meth c cX6_copy D T ad A H0 Qs Q)  : ∀ (n : Nat) (v3 : Int32) (v4 : Int32) (v5 : Int32) (v6 : Int32) (M : Mem) (H : Heap) (locs : List Loc) (ls : Array Slot), w6_copy_b157 Q n v3 v4 v5 v6 M → MI D T ad A H0 M H locs → lv_has ls 7 [(0, .ref (ad 0)), (3, .int v3), (4, .int v4), (5, .int v5), (6, .int v6)] → W p l e rX6_copy s m args below meth c H locs 0 0 Qs (F0 m 157 ls []) := by
  intro n
  induction n with
  | zero => intro v3 v4 v5 v6 M H locs ls h; exact h.elim
  | succ n ih => intro v3 v4 v5 v6 M H locs ls h I hl; exact t6_copy_b157_f C hQ  ih v3 v4 v5 v6 M H locs ls h I hl
theorem t6_copy_b120_f {p : Program} {l : Launch} {e : Env} {s : State} {m : MethodId} {args : Array Value} {below : List Frame} {meth : Method} {c : Code} {D : va_G} {T ad : Nat → Nat} {A : Nat → Prop} {H0 : Heap} {Qs : State → Prop} {Q : Int32 → Mem → Prop} {K120 : Int32 → Int32 → Int32 → Int32 → Int32 → Int32 → Mem → Prop} (C : MC D T p m c cX6_copy 7 s args) (hQ : mExi p l e rX6_copy s m args below meth c cX6_copy D T ad A H0 Qs Q) (hK120 : ∀ (v1 : Int32) (v2 : Int32) (v3 : Int32) (v4 : Int32) (v5 : Int32) (v6 : Int32) (M : Mem) (H : Heap) (locs : List Loc) (ls : Array Slot), K120 v1 v2 v3 v4 v5 v6 M → MI D T ad A H0 M H locs → lv_has ls 7 [(0, .ref (ad 0)), (1, .int v1), (2, .int v2), (3, .int v3), (4, .int v4), (5, .int v5), (6, .int v6)] → W p l e rX6_copy s m args below meth c H locs 0 0 Qs (F0 m 120 ls [])) (v1 : Int32) (v2 : Int32) (v3 : Int32) (v4 : Int32) (v5 : Int32) (v6 : Int32) (M : Mem) (H : Heap) (locs : List Loc) (ls : Array Slot) (h : w6_copy_b120_f Q K120 v1 v2 v3 v4 v5 v6 M) (I : MI D T ad A H0 M H locs) (hl : lv_has ls 7 [(0, .ref (ad 0)), (1, .int v1), (2, .int v2), (3, .int v3), (4, .int v4), (5, .int v5), (6, .int v6)]) : W p l e rX6_copy s m args below meth c H locs 0 0 Qs (F0 m 120 ls []) := by
  have hx := C.1.1
  have hb := C.1.2.1
  have how := C.1.2.2.2.1
  have hts := C.1.2.2.2.2
  unfold w6_copy_b120_f at h
  refine lv_iload hx hb dX6_copy_120 (lv_at hl 6 rfl) ?_
  refine lv_iload hx hb dX6_copy_122 (lv_at hl 5 rfl) ?_
  refine lv_icmp_ge (tgt := 154) hx hb dX6_copy_124 (by decide) (fun c => ?_) (fun c => ?_)
  · have h := h.1 c
    refine lv_iconst (v := 0) hx hb dX6_copy_154 (by decide) ?_
    refine lv_istore (lv' := [(6, .int 0), (0, .ref (ad 0)), (1, .int v1), (2, .int v2), (3, .int v3), (4, .int v4), (5, .int v5)]) hx hb dX6_copy_155 hl (by decide) rfl (fun ls hl => ?_)
    obtain ⟨n, h⟩ := h
    exact t6_copy_b157 C hQ n v3 v4 v5 0 M _ _ _ h I (lv_sub hl [1, 4, 5, 6, 0] rfl)
  · have h := h.2 c
    refine lv_aload_n hx hb dX6_copy_127 rfl (lv_at hl 0 rfl) ?_
    refine mg_moved C I dX6_copy_128 ?_
    refine lv_iload hx hb dX6_copy_131 (lv_at hl 6 rfl) ?_
    refine lv_aload_n hx hb dX6_copy_133 rfl (lv_at hl 0 rfl) ?_
    refine mg_items C I dX6_copy_134 ?_
    refine lv_bipush (v := 60) hx hb dX6_copy_137 (by decide) ?_
    refine lv_iload_n hx hb dX6_copy_139 rfl (lv_at hl 1 rfl) ?_
    refine lv_imul hx hb dX6_copy_140 ?_
    refine lv_iload_n hx hb dX6_copy_141 rfl (lv_at hl 2 rfl) ?_
    refine lv_iadd hx hb dX6_copy_142 ?_
    refine lv_iload hx hb dX6_copy_143 (lv_at hl 6 rfl) ?_
    refine lv_iadd hx hb dX6_copy_145 ?_
    obtain ⟨hg4, h⟩ := h
    refine m_iald C I 3 240 rfl (by decide) hg4 dX6_copy_146 ?_
    obtain ⟨hg5, h⟩ := h
    refine m_iast C I 4 60 rfl (by decide) hg5 dX6_copy_147 (fun M6 H locs eM6 I => ?_)
    have h := h M6 eM6
    refine lv_iinc (v := (v6 + 1)) (lv' := [(6, .int (v6 + 1)), (0, .ref (ad 0)), (1, .int v1), (2, .int v2), (3, .int v3), (4, .int v4), (5, .int v5)]) hx hb dX6_copy_148 hl (k := 6) rfl (ii_1 _) (by decide) rfl (fun ls hl => ?_)
    refine lv_goto (tgt := 120) hx hb dX6_copy_151 (by decide) ?_
    exact hK120 v1 v2 v3 v4 v5 (v6 + 1) M6 _ _ _ h I (lv_sub hl [1, 2, 3, 4, 5, 6, 0] rfl)
theorem t6_copy_b120 {p : Program} {l : Launch} {e : Env} {s : State} {m : MethodId} {args : Array Value} {below : List Frame} {meth : Method} {c : Code} {D : va_G} {T ad : Nat → Nat} {A : Nat → Prop} {H0 : Heap} {Qs : State → Prop} {Q : Int32 → Mem → Prop}  (C : MC D T p m c cX6_copy 7 s args) (hQ : mExi p l e rX6_copy s m args below meth c cX6_copy D T ad A H0 Qs Q)  : ∀ (n : Nat) (v1 : Int32) (v2 : Int32) (v3 : Int32) (v4 : Int32) (v5 : Int32) (v6 : Int32) (M : Mem) (H : Heap) (locs : List Loc) (ls : Array Slot), w6_copy_b120 Q n v1 v2 v3 v4 v5 v6 M → MI D T ad A H0 M H locs → lv_has ls 7 [(0, .ref (ad 0)), (1, .int v1), (2, .int v2), (3, .int v3), (4, .int v4), (5, .int v5), (6, .int v6)] → W p l e rX6_copy s m args below meth c H locs 0 0 Qs (F0 m 120 ls []) := by
  intro n
  induction n with
  | zero => intro v1 v2 v3 v4 v5 v6 M H locs ls h; exact h.elim
  | succ n ih => intro v1 v2 v3 v4 v5 v6 M H locs ls h I hl; exact t6_copy_b120_f C hQ  ih v1 v2 v3 v4 v5 v6 M H locs ls h I hl
theorem t6_copy_b111 {p : Program} {l : Launch} {e : Env} {s : State} {m : MethodId} {args : Array Value} {below : List Frame} {meth : Method} {c : Code} {D : va_G} {T ad : Nat → Nat} {A : Nat → Prop} {H0 : Heap} {Qs : State → Prop} {Q : Int32 → Mem → Prop}  (C : MC D T p m c cX6_copy 7 s args) (hQ : mExi p l e rX6_copy s m args below meth c cX6_copy D T ad A H0 Qs Q)   (M : Mem) (H : Heap) (locs : List Loc) (ls : Array Slot) (h : w6_copy_b111 Q M) (I : MI D T ad A H0 M H locs) (hl : lv_has ls 7 [(0, .ref (ad 0))]) : W p l e rX6_copy s m args below meth c H locs 0 0 Qs (F0 m 111 ls []) := by
  have hx := C.1.1
  have hb := C.1.2.1
  have how := C.1.2.2.2.1
  have hts := C.1.2.2.2.2
  unfold w6_copy_b111 at h
  refine lv_aload_n hx hb dX6_copy_111 rfl (lv_at hl 0 rfl) ?_
  refine lv_iconst (v := 2) hx hb dX6_copy_112 (by decide) ?_
  refine m_calli (As := [.int 2]) (rest := []) C I (met6_finds l D T ad 2 M h) (cw6_97 hts ⟨Nat.le_of_ble_eq_true rfl, Nat.le_of_ble_eq_true rfl⟩) rfl hl.1 rfl (Nat.le_of_ble_eq_true rfl) ⟨Nat.zero_le _, Nat.zero_le _⟩ dX6_copy_113 (fun r7 M8 H locs h I => ?_)
  exact hQ _ _ _ _ _ _ h I dX6_copy_116
theorem t6_copy_b35 {p : Program} {l : Launch} {e : Env} {s : State} {m : MethodId} {args : Array Value} {below : List Frame} {meth : Method} {c : Code} {D : va_G} {T ad : Nat → Nat} {A : Nat → Prop} {H0 : Heap} {Qs : State → Prop} {Q : Int32 → Mem → Prop}  (C : MC D T p m c cX6_copy 7 s args) (hQ : mExi p l e rX6_copy s m args below meth c cX6_copy D T ad A H0 Qs Q)   (M : Mem) (H : Heap) (locs : List Loc) (ls : Array Slot) (h : w6_copy_b35 Q M) (I : MI D T ad A H0 M H locs) (hl : lv_has ls 7 [(0, .ref (ad 0))]) : W p l e rX6_copy s m args below meth c H locs 0 0 Qs (F0 m 35 ls []) := by
  have hx := C.1.1
  have hb := C.1.2.1
  have how := C.1.2.2.2.1
  have hts := C.1.2.2.2.2
  unfold w6_copy_b35 at h
  refine lv_aload_n hx hb dX6_copy_35 rfl (lv_at hl 0 rfl) ?_
  refine lv_iconst (v := 1) hx hb dX6_copy_36 (by decide) ?_
  refine m_calli (As := [.int 1]) (rest := []) C I (met6_finds l D T ad 1 M h) (cw6_97 hts ⟨Nat.le_of_ble_eq_true rfl, Nat.le_of_ble_eq_true rfl⟩) rfl hl.1 rfl (Nat.le_of_ble_eq_true rfl) ⟨Nat.zero_le _, Nat.zero_le _⟩ dX6_copy_37 (fun r9 M10 H locs h I => ?_)
  exact hQ _ _ _ _ _ _ h I dX6_copy_40
theorem t6_copy_b14 {p : Program} {l : Launch} {e : Env} {s : State} {m : MethodId} {args : Array Value} {below : List Frame} {meth : Method} {c : Code} {D : va_G} {T ad : Nat → Nat} {A : Nat → Prop} {H0 : Heap} {Qs : State → Prop} {Q : Int32 → Mem → Prop}  (C : MC D T p m c cX6_copy 7 s args) (hQ : mExi p l e rX6_copy s m args below meth c cX6_copy D T ad A H0 Qs Q)   (M : Mem) (H : Heap) (locs : List Loc) (ls : Array Slot) (h : w6_copy_b14 Q M) (I : MI D T ad A H0 M H locs) (hl : lv_has ls 7 [(0, .ref (ad 0))]) : W p l e rX6_copy s m args below meth c H locs 0 0 Qs (F0 m 14 ls []) := by
  have hx := C.1.1
  have hb := C.1.2.1
  have how := C.1.2.2.2.1
  have hts := C.1.2.2.2.2
  unfold w6_copy_b14 at h
  refine lv_bipush (v := -2) hx hb dX6_copy_14 (by decide) ?_
  exact hQ _ _ _ _ _ _ h I dX6_copy_16
theorem t6_copy {p : Program} {l : Launch} {e : Env} {s : State} {m : MethodId} {args : Array Value} {below : List Frame} {meth : Method} {c : Code} {D : va_G} {T ad : Nat → Nat} {A : Nat → Prop} {H0 : Heap} {Qs : State → Prop} {Q : Int32 → Mem → Prop} (C : MC D T p m c cX6_copy 7 s args) (hQ : mExi p l e rX6_copy s m args below meth c cX6_copy D T ad A H0 Qs Q) (v1 : Int32) (v2 : Int32) (v3 : Int32) (v4 : Int32) (v5 : Int32) (M : Mem) (H : Heap) (locs : List Loc) (ls : Array Slot) (h : w6_copy v1 v2 v3 v4 v5 M Q) (I : MI D T ad A H0 M H locs) (hl : lv_has ls 7 [(0, .ref (ad 0)), (1, .int v1), (2, .int v2), (3, .int v3), (4, .int v4), (5, .int v5)]) : W p l e rX6_copy s m args below meth c H locs 0 0 Qs (F0 m 0 ls []) := by
  have hx := C.1.1
  have hb := C.1.2.1
  have how := C.1.2.2.2.1
  have hts := C.1.2.2.2.2
  unfold w6_copy at h
  refine lv_iload_n hx hb dX6_copy_0 rfl (lv_at hl 1 rfl) ?_
  refine m_purei (As := [.int v1]) (rest := []) C I (met6_isSheet l v1 h) (cw6_91 hts ⟨Nat.le_of_ble_eq_true rfl, Nat.le_of_ble_eq_true rfl⟩) rfl hl.1 rfl (Nat.le_of_ble_eq_true rfl) ⟨Nat.zero_le _, Nat.zero_le _⟩ dX6_copy_1 (fun r11 H locs h I => ?_)
  refine lv_if_eq (tgt := 14) hx hb dX6_copy_4 (by decide) (fun c => ?_) (fun c => ?_)
  · have h := h.1 c
    exact t6_copy_b14 C hQ M _ _ _ h I (lv_sub hl [0] rfl)
  · have h := h.2 c
    refine lv_iload_n hx hb dX6_copy_7 rfl (lv_at hl 3 rfl) ?_
    refine m_purei (As := [.int v3]) (rest := []) C I (met6_isSheet l v3 h) (cw6_91 hts ⟨Nat.le_of_ble_eq_true rfl, Nat.le_of_ble_eq_true rfl⟩) rfl hl.1 rfl (Nat.le_of_ble_eq_true rfl) ⟨Nat.zero_le _, Nat.zero_le _⟩ dX6_copy_8 (fun r12 H locs h I => ?_)
    refine lv_if_ne (tgt := 17) hx hb dX6_copy_11 (by decide) (fun c => ?_) (fun c => ?_)
    · have h := h.2 c
      refine lv_aload_n hx hb dX6_copy_17 rfl (lv_at hl 0 rfl) ?_
      refine mg_forms C I dX6_copy_18 ?_
      refine lv_iload_n hx hb dX6_copy_21 rfl (lv_at hl 1 rfl) ?_
      obtain ⟨hg13, h⟩ := h
      refine m_iald C I 1 4 rfl (by decide) hg13 dX6_copy_22 ?_
      refine lv_if_lt (tgt := 35) hx hb dX6_copy_23 (by decide) (fun c => ?_) (fun c => ?_)
      · have h := h.1 c
        exact t6_copy_b35 C hQ M _ _ _ h I (lv_sub hl [0] rfl)
      · have h := h.2 c
        refine lv_aload_n hx hb dX6_copy_26 rfl (lv_at hl 0 rfl) ?_
        refine mg_forms C I dX6_copy_27 ?_
        refine lv_iload_n hx hb dX6_copy_30 rfl (lv_at hl 3 rfl) ?_
        obtain ⟨hg14, h⟩ := h
        refine m_iald C I 1 4 rfl (by decide) hg14 dX6_copy_31 ?_
        refine lv_if_ge (tgt := 41) hx hb dX6_copy_32 (by decide) (fun c => ?_) (fun c => ?_)
        · have h := h.1 c
          refine lv_aload_n hx hb dX6_copy_41 rfl (lv_at hl 0 rfl) ?_
          refine mg_forms C I dX6_copy_42 ?_
          refine lv_iload_n hx hb dX6_copy_45 rfl (lv_at hl 1 rfl) ?_
          refine m_iald C I 1 4 rfl (by decide) hg13 dX6_copy_46 ?_
          refine lv_aload_n hx hb dX6_copy_47 rfl (lv_at hl 0 rfl) ?_
          refine mg_forms C I dX6_copy_48 ?_
          refine lv_iload_n hx hb dX6_copy_51 rfl (lv_at hl 3 rfl) ?_
          refine m_iald C I 1 4 rfl (by decide) hg14 dX6_copy_52 ?_
          refine lv_icmp_eq (tgt := 62) hx hb dX6_copy_53 (by decide) (fun c => ?_) (fun c => ?_)
          · have h := h.1 c
            refine lv_iload_n hx hb dX6_copy_62 rfl (lv_at hl 2 rfl) ?_
            refine lv_if_lt (tgt := 111) hx hb dX6_copy_63 (by decide) (fun c => ?_) (fun c => ?_)
            · have h := h.1 c
              exact t6_copy_b111 C hQ M _ _ _ h I (lv_sub hl [0] rfl)
            · have h := h.2 c
              refine lv_iload hx hb dX6_copy_66 (lv_at hl 4 rfl) ?_
              refine lv_if_lt (tgt := 111) hx hb dX6_copy_68 (by decide) (fun c => ?_) (fun c => ?_)
              · have h := h.1 c
                exact t6_copy_b111 C hQ M _ _ _ h I (lv_sub hl [0] rfl)
              · have h := h.2 c
                refine lv_iload hx hb dX6_copy_71 (lv_at hl 5 rfl) ?_
                refine lv_if_lt (tgt := 111) hx hb dX6_copy_73 (by decide) (fun c => ?_) (fun c => ?_)
                · have h := h.1 c
                  exact t6_copy_b111 C hQ M _ _ _ h I (lv_sub hl [0] rfl)
                · have h := h.2 c
                  refine lv_iload_n hx hb dX6_copy_76 rfl (lv_at hl 2 rfl) ?_
                  refine lv_i2l hx hb dX6_copy_77 rfl ?_
                  refine lv_iload hx hb dX6_copy_78 (lv_at hl 5 rfl) ?_
                  refine lv_i2l hx hb dX6_copy_80 rfl ?_
                  refine lv_ladd hx hb dX6_copy_81 ?_
                  refine lv_aload_n hx hb dX6_copy_82 rfl (lv_at hl 0 rfl) ?_
                  refine mg_sizes C I dX6_copy_83 ?_
                  refine lv_iload_n hx hb dX6_copy_86 rfl (lv_at hl 1 rfl) ?_
                  refine m_iald C I 2 4 rfl (by decide) hg13 dX6_copy_87 ?_
                  refine lv_i2l hx hb dX6_copy_88 rfl ?_
                  refine W.lcmp hx hb dX6_copy_89 ?_
                  refine lv_if_gt (tgt := 111) hx hb dX6_copy_90 (by decide) (fun c => ?_) (fun c => ?_)
                  · have h := h.1 c
                    exact t6_copy_b111 C hQ M _ _ _ h I (lv_sub hl [0] rfl)
                  · have h := h.2 c
                    refine lv_iload hx hb dX6_copy_93 (lv_at hl 4 rfl) ?_
                    refine lv_i2l hx hb dX6_copy_95 rfl ?_
                    refine lv_iload hx hb dX6_copy_96 (lv_at hl 5 rfl) ?_
                    refine lv_i2l hx hb dX6_copy_98 rfl ?_
                    refine lv_ladd hx hb dX6_copy_99 ?_
                    refine lv_aload_n hx hb dX6_copy_100 rfl (lv_at hl 0 rfl) ?_
                    refine mg_sizes C I dX6_copy_101 ?_
                    refine lv_iload_n hx hb dX6_copy_104 rfl (lv_at hl 3 rfl) ?_
                    refine m_iald C I 2 4 rfl (by decide) hg14 dX6_copy_105 ?_
                    refine lv_i2l hx hb dX6_copy_106 rfl ?_
                    refine W.lcmp hx hb dX6_copy_107 ?_
                    refine lv_if_le (tgt := 117) hx hb dX6_copy_108 (by decide) (fun c => ?_) (fun c => ?_)
                    · have h := h.1 c
                      refine lv_iconst (v := 0) hx hb dX6_copy_117 (by decide) ?_
                      refine lv_istore (lv' := [(6, .int 0), (0, .ref (ad 0)), (1, .int v1), (2, .int v2), (3, .int v3), (4, .int v4), (5, .int v5)]) hx hb dX6_copy_118 hl (by decide) rfl (fun ls hl => ?_)
                      obtain ⟨n, h⟩ := h
                      exact t6_copy_b120 C hQ n v1 v2 v3 v4 v5 0 M _ _ _ h I (lv_sub hl [1, 2, 3, 4, 5, 6, 0] rfl)
                    · have h := h.2 c
                      exact t6_copy_b111 C hQ M _ _ _ h I (lv_sub hl [0] rfl)
          · have h := h.2 c
            refine lv_aload_n hx hb dX6_copy_56 rfl (lv_at hl 0 rfl) ?_
            refine lv_iconst (v := 4) hx hb dX6_copy_57 (by decide) ?_
            refine m_calli (As := [.int 4]) (rest := []) C I (met6_finds l D T ad 4 M h) (cw6_97 hts ⟨Nat.le_of_ble_eq_true rfl, Nat.le_of_ble_eq_true rfl⟩) rfl hl.1 rfl (Nat.le_of_ble_eq_true rfl) ⟨Nat.zero_le _, Nat.zero_le _⟩ dX6_copy_58 (fun r15 M16 H locs h I => ?_)
            exact hQ _ _ _ _ _ _ h I dX6_copy_61
        · have h := h.2 c
          exact t6_copy_b35 C hQ M _ _ _ h I (lv_sub hl [0] rfl)
    · have h := h.1 c
      exact t6_copy_b14 C hQ M _ _ _ h I (lv_sub hl [0] rfl)
theorem met6_copy (l : Launch) (D : va_G) (T ad : Nat → Nat) (v1 : Int32) (v2 : Int32) (v3 : Int32) (v4 : Int32) (v5 : Int32) (M : Mem) {Qp : Int32 → Mem → Prop} (h : w6_copy v1 v2 v3 v4 v5 M Qp) (sz : Nat) : Met l yX6_copy (ws_ yX6_copy cX6_copy 7 (some .int)) rX6_copy (mPc D T ad [.int v1, .int v2, .int v3, .int v4, .int v5] M sz) (mQi D T ad M Qp sz) 0 0 (fA (cM T ad M) sz) :=
  m_metI (As := [.int v1, .int v2, .int v3, .int v4, .int v5]) rfl rfl (Nat.le_of_ble_eq_true rfl) (fun p e s m args below meth c A Qs ls C hQ I hl => t6_copy C hQ v1 v2 v3 v4 v5 M _ _ ls h I hl) sz
/-! isTwo -/
abbrev rX6_isTwo : Room := { frames := 1, cells := 0, slots := 0, locals := 25 }
theorem t6_isTwo {p : Program} {l : Launch} {e : Env} {s : State} {m : MethodId} {args : Array Value} {below : List Frame} {meth : Method} {c : Code} {A : Nat → Prop} {H0 : Heap} {Qs : State → Prop} {Q : Int32 → Prop} (S : CallFix p m c cX6_isTwo 1 s args lw_all RX6) (hA : ∀ q, H0.size ≤ q → A q) (hQ : pExi p l e rX6_isTwo s m args below meth c cX6_isTwo A H0 Qs Q) (v0 : Int32) (H : Heap) (locs : List Loc) (ls : Array Slot) (h : w6_isTwo_z v0 Q) (hS : va_S A H0 H locs) (hl : lv_has ls 1 [(0, .int v0)]) : W p l e rX6_isTwo s m args below meth c H locs 0 0 Qs (F0 m 0 ls []) := by
  have hx := S.1
  have hb := S.2.1
  have how := S.2.2.2.1
  have hts := S.2.2.2.2
  unfold w6_isTwo_z at h
  refine lv_iload_n hx hb dX6_isTwo_0 rfl (lv_at hl 0 rfl) ?_
  refine lv_i2l hx hb dX6_isTwo_1 rfl ?_
  refine lv_lconst (v := 0) hx hb dX6_isTwo_2 rfl ?_
  refine lv_lconst (v := 1) hx hb dX6_isTwo_3 rfl ?_
  refine p_calli (As := [.long (Int32.toInt64 v0), .long 0, .long 1]) (rest := []) S hS hA (met6_in l (Int32.toInt64 v0) 0 1 h) (cw6_81 hts ⟨Nat.le_of_ble_eq_true rfl, Nat.le_of_ble_eq_true rfl⟩) rfl hl.1 rfl (Nat.le_of_ble_eq_true rfl) ⟨Nat.zero_le _, Nat.zero_le _⟩ dX6_isTwo_4 (fun r1 H locs h _ hS => ?_)
  exact hQ _ _ _ _ _ h hS dX6_isTwo_7
theorem met6_isTwo (l : Launch) (v0 : Int32) {Qp : Int32 → Prop} (h : w6_isTwo v0 Qp) (sz : Nat) : Met l yX6_isTwo (ws_ yX6_isTwo cX6_isTwo 1 (some .boolean)) rX6_isTwo (pPc [.int v0] sz) (pQi Qp sz) 0 0 (pA sz) :=
  p_metZ (As := [.int v0]) rfl (Nat.le_of_ble_eq_true rfl) (fun p e s m args below meth c Qs ls S hQ hl => t6_isTwo S (fun q h => h) hQ v0 _ _ ls h va_S.rf hl) sz
/-! type -/
abbrev rX6_type : Room := { frames := 2, cells := 0, slots := 0, locals := 45 }
theorem cw6_110 {R : Room} {s : State} {args : Array Value} (hts : ∀ w ∈ lw_all, w.before args s = true) (hR : rX6_isTwo.frames + 1 ≤ R.frames ∧ 8 + (1 + 11) + rX6_isTwo.locals ≤ R.locals) : CallB R s args RX6 110 yX6_isTwo cX6_isTwo 1 (some .boolean) (ws_ yX6_isTwo cX6_isTwo 1 (some .boolean)) rX6_isTwo 0 0 1 ∧ (Cond.static yX6_isTwo).before args s = true := va_cwS 1 hts (lw_S q1053 q1054 q95 q1055) rfl rfl rfl (by decide +kernel) hR
theorem t6_type_b39 {p : Program} {l : Launch} {e : Env} {s : State} {m : MethodId} {args : Array Value} {below : List Frame} {meth : Method} {c : Code} {D : va_G} {T ad : Nat → Nat} {A : Nat → Prop} {H0 : Heap} {Qs : State → Prop} {Q : Int32 → Mem → Prop}  (C : MC D T p m c cX6_type 3 s args) (hQ : mExi p l e rX6_type s m args below meth c cX6_type D T ad A H0 Qs Q)  (v1 : Int32) (v2 : Int32) (s0 : Int32) (s1 : Int32) (M : Mem) (H : Heap) (locs : List Loc) (ls : Array Slot) (h : w6_type_b39 Q v1 v2 s0 s1 M) (I : MI D T ad A H0 M H locs) (hl : lv_has ls 3 [(0, .ref (ad 0)), (1, .int v1), (2, .int v2)]) : W p l e rX6_type s m args below meth c H locs 0 0 Qs (F0 m 39 ls [.int s1, .int s0]) := by
  have hx := C.1.1
  have hb := C.1.2.1
  have how := C.1.2.2.2.1
  have hts := C.1.2.2.2.2
  unfold w6_type_b39 at h
  refine lv_icmp_ne (tgt := 45) hx hb dX6_type_39 (by decide) (fun c => ?_) (fun c => ?_)
  · have h := h.2 c
    refine lv_aload_n hx hb dX6_type_45 rfl (lv_at hl 0 rfl) ?_
    refine mg_bytes C I dX6_type_46 ?_
    refine lv_bipush (v := 56) hx hb dX6_type_49 (by decide) ?_
    refine lv_iload_n hx hb dX6_type_51 rfl (lv_at hl 1 rfl) ?_
    refine lv_imul hx hb dX6_type_52 ?_
    refine lv_aload_n hx hb dX6_type_53 rfl (lv_at hl 0 rfl) ?_
    refine mg_typed C I dX6_type_54 ?_
    refine lv_iload_n hx hb dX6_type_57 rfl (lv_at hl 1 rfl) ?_
    obtain ⟨hg1, h⟩ := h
    refine m_iald C I 7 2 rfl (by decide) hg1 dX6_type_58 ?_
    refine lv_iadd hx hb dX6_type_59 ?_
    refine lv_iload_n hx hb dX6_type_60 rfl (lv_at hl 2 rfl) ?_
    obtain ⟨hg2, h⟩ := h
    refine m_iast C I 6 112 rfl (by decide) hg2 dX6_type_61 (fun M3 H locs eM3 I => ?_)
    have h := h M3 eM3
    refine lv_aload_n hx hb dX6_type_62 rfl (lv_at hl 0 rfl) ?_
    refine mg_typed C I dX6_type_63 ?_
    refine lv_iload_n hx hb dX6_type_66 rfl (lv_at hl 1 rfl) ?_
    refine lv_dup2_11 hx hb dX6_type_67 rfl rfl ?_
    refine m_iald C I 7 2 rfl (by decide) hg1 dX6_type_68 ?_
    refine lv_iconst (v := 1) hx hb dX6_type_69 (by decide) ?_
    refine lv_iadd hx hb dX6_type_70 ?_
    refine m_iast C I 7 2 rfl (by decide) hg1 dX6_type_71 (fun M4 H locs eM4 I => ?_)
    have h := h M4 eM4
    refine lv_aload_n hx hb dX6_type_72 rfl (lv_at hl 0 rfl) ?_
    refine mg_typed C I dX6_type_73 ?_
    refine lv_iload_n hx hb dX6_type_76 rfl (lv_at hl 1 rfl) ?_
    refine m_iald C I 7 2 rfl (by decide) hg1 dX6_type_77 ?_
    exact hQ _ _ _ _ _ _ h I dX6_type_78
  · have h := h.1 c
    refine lv_bipush (v := -4) hx hb dX6_type_42 (by decide) ?_
    exact hQ _ _ _ _ _ _ h I dX6_type_44
theorem t6_type_b19 {p : Program} {l : Launch} {e : Env} {s : State} {m : MethodId} {args : Array Value} {below : List Frame} {meth : Method} {c : Code} {D : va_G} {T ad : Nat → Nat} {A : Nat → Prop} {H0 : Heap} {Qs : State → Prop} {Q : Int32 → Mem → Prop}  (C : MC D T p m c cX6_type 3 s args) (hQ : mExi p l e rX6_type s m args below meth c cX6_type D T ad A H0 Qs Q)   (M : Mem) (H : Heap) (locs : List Loc) (ls : Array Slot) (h : w6_type_b19 Q M) (I : MI D T ad A H0 M H locs) (hl : lv_has ls 3 [(0, .ref (ad 0))]) : W p l e rX6_type s m args below meth c H locs 0 0 Qs (F0 m 19 ls []) := by
  have hx := C.1.1
  have hb := C.1.2.1
  have how := C.1.2.2.2.1
  have hts := C.1.2.2.2.2
  unfold w6_type_b19 at h
  refine lv_bipush (v := -2) hx hb dX6_type_19 (by decide) ?_
  exact hQ _ _ _ _ _ _ h I dX6_type_21
theorem t6_type {p : Program} {l : Launch} {e : Env} {s : State} {m : MethodId} {args : Array Value} {below : List Frame} {meth : Method} {c : Code} {D : va_G} {T ad : Nat → Nat} {A : Nat → Prop} {H0 : Heap} {Qs : State → Prop} {Q : Int32 → Mem → Prop} (C : MC D T p m c cX6_type 3 s args) (hQ : mExi p l e rX6_type s m args below meth c cX6_type D T ad A H0 Qs Q) (v1 : Int32) (v2 : Int32) (M : Mem) (H : Heap) (locs : List Loc) (ls : Array Slot) (h : w6_type v1 v2 M Q) (I : MI D T ad A H0 M H locs) (hl : lv_has ls 3 [(0, .ref (ad 0)), (1, .int v1), (2, .int v2)]) : W p l e rX6_type s m args below meth c H locs 0 0 Qs (F0 m 0 ls []) := by
  have hx := C.1.1
  have hb := C.1.2.1
  have how := C.1.2.2.2.1
  have hts := C.1.2.2.2.2
  unfold w6_type at h
  refine lv_iload_n hx hb dX6_type_0 rfl (lv_at hl 1 rfl) ?_
  refine m_purei (As := [.int v1]) (rest := []) C I (met6_isTwo l v1 h) (cw6_110 hts ⟨Nat.le_of_ble_eq_true rfl, Nat.le_of_ble_eq_true rfl⟩) rfl hl.1 rfl (Nat.le_of_ble_eq_true rfl) ⟨Nat.zero_le _, Nat.zero_le _⟩ dX6_type_1 (fun r5 H locs h I => ?_)
  refine lv_if_eq (tgt := 19) hx hb dX6_type_4 (by decide) (fun c => ?_) (fun c => ?_)
  · have h := h.1 c
    exact t6_type_b19 C hQ M _ _ _ h I (lv_sub hl [0] rfl)
  · have h := h.2 c
    refine lv_iload_n hx hb dX6_type_7 rfl (lv_at hl 2 rfl) ?_
    refine lv_i2l hx hb dX6_type_8 rfl ?_
    refine lv_lconst (v := 0) hx hb dX6_type_9 rfl ?_
    refine lv_ldc2 hx hb how (hts _ q1056) dX6_type_10 ?_
    refine m_purei (As := [.long (Int32.toInt64 v2), .long 0, .long 255]) (rest := []) C I (met6_in l (Int32.toInt64 v2) 0 255 h) (cw6_81 hts ⟨Nat.le_of_ble_eq_true rfl, Nat.le_of_ble_eq_true rfl⟩) rfl hl.1 rfl (Nat.le_of_ble_eq_true rfl) ⟨Nat.zero_le _, Nat.zero_le _⟩ dX6_type_13 (fun r6 H locs h I => ?_)
    refine lv_if_ne (tgt := 22) hx hb dX6_type_16 (by decide) (fun c => ?_) (fun c => ?_)
    · have h := h.2 c
      refine lv_aload_n hx hb dX6_type_22 rfl (lv_at hl 0 rfl) ?_
      refine mg_typed C I dX6_type_23 ?_
      refine lv_iload_n hx hb dX6_type_26 rfl (lv_at hl 1 rfl) ?_
      obtain ⟨hg7, h⟩ := h
      refine m_iald C I 7 2 rfl (by decide) hg7 dX6_type_27 ?_
      refine lv_iload_n hx hb dX6_type_28 rfl (lv_at hl 1 rfl) ?_
      refine lv_if_ne (tgt := 37) hx hb dX6_type_29 (by decide) (fun c => ?_) (fun c => ?_)
      · have h := h.2 c
        refine lv_bipush (v := 55) hx hb dX6_type_37 (by decide) ?_
        exact t6_type_b39 C hQ v1 v2 (M 7 (ci v1)) 55 M _ _ _ h I (lv_sub hl [0, 1, 2] rfl)
      · have h := h.1 c
        refine lv_bipush (v := 49) hx hb dX6_type_32 (by decide) ?_
        refine lv_goto (tgt := 39) hx hb dX6_type_34 (by decide) ?_
        exact t6_type_b39 C hQ v1 v2 (M 7 (ci v1)) 49 M _ _ _ h I (lv_sub hl [0, 1, 2] rfl)
    · have h := h.1 c
      exact t6_type_b19 C hQ M _ _ _ h I (lv_sub hl [0] rfl)
theorem met6_type (l : Launch) (D : va_G) (T ad : Nat → Nat) (v1 : Int32) (v2 : Int32) (M : Mem) {Qp : Int32 → Mem → Prop} (h : w6_type v1 v2 M Qp) (sz : Nat) : Met l yX6_type (ws_ yX6_type cX6_type 3 (some .int)) rX6_type (mPc D T ad [.int v1, .int v2] M sz) (mQi D T ad M Qp sz) 0 0 (fA (cM T ad M) sz) :=
  m_metI (As := [.int v1, .int v2]) rfl rfl (Nat.le_of_ble_eq_true rfl) (fun p e s m args below meth c A Qs ls C hQ I hl => t6_type C hQ v1 v2 M _ _ ls h I hl) sz
/-! wipe -/
abbrev rX6_wipe : Room := { frames := 2, cells := 0, slots := 0, locals := 45 }
theorem t6_wipe {p : Program} {l : Launch} {e : Env} {s : State} {m : MethodId} {args : Array Value} {below : List Frame} {meth : Method} {c : Code} {D : va_G} {T ad : Nat → Nat} {A : Nat → Prop} {H0 : Heap} {Qs : State → Prop} {Q : Int32 → Mem → Prop} (C : MC D T p m c cX6_wipe 3 s args) (hQ : mExi p l e rX6_wipe s m args below meth c cX6_wipe D T ad A H0 Qs Q) (v1 : Int32) (M : Mem) (H : Heap) (locs : List Loc) (ls : Array Slot) (h : w6_wipe v1 M Q) (I : MI D T ad A H0 M H locs) (hl : lv_has ls 3 [(0, .ref (ad 0)), (1, .int v1)]) : W p l e rX6_wipe s m args below meth c H locs 0 0 Qs (F0 m 0 ls []) := by
  have hx := C.1.1
  have hb := C.1.2.1
  have how := C.1.2.2.2.1
  have hts := C.1.2.2.2.2
  unfold w6_wipe at h
  refine lv_iload_n hx hb dX6_wipe_0 rfl (lv_at hl 1 rfl) ?_
  refine m_purei (As := [.int v1]) (rest := []) C I (met6_isTwo l v1 h) (cw6_110 hts ⟨Nat.le_of_ble_eq_true rfl, Nat.le_of_ble_eq_true rfl⟩) rfl hl.1 rfl (Nat.le_of_ble_eq_true rfl) ⟨Nat.zero_le _, Nat.zero_le _⟩ dX6_wipe_1 (fun r1 H locs h I => ?_)
  refine lv_if_ne (tgt := 10) hx hb dX6_wipe_4 (by decide) (fun c => ?_) (fun c => ?_)
  · have h := h.2 c
    refine lv_aload_n hx hb dX6_wipe_10 rfl (lv_at hl 0 rfl) ?_
    refine mg_typed C I dX6_wipe_11 ?_
    refine lv_iload_n hx hb dX6_wipe_14 rfl (lv_at hl 1 rfl) ?_
    obtain ⟨hg2, h⟩ := h
    refine m_iald C I 7 2 rfl (by decide) hg2 dX6_wipe_15 ?_
    refine lv_istore_n (lv' := [(2, .int (M 7 (ci v1))), (0, .ref (ad 0)), (1, .int v1)]) hx hb dX6_wipe_16 rfl hl (by decide) rfl (fun ls hl => ?_)
    refine lv_aload_n hx hb dX6_wipe_17 rfl (lv_at hl 1 rfl) ?_
    refine mg_typed C I dX6_wipe_18 ?_
    refine lv_iload_n hx hb dX6_wipe_21 rfl (lv_at hl 2 rfl) ?_
    refine lv_iconst (v := 0) hx hb dX6_wipe_22 (by decide) ?_
    refine m_iast C I 7 2 rfl (by decide) hg2 dX6_wipe_23 (fun M3 H locs eM3 I => ?_)
    have h := h M3 eM3
    refine lv_iload_n hx hb dX6_wipe_24 rfl (lv_at hl 0 rfl) ?_
    exact hQ _ _ _ _ _ _ h I dX6_wipe_25
  · have h := h.1 c
    refine lv_bipush (v := -2) hx hb dX6_wipe_7 (by decide) ?_
    exact hQ _ _ _ _ _ _ h I dX6_wipe_9
theorem met6_wipe (l : Launch) (D : va_G) (T ad : Nat → Nat) (v1 : Int32) (M : Mem) {Qp : Int32 → Mem → Prop} (h : w6_wipe v1 M Qp) (sz : Nat) : Met l yX6_wipe (ws_ yX6_wipe cX6_wipe 3 (some .int)) rX6_wipe (mPc D T ad [.int v1] M sz) (mQi D T ad M Qp sz) 0 0 (fA (cM T ad M) sz) :=
  m_metI (As := [.int v1]) rfl rfl (Nat.le_of_ble_eq_true rfl) (fun p e s m args below meth c A Qs ls C hQ I hl => t6_wipe C hQ v1 M _ _ ls h I hl) sz
/-! undo -/
abbrev rX6_undo : Room := { frames := 2, cells := 0, slots := 0, locals := 45 }
theorem t6_undo {p : Program} {l : Launch} {e : Env} {s : State} {m : MethodId} {args : Array Value} {below : List Frame} {meth : Method} {c : Code} {D : va_G} {T ad : Nat → Nat} {A : Nat → Prop} {H0 : Heap} {Qs : State → Prop} {Q : Int32 → Mem → Prop} (C : MC D T p m c cX6_undo 2 s args) (hQ : mExi p l e rX6_undo s m args below meth c cX6_undo D T ad A H0 Qs Q) (v1 : Int32) (M : Mem) (H : Heap) (locs : List Loc) (ls : Array Slot) (h : w6_undo v1 M Q) (I : MI D T ad A H0 M H locs) (hl : lv_has ls 2 [(0, .ref (ad 0)), (1, .int v1)]) : W p l e rX6_undo s m args below meth c H locs 0 0 Qs (F0 m 0 ls []) := by
  have hx := C.1.1
  have hb := C.1.2.1
  have how := C.1.2.2.2.1
  have hts := C.1.2.2.2.2
  unfold w6_undo at h
  refine lv_iload_n hx hb dX6_undo_0 rfl (lv_at hl 1 rfl) ?_
  refine m_purei (As := [.int v1]) (rest := []) C I (met6_isTwo l v1 h) (cw6_110 hts ⟨Nat.le_of_ble_eq_true rfl, Nat.le_of_ble_eq_true rfl⟩) rfl hl.1 rfl (Nat.le_of_ble_eq_true rfl) ⟨Nat.zero_le _, Nat.zero_le _⟩ dX6_undo_1 (fun r1 H locs h I => ?_)
  refine lv_if_ne (tgt := 10) hx hb dX6_undo_4 (by decide) (fun c => ?_) (fun c => ?_)
  · have h := h.2 c
    refine lv_aload_n hx hb dX6_undo_10 rfl (lv_at hl 0 rfl) ?_
    refine mg_typed C I dX6_undo_11 ?_
    refine lv_iload_n hx hb dX6_undo_14 rfl (lv_at hl 1 rfl) ?_
    obtain ⟨hg2, h⟩ := h
    refine m_iald C I 7 2 rfl (by decide) hg2 dX6_undo_15 ?_
    refine lv_if_ne (tgt := 22) hx hb dX6_undo_16 (by decide) (fun c => ?_) (fun c => ?_)
    · have h := h.2 c
      refine lv_aload_n hx hb dX6_undo_22 rfl (lv_at hl 0 rfl) ?_
      refine mg_typed C I dX6_undo_23 ?_
      refine lv_iload_n hx hb dX6_undo_26 rfl (lv_at hl 1 rfl) ?_
      refine lv_dup2_11 hx hb dX6_undo_27 rfl rfl ?_
      refine m_iald C I 7 2 rfl (by decide) hg2 dX6_undo_28 ?_
      refine lv_iconst (v := 1) hx hb dX6_undo_29 (by decide) ?_
      refine lv_isub hx hb dX6_undo_30 ?_
      refine m_iast C I 7 2 rfl (by decide) hg2 dX6_undo_31 (fun M3 H locs eM3 I => ?_)
      have h := h M3 eM3
      refine lv_aload_n hx hb dX6_undo_32 rfl (lv_at hl 0 rfl) ?_
      refine mg_typed C I dX6_undo_33 ?_
      refine lv_iload_n hx hb dX6_undo_36 rfl (lv_at hl 1 rfl) ?_
      refine m_iald C I 7 2 rfl (by decide) hg2 dX6_undo_37 ?_
      exact hQ _ _ _ _ _ _ h I dX6_undo_38
    · have h := h.1 c
      refine lv_bipush (v := -3) hx hb dX6_undo_19 (by decide) ?_
      exact hQ _ _ _ _ _ _ h I dX6_undo_21
  · have h := h.1 c
    refine lv_bipush (v := -2) hx hb dX6_undo_7 (by decide) ?_
    exact hQ _ _ _ _ _ _ h I dX6_undo_9
theorem met6_undo (l : Launch) (D : va_G) (T ad : Nat → Nat) (v1 : Int32) (M : Mem) {Qp : Int32 → Mem → Prop} (h : w6_undo v1 M Qp) (sz : Nat) : Met l yX6_undo (ws_ yX6_undo cX6_undo 2 (some .int)) rX6_undo (mPc D T ad [.int v1] M sz) (mQi D T ad M Qp sz) 0 0 (fA (cM T ad M) sz) :=
  m_metI (As := [.int v1]) rfl rfl (Nat.le_of_ble_eq_true rfl) (fun p e s m args below meth c A Qs ls C hQ I hl => t6_undo C hQ v1 M _ _ ls h I hl) sz
/-! placeOf -/
abbrev rX6_placeOf : Room := { frames := 1, cells := 0, slots := 0, locals := 25 }
theorem t6_placeOf_b23 {p : Program} {l : Launch} {e : Env} {s : State} {m : MethodId} {args : Array Value} {below : List Frame} {meth : Method} {c : Code} {A : Nat → Prop} {H0 : Heap} {Qs : State → Prop} {Q : Int32 → Prop}  (S : CallFix p m c cX6_placeOf 1 s args lw_all RX6) (hA : ∀ q, H0.size ≤ q → A q) (hQ : pExi p l e rX6_placeOf s m args below meth c cX6_placeOf A H0 Qs Q)  (s0 : Int32) (H : Heap) (locs : List Loc) (ls : Array Slot) (h : w6_placeOf_b23 Q s0) (hS : va_S A H0 H locs) (hl : lv_has ls 1 []) : W p l e rX6_placeOf s m args below meth c H locs 0 0 Qs (F0 m 23 ls [.int s0]) := by
  have hx := S.1
  have hb := S.2.1
  have how := S.2.2.2.1
  have hts := S.2.2.2.2
  unfold w6_placeOf_b23 at h
  exact hQ _ _ _ _ _ h hS dX6_placeOf_23
theorem t6_placeOf {p : Program} {l : Launch} {e : Env} {s : State} {m : MethodId} {args : Array Value} {below : List Frame} {meth : Method} {c : Code} {A : Nat → Prop} {H0 : Heap} {Qs : State → Prop} {Q : Int32 → Prop} (S : CallFix p m c cX6_placeOf 1 s args lw_all RX6) (hA : ∀ q, H0.size ≤ q → A q) (hQ : pExi p l e rX6_placeOf s m args below meth c cX6_placeOf A H0 Qs Q) (v0 : Int32) (H : Heap) (locs : List Loc) (ls : Array Slot) (h : w6_placeOf v0 Q) (hS : va_S A H0 H locs) (hl : lv_has ls 1 [(0, .int v0)]) : W p l e rX6_placeOf s m args below meth c H locs 0 0 Qs (F0 m 0 ls []) := by
  have hx := S.1
  have hb := S.2.1
  have how := S.2.2.2.1
  have hts := S.2.2.2.2
  unfold w6_placeOf at h
  refine lv_iload_n hx hb dX6_placeOf_0 rfl (lv_at hl 0 rfl) ?_
  refine lv_i2l hx hb dX6_placeOf_1 rfl ?_
  refine lv_ldc2 hx hb how (hts _ q1083) dX6_placeOf_2 ?_
  refine lv_ldc2 hx hb how (hts _ q1084) dX6_placeOf_5 ?_
  refine p_calli (As := [.long (Int32.toInt64 v0), .long 97, .long 104]) (rest := []) S hS hA (met6_in l (Int32.toInt64 v0) 97 104 h) (cw6_81 hts ⟨Nat.le_of_ble_eq_true rfl, Nat.le_of_ble_eq_true rfl⟩) rfl hl.1 rfl (Nat.le_of_ble_eq_true rfl) ⟨Nat.zero_le _, Nat.zero_le _⟩ dX6_placeOf_8 (fun r1 H locs h _ hS => ?_)
  refine lv_if_eq (tgt := 21) hx hb dX6_placeOf_11 (by decide) (fun c => ?_) (fun c => ?_)
  · have h := h.1 c
    refine lv_bipush (v := -9) hx hb dX6_placeOf_21 (by decide) ?_
    exact t6_placeOf_b23 S hA hQ (-9) _ _ _ h hS (lv_sub hl [] rfl)
  · have h := h.2 c
    refine lv_iload_n hx hb dX6_placeOf_14 rfl (lv_at hl 0 rfl) ?_
    refine lv_bipush (v := 97) hx hb dX6_placeOf_15 (by decide) ?_
    refine lv_isub hx hb dX6_placeOf_17 ?_
    refine lv_goto (tgt := 23) hx hb dX6_placeOf_18 (by decide) ?_
    exact t6_placeOf_b23 S hA hQ (v0 - 97) _ _ _ h hS (lv_sub hl [] rfl)
theorem met6_placeOf (l : Launch) (v0 : Int32) {Qp : Int32 → Prop} (h : w6_placeOf v0 Qp) (sz : Nat) : Met l yX6_placeOf (ws_ yX6_placeOf cX6_placeOf 1 (some .int)) rX6_placeOf (pPc [.int v0] sz) (pQi Qp sz) 0 0 (pA sz) :=
  p_metI (As := [.int v0]) rfl (Nat.le_of_ble_eq_true rfl) (fun p e s m args below meth c Qs ls S hQ hl => t6_placeOf S (fun q h => h) hQ v0 _ _ ls h va_S.rf hl) sz
/-! figureOf -/
abbrev rX6_figureOf : Room := { frames := 1, cells := 0, slots := 0, locals := 25 }
theorem t6_figureOf_b25 {p : Program} {l : Launch} {e : Env} {s : State} {m : MethodId} {args : Array Value} {below : List Frame} {meth : Method} {c : Code} {A : Nat → Prop} {H0 : Heap} {Qs : State → Prop} {Q : Int32 → Prop}  (S : CallFix p m c cX6_figureOf 2 s args lw_all RX6) (hA : ∀ q, H0.size ≤ q → A q) (hQ : pExi p l e rX6_figureOf s m args below meth c cX6_figureOf A H0 Qs Q)  (s0 : Int32) (H : Heap) (locs : List Loc) (ls : Array Slot) (h : w6_figureOf_b25 Q s0) (hS : va_S A H0 H locs) (hl : lv_has ls 2 []) : W p l e rX6_figureOf s m args below meth c H locs 0 0 Qs (F0 m 25 ls [.int s0]) := by
  have hx := S.1
  have hb := S.2.1
  have how := S.2.2.2.1
  have hts := S.2.2.2.2
  unfold w6_figureOf_b25 at h
  exact hQ _ _ _ _ _ h hS dX6_figureOf_25
theorem t6_figureOf {p : Program} {l : Launch} {e : Env} {s : State} {m : MethodId} {args : Array Value} {below : List Frame} {meth : Method} {c : Code} {A : Nat → Prop} {H0 : Heap} {Qs : State → Prop} {Q : Int32 → Prop} (S : CallFix p m c cX6_figureOf 2 s args lw_all RX6) (hA : ∀ q, H0.size ≤ q → A q) (hQ : pExi p l e rX6_figureOf s m args below meth c cX6_figureOf A H0 Qs Q) (v0 : Int32) (v1 : Int32) (H : Heap) (locs : List Loc) (ls : Array Slot) (h : w6_figureOf v0 v1 Q) (hS : va_S A H0 H locs) (hl : lv_has ls 2 [(0, .int v0), (1, .int v1)]) : W p l e rX6_figureOf s m args below meth c H locs 0 0 Qs (F0 m 0 ls []) := by
  have hx := S.1
  have hb := S.2.1
  have how := S.2.2.2.1
  have hts := S.2.2.2.2
  unfold w6_figureOf at h
  refine lv_iload_n hx hb dX6_figureOf_0 rfl (lv_at hl 0 rfl) ?_
  refine lv_i2l hx hb dX6_figureOf_1 rfl ?_
  refine lv_bipush (v := 48) hx hb dX6_figureOf_2 (by decide) ?_
  refine lv_iload_n hx hb dX6_figureOf_4 rfl (lv_at hl 1 rfl) ?_
  refine lv_iadd hx hb dX6_figureOf_5 ?_
  refine lv_i2l hx hb dX6_figureOf_6 rfl ?_
  refine lv_ldc2 hx hb how (hts _ q1088) dX6_figureOf_7 ?_
  refine p_calli (As := [.long (Int32.toInt64 v0), .long (Int32.toInt64 (48 + v1)), .long 57]) (rest := []) S hS hA (met6_in l (Int32.toInt64 v0) (Int32.toInt64 (48 + v1)) 57 h) (cw6_81 hts ⟨Nat.le_of_ble_eq_true rfl, Nat.le_of_ble_eq_true rfl⟩) rfl hl.1 rfl (Nat.le_of_ble_eq_true rfl) ⟨Nat.zero_le _, Nat.zero_le _⟩ dX6_figureOf_10 (fun r1 H locs h _ hS => ?_)
  refine lv_if_eq (tgt := 23) hx hb dX6_figureOf_13 (by decide) (fun c => ?_) (fun c => ?_)
  · have h := h.1 c
    refine lv_bipush (v := -9) hx hb dX6_figureOf_23 (by decide) ?_
    exact t6_figureOf_b25 S hA hQ (-9) _ _ _ h hS (lv_sub hl [] rfl)
  · have h := h.2 c
    refine lv_iload_n hx hb dX6_figureOf_16 rfl (lv_at hl 0 rfl) ?_
    refine lv_bipush (v := 48) hx hb dX6_figureOf_17 (by decide) ?_
    refine lv_isub hx hb dX6_figureOf_19 ?_
    refine lv_goto (tgt := 25) hx hb dX6_figureOf_20 (by decide) ?_
    exact t6_figureOf_b25 S hA hQ (v0 - 48) _ _ _ h hS (lv_sub hl [] rfl)
theorem met6_figureOf (l : Launch) (v0 : Int32) (v1 : Int32) {Qp : Int32 → Prop} (h : w6_figureOf v0 v1 Qp) (sz : Nat) : Met l yX6_figureOf (ws_ yX6_figureOf cX6_figureOf 2 (some .int)) rX6_figureOf (pPc [.int v0, .int v1] sz) (pQi Qp sz) 0 0 (pA sz) :=
  p_metI (As := [.int v0, .int v1]) rfl (Nat.le_of_ble_eq_true rfl) (fun p e s m args below meth c Qs ls S hQ hl => t6_figureOf S (fun q h => h) hQ v0 v1 _ _ ls h va_S.rf hl) sz
/-! wayOf -/
abbrev rX6_wayOf : Room := { frames := 2, cells := 0, slots := 0, locals := 46 }
theorem cw6_121 {R : Room} {s : State} {args : Array Value} (hts : ∀ w ∈ lw_all, w.before args s = true) (hR : rX6_placeOf.frames + 1 ≤ R.frames ∧ 8 + (1 + 11) + rX6_placeOf.locals ≤ R.locals) : CallB R s args RX6 121 yX6_placeOf cX6_placeOf 1 (some .int) (ws_ yX6_placeOf cX6_placeOf 1 (some .int)) rX6_placeOf 0 0 1 ∧ (Cond.static yX6_placeOf).before args s = true := va_cwS 1 hts (lw_S q1080 q1081 q95 q1082) rfl rfl rfl (by decide +kernel) hR
theorem cw6_124 {R : Room} {s : State} {args : Array Value} (hts : ∀ w ∈ lw_all, w.before args s = true) (hR : rX6_figureOf.frames + 1 ≤ R.frames ∧ 8 + (2 + 11) + rX6_figureOf.locals ≤ R.locals) : CallB R s args RX6 124 yX6_figureOf cX6_figureOf 2 (some .int) (ws_ yX6_figureOf cX6_figureOf 2 (some .int)) rX6_figureOf 0 0 2 ∧ (Cond.static yX6_figureOf).before args s = true := va_cwS 2 hts (lw_S q1085 q1086 q95 q1087) rfl rfl rfl (by decide +kernel) hR
theorem t6_wayOf_b106 {p : Program} {l : Launch} {e : Env} {s : State} {m : MethodId} {args : Array Value} {below : List Frame} {meth : Method} {c : Code} {A : Nat → Prop} {H0 : Heap} {Qs : State → Prop} {Q : Int32 → Prop}  (S : CallFix p m c cX6_wayOf 3 s args lw_all RX6) (hA : ∀ q, H0.size ≤ q → A q) (hQ : pExi p l e rX6_wayOf s m args below meth c cX6_wayOf A H0 Qs Q)  (s0 : Int32) (H : Heap) (locs : List Loc) (ls : Array Slot) (h : w6_wayOf_b106 Q s0) (hS : va_S A H0 H locs) (hl : lv_has ls 3 []) : W p l e rX6_wayOf s m args below meth c H locs 0 0 Qs (F0 m 106 ls [.int s0]) := by
  have hx := S.1
  have hb := S.2.1
  have how := S.2.2.2.1
  have hts := S.2.2.2.2
  unfold w6_wayOf_b106 at h
  exact hQ _ _ _ _ _ h hS dX6_wayOf_106
theorem t6_wayOf_b93 {p : Program} {l : Launch} {e : Env} {s : State} {m : MethodId} {args : Array Value} {below : List Frame} {meth : Method} {c : Code} {A : Nat → Prop} {H0 : Heap} {Qs : State → Prop} {Q : Int32 → Prop}  (S : CallFix p m c cX6_wayOf 3 s args lw_all RX6) (hA : ∀ q, H0.size ≤ q → A q) (hQ : pExi p l e rX6_wayOf s m args below meth c cX6_wayOf A H0 Qs Q)  (s0 : Int32) (H : Heap) (locs : List Loc) (ls : Array Slot) (h : w6_wayOf_b93 Q s0) (hS : va_S A H0 H locs) (hl : lv_has ls 3 []) : W p l e rX6_wayOf s m args below meth c H locs 0 0 Qs (F0 m 93 ls [.int s0]) := by
  have hx := S.1
  have hb := S.2.1
  have how := S.2.2.2.1
  have hts := S.2.2.2.2
  unfold w6_wayOf_b93 at h
  exact hQ _ _ _ _ _ h hS dX6_wayOf_93
theorem t6_wayOf_b54 {p : Program} {l : Launch} {e : Env} {s : State} {m : MethodId} {args : Array Value} {below : List Frame} {meth : Method} {c : Code} {A : Nat → Prop} {H0 : Heap} {Qs : State → Prop} {Q : Int32 → Prop}  (S : CallFix p m c cX6_wayOf 3 s args lw_all RX6) (hA : ∀ q, H0.size ≤ q → A q) (hQ : pExi p l e rX6_wayOf s m args below meth c cX6_wayOf A H0 Qs Q)  (s0 : Int32) (H : Heap) (locs : List Loc) (ls : Array Slot) (h : w6_wayOf_b54 Q s0) (hS : va_S A H0 H locs) (hl : lv_has ls 3 []) : W p l e rX6_wayOf s m args below meth c H locs 0 0 Qs (F0 m 54 ls [.int s0]) := by
  have hx := S.1
  have hb := S.2.1
  have how := S.2.2.2.1
  have hts := S.2.2.2.2
  unfold w6_wayOf_b54 at h
  exact hQ _ _ _ _ _ h hS dX6_wayOf_54
theorem t6_wayOf {p : Program} {l : Launch} {e : Env} {s : State} {m : MethodId} {args : Array Value} {below : List Frame} {meth : Method} {c : Code} {A : Nat → Prop} {H0 : Heap} {Qs : State → Prop} {Q : Int32 → Prop} (S : CallFix p m c cX6_wayOf 3 s args lw_all RX6) (hA : ∀ q, H0.size ≤ q → A q) (hQ : pExi p l e rX6_wayOf s m args below meth c cX6_wayOf A H0 Qs Q) (v0 : Int32) (v1 : Int32) (v2 : Int32) (H : Heap) (locs : List Loc) (ls : Array Slot) (h : w6_wayOf v0 v1 v2 Q) (hS : va_S A H0 H locs) (hl : lv_has ls 3 [(0, .int v0), (1, .int v1), (2, .int v2)]) : W p l e rX6_wayOf s m args below meth c H locs 0 0 Qs (F0 m 0 ls []) := by
  have hx := S.1
  have hb := S.2.1
  have how := S.2.2.2.1
  have hts := S.2.2.2.2
  unfold w6_wayOf at h
  refine lv_iload_n hx hb dX6_wayOf_0 rfl (lv_at hl 0 rfl) ?_
  by_cases c0 : v0 = 0
  · have h := h.1 c0
    refine lv_tableIn (off := 31) (tgt := 32) hx hb dX6_wayOf_1 (by rw [c0]; decide) (by rw [c0]; decide) (by rw [c0]; rfl) (by decide) ?_
    refine lv_iload_n hx hb dX6_wayOf_32 rfl (lv_at hl 1 rfl) ?_
    refine p_calli (As := [.int v1]) (rest := []) S hS hA (met6_placeOf l v1 h) (cw6_121 hts ⟨Nat.le_of_ble_eq_true rfl, Nat.le_of_ble_eq_true rfl⟩) rfl hl.1 rfl (Nat.le_of_ble_eq_true rfl) ⟨Nat.zero_le _, Nat.zero_le _⟩ dX6_wayOf_33 (fun r1 H locs h _ hS => ?_)
    exact hQ _ _ _ _ _ h hS dX6_wayOf_36
  have h := h.2 c0
  by_cases c1 : v0 = 1
  · have h := h.1 c1
    refine lv_tableIn (off := 36) (tgt := 37) hx hb dX6_wayOf_1 (by rw [c1]; decide) (by rw [c1]; decide) (by rw [c1]; rfl) (by decide) ?_
    refine lv_iload_n hx hb dX6_wayOf_37 rfl (lv_at hl 1 rfl) ?_
    refine p_calli (As := [.int v1]) (rest := []) S hS hA (met6_placeOf l v1 h) (cw6_121 hts ⟨Nat.le_of_ble_eq_true rfl, Nat.le_of_ble_eq_true rfl⟩) rfl hl.1 rfl (Nat.le_of_ble_eq_true rfl) ⟨Nat.zero_le _, Nat.zero_le _⟩ dX6_wayOf_38 (fun r2 H locs h _ hS => ?_)
    refine lv_iload_n hx hb dX6_wayOf_41 rfl (lv_at hl 2 rfl) ?_
    refine lv_icmp_ne (tgt := 50) hx hb dX6_wayOf_42 (by decide) (fun c => ?_) (fun c => ?_)
    · have h := h.2 c
      refine lv_iload_n hx hb dX6_wayOf_50 rfl (lv_at hl 1 rfl) ?_
      refine p_calli (As := [.int v1]) (rest := []) S hS hA (met6_placeOf l v1 h) (cw6_121 hts ⟨Nat.le_of_ble_eq_true rfl, Nat.le_of_ble_eq_true rfl⟩) rfl hl.1 rfl (Nat.le_of_ble_eq_true rfl) ⟨Nat.zero_le _, Nat.zero_le _⟩ dX6_wayOf_51 (fun r3 H locs h _ hS => ?_)
      exact t6_wayOf_b54 S hA hQ r3 _ _ _ h hS (lv_sub hl [] rfl)
    · have h := h.1 c
      refine lv_bipush (v := -9) hx hb dX6_wayOf_45 (by decide) ?_
      refine lv_goto (tgt := 54) hx hb dX6_wayOf_47 (by decide) ?_
      exact t6_wayOf_b54 S hA hQ (-9) _ _ _ h hS (lv_sub hl [] rfl)
  have h := h.2 c1
  by_cases c2 : v0 = 2
  · have h := h.1 c2
    refine lv_tableIn (off := 54) (tgt := 55) hx hb dX6_wayOf_1 (by rw [c2]; decide) (by rw [c2]; decide) (by rw [c2]; rfl) (by decide) ?_
    refine lv_iload_n hx hb dX6_wayOf_55 rfl (lv_at hl 1 rfl) ?_
    refine lv_iconst (v := 1) hx hb dX6_wayOf_56 (by decide) ?_
    refine p_calli (As := [.int v1, .int 1]) (rest := []) S hS hA (met6_figureOf l v1 1 h) (cw6_124 hts ⟨Nat.le_of_ble_eq_true rfl, Nat.le_of_ble_eq_true rfl⟩) rfl hl.1 rfl (Nat.le_of_ble_eq_true rfl) ⟨Nat.zero_le _, Nat.zero_le _⟩ dX6_wayOf_57 (fun r4 H locs h _ hS => ?_)
    exact hQ _ _ _ _ _ h hS dX6_wayOf_60
  have h := h.2 c2
  by_cases c3 : v0 = 3
  · have h := h.1 c3
    refine lv_tableIn (off := 60) (tgt := 61) hx hb dX6_wayOf_1 (by rw [c3]; decide) (by rw [c3]; decide) (by rw [c3]; rfl) (by decide) ?_
    refine lv_iload_n hx hb dX6_wayOf_61 rfl (lv_at hl 1 rfl) ?_
    refine lv_bipush (v := 117) hx hb dX6_wayOf_62 (by decide) ?_
    refine lv_icmp_ne (tgt := 71) hx hb dX6_wayOf_64 (by decide) (fun c => ?_) (fun c => ?_)
    · have h := h.2 c
      refine lv_iload_n hx hb dX6_wayOf_71 rfl (lv_at hl 1 rfl) ?_
      refine lv_bipush (v := 102) hx hb dX6_wayOf_72 (by decide) ?_
      refine lv_icmp_ne (tgt := 81) hx hb dX6_wayOf_74 (by decide) (fun c => ?_) (fun c => ?_)
      · have h := h.2 c
        refine lv_iload_n hx hb dX6_wayOf_81 rfl (lv_at hl 1 rfl) ?_
        refine lv_bipush (v := 100) hx hb dX6_wayOf_82 (by decide) ?_
        refine lv_icmp_ne (tgt := 91) hx hb dX6_wayOf_84 (by decide) (fun c => ?_) (fun c => ?_)
        · have h := h.2 c
          refine lv_bipush (v := -9) hx hb dX6_wayOf_91 (by decide) ?_
          exact t6_wayOf_b93 S hA hQ (-9) _ _ _ h hS (lv_sub hl [] rfl)
        · have h := h.1 c
          refine lv_iconst (v := 2) hx hb dX6_wayOf_87 (by decide) ?_
          refine lv_goto (tgt := 93) hx hb dX6_wayOf_88 (by decide) ?_
          exact t6_wayOf_b93 S hA hQ 2 _ _ _ h hS (lv_sub hl [] rfl)
      · have h := h.1 c
        refine lv_iconst (v := 1) hx hb dX6_wayOf_77 (by decide) ?_
        refine lv_goto (tgt := 93) hx hb dX6_wayOf_78 (by decide) ?_
        exact t6_wayOf_b93 S hA hQ 1 _ _ _ h hS (lv_sub hl [] rfl)
    · have h := h.1 c
      refine lv_iconst (v := 0) hx hb dX6_wayOf_67 (by decide) ?_
      refine lv_goto (tgt := 93) hx hb dX6_wayOf_68 (by decide) ?_
      exact t6_wayOf_b93 S hA hQ 0 _ _ _ h hS (lv_sub hl [] rfl)
  have h := h.2 c3
  refine lv_tableOut (tgt := 94) hx hb dX6_wayOf_1 (sw_out4 c0 c1 c2 c3) (by decide) ?_
  refine lv_iload_n hx hb dX6_wayOf_94 rfl (lv_at hl 1 rfl) ?_
  refine lv_bipush (v := 59) hx hb dX6_wayOf_95 (by decide) ?_
  refine lv_icmp_ne (tgt := 104) hx hb dX6_wayOf_97 (by decide) (fun c => ?_) (fun c => ?_)
  · have h := h.2 c
    refine lv_bipush (v := -9) hx hb dX6_wayOf_104 (by decide) ?_
    exact t6_wayOf_b106 S hA hQ (-9) _ _ _ h hS (lv_sub hl [] rfl)
  · have h := h.1 c
    refine lv_iconst (v := 0) hx hb dX6_wayOf_100 (by decide) ?_
    refine lv_goto (tgt := 106) hx hb dX6_wayOf_101 (by decide) ?_
    exact t6_wayOf_b106 S hA hQ 0 _ _ _ h hS (lv_sub hl [] rfl)
theorem met6_wayOf (l : Launch) (v0 : Int32) (v1 : Int32) (v2 : Int32) {Qp : Int32 → Prop} (h : w6_wayOf v0 v1 v2 Qp) (sz : Nat) : Met l yX6_wayOf (ws_ yX6_wayOf cX6_wayOf 3 (some .int)) rX6_wayOf (pPc [.int v0, .int v1, .int v2] sz) (pQi Qp sz) 0 0 (pA sz) :=
  p_metI (As := [.int v0, .int v1, .int v2]) rfl (Nat.le_of_ble_eq_true rfl) (fun p e s m args below meth c Qs ls S hQ hl => t6_wayOf S (fun q h => h) hQ v0 v1 v2 _ _ ls h va_S.rf hl) sz
/-! readsWays -/
abbrev rX6_readsWays : Room := { frames := 3, cells := 0, slots := 0, locals := 68 }
theorem cw6_130 {R : Room} {s : State} {args : Array Value} (hts : ∀ w ∈ lw_all, w.before args s = true) (hR : rX6_wayOf.frames + 1 ≤ R.frames ∧ 8 + (3 + 11) + rX6_wayOf.locals ≤ R.locals) : CallB R s args RX6 130 yX6_wayOf cX6_wayOf 3 (some .int) (ws_ yX6_wayOf cX6_wayOf 3 (some .int)) rX6_wayOf 0 0 3 ∧ (Cond.static yX6_wayOf).before args s = true := va_cwS 3 hts (lw_S q1077 q1078 q95 q1079) rfl rfl rfl (by decide +kernel) hR
theorem t6_readsWays_b131 {p : Program} {l : Launch} {e : Env} {s : State} {m : MethodId} {args : Array Value} {below : List Frame} {meth : Method} {c : Code} {D : va_G} {T ad : Nat → Nat} {A : Nat → Prop} {H0 : Heap} {Qs : State → Prop} {Q : Int32 → Mem → Prop}  (C : MC D T p m c cX6_readsWays 6 s args) (hQ : mExi p l e rX6_readsWays s m args below meth c cX6_readsWays D T ad A H0 Qs Q)   (M : Mem) (H : Heap) (locs : List Loc) (ls : Array Slot) (h : w6_readsWays_b131 Q M) (I : MI D T ad A H0 M H locs) (hl : lv_has ls 6 [(0, .ref (ad 0))]) : W p l e rX6_readsWays s m args below meth c H locs 0 0 Qs (F0 m 131 ls []) := by
  have hx := C.1.1
  have hb := C.1.2.1
  have how := C.1.2.2.2.1
  have hts := C.1.2.2.2.2
  unfold w6_readsWays_b131 at h
  refine lv_iconst (v := -1) hx hb dX6_readsWays_131 (by decide) ?_
  exact hQ _ _ _ _ _ _ h I dX6_readsWays_132
theorem t6_readsWays_b103 {p : Program} {l : Launch} {e : Env} {s : State} {m : MethodId} {args : Array Value} {below : List Frame} {meth : Method} {c : Code} {D : va_G} {T ad : Nat → Nat} {A : Nat → Prop} {H0 : Heap} {Qs : State → Prop} {Q : Int32 → Mem → Prop} {K14 : Int32 → Int32 → Mem → Prop} (C : MC D T p m c cX6_readsWays 6 s args) (hQ : mExi p l e rX6_readsWays s m args below meth c cX6_readsWays D T ad A H0 Qs Q) (hK14 : ∀ (v1 : Int32) (v2 : Int32) (M : Mem) (H : Heap) (locs : List Loc) (ls : Array Slot), K14 v1 v2 M → MI D T ad A H0 M H locs → lv_has ls 6 [(0, .ref (ad 0)), (1, .int v1), (2, .int v2)] → W p l e rX6_readsWays s m args below meth c H locs 0 0 Qs (F0 m 14 ls [])) (v1 : Int32) (v2 : Int32) (s1 : Int32) (s2 : Int32) (M : Mem) (H : Heap) (locs : List Loc) (ls : Array Slot) (h : w6_readsWays_b103 Q K14 v1 v2 s1 s2 M) (I : MI D T ad A H0 M H locs) (hl : lv_has ls 6 [(0, .ref (ad 0)), (1, .int v1), (2, .int v2)]) : W p l e rX6_readsWays s m args below meth c H locs 0 0 Qs (F0 m 103 ls [.int s2, .int s1, .ref (ad 0)]) := by
  have hx := C.1.1
  have hb := C.1.2.1
  have how := C.1.2.2.2.1
  have hts := C.1.2.2.2.2
  unfold w6_readsWays_b103 at h
  refine lv_iadd hx hb dX6_readsWays_103 ?_
  refine mp_ways C I dX6_readsWays_104 (fun M1 H locs eM1 I => ?_)
  have h := h M1 eM1
  refine lv_iinc (v := (v2 + 1)) (lv' := [(2, .int (v2 + 1)), (0, .ref (ad 0)), (1, .int v1)]) hx hb dX6_readsWays_107 hl (k := 2) rfl (ii_1 _) (by decide) rfl (fun ls hl => ?_)
  refine lv_goto (tgt := 14) hx hb dX6_readsWays_110 (by decide) ?_
  exact hK14 v1 (v2 + 1) M1 _ _ _ h I (lv_sub hl [1, 2, 0] rfl)
theorem t6_readsWays_b88 {p : Program} {l : Launch} {e : Env} {s : State} {m : MethodId} {args : Array Value} {below : List Frame} {meth : Method} {c : Code} {D : va_G} {T ad : Nat → Nat} {A : Nat → Prop} {H0 : Heap} {Qs : State → Prop} {Q : Int32 → Mem → Prop} {K14 : Int32 → Int32 → Mem → Prop} (C : MC D T p m c cX6_readsWays 6 s args) (hQ : mExi p l e rX6_readsWays s m args below meth c cX6_readsWays D T ad A H0 Qs Q) (hK14 : ∀ (v1 : Int32) (v2 : Int32) (M : Mem) (H : Heap) (locs : List Loc) (ls : Array Slot), K14 v1 v2 M → MI D T ad A H0 M H locs → lv_has ls 6 [(0, .ref (ad 0)), (1, .int v1), (2, .int v2)] → W p l e rX6_readsWays s m args below meth c H locs 0 0 Qs (F0 m 14 ls [])) (v1 : Int32) (v2 : Int32) (v3 : Int32) (M : Mem) (H : Heap) (locs : List Loc) (ls : Array Slot) (h : w6_readsWays_b88 Q K14 v1 v2 v3 M) (I : MI D T ad A H0 M H locs) (hl : lv_has ls 6 [(0, .ref (ad 0)), (1, .int v1), (2, .int v2), (3, .int v3)]) : W p l e rX6_readsWays s m args below meth c H locs 0 0 Qs (F0 m 88 ls []) := by
  have hx := C.1.1
  have hb := C.1.2.1
  have how := C.1.2.2.2.1
  have hts := C.1.2.2.2.2
  unfold w6_readsWays_b88 at h
  refine lv_aload_n hx hb dX6_readsWays_88 rfl (lv_at hl 0 rfl) ?_
  refine lv_dup hx hb dX6_readsWays_89 rfl ?_
  refine mg_ways C I dX6_readsWays_90 ?_
  refine lv_iload_n hx hb dX6_readsWays_93 rfl (lv_at hl 3 rfl) ?_
  refine lv_iconst (v := 3) hx hb dX6_readsWays_94 (by decide) ?_
  refine lv_icmp_ne (tgt := 102) hx hb dX6_readsWays_95 (by decide) (fun c => ?_) (fun c => ?_)
  · have h := h.2 c
    refine lv_iconst (v := 0) hx hb dX6_readsWays_102 (by decide) ?_
    exact t6_readsWays_b103 C hQ hK14 v1 v2 (M 0 7) 0 M _ _ _ h I (lv_sub hl [0, 1, 2] rfl)
  · have h := h.1 c
    refine lv_iconst (v := 1) hx hb dX6_readsWays_98 (by decide) ?_
    refine lv_goto (tgt := 103) hx hb dX6_readsWays_99 (by decide) ?_
    exact t6_readsWays_b103 C hQ hK14 v1 v2 (M 0 7) 1 M _ _ _ h I (lv_sub hl [0, 1, 2] rfl)
theorem t6_readsWays_b53 {p : Program} {l : Launch} {e : Env} {s : State} {m : MethodId} {args : Array Value} {below : List Frame} {meth : Method} {c : Code} {D : va_G} {T ad : Nat → Nat} {A : Nat → Prop} {H0 : Heap} {Qs : State → Prop} {Q : Int32 → Mem → Prop} {K14 : Int32 → Int32 → Mem → Prop} (C : MC D T p m c cX6_readsWays 6 s args) (hQ : mExi p l e rX6_readsWays s m args below meth c cX6_readsWays D T ad A H0 Qs Q) (hK14 : ∀ (v1 : Int32) (v2 : Int32) (M : Mem) (H : Heap) (locs : List Loc) (ls : Array Slot), K14 v1 v2 M → MI D T ad A H0 M H locs → lv_has ls 6 [(0, .ref (ad 0)), (1, .int v1), (2, .int v2)] → W p l e rX6_readsWays s m args below meth c H locs 0 0 Qs (F0 m 14 ls [])) (v1 : Int32) (v2 : Int32) (v3 : Int32) (v4 : Int32) (s0 : Int32) (s1 : Int32) (s2 : Int32) (M : Mem) (H : Heap) (locs : List Loc) (ls : Array Slot) (h : w6_readsWays_b53 Q K14 v1 v2 v3 v4 s0 s1 s2 M) (I : MI D T ad A H0 M H locs) (hl : lv_has ls 6 [(0, .ref (ad 0)), (1, .int v1), (2, .int v2), (3, .int v3), (4, .int v4)]) : W p l e rX6_readsWays s m args below meth c H locs 0 0 Qs (F0 m 53 ls [.int s2, .int s1, .int s0]) := by
  have hx := C.1.1
  have hb := C.1.2.1
  have how := C.1.2.2.2.1
  have hts := C.1.2.2.2.2
  unfold w6_readsWays_b53 at h
  refine m_purei (As := [.int s0, .int s1, .int s2]) (rest := []) C I (met6_wayOf l s0 s1 s2 h) (cw6_130 hts ⟨Nat.le_of_ble_eq_true rfl, Nat.le_of_ble_eq_true rfl⟩) rfl hl.1 rfl (Nat.le_of_ble_eq_true rfl) ⟨Nat.zero_le _, Nat.zero_le _⟩ dX6_readsWays_53 (fun r2 H locs h I => ?_)
  refine lv_istore (lv' := [(5, .int r2), (0, .ref (ad 0)), (1, .int v1), (2, .int v2), (3, .int v3), (4, .int v4)]) hx hb dX6_readsWays_56 hl (by decide) rfl (fun ls hl => ?_)
  refine lv_iload hx hb dX6_readsWays_58 (lv_at hl 0 rfl) ?_
  refine lv_bipush (v := -9) hx hb dX6_readsWays_60 (by decide) ?_
  refine lv_icmp_ne (tgt := 72) hx hb dX6_readsWays_62 (by decide) (fun c => ?_) (fun c => ?_)
  · have h := h.2 c
    refine lv_iload_n hx hb dX6_readsWays_72 rfl (lv_at hl 4 rfl) ?_
    refine lv_iconst (v := 4) hx hb dX6_readsWays_73 (by decide) ?_
    refine lv_icmp_ge (tgt := 88) hx hb dX6_readsWays_74 (by decide) (fun c => ?_) (fun c => ?_)
    · have h := h.1 c
      exact t6_readsWays_b88 C hQ hK14 v1 v2 v3 M _ _ _ h I (lv_sub hl [1, 2, 3, 4] rfl)
    · have h := h.2 c
      refine lv_aload_n hx hb dX6_readsWays_77 rfl (lv_at hl 1 rfl) ?_
      refine mg_way C I dX6_readsWays_78 ?_
      refine lv_iload hx hb dX6_readsWays_81 (lv_at hl 5 rfl) ?_
      refine lv_iload_n hx hb dX6_readsWays_83 rfl (lv_at hl 4 rfl) ?_
      refine lv_iadd hx hb dX6_readsWays_84 ?_
      refine lv_iload hx hb dX6_readsWays_85 (lv_at hl 0 rfl) ?_
      obtain ⟨hg4, h⟩ := h
      refine m_iast C I 9 40 rfl (by decide) hg4 dX6_readsWays_87 (fun M5 H locs eM5 I => ?_)
      have h := h M5 eM5
      exact t6_readsWays_b88 C hQ hK14 v1 v2 v3 M5 _ _ _ h I (lv_sub hl [1, 2, 3, 4] rfl)
  · have h := h.1 c
    refine lv_aload_n hx hb dX6_readsWays_65 rfl (lv_at hl 1 rfl) ?_
    refine lv_iconst (v := 0) hx hb dX6_readsWays_66 (by decide) ?_
    refine mp_ways C I dX6_readsWays_67 (fun M3 H locs eM3 I => ?_)
    have h := h M3 eM3
    refine lv_iload_n hx hb dX6_readsWays_70 rfl (lv_at hl 3 rfl) ?_
    exact hQ _ _ _ _ _ _ h I dX6_readsWays_71
theorem t6_readsWays_b14_f {p : Program} {l : Launch} {e : Env} {s : State} {m : MethodId} {args : Array Value} {below : List Frame} {meth : Method} {c : Code} {D : va_G} {T ad : Nat → Nat} {A : Nat → Prop} {H0 : Heap} {Qs : State → Prop} {Q : Int32 → Mem → Prop} {K14 : Int32 → Int32 → Mem → Prop} (C : MC D T p m c cX6_readsWays 6 s args) (hQ : mExi p l e rX6_readsWays s m args below meth c cX6_readsWays D T ad A H0 Qs Q) (hK14 : ∀ (v1 : Int32) (v2 : Int32) (M : Mem) (H : Heap) (locs : List Loc) (ls : Array Slot), K14 v1 v2 M → MI D T ad A H0 M H locs → lv_has ls 6 [(0, .ref (ad 0)), (1, .int v1), (2, .int v2)] → W p l e rX6_readsWays s m args below meth c H locs 0 0 Qs (F0 m 14 ls [])) (v1 : Int32) (v2 : Int32) (M : Mem) (H : Heap) (locs : List Loc) (ls : Array Slot) (h : w6_readsWays_b14_f Q K14 v1 v2 M) (I : MI D T ad A H0 M H locs) (hl : lv_has ls 6 [(0, .ref (ad 0)), (1, .int v1), (2, .int v2)]) : W p l e rX6_readsWays s m args below meth c H locs 0 0 Qs (F0 m 14 ls []) := by
  have hx := C.1.1
  have hb := C.1.2.1
  have how := C.1.2.2.2.1
  have hts := C.1.2.2.2.2
  unfold w6_readsWays_b14_f at h
  refine lv_iload_n hx hb dX6_readsWays_14 rfl (lv_at hl 2 rfl) ?_
  refine lv_iload_n hx hb dX6_readsWays_15 rfl (lv_at hl 1 rfl) ?_
  refine lv_icmp_ge (tgt := 113) hx hb dX6_readsWays_16 (by decide) (fun c => ?_) (fun c => ?_)
  · have h := h.1 c
    refine lv_iload_n hx hb dX6_readsWays_113 rfl (lv_at hl 1 rfl) ?_
    refine lv_if_le (tgt := 131) hx hb dX6_readsWays_114 (by decide) (fun c => ?_) (fun c => ?_)
    · have h := h.1 c
      exact t6_readsWays_b131 C hQ M _ _ _ h I (lv_sub hl [0] rfl)
    · have h := h.2 c
      refine lv_iload_n hx hb dX6_readsWays_117 rfl (lv_at hl 1 rfl) ?_
      refine lv_iconst (v := 5) hx hb dX6_readsWays_118 (by decide) ?_
      refine lv_irem hx hb dX6_readsWays_119 (by decide) ?_
      refine lv_iconst (v := 4) hx hb dX6_readsWays_120 (by decide) ?_
      refine lv_icmp_eq (tgt := 131) hx hb dX6_readsWays_121 (by decide) (fun c => ?_) (fun c => ?_)
      · have h := h.1 c
        exact t6_readsWays_b131 C hQ M _ _ _ h I (lv_sub hl [0] rfl)
      · have h := h.2 c
        refine lv_aload_n hx hb dX6_readsWays_124 rfl (lv_at hl 0 rfl) ?_
        refine lv_iconst (v := 0) hx hb dX6_readsWays_125 (by decide) ?_
        refine mp_ways C I dX6_readsWays_126 (fun M6 H locs eM6 I => ?_)
        have h := h M6 eM6
        refine lv_iload_n hx hb dX6_readsWays_129 rfl (lv_at hl 1 rfl) ?_
        exact hQ _ _ _ _ _ _ h I dX6_readsWays_130
  · have h := h.2 c
    refine lv_iload_n hx hb dX6_readsWays_19 rfl (lv_at hl 2 rfl) ?_
    refine lv_iconst (v := 5) hx hb dX6_readsWays_20 (by decide) ?_
    refine lv_irem hx hb dX6_readsWays_21 (by decide) ?_
    refine lv_istore_n (lv' := [(3, .int (v2 - v2 / 5 * 5)), (0, .ref (ad 0)), (1, .int v1), (2, .int v2)]) hx hb dX6_readsWays_22 rfl hl (by decide) rfl (fun ls hl => ?_)
    refine lv_iconst (v := 4) hx hb dX6_readsWays_23 (by decide) ?_
    refine lv_iload_n hx hb dX6_readsWays_24 rfl (lv_at hl 3 rfl) ?_
    refine lv_iconst (v := 5) hx hb dX6_readsWays_25 (by decide) ?_
    refine lv_idiv hx hb dX6_readsWays_26 (by decide) ?_
    refine lv_imul hx hb dX6_readsWays_27 ?_
    refine lv_istore (lv' := [(4, .int (4 * (v2 / 5))), (3, .int (v2 - v2 / 5 * 5)), (0, .ref (ad 0)), (1, .int v1), (2, .int v2)]) hx hb dX6_readsWays_28 hl (by decide) rfl (fun ls hl => ?_)
    refine lv_iload_n hx hb dX6_readsWays_30 rfl (lv_at hl 1 rfl) ?_
    refine lv_aload_n hx hb dX6_readsWays_31 rfl (lv_at hl 2 rfl) ?_
    refine mg_bytes C I dX6_readsWays_32 ?_
    refine lv_iload_n hx hb dX6_readsWays_35 rfl (lv_at hl 4 rfl) ?_
    obtain ⟨hg7, h⟩ := h
    refine m_iald C I 6 112 rfl (by decide) hg7 dX6_readsWays_36 ?_
    refine lv_iload_n hx hb dX6_readsWays_37 rfl (lv_at hl 1 rfl) ?_
    refine lv_iconst (v := 1) hx hb dX6_readsWays_38 (by decide) ?_
    refine lv_icmp_ne (tgt := 52) hx hb dX6_readsWays_39 (by decide) (fun c => ?_) (fun c => ?_)
    · have h := h.2 c
      refine lv_iconst (v := -1) hx hb dX6_readsWays_52 (by decide) ?_
      exact t6_readsWays_b53 C hQ hK14 v1 v2 (v2 - v2 / 5 * 5) (4 * (v2 / 5)) (v2 - v2 / 5 * 5) (M 6 (ci v2)) (-1) M _ _ _ h I (lv_sub hl [2, 3, 4, 1, 0] rfl)
    · have h := h.1 c
      refine lv_aload_n hx hb dX6_readsWays_42 rfl (lv_at hl 2 rfl) ?_
      refine mg_way C I dX6_readsWays_43 ?_
      refine lv_iload hx hb dX6_readsWays_46 (lv_at hl 0 rfl) ?_
      obtain ⟨hg8, h⟩ := h
      refine m_iald C I 9 40 rfl (by decide) hg8 dX6_readsWays_48 ?_
      refine lv_goto (tgt := 53) hx hb dX6_readsWays_49 (by decide) ?_
      exact t6_readsWays_b53 C hQ hK14 v1 v2 (v2 - v2 / 5 * 5) (4 * (v2 / 5)) (v2 - v2 / 5 * 5) (M 6 (ci v2)) (M 9 (ci (4 * (v2 / 5)))) M _ _ _ h I (lv_sub hl [2, 3, 4, 1, 0] rfl)
theorem t6_readsWays_b14 {p : Program} {l : Launch} {e : Env} {s : State} {m : MethodId} {args : Array Value} {below : List Frame} {meth : Method} {c : Code} {D : va_G} {T ad : Nat → Nat} {A : Nat → Prop} {H0 : Heap} {Qs : State → Prop} {Q : Int32 → Mem → Prop}  (C : MC D T p m c cX6_readsWays 6 s args) (hQ : mExi p l e rX6_readsWays s m args below meth c cX6_readsWays D T ad A H0 Qs Q)  : ∀ (n : Nat) (v1 : Int32) (v2 : Int32) (M : Mem) (H : Heap) (locs : List Loc) (ls : Array Slot), w6_readsWays_b14 Q n v1 v2 M → MI D T ad A H0 M H locs → lv_has ls 6 [(0, .ref (ad 0)), (1, .int v1), (2, .int v2)] → W p l e rX6_readsWays s m args below meth c H locs 0 0 Qs (F0 m 14 ls []) := by
  intro n
  induction n with
  | zero => intro v1 v2 M H locs ls h; exact h.elim
  | succ n ih => intro v1 v2 M H locs ls h I hl; exact t6_readsWays_b14_f C hQ  ih v1 v2 M H locs ls h I hl
theorem t6_readsWays {p : Program} {l : Launch} {e : Env} {s : State} {m : MethodId} {args : Array Value} {below : List Frame} {meth : Method} {c : Code} {D : va_G} {T ad : Nat → Nat} {A : Nat → Prop} {H0 : Heap} {Qs : State → Prop} {Q : Int32 → Mem → Prop} (C : MC D T p m c cX6_readsWays 6 s args) (hQ : mExi p l e rX6_readsWays s m args below meth c cX6_readsWays D T ad A H0 Qs Q)  (M : Mem) (H : Heap) (locs : List Loc) (ls : Array Slot) (h : w6_readsWays M Q) (I : MI D T ad A H0 M H locs) (hl : lv_has ls 6 [(0, .ref (ad 0))]) : W p l e rX6_readsWays s m args below meth c H locs 0 0 Qs (F0 m 0 ls []) := by
  have hx := C.1.1
  have hb := C.1.2.1
  have how := C.1.2.2.2.1
  have hts := C.1.2.2.2.2
  unfold w6_readsWays at h
  refine lv_aload_n hx hb dX6_readsWays_0 rfl (lv_at hl 0 rfl) ?_
  refine lv_iconst (v := 0) hx hb dX6_readsWays_1 (by decide) ?_
  refine mp_ways C I dX6_readsWays_2 (fun M9 H locs eM9 I => ?_)
  have h := h M9 eM9
  refine lv_aload_n hx hb dX6_readsWays_5 rfl (lv_at hl 0 rfl) ?_
  refine mg_typed C I dX6_readsWays_6 ?_
  refine lv_iconst (v := 0) hx hb dX6_readsWays_9 (by decide) ?_
  obtain ⟨hg10, h⟩ := h
  refine m_iald C I 7 2 rfl (by decide) hg10 dX6_readsWays_10 ?_
  refine lv_istore_n (lv' := [(1, .int (M9 7 (ci 0))), (0, .ref (ad 0))]) hx hb dX6_readsWays_11 rfl hl (by decide) rfl (fun ls hl => ?_)
  refine lv_iconst (v := 0) hx hb dX6_readsWays_12 (by decide) ?_
  refine lv_istore_n (lv' := [(2, .int 0), (1, .int (M9 7 (ci 0))), (0, .ref (ad 0))]) hx hb dX6_readsWays_13 rfl hl (by decide) rfl (fun ls hl => ?_)
  obtain ⟨n, h⟩ := h
  exact t6_readsWays_b14 C hQ n (M9 7 (ci 0)) 0 M9 _ _ _ h I (lv_sub hl [2, 1, 0] rfl)
theorem met6_readsWays (l : Launch) (D : va_G) (T ad : Nat → Nat)  (M : Mem) {Qp : Int32 → Mem → Prop} (h : w6_readsWays M Qp) (sz : Nat) : Met l yX6_readsWays (ws_ yX6_readsWays cX6_readsWays 6 (some .int)) rX6_readsWays (mPc D T ad [] M sz) (mQi D T ad M Qp sz) 0 0 (fA (cM T ad M) sz) :=
  m_metI (As := []) rfl rfl (Nat.le_of_ble_eq_true rfl) (fun p e s m args below meth c A Qs ls C hQ I hl => t6_readsWays C hQ M _ _ ls h I hl) sz
/-! carterOf -/
abbrev rX6_carterOf : Room := { frames := 2, cells := 0, slots := 0, locals := 46 }
theorem t6_carterOf_b96 {p : Program} {l : Launch} {e : Env} {s : State} {m : MethodId} {args : Array Value} {below : List Frame} {meth : Method} {c : Code} {A : Nat → Prop} {H0 : Heap} {Qs : State → Prop} {Q : Int32 → Prop}  (S : CallFix p m c cX6_carterOf 2 s args lw_all RX6) (hA : ∀ q, H0.size ≤ q → A q) (hQ : pExi p l e rX6_carterOf s m args below meth c cX6_carterOf A H0 Qs Q)  (s0 : Int32) (H : Heap) (locs : List Loc) (ls : Array Slot) (h : w6_carterOf_b96 Q s0) (hS : va_S A H0 H locs) (hl : lv_has ls 2 []) : W p l e rX6_carterOf s m args below meth c H locs 0 0 Qs (F0 m 96 ls [.int s0]) := by
  have hx := S.1
  have hb := S.2.1
  have how := S.2.2.2.1
  have hts := S.2.2.2.2
  unfold w6_carterOf_b96 at h
  exact hQ _ _ _ _ _ h hS dX6_carterOf_96
theorem t6_carterOf_b78 {p : Program} {l : Launch} {e : Env} {s : State} {m : MethodId} {args : Array Value} {below : List Frame} {meth : Method} {c : Code} {A : Nat → Prop} {H0 : Heap} {Qs : State → Prop} {Q : Int32 → Prop}  (S : CallFix p m c cX6_carterOf 2 s args lw_all RX6) (hA : ∀ q, H0.size ≤ q → A q) (hQ : pExi p l e rX6_carterOf s m args below meth c cX6_carterOf A H0 Qs Q)  (v1 : Int32) (H : Heap) (locs : List Loc) (ls : Array Slot) (h : w6_carterOf_b78 Q v1) (hS : va_S A H0 H locs) (hl : lv_has ls 2 [(1, .int v1)]) : W p l e rX6_carterOf s m args below meth c H locs 0 0 Qs (F0 m 78 ls []) := by
  have hx := S.1
  have hb := S.2.1
  have how := S.2.2.2.1
  have hts := S.2.2.2.2
  unfold w6_carterOf_b78 at h
  refine lv_iload_n hx hb dX6_carterOf_78 rfl (lv_at hl 0 rfl) ?_
  refine lv_iconst (v := 0) hx hb dX6_carterOf_79 (by decide) ?_
  refine p_calli (As := [.int v1, .int 0]) (rest := []) S hS hA (met6_figureOf l v1 0 h) (cw6_124 hts ⟨Nat.le_of_ble_eq_true rfl, Nat.le_of_ble_eq_true rfl⟩) rfl hl.1 rfl (Nat.le_of_ble_eq_true rfl) ⟨Nat.zero_le _, Nat.zero_le _⟩ dX6_carterOf_80 (fun r1 H locs h _ hS => ?_)
  exact hQ _ _ _ _ _ h hS dX6_carterOf_83
theorem t6_carterOf_b77 {p : Program} {l : Launch} {e : Env} {s : State} {m : MethodId} {args : Array Value} {below : List Frame} {meth : Method} {c : Code} {A : Nat → Prop} {H0 : Heap} {Qs : State → Prop} {Q : Int32 → Prop}  (S : CallFix p m c cX6_carterOf 2 s args lw_all RX6) (hA : ∀ q, H0.size ≤ q → A q) (hQ : pExi p l e rX6_carterOf s m args below meth c cX6_carterOf A H0 Qs Q)  (s0 : Int32) (H : Heap) (locs : List Loc) (ls : Array Slot) (h : w6_carterOf_b77 Q s0) (hS : va_S A H0 H locs) (hl : lv_has ls 2 []) : W p l e rX6_carterOf s m args below meth c H locs 0 0 Qs (F0 m 77 ls [.int s0]) := by
  have hx := S.1
  have hb := S.2.1
  have how := S.2.2.2.1
  have hts := S.2.2.2.2
  unfold w6_carterOf_b77 at h
  exact hQ _ _ _ _ _ h hS dX6_carterOf_77
theorem t6_carterOf_b40 {p : Program} {l : Launch} {e : Env} {s : State} {m : MethodId} {args : Array Value} {below : List Frame} {meth : Method} {c : Code} {A : Nat → Prop} {H0 : Heap} {Qs : State → Prop} {Q : Int32 → Prop}  (S : CallFix p m c cX6_carterOf 2 s args lw_all RX6) (hA : ∀ q, H0.size ≤ q → A q) (hQ : pExi p l e rX6_carterOf s m args below meth c cX6_carterOf A H0 Qs Q)  (v1 : Int32) (H : Heap) (locs : List Loc) (ls : Array Slot) (h : w6_carterOf_b40 Q v1) (hS : va_S A H0 H locs) (hl : lv_has ls 2 [(1, .int v1)]) : W p l e rX6_carterOf s m args below meth c H locs 0 0 Qs (F0 m 40 ls []) := by
  have hx := S.1
  have hb := S.2.1
  have how := S.2.2.2.1
  have hts := S.2.2.2.2
  unfold w6_carterOf_b40 at h
  refine lv_iload_n hx hb dX6_carterOf_40 rfl (lv_at hl 0 rfl) ?_
  refine p_calli (As := [.int v1]) (rest := []) S hS hA (met6_placeOf l v1 h) (cw6_121 hts ⟨Nat.le_of_ble_eq_true rfl, Nat.le_of_ble_eq_true rfl⟩) rfl hl.1 rfl (Nat.le_of_ble_eq_true rfl) ⟨Nat.zero_le _, Nat.zero_le _⟩ dX6_carterOf_41 (fun r2 H locs h _ hS => ?_)
  exact hQ _ _ _ _ _ h hS dX6_carterOf_44
theorem t6_carterOf {p : Program} {l : Launch} {e : Env} {s : State} {m : MethodId} {args : Array Value} {below : List Frame} {meth : Method} {c : Code} {A : Nat → Prop} {H0 : Heap} {Qs : State → Prop} {Q : Int32 → Prop} (S : CallFix p m c cX6_carterOf 2 s args lw_all RX6) (hA : ∀ q, H0.size ≤ q → A q) (hQ : pExi p l e rX6_carterOf s m args below meth c cX6_carterOf A H0 Qs Q) (v0 : Int32) (v1 : Int32) (H : Heap) (locs : List Loc) (ls : Array Slot) (h : w6_carterOf v0 v1 Q) (hS : va_S A H0 H locs) (hl : lv_has ls 2 [(0, .int v0), (1, .int v1)]) : W p l e rX6_carterOf s m args below meth c H locs 0 0 Qs (F0 m 0 ls []) := by
  have hx := S.1
  have hb := S.2.1
  have how := S.2.2.2.1
  have hts := S.2.2.2.2
  unfold w6_carterOf at h
  refine lv_iload_n hx hb dX6_carterOf_0 rfl (lv_at hl 0 rfl) ?_
  by_cases c0 : v0 = 0
  · have h := h.1 c0
    refine lv_tableIn (off := 39) (tgt := 40) hx hb dX6_carterOf_1 (by rw [c0]; decide) (by rw [c0]; decide) (by rw [c0]; rfl) (by decide) ?_
    exact t6_carterOf_b40 S hA hQ v1 _ _ _ h hS (lv_sub hl [1] rfl)
  have h := h.2 c0
  by_cases c1 : v0 = 1
  · have h := h.1 c1
    refine lv_tableIn (off := 39) (tgt := 40) hx hb dX6_carterOf_1 (by rw [c1]; decide) (by rw [c1]; decide) (by rw [c1]; rfl) (by decide) ?_
    exact t6_carterOf_b40 S hA hQ v1 _ _ _ h hS (lv_sub hl [1] rfl)
  have h := h.2 c1
  by_cases c2 : v0 = 2
  · have h := h.1 c2
    refine lv_tableIn (off := 44) (tgt := 45) hx hb dX6_carterOf_1 (by rw [c2]; decide) (by rw [c2]; decide) (by rw [c2]; rfl) (by decide) ?_
    refine lv_iload_n hx hb dX6_carterOf_45 rfl (lv_at hl 1 rfl) ?_
    refine lv_bipush (v := 111) hx hb dX6_carterOf_46 (by decide) ?_
    refine lv_icmp_ne (tgt := 55) hx hb dX6_carterOf_48 (by decide) (fun c => ?_) (fun c => ?_)
    · have h := h.2 c
      refine lv_iload_n hx hb dX6_carterOf_55 rfl (lv_at hl 1 rfl) ?_
      refine lv_bipush (v := 99) hx hb dX6_carterOf_56 (by decide) ?_
      refine lv_icmp_ne (tgt := 65) hx hb dX6_carterOf_58 (by decide) (fun c => ?_) (fun c => ?_)
      · have h := h.2 c
        refine lv_iload_n hx hb dX6_carterOf_65 rfl (lv_at hl 1 rfl) ?_
        refine lv_bipush (v := 114) hx hb dX6_carterOf_66 (by decide) ?_
        refine lv_icmp_ne (tgt := 75) hx hb dX6_carterOf_68 (by decide) (fun c => ?_) (fun c => ?_)
        · have h := h.2 c
          refine lv_bipush (v := -9) hx hb dX6_carterOf_75 (by decide) ?_
          exact t6_carterOf_b77 S hA hQ (-9) _ _ _ h hS (lv_sub hl [] rfl)
        · have h := h.1 c
          refine lv_iconst (v := 2) hx hb dX6_carterOf_71 (by decide) ?_
          refine lv_goto (tgt := 77) hx hb dX6_carterOf_72 (by decide) ?_
          exact t6_carterOf_b77 S hA hQ 2 _ _ _ h hS (lv_sub hl [] rfl)
      · have h := h.1 c
        refine lv_iconst (v := 1) hx hb dX6_carterOf_61 (by decide) ?_
        refine lv_goto (tgt := 77) hx hb dX6_carterOf_62 (by decide) ?_
        exact t6_carterOf_b77 S hA hQ 1 _ _ _ h hS (lv_sub hl [] rfl)
    · have h := h.1 c
      refine lv_iconst (v := 0) hx hb dX6_carterOf_51 (by decide) ?_
      refine lv_goto (tgt := 77) hx hb dX6_carterOf_52 (by decide) ?_
      exact t6_carterOf_b77 S hA hQ 0 _ _ _ h hS (lv_sub hl [] rfl)
  have h := h.2 c2
  by_cases c3 : v0 = 3
  · have h := h.1 c3
    refine lv_tableIn (off := 77) (tgt := 78) hx hb dX6_carterOf_1 (by rw [c3]; decide) (by rw [c3]; decide) (by rw [c3]; rfl) (by decide) ?_
    exact t6_carterOf_b78 S hA hQ v1 _ _ _ h hS (lv_sub hl [1] rfl)
  have h := h.2 c3
  by_cases c4 : v0 = 4
  · have h := h.1 c4
    refine lv_tableIn (off := 77) (tgt := 78) hx hb dX6_carterOf_1 (by rw [c4]; decide) (by rw [c4]; decide) (by rw [c4]; rfl) (by decide) ?_
    exact t6_carterOf_b78 S hA hQ v1 _ _ _ h hS (lv_sub hl [1] rfl)
  have h := h.2 c4
  by_cases c5 : v0 = 5
  · have h := h.1 c5
    refine lv_tableIn (off := 77) (tgt := 78) hx hb dX6_carterOf_1 (by rw [c5]; decide) (by rw [c5]; decide) (by rw [c5]; rfl) (by decide) ?_
    exact t6_carterOf_b78 S hA hQ v1 _ _ _ h hS (lv_sub hl [1] rfl)
  have h := h.2 c5
  refine lv_tableOut (tgt := 84) hx hb dX6_carterOf_1 (sw_out6 c0 c1 c2 c3 c4 c5) (by decide) ?_
  refine lv_iload_n hx hb dX6_carterOf_84 rfl (lv_at hl 1 rfl) ?_
  refine lv_bipush (v := 59) hx hb dX6_carterOf_85 (by decide) ?_
  refine lv_icmp_ne (tgt := 94) hx hb dX6_carterOf_87 (by decide) (fun c => ?_) (fun c => ?_)
  · have h := h.2 c
    refine lv_bipush (v := -9) hx hb dX6_carterOf_94 (by decide) ?_
    exact t6_carterOf_b96 S hA hQ (-9) _ _ _ h hS (lv_sub hl [] rfl)
  · have h := h.1 c
    refine lv_iconst (v := 0) hx hb dX6_carterOf_90 (by decide) ?_
    refine lv_goto (tgt := 96) hx hb dX6_carterOf_91 (by decide) ?_
    exact t6_carterOf_b96 S hA hQ 0 _ _ _ h hS (lv_sub hl [] rfl)
theorem met6_carterOf (l : Launch) (v0 : Int32) (v1 : Int32) {Qp : Int32 → Prop} (h : w6_carterOf v0 v1 Qp) (sz : Nat) : Met l yX6_carterOf (ws_ yX6_carterOf cX6_carterOf 2 (some .int)) rX6_carterOf (pPc [.int v0, .int v1] sz) (pQi Qp sz) 0 0 (pA sz) :=
  p_metI (As := [.int v0, .int v1]) rfl (Nat.le_of_ble_eq_true rfl) (fun p e s m args below meth c Qs ls S hQ hl => t6_carterOf S (fun q h => h) hQ v0 v1 _ _ ls h va_S.rf hl) sz
/-! readsCarters -/
abbrev rX6_readsCarters : Room := { frames := 3, cells := 0, slots := 0, locals := 67 }
theorem cw6_136 {R : Room} {s : State} {args : Array Value} (hts : ∀ w ∈ lw_all, w.before args s = true) (hR : rX6_carterOf.frames + 1 ≤ R.frames ∧ 8 + (2 + 11) + rX6_carterOf.locals ≤ R.locals) : CallB R s args RX6 136 yX6_carterOf cX6_carterOf 2 (some .int) (ws_ yX6_carterOf cX6_carterOf 2 (some .int)) rX6_carterOf 0 0 2 ∧ (Cond.static yX6_carterOf).before args s = true := va_cwS 2 hts (lw_S q1093 q1094 q95 q1095) rfl rfl rfl (by decide +kernel) hR
theorem t6_readsCarters_b176 {p : Program} {l : Launch} {e : Env} {s : State} {m : MethodId} {args : Array Value} {below : List Frame} {meth : Method} {c : Code} {D : va_G} {T ad : Nat → Nat} {A : Nat → Prop} {H0 : Heap} {Qs : State → Prop} {Q : Int32 → Mem → Prop}  (C : MC D T p m c cX6_readsCarters 6 s args) (hQ : mExi p l e rX6_readsCarters s m args below meth c cX6_readsCarters D T ad A H0 Qs Q)   (M : Mem) (H : Heap) (locs : List Loc) (ls : Array Slot) (h : w6_readsCarters_b176 Q M) (I : MI D T ad A H0 M H locs) (hl : lv_has ls 6 [(0, .ref (ad 0))]) : W p l e rX6_readsCarters s m args below meth c H locs 0 0 Qs (F0 m 176 ls []) := by
  have hx := C.1.1
  have hb := C.1.2.1
  have how := C.1.2.2.2.1
  have hts := C.1.2.2.2.2
  unfold w6_readsCarters_b176 at h
  refine lv_iconst (v := -1) hx hb dX6_readsCarters_176 (by decide) ?_
  exact hQ _ _ _ _ _ _ h I dX6_readsCarters_177
theorem t6_readsCarters_b150 {p : Program} {l : Launch} {e : Env} {s : State} {m : MethodId} {args : Array Value} {below : List Frame} {meth : Method} {c : Code} {D : va_G} {T ad : Nat → Nat} {A : Nat → Prop} {H0 : Heap} {Qs : State → Prop} {Q : Int32 → Mem → Prop} {K14 : Int32 → Int32 → Mem → Prop} (C : MC D T p m c cX6_readsCarters 6 s args) (hQ : mExi p l e rX6_readsCarters s m args below meth c cX6_readsCarters D T ad A H0 Qs Q) (hK14 : ∀ (v1 : Int32) (v2 : Int32) (M : Mem) (H : Heap) (locs : List Loc) (ls : Array Slot), K14 v1 v2 M → MI D T ad A H0 M H locs → lv_has ls 6 [(0, .ref (ad 0)), (1, .int v1), (2, .int v2)] → W p l e rX6_readsCarters s m args below meth c H locs 0 0 Qs (F0 m 14 ls [])) (v1 : Int32) (v2 : Int32) (M : Mem) (H : Heap) (locs : List Loc) (ls : Array Slot) (h : w6_readsCarters_b150 Q K14 v1 v2 M) (I : MI D T ad A H0 M H locs) (hl : lv_has ls 6 [(0, .ref (ad 0)), (1, .int v1), (2, .int v2)]) : W p l e rX6_readsCarters s m args below meth c H locs 0 0 Qs (F0 m 150 ls []) := by
  have hx := C.1.1
  have hb := C.1.2.1
  have how := C.1.2.2.2.1
  have hts := C.1.2.2.2.2
  unfold w6_readsCarters_b150 at h
  refine lv_iinc (v := (v2 + 1)) (lv' := [(2, .int (v2 + 1)), (0, .ref (ad 0)), (1, .int v1)]) hx hb dX6_readsCarters_150 hl (k := 2) rfl (ii_1 _) (by decide) rfl (fun ls hl => ?_)
  refine lv_goto (tgt := 14) hx hb dX6_readsCarters_153 (by decide) ?_
  exact hK14 v1 (v2 + 1) M _ _ _ h I (lv_sub hl [1, 2, 0] rfl)
theorem t6_readsCarters_b14_f {p : Program} {l : Launch} {e : Env} {s : State} {m : MethodId} {args : Array Value} {below : List Frame} {meth : Method} {c : Code} {D : va_G} {T ad : Nat → Nat} {A : Nat → Prop} {H0 : Heap} {Qs : State → Prop} {Q : Int32 → Mem → Prop} {K14 : Int32 → Int32 → Mem → Prop} (C : MC D T p m c cX6_readsCarters 6 s args) (hQ : mExi p l e rX6_readsCarters s m args below meth c cX6_readsCarters D T ad A H0 Qs Q) (hK14 : ∀ (v1 : Int32) (v2 : Int32) (M : Mem) (H : Heap) (locs : List Loc) (ls : Array Slot), K14 v1 v2 M → MI D T ad A H0 M H locs → lv_has ls 6 [(0, .ref (ad 0)), (1, .int v1), (2, .int v2)] → W p l e rX6_readsCarters s m args below meth c H locs 0 0 Qs (F0 m 14 ls [])) (v1 : Int32) (v2 : Int32) (M : Mem) (H : Heap) (locs : List Loc) (ls : Array Slot) (h : w6_readsCarters_b14_f Q K14 v1 v2 M) (I : MI D T ad A H0 M H locs) (hl : lv_has ls 6 [(0, .ref (ad 0)), (1, .int v1), (2, .int v2)]) : W p l e rX6_readsCarters s m args below meth c H locs 0 0 Qs (F0 m 14 ls []) := by
  have hx := C.1.1
  have hb := C.1.2.1
  have how := C.1.2.2.2.1
  have hts := C.1.2.2.2.2
  unfold w6_readsCarters_b14_f at h
  refine lv_iload_n hx hb dX6_readsCarters_14 rfl (lv_at hl 2 rfl) ?_
  refine lv_iload_n hx hb dX6_readsCarters_15 rfl (lv_at hl 1 rfl) ?_
  refine lv_icmp_ge (tgt := 156) hx hb dX6_readsCarters_16 (by decide) (fun c => ?_) (fun c => ?_)
  · have h := h.1 c
    refine lv_iload_n hx hb dX6_readsCarters_156 rfl (lv_at hl 1 rfl) ?_
    refine lv_if_le (tgt := 176) hx hb dX6_readsCarters_157 (by decide) (fun c => ?_) (fun c => ?_)
    · have h := h.1 c
      exact t6_readsCarters_b176 C hQ M _ _ _ h I (lv_sub hl [0] rfl)
    · have h := h.2 c
      refine lv_iload_n hx hb dX6_readsCarters_160 rfl (lv_at hl 1 rfl) ?_
      refine lv_bipush (v := 7) hx hb dX6_readsCarters_161 (by decide) ?_
      refine lv_irem hx hb dX6_readsCarters_163 (by decide) ?_
      refine lv_bipush (v := 6) hx hb dX6_readsCarters_164 (by decide) ?_
      refine lv_icmp_eq (tgt := 176) hx hb dX6_readsCarters_166 (by decide) (fun c => ?_) (fun c => ?_)
      · have h := h.1 c
        exact t6_readsCarters_b176 C hQ M _ _ _ h I (lv_sub hl [0] rfl)
      · have h := h.2 c
        refine lv_aload_n hx hb dX6_readsCarters_169 rfl (lv_at hl 0 rfl) ?_
        refine lv_iconst (v := 0) hx hb dX6_readsCarters_170 (by decide) ?_
        refine mp_carters C I dX6_readsCarters_171 (fun M1 H locs eM1 I => ?_)
        have h := h M1 eM1
        refine lv_iload_n hx hb dX6_readsCarters_174 rfl (lv_at hl 1 rfl) ?_
        exact hQ _ _ _ _ _ _ h I dX6_readsCarters_175
  · have h := h.2 c
    refine lv_iload_n hx hb dX6_readsCarters_19 rfl (lv_at hl 2 rfl) ?_
    refine lv_bipush (v := 7) hx hb dX6_readsCarters_20 (by decide) ?_
    refine lv_irem hx hb dX6_readsCarters_22 (by decide) ?_
    refine lv_istore_n (lv' := [(3, .int (v2 - v2 / 7 * 7)), (0, .ref (ad 0)), (1, .int v1), (2, .int v2)]) hx hb dX6_readsCarters_23 rfl hl (by decide) rfl (fun ls hl => ?_)
    refine lv_iload_n hx hb dX6_readsCarters_24 rfl (lv_at hl 0 rfl) ?_
    refine lv_aload_n hx hb dX6_readsCarters_25 rfl (lv_at hl 1 rfl) ?_
    refine mg_bytes C I dX6_readsCarters_26 ?_
    refine lv_bipush (v := 56) hx hb dX6_readsCarters_29 (by decide) ?_
    refine lv_iload_n hx hb dX6_readsCarters_31 rfl (lv_at hl 3 rfl) ?_
    refine lv_iadd hx hb dX6_readsCarters_32 ?_
    obtain ⟨hg2, h⟩ := h
    refine m_iald C I 6 112 rfl (by decide) hg2 dX6_readsCarters_33 ?_
    refine m_purei (As := [.int (v2 - v2 / 7 * 7), .int (M 6 (ci (56 + v2)))]) (rest := []) C I (met6_carterOf l (v2 - v2 / 7 * 7) (M 6 (ci (56 + v2))) h) (cw6_136 hts ⟨Nat.le_of_ble_eq_true rfl, Nat.le_of_ble_eq_true rfl⟩) rfl hl.1 rfl (Nat.le_of_ble_eq_true rfl) ⟨Nat.zero_le _, Nat.zero_le _⟩ dX6_readsCarters_34 (fun r3 H locs h I => ?_)
    refine lv_istore (lv' := [(4, .int r3), (3, .int (v2 - v2 / 7 * 7)), (0, .ref (ad 0)), (1, .int v1), (2, .int v2)]) hx hb dX6_readsCarters_37 hl (by decide) rfl (fun ls hl => ?_)
    refine lv_iload hx hb dX6_readsCarters_39 (lv_at hl 0 rfl) ?_
    refine lv_bipush (v := -9) hx hb dX6_readsCarters_41 (by decide) ?_
    refine lv_icmp_ne (tgt := 53) hx hb dX6_readsCarters_43 (by decide) (fun c => ?_) (fun c => ?_)
    · have h := h.2 c
      refine lv_iconst (v := 5) hx hb dX6_readsCarters_53 (by decide) ?_
      refine lv_iload_n hx hb dX6_readsCarters_54 rfl (lv_at hl 4 rfl) ?_
      refine lv_bipush (v := 7) hx hb dX6_readsCarters_55 (by decide) ?_
      refine lv_idiv hx hb dX6_readsCarters_57 (by decide) ?_
      refine lv_imul hx hb dX6_readsCarters_58 ?_
      refine lv_istore (lv' := [(5, .int (5 * (v2 / 7))), (4, .int r3), (3, .int (v2 - v2 / 7 * 7)), (0, .ref (ad 0)), (1, .int v1), (2, .int v2)]) hx hb dX6_readsCarters_59 hl (by decide) rfl (fun ls hl => ?_)
      refine lv_iload_n hx hb dX6_readsCarters_61 rfl (lv_at hl 2 rfl) ?_
      refine lv_iconst (v := 3) hx hb dX6_readsCarters_62 (by decide) ?_
      refine lv_icmp_ge (tgt := 80) hx hb dX6_readsCarters_63 (by decide) (fun c => ?_) (fun c => ?_)
      · have h := h.1 c
        refine lv_iload_n hx hb dX6_readsCarters_80 rfl (lv_at hl 2 rfl) ?_
        refine lv_iconst (v := 3) hx hb dX6_readsCarters_81 (by decide) ?_
        refine lv_icmp_ne (tgt := 102) hx hb dX6_readsCarters_82 (by decide) (fun c => ?_) (fun c => ?_)
        · have h := h.2 c
          refine lv_iload_n hx hb dX6_readsCarters_102 rfl (lv_at hl 2 rfl) ?_
          refine lv_iconst (v := 4) hx hb dX6_readsCarters_103 (by decide) ?_
          refine lv_icmp_ne (tgt := 124) hx hb dX6_readsCarters_104 (by decide) (fun c => ?_) (fun c => ?_)
          · have h := h.2 c
            refine lv_iload_n hx hb dX6_readsCarters_124 rfl (lv_at hl 2 rfl) ?_
            refine lv_iconst (v := 5) hx hb dX6_readsCarters_125 (by decide) ?_
            refine lv_icmp_ne (tgt := 150) hx hb dX6_readsCarters_126 (by decide) (fun c => ?_) (fun c => ?_)
            · have h := h.2 c
              exact t6_readsCarters_b150 C hQ hK14 v1 v2 M _ _ _ h I (lv_sub hl [3, 4, 5] rfl)
            · have h := h.1 c
              refine lv_aload_n hx hb dX6_readsCarters_129 rfl (lv_at hl 3 rfl) ?_
              refine mg_carter C I dX6_readsCarters_130 ?_
              refine lv_iload hx hb dX6_readsCarters_133 (lv_at hl 0 rfl) ?_
              refine lv_iconst (v := 4) hx hb dX6_readsCarters_135 (by decide) ?_
              refine lv_iadd hx hb dX6_readsCarters_136 ?_
              refine lv_iload hx hb dX6_readsCarters_137 (lv_at hl 1 rfl) ?_
              obtain ⟨hg9, h⟩ := h
              refine m_iast C I 11 40 rfl (by decide) hg9 dX6_readsCarters_139 (fun M10 H locs eM10 I => ?_)
              have h := h M10 eM10
              refine lv_aload_n hx hb dX6_readsCarters_140 rfl (lv_at hl 3 rfl) ?_
              refine lv_dup hx hb dX6_readsCarters_141 rfl ?_
              refine mg_carters C I dX6_readsCarters_142 ?_
              refine lv_iconst (v := 1) hx hb dX6_readsCarters_145 (by decide) ?_
              refine lv_iadd hx hb dX6_readsCarters_146 ?_
              refine mp_carters C I dX6_readsCarters_147 (fun M11 H locs eM11 I => ?_)
              have h := h M11 eM11
              exact t6_readsCarters_b150 C hQ hK14 v1 v2 M11 _ _ _ h I (lv_sub hl [3, 4, 5] rfl)
          · have h := h.1 c
            refine lv_aload_n hx hb dX6_readsCarters_107 rfl (lv_at hl 3 rfl) ?_
            refine mg_carter C I dX6_readsCarters_108 ?_
            refine lv_iload hx hb dX6_readsCarters_111 (lv_at hl 0 rfl) ?_
            refine lv_iconst (v := 3) hx hb dX6_readsCarters_113 (by decide) ?_
            refine lv_iadd hx hb dX6_readsCarters_114 ?_
            refine lv_dup2_11 hx hb dX6_readsCarters_115 rfl rfl ?_
            obtain ⟨hg7, h⟩ := h
            refine m_iald C I 11 40 rfl (by decide) hg7 dX6_readsCarters_116 ?_
            refine lv_iload hx hb dX6_readsCarters_117 (lv_at hl 1 rfl) ?_
            refine lv_iadd hx hb dX6_readsCarters_119 ?_
            refine m_iast C I 11 40 rfl (by decide) hg7 dX6_readsCarters_120 (fun M8 H locs eM8 I => ?_)
            have h := h M8 eM8
            refine lv_goto (tgt := 150) hx hb dX6_readsCarters_121 (by decide) ?_
            exact t6_readsCarters_b150 C hQ hK14 v1 v2 M8 _ _ _ h I (lv_sub hl [3, 4, 5] rfl)
        · have h := h.1 c
          refine lv_aload_n hx hb dX6_readsCarters_85 rfl (lv_at hl 3 rfl) ?_
          refine mg_carter C I dX6_readsCarters_86 ?_
          refine lv_iload hx hb dX6_readsCarters_89 (lv_at hl 0 rfl) ?_
          refine lv_iconst (v := 3) hx hb dX6_readsCarters_91 (by decide) ?_
          refine lv_iadd hx hb dX6_readsCarters_92 ?_
          refine lv_bipush (v := 10) hx hb dX6_readsCarters_93 (by decide) ?_
          refine lv_iload hx hb dX6_readsCarters_95 (lv_at hl 1 rfl) ?_
          refine lv_imul hx hb dX6_readsCarters_97 ?_
          obtain ⟨hg5, h⟩ := h
          refine m_iast C I 11 40 rfl (by decide) hg5 dX6_readsCarters_98 (fun M6 H locs eM6 I => ?_)
          have h := h M6 eM6
          refine lv_goto (tgt := 150) hx hb dX6_readsCarters_99 (by decide) ?_
          exact t6_readsCarters_b150 C hQ hK14 v1 v2 M6 _ _ _ h I (lv_sub hl [3, 4, 5] rfl)
      · have h := h.2 c
        refine lv_aload_n hx hb dX6_readsCarters_66 rfl (lv_at hl 3 rfl) ?_
        refine mg_carter C I dX6_readsCarters_67 ?_
        refine lv_iload hx hb dX6_readsCarters_70 (lv_at hl 0 rfl) ?_
        refine lv_iload_n hx hb dX6_readsCarters_72 rfl (lv_at hl 2 rfl) ?_
        refine lv_iadd hx hb dX6_readsCarters_73 ?_
        refine lv_iload hx hb dX6_readsCarters_74 (lv_at hl 1 rfl) ?_
        obtain ⟨hg12, h⟩ := h
        refine m_iast C I 11 40 rfl (by decide) hg12 dX6_readsCarters_76 (fun M13 H locs eM13 I => ?_)
        have h := h M13 eM13
        refine lv_goto (tgt := 150) hx hb dX6_readsCarters_77 (by decide) ?_
        exact t6_readsCarters_b150 C hQ hK14 v1 v2 M13 _ _ _ h I (lv_sub hl [3, 4, 5] rfl)
    · have h := h.1 c
      refine lv_aload_n hx hb dX6_readsCarters_46 rfl (lv_at hl 2 rfl) ?_
      refine lv_iconst (v := 0) hx hb dX6_readsCarters_47 (by decide) ?_
      refine mp_carters C I dX6_readsCarters_48 (fun M4 H locs eM4 I => ?_)
      have h := h M4 eM4
      refine lv_iload_n hx hb dX6_readsCarters_51 rfl (lv_at hl 4 rfl) ?_
      exact hQ _ _ _ _ _ _ h I dX6_readsCarters_52
theorem t6_readsCarters_b14 {p : Program} {l : Launch} {e : Env} {s : State} {m : MethodId} {args : Array Value} {below : List Frame} {meth : Method} {c : Code} {D : va_G} {T ad : Nat → Nat} {A : Nat → Prop} {H0 : Heap} {Qs : State → Prop} {Q : Int32 → Mem → Prop}  (C : MC D T p m c cX6_readsCarters 6 s args) (hQ : mExi p l e rX6_readsCarters s m args below meth c cX6_readsCarters D T ad A H0 Qs Q)  : ∀ (n : Nat) (v1 : Int32) (v2 : Int32) (M : Mem) (H : Heap) (locs : List Loc) (ls : Array Slot), w6_readsCarters_b14 Q n v1 v2 M → MI D T ad A H0 M H locs → lv_has ls 6 [(0, .ref (ad 0)), (1, .int v1), (2, .int v2)] → W p l e rX6_readsCarters s m args below meth c H locs 0 0 Qs (F0 m 14 ls []) := by
  intro n
  induction n with
  | zero => intro v1 v2 M H locs ls h; exact h.elim
  | succ n ih => intro v1 v2 M H locs ls h I hl; exact t6_readsCarters_b14_f C hQ  ih v1 v2 M H locs ls h I hl
theorem t6_readsCarters {p : Program} {l : Launch} {e : Env} {s : State} {m : MethodId} {args : Array Value} {below : List Frame} {meth : Method} {c : Code} {D : va_G} {T ad : Nat → Nat} {A : Nat → Prop} {H0 : Heap} {Qs : State → Prop} {Q : Int32 → Mem → Prop} (C : MC D T p m c cX6_readsCarters 6 s args) (hQ : mExi p l e rX6_readsCarters s m args below meth c cX6_readsCarters D T ad A H0 Qs Q)  (M : Mem) (H : Heap) (locs : List Loc) (ls : Array Slot) (h : w6_readsCarters M Q) (I : MI D T ad A H0 M H locs) (hl : lv_has ls 6 [(0, .ref (ad 0))]) : W p l e rX6_readsCarters s m args below meth c H locs 0 0 Qs (F0 m 0 ls []) := by
  have hx := C.1.1
  have hb := C.1.2.1
  have how := C.1.2.2.2.1
  have hts := C.1.2.2.2.2
  unfold w6_readsCarters at h
  refine lv_aload_n hx hb dX6_readsCarters_0 rfl (lv_at hl 0 rfl) ?_
  refine lv_iconst (v := 0) hx hb dX6_readsCarters_1 (by decide) ?_
  refine mp_carters C I dX6_readsCarters_2 (fun M14 H locs eM14 I => ?_)
  have h := h M14 eM14
  refine lv_aload_n hx hb dX6_readsCarters_5 rfl (lv_at hl 0 rfl) ?_
  refine mg_typed C I dX6_readsCarters_6 ?_
  refine lv_iconst (v := 1) hx hb dX6_readsCarters_9 (by decide) ?_
  obtain ⟨hg15, h⟩ := h
  refine m_iald C I 7 2 rfl (by decide) hg15 dX6_readsCarters_10 ?_
  refine lv_istore_n (lv' := [(1, .int (M14 7 (ci 1))), (0, .ref (ad 0))]) hx hb dX6_readsCarters_11 rfl hl (by decide) rfl (fun ls hl => ?_)
  refine lv_iconst (v := 0) hx hb dX6_readsCarters_12 (by decide) ?_
  refine lv_istore_n (lv' := [(2, .int 0), (1, .int (M14 7 (ci 1))), (0, .ref (ad 0))]) hx hb dX6_readsCarters_13 rfl hl (by decide) rfl (fun ls hl => ?_)
  obtain ⟨n, h⟩ := h
  exact t6_readsCarters_b14 C hQ n (M14 7 (ci 1)) 0 M14 _ _ _ h I (lv_sub hl [2, 1, 0] rfl)
theorem met6_readsCarters (l : Launch) (D : va_G) (T ad : Nat → Nat)  (M : Mem) {Qp : Int32 → Mem → Prop} (h : w6_readsCarters M Qp) (sz : Nat) : Met l yX6_readsCarters (ws_ yX6_readsCarters cX6_readsCarters 6 (some .int)) rX6_readsCarters (mPc D T ad [] M sz) (mQi D T ad M Qp sz) 0 0 (fA (cM T ad M) sz) :=
  m_metI (As := []) rfl rfl (Nat.le_of_ble_eq_true rfl) (fun p e s m args below meth c A Qs ls C hQ I hl => t6_readsCarters C hQ M _ _ ls h I hl) sz
/-! readsText -/
abbrev rX6_readsText : Room := { frames := 4, cells := 0, slots := 0, locals := 93 }
theorem cw6_139 {R : Room} {s : State} {args : Array Value} (hts : ∀ w ∈ lw_all, w.before args s = true) (hR : rX6_readsWays.frames + 1 ≤ R.frames ∧ 8 + (6 + 11) + rX6_readsWays.locals ≤ R.locals) : CallW R s args RX6 RX6 139 yX6_readsWays cX6_readsWays 6 (some .int) (ws_ yX6_readsWays cX6_readsWays 6 (some .int)) rX6_readsWays 0 0 0 := cwV 0 hts (lw_V q1073 q1075 qs54 q95 q1076) rfl rfl rfl (by decide +kernel) hR
theorem cw6_143 {R : Room} {s : State} {args : Array Value} (hts : ∀ w ∈ lw_all, w.before args s = true) (hR : rX6_readsCarters.frames + 1 ≤ R.frames ∧ 8 + (6 + 11) + rX6_readsCarters.locals ≤ R.locals) : CallW R s args RX6 RX6 143 yX6_readsCarters cX6_readsCarters 6 (some .int) (ws_ yX6_readsCarters cX6_readsCarters 6 (some .int)) rX6_readsCarters 0 0 0 := cwV 0 hts (lw_V q1089 q1091 qs55 q95 q1092) rfl rfl rfl (by decide +kernel) hR
theorem t6_readsText_b15 {p : Program} {l : Launch} {e : Env} {s : State} {m : MethodId} {args : Array Value} {below : List Frame} {meth : Method} {c : Code} {D : va_G} {T ad : Nat → Nat} {A : Nat → Prop} {H0 : Heap} {Qs : State → Prop} {Q : Int32 → Mem → Prop}  (C : MC D T p m c cX6_readsText 2 s args) (hQ : mExi p l e rX6_readsText s m args below meth c cX6_readsText D T ad A H0 Qs Q)  (s0 : Int32) (M : Mem) (H : Heap) (locs : List Loc) (ls : Array Slot) (h : w6_readsText_b15 Q s0 M) (I : MI D T ad A H0 M H locs) (hl : lv_has ls 2 [(0, .ref (ad 0))]) : W p l e rX6_readsText s m args below meth c H locs 0 0 Qs (F0 m 15 ls [.int s0]) := by
  have hx := C.1.1
  have hb := C.1.2.1
  have how := C.1.2.2.2.1
  have hts := C.1.2.2.2.2
  unfold w6_readsText_b15 at h
  exact hQ _ _ _ _ _ _ h I dX6_readsText_15
theorem t6_readsText {p : Program} {l : Launch} {e : Env} {s : State} {m : MethodId} {args : Array Value} {below : List Frame} {meth : Method} {c : Code} {D : va_G} {T ad : Nat → Nat} {A : Nat → Prop} {H0 : Heap} {Qs : State → Prop} {Q : Int32 → Mem → Prop} (C : MC D T p m c cX6_readsText 2 s args) (hQ : mExi p l e rX6_readsText s m args below meth c cX6_readsText D T ad A H0 Qs Q) (v1 : Int32) (M : Mem) (H : Heap) (locs : List Loc) (ls : Array Slot) (h : w6_readsText v1 M Q) (I : MI D T ad A H0 M H locs) (hl : lv_has ls 2 [(0, .ref (ad 0)), (1, .int v1)]) : W p l e rX6_readsText s m args below meth c H locs 0 0 Qs (F0 m 0 ls []) := by
  have hx := C.1.1
  have hb := C.1.2.1
  have how := C.1.2.2.2.1
  have hts := C.1.2.2.2.2
  unfold w6_readsText at h
  refine lv_iload_n hx hb dX6_readsText_0 rfl (lv_at hl 1 rfl) ?_
  refine lv_if_ne (tgt := 11) hx hb dX6_readsText_1 (by decide) (fun c => ?_) (fun c => ?_)
  · have h := h.2 c
    refine lv_aload_n hx hb dX6_readsText_11 rfl (lv_at hl 0 rfl) ?_
    refine m_calli (As := []) (rest := []) C I (met6_readsCarters l D T ad M h) (cw6_143 hts ⟨Nat.le_of_ble_eq_true rfl, Nat.le_of_ble_eq_true rfl⟩) rfl hl.1 rfl (Nat.le_of_ble_eq_true rfl) ⟨Nat.zero_le _, Nat.zero_le _⟩ dX6_readsText_12 (fun r3 M4 H locs h I => ?_)
    exact t6_readsText_b15 C hQ r3 M4 _ _ _ h I (lv_sub hl [0] rfl)
  · have h := h.1 c
    refine lv_aload_n hx hb dX6_readsText_4 rfl (lv_at hl 0 rfl) ?_
    refine m_calli (As := []) (rest := []) C I (met6_readsWays l D T ad M h) (cw6_139 hts ⟨Nat.le_of_ble_eq_true rfl, Nat.le_of_ble_eq_true rfl⟩) rfl hl.1 rfl (Nat.le_of_ble_eq_true rfl) ⟨Nat.zero_le _, Nat.zero_le _⟩ dX6_readsText_5 (fun r1 M2 H locs h I => ?_)
    refine lv_goto (tgt := 15) hx hb dX6_readsText_8 (by decide) ?_
    exact t6_readsText_b15 C hQ r1 M2 _ _ _ h I (lv_sub hl [0] rfl)
theorem met6_readsText (l : Launch) (D : va_G) (T ad : Nat → Nat) (v1 : Int32) (M : Mem) {Qp : Int32 → Mem → Prop} (h : w6_readsText v1 M Qp) (sz : Nat) : Met l yX6_readsText (ws_ yX6_readsText cX6_readsText 2 (some .int)) rX6_readsText (mPc D T ad [.int v1] M sz) (mQi D T ad M Qp sz) 0 0 (fA (cM T ad M) sz) :=
  m_metI (As := [.int v1]) rfl rfl (Nat.le_of_ble_eq_true rfl) (fun p e s m args below meth c A Qs ls C hQ I hl => t6_readsText C hQ v1 M _ _ ls h I hl) sz
/-! fault -/
abbrev rX6_fault : Room := { frames := 5, cells := 0, slots := 0, locals := 114 }
theorem cw6_146 {R : Room} {s : State} {args : Array Value} (hts : ∀ w ∈ lw_all, w.before args s = true) (hR : rX6_readsText.frames + 1 ≤ R.frames ∧ 8 + (2 + 11) + rX6_readsText.locals ≤ R.locals) : CallW R s args RX6 RX6 146 yX6_readsText cX6_readsText 2 (some .int) (ws_ yX6_readsText cX6_readsText 2 (some .int)) rX6_readsText 0 0 1 := cwV 1 hts (lw_V q1069 q1071 qs53 q95 q1072) rfl rfl rfl (by decide +kernel) hR
theorem t6_fault_b17 {p : Program} {l : Launch} {e : Env} {s : State} {m : MethodId} {args : Array Value} {below : List Frame} {meth : Method} {c : Code} {D : va_G} {T ad : Nat → Nat} {A : Nat → Prop} {H0 : Heap} {Qs : State → Prop} {Q : Int32 → Mem → Prop}  (C : MC D T p m c cX6_fault 2 s args) (hQ : mExi p l e rX6_fault s m args below meth c cX6_fault D T ad A H0 Qs Q)  (s0 : Int32) (M : Mem) (H : Heap) (locs : List Loc) (ls : Array Slot) (h : w6_fault_b17 Q s0 M) (I : MI D T ad A H0 M H locs) (hl : lv_has ls 2 [(0, .ref (ad 0))]) : W p l e rX6_fault s m args below meth c H locs 0 0 Qs (F0 m 17 ls [.int s0]) := by
  have hx := C.1.1
  have hb := C.1.2.1
  have how := C.1.2.2.2.1
  have hts := C.1.2.2.2.2
  unfold w6_fault_b17 at h
  exact hQ _ _ _ _ _ _ h I dX6_fault_17
theorem t6_fault {p : Program} {l : Launch} {e : Env} {s : State} {m : MethodId} {args : Array Value} {below : List Frame} {meth : Method} {c : Code} {D : va_G} {T ad : Nat → Nat} {A : Nat → Prop} {H0 : Heap} {Qs : State → Prop} {Q : Int32 → Mem → Prop} (C : MC D T p m c cX6_fault 2 s args) (hQ : mExi p l e rX6_fault s m args below meth c cX6_fault D T ad A H0 Qs Q) (v1 : Int32) (M : Mem) (H : Heap) (locs : List Loc) (ls : Array Slot) (h : w6_fault v1 M Q) (I : MI D T ad A H0 M H locs) (hl : lv_has ls 2 [(0, .ref (ad 0)), (1, .int v1)]) : W p l e rX6_fault s m args below meth c H locs 0 0 Qs (F0 m 0 ls []) := by
  have hx := C.1.1
  have hb := C.1.2.1
  have how := C.1.2.2.2.1
  have hts := C.1.2.2.2.2
  unfold w6_fault at h
  refine lv_iload_n hx hb dX6_fault_0 rfl (lv_at hl 1 rfl) ?_
  refine m_purei (As := [.int v1]) (rest := []) C I (met6_isTwo l v1 h) (cw6_110 hts ⟨Nat.le_of_ble_eq_true rfl, Nat.le_of_ble_eq_true rfl⟩) rfl hl.1 rfl (Nat.le_of_ble_eq_true rfl) ⟨Nat.zero_le _, Nat.zero_le _⟩ dX6_fault_1 (fun r1 H locs h I => ?_)
  refine lv_if_eq (tgt := 15) hx hb dX6_fault_4 (by decide) (fun c => ?_) (fun c => ?_)
  · have h := h.1 c
    refine lv_bipush (v := -2) hx hb dX6_fault_15 (by decide) ?_
    exact t6_fault_b17 C hQ (-2) M _ _ _ h I (lv_sub hl [0] rfl)
  · have h := h.2 c
    refine lv_aload_n hx hb dX6_fault_7 rfl (lv_at hl 0 rfl) ?_
    refine lv_iload_n hx hb dX6_fault_8 rfl (lv_at hl 1 rfl) ?_
    refine m_calli (As := [.int v1]) (rest := []) C I (met6_readsText l D T ad v1 M h) (cw6_146 hts ⟨Nat.le_of_ble_eq_true rfl, Nat.le_of_ble_eq_true rfl⟩) rfl hl.1 rfl (Nat.le_of_ble_eq_true rfl) ⟨Nat.zero_le _, Nat.zero_le _⟩ dX6_fault_9 (fun r2 M3 H locs h I => ?_)
    refine lv_goto (tgt := 17) hx hb dX6_fault_12 (by decide) ?_
    exact t6_fault_b17 C hQ r2 M3 _ _ _ h I (lv_sub hl [0] rfl)
theorem met6_fault (l : Launch) (D : va_G) (T ad : Nat → Nat) (v1 : Int32) (M : Mem) {Qp : Int32 → Mem → Prop} (h : w6_fault v1 M Qp) (sz : Nat) : Met l yX6_fault (ws_ yX6_fault cX6_fault 2 (some .int)) rX6_fault (mPc D T ad [.int v1] M sz) (mQi D T ad M Qp sz) 0 0 (fA (cM T ad M) sz) :=
  m_metI (As := [.int v1]) rfl rfl (Nat.le_of_ble_eq_true rfl) (fun p e s m args below meth c A Qs ls C hQ I hl => t6_fault C hQ v1 M _ _ ls h I hl) sz
/-! way -/
abbrev rX6_way : Room := { frames := 4, cells := 0, slots := 0, locals := 93 }
theorem t6_way_b48 {p : Program} {l : Launch} {e : Env} {s : State} {m : MethodId} {args : Array Value} {below : List Frame} {meth : Method} {c : Code} {D : va_G} {T ad : Nat → Nat} {A : Nat → Prop} {H0 : Heap} {Qs : State → Prop} {Q : Int32 → Mem → Prop}  (C : MC D T p m c cX6_way 3 s args) (hQ : mExi p l e rX6_way s m args below meth c cX6_way D T ad A H0 Qs Q)  (s0 : Int32) (M : Mem) (H : Heap) (locs : List Loc) (ls : Array Slot) (h : w6_way_b48 Q s0 M) (I : MI D T ad A H0 M H locs) (hl : lv_has ls 3 [(0, .ref (ad 0))]) : W p l e rX6_way s m args below meth c H locs 0 0 Qs (F0 m 48 ls [.int s0]) := by
  have hx := C.1.1
  have hb := C.1.2.1
  have how := C.1.2.2.2.1
  have hts := C.1.2.2.2.2
  unfold w6_way_b48 at h
  exact hQ _ _ _ _ _ _ h I dX6_way_48
theorem t6_way_b46 {p : Program} {l : Launch} {e : Env} {s : State} {m : MethodId} {args : Array Value} {below : List Frame} {meth : Method} {c : Code} {D : va_G} {T ad : Nat → Nat} {A : Nat → Prop} {H0 : Heap} {Qs : State → Prop} {Q : Int32 → Mem → Prop}  (C : MC D T p m c cX6_way 3 s args) (hQ : mExi p l e rX6_way s m args below meth c cX6_way D T ad A H0 Qs Q)   (M : Mem) (H : Heap) (locs : List Loc) (ls : Array Slot) (h : w6_way_b46 Q M) (I : MI D T ad A H0 M H locs) (hl : lv_has ls 3 [(0, .ref (ad 0))]) : W p l e rX6_way s m args below meth c H locs 0 0 Qs (F0 m 46 ls []) := by
  have hx := C.1.1
  have hb := C.1.2.1
  have how := C.1.2.2.2.1
  have hts := C.1.2.2.2.2
  unfold w6_way_b46 at h
  refine lv_bipush (v := -2) hx hb dX6_way_46 (by decide) ?_
  exact t6_way_b48 C hQ (-2) M _ _ _ h I (lv_sub hl [0] rfl)
theorem t6_way {p : Program} {l : Launch} {e : Env} {s : State} {m : MethodId} {args : Array Value} {below : List Frame} {meth : Method} {c : Code} {D : va_G} {T ad : Nat → Nat} {A : Nat → Prop} {H0 : Heap} {Qs : State → Prop} {Q : Int32 → Mem → Prop} (C : MC D T p m c cX6_way 3 s args) (hQ : mExi p l e rX6_way s m args below meth c cX6_way D T ad A H0 Qs Q) (v1 : Int32) (v2 : Int32) (M : Mem) (H : Heap) (locs : List Loc) (ls : Array Slot) (h : w6_way v1 v2 M Q) (I : MI D T ad A H0 M H locs) (hl : lv_has ls 3 [(0, .ref (ad 0)), (1, .int v1), (2, .int v2)]) : W p l e rX6_way s m args below meth c H locs 0 0 Qs (F0 m 0 ls []) := by
  have hx := C.1.1
  have hb := C.1.2.1
  have how := C.1.2.2.2.1
  have hts := C.1.2.2.2.2
  unfold w6_way at h
  refine lv_aload_n hx hb dX6_way_0 rfl (lv_at hl 0 rfl) ?_
  refine m_calli (As := []) (rest := []) C I (met6_readsWays l D T ad M h) (cw6_139 hts ⟨Nat.le_of_ble_eq_true rfl, Nat.le_of_ble_eq_true rfl⟩) rfl hl.1 rfl (Nat.le_of_ble_eq_true rfl) ⟨Nat.zero_le _, Nat.zero_le _⟩ dX6_way_1 (fun r1 M2 H locs h I => ?_)
  refine lv_pop hx hb dX6_way_4 rfl ?_
  refine lv_iload_n hx hb dX6_way_5 rfl (lv_at hl 1 rfl) ?_
  refine lv_i2l hx hb dX6_way_6 rfl ?_
  refine lv_lconst (v := 0) hx hb dX6_way_7 rfl ?_
  refine lv_aload_n hx hb dX6_way_8 rfl (lv_at hl 0 rfl) ?_
  refine mg_ways C I dX6_way_9 ?_
  refine lv_iconst (v := 1) hx hb dX6_way_12 (by decide) ?_
  refine lv_isub hx hb dX6_way_13 ?_
  refine lv_i2l hx hb dX6_way_14 rfl ?_
  refine m_purei (As := [.long (Int32.toInt64 v1), .long 0, .long (Int32.toInt64 ((M2 0 7) - 1))]) (rest := []) C I (met6_in l (Int32.toInt64 v1) 0 (Int32.toInt64 ((M2 0 7) - 1)) h) (cw6_81 hts ⟨Nat.le_of_ble_eq_true rfl, Nat.le_of_ble_eq_true rfl⟩) rfl hl.1 rfl (Nat.le_of_ble_eq_true rfl) ⟨Nat.zero_le _, Nat.zero_le _⟩ dX6_way_15 (fun r3 H locs h I => ?_)
  refine lv_if_eq (tgt := 46) hx hb dX6_way_18 (by decide) (fun c => ?_) (fun c => ?_)
  · have h := h.1 c
    exact t6_way_b46 C hQ M2 _ _ _ h I (lv_sub hl [0] rfl)
  · have h := h.2 c
    refine lv_iload_n hx hb dX6_way_21 rfl (lv_at hl 2 rfl) ?_
    refine lv_i2l hx hb dX6_way_22 rfl ?_
    refine lv_lconst (v := 0) hx hb dX6_way_23 rfl ?_
    refine lv_ldc2 hx hb how (hts _ q1016) dX6_way_24 ?_
    refine m_purei (As := [.long (Int32.toInt64 v2), .long 0, .long 3]) (rest := []) C I (met6_in l (Int32.toInt64 v2) 0 3 h) (cw6_81 hts ⟨Nat.le_of_ble_eq_true rfl, Nat.le_of_ble_eq_true rfl⟩) rfl hl.1 rfl (Nat.le_of_ble_eq_true rfl) ⟨Nat.zero_le _, Nat.zero_le _⟩ dX6_way_27 (fun r4 H locs h I => ?_)
    refine lv_if_eq (tgt := 46) hx hb dX6_way_30 (by decide) (fun c => ?_) (fun c => ?_)
    · have h := h.1 c
      exact t6_way_b46 C hQ M2 _ _ _ h I (lv_sub hl [0] rfl)
    · have h := h.2 c
      refine lv_aload_n hx hb dX6_way_33 rfl (lv_at hl 0 rfl) ?_
      refine mg_way C I dX6_way_34 ?_
      refine lv_iconst (v := 4) hx hb dX6_way_37 (by decide) ?_
      refine lv_iload_n hx hb dX6_way_38 rfl (lv_at hl 1 rfl) ?_
      refine lv_imul hx hb dX6_way_39 ?_
      refine lv_iload_n hx hb dX6_way_40 rfl (lv_at hl 2 rfl) ?_
      refine lv_iadd hx hb dX6_way_41 ?_
      obtain ⟨hg5, h⟩ := h
      refine m_iald C I 9 40 rfl (by decide) hg5 dX6_way_42 ?_
      refine lv_goto (tgt := 48) hx hb dX6_way_43 (by decide) ?_
      exact t6_way_b48 C hQ (M2 9 (ci ((4 * v1) + v2))) M2 _ _ _ h I (lv_sub hl [0] rfl)
theorem met6_way (l : Launch) (D : va_G) (T ad : Nat → Nat) (v1 : Int32) (v2 : Int32) (M : Mem) {Qp : Int32 → Mem → Prop} (h : w6_way v1 v2 M Qp) (sz : Nat) : Met l yX6_way (ws_ yX6_way cX6_way 3 (some .int)) rX6_way (mPc D T ad [.int v1, .int v2] M sz) (mQi D T ad M Qp sz) 0 0 (fA (cM T ad M) sz) :=
  m_metI (As := [.int v1, .int v2]) rfl rfl (Nat.le_of_ble_eq_true rfl) (fun p e s m args below meth c A Qs ls C hQ I hl => t6_way C hQ v1 v2 M _ _ ls h I hl) sz
/-! isCarter -/
abbrev rX6_isCarter : Room := { frames := 1, cells := 0, slots := 0, locals := 25 }
theorem t6_isCarter {p : Program} {l : Launch} {e : Env} {s : State} {m : MethodId} {args : Array Value} {below : List Frame} {meth : Method} {c : Code} {D : va_G} {T ad : Nat → Nat} {A : Nat → Prop} {H0 : Heap} {Qs : State → Prop} {Q : Int32 → Mem → Prop} (C : MC D T p m c cX6_isCarter 2 s args) (hQ : mExi p l e rX6_isCarter s m args below meth c cX6_isCarter D T ad A H0 Qs Q) (v1 : Int32) (M : Mem) (H : Heap) (locs : List Loc) (ls : Array Slot) (h : w6_isCarter_z v1 M Q) (I : MI D T ad A H0 M H locs) (hl : lv_has ls 2 [(0, .ref (ad 0)), (1, .int v1)]) : W p l e rX6_isCarter s m args below meth c H locs 0 0 Qs (F0 m 0 ls []) := by
  have hx := C.1.1
  have hb := C.1.2.1
  have how := C.1.2.2.2.1
  have hts := C.1.2.2.2.2
  unfold w6_isCarter_z at h
  refine lv_iload_n hx hb dX6_isCarter_0 rfl (lv_at hl 1 rfl) ?_
  refine lv_i2l hx hb dX6_isCarter_1 rfl ?_
  refine lv_lconst (v := 0) hx hb dX6_isCarter_2 rfl ?_
  refine lv_aload_n hx hb dX6_isCarter_3 rfl (lv_at hl 0 rfl) ?_
  refine mg_carters C I dX6_isCarter_4 ?_
  refine lv_iconst (v := 1) hx hb dX6_isCarter_7 (by decide) ?_
  refine lv_isub hx hb dX6_isCarter_8 ?_
  refine lv_i2l hx hb dX6_isCarter_9 rfl ?_
  refine m_purei (As := [.long (Int32.toInt64 v1), .long 0, .long (Int32.toInt64 ((M 0 9) - 1))]) (rest := []) C I (met6_in l (Int32.toInt64 v1) 0 (Int32.toInt64 ((M 0 9) - 1)) h) (cw6_81 hts ⟨Nat.le_of_ble_eq_true rfl, Nat.le_of_ble_eq_true rfl⟩) rfl hl.1 rfl (Nat.le_of_ble_eq_true rfl) ⟨Nat.zero_le _, Nat.zero_le _⟩ dX6_isCarter_10 (fun r1 H locs h I => ?_)
  exact hQ _ _ _ _ _ _ h I dX6_isCarter_13
theorem met6_isCarter (l : Launch) (D : va_G) (T ad : Nat → Nat) (v1 : Int32) (M : Mem) {Qp : Int32 → Mem → Prop} (h : w6_isCarter v1 M Qp) (sz : Nat) : Met l yX6_isCarter (ws_ yX6_isCarter cX6_isCarter 2 (some .boolean)) rX6_isCarter (mPc D T ad [.int v1] M sz) (mQi D T ad M Qp sz) 0 0 (fA (cM T ad M) sz) :=
  m_metZ (As := [.int v1]) rfl rfl (Nat.le_of_ble_eq_true rfl) (fun p e s m args below meth c A Qs ls C hQ I hl => t6_isCarter C hQ v1 M _ _ ls h I hl) sz
/-! carter -/
abbrev rX6_carter : Room := { frames := 4, cells := 0, slots := 0, locals := 92 }
theorem cw6_153 {R : Room} {s : State} {args : Array Value} (hts : ∀ w ∈ lw_all, w.before args s = true) (hR : rX6_isCarter.frames + 1 ≤ R.frames ∧ 8 + (2 + 11) + rX6_isCarter.locals ≤ R.locals) : CallW R s args RX6 RX6 153 yX6_isCarter cX6_isCarter 2 (some .boolean) (ws_ yX6_isCarter cX6_isCarter 2 (some .boolean)) rX6_isCarter 0 0 1 := cwV 1 hts (lw_V q1104 q1106 qs56 q95 q1107) rfl rfl rfl (by decide +kernel) hR
theorem t6_carter_b40 {p : Program} {l : Launch} {e : Env} {s : State} {m : MethodId} {args : Array Value} {below : List Frame} {meth : Method} {c : Code} {D : va_G} {T ad : Nat → Nat} {A : Nat → Prop} {H0 : Heap} {Qs : State → Prop} {Q : Int32 → Mem → Prop}  (C : MC D T p m c cX6_carter 3 s args) (hQ : mExi p l e rX6_carter s m args below meth c cX6_carter D T ad A H0 Qs Q)  (s0 : Int32) (M : Mem) (H : Heap) (locs : List Loc) (ls : Array Slot) (h : w6_carter_b40 Q s0 M) (I : MI D T ad A H0 M H locs) (hl : lv_has ls 3 [(0, .ref (ad 0))]) : W p l e rX6_carter s m args below meth c H locs 0 0 Qs (F0 m 40 ls [.int s0]) := by
  have hx := C.1.1
  have hb := C.1.2.1
  have how := C.1.2.2.2.1
  have hts := C.1.2.2.2.2
  unfold w6_carter_b40 at h
  exact hQ _ _ _ _ _ _ h I dX6_carter_40
theorem t6_carter_b38 {p : Program} {l : Launch} {e : Env} {s : State} {m : MethodId} {args : Array Value} {below : List Frame} {meth : Method} {c : Code} {D : va_G} {T ad : Nat → Nat} {A : Nat → Prop} {H0 : Heap} {Qs : State → Prop} {Q : Int32 → Mem → Prop}  (C : MC D T p m c cX6_carter 3 s args) (hQ : mExi p l e rX6_carter s m args below meth c cX6_carter D T ad A H0 Qs Q)   (M : Mem) (H : Heap) (locs : List Loc) (ls : Array Slot) (h : w6_carter_b38 Q M) (I : MI D T ad A H0 M H locs) (hl : lv_has ls 3 [(0, .ref (ad 0))]) : W p l e rX6_carter s m args below meth c H locs 0 0 Qs (F0 m 38 ls []) := by
  have hx := C.1.1
  have hb := C.1.2.1
  have how := C.1.2.2.2.1
  have hts := C.1.2.2.2.2
  unfold w6_carter_b38 at h
  refine lv_bipush (v := -2) hx hb dX6_carter_38 (by decide) ?_
  exact t6_carter_b40 C hQ (-2) M _ _ _ h I (lv_sub hl [0] rfl)
theorem t6_carter {p : Program} {l : Launch} {e : Env} {s : State} {m : MethodId} {args : Array Value} {below : List Frame} {meth : Method} {c : Code} {D : va_G} {T ad : Nat → Nat} {A : Nat → Prop} {H0 : Heap} {Qs : State → Prop} {Q : Int32 → Mem → Prop} (C : MC D T p m c cX6_carter 3 s args) (hQ : mExi p l e rX6_carter s m args below meth c cX6_carter D T ad A H0 Qs Q) (v1 : Int32) (v2 : Int32) (M : Mem) (H : Heap) (locs : List Loc) (ls : Array Slot) (h : w6_carter v1 v2 M Q) (I : MI D T ad A H0 M H locs) (hl : lv_has ls 3 [(0, .ref (ad 0)), (1, .int v1), (2, .int v2)]) : W p l e rX6_carter s m args below meth c H locs 0 0 Qs (F0 m 0 ls []) := by
  have hx := C.1.1
  have hb := C.1.2.1
  have how := C.1.2.2.2.1
  have hts := C.1.2.2.2.2
  unfold w6_carter at h
  refine lv_aload_n hx hb dX6_carter_0 rfl (lv_at hl 0 rfl) ?_
  refine m_calli (As := []) (rest := []) C I (met6_readsCarters l D T ad M h) (cw6_143 hts ⟨Nat.le_of_ble_eq_true rfl, Nat.le_of_ble_eq_true rfl⟩) rfl hl.1 rfl (Nat.le_of_ble_eq_true rfl) ⟨Nat.zero_le _, Nat.zero_le _⟩ dX6_carter_1 (fun r1 M2 H locs h I => ?_)
  refine lv_pop hx hb dX6_carter_4 rfl ?_
  refine lv_aload_n hx hb dX6_carter_5 rfl (lv_at hl 0 rfl) ?_
  refine lv_iload_n hx hb dX6_carter_6 rfl (lv_at hl 1 rfl) ?_
  refine m_calli (As := [.int v1]) (rest := []) C I (met6_isCarter l D T ad v1 M2 h) (cw6_153 hts ⟨Nat.le_of_ble_eq_true rfl, Nat.le_of_ble_eq_true rfl⟩) rfl hl.1 rfl (Nat.le_of_ble_eq_true rfl) ⟨Nat.zero_le _, Nat.zero_le _⟩ dX6_carter_7 (fun r3 M4 H locs h I => ?_)
  refine lv_if_eq (tgt := 38) hx hb dX6_carter_10 (by decide) (fun c => ?_) (fun c => ?_)
  · have h := h.1 c
    exact t6_carter_b38 C hQ M4 _ _ _ h I (lv_sub hl [0] rfl)
  · have h := h.2 c
    refine lv_iload_n hx hb dX6_carter_13 rfl (lv_at hl 2 rfl) ?_
    refine lv_i2l hx hb dX6_carter_14 rfl ?_
    refine lv_lconst (v := 0) hx hb dX6_carter_15 rfl ?_
    refine lv_ldc2 hx hb how (hts _ q1108) dX6_carter_16 ?_
    refine m_purei (As := [.long (Int32.toInt64 v2), .long 0, .long 4]) (rest := []) C I (met6_in l (Int32.toInt64 v2) 0 4 h) (cw6_81 hts ⟨Nat.le_of_ble_eq_true rfl, Nat.le_of_ble_eq_true rfl⟩) rfl hl.1 rfl (Nat.le_of_ble_eq_true rfl) ⟨Nat.zero_le _, Nat.zero_le _⟩ dX6_carter_19 (fun r5 H locs h I => ?_)
    refine lv_if_eq (tgt := 38) hx hb dX6_carter_22 (by decide) (fun c => ?_) (fun c => ?_)
    · have h := h.1 c
      exact t6_carter_b38 C hQ M4 _ _ _ h I (lv_sub hl [0] rfl)
    · have h := h.2 c
      refine lv_aload_n hx hb dX6_carter_25 rfl (lv_at hl 0 rfl) ?_
      refine mg_carter C I dX6_carter_26 ?_
      refine lv_iconst (v := 5) hx hb dX6_carter_29 (by decide) ?_
      refine lv_iload_n hx hb dX6_carter_30 rfl (lv_at hl 1 rfl) ?_
      refine lv_imul hx hb dX6_carter_31 ?_
      refine lv_iload_n hx hb dX6_carter_32 rfl (lv_at hl 2 rfl) ?_
      refine lv_iadd hx hb dX6_carter_33 ?_
      obtain ⟨hg6, h⟩ := h
      refine m_iald C I 11 40 rfl (by decide) hg6 dX6_carter_34 ?_
      refine lv_goto (tgt := 40) hx hb dX6_carter_35 (by decide) ?_
      exact t6_carter_b40 C hQ (M4 11 (ci ((5 * v1) + v2))) M4 _ _ _ h I (lv_sub hl [0] rfl)
theorem met6_carter (l : Launch) (D : va_G) (T ad : Nat → Nat) (v1 : Int32) (v2 : Int32) (M : Mem) {Qp : Int32 → Mem → Prop} (h : w6_carter v1 v2 M Qp) (sz : Nat) : Met l yX6_carter (ws_ yX6_carter cX6_carter 3 (some .int)) rX6_carter (mPc D T ad [.int v1, .int v2] M sz) (mQi D T ad M Qp sz) 0 0 (fA (cM T ad M) sz) :=
  m_metI (As := [.int v1, .int v2]) rfl rfl (Nat.le_of_ble_eq_true rfl) (fun p e s m args below meth c A Qs ls C hQ I hl => t6_carter C hQ v1 v2 M _ _ ls h I hl) sz
/-! late -/
abbrev rX6_late : Room := { frames := 1, cells := 0, slots := 0, locals := 25 }
theorem t6_late_b24 {p : Program} {l : Launch} {e : Env} {s : State} {m : MethodId} {args : Array Value} {below : List Frame} {meth : Method} {c : Code} {D : va_G} {T ad : Nat → Nat} {A : Nat → Prop} {H0 : Heap} {Qs : State → Prop} {Q : Int32 → Mem → Prop}  (C : MC D T p m c cX6_late 4 s args) (hQ : mExi p l e rX6_late s m args below meth c cX6_late D T ad A H0 Qs Q)   (M : Mem) (H : Heap) (locs : List Loc) (ls : Array Slot) (h : w6_late_b24 Q M) (I : MI D T ad A H0 M H locs) (hl : lv_has ls 4 [(0, .ref (ad 0))]) : W p l e rX6_late s m args below meth c H locs 0 0 Qs (F0 m 24 ls []) := by
  have hx := C.1.1
  have hb := C.1.2.1
  have how := C.1.2.2.2.1
  have hts := C.1.2.2.2.2
  unfold w6_late_b24 at h
  refine lv_bipush (v := -2) hx hb dX6_late_24 (by decide) ?_
  exact hQ _ _ _ _ _ _ h I dX6_late_26
theorem t6_late {p : Program} {l : Launch} {e : Env} {s : State} {m : MethodId} {args : Array Value} {below : List Frame} {meth : Method} {c : Code} {D : va_G} {T ad : Nat → Nat} {A : Nat → Prop} {H0 : Heap} {Qs : State → Prop} {Q : Int32 → Mem → Prop} (C : MC D T p m c cX6_late 4 s args) (hQ : mExi p l e rX6_late s m args below meth c cX6_late D T ad A H0 Qs Q) (v1 : Int32) (v2 : Int32) (M : Mem) (H : Heap) (locs : List Loc) (ls : Array Slot) (h : w6_late v1 v2 M Q) (I : MI D T ad A H0 M H locs) (hl : lv_has ls 4 [(0, .ref (ad 0)), (1, .int v1), (2, .int v2)]) : W p l e rX6_late s m args below meth c H locs 0 0 Qs (F0 m 0 ls []) := by
  have hx := C.1.1
  have hb := C.1.2.1
  have how := C.1.2.2.2.1
  have hts := C.1.2.2.2.2
  unfold w6_late at h
  refine lv_iload_n hx hb dX6_late_0 rfl (lv_at hl 1 rfl) ?_
  refine lv_i2l hx hb dX6_late_1 rfl ?_
  refine lv_lconst (v := 0) hx hb dX6_late_2 rfl ?_
  refine lv_ldc2 hx hb how (hts _ q1113) dX6_late_3 ?_
  refine m_purei (As := [.long (Int32.toInt64 v1), .long 0, .long 7]) (rest := []) C I (met6_in l (Int32.toInt64 v1) 0 7 h) (cw6_81 hts ⟨Nat.le_of_ble_eq_true rfl, Nat.le_of_ble_eq_true rfl⟩) rfl hl.1 rfl (Nat.le_of_ble_eq_true rfl) ⟨Nat.zero_le _, Nat.zero_le _⟩ dX6_late_6 (fun r1 H locs h I => ?_)
  refine lv_if_eq (tgt := 24) hx hb dX6_late_9 (by decide) (fun c => ?_) (fun c => ?_)
  · have h := h.1 c
    exact t6_late_b24 C hQ M _ _ _ h I (lv_sub hl [0] rfl)
  · have h := h.2 c
    refine lv_iload_n hx hb dX6_late_12 rfl (lv_at hl 2 rfl) ?_
    refine lv_i2l hx hb dX6_late_13 rfl ?_
    refine lv_lconst (v := 0) hx hb dX6_late_14 rfl ?_
    refine lv_ldc2 hx hb how (hts _ q1114) dX6_late_15 ?_
    refine m_purei (As := [.long (Int32.toInt64 v2), .long 0, .long 9]) (rest := []) C I (met6_in l (Int32.toInt64 v2) 0 9 h) (cw6_81 hts ⟨Nat.le_of_ble_eq_true rfl, Nat.le_of_ble_eq_true rfl⟩) rfl hl.1 rfl (Nat.le_of_ble_eq_true rfl) ⟨Nat.zero_le _, Nat.zero_le _⟩ dX6_late_18 (fun r2 H locs h I => ?_)
    refine lv_if_ne (tgt := 27) hx hb dX6_late_21 (by decide) (fun c => ?_) (fun c => ?_)
    · have h := h.2 c
      refine lv_aload_n hx hb dX6_late_27 rfl (lv_at hl 0 rfl) ?_
      refine mg_late C I dX6_late_28 ?_
      refine lv_iload_n hx hb dX6_late_31 rfl (lv_at hl 1 rfl) ?_
      obtain ⟨hg3, h⟩ := h
      refine m_iald C I 12 8 rfl (by decide) hg3 dX6_late_32 ?_
      refine lv_istore_n (lv' := [(3, .int (M 12 (ci v1))), (0, .ref (ad 0)), (1, .int v1), (2, .int v2)]) hx hb dX6_late_33 rfl hl (by decide) rfl (fun ls hl => ?_)
      refine lv_aload_n hx hb dX6_late_34 rfl (lv_at hl 1 rfl) ?_
      refine mg_late C I dX6_late_35 ?_
      refine lv_iload_n hx hb dX6_late_38 rfl (lv_at hl 2 rfl) ?_
      refine lv_iload_n hx hb dX6_late_39 rfl (lv_at hl 3 rfl) ?_
      refine m_iast C I 12 8 rfl (by decide) hg3 dX6_late_40 (fun M4 H locs eM4 I => ?_)
      have h := h M4 eM4
      refine lv_iload_n hx hb dX6_late_41 rfl (lv_at hl 0 rfl) ?_
      exact hQ _ _ _ _ _ _ h I dX6_late_42
    · have h := h.1 c
      exact t6_late_b24 C hQ M _ _ _ h I (lv_sub hl [0] rfl)
theorem met6_late (l : Launch) (D : va_G) (T ad : Nat → Nat) (v1 : Int32) (v2 : Int32) (M : Mem) {Qp : Int32 → Mem → Prop} (h : w6_late v1 v2 M Qp) (sz : Nat) : Met l yX6_late (ws_ yX6_late cX6_late 4 (some .int)) rX6_late (mPc D T ad [.int v1, .int v2] M sz) (mQi D T ad M Qp sz) 0 0 (fA (cM T ad M) sz) :=
  m_metI (As := [.int v1, .int v2]) rfl rfl (Nat.le_of_ble_eq_true rfl) (fun p e s m args below meth c A Qs ls C hQ I hl => t6_late C hQ v1 v2 M _ _ ls h I hl) sz
/-! isHour -/
abbrev rX6_isHour : Room := { frames := 1, cells := 0, slots := 0, locals := 25 }
theorem t6_isHour {p : Program} {l : Launch} {e : Env} {s : State} {m : MethodId} {args : Array Value} {below : List Frame} {meth : Method} {c : Code} {A : Nat → Prop} {H0 : Heap} {Qs : State → Prop} {Q : Int32 → Prop} (S : CallFix p m c cX6_isHour 1 s args lw_all RX6) (hA : ∀ q, H0.size ≤ q → A q) (hQ : pExi p l e rX6_isHour s m args below meth c cX6_isHour A H0 Qs Q) (v0 : Int32) (H : Heap) (locs : List Loc) (ls : Array Slot) (h : w6_isHour_z v0 Q) (hS : va_S A H0 H locs) (hl : lv_has ls 1 [(0, .int v0)]) : W p l e rX6_isHour s m args below meth c H locs 0 0 Qs (F0 m 0 ls []) := by
  have hx := S.1
  have hb := S.2.1
  have how := S.2.2.2.1
  have hts := S.2.2.2.2
  unfold w6_isHour_z at h
  refine lv_iload_n hx hb dX6_isHour_0 rfl (lv_at hl 0 rfl) ?_
  refine lv_i2l hx hb dX6_isHour_1 rfl ?_
  refine lv_lconst (v := 0) hx hb dX6_isHour_2 rfl ?_
  refine lv_ldc2 hx hb how (hts _ q1122) dX6_isHour_3 ?_
  refine p_calli (As := [.long (Int32.toInt64 v0), .long 0, .long 39]) (rest := []) S hS hA (met6_in l (Int32.toInt64 v0) 0 39 h) (cw6_81 hts ⟨Nat.le_of_ble_eq_true rfl, Nat.le_of_ble_eq_true rfl⟩) rfl hl.1 rfl (Nat.le_of_ble_eq_true rfl) ⟨Nat.zero_le _, Nat.zero_le _⟩ dX6_isHour_6 (fun r1 H locs h _ hS => ?_)
  exact hQ _ _ _ _ _ h hS dX6_isHour_9
theorem met6_isHour (l : Launch) (v0 : Int32) {Qp : Int32 → Prop} (h : w6_isHour v0 Qp) (sz : Nat) : Met l yX6_isHour (ws_ yX6_isHour cX6_isHour 1 (some .boolean)) rX6_isHour (pPc [.int v0] sz) (pQi Qp sz) 0 0 (pA sz) :=
  p_metZ (As := [.int v0]) rfl (Nat.le_of_ble_eq_true rfl) (fun p e s m args below meth c Qs ls S hQ hl => t6_isHour S (fun q h => h) hQ v0 _ _ ls h va_S.rf hl) sz
/-! isPlace -/
abbrev rX6_isPlace : Room := { frames := 1, cells := 0, slots := 0, locals := 25 }
theorem t6_isPlace {p : Program} {l : Launch} {e : Env} {s : State} {m : MethodId} {args : Array Value} {below : List Frame} {meth : Method} {c : Code} {A : Nat → Prop} {H0 : Heap} {Qs : State → Prop} {Q : Int32 → Prop} (S : CallFix p m c cX6_isPlace 1 s args lw_all RX6) (hA : ∀ q, H0.size ≤ q → A q) (hQ : pExi p l e rX6_isPlace s m args below meth c cX6_isPlace A H0 Qs Q) (v0 : Int32) (H : Heap) (locs : List Loc) (ls : Array Slot) (h : w6_isPlace_z v0 Q) (hS : va_S A H0 H locs) (hl : lv_has ls 1 [(0, .int v0)]) : W p l e rX6_isPlace s m args below meth c H locs 0 0 Qs (F0 m 0 ls []) := by
  have hx := S.1
  have hb := S.2.1
  have how := S.2.2.2.1
  have hts := S.2.2.2.2
  unfold w6_isPlace_z at h
  refine lv_iload_n hx hb dX6_isPlace_0 rfl (lv_at hl 0 rfl) ?_
  refine lv_i2l hx hb dX6_isPlace_1 rfl ?_
  refine lv_lconst (v := 0) hx hb dX6_isPlace_2 rfl ?_
  refine lv_ldc2 hx hb how (hts _ q1113) dX6_isPlace_3 ?_
  refine p_calli (As := [.long (Int32.toInt64 v0), .long 0, .long 7]) (rest := []) S hS hA (met6_in l (Int32.toInt64 v0) 0 7 h) (cw6_81 hts ⟨Nat.le_of_ble_eq_true rfl, Nat.le_of_ble_eq_true rfl⟩) rfl hl.1 rfl (Nat.le_of_ble_eq_true rfl) ⟨Nat.zero_le _, Nat.zero_le _⟩ dX6_isPlace_6 (fun r1 H locs h _ hS => ?_)
  exact hQ _ _ _ _ _ h hS dX6_isPlace_9
theorem met6_isPlace (l : Launch) (v0 : Int32) {Qp : Int32 → Prop} (h : w6_isPlace v0 Qp) (sz : Nat) : Met l yX6_isPlace (ws_ yX6_isPlace cX6_isPlace 1 (some .boolean)) rX6_isPlace (pPc [.int v0] sz) (pQi Qp sz) 0 0 (pA sz) :=
  p_metZ (As := [.int v0]) rfl (Nat.le_of_ble_eq_true rfl) (fun p e s m args below meth c Qs ls S hQ hl => t6_isPlace S (fun q h => h) hQ v0 _ _ ls h va_S.rf hl) sz
/-! answer -/
abbrev rX6_answer : Room := { frames := 2, cells := 0, slots := 0, locals := 45 }
theorem cw6_160 {R : Room} {s : State} {args : Array Value} (hts : ∀ w ∈ lw_all, w.before args s = true) (hR : rX6_isHour.frames + 1 ≤ R.frames ∧ 8 + (1 + 11) + rX6_isHour.locals ≤ R.locals) : CallB R s args RX6 160 yX6_isHour cX6_isHour 1 (some .boolean) (ws_ yX6_isHour cX6_isHour 1 (some .boolean)) rX6_isHour 0 0 1 ∧ (Cond.static yX6_isHour).before args s = true := va_cwS 1 hts (lw_S q1119 q1120 q95 q1121) rfl rfl rfl (by decide +kernel) hR
theorem cw6_163 {R : Room} {s : State} {args : Array Value} (hts : ∀ w ∈ lw_all, w.before args s = true) (hR : rX6_isPlace.frames + 1 ≤ R.frames ∧ 8 + (1 + 11) + rX6_isPlace.locals ≤ R.locals) : CallB R s args RX6 163 yX6_isPlace cX6_isPlace 1 (some .boolean) (ws_ yX6_isPlace cX6_isPlace 1 (some .boolean)) rX6_isPlace 0 0 1 ∧ (Cond.static yX6_isPlace).before args s = true := va_cwS 1 hts (lw_S q1123 q1124 q95 q1125) rfl rfl rfl (by decide +kernel) hR
theorem t6_answer_b14 {p : Program} {l : Launch} {e : Env} {s : State} {m : MethodId} {args : Array Value} {below : List Frame} {meth : Method} {c : Code} {D : va_G} {T ad : Nat → Nat} {A : Nat → Prop} {H0 : Heap} {Qs : State → Prop} {Q : Int32 → Mem → Prop}  (C : MC D T p m c cX6_answer 3 s args) (hQ : mExi p l e rX6_answer s m args below meth c cX6_answer D T ad A H0 Qs Q)   (M : Mem) (H : Heap) (locs : List Loc) (ls : Array Slot) (h : w6_answer_b14 Q M) (I : MI D T ad A H0 M H locs) (hl : lv_has ls 3 [(0, .ref (ad 0))]) : W p l e rX6_answer s m args below meth c H locs 0 0 Qs (F0 m 14 ls []) := by
  have hx := C.1.1
  have hb := C.1.2.1
  have how := C.1.2.2.2.1
  have hts := C.1.2.2.2.2
  unfold w6_answer_b14 at h
  refine lv_bipush (v := -2) hx hb dX6_answer_14 (by decide) ?_
  exact hQ _ _ _ _ _ _ h I dX6_answer_16
theorem t6_answer {p : Program} {l : Launch} {e : Env} {s : State} {m : MethodId} {args : Array Value} {below : List Frame} {meth : Method} {c : Code} {D : va_G} {T ad : Nat → Nat} {A : Nat → Prop} {H0 : Heap} {Qs : State → Prop} {Q : Int32 → Mem → Prop} (C : MC D T p m c cX6_answer 3 s args) (hQ : mExi p l e rX6_answer s m args below meth c cX6_answer D T ad A H0 Qs Q) (v1 : Int32) (v2 : Int32) (M : Mem) (H : Heap) (locs : List Loc) (ls : Array Slot) (h : w6_answer v1 v2 M Q) (I : MI D T ad A H0 M H locs) (hl : lv_has ls 3 [(0, .ref (ad 0)), (1, .int v1), (2, .int v2)]) : W p l e rX6_answer s m args below meth c H locs 0 0 Qs (F0 m 0 ls []) := by
  have hx := C.1.1
  have hb := C.1.2.1
  have how := C.1.2.2.2.1
  have hts := C.1.2.2.2.2
  unfold w6_answer at h
  refine lv_iload_n hx hb dX6_answer_0 rfl (lv_at hl 1 rfl) ?_
  refine m_purei (As := [.int v1]) (rest := []) C I (met6_isHour l v1 h) (cw6_160 hts ⟨Nat.le_of_ble_eq_true rfl, Nat.le_of_ble_eq_true rfl⟩) rfl hl.1 rfl (Nat.le_of_ble_eq_true rfl) ⟨Nat.zero_le _, Nat.zero_le _⟩ dX6_answer_1 (fun r1 H locs h I => ?_)
  refine lv_if_eq (tgt := 14) hx hb dX6_answer_4 (by decide) (fun c => ?_) (fun c => ?_)
  · have h := h.1 c
    exact t6_answer_b14 C hQ M _ _ _ h I (lv_sub hl [0] rfl)
  · have h := h.2 c
    refine lv_iload_n hx hb dX6_answer_7 rfl (lv_at hl 2 rfl) ?_
    refine m_purei (As := [.int v2]) (rest := []) C I (met6_isPlace l v2 h) (cw6_163 hts ⟨Nat.le_of_ble_eq_true rfl, Nat.le_of_ble_eq_true rfl⟩) rfl hl.1 rfl (Nat.le_of_ble_eq_true rfl) ⟨Nat.zero_le _, Nat.zero_le _⟩ dX6_answer_8 (fun r2 H locs h I => ?_)
    refine lv_if_ne (tgt := 17) hx hb dX6_answer_11 (by decide) (fun c => ?_) (fun c => ?_)
    · have h := h.2 c
      refine lv_aload_n hx hb dX6_answer_17 rfl (lv_at hl 0 rfl) ?_
      refine mg_answers C I dX6_answer_18 ?_
      refine lv_bipush (v := 8) hx hb dX6_answer_21 (by decide) ?_
      refine lv_icmp_ne (tgt := 29) hx hb dX6_answer_23 (by decide) (fun c => ?_) (fun c => ?_)
      · have h := h.2 c
        refine lv_aload_n hx hb dX6_answer_29 rfl (lv_at hl 0 rfl) ?_
        refine mg_answer C I dX6_answer_30 ?_
        refine lv_iconst (v := 2) hx hb dX6_answer_33 (by decide) ?_
        refine lv_aload_n hx hb dX6_answer_34 rfl (lv_at hl 0 rfl) ?_
        refine mg_answers C I dX6_answer_35 ?_
        refine lv_imul hx hb dX6_answer_38 ?_
        refine lv_iload_n hx hb dX6_answer_39 rfl (lv_at hl 1 rfl) ?_
        obtain ⟨hg3, h⟩ := h
        refine m_iast C I 14 16 rfl (by decide) hg3 dX6_answer_40 (fun M4 H locs eM4 I => ?_)
        have h := h M4 eM4
        refine lv_aload_n hx hb dX6_answer_41 rfl (lv_at hl 0 rfl) ?_
        refine mg_answer C I dX6_answer_42 ?_
        refine lv_iconst (v := 2) hx hb dX6_answer_45 (by decide) ?_
        refine lv_aload_n hx hb dX6_answer_46 rfl (lv_at hl 0 rfl) ?_
        refine mg_answers C I dX6_answer_47 ?_
        refine lv_imul hx hb dX6_answer_50 ?_
        refine lv_iconst (v := 1) hx hb dX6_answer_51 (by decide) ?_
        refine lv_iadd hx hb dX6_answer_52 ?_
        refine lv_iload_n hx hb dX6_answer_53 rfl (lv_at hl 2 rfl) ?_
        obtain ⟨hg5, h⟩ := h
        refine m_iast C I 14 16 rfl (by decide) hg5 dX6_answer_54 (fun M6 H locs eM6 I => ?_)
        have h := h M6 eM6
        refine lv_aload_n hx hb dX6_answer_55 rfl (lv_at hl 0 rfl) ?_
        refine lv_dup hx hb dX6_answer_56 rfl ?_
        refine mg_answers C I dX6_answer_57 ?_
        refine lv_iconst (v := 1) hx hb dX6_answer_60 (by decide) ?_
        refine lv_iadd hx hb dX6_answer_61 ?_
        refine mp_answers C I dX6_answer_62 (fun M7 H locs eM7 I => ?_)
        have h := h M7 eM7
        refine lv_aload_n hx hb dX6_answer_65 rfl (lv_at hl 0 rfl) ?_
        refine mg_answers C I dX6_answer_66 ?_
        exact hQ _ _ _ _ _ _ h I dX6_answer_69
      · have h := h.1 c
        refine lv_bipush (v := -4) hx hb dX6_answer_26 (by decide) ?_
        exact hQ _ _ _ _ _ _ h I dX6_answer_28
    · have h := h.1 c
      exact t6_answer_b14 C hQ M _ _ _ h I (lv_sub hl [0] rfl)
theorem met6_answer (l : Launch) (D : va_G) (T ad : Nat → Nat) (v1 : Int32) (v2 : Int32) (M : Mem) {Qp : Int32 → Mem → Prop} (h : w6_answer v1 v2 M Qp) (sz : Nat) : Met l yX6_answer (ws_ yX6_answer cX6_answer 3 (some .int)) rX6_answer (mPc D T ad [.int v1, .int v2] M sz) (mQi D T ad M Qp sz) 0 0 (fA (cM T ad M) sz) :=
  m_metI (As := [.int v1, .int v2]) rfl rfl (Nat.le_of_ble_eq_true rfl) (fun p e s m args below meth c A Qs ls C hQ I hl => t6_answer C hQ v1 v2 M _ _ ls h I hl) sz
/-! back -/
abbrev rX6_back : Room := { frames := 0, cells := 0, slots := 0, locals := 0 }
theorem t6_back {p : Program} {l : Launch} {e : Env} {s : State} {m : MethodId} {args : Array Value} {below : List Frame} {meth : Method} {c : Code} {D : va_G} {T ad : Nat → Nat} {A : Nat → Prop} {H0 : Heap} {Qs : State → Prop} {Q : Int32 → Mem → Prop} (C : MC D T p m c cX6_back 1 s args) (hQ : mExi p l e rX6_back s m args below meth c cX6_back D T ad A H0 Qs Q)  (M : Mem) (H : Heap) (locs : List Loc) (ls : Array Slot) (h : w6_back M Q) (I : MI D T ad A H0 M H locs) (hl : lv_has ls 1 [(0, .ref (ad 0))]) : W p l e rX6_back s m args below meth c H locs 0 0 Qs (F0 m 0 ls []) := by
  have hx := C.1.1
  have hb := C.1.2.1
  have how := C.1.2.2.2.1
  have hts := C.1.2.2.2.2
  unfold w6_back at h
  refine lv_aload_n hx hb dX6_back_0 rfl (lv_at hl 0 rfl) ?_
  refine mg_answers C I dX6_back_1 ?_
  refine lv_if_ne (tgt := 10) hx hb dX6_back_4 (by decide) (fun c => ?_) (fun c => ?_)
  · have h := h.2 c
    refine lv_aload_n hx hb dX6_back_10 rfl (lv_at hl 0 rfl) ?_
    refine lv_dup hx hb dX6_back_11 rfl ?_
    refine mg_answers C I dX6_back_12 ?_
    refine lv_iconst (v := 1) hx hb dX6_back_15 (by decide) ?_
    refine lv_isub hx hb dX6_back_16 ?_
    refine mp_answers C I dX6_back_17 (fun M1 H locs eM1 I => ?_)
    have h := h M1 eM1
    refine lv_aload_n hx hb dX6_back_20 rfl (lv_at hl 0 rfl) ?_
    refine mg_answers C I dX6_back_21 ?_
    exact hQ _ _ _ _ _ _ h I dX6_back_24
  · have h := h.1 c
    refine lv_bipush (v := -3) hx hb dX6_back_7 (by decide) ?_
    exact hQ _ _ _ _ _ _ h I dX6_back_9
theorem met6_back (l : Launch) (D : va_G) (T ad : Nat → Nat)  (M : Mem) {Qp : Int32 → Mem → Prop} (h : w6_back M Qp) (sz : Nat) : Met l yX6_back (ws_ yX6_back cX6_back 1 (some .int)) rX6_back (mPc D T ad [] M sz) (mQi D T ad M Qp sz) 0 0 (fA (cM T ad M) sz) :=
  m_metI (As := []) rfl rfl (Nat.le_of_ble_eq_true rfl) (fun p e s m args below meth c A Qs ls C hQ I hl => t6_back C hQ M _ _ ls h I hl) sz
/-! read -/
abbrev rX6_read : Room := { frames := 3, cells := 0, slots := 0, locals := 67 }
theorem cw6_169 {R : Room} {s : State} {args : Array Value} (hts : ∀ w ∈ lw_all, w.before args s = true) (hR : rX6_answer.frames + 1 ≤ R.frames ∧ 8 + (3 + 11) + rX6_answer.locals ≤ R.locals) : CallW R s args RX6 RX6 169 yX6_answer cX6_answer 3 (some .int) (ws_ yX6_answer cX6_answer 3 (some .int)) rX6_answer 0 0 2 := cwV 2 hts (lw_V q1134 q1116 q1117 q95 q1118) rfl rfl rfl (by decide +kernel) hR
theorem t6_read_b103 {p : Program} {l : Launch} {e : Env} {s : State} {m : MethodId} {args : Array Value} {below : List Frame} {meth : Method} {c : Code} {D : va_G} {T ad : Nat → Nat} {A : Nat → Prop} {H0 : Heap} {Qs : State → Prop} {Q : Int32 → Mem → Prop}  (C : MC D T p m c cX6_read 4 s args) (hQ : mExi p l e rX6_read s m args below meth c cX6_read D T ad A H0 Qs Q)  (v2 : Int32) (M : Mem) (H : Heap) (locs : List Loc) (ls : Array Slot) (h : w6_read_b103 Q v2 M) (I : MI D T ad A H0 M H locs) (hl : lv_has ls 4 [(0, .ref (ad 0)), (2, .int v2)]) : W p l e rX6_read s m args below meth c H locs 0 0 Qs (F0 m 103 ls []) := by
  have hx := C.1.1
  have hb := C.1.2.1
  have how := C.1.2.2.2.1
  have hts := C.1.2.2.2.2
  unfold w6_read_b103 at h
  refine lv_iload_n hx hb dX6_read_103 rfl (lv_at hl 1 rfl) ?_
  exact hQ _ _ _ _ _ _ h I dX6_read_104
theorem t6_read_b98 {p : Program} {l : Launch} {e : Env} {s : State} {m : MethodId} {args : Array Value} {below : List Frame} {meth : Method} {c : Code} {D : va_G} {T ad : Nat → Nat} {A : Nat → Prop} {H0 : Heap} {Qs : State → Prop} {Q : Int32 → Mem → Prop} {K29 : Int32 → Int32 → Int32 → Mem → Prop} (C : MC D T p m c cX6_read 4 s args) (hQ : mExi p l e rX6_read s m args below meth c cX6_read D T ad A H0 Qs Q) (hK29 : ∀ (v1 : Int32) (v2 : Int32) (v3 : Int32) (M : Mem) (H : Heap) (locs : List Loc) (ls : Array Slot), K29 v1 v2 v3 M → MI D T ad A H0 M H locs → lv_has ls 4 [(0, .ref (ad 0)), (1, .int v1), (2, .int v2), (3, .int v3)] → W p l e rX6_read s m args below meth c H locs 0 0 Qs (F0 m 29 ls [])) (v1 : Int32) (v3 : Int32) (s0 : Int32) (s1 : Int32) (M : Mem) (H : Heap) (locs : List Loc) (ls : Array Slot) (h : w6_read_b98 Q K29 v1 v3 s0 s1 M) (I : MI D T ad A H0 M H locs) (hl : lv_has ls 4 [(0, .ref (ad 0)), (1, .int v1), (3, .int v3)]) : W p l e rX6_read s m args below meth c H locs 0 0 Qs (F0 m 98 ls [.int s1, .int s0]) := by
  have hx := C.1.1
  have hb := C.1.2.1
  have how := C.1.2.2.2.1
  have hts := C.1.2.2.2.2
  unfold w6_read_b98 at h
  refine lv_iadd hx hb dX6_read_98 ?_
  refine lv_istore_n (lv' := [(2, .int (s0 + s1)), (0, .ref (ad 0)), (1, .int v1), (3, .int v3)]) hx hb dX6_read_99 rfl hl (by decide) rfl (fun ls hl => ?_)
  refine lv_goto (tgt := 29) hx hb dX6_read_100 (by decide) ?_
  exact hK29 v1 (s0 + s1) v3 M _ _ _ h I (lv_sub hl [1, 2, 0, 3] rfl)
theorem t6_read_b87 {p : Program} {l : Launch} {e : Env} {s : State} {m : MethodId} {args : Array Value} {below : List Frame} {meth : Method} {c : Code} {D : va_G} {T ad : Nat → Nat} {A : Nat → Prop} {H0 : Heap} {Qs : State → Prop} {Q : Int32 → Mem → Prop} {K29 : Int32 → Int32 → Int32 → Mem → Prop} (C : MC D T p m c cX6_read 4 s args) (hQ : mExi p l e rX6_read s m args below meth c cX6_read D T ad A H0 Qs Q) (hK29 : ∀ (v1 : Int32) (v2 : Int32) (v3 : Int32) (M : Mem) (H : Heap) (locs : List Loc) (ls : Array Slot), K29 v1 v2 v3 M → MI D T ad A H0 M H locs → lv_has ls 4 [(0, .ref (ad 0)), (1, .int v1), (2, .int v2), (3, .int v3)] → W p l e rX6_read s m args below meth c H locs 0 0 Qs (F0 m 29 ls [])) (v1 : Int32) (v2 : Int32) (s0 : Int32) (M : Mem) (H : Heap) (locs : List Loc) (ls : Array Slot) (h : w6_read_b87 Q K29 v1 v2 s0 M) (I : MI D T ad A H0 M H locs) (hl : lv_has ls 4 [(0, .ref (ad 0)), (1, .int v1), (2, .int v2)]) : W p l e rX6_read s m args below meth c H locs 0 0 Qs (F0 m 87 ls [.int s0]) := by
  have hx := C.1.1
  have hb := C.1.2.1
  have how := C.1.2.2.2.1
  have hts := C.1.2.2.2.2
  unfold w6_read_b87 at h
  refine lv_istore_n (lv' := [(3, .int s0), (0, .ref (ad 0)), (1, .int v1), (2, .int v2)]) hx hb dX6_read_87 rfl hl (by decide) rfl (fun ls hl => ?_)
  refine lv_iload_n hx hb dX6_read_88 rfl (lv_at hl 3 rfl) ?_
  refine lv_iload_n hx hb dX6_read_89 rfl (lv_at hl 0 rfl) ?_
  refine lv_if_eq (tgt := 97) hx hb dX6_read_90 (by decide) (fun c => ?_) (fun c => ?_)
  · have h := h.1 c
    refine lv_iconst (v := 0) hx hb dX6_read_97 (by decide) ?_
    exact t6_read_b98 C hQ hK29 v1 s0 v2 0 M _ _ _ h I (lv_sub hl [1, 2, 0] rfl)
  · have h := h.2 c
    refine lv_iconst (v := 1) hx hb dX6_read_93 (by decide) ?_
    refine lv_goto (tgt := 98) hx hb dX6_read_94 (by decide) ?_
    exact t6_read_b98 C hQ hK29 v1 s0 v2 1 M _ _ _ h I (lv_sub hl [1, 2, 0] rfl)
theorem t6_read_b29_f {p : Program} {l : Launch} {e : Env} {s : State} {m : MethodId} {args : Array Value} {below : List Frame} {meth : Method} {c : Code} {D : va_G} {T ad : Nat → Nat} {A : Nat → Prop} {H0 : Heap} {Qs : State → Prop} {Q : Int32 → Mem → Prop} {K29 : Int32 → Int32 → Int32 → Mem → Prop} (C : MC D T p m c cX6_read 4 s args) (hQ : mExi p l e rX6_read s m args below meth c cX6_read D T ad A H0 Qs Q) (hK29 : ∀ (v1 : Int32) (v2 : Int32) (v3 : Int32) (M : Mem) (H : Heap) (locs : List Loc) (ls : Array Slot), K29 v1 v2 v3 M → MI D T ad A H0 M H locs → lv_has ls 4 [(0, .ref (ad 0)), (1, .int v1), (2, .int v2), (3, .int v3)] → W p l e rX6_read s m args below meth c H locs 0 0 Qs (F0 m 29 ls [])) (v1 : Int32) (v2 : Int32) (v3 : Int32) (M : Mem) (H : Heap) (locs : List Loc) (ls : Array Slot) (h : w6_read_b29_f Q K29 v1 v2 v3 M) (I : MI D T ad A H0 M H locs) (hl : lv_has ls 4 [(0, .ref (ad 0)), (1, .int v1), (2, .int v2), (3, .int v3)]) : W p l e rX6_read s m args below meth c H locs 0 0 Qs (F0 m 29 ls []) := by
  have hx := C.1.1
  have hb := C.1.2.1
  have how := C.1.2.2.2.1
  have hts := C.1.2.2.2.2
  unfold w6_read_b29_f at h
  refine lv_iload_n hx hb dX6_read_29 rfl (lv_at hl 3 rfl) ?_
  refine lv_if_eq (tgt := 103) hx hb dX6_read_30 (by decide) (fun c => ?_) (fun c => ?_)
  · have h := h.1 c
    exact t6_read_b103 C hQ v2 M _ _ _ h I (lv_sub hl [0, 2] rfl)
  · have h := h.2 c
    refine lv_iconst (v := 2) hx hb dX6_read_33 (by decide) ?_
    refine lv_iload_n hx hb dX6_read_34 rfl (lv_at hl 2 rfl) ?_
    refine lv_imul hx hb dX6_read_35 ?_
    refine lv_iconst (v := 2) hx hb dX6_read_36 (by decide) ?_
    refine lv_iadd hx hb dX6_read_37 ?_
    refine lv_aload_n hx hb dX6_read_38 rfl (lv_at hl 0 rfl) ?_
    refine mg_sizes C I dX6_read_39 ?_
    refine lv_iload_n hx hb dX6_read_42 rfl (lv_at hl 1 rfl) ?_
    obtain ⟨hg1, h⟩ := h
    refine m_iald C I 2 4 rfl (by decide) hg1 dX6_read_43 ?_
    refine lv_icmp_gt (tgt := 103) hx hb dX6_read_44 (by decide) (fun c => ?_) (fun c => ?_)
    · have h := h.1 c
      exact t6_read_b103 C hQ v2 M _ _ _ h I (lv_sub hl [0, 2] rfl)
    · have h := h.2 c
      refine lv_aload_n hx hb dX6_read_47 rfl (lv_at hl 0 rfl) ?_
      refine lv_aload_n hx hb dX6_read_48 rfl (lv_at hl 0 rfl) ?_
      refine mg_items C I dX6_read_49 ?_
      refine lv_bipush (v := 60) hx hb dX6_read_52 (by decide) ?_
      refine lv_iload_n hx hb dX6_read_54 rfl (lv_at hl 1 rfl) ?_
      refine lv_imul hx hb dX6_read_55 ?_
      refine lv_iconst (v := 2) hx hb dX6_read_56 (by decide) ?_
      refine lv_iload_n hx hb dX6_read_57 rfl (lv_at hl 2 rfl) ?_
      refine lv_imul hx hb dX6_read_58 ?_
      refine lv_iadd hx hb dX6_read_59 ?_
      obtain ⟨hg2, h⟩ := h
      refine m_iald C I 3 240 rfl (by decide) hg2 dX6_read_60 ?_
      refine lv_aload_n hx hb dX6_read_61 rfl (lv_at hl 0 rfl) ?_
      refine mg_items C I dX6_read_62 ?_
      refine lv_bipush (v := 60) hx hb dX6_read_65 (by decide) ?_
      refine lv_iload_n hx hb dX6_read_67 rfl (lv_at hl 1 rfl) ?_
      refine lv_imul hx hb dX6_read_68 ?_
      refine lv_iconst (v := 2) hx hb dX6_read_69 (by decide) ?_
      refine lv_iload_n hx hb dX6_read_70 rfl (lv_at hl 2 rfl) ?_
      refine lv_imul hx hb dX6_read_71 ?_
      refine lv_iadd hx hb dX6_read_72 ?_
      refine lv_iconst (v := 1) hx hb dX6_read_73 (by decide) ?_
      refine lv_iadd hx hb dX6_read_74 ?_
      obtain ⟨hg3, h⟩ := h
      refine m_iald C I 3 240 rfl (by decide) hg3 dX6_read_75 ?_
      refine m_calli (As := [.int (M 3 (ci ((60 * v1) + (2 * v2)))), .int (M 3 (ci (((60 * v1) + (2 * v2)) + 1)))]) (rest := []) C I (met6_answer l D T ad (M 3 (ci ((60 * v1) + (2 * v2)))) (M 3 (ci (((60 * v1) + (2 * v2)) + 1))) M h) (cw6_169 hts ⟨Nat.le_of_ble_eq_true rfl, Nat.le_of_ble_eq_true rfl⟩) rfl hl.1 rfl (Nat.le_of_ble_eq_true rfl) ⟨Nat.zero_le _, Nat.zero_le _⟩ dX6_read_76 (fun r4 M5 H locs h I => ?_)
      refine lv_if_lt (tgt := 86) hx hb dX6_read_79 (by decide) (fun c => ?_) (fun c => ?_)
      · have h := h.1 c
        refine lv_iconst (v := 0) hx hb dX6_read_86 (by decide) ?_
        exact t6_read_b87 C hQ hK29 v1 v2 0 M5 _ _ _ h I (lv_sub hl [0, 1, 2] rfl)
      · have h := h.2 c
        refine lv_iconst (v := 1) hx hb dX6_read_82 (by decide) ?_
        refine lv_goto (tgt := 87) hx hb dX6_read_83 (by decide) ?_
        exact t6_read_b87 C hQ hK29 v1 v2 1 M5 _ _ _ h I (lv_sub hl [0, 1, 2] rfl)
theorem t6_read_b29 {p : Program} {l : Launch} {e : Env} {s : State} {m : MethodId} {args : Array Value} {below : List Frame} {meth : Method} {c : Code} {D : va_G} {T ad : Nat → Nat} {A : Nat → Prop} {H0 : Heap} {Qs : State → Prop} {Q : Int32 → Mem → Prop}  (C : MC D T p m c cX6_read 4 s args) (hQ : mExi p l e rX6_read s m args below meth c cX6_read D T ad A H0 Qs Q)  : ∀ (n : Nat) (v1 : Int32) (v2 : Int32) (v3 : Int32) (M : Mem) (H : Heap) (locs : List Loc) (ls : Array Slot), w6_read_b29 Q n v1 v2 v3 M → MI D T ad A H0 M H locs → lv_has ls 4 [(0, .ref (ad 0)), (1, .int v1), (2, .int v2), (3, .int v3)] → W p l e rX6_read s m args below meth c H locs 0 0 Qs (F0 m 29 ls []) := by
  intro n
  induction n with
  | zero => intro v1 v2 v3 M H locs ls h; exact h.elim
  | succ n ih => intro v1 v2 v3 M H locs ls h I hl; exact t6_read_b29_f C hQ  ih v1 v2 v3 M H locs ls h I hl
theorem t6_read {p : Program} {l : Launch} {e : Env} {s : State} {m : MethodId} {args : Array Value} {below : List Frame} {meth : Method} {c : Code} {D : va_G} {T ad : Nat → Nat} {A : Nat → Prop} {H0 : Heap} {Qs : State → Prop} {Q : Int32 → Mem → Prop} (C : MC D T p m c cX6_read 4 s args) (hQ : mExi p l e rX6_read s m args below meth c cX6_read D T ad A H0 Qs Q) (v1 : Int32) (M : Mem) (H : Heap) (locs : List Loc) (ls : Array Slot) (h : w6_read v1 M Q) (I : MI D T ad A H0 M H locs) (hl : lv_has ls 4 [(0, .ref (ad 0)), (1, .int v1)]) : W p l e rX6_read s m args below meth c H locs 0 0 Qs (F0 m 0 ls []) := by
  have hx := C.1.1
  have hb := C.1.2.1
  have how := C.1.2.2.2.1
  have hts := C.1.2.2.2.2
  unfold w6_read at h
  refine lv_iload_n hx hb dX6_read_0 rfl (lv_at hl 1 rfl) ?_
  refine m_purei (As := [.int v1]) (rest := []) C I (met6_isSheet l v1 h) (cw6_91 hts ⟨Nat.le_of_ble_eq_true rfl, Nat.le_of_ble_eq_true rfl⟩) rfl hl.1 rfl (Nat.le_of_ble_eq_true rfl) ⟨Nat.zero_le _, Nat.zero_le _⟩ dX6_read_1 (fun r6 H locs h I => ?_)
  refine lv_if_ne (tgt := 10) hx hb dX6_read_4 (by decide) (fun c => ?_) (fun c => ?_)
  · have h := h.2 c
    refine lv_aload_n hx hb dX6_read_10 rfl (lv_at hl 0 rfl) ?_
    refine mg_forms C I dX6_read_11 ?_
    refine lv_iload_n hx hb dX6_read_14 rfl (lv_at hl 1 rfl) ?_
    obtain ⟨hg7, h⟩ := h
    refine m_iald C I 1 4 rfl (by decide) hg7 dX6_read_15 ?_
    refine lv_if_ge (tgt := 25) hx hb dX6_read_16 (by decide) (fun c => ?_) (fun c => ?_)
    · have h := h.1 c
      refine lv_iconst (v := 0) hx hb dX6_read_25 (by decide) ?_
      refine lv_istore_n (lv' := [(2, .int 0), (0, .ref (ad 0)), (1, .int v1)]) hx hb dX6_read_26 rfl hl (by decide) rfl (fun ls hl => ?_)
      refine lv_iconst (v := 1) hx hb dX6_read_27 (by decide) ?_
      refine lv_istore_n (lv' := [(3, .int 1), (2, .int 0), (0, .ref (ad 0)), (1, .int v1)]) hx hb dX6_read_28 rfl hl (by decide) rfl (fun ls hl => ?_)
      obtain ⟨n, h⟩ := h
      exact t6_read_b29 C hQ n v1 0 1 M _ _ _ h I (lv_sub hl [2, 3, 1, 0] rfl)
    · have h := h.2 c
      refine lv_aload_n hx hb dX6_read_19 rfl (lv_at hl 0 rfl) ?_
      refine lv_iconst (v := 1) hx hb dX6_read_20 (by decide) ?_
      refine m_calli (As := [.int 1]) (rest := []) C I (met6_finds l D T ad 1 M h) (cw6_97 hts ⟨Nat.le_of_ble_eq_true rfl, Nat.le_of_ble_eq_true rfl⟩) rfl hl.1 rfl (Nat.le_of_ble_eq_true rfl) ⟨Nat.zero_le _, Nat.zero_le _⟩ dX6_read_21 (fun r8 M9 H locs h I => ?_)
      exact hQ _ _ _ _ _ _ h I dX6_read_24
  · have h := h.1 c
    refine lv_bipush (v := -2) hx hb dX6_read_7 (by decide) ?_
    exact hQ _ _ _ _ _ _ h I dX6_read_9
theorem met6_read (l : Launch) (D : va_G) (T ad : Nat → Nat) (v1 : Int32) (M : Mem) {Qp : Int32 → Mem → Prop} (h : w6_read v1 M Qp) (sz : Nat) : Met l yX6_read (ws_ yX6_read cX6_read 4 (some .int)) rX6_read (mPc D T ad [.int v1] M sz) (mQi D T ad M Qp sz) 0 0 (fA (cM T ad M) sz) :=
  m_metI (As := [.int v1]) rfl rfl (Nat.le_of_ble_eq_true rfl) (fun p e s m args below meth c A Qs ls C hQ I hl => t6_read C hQ v1 M _ _ ls h I hl) sz
