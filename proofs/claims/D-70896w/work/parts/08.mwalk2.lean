/-! the reference: walks, printed by gen.py -/
/-! lesser -/
abbrev rX6_lesser : Room := { frames := 0, cells := 0, slots := 0, locals := 0 }
theorem t6_lesser_b10 {p : Program} {l : Launch} {e : Env} {s : State} {m : MethodId} {args : Array Value} {below : List Frame} {meth : Method} {c : Code} {A : Nat → Prop} {H0 : Heap} {Qs : State → Prop} {Q : Int32 → Prop}  (S : CallFix p m c cX6_lesser 2 s args lw_all RX6) (hA : ∀ q, H0.size ≤ q → A q) (hQ : pExi p l e rX6_lesser s m args below meth c cX6_lesser A H0 Qs Q)  (s0 : Int32) (H : Heap) (locs : List Loc) (ls : Array Slot) (h : w6_lesser_b10 Q s0) (hS : va_S A H0 H locs) (hl : lv_has ls 2 []) : W p l e rX6_lesser s m args below meth c H locs 0 0 Qs (F0 m 10 ls [.int s0]) := by
  have hx := S.1
  have hb := S.2.1
  have how := S.2.2.2.1
  have hts := S.2.2.2.2
  unfold w6_lesser_b10 at h
  exact hQ _ _ _ _ _ h hS dX6_lesser_10
theorem t6_lesser {p : Program} {l : Launch} {e : Env} {s : State} {m : MethodId} {args : Array Value} {below : List Frame} {meth : Method} {c : Code} {A : Nat → Prop} {H0 : Heap} {Qs : State → Prop} {Q : Int32 → Prop} (S : CallFix p m c cX6_lesser 2 s args lw_all RX6) (hA : ∀ q, H0.size ≤ q → A q) (hQ : pExi p l e rX6_lesser s m args below meth c cX6_lesser A H0 Qs Q) (v0 : Int32) (v1 : Int32) (H : Heap) (locs : List Loc) (ls : Array Slot) (h : w6_lesser v0 v1 Q) (hS : va_S A H0 H locs) (hl : lv_has ls 2 [(0, .int v0), (1, .int v1)]) : W p l e rX6_lesser s m args below meth c H locs 0 0 Qs (F0 m 0 ls []) := by
  have hx := S.1
  have hb := S.2.1
  have how := S.2.2.2.1
  have hts := S.2.2.2.2
  unfold w6_lesser at h
  refine lv_iload_n hx hb dX6_lesser_0 rfl (lv_at hl 0 rfl) ?_
  refine lv_iload_n hx hb dX6_lesser_1 rfl (lv_at hl 1 rfl) ?_
  refine lv_icmp_ge (tgt := 9) hx hb dX6_lesser_2 (by decide) (fun c => ?_) (fun c => ?_)
  · have h := h.1 c
    refine lv_iload_n hx hb dX6_lesser_9 rfl (lv_at hl 1 rfl) ?_
    exact t6_lesser_b10 S hA hQ v1 _ _ _ h hS (lv_sub hl [] rfl)
  · have h := h.2 c
    refine lv_iload_n hx hb dX6_lesser_5 rfl (lv_at hl 0 rfl) ?_
    refine lv_goto (tgt := 10) hx hb dX6_lesser_6 (by decide) ?_
    exact t6_lesser_b10 S hA hQ v0 _ _ _ h hS (lv_sub hl [] rfl)
theorem met6_lesser (l : Launch) (v0 : Int32) (v1 : Int32) {Qp : Int32 → Prop} (h : w6_lesser v0 v1 Qp) (sz : Nat) : Met l yX6_lesser (ws_ yX6_lesser cX6_lesser 2 (some .int)) rX6_lesser (pPc [.int v0, .int v1] sz) (pQi Qp sz) 0 0 (pA sz) :=
  p_metI (As := [.int v0, .int v1]) rfl (Nat.le_of_ble_eq_true rfl) (fun p e s m args below meth c Qs ls S hQ hl => t6_lesser S (fun q h => h) hQ v0 v1 _ _ ls h va_S.rf hl) sz
/-! maps -/
abbrev rX6_maps : Room := { frames := 1, cells := 0, slots := 0, locals := 21 }
theorem cw6_171 {R : Room} {s : State} {args : Array Value} (hts : ∀ w ∈ lw_all, w.before args s = true) (hR : rX6_lesser.frames + 1 ≤ R.frames ∧ 8 + (2 + 11) + rX6_lesser.locals ≤ R.locals) : CallB R s args RX6 171 yX6_lesser cX6_lesser 2 (some .int) (ws_ yX6_lesser cX6_lesser 2 (some .int)) rX6_lesser 0 0 2 ∧ (Cond.static yX6_lesser).before args s = true := va_cwS 2 hts (lw_S q1147 q1148 q95 q1149) rfl rfl rfl (by decide +kernel) hR
theorem t6_maps_b214_f {p : Program} {l : Launch} {e : Env} {s : State} {m : MethodId} {args : Array Value} {below : List Frame} {meth : Method} {c : Code} {D : va_G} {T ad : Nat → Nat} {A : Nat → Prop} {H0 : Heap} {Qs : State → Prop} {Q : Mem → Prop} {K206 : Int32 → Mem → Prop} {K214 : Int32 → Int32 → Mem → Prop} (C : MC D T p m c cX6_maps 6 s args) (hQ : mExv p l e rX6_maps s m args below meth c cX6_maps D T ad A H0 Qs Q) (hK206 : ∀ (v1 : Int32) (M : Mem) (H : Heap) (locs : List Loc) (ls : Array Slot), K206 v1 M → MI D T ad A H0 M H locs → lv_has ls 6 [(0, .ref (ad 0)), (1, .int v1)] → W p l e rX6_maps s m args below meth c H locs 0 0 Qs (F0 m 206 ls [])) (hK214 : ∀ (v1 : Int32) (v2 : Int32) (M : Mem) (H : Heap) (locs : List Loc) (ls : Array Slot), K214 v1 v2 M → MI D T ad A H0 M H locs → lv_has ls 6 [(0, .ref (ad 0)), (1, .int v1), (2, .int v2)] → W p l e rX6_maps s m args below meth c H locs 0 0 Qs (F0 m 214 ls [])) (v1 : Int32) (v2 : Int32) (M : Mem) (H : Heap) (locs : List Loc) (ls : Array Slot) (h : w6_maps_b214_f Q K206 K214 v1 v2 M) (I : MI D T ad A H0 M H locs) (hl : lv_has ls 6 [(0, .ref (ad 0)), (1, .int v1), (2, .int v2)]) : W p l e rX6_maps s m args below meth c H locs 0 0 Qs (F0 m 214 ls []) := by
  have hx := C.1.1
  have hb := C.1.2.1
  have how := C.1.2.2.2.1
  have hts := C.1.2.2.2.2
  unfold w6_maps_b214_f at h
  refine lv_iload_n hx hb dX6_maps_214 rfl (lv_at hl 2 rfl) ?_
  refine lv_bipush (v := 64) hx hb dX6_maps_215 (by decide) ?_
  refine lv_icmp_ge (tgt := 270) hx hb dX6_maps_217 (by decide) (fun c => ?_) (fun c => ?_)
  · have h := h.1 c
    refine lv_iinc (v := (v1 + 1)) (lv' := [(1, .int (v1 + 1)), (0, .ref (ad 0)), (2, .int v2)]) hx hb dX6_maps_270 hl (k := 1) rfl (ii_1 _) (by decide) rfl (fun ls hl => ?_)
    refine lv_goto (tgt := 206) hx hb dX6_maps_273 (by decide) ?_
    exact hK206 (v1 + 1) M _ _ _ h I (lv_sub hl [1, 0] rfl)
  · have h := h.2 c
    refine lv_aload_n hx hb dX6_maps_220 rfl (lv_at hl 0 rfl) ?_
    refine mg_far C I dX6_maps_221 ?_
    refine lv_iload_n hx hb dX6_maps_224 rfl (lv_at hl 2 rfl) ?_
    refine lv_aload_n hx hb dX6_maps_225 rfl (lv_at hl 0 rfl) ?_
    refine mg_far C I dX6_maps_226 ?_
    refine lv_bipush (v := 8) hx hb dX6_maps_229 (by decide) ?_
    refine lv_iload_n hx hb dX6_maps_231 rfl (lv_at hl 2 rfl) ?_
    refine lv_bipush (v := 8) hx hb dX6_maps_232 (by decide) ?_
    refine lv_idiv hx hb dX6_maps_234 (by decide) ?_
    refine lv_imul hx hb dX6_maps_235 ?_
    refine lv_iload_n hx hb dX6_maps_236 rfl (lv_at hl 1 rfl) ?_
    refine lv_iadd hx hb dX6_maps_237 ?_
    obtain ⟨hg1, h⟩ := h
    refine m_iald C I 17 64 rfl (by decide) hg1 dX6_maps_238 ?_
    refine lv_aload_n hx hb dX6_maps_239 rfl (lv_at hl 0 rfl) ?_
    refine mg_far C I dX6_maps_240 ?_
    refine lv_bipush (v := 8) hx hb dX6_maps_243 (by decide) ?_
    refine lv_iload_n hx hb dX6_maps_245 rfl (lv_at hl 1 rfl) ?_
    refine lv_imul hx hb dX6_maps_246 ?_
    refine lv_iload_n hx hb dX6_maps_247 rfl (lv_at hl 2 rfl) ?_
    refine lv_bipush (v := 8) hx hb dX6_maps_248 (by decide) ?_
    refine lv_irem hx hb dX6_maps_250 (by decide) ?_
    refine lv_iadd hx hb dX6_maps_251 ?_
    obtain ⟨hg2, h⟩ := h
    refine m_iald C I 17 64 rfl (by decide) hg2 dX6_maps_252 ?_
    refine lv_iadd hx hb dX6_maps_253 ?_
    refine lv_aload_n hx hb dX6_maps_254 rfl (lv_at hl 0 rfl) ?_
    refine mg_far C I dX6_maps_255 ?_
    refine lv_iload_n hx hb dX6_maps_258 rfl (lv_at hl 2 rfl) ?_
    obtain ⟨hg3, h⟩ := h
    refine m_iald C I 17 64 rfl (by decide) hg3 dX6_maps_259 ?_
    refine m_purei (As := [.int ((M 17 (ci ((8 * (v2 / 8)) + v1))) + (M 17 (ci ((8 * v1) + (v2 - v2 / 8 * 8))))), .int (M 17 (ci v2))]) (rest := [.int v2, .ref (ad 17)]) C I (met6_lesser l ((M 17 (ci ((8 * (v2 / 8)) + v1))) + (M 17 (ci ((8 * v1) + (v2 - v2 / 8 * 8))))) (M 17 (ci v2)) h) (cw6_171 hts ⟨Nat.le_of_ble_eq_true rfl, Nat.le_of_ble_eq_true rfl⟩) rfl hl.1 rfl (Nat.le_of_ble_eq_true rfl) ⟨Nat.zero_le _, Nat.zero_le _⟩ dX6_maps_260 (fun r4 H locs h I => ?_)
    refine m_iast C I 17 64 rfl (by decide) hg3 dX6_maps_263 (fun M5 H locs eM5 I => ?_)
    have h := h M5 eM5
    refine lv_iinc (v := (v2 + 1)) (lv' := [(2, .int (v2 + 1)), (0, .ref (ad 0)), (1, .int v1)]) hx hb dX6_maps_264 hl (k := 2) rfl (ii_1 _) (by decide) rfl (fun ls hl => ?_)
    refine lv_goto (tgt := 214) hx hb dX6_maps_267 (by decide) ?_
    exact hK214 v1 (v2 + 1) M5 _ _ _ h I (lv_sub hl [1, 2, 0] rfl)
theorem t6_maps_b214 {p : Program} {l : Launch} {e : Env} {s : State} {m : MethodId} {args : Array Value} {below : List Frame} {meth : Method} {c : Code} {D : va_G} {T ad : Nat → Nat} {A : Nat → Prop} {H0 : Heap} {Qs : State → Prop} {Q : Mem → Prop} {K206 : Int32 → Mem → Prop} (C : MC D T p m c cX6_maps 6 s args) (hQ : mExv p l e rX6_maps s m args below meth c cX6_maps D T ad A H0 Qs Q) (hK206 : ∀ (v1 : Int32) (M : Mem) (H : Heap) (locs : List Loc) (ls : Array Slot), K206 v1 M → MI D T ad A H0 M H locs → lv_has ls 6 [(0, .ref (ad 0)), (1, .int v1)] → W p l e rX6_maps s m args below meth c H locs 0 0 Qs (F0 m 206 ls [])) : ∀ (n : Nat) (v1 : Int32) (v2 : Int32) (M : Mem) (H : Heap) (locs : List Loc) (ls : Array Slot), w6_maps_b214 Q K206 n v1 v2 M → MI D T ad A H0 M H locs → lv_has ls 6 [(0, .ref (ad 0)), (1, .int v1), (2, .int v2)] → W p l e rX6_maps s m args below meth c H locs 0 0 Qs (F0 m 214 ls []) := by
  intro n
  induction n with
  | zero => intro v1 v2 M H locs ls h; exact h.elim
  | succ n ih => intro v1 v2 M H locs ls h I hl; exact t6_maps_b214_f C hQ hK206 ih v1 v2 M H locs ls h I hl
theorem t6_maps_b206_f {p : Program} {l : Launch} {e : Env} {s : State} {m : MethodId} {args : Array Value} {below : List Frame} {meth : Method} {c : Code} {D : va_G} {T ad : Nat → Nat} {A : Nat → Prop} {H0 : Heap} {Qs : State → Prop} {Q : Mem → Prop} {K206 : Int32 → Mem → Prop} (C : MC D T p m c cX6_maps 6 s args) (hQ : mExv p l e rX6_maps s m args below meth c cX6_maps D T ad A H0 Qs Q) (hK206 : ∀ (v1 : Int32) (M : Mem) (H : Heap) (locs : List Loc) (ls : Array Slot), K206 v1 M → MI D T ad A H0 M H locs → lv_has ls 6 [(0, .ref (ad 0)), (1, .int v1)] → W p l e rX6_maps s m args below meth c H locs 0 0 Qs (F0 m 206 ls [])) (v1 : Int32) (M : Mem) (H : Heap) (locs : List Loc) (ls : Array Slot) (h : w6_maps_b206_f Q K206 v1 M) (I : MI D T ad A H0 M H locs) (hl : lv_has ls 6 [(0, .ref (ad 0)), (1, .int v1)]) : W p l e rX6_maps s m args below meth c H locs 0 0 Qs (F0 m 206 ls []) := by
  have hx := C.1.1
  have hb := C.1.2.1
  have how := C.1.2.2.2.1
  have hts := C.1.2.2.2.2
  unfold w6_maps_b206_f at h
  refine lv_iload_n hx hb dX6_maps_206 rfl (lv_at hl 1 rfl) ?_
  refine lv_bipush (v := 8) hx hb dX6_maps_207 (by decide) ?_
  refine lv_icmp_ge (tgt := 276) hx hb dX6_maps_209 (by decide) (fun c => ?_) (fun c => ?_)
  · have h := h.1 c
    exact hQ _ _ _ _ _ h I dX6_maps_276
  · have h := h.2 c
    refine lv_iconst (v := 0) hx hb dX6_maps_212 (by decide) ?_
    refine lv_istore_n (lv' := [(2, .int 0), (0, .ref (ad 0)), (1, .int v1)]) hx hb dX6_maps_213 rfl hl (by decide) rfl (fun ls hl => ?_)
    obtain ⟨n, h⟩ := h
    exact t6_maps_b214 C hQ hK206 n v1 0 M _ _ _ h I (lv_sub hl [1, 2, 0] rfl)
theorem t6_maps_b206 {p : Program} {l : Launch} {e : Env} {s : State} {m : MethodId} {args : Array Value} {below : List Frame} {meth : Method} {c : Code} {D : va_G} {T ad : Nat → Nat} {A : Nat → Prop} {H0 : Heap} {Qs : State → Prop} {Q : Mem → Prop}  (C : MC D T p m c cX6_maps 6 s args) (hQ : mExv p l e rX6_maps s m args below meth c cX6_maps D T ad A H0 Qs Q)  : ∀ (n : Nat) (v1 : Int32) (M : Mem) (H : Heap) (locs : List Loc) (ls : Array Slot), w6_maps_b206 Q n v1 M → MI D T ad A H0 M H locs → lv_has ls 6 [(0, .ref (ad 0)), (1, .int v1)] → W p l e rX6_maps s m args below meth c H locs 0 0 Qs (F0 m 206 ls []) := by
  intro n
  induction n with
  | zero => intro v1 M H locs ls h; exact h.elim
  | succ n ih => intro v1 M H locs ls h I hl; exact t6_maps_b206_f C hQ  ih v1 M H locs ls h I hl
theorem t6_maps_b197 {p : Program} {l : Launch} {e : Env} {s : State} {m : MethodId} {args : Array Value} {below : List Frame} {meth : Method} {c : Code} {D : va_G} {T ad : Nat → Nat} {A : Nat → Prop} {H0 : Heap} {Qs : State → Prop} {Q : Mem → Prop} {K165 : Int32 → Mem → Prop} (C : MC D T p m c cX6_maps 6 s args) (hQ : mExv p l e rX6_maps s m args below meth c cX6_maps D T ad A H0 Qs Q) (hK165 : ∀ (v1 : Int32) (M : Mem) (H : Heap) (locs : List Loc) (ls : Array Slot), K165 v1 M → MI D T ad A H0 M H locs → lv_has ls 6 [(0, .ref (ad 0)), (1, .int v1)] → W p l e rX6_maps s m args below meth c H locs 0 0 Qs (F0 m 165 ls [])) (v1 : Int32) (s1 : Int32) (s2 : Int32) (M : Mem) (H : Heap) (locs : List Loc) (ls : Array Slot) (h : w6_maps_b197 Q K165 v1 s1 s2 M) (I : MI D T ad A H0 M H locs) (hl : lv_has ls 6 [(0, .ref (ad 0)), (1, .int v1)]) : W p l e rX6_maps s m args below meth c H locs 0 0 Qs (F0 m 197 ls [.int s2, .int s1, .ref (ad 17)]) := by
  have hx := C.1.1
  have hb := C.1.2.1
  have how := C.1.2.2.2.1
  have hts := C.1.2.2.2.2
  unfold w6_maps_b197 at h
  obtain ⟨hg6, h⟩ := h
  refine m_iast C I 17 64 rfl (by decide) hg6 dX6_maps_197 (fun M7 H locs eM7 I => ?_)
  have h := h M7 eM7
  refine lv_iinc (v := (v1 + 1)) (lv' := [(1, .int (v1 + 1)), (0, .ref (ad 0))]) hx hb dX6_maps_198 hl (k := 1) rfl (ii_1 _) (by decide) rfl (fun ls hl => ?_)
  refine lv_goto (tgt := 165) hx hb dX6_maps_201 (by decide) ?_
  exact hK165 (v1 + 1) M7 _ _ _ h I (lv_sub hl [1, 0] rfl)
theorem t6_maps_b165_f {p : Program} {l : Launch} {e : Env} {s : State} {m : MethodId} {args : Array Value} {below : List Frame} {meth : Method} {c : Code} {D : va_G} {T ad : Nat → Nat} {A : Nat → Prop} {H0 : Heap} {Qs : State → Prop} {Q : Mem → Prop} {K165 : Int32 → Mem → Prop} (C : MC D T p m c cX6_maps 6 s args) (hQ : mExv p l e rX6_maps s m args below meth c cX6_maps D T ad A H0 Qs Q) (hK165 : ∀ (v1 : Int32) (M : Mem) (H : Heap) (locs : List Loc) (ls : Array Slot), K165 v1 M → MI D T ad A H0 M H locs → lv_has ls 6 [(0, .ref (ad 0)), (1, .int v1)] → W p l e rX6_maps s m args below meth c H locs 0 0 Qs (F0 m 165 ls [])) (v1 : Int32) (M : Mem) (H : Heap) (locs : List Loc) (ls : Array Slot) (h : w6_maps_b165_f Q K165 v1 M) (I : MI D T ad A H0 M H locs) (hl : lv_has ls 6 [(0, .ref (ad 0)), (1, .int v1)]) : W p l e rX6_maps s m args below meth c H locs 0 0 Qs (F0 m 165 ls []) := by
  have hx := C.1.1
  have hb := C.1.2.1
  have how := C.1.2.2.2.1
  have hts := C.1.2.2.2.2
  unfold w6_maps_b165_f at h
  refine lv_iload_n hx hb dX6_maps_165 rfl (lv_at hl 1 rfl) ?_
  refine lv_bipush (v := 64) hx hb dX6_maps_166 (by decide) ?_
  refine lv_icmp_ge (tgt := 204) hx hb dX6_maps_168 (by decide) (fun c => ?_) (fun c => ?_)
  · have h := h.1 c
    refine lv_iconst (v := 0) hx hb dX6_maps_204 (by decide) ?_
    refine lv_istore_n (lv' := [(1, .int 0), (0, .ref (ad 0))]) hx hb dX6_maps_205 rfl hl (by decide) rfl (fun ls hl => ?_)
    obtain ⟨n, h⟩ := h
    exact t6_maps_b206 C hQ n 0 M _ _ _ h I (lv_sub hl [1, 0] rfl)
  · have h := h.2 c
    refine lv_aload_n hx hb dX6_maps_171 rfl (lv_at hl 0 rfl) ?_
    refine mg_far C I dX6_maps_172 ?_
    refine lv_iload_n hx hb dX6_maps_175 rfl (lv_at hl 1 rfl) ?_
    refine lv_iload_n hx hb dX6_maps_176 rfl (lv_at hl 1 rfl) ?_
    refine lv_bipush (v := 8) hx hb dX6_maps_177 (by decide) ?_
    refine lv_idiv hx hb dX6_maps_179 (by decide) ?_
    refine lv_iload_n hx hb dX6_maps_180 rfl (lv_at hl 1 rfl) ?_
    refine lv_bipush (v := 8) hx hb dX6_maps_181 (by decide) ?_
    refine lv_irem hx hb dX6_maps_183 (by decide) ?_
    refine lv_icmp_ne (tgt := 191) hx hb dX6_maps_184 (by decide) (fun c => ?_) (fun c => ?_)
    · have h := h.2 c
      refine lv_aload_n hx hb dX6_maps_191 rfl (lv_at hl 0 rfl) ?_
      refine mg_step C I dX6_maps_192 ?_
      refine lv_iload_n hx hb dX6_maps_195 rfl (lv_at hl 1 rfl) ?_
      obtain ⟨hg8, h⟩ := h
      refine m_iald C I 16 64 rfl (by decide) hg8 dX6_maps_196 ?_
      exact t6_maps_b197 C hQ hK165 v1 v1 (M 16 (ci v1)) M _ _ _ h I (lv_sub hl [0, 1] rfl)
    · have h := h.1 c
      refine lv_iconst (v := 0) hx hb dX6_maps_187 (by decide) ?_
      refine lv_goto (tgt := 197) hx hb dX6_maps_188 (by decide) ?_
      exact t6_maps_b197 C hQ hK165 v1 v1 0 M _ _ _ h I (lv_sub hl [0, 1] rfl)
theorem t6_maps_b165 {p : Program} {l : Launch} {e : Env} {s : State} {m : MethodId} {args : Array Value} {below : List Frame} {meth : Method} {c : Code} {D : va_G} {T ad : Nat → Nat} {A : Nat → Prop} {H0 : Heap} {Qs : State → Prop} {Q : Mem → Prop}  (C : MC D T p m c cX6_maps 6 s args) (hQ : mExv p l e rX6_maps s m args below meth c cX6_maps D T ad A H0 Qs Q)  : ∀ (n : Nat) (v1 : Int32) (M : Mem) (H : Heap) (locs : List Loc) (ls : Array Slot), w6_maps_b165 Q n v1 M → MI D T ad A H0 M H locs → lv_has ls 6 [(0, .ref (ad 0)), (1, .int v1)] → W p l e rX6_maps s m args below meth c H locs 0 0 Qs (F0 m 165 ls []) := by
  intro n
  induction n with
  | zero => intro v1 M H locs ls h; exact h.elim
  | succ n ih => intro v1 M H locs ls h I hl; exact t6_maps_b165_f C hQ  ih v1 M H locs ls h I hl
theorem t6_maps_b25_f {p : Program} {l : Launch} {e : Env} {s : State} {m : MethodId} {args : Array Value} {below : List Frame} {meth : Method} {c : Code} {D : va_G} {T ad : Nat → Nat} {A : Nat → Prop} {H0 : Heap} {Qs : State → Prop} {Q : Mem → Prop} {K25 : Int32 → Mem → Prop} (C : MC D T p m c cX6_maps 6 s args) (hQ : mExv p l e rX6_maps s m args below meth c cX6_maps D T ad A H0 Qs Q) (hK25 : ∀ (v1 : Int32) (M : Mem) (H : Heap) (locs : List Loc) (ls : Array Slot), K25 v1 M → MI D T ad A H0 M H locs → lv_has ls 6 [(0, .ref (ad 0)), (1, .int v1)] → W p l e rX6_maps s m args below meth c H locs 0 0 Qs (F0 m 25 ls [])) (v1 : Int32) (M : Mem) (H : Heap) (locs : List Loc) (ls : Array Slot) (h : w6_maps_b25_f Q K25 v1 M) (I : MI D T ad A H0 M H locs) (hl : lv_has ls 6 [(0, .ref (ad 0)), (1, .int v1)]) : W p l e rX6_maps s m args below meth c H locs 0 0 Qs (F0 m 25 ls []) := by
  have hx := C.1.1
  have hb := C.1.2.1
  have how := C.1.2.2.2.1
  have hts := C.1.2.2.2.2
  unfold w6_maps_b25_f at h
  refine lv_iload_n hx hb dX6_maps_25 rfl (lv_at hl 1 rfl) ?_
  refine lv_aload_n hx hb dX6_maps_26 rfl (lv_at hl 0 rfl) ?_
  refine mg_ways C I dX6_maps_27 ?_
  refine lv_icmp_ge (tgt := 163) hx hb dX6_maps_30 (by decide) (fun c => ?_) (fun c => ?_)
  · have h := h.1 c
    refine lv_iconst (v := 0) hx hb dX6_maps_163 (by decide) ?_
    refine lv_istore_n (lv' := [(1, .int 0), (0, .ref (ad 0))]) hx hb dX6_maps_164 rfl hl (by decide) rfl (fun ls hl => ?_)
    obtain ⟨n, h⟩ := h
    exact t6_maps_b165 C hQ n 0 M _ _ _ h I (lv_sub hl [1, 0] rfl)
  · have h := h.2 c
    refine lv_aload_n hx hb dX6_maps_33 rfl (lv_at hl 0 rfl) ?_
    refine mg_way C I dX6_maps_34 ?_
    refine lv_iconst (v := 4) hx hb dX6_maps_37 (by decide) ?_
    refine lv_iload_n hx hb dX6_maps_38 rfl (lv_at hl 1 rfl) ?_
    refine lv_imul hx hb dX6_maps_39 ?_
    obtain ⟨hg9, h⟩ := h
    refine m_iald C I 9 40 rfl (by decide) hg9 dX6_maps_40 ?_
    refine lv_istore_n (lv' := [(2, .int (M 9 (ci (4 * v1)))), (0, .ref (ad 0)), (1, .int v1)]) hx hb dX6_maps_41 rfl hl (by decide) rfl (fun ls hl => ?_)
    refine lv_aload_n hx hb dX6_maps_42 rfl (lv_at hl 1 rfl) ?_
    refine mg_way C I dX6_maps_43 ?_
    refine lv_iconst (v := 4) hx hb dX6_maps_46 (by decide) ?_
    refine lv_iload_n hx hb dX6_maps_47 rfl (lv_at hl 2 rfl) ?_
    refine lv_imul hx hb dX6_maps_48 ?_
    refine lv_iconst (v := 1) hx hb dX6_maps_49 (by decide) ?_
    refine lv_iadd hx hb dX6_maps_50 ?_
    obtain ⟨hg10, h⟩ := h
    refine m_iald C I 9 40 rfl (by decide) hg10 dX6_maps_51 ?_
    refine lv_topi (fun x11 ex11 => ?_)
    have h := h x11 ex11
    refine lv_istore_n (lv' := [(3, .int x11), (2, .int (M 9 (ci (4 * v1)))), (0, .ref (ad 0)), (1, .int v1)]) hx hb dX6_maps_52 rfl hl (by decide) rfl (fun ls hl => ?_)
    refine lv_aload_n hx hb dX6_maps_53 rfl (lv_at hl 2 rfl) ?_
    refine mg_way C I dX6_maps_54 ?_
    refine lv_iconst (v := 4) hx hb dX6_maps_57 (by decide) ?_
    refine lv_iload_n hx hb dX6_maps_58 rfl (lv_at hl 3 rfl) ?_
    refine lv_imul hx hb dX6_maps_59 ?_
    refine lv_iconst (v := 2) hx hb dX6_maps_60 (by decide) ?_
    refine lv_iadd hx hb dX6_maps_61 ?_
    obtain ⟨hg12, h⟩ := h
    refine m_iald C I 9 40 rfl (by decide) hg12 dX6_maps_62 ?_
    refine lv_iconst (v := 3) hx hb dX6_maps_63 (by decide) ?_
    refine lv_aload_n hx hb dX6_maps_64 rfl (lv_at hl 2 rfl) ?_
    refine mg_way C I dX6_maps_65 ?_
    refine lv_iconst (v := 4) hx hb dX6_maps_68 (by decide) ?_
    refine lv_iload_n hx hb dX6_maps_69 rfl (lv_at hl 3 rfl) ?_
    refine lv_imul hx hb dX6_maps_70 ?_
    refine lv_iconst (v := 3) hx hb dX6_maps_71 (by decide) ?_
    refine lv_iadd hx hb dX6_maps_72 ?_
    obtain ⟨hg13, h⟩ := h
    refine m_iald C I 9 40 rfl (by decide) hg13 dX6_maps_73 ?_
    refine lv_isub hx hb dX6_maps_74 ?_
    refine lv_imul hx hb dX6_maps_75 ?_
    refine lv_topi (fun x14 ex14 => ?_)
    have h := h x14 ex14
    refine lv_istore (lv' := [(4, .int x14), (3, .int x11), (2, .int (M 9 (ci (4 * v1)))), (0, .ref (ad 0)), (1, .int v1)]) hx hb dX6_maps_76 hl (by decide) rfl (fun ls hl => ?_)
    refine lv_aload_n hx hb dX6_maps_78 rfl (lv_at hl 3 rfl) ?_
    refine mg_way C I dX6_maps_79 ?_
    refine lv_iconst (v := 4) hx hb dX6_maps_82 (by decide) ?_
    refine lv_iload_n hx hb dX6_maps_83 rfl (lv_at hl 4 rfl) ?_
    refine lv_imul hx hb dX6_maps_84 ?_
    refine lv_iconst (v := 2) hx hb dX6_maps_85 (by decide) ?_
    refine lv_iadd hx hb dX6_maps_86 ?_
    refine m_iald C I 9 40 rfl (by decide) hg12 dX6_maps_87 ?_
    refine lv_iconst (v := 1) hx hb dX6_maps_88 (by decide) ?_
    refine lv_aload_n hx hb dX6_maps_89 rfl (lv_at hl 3 rfl) ?_
    refine mg_way C I dX6_maps_90 ?_
    refine lv_iconst (v := 4) hx hb dX6_maps_93 (by decide) ?_
    refine lv_iload_n hx hb dX6_maps_94 rfl (lv_at hl 4 rfl) ?_
    refine lv_imul hx hb dX6_maps_95 ?_
    refine lv_iconst (v := 3) hx hb dX6_maps_96 (by decide) ?_
    refine lv_iadd hx hb dX6_maps_97 ?_
    refine m_iald C I 9 40 rfl (by decide) hg13 dX6_maps_98 ?_
    refine lv_iadd hx hb dX6_maps_99 ?_
    refine lv_imul hx hb dX6_maps_100 ?_
    refine lv_topi (fun x15 ex15 => ?_)
    have h := h x15 ex15
    refine lv_istore (lv' := [(5, .int x15), (4, .int x14), (3, .int x11), (2, .int (M 9 (ci (4 * v1)))), (0, .ref (ad 0)), (1, .int v1)]) hx hb dX6_maps_101 hl (by decide) rfl (fun ls hl => ?_)
    refine lv_aload_n hx hb dX6_maps_103 rfl (lv_at hl 4 rfl) ?_
    refine mg_step C I dX6_maps_104 ?_
    refine lv_bipush (v := 8) hx hb dX6_maps_107 (by decide) ?_
    refine lv_iload_n hx hb dX6_maps_109 rfl (lv_at hl 3 rfl) ?_
    refine lv_imul hx hb dX6_maps_110 ?_
    refine lv_iload_n hx hb dX6_maps_111 rfl (lv_at hl 2 rfl) ?_
    refine lv_iadd hx hb dX6_maps_112 ?_
    refine lv_iload hx hb dX6_maps_113 (lv_at hl 1 rfl) ?_
    refine lv_aload_n hx hb dX6_maps_115 rfl (lv_at hl 4 rfl) ?_
    refine mg_step C I dX6_maps_116 ?_
    refine lv_bipush (v := 8) hx hb dX6_maps_119 (by decide) ?_
    refine lv_iload_n hx hb dX6_maps_121 rfl (lv_at hl 3 rfl) ?_
    refine lv_imul hx hb dX6_maps_122 ?_
    refine lv_iload_n hx hb dX6_maps_123 rfl (lv_at hl 2 rfl) ?_
    refine lv_iadd hx hb dX6_maps_124 ?_
    obtain ⟨hg16, h⟩ := h
    refine m_iald C I 16 64 rfl (by decide) hg16 dX6_maps_125 ?_
    refine m_purei (As := [.int x14, .int (M 16 (ci ((8 * (M 9 (ci (4 * v1)))) + x11)))]) (rest := [.int ((8 * (M 9 (ci (4 * v1)))) + x11), .ref (ad 16)]) C I (met6_lesser l x14 (M 16 (ci ((8 * (M 9 (ci (4 * v1)))) + x11))) h) (cw6_171 hts ⟨Nat.le_of_ble_eq_true rfl, Nat.le_of_ble_eq_true rfl⟩) rfl hl.1 rfl (Nat.le_of_ble_eq_true rfl) ⟨Nat.zero_le _, Nat.zero_le _⟩ dX6_maps_126 (fun r17 H locs h I => ?_)
    refine m_iast C I 16 64 rfl (by decide) hg16 dX6_maps_129 (fun M18 H locs eM18 I => ?_)
    have h := h M18 eM18
    refine lv_aload_n hx hb dX6_maps_130 rfl (lv_at hl 4 rfl) ?_
    refine mg_step C I dX6_maps_131 ?_
    refine lv_bipush (v := 8) hx hb dX6_maps_134 (by decide) ?_
    refine lv_iload_n hx hb dX6_maps_136 rfl (lv_at hl 2 rfl) ?_
    refine lv_imul hx hb dX6_maps_137 ?_
    refine lv_iload_n hx hb dX6_maps_138 rfl (lv_at hl 3 rfl) ?_
    refine lv_iadd hx hb dX6_maps_139 ?_
    refine lv_iload hx hb dX6_maps_140 (lv_at hl 0 rfl) ?_
    refine lv_aload_n hx hb dX6_maps_142 rfl (lv_at hl 4 rfl) ?_
    refine mg_step C I dX6_maps_143 ?_
    refine lv_bipush (v := 8) hx hb dX6_maps_146 (by decide) ?_
    refine lv_iload_n hx hb dX6_maps_148 rfl (lv_at hl 2 rfl) ?_
    refine lv_imul hx hb dX6_maps_149 ?_
    refine lv_iload_n hx hb dX6_maps_150 rfl (lv_at hl 3 rfl) ?_
    refine lv_iadd hx hb dX6_maps_151 ?_
    obtain ⟨hg19, h⟩ := h
    refine m_iald C I 16 64 rfl (by decide) hg19 dX6_maps_152 ?_
    refine m_purei (As := [.int x15, .int (M18 16 (ci ((8 * x11) + (M 9 (ci (4 * v1))))))]) (rest := [.int ((8 * x11) + (M 9 (ci (4 * v1)))), .ref (ad 16)]) C I (met6_lesser l x15 (M18 16 (ci ((8 * x11) + (M 9 (ci (4 * v1)))))) h) (cw6_171 hts ⟨Nat.le_of_ble_eq_true rfl, Nat.le_of_ble_eq_true rfl⟩) rfl hl.1 rfl (Nat.le_of_ble_eq_true rfl) ⟨Nat.zero_le _, Nat.zero_le _⟩ dX6_maps_153 (fun r20 H locs h I => ?_)
    refine m_iast C I 16 64 rfl (by decide) hg19 dX6_maps_156 (fun M21 H locs eM21 I => ?_)
    have h := h M21 eM21
    refine lv_iinc (v := (v1 + 1)) (lv' := [(1, .int (v1 + 1)), (5, .int x15), (4, .int x14), (3, .int x11), (2, .int (M 9 (ci (4 * v1)))), (0, .ref (ad 0))]) hx hb dX6_maps_157 hl (k := 5) rfl (ii_1 _) (by decide) rfl (fun ls hl => ?_)
    refine lv_goto (tgt := 25) hx hb dX6_maps_160 (by decide) ?_
    exact hK25 (v1 + 1) M21 _ _ _ h I (lv_sub hl [5, 0] rfl)
theorem t6_maps_b25 {p : Program} {l : Launch} {e : Env} {s : State} {m : MethodId} {args : Array Value} {below : List Frame} {meth : Method} {c : Code} {D : va_G} {T ad : Nat → Nat} {A : Nat → Prop} {H0 : Heap} {Qs : State → Prop} {Q : Mem → Prop}  (C : MC D T p m c cX6_maps 6 s args) (hQ : mExv p l e rX6_maps s m args below meth c cX6_maps D T ad A H0 Qs Q)  : ∀ (n : Nat) (v1 : Int32) (M : Mem) (H : Heap) (locs : List Loc) (ls : Array Slot), w6_maps_b25 Q n v1 M → MI D T ad A H0 M H locs → lv_has ls 6 [(0, .ref (ad 0)), (1, .int v1)] → W p l e rX6_maps s m args below meth c H locs 0 0 Qs (F0 m 25 ls []) := by
  intro n
  induction n with
  | zero => intro v1 M H locs ls h; exact h.elim
  | succ n ih => intro v1 M H locs ls h I hl; exact t6_maps_b25_f C hQ  ih v1 M H locs ls h I hl
theorem t6_maps_b2_f {p : Program} {l : Launch} {e : Env} {s : State} {m : MethodId} {args : Array Value} {below : List Frame} {meth : Method} {c : Code} {D : va_G} {T ad : Nat → Nat} {A : Nat → Prop} {H0 : Heap} {Qs : State → Prop} {Q : Mem → Prop} {K2 : Int32 → Mem → Prop} (C : MC D T p m c cX6_maps 6 s args) (hQ : mExv p l e rX6_maps s m args below meth c cX6_maps D T ad A H0 Qs Q) (hK2 : ∀ (v1 : Int32) (M : Mem) (H : Heap) (locs : List Loc) (ls : Array Slot), K2 v1 M → MI D T ad A H0 M H locs → lv_has ls 6 [(0, .ref (ad 0)), (1, .int v1)] → W p l e rX6_maps s m args below meth c H locs 0 0 Qs (F0 m 2 ls [])) (v1 : Int32) (M : Mem) (H : Heap) (locs : List Loc) (ls : Array Slot) (h : w6_maps_b2_f Q K2 v1 M) (I : MI D T ad A H0 M H locs) (hl : lv_has ls 6 [(0, .ref (ad 0)), (1, .int v1)]) : W p l e rX6_maps s m args below meth c H locs 0 0 Qs (F0 m 2 ls []) := by
  have hx := C.1.1
  have hb := C.1.2.1
  have how := C.1.2.2.2.1
  have hts := C.1.2.2.2.2
  unfold w6_maps_b2_f at h
  refine lv_iload_n hx hb dX6_maps_2 rfl (lv_at hl 1 rfl) ?_
  refine lv_bipush (v := 64) hx hb dX6_maps_3 (by decide) ?_
  refine lv_icmp_ge (tgt := 23) hx hb dX6_maps_5 (by decide) (fun c => ?_) (fun c => ?_)
  · have h := h.1 c
    refine lv_iconst (v := 0) hx hb dX6_maps_23 (by decide) ?_
    refine lv_istore_n (lv' := [(1, .int 0), (0, .ref (ad 0))]) hx hb dX6_maps_24 rfl hl (by decide) rfl (fun ls hl => ?_)
    obtain ⟨n, h⟩ := h
    exact t6_maps_b25 C hQ n 0 M _ _ _ h I (lv_sub hl [1, 0] rfl)
  · have h := h.2 c
    refine lv_aload_n hx hb dX6_maps_8 rfl (lv_at hl 0 rfl) ?_
    refine mg_step C I dX6_maps_9 ?_
    refine lv_iload_n hx hb dX6_maps_12 rfl (lv_at hl 1 rfl) ?_
    refine lv_sipush (v := 9999) hx hb dX6_maps_13 (by decide) ?_
    obtain ⟨hg22, h⟩ := h
    refine m_iast C I 16 64 rfl (by decide) hg22 dX6_maps_16 (fun M23 H locs eM23 I => ?_)
    have h := h M23 eM23
    refine lv_iinc (v := (v1 + 1)) (lv' := [(1, .int (v1 + 1)), (0, .ref (ad 0))]) hx hb dX6_maps_17 hl (k := 1) rfl (ii_1 _) (by decide) rfl (fun ls hl => ?_)
    refine lv_goto (tgt := 2) hx hb dX6_maps_20 (by decide) ?_
    exact hK2 (v1 + 1) M23 _ _ _ h I (lv_sub hl [1, 0] rfl)
theorem t6_maps_b2 {p : Program} {l : Launch} {e : Env} {s : State} {m : MethodId} {args : Array Value} {below : List Frame} {meth : Method} {c : Code} {D : va_G} {T ad : Nat → Nat} {A : Nat → Prop} {H0 : Heap} {Qs : State → Prop} {Q : Mem → Prop}  (C : MC D T p m c cX6_maps 6 s args) (hQ : mExv p l e rX6_maps s m args below meth c cX6_maps D T ad A H0 Qs Q)  : ∀ (n : Nat) (v1 : Int32) (M : Mem) (H : Heap) (locs : List Loc) (ls : Array Slot), w6_maps_b2 Q n v1 M → MI D T ad A H0 M H locs → lv_has ls 6 [(0, .ref (ad 0)), (1, .int v1)] → W p l e rX6_maps s m args below meth c H locs 0 0 Qs (F0 m 2 ls []) := by
  intro n
  induction n with
  | zero => intro v1 M H locs ls h; exact h.elim
  | succ n ih => intro v1 M H locs ls h I hl; exact t6_maps_b2_f C hQ  ih v1 M H locs ls h I hl
theorem t6_maps {p : Program} {l : Launch} {e : Env} {s : State} {m : MethodId} {args : Array Value} {below : List Frame} {meth : Method} {c : Code} {D : va_G} {T ad : Nat → Nat} {A : Nat → Prop} {H0 : Heap} {Qs : State → Prop} {Q : Mem → Prop} (C : MC D T p m c cX6_maps 6 s args) (hQ : mExv p l e rX6_maps s m args below meth c cX6_maps D T ad A H0 Qs Q)  (M : Mem) (H : Heap) (locs : List Loc) (ls : Array Slot) (h : w6_maps M Q) (I : MI D T ad A H0 M H locs) (hl : lv_has ls 6 [(0, .ref (ad 0))]) : W p l e rX6_maps s m args below meth c H locs 0 0 Qs (F0 m 0 ls []) := by
  have hx := C.1.1
  have hb := C.1.2.1
  have how := C.1.2.2.2.1
  have hts := C.1.2.2.2.2
  unfold w6_maps at h
  refine lv_iconst (v := 0) hx hb dX6_maps_0 (by decide) ?_
  refine lv_istore_n (lv' := [(1, .int 0), (0, .ref (ad 0))]) hx hb dX6_maps_1 rfl hl (by decide) rfl (fun ls hl => ?_)
  obtain ⟨n, h⟩ := h
  exact t6_maps_b2 C hQ n 0 M _ _ _ h I (lv_sub hl [1, 0] rfl)
theorem met6_maps (l : Launch) (D : va_G) (T ad : Nat → Nat)  (M : Mem) {Qp : Mem → Prop} (h : w6_maps M Qp) (sz : Nat) : Met l yX6_maps (ws_ yX6_maps cX6_maps 6 none) rX6_maps (mPc D T ad [] M sz) (mQv D T ad M Qp sz) 0 0 (fA (cM T ad M) sz) :=
  m_metV (As := []) rfl rfl (Nat.le_of_ble_eq_true rfl) (fun p e s m args below meth c A Qs ls C hQ I hl => t6_maps C hQ M _ _ ls h I hl) sz
/-! gathers -/
abbrev rX6_gathers : Room := { frames := 0, cells := 0, slots := 0, locals := 0 }
theorem t6_gathers_b167 {p : Program} {l : Launch} {e : Env} {s : State} {m : MethodId} {args : Array Value} {below : List Frame} {meth : Method} {c : Code} {D : va_G} {T ad : Nat → Nat} {A : Nat → Prop} {H0 : Heap} {Qs : State → Prop} {Q : Mem → Prop} {K102 : Int32 → Int32 → Mem → Prop} (C : MC D T p m c cX6_gathers 4 s args) (hQ : mExv p l e rX6_gathers s m args below meth c cX6_gathers D T ad A H0 Qs Q) (hK102 : ∀ (v1 : Int32) (v2 : Int32) (M : Mem) (H : Heap) (locs : List Loc) (ls : Array Slot), K102 v1 v2 M → MI D T ad A H0 M H locs → lv_has ls 4 [(0, .ref (ad 0)), (1, .int v1), (2, .int v2)] → W p l e rX6_gathers s m args below meth c H locs 0 0 Qs (F0 m 102 ls [])) (v1 : Int32) (v2 : Int32) (s1 : Int32) (M : Mem) (H : Heap) (locs : List Loc) (ls : Array Slot) (h : w6_gathers_b167 Q K102 v1 v2 s1 M) (I : MI D T ad A H0 M H locs) (hl : lv_has ls 4 [(0, .ref (ad 0)), (1, .int v1), (2, .int v2)]) : W p l e rX6_gathers s m args below meth c H locs 0 0 Qs (F0 m 167 ls [.int s1, .ref (ad 0)]) := by
  have hx := C.1.1
  have hb := C.1.2.1
  have how := C.1.2.2.2.1
  have hts := C.1.2.2.2.2
  unfold w6_gathers_b167 at h
  refine mp_metAt C I dX6_gathers_167 (fun M1 H locs eM1 I => ?_)
  have h := h M1 eM1
  refine lv_iinc (v := (v2 + (-1))) (lv' := [(2, .int (v2 + (-1))), (0, .ref (ad 0)), (1, .int v1)]) hx hb dX6_gathers_170 hl (k := 2) rfl (ii_m1 _) (by decide) rfl (fun ls hl => ?_)
  refine lv_goto (tgt := 102) hx hb dX6_gathers_173 (by decide) ?_
  exact hK102 v1 (v2 + (-1)) M1 _ _ _ h I (lv_sub hl [1, 2, 0] rfl)
theorem t6_gathers_b151 {p : Program} {l : Launch} {e : Env} {s : State} {m : MethodId} {args : Array Value} {below : List Frame} {meth : Method} {c : Code} {D : va_G} {T ad : Nat → Nat} {A : Nat → Prop} {H0 : Heap} {Qs : State → Prop} {Q : Mem → Prop} {K102 : Int32 → Int32 → Mem → Prop} (C : MC D T p m c cX6_gathers 4 s args) (hQ : mExv p l e rX6_gathers s m args below meth c cX6_gathers D T ad A H0 Qs Q) (hK102 : ∀ (v1 : Int32) (v2 : Int32) (M : Mem) (H : Heap) (locs : List Loc) (ls : Array Slot), K102 v1 v2 M → MI D T ad A H0 M H locs → lv_has ls 4 [(0, .ref (ad 0)), (1, .int v1), (2, .int v2)] → W p l e rX6_gathers s m args below meth c H locs 0 0 Qs (F0 m 102 ls [])) (v1 : Int32) (v2 : Int32) (v3 : Int32) (s1 : Int32) (M : Mem) (H : Heap) (locs : List Loc) (ls : Array Slot) (h : w6_gathers_b151 Q K102 v1 v2 v3 s1 M) (I : MI D T ad A H0 M H locs) (hl : lv_has ls 4 [(0, .ref (ad 0)), (1, .int v1), (2, .int v2), (3, .int v3)]) : W p l e rX6_gathers s m args below meth c H locs 0 0 Qs (F0 m 151 ls [.int s1, .ref (ad 0)]) := by
  have hx := C.1.1
  have hb := C.1.2.1
  have how := C.1.2.2.2.1
  have hts := C.1.2.2.2.2
  unfold w6_gathers_b151 at h
  refine mp_metOn C I dX6_gathers_151 (fun M2 H locs eM2 I => ?_)
  have h := h M2 eM2
  refine lv_aload_n hx hb dX6_gathers_154 rfl (lv_at hl 0 rfl) ?_
  refine lv_iload_n hx hb dX6_gathers_155 rfl (lv_at hl 3 rfl) ?_
  refine lv_if_eq (tgt := 163) hx hb dX6_gathers_156 (by decide) (fun c => ?_) (fun c => ?_)
  · have h := h.1 c
    refine lv_aload_n hx hb dX6_gathers_163 rfl (lv_at hl 0 rfl) ?_
    refine mg_metAt C I dX6_gathers_164 ?_
    exact t6_gathers_b167 C hQ hK102 v1 v2 (M2 0 27) M2 _ _ _ h I (lv_sub hl [0, 1, 2] rfl)
  · have h := h.2 c
    refine lv_iload_n hx hb dX6_gathers_159 rfl (lv_at hl 2 rfl) ?_
    refine lv_goto (tgt := 167) hx hb dX6_gathers_160 (by decide) ?_
    exact t6_gathers_b167 C hQ hK102 v1 v2 v2 M2 _ _ _ h I (lv_sub hl [0, 1, 2] rfl)
theorem t6_gathers_b137 {p : Program} {l : Launch} {e : Env} {s : State} {m : MethodId} {args : Array Value} {below : List Frame} {meth : Method} {c : Code} {D : va_G} {T ad : Nat → Nat} {A : Nat → Prop} {H0 : Heap} {Qs : State → Prop} {Q : Mem → Prop} {K102 : Int32 → Int32 → Mem → Prop} (C : MC D T p m c cX6_gathers 4 s args) (hQ : mExv p l e rX6_gathers s m args below meth c cX6_gathers D T ad A H0 Qs Q) (hK102 : ∀ (v1 : Int32) (v2 : Int32) (M : Mem) (H : Heap) (locs : List Loc) (ls : Array Slot), K102 v1 v2 M → MI D T ad A H0 M H locs → lv_has ls 4 [(0, .ref (ad 0)), (1, .int v1), (2, .int v2)] → W p l e rX6_gathers s m args below meth c H locs 0 0 Qs (F0 m 102 ls [])) (v1 : Int32) (v2 : Int32) (s0 : Int32) (M : Mem) (H : Heap) (locs : List Loc) (ls : Array Slot) (h : w6_gathers_b137 Q K102 v1 v2 s0 M) (I : MI D T ad A H0 M H locs) (hl : lv_has ls 4 [(0, .ref (ad 0)), (1, .int v1), (2, .int v2)]) : W p l e rX6_gathers s m args below meth c H locs 0 0 Qs (F0 m 137 ls [.int s0]) := by
  have hx := C.1.1
  have hb := C.1.2.1
  have how := C.1.2.2.2.1
  have hts := C.1.2.2.2.2
  unfold w6_gathers_b137 at h
  refine lv_istore_n (lv' := [(3, .int s0), (0, .ref (ad 0)), (1, .int v1), (2, .int v2)]) hx hb dX6_gathers_137 rfl hl (by decide) rfl (fun ls hl => ?_)
  refine lv_aload_n hx hb dX6_gathers_138 rfl (lv_at hl 1 rfl) ?_
  refine lv_iload_n hx hb dX6_gathers_139 rfl (lv_at hl 0 rfl) ?_
  refine lv_if_eq (tgt := 147) hx hb dX6_gathers_140 (by decide) (fun c => ?_) (fun c => ?_)
  · have h := h.1 c
    refine lv_aload_n hx hb dX6_gathers_147 rfl (lv_at hl 1 rfl) ?_
    refine mg_metOn C I dX6_gathers_148 ?_
    exact t6_gathers_b151 C hQ hK102 v1 v2 s0 (M 0 26) M _ _ _ h I (lv_sub hl [1, 2, 3, 0] rfl)
  · have h := h.2 c
    refine lv_iload_n hx hb dX6_gathers_143 rfl (lv_at hl 2 rfl) ?_
    refine lv_goto (tgt := 151) hx hb dX6_gathers_144 (by decide) ?_
    exact t6_gathers_b151 C hQ hK102 v1 v2 s0 v1 M _ _ _ h I (lv_sub hl [1, 2, 3, 0] rfl)
theorem t6_gathers_b136 {p : Program} {l : Launch} {e : Env} {s : State} {m : MethodId} {args : Array Value} {below : List Frame} {meth : Method} {c : Code} {D : va_G} {T ad : Nat → Nat} {A : Nat → Prop} {H0 : Heap} {Qs : State → Prop} {Q : Mem → Prop} {K102 : Int32 → Int32 → Mem → Prop} (C : MC D T p m c cX6_gathers 4 s args) (hQ : mExv p l e rX6_gathers s m args below meth c cX6_gathers D T ad A H0 Qs Q) (hK102 : ∀ (v1 : Int32) (v2 : Int32) (M : Mem) (H : Heap) (locs : List Loc) (ls : Array Slot), K102 v1 v2 M → MI D T ad A H0 M H locs → lv_has ls 4 [(0, .ref (ad 0)), (1, .int v1), (2, .int v2)] → W p l e rX6_gathers s m args below meth c H locs 0 0 Qs (F0 m 102 ls [])) (v1 : Int32) (v2 : Int32) (M : Mem) (H : Heap) (locs : List Loc) (ls : Array Slot) (h : w6_gathers_b136 Q K102 v1 v2 M) (I : MI D T ad A H0 M H locs) (hl : lv_has ls 4 [(0, .ref (ad 0)), (1, .int v1), (2, .int v2)]) : W p l e rX6_gathers s m args below meth c H locs 0 0 Qs (F0 m 136 ls []) := by
  have hx := C.1.1
  have hb := C.1.2.1
  have how := C.1.2.2.2.1
  have hts := C.1.2.2.2.2
  unfold w6_gathers_b136 at h
  refine lv_iconst (v := 0) hx hb dX6_gathers_136 (by decide) ?_
  exact t6_gathers_b137 C hQ hK102 v1 v2 0 M _ _ _ h I (lv_sub hl [0, 1, 2] rfl)
theorem t6_gathers_b132 {p : Program} {l : Launch} {e : Env} {s : State} {m : MethodId} {args : Array Value} {below : List Frame} {meth : Method} {c : Code} {D : va_G} {T ad : Nat → Nat} {A : Nat → Prop} {H0 : Heap} {Qs : State → Prop} {Q : Mem → Prop} {K102 : Int32 → Int32 → Mem → Prop} (C : MC D T p m c cX6_gathers 4 s args) (hQ : mExv p l e rX6_gathers s m args below meth c cX6_gathers D T ad A H0 Qs Q) (hK102 : ∀ (v1 : Int32) (v2 : Int32) (M : Mem) (H : Heap) (locs : List Loc) (ls : Array Slot), K102 v1 v2 M → MI D T ad A H0 M H locs → lv_has ls 4 [(0, .ref (ad 0)), (1, .int v1), (2, .int v2)] → W p l e rX6_gathers s m args below meth c H locs 0 0 Qs (F0 m 102 ls [])) (v1 : Int32) (v2 : Int32) (M : Mem) (H : Heap) (locs : List Loc) (ls : Array Slot) (h : w6_gathers_b132 Q K102 v1 v2 M) (I : MI D T ad A H0 M H locs) (hl : lv_has ls 4 [(0, .ref (ad 0)), (1, .int v1), (2, .int v2)]) : W p l e rX6_gathers s m args below meth c H locs 0 0 Qs (F0 m 132 ls []) := by
  have hx := C.1.1
  have hb := C.1.2.1
  have how := C.1.2.2.2.1
  have hts := C.1.2.2.2.2
  unfold w6_gathers_b132 at h
  refine lv_iconst (v := 1) hx hb dX6_gathers_132 (by decide) ?_
  refine lv_goto (tgt := 137) hx hb dX6_gathers_133 (by decide) ?_
  exact t6_gathers_b137 C hQ hK102 v1 v2 1 M _ _ _ h I (lv_sub hl [0, 1, 2] rfl)
theorem t6_gathers_b102_f {p : Program} {l : Launch} {e : Env} {s : State} {m : MethodId} {args : Array Value} {below : List Frame} {meth : Method} {c : Code} {D : va_G} {T ad : Nat → Nat} {A : Nat → Prop} {H0 : Heap} {Qs : State → Prop} {Q : Mem → Prop} {K102 : Int32 → Int32 → Mem → Prop} (C : MC D T p m c cX6_gathers 4 s args) (hQ : mExv p l e rX6_gathers s m args below meth c cX6_gathers D T ad A H0 Qs Q) (hK102 : ∀ (v1 : Int32) (v2 : Int32) (M : Mem) (H : Heap) (locs : List Loc) (ls : Array Slot), K102 v1 v2 M → MI D T ad A H0 M H locs → lv_has ls 4 [(0, .ref (ad 0)), (1, .int v1), (2, .int v2)] → W p l e rX6_gathers s m args below meth c H locs 0 0 Qs (F0 m 102 ls [])) (v1 : Int32) (v2 : Int32) (M : Mem) (H : Heap) (locs : List Loc) (ls : Array Slot) (h : w6_gathers_b102_f Q K102 v1 v2 M) (I : MI D T ad A H0 M H locs) (hl : lv_has ls 4 [(0, .ref (ad 0)), (1, .int v1), (2, .int v2)]) : W p l e rX6_gathers s m args below meth c H locs 0 0 Qs (F0 m 102 ls []) := by
  have hx := C.1.1
  have hb := C.1.2.1
  have how := C.1.2.2.2.1
  have hts := C.1.2.2.2.2
  unfold w6_gathers_b102_f at h
  refine lv_iload_n hx hb dX6_gathers_102 rfl (lv_at hl 2 rfl) ?_
  refine lv_if_lt (tgt := 176) hx hb dX6_gathers_103 (by decide) (fun c => ?_) (fun c => ?_)
  · have h := h.1 c
    exact hQ _ _ _ _ _ h I dX6_gathers_176
  · have h := h.2 c
    refine lv_aload_n hx hb dX6_gathers_106 rfl (lv_at hl 0 rfl) ?_
    refine mg_present C I dX6_gathers_107 ?_
    refine lv_iload_n hx hb dX6_gathers_110 rfl (lv_at hl 2 rfl) ?_
    obtain ⟨hg3, h⟩ := h
    refine m_iald C I 25 8 rfl (by decide) hg3 dX6_gathers_111 ?_
    refine lv_iconst (v := 1) hx hb dX6_gathers_112 (by decide) ?_
    refine lv_icmp_le (tgt := 136) hx hb dX6_gathers_113 (by decide) (fun c => ?_) (fun c => ?_)
    · have h := h.1 c
      exact t6_gathers_b136 C hQ hK102 v1 v2 M _ _ _ h I (lv_sub hl [0, 1, 2] rfl)
    · have h := h.2 c
      refine lv_aload_n hx hb dX6_gathers_116 rfl (lv_at hl 0 rfl) ?_
      refine mg_metOn C I dX6_gathers_117 ?_
      refine lv_iconst (v := -1) hx hb dX6_gathers_120 (by decide) ?_
      refine lv_icmp_eq (tgt := 132) hx hb dX6_gathers_121 (by decide) (fun c => ?_) (fun c => ?_)
      · have h := h.1 c
        exact t6_gathers_b132 C hQ hK102 v1 v2 M _ _ _ h I (lv_sub hl [0, 1, 2] rfl)
      · have h := h.2 c
        refine lv_aload_n hx hb dX6_gathers_124 rfl (lv_at hl 0 rfl) ?_
        refine mg_metOn C I dX6_gathers_125 ?_
        refine lv_iload_n hx hb dX6_gathers_128 rfl (lv_at hl 1 rfl) ?_
        refine lv_icmp_ne (tgt := 136) hx hb dX6_gathers_129 (by decide) (fun c => ?_) (fun c => ?_)
        · have h := h.2 c
          exact t6_gathers_b136 C hQ hK102 v1 v2 M _ _ _ h I (lv_sub hl [0, 1, 2] rfl)
        · have h := h.1 c
          exact t6_gathers_b132 C hQ hK102 v1 v2 M _ _ _ h I (lv_sub hl [0, 1, 2] rfl)
theorem t6_gathers_b102 {p : Program} {l : Launch} {e : Env} {s : State} {m : MethodId} {args : Array Value} {below : List Frame} {meth : Method} {c : Code} {D : va_G} {T ad : Nat → Nat} {A : Nat → Prop} {H0 : Heap} {Qs : State → Prop} {Q : Mem → Prop}  (C : MC D T p m c cX6_gathers 4 s args) (hQ : mExv p l e rX6_gathers s m args below meth c cX6_gathers D T ad A H0 Qs Q)  : ∀ (n : Nat) (v1 : Int32) (v2 : Int32) (M : Mem) (H : Heap) (locs : List Loc) (ls : Array Slot), w6_gathers_b102 Q n v1 v2 M → MI D T ad A H0 M H locs → lv_has ls 4 [(0, .ref (ad 0)), (1, .int v1), (2, .int v2)] → W p l e rX6_gathers s m args below meth c H locs 0 0 Qs (F0 m 102 ls []) := by
  intro n
  induction n with
  | zero => intro v1 v2 M H locs ls h; exact h.elim
  | succ n ih => intro v1 v2 M H locs ls h I hl; exact t6_gathers_b102_f C hQ  ih v1 v2 M H locs ls h I hl
theorem t6_gathers_b93 {p : Program} {l : Launch} {e : Env} {s : State} {m : MethodId} {args : Array Value} {below : List Frame} {meth : Method} {c : Code} {D : va_G} {T ad : Nat → Nat} {A : Nat → Prop} {H0 : Heap} {Qs : State → Prop} {Q : Mem → Prop} {K23 : Int32 → Int32 → Mem → Prop} (C : MC D T p m c cX6_gathers 4 s args) (hQ : mExv p l e rX6_gathers s m args below meth c cX6_gathers D T ad A H0 Qs Q) (hK23 : ∀ (v1 : Int32) (v2 : Int32) (M : Mem) (H : Heap) (locs : List Loc) (ls : Array Slot), K23 v1 v2 M → MI D T ad A H0 M H locs → lv_has ls 4 [(0, .ref (ad 0)), (1, .int v1), (2, .int v2)] → W p l e rX6_gathers s m args below meth c H locs 0 0 Qs (F0 m 23 ls [])) (v1 : Int32) (v2 : Int32) (M : Mem) (H : Heap) (locs : List Loc) (ls : Array Slot) (h : w6_gathers_b93 Q K23 v1 v2 M) (I : MI D T ad A H0 M H locs) (hl : lv_has ls 4 [(0, .ref (ad 0)), (1, .int v1), (2, .int v2)]) : W p l e rX6_gathers s m args below meth c H locs 0 0 Qs (F0 m 93 ls []) := by
  have hx := C.1.1
  have hb := C.1.2.1
  have how := C.1.2.2.2.1
  have hts := C.1.2.2.2.2
  unfold w6_gathers_b93 at h
  refine lv_iinc (v := (v2 + 1)) (lv' := [(2, .int (v2 + 1)), (0, .ref (ad 0)), (1, .int v1)]) hx hb dX6_gathers_93 hl (k := 2) rfl (ii_1 _) (by decide) rfl (fun ls hl => ?_)
  refine lv_goto (tgt := 23) hx hb dX6_gathers_96 (by decide) ?_
  exact hK23 v1 (v2 + 1) M _ _ _ h I (lv_sub hl [1, 2, 0] rfl)
theorem t6_gathers_b68 {p : Program} {l : Launch} {e : Env} {s : State} {m : MethodId} {args : Array Value} {below : List Frame} {meth : Method} {c : Code} {D : va_G} {T ad : Nat → Nat} {A : Nat → Prop} {H0 : Heap} {Qs : State → Prop} {Q : Mem → Prop} {K23 : Int32 → Int32 → Mem → Prop} (C : MC D T p m c cX6_gathers 4 s args) (hQ : mExv p l e rX6_gathers s m args below meth c cX6_gathers D T ad A H0 Qs Q) (hK23 : ∀ (v1 : Int32) (v2 : Int32) (M : Mem) (H : Heap) (locs : List Loc) (ls : Array Slot), K23 v1 v2 M → MI D T ad A H0 M H locs → lv_has ls 4 [(0, .ref (ad 0)), (1, .int v1), (2, .int v2)] → W p l e rX6_gathers s m args below meth c H locs 0 0 Qs (F0 m 23 ls [])) (v1 : Int32) (v2 : Int32) (M : Mem) (H : Heap) (locs : List Loc) (ls : Array Slot) (h : w6_gathers_b68 Q K23 v1 v2 M) (I : MI D T ad A H0 M H locs) (hl : lv_has ls 4 [(0, .ref (ad 0)), (1, .int v1), (2, .int v2)]) : W p l e rX6_gathers s m args below meth c H locs 0 0 Qs (F0 m 68 ls []) := by
  have hx := C.1.1
  have hb := C.1.2.1
  have how := C.1.2.2.2.1
  have hts := C.1.2.2.2.2
  unfold w6_gathers_b68 at h
  refine lv_aload_n hx hb dX6_gathers_68 rfl (lv_at hl 0 rfl) ?_
  refine mg_place C I dX6_gathers_69 ?_
  refine lv_iload_n hx hb dX6_gathers_72 rfl (lv_at hl 2 rfl) ?_
  obtain ⟨hg4, h⟩ := h
  refine m_iald C I 19 8 rfl (by decide) hg4 dX6_gathers_73 ?_
  refine lv_iconst (v := -1) hx hb dX6_gathers_74 (by decide) ?_
  refine lv_icmp_eq (tgt := 93) hx hb dX6_gathers_75 (by decide) (fun c => ?_) (fun c => ?_)
  · have h := h.1 c
    exact t6_gathers_b93 C hQ hK23 v1 v2 M _ _ _ h I (lv_sub hl [0, 1, 2] rfl)
  · have h := h.2 c
    refine lv_aload_n hx hb dX6_gathers_78 rfl (lv_at hl 0 rfl) ?_
    refine mg_present C I dX6_gathers_79 ?_
    refine lv_aload_n hx hb dX6_gathers_82 rfl (lv_at hl 0 rfl) ?_
    refine mg_place C I dX6_gathers_83 ?_
    refine lv_iload_n hx hb dX6_gathers_86 rfl (lv_at hl 2 rfl) ?_
    refine m_iald C I 19 8 rfl (by decide) hg4 dX6_gathers_87 ?_
    refine lv_dup2_11 hx hb dX6_gathers_88 rfl rfl ?_
    obtain ⟨hg5, h⟩ := h
    refine m_iald C I 25 8 rfl (by decide) hg5 dX6_gathers_89 ?_
    refine lv_iconst (v := 1) hx hb dX6_gathers_90 (by decide) ?_
    refine lv_iadd hx hb dX6_gathers_91 ?_
    refine m_iast C I 25 8 rfl (by decide) hg5 dX6_gathers_92 (fun M6 H locs eM6 I => ?_)
    have h := h M6 eM6
    exact t6_gathers_b93 C hQ hK23 v1 v2 M6 _ _ _ h I (lv_sub hl [0, 1, 2] rfl)
theorem t6_gathers_b23_f {p : Program} {l : Launch} {e : Env} {s : State} {m : MethodId} {args : Array Value} {below : List Frame} {meth : Method} {c : Code} {D : va_G} {T ad : Nat → Nat} {A : Nat → Prop} {H0 : Heap} {Qs : State → Prop} {Q : Mem → Prop} {K23 : Int32 → Int32 → Mem → Prop} (C : MC D T p m c cX6_gathers 4 s args) (hQ : mExv p l e rX6_gathers s m args below meth c cX6_gathers D T ad A H0 Qs Q) (hK23 : ∀ (v1 : Int32) (v2 : Int32) (M : Mem) (H : Heap) (locs : List Loc) (ls : Array Slot), K23 v1 v2 M → MI D T ad A H0 M H locs → lv_has ls 4 [(0, .ref (ad 0)), (1, .int v1), (2, .int v2)] → W p l e rX6_gathers s m args below meth c H locs 0 0 Qs (F0 m 23 ls [])) (v1 : Int32) (v2 : Int32) (M : Mem) (H : Heap) (locs : List Loc) (ls : Array Slot) (h : w6_gathers_b23_f Q K23 v1 v2 M) (I : MI D T ad A H0 M H locs) (hl : lv_has ls 4 [(0, .ref (ad 0)), (1, .int v1), (2, .int v2)]) : W p l e rX6_gathers s m args below meth c H locs 0 0 Qs (F0 m 23 ls []) := by
  have hx := C.1.1
  have hb := C.1.2.1
  have how := C.1.2.2.2.1
  have hts := C.1.2.2.2.2
  unfold w6_gathers_b23_f at h
  refine lv_iload_n hx hb dX6_gathers_23 rfl (lv_at hl 2 rfl) ?_
  refine lv_aload_n hx hb dX6_gathers_24 rfl (lv_at hl 0 rfl) ?_
  refine mg_carters C I dX6_gathers_25 ?_
  refine lv_icmp_ge (tgt := 99) hx hb dX6_gathers_28 (by decide) (fun c => ?_) (fun c => ?_)
  · have h := h.1 c
    refine lv_bipush (v := 7) hx hb dX6_gathers_99 (by decide) ?_
    refine lv_istore_n (lv' := [(2, .int 7), (0, .ref (ad 0)), (1, .int v1)]) hx hb dX6_gathers_101 rfl hl (by decide) rfl (fun ls hl => ?_)
    obtain ⟨n, h⟩ := h
    exact t6_gathers_b102 C hQ n v1 7 M _ _ _ h I (lv_sub hl [1, 2, 0] rfl)
  · have h := h.2 c
    refine lv_aload_n hx hb dX6_gathers_31 rfl (lv_at hl 0 rfl) ?_
    refine mg_arrives C I dX6_gathers_32 ?_
    refine lv_iload_n hx hb dX6_gathers_35 rfl (lv_at hl 2 rfl) ?_
    obtain ⟨hg7, h⟩ := h
    refine m_iald C I 22 8 rfl (by decide) hg7 dX6_gathers_36 ?_
    refine lv_iload_n hx hb dX6_gathers_37 rfl (lv_at hl 1 rfl) ?_
    refine lv_icmp_ne (tgt := 68) hx hb dX6_gathers_38 (by decide) (fun c => ?_) (fun c => ?_)
    · have h := h.2 c
      exact t6_gathers_b68 C hQ hK23 v1 v2 M _ _ _ h I (lv_sub hl [0, 1, 2] rfl)
    · have h := h.1 c
      refine lv_aload_n hx hb dX6_gathers_41 rfl (lv_at hl 0 rfl) ?_
      refine mg_place C I dX6_gathers_42 ?_
      refine lv_iload_n hx hb dX6_gathers_45 rfl (lv_at hl 2 rfl) ?_
      refine lv_aload_n hx hb dX6_gathers_46 rfl (lv_at hl 0 rfl) ?_
      refine mg_whither C I dX6_gathers_47 ?_
      refine lv_iload_n hx hb dX6_gathers_50 rfl (lv_at hl 2 rfl) ?_
      refine m_iald C I 21 8 rfl (by decide) hg7 dX6_gathers_51 ?_
      refine m_iast C I 19 8 rfl (by decide) hg7 dX6_gathers_52 (fun M8 H locs eM8 I => ?_)
      have h := h M8 eM8
      refine lv_aload_n hx hb dX6_gathers_53 rfl (lv_at hl 0 rfl) ?_
      refine mg_arrivals C I dX6_gathers_54 ?_
      refine lv_aload_n hx hb dX6_gathers_57 rfl (lv_at hl 0 rfl) ?_
      refine mg_place C I dX6_gathers_58 ?_
      refine lv_iload_n hx hb dX6_gathers_61 rfl (lv_at hl 2 rfl) ?_
      refine m_iald C I 19 8 rfl (by decide) hg7 dX6_gathers_62 ?_
      refine lv_dup2_11 hx hb dX6_gathers_63 rfl rfl ?_
      obtain ⟨hg9, h⟩ := h
      refine m_iald C I 26 8 rfl (by decide) hg9 dX6_gathers_64 ?_
      refine lv_iconst (v := 1) hx hb dX6_gathers_65 (by decide) ?_
      refine lv_iadd hx hb dX6_gathers_66 ?_
      refine m_iast C I 26 8 rfl (by decide) hg9 dX6_gathers_67 (fun M10 H locs eM10 I => ?_)
      have h := h M10 eM10
      exact t6_gathers_b68 C hQ hK23 v1 v2 M10 _ _ _ h I (lv_sub hl [0, 1, 2] rfl)
theorem t6_gathers_b23 {p : Program} {l : Launch} {e : Env} {s : State} {m : MethodId} {args : Array Value} {below : List Frame} {meth : Method} {c : Code} {D : va_G} {T ad : Nat → Nat} {A : Nat → Prop} {H0 : Heap} {Qs : State → Prop} {Q : Mem → Prop}  (C : MC D T p m c cX6_gathers 4 s args) (hQ : mExv p l e rX6_gathers s m args below meth c cX6_gathers D T ad A H0 Qs Q)  : ∀ (n : Nat) (v1 : Int32) (v2 : Int32) (M : Mem) (H : Heap) (locs : List Loc) (ls : Array Slot), w6_gathers_b23 Q n v1 v2 M → MI D T ad A H0 M H locs → lv_has ls 4 [(0, .ref (ad 0)), (1, .int v1), (2, .int v2)] → W p l e rX6_gathers s m args below meth c H locs 0 0 Qs (F0 m 23 ls []) := by
  intro n
  induction n with
  | zero => intro v1 v2 M H locs ls h; exact h.elim
  | succ n ih => intro v1 v2 M H locs ls h I hl; exact t6_gathers_b23_f C hQ  ih v1 v2 M H locs ls h I hl
theorem t6_gathers_b2_f {p : Program} {l : Launch} {e : Env} {s : State} {m : MethodId} {args : Array Value} {below : List Frame} {meth : Method} {c : Code} {D : va_G} {T ad : Nat → Nat} {A : Nat → Prop} {H0 : Heap} {Qs : State → Prop} {Q : Mem → Prop} {K2 : Int32 → Int32 → Mem → Prop} (C : MC D T p m c cX6_gathers 4 s args) (hQ : mExv p l e rX6_gathers s m args below meth c cX6_gathers D T ad A H0 Qs Q) (hK2 : ∀ (v1 : Int32) (v2 : Int32) (M : Mem) (H : Heap) (locs : List Loc) (ls : Array Slot), K2 v1 v2 M → MI D T ad A H0 M H locs → lv_has ls 4 [(0, .ref (ad 0)), (1, .int v1), (2, .int v2)] → W p l e rX6_gathers s m args below meth c H locs 0 0 Qs (F0 m 2 ls [])) (v1 : Int32) (v2 : Int32) (M : Mem) (H : Heap) (locs : List Loc) (ls : Array Slot) (h : w6_gathers_b2_f Q K2 v1 v2 M) (I : MI D T ad A H0 M H locs) (hl : lv_has ls 4 [(0, .ref (ad 0)), (1, .int v1), (2, .int v2)]) : W p l e rX6_gathers s m args below meth c H locs 0 0 Qs (F0 m 2 ls []) := by
  have hx := C.1.1
  have hb := C.1.2.1
  have how := C.1.2.2.2.1
  have hts := C.1.2.2.2.2
  unfold w6_gathers_b2_f at h
  refine lv_iload_n hx hb dX6_gathers_2 rfl (lv_at hl 2 rfl) ?_
  refine lv_bipush (v := 8) hx hb dX6_gathers_3 (by decide) ?_
  refine lv_icmp_ge (tgt := 21) hx hb dX6_gathers_5 (by decide) (fun c => ?_) (fun c => ?_)
  · have h := h.1 c
    refine lv_iconst (v := 0) hx hb dX6_gathers_21 (by decide) ?_
    refine lv_istore_n (lv' := [(2, .int 0), (0, .ref (ad 0)), (1, .int v1)]) hx hb dX6_gathers_22 rfl hl (by decide) rfl (fun ls hl => ?_)
    obtain ⟨n, h⟩ := h
    exact t6_gathers_b23 C hQ n v1 0 M _ _ _ h I (lv_sub hl [1, 2, 0] rfl)
  · have h := h.2 c
    refine lv_aload_n hx hb dX6_gathers_8 rfl (lv_at hl 0 rfl) ?_
    refine mg_present C I dX6_gathers_9 ?_
    refine lv_iload_n hx hb dX6_gathers_12 rfl (lv_at hl 2 rfl) ?_
    refine lv_iconst (v := 0) hx hb dX6_gathers_13 (by decide) ?_
    obtain ⟨hg11, h⟩ := h
    refine m_iast C I 25 8 rfl (by decide) hg11 dX6_gathers_14 (fun M12 H locs eM12 I => ?_)
    have h := h M12 eM12
    refine lv_iinc (v := (v2 + 1)) (lv' := [(2, .int (v2 + 1)), (0, .ref (ad 0)), (1, .int v1)]) hx hb dX6_gathers_15 hl (k := 2) rfl (ii_1 _) (by decide) rfl (fun ls hl => ?_)
    refine lv_goto (tgt := 2) hx hb dX6_gathers_18 (by decide) ?_
    exact hK2 v1 (v2 + 1) M12 _ _ _ h I (lv_sub hl [1, 2, 0] rfl)
theorem t6_gathers_b2 {p : Program} {l : Launch} {e : Env} {s : State} {m : MethodId} {args : Array Value} {below : List Frame} {meth : Method} {c : Code} {D : va_G} {T ad : Nat → Nat} {A : Nat → Prop} {H0 : Heap} {Qs : State → Prop} {Q : Mem → Prop}  (C : MC D T p m c cX6_gathers 4 s args) (hQ : mExv p l e rX6_gathers s m args below meth c cX6_gathers D T ad A H0 Qs Q)  : ∀ (n : Nat) (v1 : Int32) (v2 : Int32) (M : Mem) (H : Heap) (locs : List Loc) (ls : Array Slot), w6_gathers_b2 Q n v1 v2 M → MI D T ad A H0 M H locs → lv_has ls 4 [(0, .ref (ad 0)), (1, .int v1), (2, .int v2)] → W p l e rX6_gathers s m args below meth c H locs 0 0 Qs (F0 m 2 ls []) := by
  intro n
  induction n with
  | zero => intro v1 v2 M H locs ls h; exact h.elim
  | succ n ih => intro v1 v2 M H locs ls h I hl; exact t6_gathers_b2_f C hQ  ih v1 v2 M H locs ls h I hl
theorem t6_gathers {p : Program} {l : Launch} {e : Env} {s : State} {m : MethodId} {args : Array Value} {below : List Frame} {meth : Method} {c : Code} {D : va_G} {T ad : Nat → Nat} {A : Nat → Prop} {H0 : Heap} {Qs : State → Prop} {Q : Mem → Prop} (C : MC D T p m c cX6_gathers 4 s args) (hQ : mExv p l e rX6_gathers s m args below meth c cX6_gathers D T ad A H0 Qs Q) (v1 : Int32) (M : Mem) (H : Heap) (locs : List Loc) (ls : Array Slot) (h : w6_gathers v1 M Q) (I : MI D T ad A H0 M H locs) (hl : lv_has ls 4 [(0, .ref (ad 0)), (1, .int v1)]) : W p l e rX6_gathers s m args below meth c H locs 0 0 Qs (F0 m 0 ls []) := by
  have hx := C.1.1
  have hb := C.1.2.1
  have how := C.1.2.2.2.1
  have hts := C.1.2.2.2.2
  unfold w6_gathers at h
  refine lv_iconst (v := 0) hx hb dX6_gathers_0 (by decide) ?_
  refine lv_istore_n (lv' := [(2, .int 0), (0, .ref (ad 0)), (1, .int v1)]) hx hb dX6_gathers_1 rfl hl (by decide) rfl (fun ls hl => ?_)
  obtain ⟨n, h⟩ := h
  exact t6_gathers_b2 C hQ n v1 0 M _ _ _ h I (lv_sub hl [1, 2, 0] rfl)
theorem met6_gathers (l : Launch) (D : va_G) (T ad : Nat → Nat) (v1 : Int32) (M : Mem) {Qp : Mem → Prop} (h : w6_gathers v1 M Qp) (sz : Nat) : Met l yX6_gathers (ws_ yX6_gathers cX6_gathers 4 none) rX6_gathers (mPc D T ad [.int v1] M sz) (mQv D T ad M Qp sz) 0 0 (fA (cM T ad M) sz) :=
  m_metV (As := [.int v1]) rfl rfl (Nat.le_of_ble_eq_true rfl) (fun p e s m args below meth c A Qs ls C hQ I hl => t6_gathers C hQ v1 M _ _ ls h I hl) sz
/-! stays -/
abbrev rX6_stays : Room := { frames := 0, cells := 0, slots := 0, locals := 0 }
theorem t6_stays {p : Program} {l : Launch} {e : Env} {s : State} {m : MethodId} {args : Array Value} {below : List Frame} {meth : Method} {c : Code} {D : va_G} {T ad : Nat → Nat} {A : Nat → Prop} {H0 : Heap} {Qs : State → Prop} {Q : Mem → Prop} (C : MC D T p m c cX6_stays 4 s args) (hQ : mExv p l e rX6_stays s m args below meth c cX6_stays D T ad A H0 Qs Q) (v1 : Int32) (v2 : Int32) (v3 : Int32) (M : Mem) (H : Heap) (locs : List Loc) (ls : Array Slot) (h : w6_stays v1 v2 v3 M Q) (I : MI D T ad A H0 M H locs) (hl : lv_has ls 4 [(0, .ref (ad 0)), (1, .int v1), (2, .int v2), (3, .int v3)]) : W p l e rX6_stays s m args below meth c H locs 0 0 Qs (F0 m 0 ls []) := by
  have hx := C.1.1
  have hb := C.1.2.1
  have how := C.1.2.2.2.1
  have hts := C.1.2.2.2.2
  unfold w6_stays at h
  refine lv_aload_n hx hb dX6_stays_0 rfl (lv_at hl 0 rfl) ?_
  refine mg_state C I dX6_stays_1 ?_
  refine lv_iload_n hx hb dX6_stays_4 rfl (lv_at hl 1 rfl) ?_
  refine lv_iload_n hx hb dX6_stays_5 rfl (lv_at hl 3 rfl) ?_
  obtain ⟨hg1, h⟩ := h
  refine m_iast C I 18 8 rfl (by decide) hg1 dX6_stays_6 (fun M2 H locs eM2 I => ?_)
  have h := h M2 eM2
  refine lv_aload_n hx hb dX6_stays_7 rfl (lv_at hl 0 rfl) ?_
  refine mg_ends C I dX6_stays_8 ?_
  refine lv_iload_n hx hb dX6_stays_11 rfl (lv_at hl 1 rfl) ?_
  refine lv_iload_n hx hb dX6_stays_12 rfl (lv_at hl 2 rfl) ?_
  refine m_iast C I 23 8 rfl (by decide) hg1 dX6_stays_13 (fun M3 H locs eM3 I => ?_)
  have h := h M3 eM3
  refine lv_aload_n hx hb dX6_stays_14 rfl (lv_at hl 0 rfl) ?_
  refine mg_whither C I dX6_stays_15 ?_
  refine lv_iload_n hx hb dX6_stays_18 rfl (lv_at hl 1 rfl) ?_
  refine lv_iconst (v := -1) hx hb dX6_stays_19 (by decide) ?_
  refine m_iast C I 21 8 rfl (by decide) hg1 dX6_stays_20 (fun M4 H locs eM4 I => ?_)
  have h := h M4 eM4
  exact hQ _ _ _ _ _ h I dX6_stays_21
theorem met6_stays (l : Launch) (D : va_G) (T ad : Nat → Nat) (v1 : Int32) (v2 : Int32) (v3 : Int32) (M : Mem) {Qp : Mem → Prop} (h : w6_stays v1 v2 v3 M Qp) (sz : Nat) : Met l yX6_stays (ws_ yX6_stays cX6_stays 4 none) rX6_stays (mPc D T ad [.int v1, .int v2, .int v3] M sz) (mQv D T ad M Qp sz) 0 0 (fA (cM T ad M) sz) :=
  m_metV (As := [.int v1, .int v2, .int v3]) rfl rfl (Nat.le_of_ble_eq_true rfl) (fun p e s m args below meth c A Qs ls C hQ I hl => t6_stays C hQ v1 v2 v3 M _ _ ls h I hl) sz
/-! isIn -/
abbrev rX6_isIn : Room := { frames := 0, cells := 0, slots := 0, locals := 0 }
theorem t6_isIn_b14 {p : Program} {l : Launch} {e : Env} {s : State} {m : MethodId} {args : Array Value} {below : List Frame} {meth : Method} {c : Code} {A : Nat → Prop} {H0 : Heap} {Qs : State → Prop} {Q : Int32 → Prop}  (S : CallFix p m c cX6_isIn 2 s args lw_all RX6) (hA : ∀ q, H0.size ≤ q → A q) (hQ : pExi p l e rX6_isIn s m args below meth c cX6_isIn A H0 Qs Q)  (s0 : Int32) (H : Heap) (locs : List Loc) (ls : Array Slot) (h : w6_isIn_b14 Q s0) (hS : va_S A H0 H locs) (hl : lv_has ls 2 []) : W p l e rX6_isIn s m args below meth c H locs 0 0 Qs (F0 m 14 ls [.int s0]) := by
  have hx := S.1
  have hb := S.2.1
  have how := S.2.2.2.1
  have hts := S.2.2.2.2
  unfold w6_isIn_b14 at h
  exact hQ _ _ _ _ _ h hS dX6_isIn_14
theorem t6_isIn {p : Program} {l : Launch} {e : Env} {s : State} {m : MethodId} {args : Array Value} {below : List Frame} {meth : Method} {c : Code} {A : Nat → Prop} {H0 : Heap} {Qs : State → Prop} {Q : Int32 → Prop} (S : CallFix p m c cX6_isIn 2 s args lw_all RX6) (hA : ∀ q, H0.size ≤ q → A q) (hQ : pExi p l e rX6_isIn s m args below meth c cX6_isIn A H0 Qs Q) (v0 : Int32) (v1 : Int32) (H : Heap) (locs : List Loc) (ls : Array Slot) (h : w6_isIn_z v0 v1 Q) (hS : va_S A H0 H locs) (hl : lv_has ls 2 [(0, .int v0), (1, .int v1)]) : W p l e rX6_isIn s m args below meth c H locs 0 0 Qs (F0 m 0 ls []) := by
  have hx := S.1
  have hb := S.2.1
  have how := S.2.2.2.1
  have hts := S.2.2.2.2
  unfold w6_isIn_z at h
  refine lv_iload_n hx hb dX6_isIn_0 rfl (lv_at hl 0 rfl) ?_
  refine lv_iload_n hx hb dX6_isIn_1 rfl (lv_at hl 1 rfl) ?_
  refine lv_ishr hx hb dX6_isIn_2 ?_
  refine lv_iconst (v := 1) hx hb dX6_isIn_3 (by decide) ?_
  refine lv_iand hx hb dX6_isIn_4 ?_
  refine lv_iconst (v := 1) hx hb dX6_isIn_5 (by decide) ?_
  refine lv_icmp_ne (tgt := 13) hx hb dX6_isIn_6 (by decide) (fun c => ?_) (fun c => ?_)
  · have h := h.2 c
    refine lv_iconst (v := 0) hx hb dX6_isIn_13 (by decide) ?_
    exact t6_isIn_b14 S hA hQ 0 _ _ _ h hS (lv_sub hl [] rfl)
  · have h := h.1 c
    refine lv_iconst (v := 1) hx hb dX6_isIn_9 (by decide) ?_
    refine lv_goto (tgt := 14) hx hb dX6_isIn_10 (by decide) ?_
    exact t6_isIn_b14 S hA hQ 1 _ _ _ h hS (lv_sub hl [] rfl)
theorem met6_isIn (l : Launch) (v0 : Int32) (v1 : Int32) {Qp : Int32 → Prop} (h : w6_isIn v0 v1 Qp) (sz : Nat) : Met l yX6_isIn (ws_ yX6_isIn cX6_isIn 2 (some .boolean)) rX6_isIn (pPc [.int v0, .int v1] sz) (pQi Qp sz) 0 0 (pA sz) :=
  p_metZ (As := [.int v0, .int v1]) rfl (Nat.le_of_ble_eq_true rfl) (fun p e s m args below meth c Qs ls S hQ hl => t6_isIn S (fun q h => h) hQ v0 v1 _ _ ls h va_S.rf hl) sz
/-! isAnswer -/
abbrev rX6_isAnswer : Room := { frames := 1, cells := 0, slots := 0, locals := 21 }
theorem cw6_177 {R : Room} {s : State} {args : Array Value} (hts : ∀ w ∈ lw_all, w.before args s = true) (hR : rX6_isIn.frames + 1 ≤ R.frames ∧ 8 + (2 + 11) + rX6_isIn.locals ≤ R.locals) : CallB R s args RX6 177 yX6_isIn cX6_isIn 2 (some .boolean) (ws_ yX6_isIn cX6_isIn 2 (some .boolean)) rX6_isIn 0 0 2 ∧ (Cond.static yX6_isIn).before args s = true := va_cwS 2 hts (lw_S q1174 q1175 q95 q1176) rfl rfl rfl (by decide +kernel) hR
theorem t6_isAnswer_b63 {p : Program} {l : Launch} {e : Env} {s : State} {m : MethodId} {args : Array Value} {below : List Frame} {meth : Method} {c : Code} {D : va_G} {T ad : Nat → Nat} {A : Nat → Prop} {H0 : Heap} {Qs : State → Prop} {Q : Int32 → Mem → Prop} {K5 : Int32 → Int32 → Int32 → Int32 → Mem → Prop} (C : MC D T p m c cX6_isAnswer 5 s args) (hQ : mExi p l e rX6_isAnswer s m args below meth c cX6_isAnswer D T ad A H0 Qs Q) (hK5 : ∀ (v1 : Int32) (v2 : Int32) (v3 : Int32) (v4 : Int32) (M : Mem) (H : Heap) (locs : List Loc) (ls : Array Slot), K5 v1 v2 v3 v4 M → MI D T ad A H0 M H locs → lv_has ls 5 [(0, .ref (ad 0)), (1, .int v1), (2, .int v2), (3, .int v3), (4, .int v4)] → W p l e rX6_isAnswer s m args below meth c H locs 0 0 Qs (F0 m 5 ls [])) (v1 : Int32) (v2 : Int32) (v4 : Int32) (s0 : Int32) (M : Mem) (H : Heap) (locs : List Loc) (ls : Array Slot) (h : w6_isAnswer_b63 Q K5 v1 v2 v4 s0 M) (I : MI D T ad A H0 M H locs) (hl : lv_has ls 5 [(0, .ref (ad 0)), (1, .int v1), (2, .int v2), (4, .int v4)]) : W p l e rX6_isAnswer s m args below meth c H locs 0 0 Qs (F0 m 63 ls [.int s0]) := by
  have hx := C.1.1
  have hb := C.1.2.1
  have how := C.1.2.2.2.1
  have hts := C.1.2.2.2.2
  unfold w6_isAnswer_b63 at h
  refine lv_istore_n (lv' := [(3, .int s0), (0, .ref (ad 0)), (1, .int v1), (2, .int v2), (4, .int v4)]) hx hb dX6_isAnswer_63 rfl hl (by decide) rfl (fun ls hl => ?_)
  refine lv_iinc (v := (v4 + 1)) (lv' := [(4, .int (v4 + 1)), (3, .int s0), (0, .ref (ad 0)), (1, .int v1), (2, .int v2)]) hx hb dX6_isAnswer_64 hl (k := 4) rfl (ii_1 _) (by decide) rfl (fun ls hl => ?_)
  refine lv_goto (tgt := 5) hx hb dX6_isAnswer_67 (by decide) ?_
  exact hK5 v1 v2 s0 (v4 + 1) M _ _ _ h I (lv_sub hl [2, 3, 4, 1, 0] rfl)
theorem t6_isAnswer_b62 {p : Program} {l : Launch} {e : Env} {s : State} {m : MethodId} {args : Array Value} {below : List Frame} {meth : Method} {c : Code} {D : va_G} {T ad : Nat → Nat} {A : Nat → Prop} {H0 : Heap} {Qs : State → Prop} {Q : Int32 → Mem → Prop} {K5 : Int32 → Int32 → Int32 → Int32 → Mem → Prop} (C : MC D T p m c cX6_isAnswer 5 s args) (hQ : mExi p l e rX6_isAnswer s m args below meth c cX6_isAnswer D T ad A H0 Qs Q) (hK5 : ∀ (v1 : Int32) (v2 : Int32) (v3 : Int32) (v4 : Int32) (M : Mem) (H : Heap) (locs : List Loc) (ls : Array Slot), K5 v1 v2 v3 v4 M → MI D T ad A H0 M H locs → lv_has ls 5 [(0, .ref (ad 0)), (1, .int v1), (2, .int v2), (3, .int v3), (4, .int v4)] → W p l e rX6_isAnswer s m args below meth c H locs 0 0 Qs (F0 m 5 ls [])) (v1 : Int32) (v2 : Int32) (v4 : Int32) (M : Mem) (H : Heap) (locs : List Loc) (ls : Array Slot) (h : w6_isAnswer_b62 Q K5 v1 v2 v4 M) (I : MI D T ad A H0 M H locs) (hl : lv_has ls 5 [(0, .ref (ad 0)), (1, .int v1), (2, .int v2), (4, .int v4)]) : W p l e rX6_isAnswer s m args below meth c H locs 0 0 Qs (F0 m 62 ls []) := by
  have hx := C.1.1
  have hb := C.1.2.1
  have how := C.1.2.2.2.1
  have hts := C.1.2.2.2.2
  unfold w6_isAnswer_b62 at h
  refine lv_iconst (v := 0) hx hb dX6_isAnswer_62 (by decide) ?_
  exact t6_isAnswer_b63 C hQ hK5 v1 v2 v4 0 M _ _ _ h I (lv_sub hl [0, 1, 2, 3] rfl)
theorem t6_isAnswer_b58 {p : Program} {l : Launch} {e : Env} {s : State} {m : MethodId} {args : Array Value} {below : List Frame} {meth : Method} {c : Code} {D : va_G} {T ad : Nat → Nat} {A : Nat → Prop} {H0 : Heap} {Qs : State → Prop} {Q : Int32 → Mem → Prop} {K5 : Int32 → Int32 → Int32 → Int32 → Mem → Prop} (C : MC D T p m c cX6_isAnswer 5 s args) (hQ : mExi p l e rX6_isAnswer s m args below meth c cX6_isAnswer D T ad A H0 Qs Q) (hK5 : ∀ (v1 : Int32) (v2 : Int32) (v3 : Int32) (v4 : Int32) (M : Mem) (H : Heap) (locs : List Loc) (ls : Array Slot), K5 v1 v2 v3 v4 M → MI D T ad A H0 M H locs → lv_has ls 5 [(0, .ref (ad 0)), (1, .int v1), (2, .int v2), (3, .int v3), (4, .int v4)] → W p l e rX6_isAnswer s m args below meth c H locs 0 0 Qs (F0 m 5 ls [])) (v1 : Int32) (v2 : Int32) (v4 : Int32) (M : Mem) (H : Heap) (locs : List Loc) (ls : Array Slot) (h : w6_isAnswer_b58 Q K5 v1 v2 v4 M) (I : MI D T ad A H0 M H locs) (hl : lv_has ls 5 [(0, .ref (ad 0)), (1, .int v1), (2, .int v2), (4, .int v4)]) : W p l e rX6_isAnswer s m args below meth c H locs 0 0 Qs (F0 m 58 ls []) := by
  have hx := C.1.1
  have hb := C.1.2.1
  have how := C.1.2.2.2.1
  have hts := C.1.2.2.2.2
  unfold w6_isAnswer_b58 at h
  refine lv_iconst (v := 1) hx hb dX6_isAnswer_58 (by decide) ?_
  refine lv_goto (tgt := 63) hx hb dX6_isAnswer_59 (by decide) ?_
  exact t6_isAnswer_b63 C hQ hK5 v1 v2 v4 1 M _ _ _ h I (lv_sub hl [0, 1, 2, 3] rfl)
theorem t6_isAnswer_b5_f {p : Program} {l : Launch} {e : Env} {s : State} {m : MethodId} {args : Array Value} {below : List Frame} {meth : Method} {c : Code} {D : va_G} {T ad : Nat → Nat} {A : Nat → Prop} {H0 : Heap} {Qs : State → Prop} {Q : Int32 → Mem → Prop} {K5 : Int32 → Int32 → Int32 → Int32 → Mem → Prop} (C : MC D T p m c cX6_isAnswer 5 s args) (hQ : mExi p l e rX6_isAnswer s m args below meth c cX6_isAnswer D T ad A H0 Qs Q) (hK5 : ∀ (v1 : Int32) (v2 : Int32) (v3 : Int32) (v4 : Int32) (M : Mem) (H : Heap) (locs : List Loc) (ls : Array Slot), K5 v1 v2 v3 v4 M → MI D T ad A H0 M H locs → lv_has ls 5 [(0, .ref (ad 0)), (1, .int v1), (2, .int v2), (3, .int v3), (4, .int v4)] → W p l e rX6_isAnswer s m args below meth c H locs 0 0 Qs (F0 m 5 ls [])) (v1 : Int32) (v2 : Int32) (v3 : Int32) (v4 : Int32) (M : Mem) (H : Heap) (locs : List Loc) (ls : Array Slot) (h : w6_isAnswer_b5_f Q K5 v1 v2 v3 v4 M) (I : MI D T ad A H0 M H locs) (hl : lv_has ls 5 [(0, .ref (ad 0)), (1, .int v1), (2, .int v2), (3, .int v3), (4, .int v4)]) : W p l e rX6_isAnswer s m args below meth c H locs 0 0 Qs (F0 m 5 ls []) := by
  have hx := C.1.1
  have hb := C.1.2.1
  have how := C.1.2.2.2.1
  have hts := C.1.2.2.2.2
  unfold w6_isAnswer_b5_f at h
  refine lv_iload hx hb dX6_isAnswer_5 (lv_at hl 4 rfl) ?_
  refine lv_aload_n hx hb dX6_isAnswer_7 rfl (lv_at hl 0 rfl) ?_
  refine mg_answers C I dX6_isAnswer_8 ?_
  refine lv_icmp_ge (tgt := 70) hx hb dX6_isAnswer_11 (by decide) (fun c => ?_) (fun c => ?_)
  · have h := h.1 c
    refine lv_iload_n hx hb dX6_isAnswer_70 rfl (lv_at hl 3 rfl) ?_
    exact hQ _ _ _ _ _ _ h I dX6_isAnswer_71
  · have h := h.2 c
    refine lv_iload_n hx hb dX6_isAnswer_14 rfl (lv_at hl 3 rfl) ?_
    refine lv_if_ne (tgt := 58) hx hb dX6_isAnswer_15 (by decide) (fun c => ?_) (fun c => ?_)
    · have h := h.2 c
      exact t6_isAnswer_b58 C hQ hK5 v1 v2 v4 M _ _ _ h I (lv_sub hl [0, 1, 2, 4] rfl)
    · have h := h.1 c
      refine lv_aload_n hx hb dX6_isAnswer_18 rfl (lv_at hl 0 rfl) ?_
      refine mg_answer C I dX6_isAnswer_19 ?_
      refine lv_iconst (v := 2) hx hb dX6_isAnswer_22 (by decide) ?_
      refine lv_iload hx hb dX6_isAnswer_23 (lv_at hl 4 rfl) ?_
      refine lv_imul hx hb dX6_isAnswer_25 ?_
      obtain ⟨hg1, h⟩ := h
      refine m_iald C I 14 16 rfl (by decide) hg1 dX6_isAnswer_26 ?_
      refine lv_iload_n hx hb dX6_isAnswer_27 rfl (lv_at hl 1 rfl) ?_
      refine lv_icmp_ne (tgt := 62) hx hb dX6_isAnswer_28 (by decide) (fun c => ?_) (fun c => ?_)
      · have h := h.2 c
        exact t6_isAnswer_b62 C hQ hK5 v1 v2 v4 M _ _ _ h I (lv_sub hl [0, 1, 2, 4] rfl)
      · have h := h.1 c
        refine lv_aload_n hx hb dX6_isAnswer_31 rfl (lv_at hl 0 rfl) ?_
        refine mg_answer C I dX6_isAnswer_32 ?_
        refine lv_iconst (v := 2) hx hb dX6_isAnswer_35 (by decide) ?_
        refine lv_iload hx hb dX6_isAnswer_36 (lv_at hl 4 rfl) ?_
        refine lv_imul hx hb dX6_isAnswer_38 ?_
        refine lv_iconst (v := 1) hx hb dX6_isAnswer_39 (by decide) ?_
        refine lv_iadd hx hb dX6_isAnswer_40 ?_
        obtain ⟨hg2, h⟩ := h
        refine m_iald C I 14 16 rfl (by decide) hg2 dX6_isAnswer_41 ?_
        refine lv_iload_n hx hb dX6_isAnswer_42 rfl (lv_at hl 2 rfl) ?_
        refine lv_icmp_ne (tgt := 62) hx hb dX6_isAnswer_43 (by decide) (fun c => ?_) (fun c => ?_)
        · have h := h.2 c
          exact t6_isAnswer_b62 C hQ hK5 v1 v2 v4 M _ _ _ h I (lv_sub hl [0, 1, 2, 4] rfl)
        · have h := h.1 c
          refine lv_aload_n hx hb dX6_isAnswer_46 rfl (lv_at hl 0 rfl) ?_
          refine mg_gone C I dX6_isAnswer_47 ?_
          refine lv_iload hx hb dX6_isAnswer_50 (lv_at hl 4 rfl) ?_
          refine m_purei (As := [.int (M 0 14), .int v4]) (rest := []) C I (met6_isIn l (M 0 14) v4 h) (cw6_177 hts ⟨Nat.le_of_ble_eq_true rfl, Nat.le_of_ble_eq_true rfl⟩) rfl hl.1 rfl (Nat.le_of_ble_eq_true rfl) ⟨Nat.zero_le _, Nat.zero_le _⟩ dX6_isAnswer_52 (fun r3 H locs h I => ?_)
          refine lv_if_ne (tgt := 62) hx hb dX6_isAnswer_55 (by decide) (fun c => ?_) (fun c => ?_)
          · have h := h.2 c
            exact t6_isAnswer_b62 C hQ hK5 v1 v2 v4 M _ _ _ h I (lv_sub hl [0, 1, 2, 4] rfl)
          · have h := h.1 c
            exact t6_isAnswer_b58 C hQ hK5 v1 v2 v4 M _ _ _ h I (lv_sub hl [0, 1, 2, 4] rfl)
theorem t6_isAnswer_b5 {p : Program} {l : Launch} {e : Env} {s : State} {m : MethodId} {args : Array Value} {below : List Frame} {meth : Method} {c : Code} {D : va_G} {T ad : Nat → Nat} {A : Nat → Prop} {H0 : Heap} {Qs : State → Prop} {Q : Int32 → Mem → Prop}  (C : MC D T p m c cX6_isAnswer 5 s args) (hQ : mExi p l e rX6_isAnswer s m args below meth c cX6_isAnswer D T ad A H0 Qs Q)  : ∀ (n : Nat) (v1 : Int32) (v2 : Int32) (v3 : Int32) (v4 : Int32) (M : Mem) (H : Heap) (locs : List Loc) (ls : Array Slot), w6_isAnswer_b5 Q n v1 v2 v3 v4 M → MI D T ad A H0 M H locs → lv_has ls 5 [(0, .ref (ad 0)), (1, .int v1), (2, .int v2), (3, .int v3), (4, .int v4)] → W p l e rX6_isAnswer s m args below meth c H locs 0 0 Qs (F0 m 5 ls []) := by
  intro n
  induction n with
  | zero => intro v1 v2 v3 v4 M H locs ls h; exact h.elim
  | succ n ih => intro v1 v2 v3 v4 M H locs ls h I hl; exact t6_isAnswer_b5_f C hQ  ih v1 v2 v3 v4 M H locs ls h I hl
theorem t6_isAnswer {p : Program} {l : Launch} {e : Env} {s : State} {m : MethodId} {args : Array Value} {below : List Frame} {meth : Method} {c : Code} {D : va_G} {T ad : Nat → Nat} {A : Nat → Prop} {H0 : Heap} {Qs : State → Prop} {Q : Int32 → Mem → Prop} (C : MC D T p m c cX6_isAnswer 5 s args) (hQ : mExi p l e rX6_isAnswer s m args below meth c cX6_isAnswer D T ad A H0 Qs Q) (v1 : Int32) (v2 : Int32) (M : Mem) (H : Heap) (locs : List Loc) (ls : Array Slot) (h : w6_isAnswer_z v1 v2 M Q) (I : MI D T ad A H0 M H locs) (hl : lv_has ls 5 [(0, .ref (ad 0)), (1, .int v1), (2, .int v2)]) : W p l e rX6_isAnswer s m args below meth c H locs 0 0 Qs (F0 m 0 ls []) := by
  have hx := C.1.1
  have hb := C.1.2.1
  have how := C.1.2.2.2.1
  have hts := C.1.2.2.2.2
  unfold w6_isAnswer_z at h
  refine lv_iconst (v := 0) hx hb dX6_isAnswer_0 (by decide) ?_
  refine lv_istore_n (lv' := [(3, .int 0), (0, .ref (ad 0)), (1, .int v1), (2, .int v2)]) hx hb dX6_isAnswer_1 rfl hl (by decide) rfl (fun ls hl => ?_)
  refine lv_iconst (v := 0) hx hb dX6_isAnswer_2 (by decide) ?_
  refine lv_istore (lv' := [(4, .int 0), (3, .int 0), (0, .ref (ad 0)), (1, .int v1), (2, .int v2)]) hx hb dX6_isAnswer_3 hl (by decide) rfl (fun ls hl => ?_)
  obtain ⟨n, h⟩ := h
  exact t6_isAnswer_b5 C hQ n v1 v2 0 0 M _ _ _ h I (lv_sub hl [2, 3, 4, 1, 0] rfl)
theorem met6_isAnswer (l : Launch) (D : va_G) (T ad : Nat → Nat) (v1 : Int32) (v2 : Int32) (M : Mem) {Qp : Int32 → Mem → Prop} (h : w6_isAnswer v1 v2 M Qp) (sz : Nat) : Met l yX6_isAnswer (ws_ yX6_isAnswer cX6_isAnswer 5 (some .boolean)) rX6_isAnswer (mPc D T ad [.int v1, .int v2] M sz) (mQi D T ad M Qp sz) 0 0 (fA (cM T ad M) sz) :=
  m_metZ (As := [.int v1, .int v2]) rfl rfl (Nat.le_of_ble_eq_true rfl) (fun p e s m args below meth c A Qs ls C hQ I hl => t6_isAnswer C hQ v1 v2 M _ _ ls h I hl) sz
/-! isTold -/
abbrev rX6_isTold : Room := { frames := 2, cells := 0, slots := 0, locals := 45 }
theorem cw6_181 {R : Room} {s : State} {args : Array Value} (hts : ∀ w ∈ lw_all, w.before args s = true) (hR : rX6_isAnswer.frames + 1 ≤ R.frames ∧ 8 + (5 + 11) + rX6_isAnswer.locals ≤ R.locals) : CallW R s args RX6 RX6 181 yX6_isAnswer cX6_isAnswer 5 (some .boolean) (ws_ yX6_isAnswer cX6_isAnswer 5 (some .boolean)) rX6_isAnswer 0 0 2 := cwV 2 hts (lw_V q1170 q1172 qs64 q95 q1173) rfl rfl rfl (by decide +kernel) hR
theorem t6_isTold_b48 {p : Program} {l : Launch} {e : Env} {s : State} {m : MethodId} {args : Array Value} {below : List Frame} {meth : Method} {c : Code} {D : va_G} {T ad : Nat → Nat} {A : Nat → Prop} {H0 : Heap} {Qs : State → Prop} {Q : Int32 → Mem → Prop}  (C : MC D T p m c cX6_isTold 5 s args) (hQ : mExi p l e rX6_isTold s m args below meth c cX6_isTold D T ad A H0 Qs Q)  (s0 : Int32) (M : Mem) (H : Heap) (locs : List Loc) (ls : Array Slot) (h : w6_isTold_b48 Q s0 M) (I : MI D T ad A H0 M H locs) (hl : lv_has ls 5 [(0, .ref (ad 0))]) : W p l e rX6_isTold s m args below meth c H locs 0 0 Qs (F0 m 48 ls [.int s0]) := by
  have hx := C.1.1
  have hb := C.1.2.1
  have how := C.1.2.2.2.1
  have hts := C.1.2.2.2.2
  unfold w6_isTold_b48 at h
  exact hQ _ _ _ _ _ _ h I dX6_isTold_48
theorem t6_isTold_b47 {p : Program} {l : Launch} {e : Env} {s : State} {m : MethodId} {args : Array Value} {below : List Frame} {meth : Method} {c : Code} {D : va_G} {T ad : Nat → Nat} {A : Nat → Prop} {H0 : Heap} {Qs : State → Prop} {Q : Int32 → Mem → Prop}  (C : MC D T p m c cX6_isTold 5 s args) (hQ : mExi p l e rX6_isTold s m args below meth c cX6_isTold D T ad A H0 Qs Q)   (M : Mem) (H : Heap) (locs : List Loc) (ls : Array Slot) (h : w6_isTold_b47 Q M) (I : MI D T ad A H0 M H locs) (hl : lv_has ls 5 [(0, .ref (ad 0))]) : W p l e rX6_isTold s m args below meth c H locs 0 0 Qs (F0 m 47 ls []) := by
  have hx := C.1.1
  have hb := C.1.2.1
  have how := C.1.2.2.2.1
  have hts := C.1.2.2.2.2
  unfold w6_isTold_b47 at h
  refine lv_iconst (v := 0) hx hb dX6_isTold_47 (by decide) ?_
  exact t6_isTold_b48 C hQ 0 M _ _ _ h I (lv_sub hl [0] rfl)
theorem t6_isTold_b43 {p : Program} {l : Launch} {e : Env} {s : State} {m : MethodId} {args : Array Value} {below : List Frame} {meth : Method} {c : Code} {D : va_G} {T ad : Nat → Nat} {A : Nat → Prop} {H0 : Heap} {Qs : State → Prop} {Q : Int32 → Mem → Prop}  (C : MC D T p m c cX6_isTold 5 s args) (hQ : mExi p l e rX6_isTold s m args below meth c cX6_isTold D T ad A H0 Qs Q)   (M : Mem) (H : Heap) (locs : List Loc) (ls : Array Slot) (h : w6_isTold_b43 Q M) (I : MI D T ad A H0 M H locs) (hl : lv_has ls 5 [(0, .ref (ad 0))]) : W p l e rX6_isTold s m args below meth c H locs 0 0 Qs (F0 m 43 ls []) := by
  have hx := C.1.1
  have hb := C.1.2.1
  have how := C.1.2.2.2.1
  have hts := C.1.2.2.2.2
  unfold w6_isTold_b43 at h
  refine lv_iconst (v := 1) hx hb dX6_isTold_43 (by decide) ?_
  refine lv_goto (tgt := 48) hx hb dX6_isTold_44 (by decide) ?_
  exact t6_isTold_b48 C hQ 1 M _ _ _ h I (lv_sub hl [0] rfl)
theorem t6_isTold {p : Program} {l : Launch} {e : Env} {s : State} {m : MethodId} {args : Array Value} {below : List Frame} {meth : Method} {c : Code} {D : va_G} {T ad : Nat → Nat} {A : Nat → Prop} {H0 : Heap} {Qs : State → Prop} {Q : Int32 → Mem → Prop} (C : MC D T p m c cX6_isTold 5 s args) (hQ : mExi p l e rX6_isTold s m args below meth c cX6_isTold D T ad A H0 Qs Q) (v1 : Int32) (v2 : Int32) (v3 : Int32) (M : Mem) (H : Heap) (locs : List Loc) (ls : Array Slot) (h : w6_isTold_z v1 v2 v3 M Q) (I : MI D T ad A H0 M H locs) (hl : lv_has ls 5 [(0, .ref (ad 0)), (1, .int v1), (2, .int v2), (3, .int v3)]) : W p l e rX6_isTold s m args below meth c H locs 0 0 Qs (F0 m 0 ls []) := by
  have hx := C.1.1
  have hb := C.1.2.1
  have how := C.1.2.2.2.1
  have hts := C.1.2.2.2.2
  unfold w6_isTold_z at h
  refine lv_aload_n hx hb dX6_isTold_0 rfl (lv_at hl 0 rfl) ?_
  refine mg_carter C I dX6_isTold_1 ?_
  refine lv_iconst (v := 5) hx hb dX6_isTold_4 (by decide) ?_
  refine lv_iload_n hx hb dX6_isTold_5 rfl (lv_at hl 1 rfl) ?_
  refine lv_imul hx hb dX6_isTold_6 ?_
  refine lv_iconst (v := 2) hx hb dX6_isTold_7 (by decide) ?_
  refine lv_iadd hx hb dX6_isTold_8 ?_
  obtain ⟨hg1, h⟩ := h
  refine m_iald C I 11 40 rfl (by decide) hg1 dX6_isTold_9 ?_
  refine lv_topi (fun x2 ex2 => ?_)
  have h := h x2 ex2
  refine lv_istore (lv' := [(4, .int x2), (0, .ref (ad 0)), (1, .int v1), (2, .int v2), (3, .int v3)]) hx hb dX6_isTold_10 hl (by decide) rfl (fun ls hl => ?_)
  refine lv_iload hx hb dX6_isTold_12 (lv_at hl 0 rfl) ?_
  refine lv_iconst (v := 2) hx hb dX6_isTold_14 (by decide) ?_
  refine lv_icmp_ge (tgt := 47) hx hb dX6_isTold_15 (by decide) (fun c => ?_) (fun c => ?_)
  · have h := h.1 c
    exact t6_isTold_b47 C hQ M _ _ _ h I (lv_sub hl [1] rfl)
  · have h := h.2 c
    refine lv_aload_n hx hb dX6_isTold_18 rfl (lv_at hl 1 rfl) ?_
    refine lv_iload_n hx hb dX6_isTold_19 rfl (lv_at hl 3 rfl) ?_
    refine lv_iload_n hx hb dX6_isTold_20 rfl (lv_at hl 4 rfl) ?_
    refine m_calli (As := [.int v2, .int v3]) (rest := []) C I (met6_isAnswer l D T ad v2 v3 M h) (cw6_181 hts ⟨Nat.le_of_ble_eq_true rfl, Nat.le_of_ble_eq_true rfl⟩) rfl hl.1 rfl (Nat.le_of_ble_eq_true rfl) ⟨Nat.zero_le _, Nat.zero_le _⟩ dX6_isTold_21 (fun r3 M4 H locs h I => ?_)
    refine lv_if_ne (tgt := 43) hx hb dX6_isTold_24 (by decide) (fun c => ?_) (fun c => ?_)
    · have h := h.2 c
      exact t6_isTold_b43 C hQ M4 _ _ _ h I (lv_sub hl [1] rfl)
    · have h := h.1 c
      refine lv_iload hx hb dX6_isTold_27 (lv_at hl 0 rfl) ?_
      refine lv_iconst (v := 1) hx hb dX6_isTold_29 (by decide) ?_
      refine lv_icmp_ne (tgt := 47) hx hb dX6_isTold_30 (by decide) (fun c => ?_) (fun c => ?_)
      · have h := h.2 c
        exact t6_isTold_b47 C hQ M4 _ _ _ h I (lv_sub hl [1] rfl)
      · have h := h.1 c
        refine lv_aload_n hx hb dX6_isTold_33 rfl (lv_at hl 1 rfl) ?_
        refine mg_present C I dX6_isTold_34 ?_
        refine lv_iload_n hx hb dX6_isTold_37 rfl (lv_at hl 4 rfl) ?_
        obtain ⟨hg5, h⟩ := h
        refine m_iald C I 25 8 rfl (by decide) hg5 dX6_isTold_38 ?_
        refine lv_iconst (v := 1) hx hb dX6_isTold_39 (by decide) ?_
        refine lv_icmp_le (tgt := 47) hx hb dX6_isTold_40 (by decide) (fun c => ?_) (fun c => ?_)
        · have h := h.1 c
          exact t6_isTold_b47 C hQ M4 _ _ _ h I (lv_sub hl [1] rfl)
        · have h := h.2 c
          exact t6_isTold_b43 C hQ M4 _ _ _ h I (lv_sub hl [1] rfl)
theorem met6_isTold (l : Launch) (D : va_G) (T ad : Nat → Nat) (v1 : Int32) (v2 : Int32) (v3 : Int32) (M : Mem) {Qp : Int32 → Mem → Prop} (h : w6_isTold v1 v2 v3 M Qp) (sz : Nat) : Met l yX6_isTold (ws_ yX6_isTold cX6_isTold 5 (some .boolean)) rX6_isTold (mPc D T ad [.int v1, .int v2, .int v3] M sz) (mQi D T ad M Qp sz) 0 0 (fA (cM T ad M) sz) :=
  m_metZ (As := [.int v1, .int v2, .int v3]) rfl rfl (Nat.le_of_ble_eq_true rfl) (fun p e s m args below meth c A Qs ls C hQ I hl => t6_isTold C hQ v1 v2 v3 M _ _ ls h I hl) sz
/-! next -/
abbrev rX6_next : Room := { frames := 0, cells := 0, slots := 0, locals := 0 }
theorem t6_next_b64 {p : Program} {l : Launch} {e : Env} {s : State} {m : MethodId} {args : Array Value} {below : List Frame} {meth : Method} {c : Code} {D : va_G} {T ad : Nat → Nat} {A : Nat → Prop} {H0 : Heap} {Qs : State → Prop} {Q : Int32 → Mem → Prop} {K2 : Int32 → Int32 → Int32 → Mem → Prop} (C : MC D T p m c cX6_next 4 s args) (hQ : mExi p l e rX6_next s m args below meth c cX6_next D T ad A H0 Qs Q) (hK2 : ∀ (v1 : Int32) (v2 : Int32) (v3 : Int32) (M : Mem) (H : Heap) (locs : List Loc) (ls : Array Slot), K2 v1 v2 v3 M → MI D T ad A H0 M H locs → lv_has ls 4 [(0, .ref (ad 0)), (1, .int v1), (2, .int v2), (3, .int v3)] → W p l e rX6_next s m args below meth c H locs 0 0 Qs (F0 m 2 ls [])) (v1 : Int32) (v2 : Int32) (v3 : Int32) (M : Mem) (H : Heap) (locs : List Loc) (ls : Array Slot) (h : w6_next_b64 Q K2 v1 v2 v3 M) (I : MI D T ad A H0 M H locs) (hl : lv_has ls 4 [(0, .ref (ad 0)), (1, .int v1), (2, .int v2), (3, .int v3)]) : W p l e rX6_next s m args below meth c H locs 0 0 Qs (F0 m 64 ls []) := by
  have hx := C.1.1
  have hb := C.1.2.1
  have how := C.1.2.2.2.1
  have hts := C.1.2.2.2.2
  unfold w6_next_b64 at h
  refine lv_iinc (v := (v3 + 1)) (lv' := [(3, .int (v3 + 1)), (0, .ref (ad 0)), (1, .int v1), (2, .int v2)]) hx hb dX6_next_64 hl (k := 3) rfl (ii_1 _) (by decide) rfl (fun ls hl => ?_)
  refine lv_goto (tgt := 2) hx hb dX6_next_67 (by decide) ?_
  exact hK2 v1 v2 (v3 + 1) M _ _ _ h I (lv_sub hl [1, 2, 3, 0] rfl)
theorem t6_next_b2_f {p : Program} {l : Launch} {e : Env} {s : State} {m : MethodId} {args : Array Value} {below : List Frame} {meth : Method} {c : Code} {D : va_G} {T ad : Nat → Nat} {A : Nat → Prop} {H0 : Heap} {Qs : State → Prop} {Q : Int32 → Mem → Prop} {K2 : Int32 → Int32 → Int32 → Mem → Prop} (C : MC D T p m c cX6_next 4 s args) (hQ : mExi p l e rX6_next s m args below meth c cX6_next D T ad A H0 Qs Q) (hK2 : ∀ (v1 : Int32) (v2 : Int32) (v3 : Int32) (M : Mem) (H : Heap) (locs : List Loc) (ls : Array Slot), K2 v1 v2 v3 M → MI D T ad A H0 M H locs → lv_has ls 4 [(0, .ref (ad 0)), (1, .int v1), (2, .int v2), (3, .int v3)] → W p l e rX6_next s m args below meth c H locs 0 0 Qs (F0 m 2 ls [])) (v1 : Int32) (v2 : Int32) (v3 : Int32) (M : Mem) (H : Heap) (locs : List Loc) (ls : Array Slot) (h : w6_next_b2_f Q K2 v1 v2 v3 M) (I : MI D T ad A H0 M H locs) (hl : lv_has ls 4 [(0, .ref (ad 0)), (1, .int v1), (2, .int v2), (3, .int v3)]) : W p l e rX6_next s m args below meth c H locs 0 0 Qs (F0 m 2 ls []) := by
  have hx := C.1.1
  have hb := C.1.2.1
  have how := C.1.2.2.2.1
  have hts := C.1.2.2.2.2
  unfold w6_next_b2_f at h
  refine lv_iload_n hx hb dX6_next_2 rfl (lv_at hl 3 rfl) ?_
  refine lv_bipush (v := 8) hx hb dX6_next_3 (by decide) ?_
  refine lv_icmp_ge (tgt := 70) hx hb dX6_next_5 (by decide) (fun c => ?_) (fun c => ?_)
  · have h := h.1 c
    refine lv_iconst (v := -1) hx hb dX6_next_70 (by decide) ?_
    exact hQ _ _ _ _ _ _ h I dX6_next_71
  · have h := h.2 c
    refine lv_aload_n hx hb dX6_next_8 rfl (lv_at hl 0 rfl) ?_
    refine mg_step C I dX6_next_9 ?_
    refine lv_bipush (v := 8) hx hb dX6_next_12 (by decide) ?_
    refine lv_iload_n hx hb dX6_next_14 rfl (lv_at hl 1 rfl) ?_
    refine lv_imul hx hb dX6_next_15 ?_
    refine lv_iload_n hx hb dX6_next_16 rfl (lv_at hl 3 rfl) ?_
    refine lv_iadd hx hb dX6_next_17 ?_
    obtain ⟨hg1, h⟩ := h
    refine m_iald C I 16 64 rfl (by decide) hg1 dX6_next_18 ?_
    refine lv_sipush (v := 9999) hx hb dX6_next_19 (by decide) ?_
    refine lv_icmp_ge (tgt := 64) hx hb dX6_next_22 (by decide) (fun c => ?_) (fun c => ?_)
    · have h := h.1 c
      exact t6_next_b64 C hQ hK2 v1 v2 v3 M _ _ _ h I (lv_sub hl [0, 1, 2, 3] rfl)
    · have h := h.2 c
      refine lv_aload_n hx hb dX6_next_25 rfl (lv_at hl 0 rfl) ?_
      refine mg_step C I dX6_next_26 ?_
      refine lv_bipush (v := 8) hx hb dX6_next_29 (by decide) ?_
      refine lv_iload_n hx hb dX6_next_31 rfl (lv_at hl 1 rfl) ?_
      refine lv_imul hx hb dX6_next_32 ?_
      refine lv_iload_n hx hb dX6_next_33 rfl (lv_at hl 3 rfl) ?_
      refine lv_iadd hx hb dX6_next_34 ?_
      refine m_iald C I 16 64 rfl (by decide) hg1 dX6_next_35 ?_
      refine lv_aload_n hx hb dX6_next_36 rfl (lv_at hl 0 rfl) ?_
      refine mg_far C I dX6_next_37 ?_
      refine lv_bipush (v := 8) hx hb dX6_next_40 (by decide) ?_
      refine lv_iload_n hx hb dX6_next_42 rfl (lv_at hl 3 rfl) ?_
      refine lv_imul hx hb dX6_next_43 ?_
      refine lv_iload_n hx hb dX6_next_44 rfl (lv_at hl 2 rfl) ?_
      refine lv_iadd hx hb dX6_next_45 ?_
      obtain ⟨hg2, h⟩ := h
      refine m_iald C I 17 64 rfl (by decide) hg2 dX6_next_46 ?_
      refine lv_iadd hx hb dX6_next_47 ?_
      refine lv_aload_n hx hb dX6_next_48 rfl (lv_at hl 0 rfl) ?_
      refine mg_far C I dX6_next_49 ?_
      refine lv_bipush (v := 8) hx hb dX6_next_52 (by decide) ?_
      refine lv_iload_n hx hb dX6_next_54 rfl (lv_at hl 1 rfl) ?_
      refine lv_imul hx hb dX6_next_55 ?_
      refine lv_iload_n hx hb dX6_next_56 rfl (lv_at hl 2 rfl) ?_
      refine lv_iadd hx hb dX6_next_57 ?_
      obtain ⟨hg3, h⟩ := h
      refine m_iald C I 17 64 rfl (by decide) hg3 dX6_next_58 ?_
      refine lv_icmp_ne (tgt := 64) hx hb dX6_next_59 (by decide) (fun c => ?_) (fun c => ?_)
      · have h := h.2 c
        exact t6_next_b64 C hQ hK2 v1 v2 v3 M _ _ _ h I (lv_sub hl [0, 1, 2, 3] rfl)
      · have h := h.1 c
        refine lv_iload_n hx hb dX6_next_62 rfl (lv_at hl 3 rfl) ?_
        exact hQ _ _ _ _ _ _ h I dX6_next_63
theorem t6_next_b2 {p : Program} {l : Launch} {e : Env} {s : State} {m : MethodId} {args : Array Value} {below : List Frame} {meth : Method} {c : Code} {D : va_G} {T ad : Nat → Nat} {A : Nat → Prop} {H0 : Heap} {Qs : State → Prop} {Q : Int32 → Mem → Prop}  (C : MC D T p m c cX6_next 4 s args) (hQ : mExi p l e rX6_next s m args below meth c cX6_next D T ad A H0 Qs Q)  : ∀ (n : Nat) (v1 : Int32) (v2 : Int32) (v3 : Int32) (M : Mem) (H : Heap) (locs : List Loc) (ls : Array Slot), w6_next_b2 Q n v1 v2 v3 M → MI D T ad A H0 M H locs → lv_has ls 4 [(0, .ref (ad 0)), (1, .int v1), (2, .int v2), (3, .int v3)] → W p l e rX6_next s m args below meth c H locs 0 0 Qs (F0 m 2 ls []) := by
  intro n
  induction n with
  | zero => intro v1 v2 v3 M H locs ls h; exact h.elim
  | succ n ih => intro v1 v2 v3 M H locs ls h I hl; exact t6_next_b2_f C hQ  ih v1 v2 v3 M H locs ls h I hl
theorem t6_next {p : Program} {l : Launch} {e : Env} {s : State} {m : MethodId} {args : Array Value} {below : List Frame} {meth : Method} {c : Code} {D : va_G} {T ad : Nat → Nat} {A : Nat → Prop} {H0 : Heap} {Qs : State → Prop} {Q : Int32 → Mem → Prop} (C : MC D T p m c cX6_next 4 s args) (hQ : mExi p l e rX6_next s m args below meth c cX6_next D T ad A H0 Qs Q) (v1 : Int32) (v2 : Int32) (M : Mem) (H : Heap) (locs : List Loc) (ls : Array Slot) (h : w6_next v1 v2 M Q) (I : MI D T ad A H0 M H locs) (hl : lv_has ls 4 [(0, .ref (ad 0)), (1, .int v1), (2, .int v2)]) : W p l e rX6_next s m args below meth c H locs 0 0 Qs (F0 m 0 ls []) := by
  have hx := C.1.1
  have hb := C.1.2.1
  have how := C.1.2.2.2.1
  have hts := C.1.2.2.2.2
  unfold w6_next at h
  refine lv_iconst (v := 0) hx hb dX6_next_0 (by decide) ?_
  refine lv_istore_n (lv' := [(3, .int 0), (0, .ref (ad 0)), (1, .int v1), (2, .int v2)]) hx hb dX6_next_1 rfl hl (by decide) rfl (fun ls hl => ?_)
  obtain ⟨n, h⟩ := h
  exact t6_next_b2 C hQ n v1 v2 0 M _ _ _ h I (lv_sub hl [1, 2, 3, 0] rfl)
theorem met6_next (l : Launch) (D : va_G) (T ad : Nat → Nat) (v1 : Int32) (v2 : Int32) (M : Mem) {Qp : Int32 → Mem → Prop} (h : w6_next v1 v2 M Qp) (sz : Nat) : Met l yX6_next (ws_ yX6_next cX6_next 4 (some .int)) rX6_next (mPc D T ad [.int v1, .int v2] M sz) (mQi D T ad M Qp sz) 0 0 (fA (cM T ad M) sz) :=
  m_metI (As := [.int v1, .int v2]) rfl rfl (Nat.le_of_ble_eq_true rfl) (fun p e s m args below meth c A Qs ls C hQ I hl => t6_next C hQ v1 v2 M _ _ ls h I hl) sz
/-! goesOn -/
abbrev rX6_goesOn : Room := { frames := 3, cells := 0, slots := 0, locals := 69 }
theorem cw6_184 {R : Room} {s : State} {args : Array Value} (hts : ∀ w ∈ lw_all, w.before args s = true) (hR : rX6_stays.frames + 1 ≤ R.frames ∧ 8 + (4 + 11) + rX6_stays.locals ≤ R.locals) : CallW R s args RX6 RX6 184 yX6_stays cX6_stays 4 none (ws_ yX6_stays cX6_stays 4 none) rX6_stays 0 0 3 := cwV 3 hts (lw_V q1162 q1164 qs62 q95 q1165) rfl rfl rfl (by decide +kernel) hR
theorem cw6_188 {R : Room} {s : State} {args : Array Value} (hts : ∀ w ∈ lw_all, w.before args s = true) (hR : rX6_isTold.frames + 1 ≤ R.frames ∧ 8 + (5 + 11) + rX6_isTold.locals ≤ R.locals) : CallW R s args RX6 RX6 188 yX6_isTold cX6_isTold 5 (some .boolean) (ws_ yX6_isTold cX6_isTold 5 (some .boolean)) rX6_isTold 0 0 3 := cwV 3 hts (lw_V q1166 q1168 qs63 q95 q1169) rfl rfl rfl (by decide +kernel) hR
theorem cw6_192 {R : Room} {s : State} {args : Array Value} (hts : ∀ w ∈ lw_all, w.before args s = true) (hR : rX6_next.frames + 1 ≤ R.frames ∧ 8 + (4 + 11) + rX6_next.locals ≤ R.locals) : CallW R s args RX6 RX6 192 yX6_next cX6_next 4 (some .int) (ws_ yX6_next cX6_next 4 (some .int)) rX6_next 0 0 2 := cwV 2 hts (lw_V q1177 q1179 qs65 q95 q1180) rfl rfl rfl (by decide +kernel) hR
theorem t6_goesOn_b191 {p : Program} {l : Launch} {e : Env} {s : State} {m : MethodId} {args : Array Value} {below : List Frame} {meth : Method} {c : Code} {D : va_G} {T ad : Nat → Nat} {A : Nat → Prop} {H0 : Heap} {Qs : State → Prop} {Q : Mem → Prop}  (C : MC D T p m c cX6_goesOn 7 s args) (hQ : mExv p l e rX6_goesOn s m args below meth c cX6_goesOn D T ad A H0 Qs Q)   (M : Mem) (H : Heap) (locs : List Loc) (ls : Array Slot) (h : w6_goesOn_b191 Q M) (I : MI D T ad A H0 M H locs) (hl : lv_has ls 7 [(0, .ref (ad 0))]) : W p l e rX6_goesOn s m args below meth c H locs 0 0 Qs (F0 m 191 ls []) := by
  have hx := C.1.1
  have hb := C.1.2.1
  have how := C.1.2.2.2.1
  have hts := C.1.2.2.2.2
  unfold w6_goesOn_b191 at h
  exact hQ _ _ _ _ _ h I dX6_goesOn_191
theorem t6_goesOn {p : Program} {l : Launch} {e : Env} {s : State} {m : MethodId} {args : Array Value} {below : List Frame} {meth : Method} {c : Code} {D : va_G} {T ad : Nat → Nat} {A : Nat → Prop} {H0 : Heap} {Qs : State → Prop} {Q : Mem → Prop} (C : MC D T p m c cX6_goesOn 7 s args) (hQ : mExv p l e rX6_goesOn s m args below meth c cX6_goesOn D T ad A H0 Qs Q) (v1 : Int32) (v2 : Int32) (M : Mem) (H : Heap) (locs : List Loc) (ls : Array Slot) (h : w6_goesOn v1 v2 M Q) (I : MI D T ad A H0 M H locs) (hl : lv_has ls 7 [(0, .ref (ad 0)), (1, .int v1), (2, .int v2)]) : W p l e rX6_goesOn s m args below meth c H locs 0 0 Qs (F0 m 0 ls []) := by
  have hx := C.1.1
  have hb := C.1.2.1
  have how := C.1.2.2.2.1
  have hts := C.1.2.2.2.2
  unfold w6_goesOn at h
  refine lv_aload_n hx hb dX6_goesOn_0 rfl (lv_at hl 0 rfl) ?_
  refine mg_place C I dX6_goesOn_1 ?_
  refine lv_iload_n hx hb dX6_goesOn_4 rfl (lv_at hl 1 rfl) ?_
  obtain ⟨hg1, h⟩ := h
  refine m_iald C I 19 8 rfl (by decide) hg1 dX6_goesOn_5 ?_
  refine lv_istore_n (lv' := [(3, .int (M 19 (ci v1))), (0, .ref (ad 0)), (1, .int v1), (2, .int v2)]) hx hb dX6_goesOn_6 rfl hl (by decide) rfl (fun ls hl => ?_)
  refine lv_aload_n hx hb dX6_goesOn_7 rfl (lv_at hl 1 rfl) ?_
  refine mg_carter C I dX6_goesOn_8 ?_
  refine lv_iconst (v := 5) hx hb dX6_goesOn_11 (by decide) ?_
  refine lv_iload_n hx hb dX6_goesOn_12 rfl (lv_at hl 2 rfl) ?_
  refine lv_imul hx hb dX6_goesOn_13 ?_
  refine lv_iconst (v := 1) hx hb dX6_goesOn_14 (by decide) ?_
  refine lv_iadd hx hb dX6_goesOn_15 ?_
  obtain ⟨hg2, h⟩ := h
  refine m_iald C I 11 40 rfl (by decide) hg2 dX6_goesOn_16 ?_
  refine lv_topi (fun x3 ex3 => ?_)
  have h := h x3 ex3
  refine lv_istore (lv' := [(4, .int x3), (3, .int (M 19 (ci v1))), (0, .ref (ad 0)), (1, .int v1), (2, .int v2)]) hx hb dX6_goesOn_17 hl (by decide) rfl (fun ls hl => ?_)
  refine lv_iload_n hx hb dX6_goesOn_19 rfl (lv_at hl 1 rfl) ?_
  refine lv_iload hx hb dX6_goesOn_20 (lv_at hl 0 rfl) ?_
  refine lv_icmp_ne (tgt := 35) hx hb dX6_goesOn_22 (by decide) (fun c => ?_) (fun c => ?_)
  · have h := h.2 c
    refine lv_aload_n hx hb dX6_goesOn_35 rfl (lv_at hl 2 rfl) ?_
    refine lv_iload_n hx hb dX6_goesOn_36 rfl (lv_at hl 3 rfl) ?_
    refine lv_iload_n hx hb dX6_goesOn_37 rfl (lv_at hl 4 rfl) ?_
    refine lv_iload_n hx hb dX6_goesOn_38 rfl (lv_at hl 1 rfl) ?_
    refine m_calli (As := [.int v1, .int v2, .int (M 19 (ci v1))]) (rest := []) C I (met6_isTold l D T ad v1 v2 (M 19 (ci v1)) M h) (cw6_188 hts ⟨Nat.le_of_ble_eq_true rfl, Nat.le_of_ble_eq_true rfl⟩) rfl hl.1 rfl (Nat.le_of_ble_eq_true rfl) ⟨Nat.zero_le _, Nat.zero_le _⟩ dX6_goesOn_39 (fun r5 M6 H locs h I => ?_)
    refine lv_if_eq (tgt := 55) hx hb dX6_goesOn_42 (by decide) (fun c => ?_) (fun c => ?_)
    · have h := h.1 c
      refine lv_aload_n hx hb dX6_goesOn_55 rfl (lv_at hl 2 rfl) ?_
      refine mg_far C I dX6_goesOn_56 ?_
      refine lv_bipush (v := 8) hx hb dX6_goesOn_59 (by decide) ?_
      refine lv_iload_n hx hb dX6_goesOn_61 rfl (lv_at hl 1 rfl) ?_
      refine lv_imul hx hb dX6_goesOn_62 ?_
      refine lv_iload hx hb dX6_goesOn_63 (lv_at hl 0 rfl) ?_
      refine lv_iadd hx hb dX6_goesOn_65 ?_
      obtain ⟨hg7, h⟩ := h
      refine m_iald C I 17 64 rfl (by decide) hg7 dX6_goesOn_66 ?_
      refine lv_sipush (v := 9999) hx hb dX6_goesOn_67 (by decide) ?_
      refine lv_icmp_lt (tgt := 83) hx hb dX6_goesOn_70 (by decide) (fun c => ?_) (fun c => ?_)
      · have h := h.1 c
        refine lv_aload_n hx hb dX6_goesOn_83 rfl (lv_at hl 2 rfl) ?_
        refine lv_iload_n hx hb dX6_goesOn_84 rfl (lv_at hl 1 rfl) ?_
        refine lv_iload hx hb dX6_goesOn_85 (lv_at hl 0 rfl) ?_
        refine m_calli (As := [.int (M 19 (ci v1)), .int x3]) (rest := []) C I (met6_next l D T ad (M 19 (ci v1)) x3 M6 h) (cw6_192 hts ⟨Nat.le_of_ble_eq_true rfl, Nat.le_of_ble_eq_true rfl⟩) rfl hl.1 rfl (Nat.le_of_ble_eq_true rfl) ⟨Nat.zero_le _, Nat.zero_le _⟩ dX6_goesOn_87 (fun r8 M9 H locs h I => ?_)
        refine lv_istore (lv' := [(5, .int r8), (4, .int x3), (3, .int (M 19 (ci v1))), (0, .ref (ad 0)), (1, .int v1), (2, .int v2)]) hx hb dX6_goesOn_90 hl (by decide) rfl (fun ls hl => ?_)
        refine lv_aload_n hx hb dX6_goesOn_92 rfl (lv_at hl 3 rfl) ?_
        refine mg_step C I dX6_goesOn_93 ?_
        refine lv_bipush (v := 8) hx hb dX6_goesOn_96 (by decide) ?_
        refine lv_iload_n hx hb dX6_goesOn_98 rfl (lv_at hl 2 rfl) ?_
        refine lv_imul hx hb dX6_goesOn_99 ?_
        refine lv_iload hx hb dX6_goesOn_100 (lv_at hl 0 rfl) ?_
        refine lv_iadd hx hb dX6_goesOn_102 ?_
        obtain ⟨hg10, h⟩ := h
        refine m_iald C I 16 64 rfl (by decide) hg10 dX6_goesOn_103 ?_
        refine lv_aload_n hx hb dX6_goesOn_104 rfl (lv_at hl 3 rfl) ?_
        refine mg_carter C I dX6_goesOn_105 ?_
        refine lv_iconst (v := 5) hx hb dX6_goesOn_108 (by decide) ?_
        refine lv_iload_n hx hb dX6_goesOn_109 rfl (lv_at hl 4 rfl) ?_
        refine lv_imul hx hb dX6_goesOn_110 ?_
        refine lv_iconst (v := 4) hx hb dX6_goesOn_111 (by decide) ?_
        refine lv_iadd hx hb dX6_goesOn_112 ?_
        obtain ⟨hg11, h⟩ := h
        refine m_iald C I 11 40 rfl (by decide) hg11 dX6_goesOn_113 ?_
        refine lv_iadd hx hb dX6_goesOn_114 ?_
        refine lv_topi (fun x12 ex12 => ?_)
        have h := h x12 ex12
        refine lv_istore (lv' := [(6, .int x12), (5, .int r8), (4, .int x3), (3, .int (M 19 (ci v1))), (0, .ref (ad 0)), (1, .int v1), (2, .int v2)]) hx hb dX6_goesOn_115 hl (by decide) rfl (fun ls hl => ?_)
        refine lv_aload_n hx hb dX6_goesOn_117 rfl (lv_at hl 4 rfl) ?_
        refine mg_strength C I dX6_goesOn_118 ?_
        refine lv_iload_n hx hb dX6_goesOn_121 rfl (lv_at hl 5 rfl) ?_
        refine m_iald C I 20 8 rfl (by decide) hg1 dX6_goesOn_122 ?_
        refine lv_iload hx hb dX6_goesOn_123 (lv_at hl 0 rfl) ?_
        refine lv_icmp_ge (tgt := 138) hx hb dX6_goesOn_125 (by decide) (fun c => ?_) (fun c => ?_)
        · have h := h.1 c
          refine lv_aload_n hx hb dX6_goesOn_138 rfl (lv_at hl 4 rfl) ?_
          refine mg_strength C I dX6_goesOn_139 ?_
          refine lv_iload_n hx hb dX6_goesOn_142 rfl (lv_at hl 5 rfl) ?_
          refine lv_dup2_11 hx hb dX6_goesOn_143 rfl rfl ?_
          refine m_iald C I 20 8 rfl (by decide) hg1 dX6_goesOn_144 ?_
          refine lv_iload hx hb dX6_goesOn_145 (lv_at hl 0 rfl) ?_
          refine lv_isub hx hb dX6_goesOn_147 ?_
          refine m_iast C I 20 8 rfl (by decide) hg1 dX6_goesOn_148 (fun M13 H locs eM13 I => ?_)
          have h := h M13 eM13
          refine lv_aload_n hx hb dX6_goesOn_149 rfl (lv_at hl 4 rfl) ?_
          refine mg_state C I dX6_goesOn_150 ?_
          refine lv_iload_n hx hb dX6_goesOn_153 rfl (lv_at hl 5 rfl) ?_
          refine lv_iconst (v := 1) hx hb dX6_goesOn_154 (by decide) ?_
          refine m_iast C I 18 8 rfl (by decide) hg1 dX6_goesOn_155 (fun M14 H locs eM14 I => ?_)
          have h := h M14 eM14
          refine lv_aload_n hx hb dX6_goesOn_156 rfl (lv_at hl 4 rfl) ?_
          refine mg_place C I dX6_goesOn_157 ?_
          refine lv_iload_n hx hb dX6_goesOn_160 rfl (lv_at hl 5 rfl) ?_
          refine lv_iconst (v := -1) hx hb dX6_goesOn_161 (by decide) ?_
          refine m_iast C I 19 8 rfl (by decide) hg1 dX6_goesOn_162 (fun M15 H locs eM15 I => ?_)
          have h := h M15 eM15
          refine lv_aload_n hx hb dX6_goesOn_163 rfl (lv_at hl 4 rfl) ?_
          refine mg_whither C I dX6_goesOn_164 ?_
          refine lv_iload_n hx hb dX6_goesOn_167 rfl (lv_at hl 5 rfl) ?_
          refine lv_iload hx hb dX6_goesOn_168 (lv_at hl 1 rfl) ?_
          refine m_iast C I 21 8 rfl (by decide) hg1 dX6_goesOn_170 (fun M16 H locs eM16 I => ?_)
          have h := h M16 eM16
          refine lv_aload_n hx hb dX6_goesOn_171 rfl (lv_at hl 4 rfl) ?_
          refine mg_arrives C I dX6_goesOn_172 ?_
          refine lv_iload_n hx hb dX6_goesOn_175 rfl (lv_at hl 5 rfl) ?_
          refine lv_iload_n hx hb dX6_goesOn_176 rfl (lv_at hl 6 rfl) ?_
          refine lv_aload_n hx hb dX6_goesOn_177 rfl (lv_at hl 4 rfl) ?_
          refine mg_step C I dX6_goesOn_178 ?_
          refine lv_bipush (v := 8) hx hb dX6_goesOn_181 (by decide) ?_
          refine lv_iload_n hx hb dX6_goesOn_183 rfl (lv_at hl 3 rfl) ?_
          refine lv_imul hx hb dX6_goesOn_184 ?_
          refine lv_iload hx hb dX6_goesOn_185 (lv_at hl 1 rfl) ?_
          refine lv_iadd hx hb dX6_goesOn_187 ?_
          refine m_iald C I 16 64 rfl (by decide) hg10 dX6_goesOn_188 ?_
          refine lv_iadd hx hb dX6_goesOn_189 ?_
          refine m_iast C I 22 8 rfl (by decide) hg1 dX6_goesOn_190 (fun M17 H locs eM17 I => ?_)
          have h := h M17 eM17
          exact t6_goesOn_b191 C hQ M17 _ _ _ h I (lv_sub hl [4] rfl)
        · have h := h.2 c
          refine lv_aload_n hx hb dX6_goesOn_128 rfl (lv_at hl 4 rfl) ?_
          refine lv_iload_n hx hb dX6_goesOn_129 rfl (lv_at hl 5 rfl) ?_
          refine lv_iload_n hx hb dX6_goesOn_130 rfl (lv_at hl 6 rfl) ?_
          refine lv_iconst (v := 4) hx hb dX6_goesOn_131 (by decide) ?_
          refine m_callv (As := [.int v1, .int v2, .int 4]) (rest := []) C I (met6_stays l D T ad v1 v2 4 M9 h) (cw6_184 hts ⟨Nat.le_of_ble_eq_true rfl, Nat.le_of_ble_eq_true rfl⟩) rfl hl.1 rfl (Nat.le_of_ble_eq_true rfl) ⟨Nat.zero_le _, Nat.zero_le _⟩ dX6_goesOn_132 (fun M18 H locs h I => ?_)
          refine lv_goto (tgt := 191) hx hb dX6_goesOn_135 (by decide) ?_
          exact t6_goesOn_b191 C hQ M18 _ _ _ h I (lv_sub hl [4] rfl)
      · have h := h.2 c
        refine lv_aload_n hx hb dX6_goesOn_73 rfl (lv_at hl 2 rfl) ?_
        refine lv_iload_n hx hb dX6_goesOn_74 rfl (lv_at hl 3 rfl) ?_
        refine lv_iload_n hx hb dX6_goesOn_75 rfl (lv_at hl 4 rfl) ?_
        refine lv_iconst (v := 5) hx hb dX6_goesOn_76 (by decide) ?_
        refine m_callv (As := [.int v1, .int v2, .int 5]) (rest := []) C I (met6_stays l D T ad v1 v2 5 M6 h) (cw6_184 hts ⟨Nat.le_of_ble_eq_true rfl, Nat.le_of_ble_eq_true rfl⟩) rfl hl.1 rfl (Nat.le_of_ble_eq_true rfl) ⟨Nat.zero_le _, Nat.zero_le _⟩ dX6_goesOn_77 (fun M19 H locs h I => ?_)
        refine lv_goto (tgt := 191) hx hb dX6_goesOn_80 (by decide) ?_
        exact t6_goesOn_b191 C hQ M19 _ _ _ h I (lv_sub hl [2] rfl)
    · have h := h.2 c
      refine lv_aload_n hx hb dX6_goesOn_45 rfl (lv_at hl 2 rfl) ?_
      refine lv_iload_n hx hb dX6_goesOn_46 rfl (lv_at hl 3 rfl) ?_
      refine lv_iload_n hx hb dX6_goesOn_47 rfl (lv_at hl 4 rfl) ?_
      refine lv_iconst (v := 3) hx hb dX6_goesOn_48 (by decide) ?_
      refine m_callv (As := [.int v1, .int v2, .int 3]) (rest := []) C I (met6_stays l D T ad v1 v2 3 M6 h) (cw6_184 hts ⟨Nat.le_of_ble_eq_true rfl, Nat.le_of_ble_eq_true rfl⟩) rfl hl.1 rfl (Nat.le_of_ble_eq_true rfl) ⟨Nat.zero_le _, Nat.zero_le _⟩ dX6_goesOn_49 (fun M20 H locs h I => ?_)
      refine lv_goto (tgt := 191) hx hb dX6_goesOn_52 (by decide) ?_
      exact t6_goesOn_b191 C hQ M20 _ _ _ h I (lv_sub hl [2] rfl)
  · have h := h.1 c
    refine lv_aload_n hx hb dX6_goesOn_25 rfl (lv_at hl 2 rfl) ?_
    refine lv_iload_n hx hb dX6_goesOn_26 rfl (lv_at hl 3 rfl) ?_
    refine lv_iload_n hx hb dX6_goesOn_27 rfl (lv_at hl 4 rfl) ?_
    refine lv_iconst (v := 2) hx hb dX6_goesOn_28 (by decide) ?_
    refine m_callv (As := [.int v1, .int v2, .int 2]) (rest := []) C I (met6_stays l D T ad v1 v2 2 M h) (cw6_184 hts ⟨Nat.le_of_ble_eq_true rfl, Nat.le_of_ble_eq_true rfl⟩) rfl hl.1 rfl (Nat.le_of_ble_eq_true rfl) ⟨Nat.zero_le _, Nat.zero_le _⟩ dX6_goesOn_29 (fun M4 H locs h I => ?_)
    refine lv_goto (tgt := 191) hx hb dX6_goesOn_32 (by decide) ?_
    exact t6_goesOn_b191 C hQ M4 _ _ _ h I (lv_sub hl [2] rfl)
theorem met6_goesOn (l : Launch) (D : va_G) (T ad : Nat → Nat) (v1 : Int32) (v2 : Int32) (M : Mem) {Qp : Mem → Prop} (h : w6_goesOn v1 v2 M Qp) (sz : Nat) : Met l yX6_goesOn (ws_ yX6_goesOn cX6_goesOn 7 none) rX6_goesOn (mPc D T ad [.int v1, .int v2] M sz) (mQv D T ad M Qp sz) 0 0 (fA (cM T ad M) sz) :=
  m_metV (As := [.int v1, .int v2]) rfl rfl (Nat.le_of_ble_eq_true rfl) (fun p e s m args below meth c A Qs ls C hQ I hl => t6_goesOn C hQ v1 v2 M _ _ ls h I hl) sz
/-! keeps -/
abbrev rX6_keeps : Room := { frames := 0, cells := 0, slots := 0, locals := 0 }
theorem t6_keeps_b105 {p : Program} {l : Launch} {e : Env} {s : State} {m : MethodId} {args : Array Value} {below : List Frame} {meth : Method} {c : Code} {D : va_G} {T ad : Nat → Nat} {A : Nat → Prop} {H0 : Heap} {Qs : State → Prop} {Q : Mem → Prop} {K2 : Int32 → Int32 → Mem → Prop} (C : MC D T p m c cX6_keeps 3 s args) (hQ : mExv p l e rX6_keeps s m args below meth c cX6_keeps D T ad A H0 Qs Q) (hK2 : ∀ (v1 : Int32) (v2 : Int32) (M : Mem) (H : Heap) (locs : List Loc) (ls : Array Slot), K2 v1 v2 M → MI D T ad A H0 M H locs → lv_has ls 3 [(0, .ref (ad 0)), (1, .int v1), (2, .int v2)] → W p l e rX6_keeps s m args below meth c H locs 0 0 Qs (F0 m 2 ls [])) (v1 : Int32) (v2 : Int32) (s1 : Int32) (s2 : Int32) (M : Mem) (H : Heap) (locs : List Loc) (ls : Array Slot) (h : w6_keeps_b105 Q K2 v1 v2 s1 s2 M) (I : MI D T ad A H0 M H locs) (hl : lv_has ls 3 [(0, .ref (ad 0)), (1, .int v1), (2, .int v2)]) : W p l e rX6_keeps s m args below meth c H locs 0 0 Qs (F0 m 105 ls [.int s2, .int s1, .ref (ad 24)]) := by
  have hx := C.1.1
  have hb := C.1.2.1
  have how := C.1.2.2.2.1
  have hts := C.1.2.2.2.2
  unfold w6_keeps_b105 at h
  obtain ⟨hg1, h⟩ := h
  refine m_iast C I 24 1280 rfl (by decide) hg1 dX6_keeps_105 (fun M2 H locs eM2 I => ?_)
  have h := h M2 eM2
  refine lv_iinc (v := (v2 + 1)) (lv' := [(2, .int (v2 + 1)), (0, .ref (ad 0)), (1, .int v1)]) hx hb dX6_keeps_106 hl (k := 2) rfl (ii_1 _) (by decide) rfl (fun ls hl => ?_)
  refine lv_goto (tgt := 2) hx hb dX6_keeps_109 (by decide) ?_
  exact hK2 v1 (v2 + 1) M2 _ _ _ h I (lv_sub hl [1, 2, 0] rfl)
theorem t6_keeps_b2_f {p : Program} {l : Launch} {e : Env} {s : State} {m : MethodId} {args : Array Value} {below : List Frame} {meth : Method} {c : Code} {D : va_G} {T ad : Nat → Nat} {A : Nat → Prop} {H0 : Heap} {Qs : State → Prop} {Q : Mem → Prop} {K2 : Int32 → Int32 → Mem → Prop} (C : MC D T p m c cX6_keeps 3 s args) (hQ : mExv p l e rX6_keeps s m args below meth c cX6_keeps D T ad A H0 Qs Q) (hK2 : ∀ (v1 : Int32) (v2 : Int32) (M : Mem) (H : Heap) (locs : List Loc) (ls : Array Slot), K2 v1 v2 M → MI D T ad A H0 M H locs → lv_has ls 3 [(0, .ref (ad 0)), (1, .int v1), (2, .int v2)] → W p l e rX6_keeps s m args below meth c H locs 0 0 Qs (F0 m 2 ls [])) (v1 : Int32) (v2 : Int32) (M : Mem) (H : Heap) (locs : List Loc) (ls : Array Slot) (h : w6_keeps_b2_f Q K2 v1 v2 M) (I : MI D T ad A H0 M H locs) (hl : lv_has ls 3 [(0, .ref (ad 0)), (1, .int v1), (2, .int v2)]) : W p l e rX6_keeps s m args below meth c H locs 0 0 Qs (F0 m 2 ls []) := by
  have hx := C.1.1
  have hb := C.1.2.1
  have how := C.1.2.2.2.1
  have hts := C.1.2.2.2.2
  unfold w6_keeps_b2_f at h
  refine lv_iload_n hx hb dX6_keeps_2 rfl (lv_at hl 2 rfl) ?_
  refine lv_aload_n hx hb dX6_keeps_3 rfl (lv_at hl 0 rfl) ?_
  refine mg_carters C I dX6_keeps_4 ?_
  refine lv_icmp_ge (tgt := 112) hx hb dX6_keeps_7 (by decide) (fun c => ?_) (fun c => ?_)
  · have h := h.1 c
    exact hQ _ _ _ _ _ h I dX6_keeps_112
  · have h := h.2 c
    refine lv_aload_n hx hb dX6_keeps_10 rfl (lv_at hl 0 rfl) ?_
    refine mg_kept C I dX6_keeps_11 ?_
    refine lv_bipush (v := 32) hx hb dX6_keeps_14 (by decide) ?_
    refine lv_iload_n hx hb dX6_keeps_16 rfl (lv_at hl 1 rfl) ?_
    refine lv_imul hx hb dX6_keeps_17 ?_
    refine lv_iconst (v := 4) hx hb dX6_keeps_18 (by decide) ?_
    refine lv_iload_n hx hb dX6_keeps_19 rfl (lv_at hl 2 rfl) ?_
    refine lv_imul hx hb dX6_keeps_20 ?_
    refine lv_iadd hx hb dX6_keeps_21 ?_
    refine lv_aload_n hx hb dX6_keeps_22 rfl (lv_at hl 0 rfl) ?_
    refine mg_state C I dX6_keeps_23 ?_
    refine lv_iload_n hx hb dX6_keeps_26 rfl (lv_at hl 2 rfl) ?_
    obtain ⟨hg3, h⟩ := h
    refine m_iald C I 18 8 rfl (by decide) hg3 dX6_keeps_27 ?_
    obtain ⟨hg4, h⟩ := h
    refine m_iast C I 24 1280 rfl (by decide) hg4 dX6_keeps_28 (fun M5 H locs eM5 I => ?_)
    have h := h M5 eM5
    refine lv_aload_n hx hb dX6_keeps_29 rfl (lv_at hl 0 rfl) ?_
    refine mg_kept C I dX6_keeps_30 ?_
    refine lv_bipush (v := 32) hx hb dX6_keeps_33 (by decide) ?_
    refine lv_iload_n hx hb dX6_keeps_35 rfl (lv_at hl 1 rfl) ?_
    refine lv_imul hx hb dX6_keeps_36 ?_
    refine lv_iconst (v := 4) hx hb dX6_keeps_37 (by decide) ?_
    refine lv_iload_n hx hb dX6_keeps_38 rfl (lv_at hl 2 rfl) ?_
    refine lv_imul hx hb dX6_keeps_39 ?_
    refine lv_iadd hx hb dX6_keeps_40 ?_
    refine lv_iconst (v := 1) hx hb dX6_keeps_41 (by decide) ?_
    refine lv_iadd hx hb dX6_keeps_42 ?_
    refine lv_aload_n hx hb dX6_keeps_43 rfl (lv_at hl 0 rfl) ?_
    refine mg_place C I dX6_keeps_44 ?_
    refine lv_iload_n hx hb dX6_keeps_47 rfl (lv_at hl 2 rfl) ?_
    refine m_iald C I 19 8 rfl (by decide) hg3 dX6_keeps_48 ?_
    obtain ⟨hg6, h⟩ := h
    refine m_iast C I 24 1280 rfl (by decide) hg6 dX6_keeps_49 (fun M7 H locs eM7 I => ?_)
    have h := h M7 eM7
    refine lv_aload_n hx hb dX6_keeps_50 rfl (lv_at hl 0 rfl) ?_
    refine mg_kept C I dX6_keeps_51 ?_
    refine lv_bipush (v := 32) hx hb dX6_keeps_54 (by decide) ?_
    refine lv_iload_n hx hb dX6_keeps_56 rfl (lv_at hl 1 rfl) ?_
    refine lv_imul hx hb dX6_keeps_57 ?_
    refine lv_iconst (v := 4) hx hb dX6_keeps_58 (by decide) ?_
    refine lv_iload_n hx hb dX6_keeps_59 rfl (lv_at hl 2 rfl) ?_
    refine lv_imul hx hb dX6_keeps_60 ?_
    refine lv_iadd hx hb dX6_keeps_61 ?_
    refine lv_iconst (v := 2) hx hb dX6_keeps_62 (by decide) ?_
    refine lv_iadd hx hb dX6_keeps_63 ?_
    refine lv_aload_n hx hb dX6_keeps_64 rfl (lv_at hl 0 rfl) ?_
    refine mg_strength C I dX6_keeps_65 ?_
    refine lv_iload_n hx hb dX6_keeps_68 rfl (lv_at hl 2 rfl) ?_
    refine m_iald C I 20 8 rfl (by decide) hg3 dX6_keeps_69 ?_
    obtain ⟨hg8, h⟩ := h
    refine m_iast C I 24 1280 rfl (by decide) hg8 dX6_keeps_70 (fun M9 H locs eM9 I => ?_)
    have h := h M9 eM9
    refine lv_aload_n hx hb dX6_keeps_71 rfl (lv_at hl 0 rfl) ?_
    refine mg_kept C I dX6_keeps_72 ?_
    refine lv_bipush (v := 32) hx hb dX6_keeps_75 (by decide) ?_
    refine lv_iload_n hx hb dX6_keeps_77 rfl (lv_at hl 1 rfl) ?_
    refine lv_imul hx hb dX6_keeps_78 ?_
    refine lv_iconst (v := 4) hx hb dX6_keeps_79 (by decide) ?_
    refine lv_iload_n hx hb dX6_keeps_80 rfl (lv_at hl 2 rfl) ?_
    refine lv_imul hx hb dX6_keeps_81 ?_
    refine lv_iadd hx hb dX6_keeps_82 ?_
    refine lv_iconst (v := 3) hx hb dX6_keeps_83 (by decide) ?_
    refine lv_iadd hx hb dX6_keeps_84 ?_
    refine lv_aload_n hx hb dX6_keeps_85 rfl (lv_at hl 0 rfl) ?_
    refine mg_state C I dX6_keeps_86 ?_
    refine lv_iload_n hx hb dX6_keeps_89 rfl (lv_at hl 2 rfl) ?_
    refine m_iald C I 18 8 rfl (by decide) hg3 dX6_keeps_90 ?_
    refine lv_iconst (v := 1) hx hb dX6_keeps_91 (by decide) ?_
    refine lv_icmp_ne (tgt := 104) hx hb dX6_keeps_92 (by decide) (fun c => ?_) (fun c => ?_)
    · have h := h.2 c
      refine lv_iconst (v := -1) hx hb dX6_keeps_104 (by decide) ?_
      exact t6_keeps_b105 C hQ hK2 v1 v2 (((32 * v1) + (4 * v2)) + 3) (-1) M9 _ _ _ h I (lv_sub hl [0, 1, 2] rfl)
    · have h := h.1 c
      refine lv_aload_n hx hb dX6_keeps_95 rfl (lv_at hl 0 rfl) ?_
      refine mg_whither C I dX6_keeps_96 ?_
      refine lv_iload_n hx hb dX6_keeps_99 rfl (lv_at hl 2 rfl) ?_
      refine m_iald C I 21 8 rfl (by decide) hg3 dX6_keeps_100 ?_
      refine lv_goto (tgt := 105) hx hb dX6_keeps_101 (by decide) ?_
      exact t6_keeps_b105 C hQ hK2 v1 v2 (((32 * v1) + (4 * v2)) + 3) (M9 21 (ci v2)) M9 _ _ _ h I (lv_sub hl [0, 1, 2] rfl)
theorem t6_keeps_b2 {p : Program} {l : Launch} {e : Env} {s : State} {m : MethodId} {args : Array Value} {below : List Frame} {meth : Method} {c : Code} {D : va_G} {T ad : Nat → Nat} {A : Nat → Prop} {H0 : Heap} {Qs : State → Prop} {Q : Mem → Prop}  (C : MC D T p m c cX6_keeps 3 s args) (hQ : mExv p l e rX6_keeps s m args below meth c cX6_keeps D T ad A H0 Qs Q)  : ∀ (n : Nat) (v1 : Int32) (v2 : Int32) (M : Mem) (H : Heap) (locs : List Loc) (ls : Array Slot), w6_keeps_b2 Q n v1 v2 M → MI D T ad A H0 M H locs → lv_has ls 3 [(0, .ref (ad 0)), (1, .int v1), (2, .int v2)] → W p l e rX6_keeps s m args below meth c H locs 0 0 Qs (F0 m 2 ls []) := by
  intro n
  induction n with
  | zero => intro v1 v2 M H locs ls h; exact h.elim
  | succ n ih => intro v1 v2 M H locs ls h I hl; exact t6_keeps_b2_f C hQ  ih v1 v2 M H locs ls h I hl
theorem t6_keeps {p : Program} {l : Launch} {e : Env} {s : State} {m : MethodId} {args : Array Value} {below : List Frame} {meth : Method} {c : Code} {D : va_G} {T ad : Nat → Nat} {A : Nat → Prop} {H0 : Heap} {Qs : State → Prop} {Q : Mem → Prop} (C : MC D T p m c cX6_keeps 3 s args) (hQ : mExv p l e rX6_keeps s m args below meth c cX6_keeps D T ad A H0 Qs Q) (v1 : Int32) (M : Mem) (H : Heap) (locs : List Loc) (ls : Array Slot) (h : w6_keeps v1 M Q) (I : MI D T ad A H0 M H locs) (hl : lv_has ls 3 [(0, .ref (ad 0)), (1, .int v1)]) : W p l e rX6_keeps s m args below meth c H locs 0 0 Qs (F0 m 0 ls []) := by
  have hx := C.1.1
  have hb := C.1.2.1
  have how := C.1.2.2.2.1
  have hts := C.1.2.2.2.2
  unfold w6_keeps at h
  refine lv_iconst (v := 0) hx hb dX6_keeps_0 (by decide) ?_
  refine lv_istore_n (lv' := [(2, .int 0), (0, .ref (ad 0)), (1, .int v1)]) hx hb dX6_keeps_1 rfl hl (by decide) rfl (fun ls hl => ?_)
  obtain ⟨n, h⟩ := h
  exact t6_keeps_b2 C hQ n v1 0 M _ _ _ h I (lv_sub hl [1, 2, 0] rfl)
theorem met6_keeps (l : Launch) (D : va_G) (T ad : Nat → Nat) (v1 : Int32) (M : Mem) {Qp : Mem → Prop} (h : w6_keeps v1 M Qp) (sz : Nat) : Met l yX6_keeps (ws_ yX6_keeps cX6_keeps 3 none) rX6_keeps (mPc D T ad [.int v1] M sz) (mQv D T ad M Qp sz) 0 0 (fA (cM T ad M) sz) :=
  m_metV (As := [.int v1]) rfl rfl (Nat.le_of_ble_eq_true rfl) (fun p e s m args below meth c A Qs ls C hQ I hl => t6_keeps C hQ v1 M _ _ ls h I hl) sz
/-! lives -/
abbrev rX6_lives : Room := { frames := 4, cells := 0, slots := 0, locals := 95 }
theorem cw6_201 {R : Room} {s : State} {args : Array Value} (hts : ∀ w ∈ lw_all, w.before args s = true) (hR : rX6_gathers.frames + 1 ≤ R.frames ∧ 8 + (4 + 11) + rX6_gathers.locals ≤ R.locals) : CallW R s args RX6 RX6 201 yX6_gathers cX6_gathers 4 none (ws_ yX6_gathers cX6_gathers 4 none) rX6_gathers 0 0 1 := cwV 1 hts (lw_V q1154 q1156 qs60 q95 q1157) rfl rfl rfl (by decide +kernel) hR
theorem cw6_205 {R : Room} {s : State} {args : Array Value} (hts : ∀ w ∈ lw_all, w.before args s = true) (hR : rX6_goesOn.frames + 1 ≤ R.frames ∧ 8 + (7 + 11) + rX6_goesOn.locals ≤ R.locals) : CallW R s args RX6 RX6 205 yX6_goesOn cX6_goesOn 7 none (ws_ yX6_goesOn cX6_goesOn 7 none) rX6_goesOn 0 0 2 := cwV 2 hts (lw_V q1158 q1160 qs61 q95 q1161) rfl rfl rfl (by decide +kernel) hR
theorem cw6_209 {R : Room} {s : State} {args : Array Value} (hts : ∀ w ∈ lw_all, w.before args s = true) (hR : rX6_keeps.frames + 1 ≤ R.frames ∧ 8 + (3 + 11) + rX6_keeps.locals ≤ R.locals) : CallW R s args RX6 RX6 209 yX6_keeps cX6_keeps 3 none (ws_ yX6_keeps cX6_keeps 3 none) rX6_keeps 0 0 1 := cwV 1 hts (lw_V q1181 q1183 qs66 q95 q1184) rfl rfl rfl (by decide +kernel) hR
theorem t6_lives_b149 {p : Program} {l : Launch} {e : Env} {s : State} {m : MethodId} {args : Array Value} {below : List Frame} {meth : Method} {c : Code} {D : va_G} {T ad : Nat → Nat} {A : Nat → Prop} {H0 : Heap} {Qs : State → Prop} {Q : Mem → Prop} {K112 : Int32 → Mem → Prop} {K125 : Int32 → Int32 → Mem → Prop} (C : MC D T p m c cX6_lives 3 s args) (hQ : mExv p l e rX6_lives s m args below meth c cX6_lives D T ad A H0 Qs Q) (hK112 : ∀ (v1 : Int32) (M : Mem) (H : Heap) (locs : List Loc) (ls : Array Slot), K112 v1 M → MI D T ad A H0 M H locs → lv_has ls 3 [(0, .ref (ad 0)), (1, .int v1)] → W p l e rX6_lives s m args below meth c H locs 0 0 Qs (F0 m 112 ls [])) (hK125 : ∀ (v1 : Int32) (v2 : Int32) (M : Mem) (H : Heap) (locs : List Loc) (ls : Array Slot), K125 v1 v2 M → MI D T ad A H0 M H locs → lv_has ls 3 [(0, .ref (ad 0)), (1, .int v1), (2, .int v2)] → W p l e rX6_lives s m args below meth c H locs 0 0 Qs (F0 m 125 ls [])) (v1 : Int32) (v2 : Int32) (M : Mem) (H : Heap) (locs : List Loc) (ls : Array Slot) (h : w6_lives_b149 Q K112 K125 v1 v2 M) (I : MI D T ad A H0 M H locs) (hl : lv_has ls 3 [(0, .ref (ad 0)), (1, .int v1), (2, .int v2)]) : W p l e rX6_lives s m args below meth c H locs 0 0 Qs (F0 m 149 ls []) := by
  have hx := C.1.1
  have hb := C.1.2.1
  have how := C.1.2.2.2.1
  have hts := C.1.2.2.2.2
  unfold w6_lives_b149 at h
  refine lv_iinc (v := (v2 + 1)) (lv' := [(2, .int (v2 + 1)), (0, .ref (ad 0)), (1, .int v1)]) hx hb dX6_lives_149 hl (k := 2) rfl (ii_1 _) (by decide) rfl (fun ls hl => ?_)
  refine lv_goto (tgt := 125) hx hb dX6_lives_152 (by decide) ?_
  exact hK125 v1 (v2 + 1) M _ _ _ h I (lv_sub hl [1, 2, 0] rfl)
theorem t6_lives_b125_f {p : Program} {l : Launch} {e : Env} {s : State} {m : MethodId} {args : Array Value} {below : List Frame} {meth : Method} {c : Code} {D : va_G} {T ad : Nat → Nat} {A : Nat → Prop} {H0 : Heap} {Qs : State → Prop} {Q : Mem → Prop} {K112 : Int32 → Mem → Prop} {K125 : Int32 → Int32 → Mem → Prop} (C : MC D T p m c cX6_lives 3 s args) (hQ : mExv p l e rX6_lives s m args below meth c cX6_lives D T ad A H0 Qs Q) (hK112 : ∀ (v1 : Int32) (M : Mem) (H : Heap) (locs : List Loc) (ls : Array Slot), K112 v1 M → MI D T ad A H0 M H locs → lv_has ls 3 [(0, .ref (ad 0)), (1, .int v1)] → W p l e rX6_lives s m args below meth c H locs 0 0 Qs (F0 m 112 ls [])) (hK125 : ∀ (v1 : Int32) (v2 : Int32) (M : Mem) (H : Heap) (locs : List Loc) (ls : Array Slot), K125 v1 v2 M → MI D T ad A H0 M H locs → lv_has ls 3 [(0, .ref (ad 0)), (1, .int v1), (2, .int v2)] → W p l e rX6_lives s m args below meth c H locs 0 0 Qs (F0 m 125 ls [])) (v1 : Int32) (v2 : Int32) (M : Mem) (H : Heap) (locs : List Loc) (ls : Array Slot) (h : w6_lives_b125_f Q K112 K125 v1 v2 M) (I : MI D T ad A H0 M H locs) (hl : lv_has ls 3 [(0, .ref (ad 0)), (1, .int v1), (2, .int v2)]) : W p l e rX6_lives s m args below meth c H locs 0 0 Qs (F0 m 125 ls []) := by
  have hx := C.1.1
  have hb := C.1.2.1
  have how := C.1.2.2.2.1
  have hts := C.1.2.2.2.2
  unfold w6_lives_b125_f at h
  refine lv_iload_n hx hb dX6_lives_125 rfl (lv_at hl 2 rfl) ?_
  refine lv_aload_n hx hb dX6_lives_126 rfl (lv_at hl 0 rfl) ?_
  refine mg_carters C I dX6_lives_127 ?_
  refine lv_icmp_ge (tgt := 155) hx hb dX6_lives_130 (by decide) (fun c => ?_) (fun c => ?_)
  · have h := h.1 c
    refine lv_aload_n hx hb dX6_lives_155 rfl (lv_at hl 0 rfl) ?_
    refine lv_iload_n hx hb dX6_lives_156 rfl (lv_at hl 1 rfl) ?_
    refine m_callv (As := [.int v1]) (rest := []) C I (met6_keeps l D T ad v1 M h) (cw6_209 hts ⟨Nat.le_of_ble_eq_true rfl, Nat.le_of_ble_eq_true rfl⟩) rfl hl.1 rfl (Nat.le_of_ble_eq_true rfl) ⟨Nat.zero_le _, Nat.zero_le _⟩ dX6_lives_157 (fun M1 H locs h I => ?_)
    refine lv_iinc (v := (v1 + 1)) (lv' := [(1, .int (v1 + 1)), (0, .ref (ad 0)), (2, .int v2)]) hx hb dX6_lives_160 hl (k := 1) rfl (ii_1 _) (by decide) rfl (fun ls hl => ?_)
    refine lv_goto (tgt := 112) hx hb dX6_lives_163 (by decide) ?_
    exact hK112 (v1 + 1) M1 _ _ _ h I (lv_sub hl [1, 0] rfl)
  · have h := h.2 c
    refine lv_aload_n hx hb dX6_lives_133 rfl (lv_at hl 0 rfl) ?_
    refine mg_arrives C I dX6_lives_134 ?_
    refine lv_iload_n hx hb dX6_lives_137 rfl (lv_at hl 2 rfl) ?_
    obtain ⟨hg2, h⟩ := h
    refine m_iald C I 22 8 rfl (by decide) hg2 dX6_lives_138 ?_
    refine lv_iload_n hx hb dX6_lives_139 rfl (lv_at hl 1 rfl) ?_
    refine lv_icmp_ne (tgt := 149) hx hb dX6_lives_140 (by decide) (fun c => ?_) (fun c => ?_)
    · have h := h.2 c
      exact t6_lives_b149 C hQ hK112 hK125 v1 v2 M _ _ _ h I (lv_sub hl [0, 1, 2] rfl)
    · have h := h.1 c
      refine lv_aload_n hx hb dX6_lives_143 rfl (lv_at hl 0 rfl) ?_
      refine lv_iload_n hx hb dX6_lives_144 rfl (lv_at hl 2 rfl) ?_
      refine lv_iload_n hx hb dX6_lives_145 rfl (lv_at hl 1 rfl) ?_
      refine m_callv (As := [.int v2, .int v1]) (rest := []) C I (met6_goesOn l D T ad v2 v1 M h) (cw6_205 hts ⟨Nat.le_of_ble_eq_true rfl, Nat.le_of_ble_eq_true rfl⟩) rfl hl.1 rfl (Nat.le_of_ble_eq_true rfl) ⟨Nat.zero_le _, Nat.zero_le _⟩ dX6_lives_146 (fun M3 H locs h I => ?_)
      exact t6_lives_b149 C hQ hK112 hK125 v1 v2 M3 _ _ _ h I (lv_sub hl [0, 1, 2] rfl)
theorem t6_lives_b125 {p : Program} {l : Launch} {e : Env} {s : State} {m : MethodId} {args : Array Value} {below : List Frame} {meth : Method} {c : Code} {D : va_G} {T ad : Nat → Nat} {A : Nat → Prop} {H0 : Heap} {Qs : State → Prop} {Q : Mem → Prop} {K112 : Int32 → Mem → Prop} (C : MC D T p m c cX6_lives 3 s args) (hQ : mExv p l e rX6_lives s m args below meth c cX6_lives D T ad A H0 Qs Q) (hK112 : ∀ (v1 : Int32) (M : Mem) (H : Heap) (locs : List Loc) (ls : Array Slot), K112 v1 M → MI D T ad A H0 M H locs → lv_has ls 3 [(0, .ref (ad 0)), (1, .int v1)] → W p l e rX6_lives s m args below meth c H locs 0 0 Qs (F0 m 112 ls [])) : ∀ (n : Nat) (v1 : Int32) (v2 : Int32) (M : Mem) (H : Heap) (locs : List Loc) (ls : Array Slot), w6_lives_b125 Q K112 n v1 v2 M → MI D T ad A H0 M H locs → lv_has ls 3 [(0, .ref (ad 0)), (1, .int v1), (2, .int v2)] → W p l e rX6_lives s m args below meth c H locs 0 0 Qs (F0 m 125 ls []) := by
  intro n
  induction n with
  | zero => intro v1 v2 M H locs ls h; exact h.elim
  | succ n ih => intro v1 v2 M H locs ls h I hl; exact t6_lives_b125_f C hQ hK112 ih v1 v2 M H locs ls h I hl
theorem t6_lives_b112_f {p : Program} {l : Launch} {e : Env} {s : State} {m : MethodId} {args : Array Value} {below : List Frame} {meth : Method} {c : Code} {D : va_G} {T ad : Nat → Nat} {A : Nat → Prop} {H0 : Heap} {Qs : State → Prop} {Q : Mem → Prop} {K112 : Int32 → Mem → Prop} (C : MC D T p m c cX6_lives 3 s args) (hQ : mExv p l e rX6_lives s m args below meth c cX6_lives D T ad A H0 Qs Q) (hK112 : ∀ (v1 : Int32) (M : Mem) (H : Heap) (locs : List Loc) (ls : Array Slot), K112 v1 M → MI D T ad A H0 M H locs → lv_has ls 3 [(0, .ref (ad 0)), (1, .int v1)] → W p l e rX6_lives s m args below meth c H locs 0 0 Qs (F0 m 112 ls [])) (v1 : Int32) (M : Mem) (H : Heap) (locs : List Loc) (ls : Array Slot) (h : w6_lives_b112_f Q K112 v1 M) (I : MI D T ad A H0 M H locs) (hl : lv_has ls 3 [(0, .ref (ad 0)), (1, .int v1)]) : W p l e rX6_lives s m args below meth c H locs 0 0 Qs (F0 m 112 ls []) := by
  have hx := C.1.1
  have hb := C.1.2.1
  have how := C.1.2.2.2.1
  have hts := C.1.2.2.2.2
  unfold w6_lives_b112_f at h
  refine lv_iload_n hx hb dX6_lives_112 rfl (lv_at hl 1 rfl) ?_
  refine lv_bipush (v := 40) hx hb dX6_lives_113 (by decide) ?_
  refine lv_icmp_ge (tgt := 166) hx hb dX6_lives_115 (by decide) (fun c => ?_) (fun c => ?_)
  · have h := h.1 c
    exact hQ _ _ _ _ _ h I dX6_lives_166
  · have h := h.2 c
    refine lv_aload_n hx hb dX6_lives_118 rfl (lv_at hl 0 rfl) ?_
    refine lv_iload_n hx hb dX6_lives_119 rfl (lv_at hl 1 rfl) ?_
    refine m_callv (As := [.int v1]) (rest := []) C I (met6_gathers l D T ad v1 M h) (cw6_201 hts ⟨Nat.le_of_ble_eq_true rfl, Nat.le_of_ble_eq_true rfl⟩) rfl hl.1 rfl (Nat.le_of_ble_eq_true rfl) ⟨Nat.zero_le _, Nat.zero_le _⟩ dX6_lives_120 (fun M4 H locs h I => ?_)
    refine lv_iconst (v := 0) hx hb dX6_lives_123 (by decide) ?_
    refine lv_istore_n (lv' := [(2, .int 0), (0, .ref (ad 0)), (1, .int v1)]) hx hb dX6_lives_124 rfl hl (by decide) rfl (fun ls hl => ?_)
    obtain ⟨n, h⟩ := h
    exact t6_lives_b125 C hQ hK112 n v1 0 M4 _ _ _ h I (lv_sub hl [1, 2, 0] rfl)
theorem t6_lives_b112 {p : Program} {l : Launch} {e : Env} {s : State} {m : MethodId} {args : Array Value} {below : List Frame} {meth : Method} {c : Code} {D : va_G} {T ad : Nat → Nat} {A : Nat → Prop} {H0 : Heap} {Qs : State → Prop} {Q : Mem → Prop}  (C : MC D T p m c cX6_lives 3 s args) (hQ : mExv p l e rX6_lives s m args below meth c cX6_lives D T ad A H0 Qs Q)  : ∀ (n : Nat) (v1 : Int32) (M : Mem) (H : Heap) (locs : List Loc) (ls : Array Slot), w6_lives_b112 Q n v1 M → MI D T ad A H0 M H locs → lv_has ls 3 [(0, .ref (ad 0)), (1, .int v1)] → W p l e rX6_lives s m args below meth c H locs 0 0 Qs (F0 m 112 ls []) := by
  intro n
  induction n with
  | zero => intro v1 M H locs ls h; exact h.elim
  | succ n ih => intro v1 M H locs ls h I hl; exact t6_lives_b112_f C hQ  ih v1 M H locs ls h I hl
theorem t6_lives_b44_f {p : Program} {l : Launch} {e : Env} {s : State} {m : MethodId} {args : Array Value} {below : List Frame} {meth : Method} {c : Code} {D : va_G} {T ad : Nat → Nat} {A : Nat → Prop} {H0 : Heap} {Qs : State → Prop} {Q : Mem → Prop} {K44 : Int32 → Mem → Prop} (C : MC D T p m c cX6_lives 3 s args) (hQ : mExv p l e rX6_lives s m args below meth c cX6_lives D T ad A H0 Qs Q) (hK44 : ∀ (v1 : Int32) (M : Mem) (H : Heap) (locs : List Loc) (ls : Array Slot), K44 v1 M → MI D T ad A H0 M H locs → lv_has ls 3 [(0, .ref (ad 0)), (1, .int v1)] → W p l e rX6_lives s m args below meth c H locs 0 0 Qs (F0 m 44 ls [])) (v1 : Int32) (M : Mem) (H : Heap) (locs : List Loc) (ls : Array Slot) (h : w6_lives_b44_f Q K44 v1 M) (I : MI D T ad A H0 M H locs) (hl : lv_has ls 3 [(0, .ref (ad 0)), (1, .int v1)]) : W p l e rX6_lives s m args below meth c H locs 0 0 Qs (F0 m 44 ls []) := by
  have hx := C.1.1
  have hb := C.1.2.1
  have how := C.1.2.2.2.1
  have hts := C.1.2.2.2.2
  unfold w6_lives_b44_f at h
  refine lv_iload_n hx hb dX6_lives_44 rfl (lv_at hl 1 rfl) ?_
  refine lv_aload_n hx hb dX6_lives_45 rfl (lv_at hl 0 rfl) ?_
  refine mg_carters C I dX6_lives_46 ?_
  refine lv_icmp_ge (tgt := 100) hx hb dX6_lives_49 (by decide) (fun c => ?_) (fun c => ?_)
  · have h := h.1 c
    refine lv_aload_n hx hb dX6_lives_100 rfl (lv_at hl 0 rfl) ?_
    refine lv_iconst (v := -1) hx hb dX6_lives_101 (by decide) ?_
    refine mp_metOn C I dX6_lives_102 (fun M5 H locs eM5 I => ?_)
    have h := h M5 eM5
    refine lv_aload_n hx hb dX6_lives_105 rfl (lv_at hl 0 rfl) ?_
    refine lv_iconst (v := -1) hx hb dX6_lives_106 (by decide) ?_
    refine mp_metAt C I dX6_lives_107 (fun M6 H locs eM6 I => ?_)
    have h := h M6 eM6
    refine lv_iconst (v := 0) hx hb dX6_lives_110 (by decide) ?_
    refine lv_istore_n (lv' := [(1, .int 0), (0, .ref (ad 0))]) hx hb dX6_lives_111 rfl hl (by decide) rfl (fun ls hl => ?_)
    obtain ⟨n, h⟩ := h
    exact t6_lives_b112 C hQ n 0 M6 _ _ _ h I (lv_sub hl [1, 0] rfl)
  · have h := h.2 c
    refine lv_aload_n hx hb dX6_lives_52 rfl (lv_at hl 0 rfl) ?_
    refine mg_strength C I dX6_lives_53 ?_
    refine lv_iload_n hx hb dX6_lives_56 rfl (lv_at hl 1 rfl) ?_
    refine lv_aload_n hx hb dX6_lives_57 rfl (lv_at hl 0 rfl) ?_
    refine mg_carter C I dX6_lives_58 ?_
    refine lv_iconst (v := 5) hx hb dX6_lives_61 (by decide) ?_
    refine lv_iload_n hx hb dX6_lives_62 rfl (lv_at hl 1 rfl) ?_
    refine lv_imul hx hb dX6_lives_63 ?_
    refine lv_iconst (v := 3) hx hb dX6_lives_64 (by decide) ?_
    refine lv_iadd hx hb dX6_lives_65 ?_
    obtain ⟨hg7, h⟩ := h
    refine m_iald C I 11 40 rfl (by decide) hg7 dX6_lives_66 ?_
    obtain ⟨hg8, h⟩ := h
    refine m_iast C I 20 8 rfl (by decide) hg8 dX6_lives_67 (fun M9 H locs eM9 I => ?_)
    have h := h M9 eM9
    refine lv_aload_n hx hb dX6_lives_68 rfl (lv_at hl 0 rfl) ?_
    refine mg_whither C I dX6_lives_69 ?_
    refine lv_iload_n hx hb dX6_lives_72 rfl (lv_at hl 1 rfl) ?_
    refine lv_aload_n hx hb dX6_lives_73 rfl (lv_at hl 0 rfl) ?_
    refine mg_carter C I dX6_lives_74 ?_
    refine lv_iconst (v := 5) hx hb dX6_lives_77 (by decide) ?_
    refine lv_iload_n hx hb dX6_lives_78 rfl (lv_at hl 1 rfl) ?_
    refine lv_imul hx hb dX6_lives_79 ?_
    obtain ⟨hg10, h⟩ := h
    refine m_iald C I 11 40 rfl (by decide) hg10 dX6_lives_80 ?_
    refine m_iast C I 21 8 rfl (by decide) hg8 dX6_lives_81 (fun M11 H locs eM11 I => ?_)
    have h := h M11 eM11
    refine lv_aload_n hx hb dX6_lives_82 rfl (lv_at hl 0 rfl) ?_
    refine mg_arrives C I dX6_lives_83 ?_
    refine lv_iload_n hx hb dX6_lives_86 rfl (lv_at hl 1 rfl) ?_
    refine lv_aload_n hx hb dX6_lives_87 rfl (lv_at hl 0 rfl) ?_
    refine mg_late C I dX6_lives_88 ?_
    refine lv_iload_n hx hb dX6_lives_91 rfl (lv_at hl 1 rfl) ?_
    refine m_iald C I 12 8 rfl (by decide) hg8 dX6_lives_92 ?_
    refine m_iast C I 22 8 rfl (by decide) hg8 dX6_lives_93 (fun M12 H locs eM12 I => ?_)
    have h := h M12 eM12
    refine lv_iinc (v := (v1 + 1)) (lv' := [(1, .int (v1 + 1)), (0, .ref (ad 0))]) hx hb dX6_lives_94 hl (k := 1) rfl (ii_1 _) (by decide) rfl (fun ls hl => ?_)
    refine lv_goto (tgt := 44) hx hb dX6_lives_97 (by decide) ?_
    exact hK44 (v1 + 1) M12 _ _ _ h I (lv_sub hl [1, 0] rfl)
theorem t6_lives_b44 {p : Program} {l : Launch} {e : Env} {s : State} {m : MethodId} {args : Array Value} {below : List Frame} {meth : Method} {c : Code} {D : va_G} {T ad : Nat → Nat} {A : Nat → Prop} {H0 : Heap} {Qs : State → Prop} {Q : Mem → Prop}  (C : MC D T p m c cX6_lives 3 s args) (hQ : mExv p l e rX6_lives s m args below meth c cX6_lives D T ad A H0 Qs Q)  : ∀ (n : Nat) (v1 : Int32) (M : Mem) (H : Heap) (locs : List Loc) (ls : Array Slot), w6_lives_b44 Q n v1 M → MI D T ad A H0 M H locs → lv_has ls 3 [(0, .ref (ad 0)), (1, .int v1)] → W p l e rX6_lives s m args below meth c H locs 0 0 Qs (F0 m 44 ls []) := by
  intro n
  induction n with
  | zero => intro v1 M H locs ls h; exact h.elim
  | succ n ih => intro v1 M H locs ls h I hl; exact t6_lives_b44_f C hQ  ih v1 M H locs ls h I hl
theorem t6_lives_b2_f {p : Program} {l : Launch} {e : Env} {s : State} {m : MethodId} {args : Array Value} {below : List Frame} {meth : Method} {c : Code} {D : va_G} {T ad : Nat → Nat} {A : Nat → Prop} {H0 : Heap} {Qs : State → Prop} {Q : Mem → Prop} {K2 : Int32 → Mem → Prop} (C : MC D T p m c cX6_lives 3 s args) (hQ : mExv p l e rX6_lives s m args below meth c cX6_lives D T ad A H0 Qs Q) (hK2 : ∀ (v1 : Int32) (M : Mem) (H : Heap) (locs : List Loc) (ls : Array Slot), K2 v1 M → MI D T ad A H0 M H locs → lv_has ls 3 [(0, .ref (ad 0)), (1, .int v1)] → W p l e rX6_lives s m args below meth c H locs 0 0 Qs (F0 m 2 ls [])) (v1 : Int32) (M : Mem) (H : Heap) (locs : List Loc) (ls : Array Slot) (h : w6_lives_b2_f Q K2 v1 M) (I : MI D T ad A H0 M H locs) (hl : lv_has ls 3 [(0, .ref (ad 0)), (1, .int v1)]) : W p l e rX6_lives s m args below meth c H locs 0 0 Qs (F0 m 2 ls []) := by
  have hx := C.1.1
  have hb := C.1.2.1
  have how := C.1.2.2.2.1
  have hts := C.1.2.2.2.2
  unfold w6_lives_b2_f at h
  refine lv_iload_n hx hb dX6_lives_2 rfl (lv_at hl 1 rfl) ?_
  refine lv_bipush (v := 8) hx hb dX6_lives_3 (by decide) ?_
  refine lv_icmp_ge (tgt := 42) hx hb dX6_lives_5 (by decide) (fun c => ?_) (fun c => ?_)
  · have h := h.1 c
    refine lv_iconst (v := 0) hx hb dX6_lives_42 (by decide) ?_
    refine lv_istore_n (lv' := [(1, .int 0), (0, .ref (ad 0))]) hx hb dX6_lives_43 rfl hl (by decide) rfl (fun ls hl => ?_)
    obtain ⟨n, h⟩ := h
    exact t6_lives_b44 C hQ n 0 M _ _ _ h I (lv_sub hl [1, 0] rfl)
  · have h := h.2 c
    refine lv_aload_n hx hb dX6_lives_8 rfl (lv_at hl 0 rfl) ?_
    refine mg_state C I dX6_lives_9 ?_
    refine lv_iload_n hx hb dX6_lives_12 rfl (lv_at hl 1 rfl) ?_
    refine lv_iconst (v := 0) hx hb dX6_lives_13 (by decide) ?_
    obtain ⟨hg13, h⟩ := h
    refine m_iast C I 18 8 rfl (by decide) hg13 dX6_lives_14 (fun M14 H locs eM14 I => ?_)
    have h := h M14 eM14
    refine lv_aload_n hx hb dX6_lives_15 rfl (lv_at hl 0 rfl) ?_
    refine mg_place C I dX6_lives_16 ?_
    refine lv_iload_n hx hb dX6_lives_19 rfl (lv_at hl 1 rfl) ?_
    refine lv_iconst (v := -1) hx hb dX6_lives_20 (by decide) ?_
    refine m_iast C I 19 8 rfl (by decide) hg13 dX6_lives_21 (fun M15 H locs eM15 I => ?_)
    have h := h M15 eM15
    refine lv_aload_n hx hb dX6_lives_22 rfl (lv_at hl 0 rfl) ?_
    refine mg_ends C I dX6_lives_23 ?_
    refine lv_iload_n hx hb dX6_lives_26 rfl (lv_at hl 1 rfl) ?_
    refine lv_iconst (v := -1) hx hb dX6_lives_27 (by decide) ?_
    refine m_iast C I 23 8 rfl (by decide) hg13 dX6_lives_28 (fun M16 H locs eM16 I => ?_)
    have h := h M16 eM16
    refine lv_aload_n hx hb dX6_lives_29 rfl (lv_at hl 0 rfl) ?_
    refine mg_arrivals C I dX6_lives_30 ?_
    refine lv_iload_n hx hb dX6_lives_33 rfl (lv_at hl 1 rfl) ?_
    refine lv_iconst (v := 0) hx hb dX6_lives_34 (by decide) ?_
    refine m_iast C I 26 8 rfl (by decide) hg13 dX6_lives_35 (fun M17 H locs eM17 I => ?_)
    have h := h M17 eM17
    refine lv_iinc (v := (v1 + 1)) (lv' := [(1, .int (v1 + 1)), (0, .ref (ad 0))]) hx hb dX6_lives_36 hl (k := 1) rfl (ii_1 _) (by decide) rfl (fun ls hl => ?_)
    refine lv_goto (tgt := 2) hx hb dX6_lives_39 (by decide) ?_
    exact hK2 (v1 + 1) M17 _ _ _ h I (lv_sub hl [1, 0] rfl)
theorem t6_lives_b2 {p : Program} {l : Launch} {e : Env} {s : State} {m : MethodId} {args : Array Value} {below : List Frame} {meth : Method} {c : Code} {D : va_G} {T ad : Nat → Nat} {A : Nat → Prop} {H0 : Heap} {Qs : State → Prop} {Q : Mem → Prop}  (C : MC D T p m c cX6_lives 3 s args) (hQ : mExv p l e rX6_lives s m args below meth c cX6_lives D T ad A H0 Qs Q)  : ∀ (n : Nat) (v1 : Int32) (M : Mem) (H : Heap) (locs : List Loc) (ls : Array Slot), w6_lives_b2 Q n v1 M → MI D T ad A H0 M H locs → lv_has ls 3 [(0, .ref (ad 0)), (1, .int v1)] → W p l e rX6_lives s m args below meth c H locs 0 0 Qs (F0 m 2 ls []) := by
  intro n
  induction n with
  | zero => intro v1 M H locs ls h; exact h.elim
  | succ n ih => intro v1 M H locs ls h I hl; exact t6_lives_b2_f C hQ  ih v1 M H locs ls h I hl
theorem t6_lives {p : Program} {l : Launch} {e : Env} {s : State} {m : MethodId} {args : Array Value} {below : List Frame} {meth : Method} {c : Code} {D : va_G} {T ad : Nat → Nat} {A : Nat → Prop} {H0 : Heap} {Qs : State → Prop} {Q : Mem → Prop} (C : MC D T p m c cX6_lives 3 s args) (hQ : mExv p l e rX6_lives s m args below meth c cX6_lives D T ad A H0 Qs Q)  (M : Mem) (H : Heap) (locs : List Loc) (ls : Array Slot) (h : w6_lives M Q) (I : MI D T ad A H0 M H locs) (hl : lv_has ls 3 [(0, .ref (ad 0))]) : W p l e rX6_lives s m args below meth c H locs 0 0 Qs (F0 m 0 ls []) := by
  have hx := C.1.1
  have hb := C.1.2.1
  have how := C.1.2.2.2.1
  have hts := C.1.2.2.2.2
  unfold w6_lives at h
  refine lv_iconst (v := 0) hx hb dX6_lives_0 (by decide) ?_
  refine lv_istore_n (lv' := [(1, .int 0), (0, .ref (ad 0))]) hx hb dX6_lives_1 rfl hl (by decide) rfl (fun ls hl => ?_)
  obtain ⟨n, h⟩ := h
  exact t6_lives_b2 C hQ n 0 M _ _ _ h I (lv_sub hl [1, 0] rfl)
theorem met6_lives (l : Launch) (D : va_G) (T ad : Nat → Nat)  (M : Mem) {Qp : Mem → Prop} (h : w6_lives M Qp) (sz : Nat) : Met l yX6_lives (ws_ yX6_lives cX6_lives 3 none) rX6_lives (mPc D T ad [] M sz) (mQv D T ad M Qp sz) 0 0 (fA (cM T ad M) sz) :=
  m_metV (As := []) rfl rfl (Nat.le_of_ble_eq_true rfl) (fun p e s m args below meth c A Qs ls C hQ I hl => t6_lives C hQ M _ _ ls h I hl) sz
/-! find -/
abbrev rX6_find : Room := { frames := 5, cells := 0, slots := 0, locals := 117 }
theorem cw6_212 {R : Room} {s : State} {args : Array Value} (hts : ∀ w ∈ lw_all, w.before args s = true) (hR : rX6_maps.frames + 1 ≤ R.frames ∧ 8 + (6 + 11) + rX6_maps.locals ≤ R.locals) : CallW R s args RX6 RX6 212 yX6_maps cX6_maps 6 none (ws_ yX6_maps cX6_maps 6 none) rX6_maps 0 0 0 := cwV 0 hts (lw_V q1143 q1145 qs58 q95 q1146) rfl rfl rfl (by decide +kernel) hR
theorem cw6_215 {R : Room} {s : State} {args : Array Value} (hts : ∀ w ∈ lw_all, w.before args s = true) (hR : rX6_lives.frames + 1 ≤ R.frames ∧ 8 + (3 + 11) + rX6_lives.locals ≤ R.locals) : CallW R s args RX6 RX6 215 yX6_lives cX6_lives 3 none (ws_ yX6_lives cX6_lives 3 none) rX6_lives 0 0 0 := cwV 0 hts (lw_V q1150 q1152 qs59 q95 q1153) rfl rfl rfl (by decide +kernel) hR
theorem t6_find {p : Program} {l : Launch} {e : Env} {s : State} {m : MethodId} {args : Array Value} {below : List Frame} {meth : Method} {c : Code} {D : va_G} {T ad : Nat → Nat} {A : Nat → Prop} {H0 : Heap} {Qs : State → Prop} {Q : Mem → Prop} (C : MC D T p m c cX6_find 1 s args) (hQ : mExv p l e rX6_find s m args below meth c cX6_find D T ad A H0 Qs Q)  (M : Mem) (H : Heap) (locs : List Loc) (ls : Array Slot) (h : w6_find M Q) (I : MI D T ad A H0 M H locs) (hl : lv_has ls 1 [(0, .ref (ad 0))]) : W p l e rX6_find s m args below meth c H locs 0 0 Qs (F0 m 0 ls []) := by
  have hx := C.1.1
  have hb := C.1.2.1
  have how := C.1.2.2.2.1
  have hts := C.1.2.2.2.2
  unfold w6_find at h
  refine lv_aload_n hx hb dX6_find_0 rfl (lv_at hl 0 rfl) ?_
  refine m_calli (As := []) (rest := []) C I (met6_readsWays l D T ad M h) (cw6_139 hts ⟨Nat.le_of_ble_eq_true rfl, Nat.le_of_ble_eq_true rfl⟩) rfl hl.1 rfl (Nat.le_of_ble_eq_true rfl) ⟨Nat.zero_le _, Nat.zero_le _⟩ dX6_find_1 (fun r1 M2 H locs h I => ?_)
  refine lv_pop hx hb dX6_find_4 rfl ?_
  refine lv_aload_n hx hb dX6_find_5 rfl (lv_at hl 0 rfl) ?_
  refine m_calli (As := []) (rest := []) C I (met6_readsCarters l D T ad M2 h) (cw6_143 hts ⟨Nat.le_of_ble_eq_true rfl, Nat.le_of_ble_eq_true rfl⟩) rfl hl.1 rfl (Nat.le_of_ble_eq_true rfl) ⟨Nat.zero_le _, Nat.zero_le _⟩ dX6_find_6 (fun r3 M4 H locs h I => ?_)
  refine lv_pop hx hb dX6_find_9 rfl ?_
  refine lv_aload_n hx hb dX6_find_10 rfl (lv_at hl 0 rfl) ?_
  refine m_callv (As := []) (rest := []) C I (met6_maps l D T ad M4 h) (cw6_212 hts ⟨Nat.le_of_ble_eq_true rfl, Nat.le_of_ble_eq_true rfl⟩) rfl hl.1 rfl (Nat.le_of_ble_eq_true rfl) ⟨Nat.zero_le _, Nat.zero_le _⟩ dX6_find_11 (fun M5 H locs h I => ?_)
  refine lv_aload_n hx hb dX6_find_14 rfl (lv_at hl 0 rfl) ?_
  refine m_callv (As := []) (rest := []) C I (met6_lives l D T ad M5 h) (cw6_215 hts ⟨Nat.le_of_ble_eq_true rfl, Nat.le_of_ble_eq_true rfl⟩) rfl hl.1 rfl (Nat.le_of_ble_eq_true rfl) ⟨Nat.zero_le _, Nat.zero_le _⟩ dX6_find_15 (fun M6 H locs h I => ?_)
  exact hQ _ _ _ _ _ h I dX6_find_18
theorem met6_find (l : Launch) (D : va_G) (T ad : Nat → Nat)  (M : Mem) {Qp : Mem → Prop} (h : w6_find M Qp) (sz : Nat) : Met l yX6_find (ws_ yX6_find cX6_find 1 none) rX6_find (mPc D T ad [] M sz) (mQv D T ad M Qp sz) 0 0 (fA (cM T ad M) sz) :=
  m_metV (As := []) rfl rfl (Nat.le_of_ble_eq_true rfl) (fun p e s m args below meth c A Qs ls C hQ I hl => t6_find C hQ M _ _ ls h I hl) sz
/-! at -/
abbrev rX6_at : Room := { frames := 6, cells := 0, slots := 0, locals := 137 }
theorem cw6_218 {R : Room} {s : State} {args : Array Value} (hts : ∀ w ∈ lw_all, w.before args s = true) (hR : rX6_find.frames + 1 ≤ R.frames ∧ 8 + (1 + 11) + rX6_find.locals ≤ R.locals) : CallW R s args RX6 RX6 218 yX6_find cX6_find 1 none (ws_ yX6_find cX6_find 1 none) rX6_find 0 0 0 := cwV 0 hts (lw_V q1139 q1141 qs57 q95 q1142) rfl rfl rfl (by decide +kernel) hR
theorem t6_at_b51 {p : Program} {l : Launch} {e : Env} {s : State} {m : MethodId} {args : Array Value} {below : List Frame} {meth : Method} {c : Code} {D : va_G} {T ad : Nat → Nat} {A : Nat → Prop} {H0 : Heap} {Qs : State → Prop} {Q : Int32 → Mem → Prop}  (C : MC D T p m c cX6_at 4 s args) (hQ : mExi p l e rX6_at s m args below meth c cX6_at D T ad A H0 Qs Q)  (s0 : Int32) (M : Mem) (H : Heap) (locs : List Loc) (ls : Array Slot) (h : w6_at_b51 Q s0 M) (I : MI D T ad A H0 M H locs) (hl : lv_has ls 4 [(0, .ref (ad 0))]) : W p l e rX6_at s m args below meth c H locs 0 0 Qs (F0 m 51 ls [.int s0]) := by
  have hx := C.1.1
  have hb := C.1.2.1
  have how := C.1.2.2.2.1
  have hts := C.1.2.2.2.2
  unfold w6_at_b51 at h
  exact hQ _ _ _ _ _ _ h I dX6_at_51
theorem t6_at_b49 {p : Program} {l : Launch} {e : Env} {s : State} {m : MethodId} {args : Array Value} {below : List Frame} {meth : Method} {c : Code} {D : va_G} {T ad : Nat → Nat} {A : Nat → Prop} {H0 : Heap} {Qs : State → Prop} {Q : Int32 → Mem → Prop}  (C : MC D T p m c cX6_at 4 s args) (hQ : mExi p l e rX6_at s m args below meth c cX6_at D T ad A H0 Qs Q)   (M : Mem) (H : Heap) (locs : List Loc) (ls : Array Slot) (h : w6_at_b49 Q M) (I : MI D T ad A H0 M H locs) (hl : lv_has ls 4 [(0, .ref (ad 0))]) : W p l e rX6_at s m args below meth c H locs 0 0 Qs (F0 m 49 ls []) := by
  have hx := C.1.1
  have hb := C.1.2.1
  have how := C.1.2.2.2.1
  have hts := C.1.2.2.2.2
  unfold w6_at_b49 at h
  refine lv_bipush (v := -2) hx hb dX6_at_49 (by decide) ?_
  exact t6_at_b51 C hQ (-2) M _ _ _ h I (lv_sub hl [0] rfl)
theorem t6_at {p : Program} {l : Launch} {e : Env} {s : State} {m : MethodId} {args : Array Value} {below : List Frame} {meth : Method} {c : Code} {D : va_G} {T ad : Nat → Nat} {A : Nat → Prop} {H0 : Heap} {Qs : State → Prop} {Q : Int32 → Mem → Prop} (C : MC D T p m c cX6_at 4 s args) (hQ : mExi p l e rX6_at s m args below meth c cX6_at D T ad A H0 Qs Q) (v1 : Int32) (v2 : Int32) (v3 : Int32) (M : Mem) (H : Heap) (locs : List Loc) (ls : Array Slot) (h : w6_at v1 v2 v3 M Q) (I : MI D T ad A H0 M H locs) (hl : lv_has ls 4 [(0, .ref (ad 0)), (1, .int v1), (2, .int v2), (3, .int v3)]) : W p l e rX6_at s m args below meth c H locs 0 0 Qs (F0 m 0 ls []) := by
  have hx := C.1.1
  have hb := C.1.2.1
  have how := C.1.2.2.2.1
  have hts := C.1.2.2.2.2
  unfold w6_at at h
  refine lv_aload_n hx hb dX6_at_0 rfl (lv_at hl 0 rfl) ?_
  refine m_callv (As := []) (rest := []) C I (met6_find l D T ad M h) (cw6_218 hts ⟨Nat.le_of_ble_eq_true rfl, Nat.le_of_ble_eq_true rfl⟩) rfl hl.1 rfl (Nat.le_of_ble_eq_true rfl) ⟨Nat.zero_le _, Nat.zero_le _⟩ dX6_at_1 (fun M1 H locs h I => ?_)
  refine lv_iload_n hx hb dX6_at_4 rfl (lv_at hl 1 rfl) ?_
  refine m_purei (As := [.int v1]) (rest := []) C I (met6_isHour l v1 h) (cw6_160 hts ⟨Nat.le_of_ble_eq_true rfl, Nat.le_of_ble_eq_true rfl⟩) rfl hl.1 rfl (Nat.le_of_ble_eq_true rfl) ⟨Nat.zero_le _, Nat.zero_le _⟩ dX6_at_5 (fun r2 H locs h I => ?_)
  refine lv_if_eq (tgt := 49) hx hb dX6_at_8 (by decide) (fun c => ?_) (fun c => ?_)
  · have h := h.1 c
    exact t6_at_b49 C hQ M1 _ _ _ h I (lv_sub hl [0] rfl)
  · have h := h.2 c
    refine lv_aload_n hx hb dX6_at_11 rfl (lv_at hl 0 rfl) ?_
    refine lv_iload_n hx hb dX6_at_12 rfl (lv_at hl 2 rfl) ?_
    refine m_calli (As := [.int v2]) (rest := []) C I (met6_isCarter l D T ad v2 M1 h) (cw6_153 hts ⟨Nat.le_of_ble_eq_true rfl, Nat.le_of_ble_eq_true rfl⟩) rfl hl.1 rfl (Nat.le_of_ble_eq_true rfl) ⟨Nat.zero_le _, Nat.zero_le _⟩ dX6_at_13 (fun r3 M4 H locs h I => ?_)
    refine lv_if_eq (tgt := 49) hx hb dX6_at_16 (by decide) (fun c => ?_) (fun c => ?_)
    · have h := h.1 c
      exact t6_at_b49 C hQ M4 _ _ _ h I (lv_sub hl [0] rfl)
    · have h := h.2 c
      refine lv_iload_n hx hb dX6_at_19 rfl (lv_at hl 3 rfl) ?_
      refine lv_i2l hx hb dX6_at_20 rfl ?_
      refine lv_lconst (v := 0) hx hb dX6_at_21 rfl ?_
      refine lv_ldc2 hx hb how (hts _ q1016) dX6_at_22 ?_
      refine m_purei (As := [.long (Int32.toInt64 v3), .long 0, .long 3]) (rest := []) C I (met6_in l (Int32.toInt64 v3) 0 3 h) (cw6_81 hts ⟨Nat.le_of_ble_eq_true rfl, Nat.le_of_ble_eq_true rfl⟩) rfl hl.1 rfl (Nat.le_of_ble_eq_true rfl) ⟨Nat.zero_le _, Nat.zero_le _⟩ dX6_at_25 (fun r5 H locs h I => ?_)
      refine lv_if_eq (tgt := 49) hx hb dX6_at_28 (by decide) (fun c => ?_) (fun c => ?_)
      · have h := h.1 c
        exact t6_at_b49 C hQ M4 _ _ _ h I (lv_sub hl [0] rfl)
      · have h := h.2 c
        refine lv_aload_n hx hb dX6_at_31 rfl (lv_at hl 0 rfl) ?_
        refine mg_kept C I dX6_at_32 ?_
        refine lv_bipush (v := 32) hx hb dX6_at_35 (by decide) ?_
        refine lv_iload_n hx hb dX6_at_37 rfl (lv_at hl 1 rfl) ?_
        refine lv_imul hx hb dX6_at_38 ?_
        refine lv_iconst (v := 4) hx hb dX6_at_39 (by decide) ?_
        refine lv_iload_n hx hb dX6_at_40 rfl (lv_at hl 2 rfl) ?_
        refine lv_imul hx hb dX6_at_41 ?_
        refine lv_iadd hx hb dX6_at_42 ?_
        refine lv_iload_n hx hb dX6_at_43 rfl (lv_at hl 3 rfl) ?_
        refine lv_iadd hx hb dX6_at_44 ?_
        obtain ⟨hg6, h⟩ := h
        refine m_iald C I 24 1280 rfl (by decide) hg6 dX6_at_45 ?_
        refine lv_goto (tgt := 51) hx hb dX6_at_46 (by decide) ?_
        exact t6_at_b51 C hQ (M4 24 (ci (((32 * v1) + (4 * v2)) + v3))) M4 _ _ _ h I (lv_sub hl [0] rfl)
theorem met6_at (l : Launch) (D : va_G) (T ad : Nat → Nat) (v1 : Int32) (v2 : Int32) (v3 : Int32) (M : Mem) {Qp : Int32 → Mem → Prop} (h : w6_at v1 v2 v3 M Qp) (sz : Nat) : Met l yX6_at (ws_ yX6_at cX6_at 4 (some .int)) rX6_at (mPc D T ad [.int v1, .int v2, .int v3] M sz) (mQi D T ad M Qp sz) 0 0 (fA (cM T ad M) sz) :=
  m_metI (As := [.int v1, .int v2, .int v3]) rfl rfl (Nat.le_of_ble_eq_true rfl) (fun p e s m args below meth c A Qs ls C hQ I hl => t6_at C hQ v1 v2 v3 M _ _ ls h I hl) sz
/-! ends -/
abbrev rX6_ends : Room := { frames := 6, cells := 0, slots := 0, locals := 137 }
theorem t6_ends_b23 {p : Program} {l : Launch} {e : Env} {s : State} {m : MethodId} {args : Array Value} {below : List Frame} {meth : Method} {c : Code} {D : va_G} {T ad : Nat → Nat} {A : Nat → Prop} {H0 : Heap} {Qs : State → Prop} {Q : Int32 → Mem → Prop}  (C : MC D T p m c cX6_ends 2 s args) (hQ : mExi p l e rX6_ends s m args below meth c cX6_ends D T ad A H0 Qs Q)  (s0 : Int32) (M : Mem) (H : Heap) (locs : List Loc) (ls : Array Slot) (h : w6_ends_b23 Q s0 M) (I : MI D T ad A H0 M H locs) (hl : lv_has ls 2 [(0, .ref (ad 0))]) : W p l e rX6_ends s m args below meth c H locs 0 0 Qs (F0 m 23 ls [.int s0]) := by
  have hx := C.1.1
  have hb := C.1.2.1
  have how := C.1.2.2.2.1
  have hts := C.1.2.2.2.2
  unfold w6_ends_b23 at h
  exact hQ _ _ _ _ _ _ h I dX6_ends_23
theorem t6_ends {p : Program} {l : Launch} {e : Env} {s : State} {m : MethodId} {args : Array Value} {below : List Frame} {meth : Method} {c : Code} {D : va_G} {T ad : Nat → Nat} {A : Nat → Prop} {H0 : Heap} {Qs : State → Prop} {Q : Int32 → Mem → Prop} (C : MC D T p m c cX6_ends 2 s args) (hQ : mExi p l e rX6_ends s m args below meth c cX6_ends D T ad A H0 Qs Q) (v1 : Int32) (M : Mem) (H : Heap) (locs : List Loc) (ls : Array Slot) (h : w6_ends v1 M Q) (I : MI D T ad A H0 M H locs) (hl : lv_has ls 2 [(0, .ref (ad 0)), (1, .int v1)]) : W p l e rX6_ends s m args below meth c H locs 0 0 Qs (F0 m 0 ls []) := by
  have hx := C.1.1
  have hb := C.1.2.1
  have how := C.1.2.2.2.1
  have hts := C.1.2.2.2.2
  unfold w6_ends at h
  refine lv_aload_n hx hb dX6_ends_0 rfl (lv_at hl 0 rfl) ?_
  refine m_callv (As := []) (rest := []) C I (met6_find l D T ad M h) (cw6_218 hts ⟨Nat.le_of_ble_eq_true rfl, Nat.le_of_ble_eq_true rfl⟩) rfl hl.1 rfl (Nat.le_of_ble_eq_true rfl) ⟨Nat.zero_le _, Nat.zero_le _⟩ dX6_ends_1 (fun M1 H locs h I => ?_)
  refine lv_aload_n hx hb dX6_ends_4 rfl (lv_at hl 0 rfl) ?_
  refine lv_iload_n hx hb dX6_ends_5 rfl (lv_at hl 1 rfl) ?_
  refine m_calli (As := [.int v1]) (rest := []) C I (met6_isCarter l D T ad v1 M1 h) (cw6_153 hts ⟨Nat.le_of_ble_eq_true rfl, Nat.le_of_ble_eq_true rfl⟩) rfl hl.1 rfl (Nat.le_of_ble_eq_true rfl) ⟨Nat.zero_le _, Nat.zero_le _⟩ dX6_ends_6 (fun r2 M3 H locs h I => ?_)
  refine lv_if_eq (tgt := 21) hx hb dX6_ends_9 (by decide) (fun c => ?_) (fun c => ?_)
  · have h := h.1 c
    refine lv_bipush (v := -2) hx hb dX6_ends_21 (by decide) ?_
    exact t6_ends_b23 C hQ (-2) M3 _ _ _ h I (lv_sub hl [0] rfl)
  · have h := h.2 c
    refine lv_aload_n hx hb dX6_ends_12 rfl (lv_at hl 0 rfl) ?_
    refine mg_ends C I dX6_ends_13 ?_
    refine lv_iload_n hx hb dX6_ends_16 rfl (lv_at hl 1 rfl) ?_
    obtain ⟨hg4, h⟩ := h
    refine m_iald C I 23 8 rfl (by decide) hg4 dX6_ends_17 ?_
    refine lv_goto (tgt := 23) hx hb dX6_ends_18 (by decide) ?_
    exact t6_ends_b23 C hQ (M3 23 (ci v1)) M3 _ _ _ h I (lv_sub hl [0] rfl)
theorem met6_ends (l : Launch) (D : va_G) (T ad : Nat → Nat) (v1 : Int32) (M : Mem) {Qp : Int32 → Mem → Prop} (h : w6_ends v1 M Qp) (sz : Nat) : Met l yX6_ends (ws_ yX6_ends cX6_ends 2 (some .int)) rX6_ends (mPc D T ad [.int v1] M sz) (mQi D T ad M Qp sz) 0 0 (fA (cM T ad M) sz) :=
  m_metI (As := [.int v1]) rfl rfl (Nat.le_of_ble_eq_true rfl) (fun p e s m args below meth c A Qs ls C hQ I hl => t6_ends C hQ v1 M _ _ ls h I hl) sz
/-! farBy -/
abbrev rX6_farBy : Room := { frames := 0, cells := 0, slots := 0, locals := 0 }
theorem t6_farBy_b32 {p : Program} {l : Launch} {e : Env} {s : State} {m : MethodId} {args : Array Value} {below : List Frame} {meth : Method} {c : Code} {D : va_G} {T ad : Nat → Nat} {A : Nat → Prop} {H0 : Heap} {Qs : State → Prop} {Q : Int32 → Mem → Prop}  (C : MC D T p m c cX6_farBy 3 s args) (hQ : mExi p l e rX6_farBy s m args below meth c cX6_farBy D T ad A H0 Qs Q)  (s0 : Int32) (M : Mem) (H : Heap) (locs : List Loc) (ls : Array Slot) (h : w6_farBy_b32 Q s0 M) (I : MI D T ad A H0 M H locs) (hl : lv_has ls 3 [(0, .ref (ad 0))]) : W p l e rX6_farBy s m args below meth c H locs 0 0 Qs (F0 m 32 ls [.int s0]) := by
  have hx := C.1.1
  have hb := C.1.2.1
  have how := C.1.2.2.2.1
  have hts := C.1.2.2.2.2
  unfold w6_farBy_b32 at h
  exact hQ _ _ _ _ _ _ h I dX6_farBy_32
theorem t6_farBy {p : Program} {l : Launch} {e : Env} {s : State} {m : MethodId} {args : Array Value} {below : List Frame} {meth : Method} {c : Code} {D : va_G} {T ad : Nat → Nat} {A : Nat → Prop} {H0 : Heap} {Qs : State → Prop} {Q : Int32 → Mem → Prop} (C : MC D T p m c cX6_farBy 3 s args) (hQ : mExi p l e rX6_farBy s m args below meth c cX6_farBy D T ad A H0 Qs Q) (v1 : Int32) (v2 : Int32) (M : Mem) (H : Heap) (locs : List Loc) (ls : Array Slot) (h : w6_farBy v1 v2 M Q) (I : MI D T ad A H0 M H locs) (hl : lv_has ls 3 [(0, .ref (ad 0)), (1, .int v1), (2, .int v2)]) : W p l e rX6_farBy s m args below meth c H locs 0 0 Qs (F0 m 0 ls []) := by
  have hx := C.1.1
  have hb := C.1.2.1
  have how := C.1.2.2.2.1
  have hts := C.1.2.2.2.2
  unfold w6_farBy at h
  refine lv_aload_n hx hb dX6_farBy_0 rfl (lv_at hl 0 rfl) ?_
  refine mg_far C I dX6_farBy_1 ?_
  refine lv_bipush (v := 8) hx hb dX6_farBy_4 (by decide) ?_
  refine lv_iload_n hx hb dX6_farBy_6 rfl (lv_at hl 1 rfl) ?_
  refine lv_imul hx hb dX6_farBy_7 ?_
  refine lv_iload_n hx hb dX6_farBy_8 rfl (lv_at hl 2 rfl) ?_
  refine lv_iadd hx hb dX6_farBy_9 ?_
  obtain ⟨hg1, h⟩ := h
  refine m_iald C I 17 64 rfl (by decide) hg1 dX6_farBy_10 ?_
  refine lv_sipush (v := 9999) hx hb dX6_farBy_11 (by decide) ?_
  refine lv_icmp_ge (tgt := 31) hx hb dX6_farBy_14 (by decide) (fun c => ?_) (fun c => ?_)
  · have h := h.1 c
    refine lv_iconst (v := -1) hx hb dX6_farBy_31 (by decide) ?_
    exact t6_farBy_b32 C hQ (-1) M _ _ _ h I (lv_sub hl [0] rfl)
  · have h := h.2 c
    refine lv_aload_n hx hb dX6_farBy_17 rfl (lv_at hl 0 rfl) ?_
    refine mg_far C I dX6_farBy_18 ?_
    refine lv_bipush (v := 8) hx hb dX6_farBy_21 (by decide) ?_
    refine lv_iload_n hx hb dX6_farBy_23 rfl (lv_at hl 1 rfl) ?_
    refine lv_imul hx hb dX6_farBy_24 ?_
    refine lv_iload_n hx hb dX6_farBy_25 rfl (lv_at hl 2 rfl) ?_
    refine lv_iadd hx hb dX6_farBy_26 ?_
    refine m_iald C I 17 64 rfl (by decide) hg1 dX6_farBy_27 ?_
    refine lv_goto (tgt := 32) hx hb dX6_farBy_28 (by decide) ?_
    exact t6_farBy_b32 C hQ (M 17 (ci ((8 * v1) + v2))) M _ _ _ h I (lv_sub hl [0] rfl)
theorem met6_farBy (l : Launch) (D : va_G) (T ad : Nat → Nat) (v1 : Int32) (v2 : Int32) (M : Mem) {Qp : Int32 → Mem → Prop} (h : w6_farBy v1 v2 M Qp) (sz : Nat) : Met l yX6_farBy (ws_ yX6_farBy cX6_farBy 3 (some .int)) rX6_farBy (mPc D T ad [.int v1, .int v2] M sz) (mQi D T ad M Qp sz) 0 0 (fA (cM T ad M) sz) :=
  m_metI (As := [.int v1, .int v2]) rfl rfl (Nat.le_of_ble_eq_true rfl) (fun p e s m args below meth c A Qs ls C hQ I hl => t6_farBy C hQ v1 v2 M _ _ ls h I hl) sz
/-! far -/
abbrev rX6_far : Room := { frames := 6, cells := 0, slots := 0, locals := 137 }
theorem cw6_221 {R : Room} {s : State} {args : Array Value} (hts : ∀ w ∈ lw_all, w.before args s = true) (hR : rX6_farBy.frames + 1 ≤ R.frames ∧ 8 + (3 + 11) + rX6_farBy.locals ≤ R.locals) : CallW R s args RX6 RX6 221 yX6_farBy cX6_farBy 3 (some .int) (ws_ yX6_farBy cX6_farBy 3 (some .int)) rX6_farBy 0 0 2 := cwV 2 hts (lw_V q1193 q1195 qs67 q95 q1196) rfl rfl rfl (by decide +kernel) hR
theorem t6_far_b29 {p : Program} {l : Launch} {e : Env} {s : State} {m : MethodId} {args : Array Value} {below : List Frame} {meth : Method} {c : Code} {D : va_G} {T ad : Nat → Nat} {A : Nat → Prop} {H0 : Heap} {Qs : State → Prop} {Q : Int32 → Mem → Prop}  (C : MC D T p m c cX6_far 3 s args) (hQ : mExi p l e rX6_far s m args below meth c cX6_far D T ad A H0 Qs Q)  (s0 : Int32) (M : Mem) (H : Heap) (locs : List Loc) (ls : Array Slot) (h : w6_far_b29 Q s0 M) (I : MI D T ad A H0 M H locs) (hl : lv_has ls 3 [(0, .ref (ad 0))]) : W p l e rX6_far s m args below meth c H locs 0 0 Qs (F0 m 29 ls [.int s0]) := by
  have hx := C.1.1
  have hb := C.1.2.1
  have how := C.1.2.2.2.1
  have hts := C.1.2.2.2.2
  unfold w6_far_b29 at h
  exact hQ _ _ _ _ _ _ h I dX6_far_29
theorem t6_far_b27 {p : Program} {l : Launch} {e : Env} {s : State} {m : MethodId} {args : Array Value} {below : List Frame} {meth : Method} {c : Code} {D : va_G} {T ad : Nat → Nat} {A : Nat → Prop} {H0 : Heap} {Qs : State → Prop} {Q : Int32 → Mem → Prop}  (C : MC D T p m c cX6_far 3 s args) (hQ : mExi p l e rX6_far s m args below meth c cX6_far D T ad A H0 Qs Q)   (M : Mem) (H : Heap) (locs : List Loc) (ls : Array Slot) (h : w6_far_b27 Q M) (I : MI D T ad A H0 M H locs) (hl : lv_has ls 3 [(0, .ref (ad 0))]) : W p l e rX6_far s m args below meth c H locs 0 0 Qs (F0 m 27 ls []) := by
  have hx := C.1.1
  have hb := C.1.2.1
  have how := C.1.2.2.2.1
  have hts := C.1.2.2.2.2
  unfold w6_far_b27 at h
  refine lv_bipush (v := -2) hx hb dX6_far_27 (by decide) ?_
  exact t6_far_b29 C hQ (-2) M _ _ _ h I (lv_sub hl [0] rfl)
theorem t6_far {p : Program} {l : Launch} {e : Env} {s : State} {m : MethodId} {args : Array Value} {below : List Frame} {meth : Method} {c : Code} {D : va_G} {T ad : Nat → Nat} {A : Nat → Prop} {H0 : Heap} {Qs : State → Prop} {Q : Int32 → Mem → Prop} (C : MC D T p m c cX6_far 3 s args) (hQ : mExi p l e rX6_far s m args below meth c cX6_far D T ad A H0 Qs Q) (v1 : Int32) (v2 : Int32) (M : Mem) (H : Heap) (locs : List Loc) (ls : Array Slot) (h : w6_far v1 v2 M Q) (I : MI D T ad A H0 M H locs) (hl : lv_has ls 3 [(0, .ref (ad 0)), (1, .int v1), (2, .int v2)]) : W p l e rX6_far s m args below meth c H locs 0 0 Qs (F0 m 0 ls []) := by
  have hx := C.1.1
  have hb := C.1.2.1
  have how := C.1.2.2.2.1
  have hts := C.1.2.2.2.2
  unfold w6_far at h
  refine lv_aload_n hx hb dX6_far_0 rfl (lv_at hl 0 rfl) ?_
  refine m_callv (As := []) (rest := []) C I (met6_find l D T ad M h) (cw6_218 hts ⟨Nat.le_of_ble_eq_true rfl, Nat.le_of_ble_eq_true rfl⟩) rfl hl.1 rfl (Nat.le_of_ble_eq_true rfl) ⟨Nat.zero_le _, Nat.zero_le _⟩ dX6_far_1 (fun M1 H locs h I => ?_)
  refine lv_iload_n hx hb dX6_far_4 rfl (lv_at hl 1 rfl) ?_
  refine m_purei (As := [.int v1]) (rest := []) C I (met6_isPlace l v1 h) (cw6_163 hts ⟨Nat.le_of_ble_eq_true rfl, Nat.le_of_ble_eq_true rfl⟩) rfl hl.1 rfl (Nat.le_of_ble_eq_true rfl) ⟨Nat.zero_le _, Nat.zero_le _⟩ dX6_far_5 (fun r2 H locs h I => ?_)
  refine lv_if_eq (tgt := 27) hx hb dX6_far_8 (by decide) (fun c => ?_) (fun c => ?_)
  · have h := h.1 c
    exact t6_far_b27 C hQ M1 _ _ _ h I (lv_sub hl [0] rfl)
  · have h := h.2 c
    refine lv_iload_n hx hb dX6_far_11 rfl (lv_at hl 2 rfl) ?_
    refine m_purei (As := [.int v2]) (rest := []) C I (met6_isPlace l v2 h) (cw6_163 hts ⟨Nat.le_of_ble_eq_true rfl, Nat.le_of_ble_eq_true rfl⟩) rfl hl.1 rfl (Nat.le_of_ble_eq_true rfl) ⟨Nat.zero_le _, Nat.zero_le _⟩ dX6_far_12 (fun r3 H locs h I => ?_)
    refine lv_if_eq (tgt := 27) hx hb dX6_far_15 (by decide) (fun c => ?_) (fun c => ?_)
    · have h := h.1 c
      exact t6_far_b27 C hQ M1 _ _ _ h I (lv_sub hl [0] rfl)
    · have h := h.2 c
      refine lv_aload_n hx hb dX6_far_18 rfl (lv_at hl 0 rfl) ?_
      refine lv_iload_n hx hb dX6_far_19 rfl (lv_at hl 1 rfl) ?_
      refine lv_iload_n hx hb dX6_far_20 rfl (lv_at hl 2 rfl) ?_
      refine m_calli (As := [.int v1, .int v2]) (rest := []) C I (met6_farBy l D T ad v1 v2 M1 h) (cw6_221 hts ⟨Nat.le_of_ble_eq_true rfl, Nat.le_of_ble_eq_true rfl⟩) rfl hl.1 rfl (Nat.le_of_ble_eq_true rfl) ⟨Nat.zero_le _, Nat.zero_le _⟩ dX6_far_21 (fun r4 M5 H locs h I => ?_)
      refine lv_goto (tgt := 29) hx hb dX6_far_24 (by decide) ?_
      exact t6_far_b29 C hQ r4 M5 _ _ _ h I (lv_sub hl [0] rfl)
theorem met6_far (l : Launch) (D : va_G) (T ad : Nat → Nat) (v1 : Int32) (v2 : Int32) (M : Mem) {Qp : Int32 → Mem → Prop} (h : w6_far v1 v2 M Qp) (sz : Nat) : Met l yX6_far (ws_ yX6_far cX6_far 3 (some .int)) rX6_far (mPc D T ad [.int v1, .int v2] M sz) (mQi D T ad M Qp sz) 0 0 (fA (cM T ad M) sz) :=
  m_metI (As := [.int v1, .int v2]) rfl rfl (Nat.le_of_ble_eq_true rfl) (fun p e s m args below meth c A Qs ls C hQ I hl => t6_far C hQ v1 v2 M _ _ ls h I hl) sz
/-! whoBy -/
abbrev rX6_whoBy : Room := { frames := 0, cells := 0, slots := 0, locals := 0 }
theorem t6_whoBy_b30 {p : Program} {l : Launch} {e : Env} {s : State} {m : MethodId} {args : Array Value} {below : List Frame} {meth : Method} {c : Code} {D : va_G} {T ad : Nat → Nat} {A : Nat → Prop} {H0 : Heap} {Qs : State → Prop} {Q : Int32 → Mem → Prop} {K4 : Int32 → Int32 → Int32 → Mem → Prop} (C : MC D T p m c cX6_whoBy 4 s args) (hQ : mExi p l e rX6_whoBy s m args below meth c cX6_whoBy D T ad A H0 Qs Q) (hK4 : ∀ (v1 : Int32) (v2 : Int32) (v3 : Int32) (M : Mem) (H : Heap) (locs : List Loc) (ls : Array Slot), K4 v1 v2 v3 M → MI D T ad A H0 M H locs → lv_has ls 4 [(0, .ref (ad 0)), (1, .int v1), (2, .int v2), (3, .int v3)] → W p l e rX6_whoBy s m args below meth c H locs 0 0 Qs (F0 m 4 ls [])) (v1 : Int32) (v3 : Int32) (s0 : Int32) (s1 : Int32) (M : Mem) (H : Heap) (locs : List Loc) (ls : Array Slot) (h : w6_whoBy_b30 Q K4 v1 v3 s0 s1 M) (I : MI D T ad A H0 M H locs) (hl : lv_has ls 4 [(0, .ref (ad 0)), (1, .int v1), (3, .int v3)]) : W p l e rX6_whoBy s m args below meth c H locs 0 0 Qs (F0 m 30 ls [.int s1, .int s0]) := by
  have hx := C.1.1
  have hb := C.1.2.1
  have how := C.1.2.2.2.1
  have hts := C.1.2.2.2.2
  unfold w6_whoBy_b30 at h
  refine lv_ior hx hb dX6_whoBy_30 ?_
  refine lv_istore_n (lv' := [(2, .int (s0 ||| s1)), (0, .ref (ad 0)), (1, .int v1), (3, .int v3)]) hx hb dX6_whoBy_31 rfl hl (by decide) rfl (fun ls hl => ?_)
  refine lv_iinc (v := (v3 + 1)) (lv' := [(3, .int (v3 + 1)), (2, .int (s0 ||| s1)), (0, .ref (ad 0)), (1, .int v1)]) hx hb dX6_whoBy_32 hl (k := 3) rfl (ii_1 _) (by decide) rfl (fun ls hl => ?_)
  refine lv_goto (tgt := 4) hx hb dX6_whoBy_35 (by decide) ?_
  exact hK4 v1 (s0 ||| s1) (v3 + 1) M _ _ _ h I (lv_sub hl [2, 3, 1, 0] rfl)
theorem t6_whoBy_b4_f {p : Program} {l : Launch} {e : Env} {s : State} {m : MethodId} {args : Array Value} {below : List Frame} {meth : Method} {c : Code} {D : va_G} {T ad : Nat → Nat} {A : Nat → Prop} {H0 : Heap} {Qs : State → Prop} {Q : Int32 → Mem → Prop} {K4 : Int32 → Int32 → Int32 → Mem → Prop} (C : MC D T p m c cX6_whoBy 4 s args) (hQ : mExi p l e rX6_whoBy s m args below meth c cX6_whoBy D T ad A H0 Qs Q) (hK4 : ∀ (v1 : Int32) (v2 : Int32) (v3 : Int32) (M : Mem) (H : Heap) (locs : List Loc) (ls : Array Slot), K4 v1 v2 v3 M → MI D T ad A H0 M H locs → lv_has ls 4 [(0, .ref (ad 0)), (1, .int v1), (2, .int v2), (3, .int v3)] → W p l e rX6_whoBy s m args below meth c H locs 0 0 Qs (F0 m 4 ls [])) (v1 : Int32) (v2 : Int32) (v3 : Int32) (M : Mem) (H : Heap) (locs : List Loc) (ls : Array Slot) (h : w6_whoBy_b4_f Q K4 v1 v2 v3 M) (I : MI D T ad A H0 M H locs) (hl : lv_has ls 4 [(0, .ref (ad 0)), (1, .int v1), (2, .int v2), (3, .int v3)]) : W p l e rX6_whoBy s m args below meth c H locs 0 0 Qs (F0 m 4 ls []) := by
  have hx := C.1.1
  have hb := C.1.2.1
  have how := C.1.2.2.2.1
  have hts := C.1.2.2.2.2
  unfold w6_whoBy_b4_f at h
  refine lv_iload_n hx hb dX6_whoBy_4 rfl (lv_at hl 3 rfl) ?_
  refine lv_aload_n hx hb dX6_whoBy_5 rfl (lv_at hl 0 rfl) ?_
  refine mg_carters C I dX6_whoBy_6 ?_
  refine lv_icmp_ge (tgt := 38) hx hb dX6_whoBy_9 (by decide) (fun c => ?_) (fun c => ?_)
  · have h := h.1 c
    refine lv_iload_n hx hb dX6_whoBy_38 rfl (lv_at hl 2 rfl) ?_
    exact hQ _ _ _ _ _ _ h I dX6_whoBy_39
  · have h := h.2 c
    refine lv_iload_n hx hb dX6_whoBy_12 rfl (lv_at hl 2 rfl) ?_
    refine lv_aload_n hx hb dX6_whoBy_13 rfl (lv_at hl 0 rfl) ?_
    refine mg_state C I dX6_whoBy_14 ?_
    refine lv_iload_n hx hb dX6_whoBy_17 rfl (lv_at hl 3 rfl) ?_
    obtain ⟨hg1, h⟩ := h
    refine m_iald C I 18 8 rfl (by decide) hg1 dX6_whoBy_18 ?_
    refine lv_iload_n hx hb dX6_whoBy_19 rfl (lv_at hl 1 rfl) ?_
    refine lv_icmp_ne (tgt := 29) hx hb dX6_whoBy_20 (by decide) (fun c => ?_) (fun c => ?_)
    · have h := h.2 c
      refine lv_iconst (v := 0) hx hb dX6_whoBy_29 (by decide) ?_
      exact t6_whoBy_b30 C hQ hK4 v1 v3 v2 0 M _ _ _ h I (lv_sub hl [0, 1, 3] rfl)
    · have h := h.1 c
      refine lv_iconst (v := 1) hx hb dX6_whoBy_23 (by decide) ?_
      refine lv_iload_n hx hb dX6_whoBy_24 rfl (lv_at hl 3 rfl) ?_
      refine lv_ishl hx hb dX6_whoBy_25 ?_
      refine lv_goto (tgt := 30) hx hb dX6_whoBy_26 (by decide) ?_
      exact t6_whoBy_b30 C hQ hK4 v1 v3 v2 (1 <<< (v3 &&& 31)) M _ _ _ h I (lv_sub hl [0, 1, 3] rfl)
theorem t6_whoBy_b4 {p : Program} {l : Launch} {e : Env} {s : State} {m : MethodId} {args : Array Value} {below : List Frame} {meth : Method} {c : Code} {D : va_G} {T ad : Nat → Nat} {A : Nat → Prop} {H0 : Heap} {Qs : State → Prop} {Q : Int32 → Mem → Prop}  (C : MC D T p m c cX6_whoBy 4 s args) (hQ : mExi p l e rX6_whoBy s m args below meth c cX6_whoBy D T ad A H0 Qs Q)  : ∀ (n : Nat) (v1 : Int32) (v2 : Int32) (v3 : Int32) (M : Mem) (H : Heap) (locs : List Loc) (ls : Array Slot), w6_whoBy_b4 Q n v1 v2 v3 M → MI D T ad A H0 M H locs → lv_has ls 4 [(0, .ref (ad 0)), (1, .int v1), (2, .int v2), (3, .int v3)] → W p l e rX6_whoBy s m args below meth c H locs 0 0 Qs (F0 m 4 ls []) := by
  intro n
  induction n with
  | zero => intro v1 v2 v3 M H locs ls h; exact h.elim
  | succ n ih => intro v1 v2 v3 M H locs ls h I hl; exact t6_whoBy_b4_f C hQ  ih v1 v2 v3 M H locs ls h I hl
theorem t6_whoBy {p : Program} {l : Launch} {e : Env} {s : State} {m : MethodId} {args : Array Value} {below : List Frame} {meth : Method} {c : Code} {D : va_G} {T ad : Nat → Nat} {A : Nat → Prop} {H0 : Heap} {Qs : State → Prop} {Q : Int32 → Mem → Prop} (C : MC D T p m c cX6_whoBy 4 s args) (hQ : mExi p l e rX6_whoBy s m args below meth c cX6_whoBy D T ad A H0 Qs Q) (v1 : Int32) (M : Mem) (H : Heap) (locs : List Loc) (ls : Array Slot) (h : w6_whoBy v1 M Q) (I : MI D T ad A H0 M H locs) (hl : lv_has ls 4 [(0, .ref (ad 0)), (1, .int v1)]) : W p l e rX6_whoBy s m args below meth c H locs 0 0 Qs (F0 m 0 ls []) := by
  have hx := C.1.1
  have hb := C.1.2.1
  have how := C.1.2.2.2.1
  have hts := C.1.2.2.2.2
  unfold w6_whoBy at h
  refine lv_iconst (v := 0) hx hb dX6_whoBy_0 (by decide) ?_
  refine lv_istore_n (lv' := [(2, .int 0), (0, .ref (ad 0)), (1, .int v1)]) hx hb dX6_whoBy_1 rfl hl (by decide) rfl (fun ls hl => ?_)
  refine lv_iconst (v := 0) hx hb dX6_whoBy_2 (by decide) ?_
  refine lv_istore_n (lv' := [(3, .int 0), (2, .int 0), (0, .ref (ad 0)), (1, .int v1)]) hx hb dX6_whoBy_3 rfl hl (by decide) rfl (fun ls hl => ?_)
  obtain ⟨n, h⟩ := h
  exact t6_whoBy_b4 C hQ n v1 0 0 M _ _ _ h I (lv_sub hl [2, 3, 1, 0] rfl)
theorem met6_whoBy (l : Launch) (D : va_G) (T ad : Nat → Nat) (v1 : Int32) (M : Mem) {Qp : Int32 → Mem → Prop} (h : w6_whoBy v1 M Qp) (sz : Nat) : Met l yX6_whoBy (ws_ yX6_whoBy cX6_whoBy 4 (some .int)) rX6_whoBy (mPc D T ad [.int v1] M sz) (mQi D T ad M Qp sz) 0 0 (fA (cM T ad M) sz) :=
  m_metI (As := [.int v1]) rfl rfl (Nat.le_of_ble_eq_true rfl) (fun p e s m args below meth c A Qs ls C hQ I hl => t6_whoBy C hQ v1 M _ _ ls h I hl) sz
/-! who -/
abbrev rX6_who : Room := { frames := 6, cells := 0, slots := 0, locals := 137 }
theorem cw6_226 {R : Room} {s : State} {args : Array Value} (hts : ∀ w ∈ lw_all, w.before args s = true) (hR : rX6_whoBy.frames + 1 ≤ R.frames ∧ 8 + (4 + 11) + rX6_whoBy.locals ≤ R.locals) : CallW R s args RX6 RX6 226 yX6_whoBy cX6_whoBy 4 (some .int) (ws_ yX6_whoBy cX6_whoBy 4 (some .int)) rX6_whoBy 0 0 1 := cwV 1 hts (lw_V q1202 q1204 qs68 q95 q1205) rfl rfl rfl (by decide +kernel) hR
theorem t6_who_b28 {p : Program} {l : Launch} {e : Env} {s : State} {m : MethodId} {args : Array Value} {below : List Frame} {meth : Method} {c : Code} {D : va_G} {T ad : Nat → Nat} {A : Nat → Prop} {H0 : Heap} {Qs : State → Prop} {Q : Int32 → Mem → Prop}  (C : MC D T p m c cX6_who 2 s args) (hQ : mExi p l e rX6_who s m args below meth c cX6_who D T ad A H0 Qs Q)  (s0 : Int32) (M : Mem) (H : Heap) (locs : List Loc) (ls : Array Slot) (h : w6_who_b28 Q s0 M) (I : MI D T ad A H0 M H locs) (hl : lv_has ls 2 [(0, .ref (ad 0))]) : W p l e rX6_who s m args below meth c H locs 0 0 Qs (F0 m 28 ls [.int s0]) := by
  have hx := C.1.1
  have hb := C.1.2.1
  have how := C.1.2.2.2.1
  have hts := C.1.2.2.2.2
  unfold w6_who_b28 at h
  exact hQ _ _ _ _ _ _ h I dX6_who_28
theorem t6_who {p : Program} {l : Launch} {e : Env} {s : State} {m : MethodId} {args : Array Value} {below : List Frame} {meth : Method} {c : Code} {D : va_G} {T ad : Nat → Nat} {A : Nat → Prop} {H0 : Heap} {Qs : State → Prop} {Q : Int32 → Mem → Prop} (C : MC D T p m c cX6_who 2 s args) (hQ : mExi p l e rX6_who s m args below meth c cX6_who D T ad A H0 Qs Q) (v1 : Int32) (M : Mem) (H : Heap) (locs : List Loc) (ls : Array Slot) (h : w6_who v1 M Q) (I : MI D T ad A H0 M H locs) (hl : lv_has ls 2 [(0, .ref (ad 0)), (1, .int v1)]) : W p l e rX6_who s m args below meth c H locs 0 0 Qs (F0 m 0 ls []) := by
  have hx := C.1.1
  have hb := C.1.2.1
  have how := C.1.2.2.2.1
  have hts := C.1.2.2.2.2
  unfold w6_who at h
  refine lv_aload_n hx hb dX6_who_0 rfl (lv_at hl 0 rfl) ?_
  refine m_callv (As := []) (rest := []) C I (met6_find l D T ad M h) (cw6_218 hts ⟨Nat.le_of_ble_eq_true rfl, Nat.le_of_ble_eq_true rfl⟩) rfl hl.1 rfl (Nat.le_of_ble_eq_true rfl) ⟨Nat.zero_le _, Nat.zero_le _⟩ dX6_who_1 (fun M1 H locs h I => ?_)
  refine lv_iload_n hx hb dX6_who_4 rfl (lv_at hl 1 rfl) ?_
  refine lv_i2l hx hb dX6_who_5 rfl ?_
  refine lv_ldc2 hx hb how (hts _ q1020) dX6_who_6 ?_
  refine lv_ldc2 hx hb how (hts _ q1201) dX6_who_9 ?_
  refine m_purei (As := [.long (Int32.toInt64 v1), .long 2, .long 5]) (rest := []) C I (met6_in l (Int32.toInt64 v1) 2 5 h) (cw6_81 hts ⟨Nat.le_of_ble_eq_true rfl, Nat.le_of_ble_eq_true rfl⟩) rfl hl.1 rfl (Nat.le_of_ble_eq_true rfl) ⟨Nat.zero_le _, Nat.zero_le _⟩ dX6_who_12 (fun r2 H locs h I => ?_)
  refine lv_if_eq (tgt := 26) hx hb dX6_who_15 (by decide) (fun c => ?_) (fun c => ?_)
  · have h := h.1 c
    refine lv_bipush (v := -2) hx hb dX6_who_26 (by decide) ?_
    exact t6_who_b28 C hQ (-2) M1 _ _ _ h I (lv_sub hl [0] rfl)
  · have h := h.2 c
    refine lv_aload_n hx hb dX6_who_18 rfl (lv_at hl 0 rfl) ?_
    refine lv_iload_n hx hb dX6_who_19 rfl (lv_at hl 1 rfl) ?_
    refine m_calli (As := [.int v1]) (rest := []) C I (met6_whoBy l D T ad v1 M1 h) (cw6_226 hts ⟨Nat.le_of_ble_eq_true rfl, Nat.le_of_ble_eq_true rfl⟩) rfl hl.1 rfl (Nat.le_of_ble_eq_true rfl) ⟨Nat.zero_le _, Nat.zero_le _⟩ dX6_who_20 (fun r3 M4 H locs h I => ?_)
    refine lv_goto (tgt := 28) hx hb dX6_who_23 (by decide) ?_
    exact t6_who_b28 C hQ r3 M4 _ _ _ h I (lv_sub hl [0] rfl)
theorem met6_who (l : Launch) (D : va_G) (T ad : Nat → Nat) (v1 : Int32) (M : Mem) {Qp : Int32 → Mem → Prop} (h : w6_who v1 M Qp) (sz : Nat) : Met l yX6_who (ws_ yX6_who cX6_who 2 (some .int)) rX6_who (mPc D T ad [.int v1] M sz) (mQi D T ad M Qp sz) 0 0 (fA (cM T ad M) sz) :=
  m_metI (As := [.int v1]) rfl rfl (Nat.le_of_ble_eq_true rfl) (fun p e s m args below meth c A Qs ls C hQ I hl => t6_who C hQ v1 M _ _ ls h I hl) sz
/-! met -/
abbrev rX6_met : Room := { frames := 6, cells := 0, slots := 0, locals := 137 }
theorem t6_met_b31 {p : Program} {l : Launch} {e : Env} {s : State} {m : MethodId} {args : Array Value} {below : List Frame} {meth : Method} {c : Code} {D : va_G} {T ad : Nat → Nat} {A : Nat → Prop} {H0 : Heap} {Qs : State → Prop} {Q : Int32 → Mem → Prop}  (C : MC D T p m c cX6_met 2 s args) (hQ : mExi p l e rX6_met s m args below meth c cX6_met D T ad A H0 Qs Q)  (s0 : Int32) (M : Mem) (H : Heap) (locs : List Loc) (ls : Array Slot) (h : w6_met_b31 Q s0 M) (I : MI D T ad A H0 M H locs) (hl : lv_has ls 2 [(0, .ref (ad 0))]) : W p l e rX6_met s m args below meth c H locs 0 0 Qs (F0 m 31 ls [.int s0]) := by
  have hx := C.1.1
  have hb := C.1.2.1
  have how := C.1.2.2.2.1
  have hts := C.1.2.2.2.2
  unfold w6_met_b31 at h
  exact hQ _ _ _ _ _ _ h I dX6_met_31
theorem t6_met {p : Program} {l : Launch} {e : Env} {s : State} {m : MethodId} {args : Array Value} {below : List Frame} {meth : Method} {c : Code} {D : va_G} {T ad : Nat → Nat} {A : Nat → Prop} {H0 : Heap} {Qs : State → Prop} {Q : Int32 → Mem → Prop} (C : MC D T p m c cX6_met 2 s args) (hQ : mExi p l e rX6_met s m args below meth c cX6_met D T ad A H0 Qs Q) (v1 : Int32) (M : Mem) (H : Heap) (locs : List Loc) (ls : Array Slot) (h : w6_met v1 M Q) (I : MI D T ad A H0 M H locs) (hl : lv_has ls 2 [(0, .ref (ad 0)), (1, .int v1)]) : W p l e rX6_met s m args below meth c H locs 0 0 Qs (F0 m 0 ls []) := by
  have hx := C.1.1
  have hb := C.1.2.1
  have how := C.1.2.2.2.1
  have hts := C.1.2.2.2.2
  unfold w6_met at h
  refine lv_aload_n hx hb dX6_met_0 rfl (lv_at hl 0 rfl) ?_
  refine m_callv (As := []) (rest := []) C I (met6_find l D T ad M h) (cw6_218 hts ⟨Nat.le_of_ble_eq_true rfl, Nat.le_of_ble_eq_true rfl⟩) rfl hl.1 rfl (Nat.le_of_ble_eq_true rfl) ⟨Nat.zero_le _, Nat.zero_le _⟩ dX6_met_1 (fun M1 H locs h I => ?_)
  refine lv_iload_n hx hb dX6_met_4 rfl (lv_at hl 1 rfl) ?_
  refine m_purei (As := [.int v1]) (rest := []) C I (met6_isTwo l v1 h) (cw6_110 hts ⟨Nat.le_of_ble_eq_true rfl, Nat.le_of_ble_eq_true rfl⟩) rfl hl.1 rfl (Nat.le_of_ble_eq_true rfl) ⟨Nat.zero_le _, Nat.zero_le _⟩ dX6_met_5 (fun r2 H locs h I => ?_)
  refine lv_if_ne (tgt := 16) hx hb dX6_met_8 (by decide) (fun c => ?_) (fun c => ?_)
  · have h := h.2 c
    refine lv_iload_n hx hb dX6_met_16 rfl (lv_at hl 1 rfl) ?_
    refine lv_if_ne (tgt := 27) hx hb dX6_met_17 (by decide) (fun c => ?_) (fun c => ?_)
    · have h := h.2 c
      refine lv_aload_n hx hb dX6_met_27 rfl (lv_at hl 0 rfl) ?_
      refine mg_metAt C I dX6_met_28 ?_
      exact t6_met_b31 C hQ (M1 0 27) M1 _ _ _ h I (lv_sub hl [0] rfl)
    · have h := h.1 c
      refine lv_aload_n hx hb dX6_met_20 rfl (lv_at hl 0 rfl) ?_
      refine mg_metOn C I dX6_met_21 ?_
      refine lv_goto (tgt := 31) hx hb dX6_met_24 (by decide) ?_
      exact t6_met_b31 C hQ (M1 0 26) M1 _ _ _ h I (lv_sub hl [0] rfl)
  · have h := h.1 c
    refine lv_bipush (v := -2) hx hb dX6_met_11 (by decide) ?_
    refine lv_goto (tgt := 31) hx hb dX6_met_13 (by decide) ?_
    exact t6_met_b31 C hQ (-2) M1 _ _ _ h I (lv_sub hl [0] rfl)
theorem met6_met (l : Launch) (D : va_G) (T ad : Nat → Nat) (v1 : Int32) (M : Mem) {Qp : Int32 → Mem → Prop} (h : w6_met v1 M Qp) (sz : Nat) : Met l yX6_met (ws_ yX6_met cX6_met 2 (some .int)) rX6_met (mPc D T ad [.int v1] M sz) (mQi D T ad M Qp sz) 0 0 (fA (cM T ad M) sz) :=
  m_metI (As := [.int v1]) rfl rfl (Nat.le_of_ble_eq_true rfl) (fun p e s m args below meth c A Qs ls C hQ I hl => t6_met C hQ v1 M _ _ ls h I hl) sz
/-! greater -/
abbrev rX6_greater : Room := { frames := 0, cells := 0, slots := 0, locals := 0 }
theorem t6_greater_b10 {p : Program} {l : Launch} {e : Env} {s : State} {m : MethodId} {args : Array Value} {below : List Frame} {meth : Method} {c : Code} {A : Nat → Prop} {H0 : Heap} {Qs : State → Prop} {Q : Int32 → Prop}  (S : CallFix p m c cX6_greater 2 s args lw_all RX6) (hA : ∀ q, H0.size ≤ q → A q) (hQ : pExi p l e rX6_greater s m args below meth c cX6_greater A H0 Qs Q)  (s0 : Int32) (H : Heap) (locs : List Loc) (ls : Array Slot) (h : w6_greater_b10 Q s0) (hS : va_S A H0 H locs) (hl : lv_has ls 2 []) : W p l e rX6_greater s m args below meth c H locs 0 0 Qs (F0 m 10 ls [.int s0]) := by
  have hx := S.1
  have hb := S.2.1
  have how := S.2.2.2.1
  have hts := S.2.2.2.2
  unfold w6_greater_b10 at h
  exact hQ _ _ _ _ _ h hS dX6_greater_10
theorem t6_greater {p : Program} {l : Launch} {e : Env} {s : State} {m : MethodId} {args : Array Value} {below : List Frame} {meth : Method} {c : Code} {A : Nat → Prop} {H0 : Heap} {Qs : State → Prop} {Q : Int32 → Prop} (S : CallFix p m c cX6_greater 2 s args lw_all RX6) (hA : ∀ q, H0.size ≤ q → A q) (hQ : pExi p l e rX6_greater s m args below meth c cX6_greater A H0 Qs Q) (v0 : Int32) (v1 : Int32) (H : Heap) (locs : List Loc) (ls : Array Slot) (h : w6_greater v0 v1 Q) (hS : va_S A H0 H locs) (hl : lv_has ls 2 [(0, .int v0), (1, .int v1)]) : W p l e rX6_greater s m args below meth c H locs 0 0 Qs (F0 m 0 ls []) := by
  have hx := S.1
  have hb := S.2.1
  have how := S.2.2.2.1
  have hts := S.2.2.2.2
  unfold w6_greater at h
  refine lv_iload_n hx hb dX6_greater_0 rfl (lv_at hl 0 rfl) ?_
  refine lv_iload_n hx hb dX6_greater_1 rfl (lv_at hl 1 rfl) ?_
  refine lv_icmp_le (tgt := 9) hx hb dX6_greater_2 (by decide) (fun c => ?_) (fun c => ?_)
  · have h := h.1 c
    refine lv_iload_n hx hb dX6_greater_9 rfl (lv_at hl 1 rfl) ?_
    exact t6_greater_b10 S hA hQ v1 _ _ _ h hS (lv_sub hl [] rfl)
  · have h := h.2 c
    refine lv_iload_n hx hb dX6_greater_5 rfl (lv_at hl 0 rfl) ?_
    refine lv_goto (tgt := 10) hx hb dX6_greater_6 (by decide) ?_
    exact t6_greater_b10 S hA hQ v0 _ _ _ h hS (lv_sub hl [] rfl)
theorem met6_greater (l : Launch) (v0 : Int32) (v1 : Int32) {Qp : Int32 → Prop} (h : w6_greater v0 v1 Qp) (sz : Nat) : Met l yX6_greater (ws_ yX6_greater cX6_greater 2 (some .int)) rX6_greater (pPc [.int v0, .int v1] sz) (pQi Qp sz) 0 0 (pA sz) :=
  p_metI (As := [.int v0, .int v1]) rfl (Nat.le_of_ble_eq_true rfl) (fun p e s m args below meth c Qs ls S hQ hl => t6_greater S (fun q h => h) hQ v0 v1 _ _ ls h va_S.rf hl) sz
/-! busiestNow -/
abbrev rX6_busiestNow : Room := { frames := 1, cells := 0, slots := 0, locals := 21 }
theorem cw6_229 {R : Room} {s : State} {args : Array Value} (hts : ∀ w ∈ lw_all, w.before args s = true) (hR : rX6_greater.frames + 1 ≤ R.frames ∧ 8 + (2 + 11) + rX6_greater.locals ≤ R.locals) : CallB R s args RX6 229 yX6_greater cX6_greater 2 (some .int) (ws_ yX6_greater cX6_greater 2 (some .int)) rX6_greater 0 0 2 ∧ (Cond.static yX6_greater).before args s = true := va_cwS 2 hts (lw_S q1218 q1219 q95 q1220) rfl rfl rfl (by decide +kernel) hR
theorem t6_busiestNow_b27 {p : Program} {l : Launch} {e : Env} {s : State} {m : MethodId} {args : Array Value} {below : List Frame} {meth : Method} {c : Code} {D : va_G} {T ad : Nat → Nat} {A : Nat → Prop} {H0 : Heap} {Qs : State → Prop} {Q : Int32 → Mem → Prop} {K6 : Int32 → Int32 → Int32 → Mem → Prop} (C : MC D T p m c cX6_busiestNow 4 s args) (hQ : mExi p l e rX6_busiestNow s m args below meth c cX6_busiestNow D T ad A H0 Qs Q) (hK6 : ∀ (v1 : Int32) (v2 : Int32) (v3 : Int32) (M : Mem) (H : Heap) (locs : List Loc) (ls : Array Slot), K6 v1 v2 v3 M → MI D T ad A H0 M H locs → lv_has ls 4 [(0, .ref (ad 0)), (1, .int v1), (2, .int v2), (3, .int v3)] → W p l e rX6_busiestNow s m args below meth c H locs 0 0 Qs (F0 m 6 ls [])) (v2 : Int32) (v3 : Int32) (s0 : Int32) (M : Mem) (H : Heap) (locs : List Loc) (ls : Array Slot) (h : w6_busiestNow_b27 Q K6 v2 v3 s0 M) (I : MI D T ad A H0 M H locs) (hl : lv_has ls 4 [(0, .ref (ad 0)), (2, .int v2), (3, .int v3)]) : W p l e rX6_busiestNow s m args below meth c H locs 0 0 Qs (F0 m 27 ls [.int s0]) := by
  have hx := C.1.1
  have hb := C.1.2.1
  have how := C.1.2.2.2.1
  have hts := C.1.2.2.2.2
  unfold w6_busiestNow_b27 at h
  refine lv_istore_n (lv' := [(1, .int s0), (0, .ref (ad 0)), (2, .int v2), (3, .int v3)]) hx hb dX6_busiestNow_27 rfl hl (by decide) rfl (fun ls hl => ?_)
  refine lv_aload_n hx hb dX6_busiestNow_28 rfl (lv_at hl 1 rfl) ?_
  refine mg_arrivals C I dX6_busiestNow_29 ?_
  refine lv_iload_n hx hb dX6_busiestNow_32 rfl (lv_at hl 3 rfl) ?_
  obtain ⟨hg1, h⟩ := h
  refine m_iald C I 26 8 rfl (by decide) hg1 dX6_busiestNow_33 ?_
  refine lv_iload_n hx hb dX6_busiestNow_34 rfl (lv_at hl 2 rfl) ?_
  refine m_purei (As := [.int (M 26 (ci v3)), .int v2]) (rest := []) C I (met6_greater l (M 26 (ci v3)) v2 h) (cw6_229 hts ⟨Nat.le_of_ble_eq_true rfl, Nat.le_of_ble_eq_true rfl⟩) rfl hl.1 rfl (Nat.le_of_ble_eq_true rfl) ⟨Nat.zero_le _, Nat.zero_le _⟩ dX6_busiestNow_35 (fun r2 H locs h I => ?_)
  refine lv_istore_n (lv' := [(2, .int r2), (1, .int s0), (0, .ref (ad 0)), (3, .int v3)]) hx hb dX6_busiestNow_38 rfl hl (by decide) rfl (fun ls hl => ?_)
  refine lv_iinc (v := (v3 + 1)) (lv' := [(3, .int (v3 + 1)), (2, .int r2), (1, .int s0), (0, .ref (ad 0))]) hx hb dX6_busiestNow_39 hl (k := 3) rfl (ii_1 _) (by decide) rfl (fun ls hl => ?_)
  refine lv_goto (tgt := 6) hx hb dX6_busiestNow_42 (by decide) ?_
  exact hK6 s0 r2 (v3 + 1) M _ _ _ h I (lv_sub hl [3, 2, 1, 0] rfl)
theorem t6_busiestNow_b6_f {p : Program} {l : Launch} {e : Env} {s : State} {m : MethodId} {args : Array Value} {below : List Frame} {meth : Method} {c : Code} {D : va_G} {T ad : Nat → Nat} {A : Nat → Prop} {H0 : Heap} {Qs : State → Prop} {Q : Int32 → Mem → Prop} {K6 : Int32 → Int32 → Int32 → Mem → Prop} (C : MC D T p m c cX6_busiestNow 4 s args) (hQ : mExi p l e rX6_busiestNow s m args below meth c cX6_busiestNow D T ad A H0 Qs Q) (hK6 : ∀ (v1 : Int32) (v2 : Int32) (v3 : Int32) (M : Mem) (H : Heap) (locs : List Loc) (ls : Array Slot), K6 v1 v2 v3 M → MI D T ad A H0 M H locs → lv_has ls 4 [(0, .ref (ad 0)), (1, .int v1), (2, .int v2), (3, .int v3)] → W p l e rX6_busiestNow s m args below meth c H locs 0 0 Qs (F0 m 6 ls [])) (v1 : Int32) (v2 : Int32) (v3 : Int32) (M : Mem) (H : Heap) (locs : List Loc) (ls : Array Slot) (h : w6_busiestNow_b6_f Q K6 v1 v2 v3 M) (I : MI D T ad A H0 M H locs) (hl : lv_has ls 4 [(0, .ref (ad 0)), (1, .int v1), (2, .int v2), (3, .int v3)]) : W p l e rX6_busiestNow s m args below meth c H locs 0 0 Qs (F0 m 6 ls []) := by
  have hx := C.1.1
  have hb := C.1.2.1
  have how := C.1.2.2.2.1
  have hts := C.1.2.2.2.2
  unfold w6_busiestNow_b6_f at h
  refine lv_iload_n hx hb dX6_busiestNow_6 rfl (lv_at hl 3 rfl) ?_
  refine lv_bipush (v := 8) hx hb dX6_busiestNow_7 (by decide) ?_
  refine lv_icmp_ge (tgt := 45) hx hb dX6_busiestNow_9 (by decide) (fun c => ?_) (fun c => ?_)
  · have h := h.1 c
    refine lv_iload_n hx hb dX6_busiestNow_45 rfl (lv_at hl 1 rfl) ?_
    exact hQ _ _ _ _ _ _ h I dX6_busiestNow_46
  · have h := h.2 c
    refine lv_aload_n hx hb dX6_busiestNow_12 rfl (lv_at hl 0 rfl) ?_
    refine mg_arrivals C I dX6_busiestNow_13 ?_
    refine lv_iload_n hx hb dX6_busiestNow_16 rfl (lv_at hl 3 rfl) ?_
    obtain ⟨hg3, h⟩ := h
    refine m_iald C I 26 8 rfl (by decide) hg3 dX6_busiestNow_17 ?_
    refine lv_iload_n hx hb dX6_busiestNow_18 rfl (lv_at hl 2 rfl) ?_
    refine lv_icmp_le (tgt := 26) hx hb dX6_busiestNow_19 (by decide) (fun c => ?_) (fun c => ?_)
    · have h := h.1 c
      refine lv_iload_n hx hb dX6_busiestNow_26 rfl (lv_at hl 1 rfl) ?_
      exact t6_busiestNow_b27 C hQ hK6 v2 v3 v1 M _ _ _ h I (lv_sub hl [0, 2, 3] rfl)
    · have h := h.2 c
      refine lv_iload_n hx hb dX6_busiestNow_22 rfl (lv_at hl 3 rfl) ?_
      refine lv_goto (tgt := 27) hx hb dX6_busiestNow_23 (by decide) ?_
      exact t6_busiestNow_b27 C hQ hK6 v2 v3 v3 M _ _ _ h I (lv_sub hl [0, 2, 3] rfl)
theorem t6_busiestNow_b6 {p : Program} {l : Launch} {e : Env} {s : State} {m : MethodId} {args : Array Value} {below : List Frame} {meth : Method} {c : Code} {D : va_G} {T ad : Nat → Nat} {A : Nat → Prop} {H0 : Heap} {Qs : State → Prop} {Q : Int32 → Mem → Prop}  (C : MC D T p m c cX6_busiestNow 4 s args) (hQ : mExi p l e rX6_busiestNow s m args below meth c cX6_busiestNow D T ad A H0 Qs Q)  : ∀ (n : Nat) (v1 : Int32) (v2 : Int32) (v3 : Int32) (M : Mem) (H : Heap) (locs : List Loc) (ls : Array Slot), w6_busiestNow_b6 Q n v1 v2 v3 M → MI D T ad A H0 M H locs → lv_has ls 4 [(0, .ref (ad 0)), (1, .int v1), (2, .int v2), (3, .int v3)] → W p l e rX6_busiestNow s m args below meth c H locs 0 0 Qs (F0 m 6 ls []) := by
  intro n
  induction n with
  | zero => intro v1 v2 v3 M H locs ls h; exact h.elim
  | succ n ih => intro v1 v2 v3 M H locs ls h I hl; exact t6_busiestNow_b6_f C hQ  ih v1 v2 v3 M H locs ls h I hl
theorem t6_busiestNow {p : Program} {l : Launch} {e : Env} {s : State} {m : MethodId} {args : Array Value} {below : List Frame} {meth : Method} {c : Code} {D : va_G} {T ad : Nat → Nat} {A : Nat → Prop} {H0 : Heap} {Qs : State → Prop} {Q : Int32 → Mem → Prop} (C : MC D T p m c cX6_busiestNow 4 s args) (hQ : mExi p l e rX6_busiestNow s m args below meth c cX6_busiestNow D T ad A H0 Qs Q)  (M : Mem) (H : Heap) (locs : List Loc) (ls : Array Slot) (h : w6_busiestNow M Q) (I : MI D T ad A H0 M H locs) (hl : lv_has ls 4 [(0, .ref (ad 0))]) : W p l e rX6_busiestNow s m args below meth c H locs 0 0 Qs (F0 m 0 ls []) := by
  have hx := C.1.1
  have hb := C.1.2.1
  have how := C.1.2.2.2.1
  have hts := C.1.2.2.2.2
  unfold w6_busiestNow at h
  refine lv_iconst (v := -1) hx hb dX6_busiestNow_0 (by decide) ?_
  refine lv_istore_n (lv' := [(1, .int (-1)), (0, .ref (ad 0))]) hx hb dX6_busiestNow_1 rfl hl (by decide) rfl (fun ls hl => ?_)
  refine lv_iconst (v := 0) hx hb dX6_busiestNow_2 (by decide) ?_
  refine lv_istore_n (lv' := [(2, .int 0), (1, .int (-1)), (0, .ref (ad 0))]) hx hb dX6_busiestNow_3 rfl hl (by decide) rfl (fun ls hl => ?_)
  refine lv_iconst (v := 0) hx hb dX6_busiestNow_4 (by decide) ?_
  refine lv_istore_n (lv' := [(3, .int 0), (2, .int 0), (1, .int (-1)), (0, .ref (ad 0))]) hx hb dX6_busiestNow_5 rfl hl (by decide) rfl (fun ls hl => ?_)
  obtain ⟨n, h⟩ := h
  exact t6_busiestNow_b6 C hQ n (-1) 0 0 M _ _ _ h I (lv_sub hl [3, 2, 1, 0] rfl)
theorem met6_busiestNow (l : Launch) (D : va_G) (T ad : Nat → Nat)  (M : Mem) {Qp : Int32 → Mem → Prop} (h : w6_busiestNow M Qp) (sz : Nat) : Met l yX6_busiestNow (ws_ yX6_busiestNow cX6_busiestNow 4 (some .int)) rX6_busiestNow (mPc D T ad [] M sz) (mQi D T ad M Qp sz) 0 0 (fA (cM T ad M) sz) :=
  m_metI (As := []) rfl rfl (Nat.le_of_ble_eq_true rfl) (fun p e s m args below meth c A Qs ls C hQ I hl => t6_busiestNow C hQ M _ _ ls h I hl) sz
