/-! the reference's maps -/
def W6m (c _i : Nat) : Prop := c = 16 ∨ c = 17
theorem g6_lesser {Q : Int32 → Prop} {a b : Int32} (h : Q (les a b)) : w6_lesser a b Q := by
  unfold les at h
  refine ⟨fun c => ?_, fun c => ?_⟩
  · rw [if_pos c] at h; exact h
  · rw [if_neg c] at h; exact h
theorem pk_d8 {i : Nat} (h : i < 2 ^ 31) : nI i / 8 = nI (i / 8) := pk_div (d := 8) h (by decide) (by decide)
theorem pk_r8 {i : Nat} (h : i < 2 ^ 31) : nI i - nI i / 8 * 8 = nI (i % 8) := pk_rem (d := 8) h (by decide) (by decide)
theorem g6_m3 {Q : Mem → Prop} {M0 : Mem} {T : Nat → Int32} (hT : okT T) (hQ : ∀ M', (∀ i, i < 64 → M' 17 i = fM T 8 i) → (∀ i, i < 64 → M' 16 i = T i) → fr W6m M0 M' → Q M') : ∀ (j b : Nat) (M : Mem), b + j = 8 → (∀ i, i < 64 → M 17 i = fM T b i) → (∀ i, i < 64 → M 16 i = T i) → fr W6m M0 M → w6_maps_b206 Q (j + 1) (nI b) M
  | 0, b, M, hb, h1, h2, hf => by
    obtain rfl : b = 8 := by omega
    exact brT (by decide) (hQ M h1 h2 hf)
  | j + 1, b, M, hb, h1, h2, hf => by
    refine brF (nI_ge (b := 8) (by omega) (by decide)) ?_
    have key : ∀ (k i : Nat) (M : Mem), i + k = 64 → (∀ x, x < 64 → M 17 x = if x < i then stg b (fM T b) x else fM T b x) → (∀ i, i < 64 → M 16 i = T i) → fr W6m M0 M → w6_maps_b214 Q (w6_maps_b206 Q (j + 1)) (k + 1) (nI b) (nI i) M := by
      intro k
      induction k with
      | zero =>
        intro i M hi h1 h2 hf
        obtain rfl : i = 64 := by omega
        refine brT (by decide) ?_
        rw [nI_1]
        refine g6_m3 hT hQ j (b + 1) M (by omega) (fun i hi => ?_) h2 hf
        rw [h1 i hi, if_pos hi]
        rfl
      | succ k ih =>
        intro i M hi h1 h2 hf
        refine brF (nI_ge (b := 64) (by omega) (by decide)) ?_
        rw [pk_r8 (by omega), pk_d8 (by omega), i8, i8, ci_nI (by omega), ci_nI (by omega), ci_nI (by omega)]
        refine ⟨vp_in_nI (by omega) (by decide), vp_in_nI (by omega) (by decide), vp_in_nI (by omega) (by decide), g6_lesser ?_⟩
        rintro M5 rfl
        rw [nI_1, stg_in (fM_ok hT b (by omega)) (by omega) (by omega) h1]
        refine ih (i + 1) _ (by omega) (fun x hx => ?_) (fun x hx => ?_) (hf.set _ (Or.inr rfl))
        · rw [mset_at]
          by_cases e : x = i
          · subst e
            rw [if_pos ⟨rfl, rfl⟩, if_pos (by omega)]
          · rw [if_neg (by omega), h1 x hx]
            by_cases q : x < i
            · rw [if_pos q, if_pos (by omega)]
            · rw [if_neg q, if_neg (by omega)]
        · rw [mset_ot _ _ (Or.inl (by decide))]
          exact h2 x hx
    exact ⟨65, key 64 0 M rfl (fun x hx => by rw [if_neg (Nat.not_lt_zero x)]; exact h1 x hx) h2 hf⟩
theorem g6_maps {Q : Mem → Prop} {M0 : Mem} {nw : Nat} {V : Mem} (hV : okV nw V) (h7 : M0 0 7 = nI nw) (h9 : ∀ w, w < nw → ∀ c, c < 4 → M0 9 (4 * w + c) = V c w) (hQ : ∀ M', (∀ i, i < 64 → M' 16 i = tM V nw i ∧ M' 17 i = fM (tM V nw) 8 i) → fr W6m M0 M' → Q M') : w6_maps M0 Q := by
  have hT := tM_ok hV nw (Nat.le_refl nw)
  have key3 : ∀ (j i : Nat) (M : Mem), i + j = 64 → (∀ x, x < 64 → M 16 x = tM V nw x) → (∀ x, x < i → M 17 x = f0 (tM V nw) x) → fr W6m M0 M → w6_maps_b165 Q (j + 1) (nI i) M := by
    intro j
    induction j with
    | zero =>
      intro i M hi h1 h2 hf
      obtain rfl : i = 64 := by omega
      exact brT (by decide) ⟨9, g6_m3 hT (fun M' a b c => hQ M' (fun i hi => ⟨b i hi, a i hi⟩) c) 8 0 M rfl h2 h1 hf⟩
    | succ j ih =>
      intro i M hi h1 h2 hf
      have hin : i < 64 := by omega
      refine brF (nI_ge (b := 64) (by omega) (by decide)) ?_
      unfold w6_maps_b197
      rw [pk_r8 (by omega), pk_d8 (by omega), ci_nI (by omega), nI_1]
      have fin : ∀ v, v = f0 (tM V nw) i → ∀ M7, M7 = mset M 17 i v → w6_maps_b165 Q (j + 1) (nI (i + 1)) M7 := by
        rintro v hv M7 rfl
        refine ih (i + 1) _ (by omega) (fun x hx => ?_) (fun x hx => ?_) (hf.set _ (Or.inr rfl))
        · rw [mset_ot _ _ (Or.inl (by decide))]
          exact h1 x hx
        · by_cases e : x = i
          · subst e
            rw [mset_eq]
            exact hv
          · rw [mset_ot _ _ (Or.inr e)]
            exact h2 x (by omega)
      by_cases e : nI (i / 8) = nI (i % 8)
      · refine brT e ⟨vp_in_nI hin (by decide), fin _ ?_⟩
        unfold f0
        rw [if_pos ((nI_eq (by omega) (by omega)).mp e)]
      · refine brF e ⟨vp_in_nI hin (by decide), vp_in_nI hin (by decide), fin _ ?_⟩
        unfold f0
        rw [if_neg (fun q => e (by rw [q])), h1 i hin]
  have key2 : ∀ (j w : Nat) (M : Mem), w + j = nw → (∀ x, x < 64 → M 16 x = tM V w x) → fr W6m M0 M → w6_maps_b25 Q (j + 1) (nI w) M := by
    intro j
    induction j with
    | zero =>
      intro w M hw h1 hf
      obtain rfl : w = nw := by omega
      have := hV.1
      refine brT ?_ ⟨65, key3 64 0 M rfl h1 (fun x hx => absurd hx (Nat.not_lt_zero x)) hf⟩
      rw [hf _ _ (by unfold W6m; omega), h7]
      exact nI_le (Nat.le_refl _) (by omega)
    | succ j ih =>
      intro w M hw h1 hf
      have hwn : w < nw := by omega
      have := hV.1
      obtain ⟨h0, h1', hne, ⟨l, l1, l2, l3⟩, s, s1, s2⟩ := hV.2 w hwn
      obtain ⟨a1, a2⟩ := vpN h0 (by decide)
      obtain ⟨b1, b2⟩ := vpN h1' (by decide)
      have g : ∀ c, c < 4 → M 9 (4 * w + c) = V c w := fun c hc => by
        rw [hf _ _ (by unfold W6m; omega)]
        exact h9 w hwn c hc
      have e0 : (4 : Int32) * nI w = nI (4 * w) := pk_mul 4 w
      have e1 : nI (4 * w) + 1 = nI (4 * w + 1) := nI_add _ 1
      have e2 : nI (4 * w) + 2 = nI (4 * w + 2) := nI_add _ 2
      have e3 : nI (4 * w) + 3 = nI (4 * w + 3) := nI_add _ 3
      have ea : (8 : Int32) * V 0 w + V 1 w = nI (8 * ci (V 0 w) + ci (V 1 w)) := by rw [← i8, ← a2, ← b2]
      have eb : (8 : Int32) * V 1 w + V 0 w = nI (8 * ci (V 1 w) + ci (V 0 w)) := by rw [← i8, ← a2, ← b2]
      refine brF ?_ ?_
      · rw [hf _ _ (by unfold W6m; omega), h7]
        exact nI_ge hwn (by omega)
      have g0 : M 9 (4 * w) = V 0 w := g 0 (by decide)
      rw [e0, e1, e2, e3, ci_nI (by omega), ci_nI (by omega), ci_nI (by omega), ci_nI (by omega), g0, g 1 (by decide), g 2 (by decide), g 3 (by decide)]
      refine ⟨vp_in_nI (by omega) (by decide), vp_in_nI (by omega) (by decide), ?_⟩
      rintro x11 rfl
      refine ⟨vp_in_nI (by omega) (by decide), vp_in_nI (by omega) (by decide), ?_⟩
      rintro x14 rfl x15 rfl
      rw [ea, ci_nI (by omega), h1 _ (by omega)]
      refine ⟨vp_in_nI (by omega) (by decide), g6_lesser ?_⟩
      rintro M18 rfl
      rw [eb, ci_nI (by omega)]
      refine ⟨vp_in_nI (by omega) (by decide), g6_lesser ?_⟩
      rintro M21 rfl
      rw [nI_1]
      refine ih (w + 1) _ (by omega) (fun x hx => ?_) ((hf.set _ (Or.inl rfl)).set _ (Or.inl rfl))
      show _ = tj V w (tM V w) x
      unfold tj
      simp only [mset_at, upd_at, true_and]
      by_cases q : x = 8 * ci (V 1 w) + ci (V 0 w)
      · rw [if_pos q, if_pos q]
        congr 1
        split
        · rfl
        · exact h1 _ (by omega)
      · rw [if_neg q, if_neg q]
        split
        · rfl
        · exact h1 x hx
  have key1 : ∀ (j i : Nat) (M : Mem), i + j = 64 → (∀ x, x < i → M 16 x = 9999) → fr W6m M0 M → w6_maps_b2 Q (j + 1) (nI i) M := by
    intro j
    induction j with
    | zero =>
      intro i M hi h1 hf
      obtain rfl : i = 64 := by omega
      exact brT (by decide) ⟨nw + 1, key2 nw 0 M (by omega) h1 hf⟩
    | succ j ih =>
      intro i M hi h1 hf
      refine brF (nI_ge (b := 64) (by omega) (by decide)) ⟨vp_in_nI (by omega) (by decide), ?_⟩
      rw [ci_nI (by omega), nI_1]
      rintro M5 rfl
      refine ih (i + 1) _ (by omega) (fun x hx => ?_) (hf.set _ (Or.inl rfl))
      by_cases e : x = i
      · subst e
        exact mset_eq _ _ _ _
      · rw [mset_ot _ _ (Or.inr e)]
        exact h1 x (by omega)
  exact ⟨65, key1 64 0 M0 rfl (fun x hx => absurd hx (Nat.not_lt_zero x)) (fr.refl _ _)⟩
/-! the system's measures -/
def W0m (c _i : Nat) : Prop := (40 ≤ c ∧ c < 48) ∨ (50 ≤ c ∧ c < 58)
theorem g0_m3 {Q : Mem → Prop} {M0 : Mem} {T : Nat → Int32} (hT : okT T) (hQ : ∀ M', (∀ a b, a < 8 → b < 8 → M' (50 + a) b = fM T 8 (8 * a + b)) → (∀ a b, a < 8 → b < 8 → a ≠ b → M' (40 + a) b = T (8 * a + b)) → fr W0m M0 M' → Q M') : ∀ (j b : Nat) (M : Mem), b + j = 8 → (∀ x y, x < 8 → y < 8 → M (50 + x) y = fM T b (8 * x + y)) → (∀ a b, a < 8 → b < 8 → a ≠ b → M (40 + a) b = T (8 * a + b)) → fr W0m M0 M → w0_measures_b167 Q (j + 1) (nI b) M
  | 0, b, M, hb, h1, h2, hf => by
    obtain rfl : b = 8 := by omega
    exact brT (by decide) (hQ M h1 h2 hf)
  | j + 1, b, M, hb, h1, h2, hf => by
    refine brF (nI_ge (b := 8) (by omega) (by decide)) ?_
    have key2 : ∀ (k a : Nat) (M : Mem), a + k = 8 → (∀ x y, x < 8 → y < 8 → M (50 + x) y = if 8 * x + y < 8 * a then stg b (fM T b) (8 * x + y) else fM T b (8 * x + y)) → (∀ a b, a < 8 → b < 8 → a ≠ b → M (40 + a) b = T (8 * a + b)) → fr W0m M0 M → w0_measures_b175 Q (w0_measures_b167 Q (j + 1)) (k + 1) (nI b) (nI a) M := by
      intro k
      induction k with
      | zero =>
        intro a M ha h1 h2 hf
        obtain rfl : a = 8 := by omega
        refine brT (by decide) ?_
        rw [nI_1]
        refine g0_m3 hT hQ j (b + 1) M (by omega) (fun x y hx hy => ?_) h2 hf
        rw [h1 x y hx hy, if_pos (by omega)]
        rfl
      | succ k ih =>
        intro a M ha h1 h2 hf
        refine brF (nI_ge (b := 8) (by omega) (by decide)) ?_
        have key : ∀ (m c : Nat) (M : Mem), c + m = 8 → (∀ x y, x < 8 → y < 8 → M (50 + x) y = if 8 * x + y < 8 * a + c then stg b (fM T b) (8 * x + y) else fM T b (8 * x + y)) → (∀ a b, a < 8 → b < 8 → a ≠ b → M (40 + a) b = T (8 * a + b)) → fr W0m M0 M → w0_measures_b184 Q (w0_measures_b167 Q (j + 1)) (w0_measures_b175 Q (w0_measures_b167 Q (j + 1)) (k + 1)) (m + 1) (nI b) (nI a) (nI c) M := by
          intro m
          induction m with
          | zero =>
            intro c M hc h1 h2 hf
            obtain rfl : c = 8 := by omega
            refine brT (by decide) ?_
            rw [nI_1]
            refine ih (a + 1) M (by omega) (fun x y hx hy => ?_) h2 hf
            rw [h1 x y hx hy, show 8 * (a + 1) = 8 * a + 8 by omega]
          | succ m ihm =>
            intro c M hc h1 h2 hf
            refine brF (nI_ge (b := 8) (by omega) (by decide)) ?_
            rw [ci_nI (by omega), ci_nI (by omega), ci_nI (by omega), lenX_50 (by omega), lenX_50 (by omega), imin_les]
            refine ⟨vp_in_nI (by omega) (by decide), vp_in_nI (by omega) (by decide), vp_in_nI (by omega) (by decide), vp_in_nI (by omega) (by decide), vp_in_nI (by omega) (by decide), ?_⟩
            rintro M6 rfl
            rw [nI_1]
            have hs := stg_in (fM_ok hT b (by omega)) (b := b) (by omega) (c := fun i => M (50 + i / 8) (i % 8)) (i := 8 * a + c) (by omega) (fun x hx => by
              have := h1 (x / 8) (x % 8) (by omega) (by omega)
              rw [show 8 * (x / 8) + x % 8 = x by omega] at this
              exact this)
            simp only [show (8 * a + c) / 8 = a by omega, show (8 * a + c) % 8 = c by omega, show (8 * a + b) / 8 = a by omega, show (8 * a + b) % 8 = b by omega, show (8 * b + c) / 8 = b by omega, show (8 * b + c) % 8 = c by omega] at hs
            rw [hs]
            refine ihm (c + 1) _ (by omega) (fun x y hx hy => ?_) (fun x y hx hy hxy => ?_) (hf.set _ (by unfold W0m; omega))
            · rw [mset_at]
              by_cases e : x = a ∧ y = c
              · obtain ⟨rfl, rfl⟩ := e
                rw [if_pos ⟨rfl, rfl⟩, if_pos (by omega)]
              · rw [if_neg (by omega), h1 x y hx hy]
                by_cases q : 8 * x + y < 8 * a + c
                · rw [if_pos q, if_pos (by omega)]
                · rw [if_neg q, if_neg (by omega)]
            · rw [mset_ot _ _ (Or.inl (by omega))]
              exact h2 x y hx hy hxy
        exact ⟨9, key 8 0 M rfl h1 h2 hf⟩
    exact ⟨9, key2 8 0 M rfl (fun x y hx hy => by rw [if_neg (by omega)]; exact h1 x y hx hy) h2 hf⟩
theorem g0_joins {Q : Mem → Prop} {M : Mem} {a b : Nat} {v : Int32} (ha : a < 8) (hb : b < 8) (hQ : Q (mset M (40 + a) b (les v (M (40 + a) b)))) : w0_joins (nI a) (nI b) v M Q := by
  unfold w0_joins
  rw [ci_nI (by omega), ci_nI (by omega), lenX_40 ha, imin_les]
  refine ⟨vp_in_nI ha (by decide), vp_in_nI hb (by decide), ?_⟩
  rintro M3 rfl
  exact hQ
theorem g0_measures {Q : Mem → Prop} {M0 : Mem} {nw : Nat} {V : Mem} {flat : Int32} (hV : okV nw V) (h4 : M0 0 4 = nI nw) (hw : ∀ w, w < nw → M0 6 w = V 0 w ∧ M0 7 w = V 1 w ∧ M0 8 w = V 2 w ∧ (nI w = flat → V 3 w = 1) ∧ (nI w ≠ flat → M0 9 w = V 3 w)) (hQ : ∀ M', (∀ a, a < 8 → ∀ b, b < 8 → (a ≠ b → M' (40 + a) b = tM V nw (8 * a + b)) ∧ M' (50 + a) b = fM (tM V nw) 8 (8 * a + b)) → fr W0m M0 M' → Q M') : w0_measures flat M0 Q := by
  have hT := tM_ok hV nw (Nat.le_refl nw)
  have key3 : ∀ (j i : Nat) (M : Mem), i + j = 8 → (∀ x y, x < 8 → y < 8 → M (40 + x) y = if x = y then 0 else tM V nw (8 * x + y)) → (∀ x y, x < i → y < 8 → M (50 + x) y = f0 (tM V nw) (8 * x + y)) → fr W0m M0 M → w0_measures_b134 Q (j + 1) (nI i) M := by
    intro j
    induction j with
    | zero =>
      intro i M hi h1 h2 hf
      obtain rfl : i = 8 := by omega
      refine brT (by decide) ⟨9, g0_m3 hT (fun M' a b c => hQ M' (fun x hx y hy => ⟨b x y hx hy, a x y hx hy⟩) c) 8 0 M rfl h2 (fun a b ha hb hab => ?_) hf⟩
      rw [h1 a b ha hb, if_neg hab]
    | succ j ih =>
      intro i M hi h1 h2 hf
      have hin : i < 8 := by omega
      refine brF (nI_ge (b := 8) (by omega) (by decide)) ⟨vp_in_nI hin (by decide), ?_⟩
      rw [ci_nI (by omega), lenX_40 hin, lenX_50 hin, nI_1]
      refine ⟨by omega, by decide, by decide, by decide, by decide, ?_⟩
      rintro M13 rfl
      refine ih (i + 1) _ (by omega) (fun x y hx hy => ?_) (fun x y hx hy => ?_) ?_
      · rw [mcpy_ne _ _ _ _ _ (by omega)]
        exact h1 x y hx hy
      · by_cases e : x = i
        · subst e
          rw [mcpy_same, pk_cpy_in (by show 0 ≤ y; omega) (by show y < 0 + 8; omega)]
          show M (40 + x) (0 + (y - 0)) = _
          rw [show 0 + (y - 0) = y by omega, h1 x y (by omega) hy]
          unfold f0
          by_cases q : x = y
          · rw [if_pos q, if_pos (by omega)]
          · rw [if_neg q, if_neg (by omega)]
        · rw [mcpy_ne _ _ _ _ _ (by omega)]
          exact h2 x y (by omega) hy
      · intro c x hc
        rw [mcpy_ne _ _ _ _ _ (by rintro rfl; exact hc (by unfold W0m; omega))]
        exact hf c x hc
  have key2 : ∀ (j w : Nat) (M : Mem), w + j = nw → (∀ x y, x < 8 → y < 8 → M (40 + x) y = if x = y then 0 else tM V w (8 * x + y)) → fr W0m M0 M → w0_measures_b50 Q (j + 1) flat (nI w) M := by
    intro j
    induction j with
    | zero =>
      intro w M hw' h1 hf
      obtain rfl : w = nw := by omega
      have := hV.1
      refine brT ?_ ⟨9, key3 8 0 M rfl h1 (fun x y hx => absurd hx (Nat.not_lt_zero x)) hf⟩
      rw [hf _ _ (by unfold W0m; omega), h4]
      exact nI_le (Nat.le_refl _) (by omega)
    | succ j ih =>
      intro w M hw' h1 hf
      have hwn : w < nw := by omega
      have := hV.1
      obtain ⟨k0, k1, k2, k3, k4⟩ := hw w hwn
      obtain ⟨h0, h1', hne, ⟨l, l1, l2, l3⟩, s, s1, s2⟩ := hV.2 w hwn
      obtain ⟨a1, a2⟩ := vpN h0 (by decide)
      obtain ⟨b1, b2⟩ := vpN h1' (by decide)
      have hab : ci (V 0 w) ≠ ci (V 1 w) := fun e => hne (by rw [a2, b2, e])
      refine brF ?_ ?_
      · rw [hf _ _ (by unfold W0m; omega), h4]
        exact nI_ge hwn (by omega)
      have fin : w0_measures_b73 Q (w0_measures_b50 Q (j + 1)) flat (nI w) (V 3 w) M := by
        unfold w0_measures_b73
        rw [ci_nI (by omega)]
        refine ⟨vp_in_nI (by omega) (by decide), ?_⟩
        rw [hf 6 _ (by unfold W0m; omega), hf 7 _ (by unfold W0m; omega), hf 8 _ (by unfold W0m; omega), k0, k1, k2, a2, b2]
        refine g0_joins a1 b1 ?_
        rw [mset_ot _ _ (Or.inl (by omega)), mset_ot _ _ (Or.inl (by omega)), mset_ot _ _ (Or.inl (by omega)), hf 6 _ (by unfold W0m; omega), hf 7 _ (by unfold W0m; omega), hf 8 _ (by unfold W0m; omega), k0, k1, k2]
        have key := g0_joins (Q := fun M16 => w0_measures_b50 Q (j + 1) flat (nI w + 1) M16) (M := mset M (40 + ci (V 0 w)) (ci (V 1 w)) (les (V 2 w * (3 - V 3 w)) (M (40 + ci (V 0 w)) (ci (V 1 w))))) (v := V 2 w * (1 + V 3 w)) b1 a1 ?_
        · rw [← a2, ← b2] at key
          exact key
        rw [nI_1]
        refine ih (w + 1) _ (by omega) (fun x y hx hy => ?_) ((hf.set _ (by unfold W0m; omega)).set _ (by unfold W0m; omega))
        show _ = if x = y then 0 else tj V w (tM V w) (8 * x + y)
        unfold tj
        simp only [mset_at, upd_at]
        have m1 := h1 (ci (V 0 w)) (ci (V 1 w)) a1 b1
        rw [if_neg hab] at m1
        have m2 := h1 (ci (V 1 w)) (ci (V 0 w)) b1 a1
        rw [if_neg (Ne.symm hab)] at m2
        have m3 := h1 x y hx hy
        rw [if_neg (show ¬ (40 + ci (V 1 w) = 40 + ci (V 0 w) ∧ ci (V 0 w) = ci (V 1 w)) by omega), if_neg (show ¬ (8 * ci (V 1 w) + ci (V 0 w) = 8 * ci (V 0 w) + ci (V 1 w)) by omega), m1, m2]
        by_cases q : x = y
        · rw [if_neg (by omega), if_neg (by omega), m3]
          rw [if_pos q, if_pos q]
        · rw [if_neg q] at m3 ⊢
          by_cases q1 : x = ci (V 1 w) ∧ y = ci (V 0 w)
          · rw [if_pos (show 40 + x = 40 + ci (V 1 w) ∧ y = ci (V 0 w) by omega), if_pos (show 8 * x + y = 8 * ci (V 1 w) + ci (V 0 w) by omega)]
          · rw [if_neg (show ¬ (40 + x = 40 + ci (V 1 w) ∧ y = ci (V 0 w)) by omega), if_neg (show ¬ (8 * x + y = 8 * ci (V 1 w) + ci (V 0 w)) by omega)]
            by_cases q2 : x = ci (V 0 w) ∧ y = ci (V 1 w)
            · rw [if_pos (show 40 + x = 40 + ci (V 0 w) ∧ y = ci (V 1 w) by omega), if_pos (show 8 * x + y = 8 * ci (V 0 w) + ci (V 1 w) by omega)]
            · rw [if_neg (show ¬ (40 + x = 40 + ci (V 0 w) ∧ y = ci (V 1 w)) by omega), if_neg (show ¬ (8 * x + y = 8 * ci (V 0 w) + ci (V 1 w)) by omega), m3]
      by_cases e : nI w = flat
      · refine brT e ?_
        rw [k3 e] at fin
        exact fin
      · refine brF e ⟨vp_in_nI (by omega) (by decide), ?_⟩
        rw [ci_nI (by omega), hf 9 _ (by unfold W0m; omega), k4 e]
        exact fin
  have key1 : ∀ (j i : Nat) (M : Mem), i + j = 8 → (∀ x y, x < i → y < 8 → M (40 + x) y = if x = y then 0 else 9999) → fr W0m M0 M → w0_measures_b2 Q (j + 1) flat (nI i) M := by
    intro j
    induction j with
    | zero =>
      intro i M hi h1 hf
      obtain rfl : i = 8 := by omega
      exact brT (by decide) ⟨nw + 1, key2 nw 0 M (by omega) h1 hf⟩
    | succ j ih =>
      intro i M hi h1 hf
      refine brF (nI_ge (b := 8) (by omega) (by decide)) ?_
      have keyb : ∀ (m c : Nat) (M : Mem), c + m = 8 → (∀ x y, x < 8 → y < 8 → 8 * x + y < 8 * i + c → M (40 + x) y = if x = y then 0 else 9999) → fr W0m M0 M → w0_measures_b10 Q (w0_measures_b2 Q (j + 1)) (m + 1) flat (nI i) (nI c) M := by
        intro m
        induction m with
        | zero =>
          intro c M hc h1 hf
          obtain rfl : c = 8 := by omega
          refine brT (by decide) ?_
          rw [nI_1]
          exact ih (i + 1) M (by omega) (fun x y hx hy => h1 x y (by omega) hy (by omega)) hf
        | succ m ihm =>
          intro c M hc h1 hf
          refine brF (nI_ge (b := 8) (by omega) (by decide)) ⟨vp_in_nI (by omega) (by decide), ?_⟩
          unfold w0_measures_b35
          rw [ci_nI (by omega), ci_nI (by omega), lenX_40 (by omega), nI_1]
          have fin : ∀ v, v = (if i = c then 0 else 9999 : Int32) → w0_measures_b10 Q (w0_measures_b2 Q (j + 1)) (m + 1) flat (nI i) (nI (c + 1)) (mset M (40 + i) c v) := by
            intro v hv
            refine ihm (c + 1) _ (by omega) (fun x y hx hy hxy => ?_) (hf.set _ (by unfold W0m; omega))
            by_cases e : x = i ∧ y = c
            · obtain ⟨rfl, rfl⟩ := e
              rw [mset_eq]
              exact hv
            · rw [mset_ot _ _ (by omega)]
              exact h1 x y hx hy (by omega)
          by_cases e : nI i = nI c
          · refine brT e ⟨vp_in_nI (by omega) (by decide), ?_⟩
            rintro M19 rfl
            exact fin _ (by rw [if_pos ((nI_eq (by omega) (by omega)).mp e)])
          · refine brF e ⟨vp_in_nI (by omega) (by decide), ?_⟩
            rintro M19 rfl
            exact fin _ (by rw [if_neg (fun q => e (by rw [q]))])
      exact ⟨9, keyb 8 0 M rfl (fun x y hx hy hxy => h1 x y (by omega) hy) hf⟩
  exact ⟨9, key1 8 0 M0 rfl (fun x y hx => absurd hx (Nat.not_lt_zero x)) (fr.refl _ _)⟩
