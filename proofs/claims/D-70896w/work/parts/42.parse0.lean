/-! the system reads its texts -/
/-- a text of the system -/
def tx0 (t L : Nat) (B : Nat → Int32) (M : Mem) : Prop := M 4 t = nI L ∧ L ≤ lenX (2 + t) ∧ ∀ i, i < L → M (2 + t) i = B i
theorem tx0.fr {t L : Nat} {B : Nat → Int32} {M M' : Mem} {W : Nat → Nat → Prop} (ht : t < 2) (h : tx0 t L B M) (hf : fr W M M') (hW : ∀ i, ¬ W 4 i ∧ ¬ W (2 + t) i) : tx0 t L B M' := by
  obtain ⟨h1, h2, h3⟩ := h
  exact ⟨by rw [hf _ _ (hW t).1]; exact h1, h2, fun i hi => by rw [hf _ _ (hW i).2]; exact h3 i hi⟩
theorem g0_byteAt {Q : Int32 → Mem → Prop} {t L k : Nat} {B : Nat → Int32} {M : Mem} (ht : t < 2) (hk : k < 2 ^ 30) (hL : L < 2 ^ 30) (hx : tx0 t L B M) (h : Q (bt B L k) M) : w0_byteAt (nI t) (nI k) M Q := by
  unfold w0_byteAt w0_byteAt_b22
  rw [ci_nI (by omega), ci_nI (by omega), hx.1]
  refine ⟨vp_in_nI ht (by decide), ?_⟩
  by_cases c : L ≤ k
  · rw [bt_out c] at h
    exact brT (nI_le c (by omega)) h
  · rw [bt_in (by omega)] at h
    refine brF (nI_ge (by omega) (by omega)) ⟨vp_in_nI (by have := hx.2.1; omega) (by have : t = 0 ∨ t = 1 := by omega
                                                                                      rcases this with rfl | rfl <;> decide), ?_⟩
    rw [hx.2.2 k (by omega)]
    exact h
theorem in_pl {Q : Int32 → Prop} {b : Int32} (hb : smallB b) (h : Q (pl b)) : w0_isPlace (b - 97) (fun r3 => ((r3 = 0 → Q (-1)) ∧ (¬ r3 = 0 → Q (b - 97)))) := by
  obtain ⟨b1, b2⟩ := hb
  have e1 : (97 : Int32).toInt = 97 := by decide
  have e2 : (104 : Int32).toInt = 104 := by decide
  have e3 : (7 : Int32).toInt = 7 := by decide
  have e4 : (0 : Int32).toInt = 0 := by decide
  have es := i_sub (x := b) (y := 97) ⟨by omega, by omega⟩ ⟨by omega, by omega⟩
  unfold pl at h
  refine g0_in (fun c => ?_) (fun c => ?_)
  · refine ⟨Or.inr rfl, ?_⟩
    rw [i_le, i_le] at c
    rw [if_pos (by rw [i_le, i_le]; omega)] at h
    exact brF (by decide) h
  · refine ⟨Or.inl rfl, ?_⟩
    rw [i_le, i_le] at c
    rw [if_neg (by rw [i_le, i_le]; omega)] at h
    exact brT rfl h
theorem g0_placeAt {Q : Int32 → Mem → Prop} {t L k : Nat} {B : Nat → Int32} {M : Mem} (ht : t < 2) (hk : k < 2 ^ 30) (hL : L < 2 ^ 30) (hB : okB B L) (hx : tx0 t L B M) (h : Q (pl (bt B L k)) M) : w0_placeAt (nI t) (nI k) M Q := by
  unfold w0_placeAt w0_placeAt_b22
  exact g0_byteAt ht hk hL hx (in_pl (Q := fun v => Q v M) (bt_small hB k) h)
theorem g0_figureAt {Q : Int32 → Mem → Prop} {t L k l : Nat} {B : Nat → Int32} {M : Mem} (ht : t < 2) (hk : k < 2 ^ 30) (hL : L < 2 ^ 30) (hl : l ≤ 1) (hB : okB B L) (hx : tx0 t L B M) (h : Q (fg (nI l) (bt B L k)) M) : w0_figureAt (nI t) (nI k) (nI l) M Q := by
  unfold w0_figureAt w0_figureAt_b28
  refine g0_byteAt ht hk hL hx ?_
  obtain ⟨b1, b2⟩ := bt_small hB k
  revert h b1 b2
  generalize bt B L k = b
  intro h b1 b2
  have e1 : (57 : Int32).toInt = 57 := by decide
  have e2 : (48 + nI l : Int32).toInt = 48 + l := by
    rw [show (48 : Int32) + nI l = nI (48 + l) from nI_add 48 l, nI_toInt (by omega)]
    omega
  have e3 : (48 : Int32).toInt = 48 := by decide
  have e4 : (9 : Int32).toInt = 9 := by decide
  have e5 : (nI l).toInt = l := nI_toInt (by omega)
  have es := i_sub (x := b) (y := 48) ⟨by omega, by omega⟩ ⟨by omega, by omega⟩
  unfold fg at h
  refine g0_in (fun c => ?_) (fun c => ?_)
  · rw [i_le, i_le] at c
    rw [if_pos (by rw [i_le, i_le]; omega)] at h
    exact brF (by decide) h
  · rw [i_le, i_le] at c
    rw [if_neg (by rw [i_le, i_le]; omega)] at h
    exact brT rfl h
theorem g0_slopeOf {Q : Int32 → Prop} {b : Int32} (h : Q (sl b)) : w0_slopeOf b Q := by
  unfold w0_slopeOf w0_slopeOf_b31
  unfold sl at h
  by_cases c1 : b = 117
  · rw [if_pos c1] at h; exact brT c1 h
  rw [if_neg c1] at h
  refine brF c1 ?_
  by_cases c2 : b = 102
  · rw [if_pos c2] at h; exact brT c2 h
  rw [if_neg c2] at h
  refine brF c2 ?_
  by_cases c3 : b = 100
  · rw [if_pos c3] at h; exact brT c3 h
  rw [if_neg c3] at h
  exact brF c3 h
theorem g0_kindOf {Q : Int32 → Prop} {b : Int32} (h : Q (kd b)) : w0_kindOf b Q := by
  unfold w0_kindOf w0_kindOf_b31
  unfold kd at h
  by_cases c1 : b = 111
  · rw [if_pos c1] at h; exact brT c1 h
  rw [if_neg c1] at h
  refine brF c1 ?_
  by_cases c2 : b = 99
  · rw [if_pos c2] at h; exact brT c2 h
  rw [if_neg c2] at h
  refine brF c2 ?_
  by_cases c3 : b = 114
  · rw [if_pos c3] at h; exact brT c3 h
  rw [if_neg c3] at h
  exact brF c3 h
theorem g0_readsWay {Q : Int32 → Mem → Prop} {L n k : Nat} {B : Nat → Int32} {M : Mem} (hn : n < 10) (hk : k < 100) (h5 : k % 5 = 0) (hL : L < 100) (hB : okB B L) (hx : tx0 0 L B M)
    (hbad : ∀ c, c < 4 → wv (bt B L) (k + c) = -1 → (∀ c', c' < c → wv (bt B L) (k + c') ≠ -1) → Q (nI c) M)
    (hgood : (∀ c, c < 4 → wv (bt B L) (k + c) ≠ -1) → Q 4 (mset (mset (mset (mset M 6 n (wv (bt B L) (k + 0))) 7 n (wv (bt B L) (k + 1))) 8 n (wv (bt B L) (k + 2))) 9 n (wv (bt B L) (k + 3)))) : w0_readsWay (nI n) (nI k) M Q := by
  unfold w0_readsWay w0_readsWay_b52 w0_readsWay_b68 w0_readsWay_b93 w0_readsWay_b132
  have e1 : nI k + 1 = nI (k + 1) := nI_add k 1
  have e2 : nI k + 2 = nI (k + 2) := nI_add k 2
  have e3 : nI k + 3 = nI (k + 3) := nI_add k 3
  rw [e1, e2, e3]
  have w0 : wv (bt B L) (k + 0) = pl (bt B L k) := by
    unfold wv
    rw [if_pos (by omega), Nat.add_zero]
  have w1 : wv (bt B L) (k + 1) = if pl (bt B L (k + 1)) = pl (bt B L k) then -1 else pl (bt B L (k + 1)) := by
    unfold wv
    rw [if_neg (by omega), if_pos (by omega), show k + 1 - 1 = k by omega]
  have w2 : wv (bt B L) (k + 2) = fg 1 (bt B L (k + 2)) := by
    unfold wv
    rw [if_neg (by omega), if_neg (by omega), if_pos (by omega)]
  have w3 : wv (bt B L) (k + 3) = sl (bt B L (k + 3)) := by
    unfold wv
    rw [if_neg (by omega), if_neg (by omega), if_neg (by omega), if_pos (by omega)]
  refine g0_placeAt (t := 0) (by decide) (by omega) (by omega) hB hx (g0_placeAt (t := 0) (by decide) (by omega) (by omega) hB hx (g0_figureAt (t := 0) (l := 1) (by decide) (by omega) (by omega) (by decide) hB hx (g0_byteAt (t := 0) (by decide) (by omega) (by omega) hx (g0_slopeOf ?_))))
  refine brF (nI_ne (b := 10) (by omega) (by decide) (by omega)) ?_
  by_cases c0 : pl (bt B L k) = -1
  · exact brT c0 (brF (by decide) (hbad 0 (by decide) (by rw [w0]; exact c0) (fun c' h => absurd h (Nat.not_lt_zero c'))))
  refine brF c0 ?_
  have p0 : wv (bt B L) (k + 0) ≠ -1 := by rw [w0]; exact c0
  have bad1 : wv (bt B L) (k + 1) = -1 → Q (nI 1) M := fun q => hbad 1 (by decide) q (fun c' h => by
    obtain rfl : c' = 0 := by omega
    exact p0)
  by_cases c1 : pl (bt B L (k + 1)) = -1
  · refine brT c1 (brF (by decide) (bad1 ?_))
    rw [w1, if_neg (fun q => c0 (by rw [← q]; exact c1))]
    exact c1
  refine brF c1 ?_
  by_cases c1' : pl (bt B L (k + 1)) = pl (bt B L k)
  · refine brT c1' (brF (by decide) (bad1 ?_))
    rw [w1, if_pos c1']
  refine brF c1' ?_
  rw [if_neg c1'] at w1
  have p1 : wv (bt B L) (k + 1) ≠ -1 := by rw [w1]; exact c1
  by_cases c2 : fg (nI 1) (bt B L (k + 2)) = -1
  · refine brT c2 (brF (by decide) (hbad 2 (by decide) (by rw [w2]; exact c2) (fun c' h => ?_)))
    have : c' = 0 ∨ c' = 1 := by omega
    rcases this with rfl | rfl
    · exact p0
    · exact p1
  refine brF c2 ?_
  have p2 : wv (bt B L) (k + 2) ≠ -1 := by rw [w2]; exact c2
  by_cases c3 : sl (bt B L (k + 3)) = -1
  · refine brT c3 (brF (by decide) (hbad 3 (by decide) (by rw [w3]; exact c3) (fun c' h => ?_)))
    have : c' = 0 ∨ c' = 1 ∨ c' = 2 := by omega
    rcases this with rfl | rfl | rfl
    · exact p0
    · exact p1
    · exact p2
  refine brF c3 (brT rfl ⟨vp_in_nI hn (by decide), ?_⟩)
  have p3 : wv (bt B L) (k + 3) ≠ -1 := by rw [w3]; exact c3
  rw [ci_nI (by omega)]
  rintro M2 rfl M3 rfl M4 rfl M5 rfl
  have := hgood (fun c hc => by
    have : c = 0 ∨ c = 1 ∨ c = 2 ∨ c = 3 := by omega
    rcases this with rfl | rfl | rfl | rfl
    · exact p0
    · exact p1
    · exact p2
    · exact p3)
  rw [w0, w1, w2, w3] at this
  exact this
def W0a (c i : Nat) : Prop := (6 ≤ c ∧ c ≤ 9) ∨ (c = 0 ∧ i = 4)
theorem lt_of_ne {B : Nat → Int32} {L i : Nat} (h : wv (bt B L) i ≠ -1) : i < L := by
  refine Nat.lt_of_not_le fun c => h ?_
  have e := bt_out (B := B) c
  have e1 : pl (bt B L i) = -1 := by rw [e]; decide
  unfold wv
  split
  · exact e1
  split
  · split
    · rfl
    · exact e1
  split
  · rw [e]; decide
  split
  · rw [e]; decide
  · rw [e]; decide
theorem lt_of_nec {B : Nat → Int32} {L i : Nat} (h : cv (bt B L) i ≠ -1) : i < L := by
  refine Nat.lt_of_not_le fun c => h ?_
  have e := bt_out (B := B) c
  unfold cv
  rw [e]
  split
  · decide
  split
  · decide
  split
  · decide
  · decide
def W0a1 (c _i : Nat) : Prop := 6 ≤ c ∧ c ≤ 9
theorem W0a1_a (c i : Nat) (h : W0a1 c i) : W0a c i := Or.inl h
theorem g0_parts0 {Q : Int32 → Mem → Prop} {M0 : Mem} {B : Nat → Int32} {L : Nat} (hB : okB B L) (hL : L ≤ 49) (hx : tx0 0 L B M0) (h4 : M0 0 4 = 0) (hQ : ∀ f n M', Prs (wv (bt B L)) 5 L f n → M' 0 4 = nI n → (∀ w, w < n → ∀ c, c < 4 → M' (6 + c) w = wV (bt B L) c w) → fr W0a M0 M' → Q f M') : w0_readsParts 0 M0 Q := by
  have hfx : ∀ {M}, fr W0a1 M0 M → tx0 0 L B M := fun h => hx.fr (by decide) h (fun i => ⟨by unfold W0a1; omega, by unfold W0a1; omega⟩)
  have fin : ∀ (n : Nat) (M : Mem), (∀ j, j < L → wv (bt B L) j ≠ -1) → (L = 0 ∨ L % 5 = 4) → n = (L + 1) / 5 → (∀ w, w < n → ∀ c, c < 4 → M (6 + c) w = wV (bt B L) c w) → fr W0a1 M0 M → w0_readsParts_b152 Q 0 (nI n) (nI n) M := by
    intro n M hg hc hn hv hf
    unfold w0_readsParts_b152 w0_readsParts_b169
    rintro M2 rfl
    refine brF (by decide) ?_
    rintro M1 rfl
    rw [mset_self]
    refine hQ _ n _ (Or.inr ⟨hg, Or.inr ⟨hc, rfl, hn⟩⟩) (mset_eq _ _ _ _) (fun w hw c hc => ?_) ((hf.weak W0a1_a).set _ (Or.inr ⟨rfl, rfl⟩))
    rw [mset_ot _ _ (Or.inl (by omega))]
    exact hv w hw c hc
  have bad : ∀ (i : Nat) (M : Mem), L ≠ 0 → i ≤ L → wv (bt B L) i = -1 → (∀ j, j < i → wv (bt B L) j ≠ -1) → (i % 5 ≠ 4 ∨ i < L) → fr W0a1 M0 M → Q (nI i) M := by
    intro i M hL0 hi h1 h2 h3 hf
    have h4' : M 0 4 = nI 0 := by rw [hf _ _ (by unfold W0a1; omega)]; exact h4
    by_cases c : i < L
    · exact hQ _ 0 _ (Or.inl ⟨i, c, h1, h2, rfl, rfl⟩) h4' (fun w hw => absurd hw (Nat.not_lt_zero w)) (hf.weak W0a1_a)
    · obtain rfl : i = L := by omega
      exact hQ _ 0 _ (Or.inr ⟨h2, Or.inl ⟨hL0, h3.resolve_right c, rfl, rfl⟩⟩) h4' (fun w hw => absurd hw (Nat.not_lt_zero w)) (hf.weak W0a1_a)
  have key : ∀ (j n : Nat) (M : Mem), n + j = 10 → 5 * n ≤ L → L ≠ 0 → (∀ j, j < 5 * n → wv (bt B L) j ≠ -1) → (∀ w, w < n → ∀ c, c < 4 → M (6 + c) w = wV (bt B L) c w) → fr W0a1 M0 M → w0_readsParts_b32 Q (j + 2) 0 4 (nI n) (nI (5 * n)) 1 M := by
    intro j
    induction j with
    | zero => intro n M hn h5; omega
    | succ j ih =>
      intro n M hn h5 hL0 hg hv hf
      refine brF (by decide) (brT rfl ?_)
      have hx' := hfx hf
      refine g0_readsWay (L := L) (by omega) (by omega) (by omega) (by omega) hB hx' (fun c hc hb hp => ?_) (fun hall => ?_)
      · -- a byte that is none
        unfold w0_readsParts_b58
        refine brF (nI_ge (b := 4) hc (by decide)) ?_
        rw [nI_add]
        have all : ∀ j, j < 5 * n + c → wv (bt B L) j ≠ -1 := fun j hj => by
          by_cases q : j < 5 * n
          · exact hg j q
          · have := hp (j - 5 * n) (by omega)
            rw [show 5 * n + (j - 5 * n) = j by omega] at this
            exact this
        refine bad _ M hL0 ?_ hb all (Or.inl (by omega)) hf
        by_cases c0 : c = 0
        · omega
        · have := lt_of_ne (all (5 * n + c - 1) (by omega))
          omega
      · have l3 := lt_of_ne (hall 3 (by decide))
        have all : ∀ j, j < 5 * n + 4 → wv (bt B L) j ≠ -1 := fun j hj => by
          by_cases q : j < 5 * n
          · exact hg j q
          · have := hall (j - 5 * n) (by omega)
            rw [show 5 * n + (j - 5 * n) = j by omega] at this
            exact this
        generalize hM' : mset (mset (mset (mset M 6 n (wv (bt B L) (5 * n + 0))) 7 n (wv (bt B L) (5 * n + 1))) 8 n (wv (bt B L) (5 * n + 2))) 9 n (wv (bt B L) (5 * n + 3)) = M'
        have hf' : fr W0a1 M0 M' := by
          rw [← hM']
          exact (((hf.set _ (by unfold W0a1; omega)).set _ (by unfold W0a1; omega)).set _ (by unfold W0a1; omega)).set _ (by unfold W0a1; omega)
        have hv' : ∀ w, w < n + 1 → ∀ c, c < 4 → M' (6 + c) w = wV (bt B L) c w := by
          intro w hw c hc
          rw [← hM']
          by_cases q : w = n
          · subst q
            have hc4 : c = 0 ∨ c = 1 ∨ c = 2 ∨ c = 3 := by omega
            rcases hc4 with rfl | rfl | rfl | rfl <;> simp [mset_at, wV]
          · rw [mset_ot _ _ (Or.inr q), mset_ot _ _ (Or.inr q), mset_ot _ _ (Or.inr q), mset_ot _ _ (Or.inr q)]
            exact hv w (by omega) c hc
        have hx2 := hfx hf'
        unfold w0_readsParts_b58
        refine brT (by decide) ⟨vp_in_nI (n := 0) (by decide) (by decide), ?_⟩
        have e0 : ci (0 : Int32) = 0 := rfl
        have e4 : nI (5 * n) + 4 = nI (5 * n + 4) := nI_add _ 4
        rw [e0, hx2.1, e4, nI_1]
        unfold w0_readsParts_b97 w0_readsParts_b121 w0_readsParts_b133
        by_cases c : L ≤ 5 * n + 4
        · have hL4 : L = 5 * n + 4 := by omega
          refine brT (nI_le c (by omega)) (brT rfl (brT rfl ?_))
          refine brT rfl (brT rfl (fin (n + 1) M' ?_ (Or.inr (by omega)) (by omega) hv' hf'))
          rw [hL4]
          rw [hL4] at all
          exact all
        · refine brF (nI_ge (by omega) (by omega)) (brF (by decide) ⟨vp_in_nI (n := 0) (by decide) (by decide), ?_⟩)
          rw [e0, ci_nI (by omega)]
          refine ⟨vp_in_nI (by have := hx2.2.1; omega) (by decide), ?_⟩
          rw [hx2.2.2 _ (by omega)]
          have e59 : wv (bt B L) (5 * n + 4) = sm (B (5 * n + 4)) := by
            unfold wv
            rw [if_neg (by omega), if_neg (by omega), if_neg (by omega), if_neg (by omega), bt_in (by omega)]
          unfold sm at e59
          by_cases c5 : B (5 * n + 4) = 59
          · refine brT c5 (brF (by decide) ?_)
            rw [nI_1, show 5 * n + 4 + 1 = 5 * (n + 1) by omega]
            refine ih (n + 1) M' (by omega) (by omega) hL0 (fun j hj => ?_) hv' hf'
            by_cases q : j = 5 * n + 4
            · rw [q, e59, if_pos c5]
              decide
            · exact all j (by omega)
          · refine brF c5 (bad _ M' hL0 (by omega) ?_ all (Or.inr (by omega)) hf')
            rw [e59, if_neg c5]
  unfold w0_readsParts w0_readsParts_b10 w0_readsParts_b30
  refine brT rfl ⟨vp_in_nI (n := 0) (by decide) (by decide), ?_⟩
  have e0 : ci (0 : Int32) = 0 := rfl
  rw [e0, hx.1]
  by_cases c : L = 0
  · subst c
    exact brT (by decide) ⟨1, brT rfl (brT rfl (fin 0 M0 (fun j hj => absurd hj (Nat.not_lt_zero j)) (Or.inl rfl) (by decide) (fun w hw => absurd hw (Nat.not_lt_zero w)) (fr.refl _ _)))⟩
  · exact brF (nI_nle (by omega) (by omega)) ⟨12, key 10 0 M0 rfl (by omega) c (fun j hj => absurd hj (by omega)) (fun w hw => absurd hw (Nat.not_lt_zero w)) (fr.refl _ _)⟩
def W0b1 (c i : Nat) : Prop := 30 ≤ c ∧ c < 38 ∧ i < 5
def W0b (c i : Nat) : Prop := W0b1 c i ∨ (c = 0 ∧ i = 9)
theorem g0_isCarterByte {Q : Int32 → Mem → Prop} {L k c : Nat} {B : Nat → Int32} {M : Mem} (hc : c < 6) (hk : k < 100) (h7 : k % 7 = 0) (hL : L < 100) (hB : okB B L) (hx : tx0 1 L B M) (h1 : cv (bt B L) (k + c) ≠ -1 → Q 1 M) (h0 : cv (bt B L) (k + c) = -1 → Q 0 M) : w0_isCarterByte (nI k) (nI c) M Q := by
  unfold w0_isCarterByte w0_isCarterByte_z w0_isCarterByte_b71
  rw [nI_add]
  unfold cv at h1 h0
  by_cases c2 : 2 ≤ c
  · refine brT (nI_le (a := 2) c2 (by omega)) ?_
    by_cases c3 : c = 2
    · subst c3
      rw [if_neg (by omega), if_pos (by omega)] at h1 h0
      refine brT rfl (g0_byteAt (t := 1) (by decide) (by omega) (by omega) hx (g0_kindOf ?_))
      by_cases q : kd (bt B L (k + 2)) = -1
      · exact brT q ⟨Or.inl rfl, h0 q⟩
      · exact brF q ⟨Or.inr rfl, h1 q⟩
    · rw [if_neg (by omega), if_neg (by omega), if_pos (by omega)] at h1 h0
      refine brF (nI_ne (b := 2) (by omega) (by decide) c3) (g0_figureAt (t := 1) (l := 0) (by decide) (by omega) (by omega) (by decide) hB hx ?_)
      by_cases q : fg (nI 0) (bt B L (k + c)) = -1
      · exact brT q ⟨Or.inl rfl, h0 q⟩
      · exact brF q ⟨Or.inr rfl, h1 q⟩
  · rw [if_pos (by omega)] at h1 h0
    refine brF (nI_ge (b := 2) (by omega) (by decide)) (g0_placeAt (t := 1) (by decide) (by omega) (by omega) hB hx ?_)
    by_cases q : pl (bt B L (k + c)) = -1
    · exact brT q ⟨Or.inl rfl, h0 q⟩
    · exact brF q ⟨Or.inr rfl, h1 q⟩
theorem g0_readsCarter {Q : Int32 → Mem → Prop} {L n k : Nat} {B : Nat → Int32} {M : Mem} (hn : n < 8) (hk : k < 100) (h7 : k % 7 = 0) (hL : L < 100) (hB : okB B L) (hx : tx0 1 L B M)
    (hbad : ∀ c, c < 6 → cv (bt B L) (k + c) = -1 → (∀ c', c' < c → cv (bt B L) (k + c') ≠ -1) → Q (nI c) M)
    (hgood : (∀ c, c < 6 → cv (bt B L) (k + c) ≠ -1) → Q 6 (mset (mset (mset (mset (mset M (30 + n) 0 (cv (bt B L) (k + 0))) (30 + n) 1 (cv (bt B L) (k + 1))) (30 + n) 2 (cv (bt B L) (k + 2))) (30 + n) 3 (10 * cv (bt B L) (k + 3) + cv (bt B L) (k + 4))) (30 + n) 4 (cv (bt B L) (k + 5)))) : w0_readsCarter (nI n) (nI k) M Q := by
  have key : ∀ (j c : Nat), c + j = 6 → (∀ c', c' < c → cv (bt B L) (k + c') ≠ -1) → w0_readsCarter_b2 Q (j + 1) (nI n) (nI k) (nI c) M := by
    intro j
    induction j with
    | zero =>
      intro c hc hp
      obtain rfl : c = 6 := by omega
      refine brF (nI_ge (b := 8) (by omega) (by decide)) (brT (by decide) ?_)
      unfold w0_readsCarter_b29 w0_readsCarter_b129
      refine brT rfl ⟨vp_in_nI hn (by decide), ?_⟩
      have e1 : nI k + 1 = nI (k + 1) := nI_add k 1
      have e2 : nI k + 2 = nI (k + 2) := nI_add k 2
      have e3 : nI k + 3 = nI (k + 3) := nI_add k 3
      have e4 : nI k + 4 = nI (k + 4) := nI_add k 4
      have e5 : nI k + 5 = nI (k + 5) := nI_add k 5
      have c0 : cv (bt B L) (k + 0) = pl (bt B L k) := by unfold cv; rw [if_pos (by omega), Nat.add_zero]
      have c1 : cv (bt B L) (k + 1) = pl (bt B L (k + 1)) := by unfold cv; rw [if_pos (by omega)]
      have c2 : cv (bt B L) (k + 2) = kd (bt B L (k + 2)) := by unfold cv; rw [if_neg (by omega), if_pos (by omega)]
      have c3 : cv (bt B L) (k + 3) = fg 0 (bt B L (k + 3)) := by unfold cv; rw [if_neg (by omega), if_neg (by omega), if_pos (by omega)]
      have c4 : cv (bt B L) (k + 4) = fg 0 (bt B L (k + 4)) := by unfold cv; rw [if_neg (by omega), if_neg (by omega), if_pos (by omega)]
      have c5 : cv (bt B L) (k + 5) = fg 0 (bt B L (k + 5)) := by unfold cv; rw [if_neg (by omega), if_neg (by omega), if_pos (by omega)]
      have p2 := hp 2 (by decide)
      have hg := hgood hp
      rw [c0, c1, c2, c3, c4, c5] at hg
      rw [c2] at p2
      have tx : ∀ {M1 : Mem} {i : Nat} {v : Int32}, tx0 1 L B M1 → tx0 1 L B (mset M1 (30 + n) i v) := by
        rintro M1 i v ⟨a, b, d⟩
        refine ⟨?_, b, fun i hi => ?_⟩
        · rw [mset_ot _ _ (Or.inl (by omega))]; exact a
        · rw [mset_ot _ _ (Or.inl (by omega))]; exact d i hi
      rw [e1, e2, e3, e4, e5, ci_nI (by omega)]
      refine g0_placeAt (t := 1) (by decide) (by omega) (by omega) hB hx ?_
      rintro M4 rfl
      refine g0_placeAt (t := 1) (by decide) (by omega) (by omega) hB (tx hx) ?_
      rintro M7 rfl
      refine g0_byteAt (t := 1) (by decide) (by omega) (by omega) (tx (tx hx)) (g0_kindOf ⟨(kd_or _).resolve_left p2, ?_⟩)
      rintro M12 rfl
      refine g0_figureAt (t := 1) (l := 0) (by decide) (by omega) (by omega) (by decide) hB (tx (tx (tx hx))) (g0_figureAt (t := 1) (l := 0) (by decide) (by omega) (by omega) (by decide) hB (tx (tx (tx hx))) ?_)
      rintro M17 rfl
      refine g0_figureAt (t := 1) (l := 0) (by decide) (by omega) (by omega) (by decide) hB (tx (tx (tx (tx hx)))) ?_
      rintro M20 rfl
      exact hg
    | succ j ih =>
      intro c hc hp
      refine brF (nI_ge (b := 8) (by omega) (by decide)) (brF (nI_ge (b := 6) (by omega) (by decide)) ?_)
      refine g0_isCarterByte (L := L) (by omega) hk h7 hL hB hx (fun q => brF (by decide) ?_) (fun q => brT rfl ?_)
      · rw [nI_1]
        refine ih (c + 1) (by omega) (fun c' hc' => ?_)
        by_cases e : c' = c
        · rw [e]; exact q
        · exact hp c' (by omega)
      · unfold w0_readsCarter_b29 w0_readsCarter_b129
        exact brF (nI_ne (b := 6) (by omega) (by decide) (by omega)) (hbad c (by omega) q hp)
  exact ⟨7, key 6 0 rfl (fun c' h => absurd h (Nat.not_lt_zero c'))⟩
theorem g0_parts1 {Q : Int32 → Mem → Prop} {M0 : Mem} {B : Nat → Int32} {L : Nat} (hB : okB B L) (hL : L ≤ 55) (hx : tx0 1 L B M0) (h4 : M0 0 9 = 0) (hQ : ∀ f n M', Prs (cv (bt B L)) 7 L f n → M' 0 9 = nI n → (∀ k, k < n → ∀ c, c < 5 → M' (30 + k) c = cE (bt B L) c k) → fr W0b M0 M' → Q f M') : w0_readsParts 1 M0 Q := by
  have hfx : ∀ {M}, fr W0b1 M0 M → tx0 1 L B M := fun h => hx.fr (by decide) h (fun i => ⟨by unfold W0b1; omega, by unfold W0b1; omega⟩)
  have wk : ∀ c i, W0b1 c i → W0b c i := fun c i h => Or.inl h
  have fin : ∀ (n : Nat) (M : Mem), (∀ j, j < L → cv (bt B L) j ≠ -1) → (L = 0 ∨ L % 7 = 6) → n = (L + 1) / 7 → (∀ k, k < n → ∀ c, c < 5 → M (30 + k) c = cE (bt B L) c k) → fr W0b1 M0 M → w0_readsParts_b152 Q 1 (nI n) (M 0 4) M := by
    intro n M hg hc hn hv hf
    unfold w0_readsParts_b152 w0_readsParts_b169
    rintro M2 rfl
    refine brT rfl ?_
    rintro M1 rfl
    rw [mset_self]
    refine hQ _ n _ (Or.inr ⟨hg, Or.inr ⟨hc, rfl, hn⟩⟩) (mset_eq _ _ _ _) (fun w hw c hc => ?_) ((hf.weak wk).set _ (Or.inr ⟨rfl, rfl⟩))
    rw [mset_ot _ _ (Or.inl (by omega))]
    exact hv w hw c hc
  have bad : ∀ (i : Nat) (M : Mem), L ≠ 0 → i ≤ L → cv (bt B L) i = -1 → (∀ j, j < i → cv (bt B L) j ≠ -1) → (i % 7 ≠ 6 ∨ i < L) → fr W0b1 M0 M → Q (nI i) M := by
    intro i M hL0 hi h1 h2 h3 hf
    have h4' : M 0 9 = nI 0 := by rw [hf _ _ (by unfold W0b1; omega)]; exact h4
    by_cases c : i < L
    · exact hQ _ 0 _ (Or.inl ⟨i, c, h1, h2, rfl, rfl⟩) h4' (fun w hw => absurd hw (Nat.not_lt_zero w)) (hf.weak wk)
    · obtain rfl : i = L := by omega
      exact hQ _ 0 _ (Or.inr ⟨h2, Or.inl ⟨hL0, h3.resolve_right c, rfl, rfl⟩⟩) h4' (fun w hw => absurd hw (Nat.not_lt_zero w)) (hf.weak wk)
  have key : ∀ (j n : Nat) (M : Mem), n + j = 8 → 7 * n ≤ L → L ≠ 0 → (∀ j, j < 7 * n → cv (bt B L) j ≠ -1) → (∀ k, k < n → ∀ c, c < 5 → M (30 + k) c = cE (bt B L) c k) → fr W0b1 M0 M → w0_readsParts_b32 Q (j + 2) 1 6 (nI n) (nI (7 * n)) 1 M := by
    intro j
    induction j with
    | zero => intro n M hn h5; omega
    | succ j ih =>
      intro n M hn h5 hL0 hg hv hf
      refine brF (by decide) (brF (by decide) ?_)
      have hx' := hfx hf
      refine g0_readsCarter (L := L) (by omega) (by omega) (by omega) (by omega) hB hx' (fun c hc hb hp => ?_) (fun hall => ?_)
      · unfold w0_readsParts_b58
        refine brF (nI_ge (b := 6) hc (by decide)) ?_
        rw [nI_add]
        have all : ∀ j, j < 7 * n + c → cv (bt B L) j ≠ -1 := fun j hj => by
          by_cases q : j < 7 * n
          · exact hg j q
          · have := hp (j - 7 * n) (by omega)
            rw [show 7 * n + (j - 7 * n) = j by omega] at this
            exact this
        refine bad _ M hL0 ?_ hb all (Or.inl (by omega)) hf
        by_cases c0 : c = 0
        · omega
        · have := lt_of_nec (all (7 * n + c - 1) (by omega))
          omega
      · have l3 := lt_of_nec (hall 5 (by decide))
        have all : ∀ j, j < 7 * n + 6 → cv (bt B L) j ≠ -1 := fun j hj => by
          by_cases q : j < 7 * n
          · exact hg j q
          · have := hall (j - 7 * n) (by omega)
            rw [show 7 * n + (j - 7 * n) = j by omega] at this
            exact this
        generalize hM' : mset (mset (mset (mset (mset M (30 + n) 0 (cv (bt B L) (7 * n + 0))) (30 + n) 1 (cv (bt B L) (7 * n + 1))) (30 + n) 2 (cv (bt B L) (7 * n + 2))) (30 + n) 3 (10 * cv (bt B L) (7 * n + 3) + cv (bt B L) (7 * n + 4))) (30 + n) 4 (cv (bt B L) (7 * n + 5)) = M'
        have hf' : fr W0b1 M0 M' := by
          rw [← hM']
          exact ((((hf.set _ (by unfold W0b1; omega)).set _ (by unfold W0b1; omega)).set _ (by unfold W0b1; omega)).set _ (by unfold W0b1; omega)).set _ (by unfold W0b1; omega)
        have hv' : ∀ k, k < n + 1 → ∀ c, c < 5 → M' (30 + k) c = cE (bt B L) c k := by
          intro w hw c hc
          rw [← hM']
          by_cases q : w = n
          · subst q
            have hc4 : c = 0 ∨ c = 1 ∨ c = 2 ∨ c = 3 ∨ c = 4 := by omega
            rcases hc4 with rfl | rfl | rfl | rfl | rfl <;> simp [mset_at, cE]
          · rw [mset_ot _ _ (Or.inl (by omega)), mset_ot _ _ (Or.inl (by omega)), mset_ot _ _ (Or.inl (by omega)), mset_ot _ _ (Or.inl (by omega)), mset_ot _ _ (Or.inl (by omega))]
            exact hv w (by omega) c hc
        have hx2 := hfx hf'
        unfold w0_readsParts_b58
        refine brT (by decide) ⟨vp_in_nI (n := 1) (by decide) (by decide), ?_⟩
        have e0 : ci (1 : Int32) = 1 := rfl
        have e4 : nI (7 * n) + 6 = nI (7 * n + 6) := nI_add _ 6
        rw [e0, hx2.1, e4, nI_1]
        unfold w0_readsParts_b97 w0_readsParts_b121 w0_readsParts_b133
        by_cases c : L ≤ 7 * n + 6
        · have hL4 : L = 7 * n + 6 := by omega
          refine brT (nI_le c (by omega)) (brT rfl (brT rfl ?_))
          refine brT rfl (brF (by decide) (fin (n + 1) M' ?_ (Or.inr (by omega)) (by omega) hv' hf'))
          rw [hL4]
          rw [hL4] at all
          exact all
        · refine brF (nI_ge (by omega) (by omega)) (brF (by decide) ⟨vp_in_nI (n := 1) (by decide) (by decide), ?_⟩)
          rw [e0, ci_nI (by omega)]
          refine ⟨vp_in_nI (by have := hx2.2.1; omega) (by decide), ?_⟩
          rw [hx2.2.2 _ (by omega)]
          have e59 : cv (bt B L) (7 * n + 6) = sm (B (7 * n + 6)) := by
            unfold cv
            rw [if_neg (by omega), if_neg (by omega), if_neg (by omega), bt_in (by omega)]
          unfold sm at e59
          by_cases c5 : B (7 * n + 6) = 59
          · refine brT c5 (brF (by decide) ?_)
            rw [nI_1, show 7 * n + 6 + 1 = 7 * (n + 1) by omega]
            refine ih (n + 1) M' (by omega) (by omega) hL0 (fun j hj => ?_) hv' hf'
            by_cases q : j = 7 * n + 6
            · rw [q, e59, if_pos c5]
              decide
            · exact all j (by omega)
          · refine brF c5 (bad _ M' hL0 (by omega) ?_ all (Or.inr (by omega)) hf')
            rw [e59, if_neg c5]
  unfold w0_readsParts w0_readsParts_b10 w0_readsParts_b30
  refine brF (by decide) ⟨vp_in_nI (n := 1) (by decide) (by decide), ?_⟩
  have e0 : ci (1 : Int32) = 1 := rfl
  rw [e0, hx.1]
  by_cases c : L = 0
  · subst c
    exact brT (by decide) ⟨1, brT rfl (brF (by decide) (fin 0 M0 (fun j hj => absurd hj (Nat.not_lt_zero j)) (Or.inl rfl) (by decide) (fun w hw => absurd hw (Nat.not_lt_zero w)) (fr.refl _ _)))⟩
  · exact brF (nI_nle (by omega) (by omega)) ⟨10, key 8 0 M0 rfl (by omega) c (fun j hj => absurd hj (by omega)) (fun w hw => absurd hw (Nat.not_lt_zero w)) (fr.refl _ _)⟩
