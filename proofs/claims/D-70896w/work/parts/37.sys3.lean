/-! the system's runs -/
def place0 (n na : Nat) (E : Mem) (H : Nat) (M : Mem) : Prop := ∀ h, h < H → ∀ k, k < n → M (60 + h) k = runS n na E (h + 1) 1 k
theorem g0_by {Q : Mem → Prop} {n na h : Nat} {E S M0 : Mem} (hn : n ≤ 8) (hna : na ≤ 8) (h40 : h < 40) (hE : okE n E) (hR : R0 n na E M0) (hD : okD n h 0 S) (hQ : ∀ M', relOn loc0 (Dn n 8) (iter (dec1 na E (nI h)) n S) M' → fr W0 M0 M' → (∀ h', h' ≠ h → h' < 40 → ∀ k, M' (60 + h') k = M0 (60 + h') k) → (∀ k, k < n → M' (60 + h) k = iter (dec1 na E (nI h)) n S 1 k) → Q M') : ∀ (j i : Nat) (M : Mem), i + j = n → relOn loc0 (Dn n 8) (iter (dec1 na E (nI h)) i S) M → fr W0 M0 M → (∀ h', h' ≠ h → h' < 40 → ∀ k, M (60 + h') k = M0 (60 + h') k) → (∀ k, k < i → M (60 + h) k = iter (dec1 na E (nI h)) i S 1 k) → w0_goesBy_b7 Q (j + 1) (nI h) (nI i) M
  | 0, i, M, hi, hr, hf, h1, h2 => by
    obtain rfl : i = n := by omega
    have hR' := hR.fr hn hf
    refine brT ?_ (hQ M hr hf h1 h2)
    rw [hR'.1]
    exact nI_le (Nat.le_refl _) (by omega)
  | j + 1, i, M, hi, hr, hf, h1, h2 => by
    have hin : i < n := by omega
    have hR' := hR.fr hn hf
    obtain ⟨g1, g2, g3, g4⟩ := okD_iter (na := na) hE h40 hD i (by omega) i hin
    have hnext : ∀ M', relOn loc0 (Dn n 8) (dec1 na E (nI h) i (iter (dec1 na E (nI h)) i S)) M' → fr W0 M M' → (∀ h', h' ≠ h → h' < 40 → ∀ k, M' (60 + h') k = M (60 + h') k) → (∀ k, k < i → M' (60 + h) k = M (60 + h) k) → M' (60 + h) i = dec1 na E (nI h) i (iter (dec1 na E (nI h)) i S) 1 i → w0_goesBy_b7 Q (j + 1) (nI h) (nI (i + 1)) M' := by
      intro M' a b c d e
      refine g0_by hn hna h40 hE hR hD hQ j (i + 1) M' (by omega) a (hf.trans b) (fun h' x y k => (c h' x y k).trans (h1 h' x y k)) (fun k hk => ?_)
      by_cases q : k = i
      · subst q
        exact e
      · rw [d k (by omega), h2 k (by omega), iter_succ, dec1_ot _ _ _ _ _ (Or.inl q)]
    revert hnext g1 g2 g3 g4 hr
    generalize iter (dec1 na E (nI h)) i S = T
    intro hr g1 g2 g3 g4 hnext
    refine brF ?_ ⟨vp_in_nI (by omega) (by decide), ?_⟩
    · rw [hR'.1]
      exact nI_ge (by omega) (by omega)
    have fin : ∀ M', relOn loc0 (Dn n 8) (dec1 na E (nI h) i T) M' → fr W0r M M' → w0_goesBy_b40 Q (w0_goesBy_b7 Q (j + 1)) (nI h) (nI i) M' := by
      intro M' r f
      unfold w0_goesBy_b40
      rw [ci_nI (by omega), ci_nI (by omega), lenX_60 h h40, nI_1]
      refine ⟨vp_in_nI (by omega) (by decide), vp_in_nI (by omega) (by decide), vp_in_nI (by omega) (by decide), ?_⟩
      rintro M4 rfl
      refine hnext _ ?_ ((f.weak W0r_W0).set _ (by unfold W0; omega)) ?_ ?_ ?_
      · refine r.off _ ?_
        intro c x hD h3 h4
        unfold Dn at hD
        unfold loc0 at h3
        split at h3
        · simp only at h3; omega
        split at h3
        · simp only at h3; omega
        · simp only at h3; omega
      · intro h' x y k
        rw [mset_ot _ _ (Or.inl (by omega)), f _ _ (by unfold W0r; omega)]
      · intro k hk
        rw [mset_ot _ _ (Or.inr (by omega)), f _ _ (by unfold W0r; omega)]
      · rw [mset_eq, (s0_c r hin).2.1]
    rw [ci_nI (by omega)]
    refine g0_doesArrive hn hin hr (fun b => ?_) (fun b => ?_)
    · refine brF (by decide) (g0_decides hn hna hE hin (g4 (Nat.le_refl i) b.1 b.2) hR' hr (fun M' r f => fin M' ?_ f))
      unfold dec1
      rw [if_pos b]
      exact r
    · refine brT rfl (fin M ?_ (fr.refl _ _))
      unfold dec1
      rw [if_neg b]
      exact hr
theorem g0_runs1 {Q : Mem → Prop} {n na H : Nat} {E M0 : Mem} (hn : n ≤ 8) (hna : na ≤ 8) (hH : H < 40) (hE : okE n E) (hR : R0 n na E M0) (hQ : ∀ M', relOn loc0 (Dn n 0) (runS n na E (H + 1)) M' → place0 n na E (H + 1) M' → fr W0 M0 M' → Q M') : ∀ (j h : Nat) (M : Mem), h + j = H + 1 → relOn loc0 (Dn n 0) (runS n na E h) M → place0 n na E h M → fr W0 M0 M → w0_runs_b6 Q (j + 1) (nI H) (nI h) M
  | 0, h, M, hi, hr, hk, hf => by
    obtain rfl : h = H + 1 := by omega
    exact brT (nI_lt (by omega) (by omega)) (hQ M hr hk hf)
  | j + 1, h, M, hi, hr, hk, hf => by
    have hR' := hR.fr hn hf
    have h40 : h < 40 := by omega
    refine brF (nI_nlt (by omega) (by omega)) ?_
    have hS := okS_run (na := na) hE h (by omega)
    unfold w0_goesBy
    refine g0_gathers hn h40 hR'.1 hS hr (fun M1 r1 f1 => ?_)
    refine ⟨n + 1, g0_by (S := gathS n (nI h) (runS n na E h)) hn hna h40 hE (hR'.fr hn (f1.weak W0r_W0)) (okD_0 (okG_gath hS)) (fun M2 r2 f2 a b => ?_) n 0 M1 (by omega) (by rw [iter_zero]; exact r1) (fr.refl _ _) (fun _ _ _ _ => rfl) (fun k hk => absurd hk (Nat.not_lt_zero k))⟩
    rw [nI_1]
    refine g0_runs1 hn hna hH hE hR hQ j (h + 1) M2 (by omega) (r2.weak (Dn_80 n)) ?_ (hf.trans ((f1.weak W0r_W0).trans f2))
    intro h' hh' k hk'
    by_cases e : h' = h
    · subst e
      exact b k hk'
    · rw [a h' e (by omega), f1 _ _ (by unfold W0r; omega)]
      exact hk h' (by omega) k hk'
theorem g0_runs {Q : Mem → Prop} {n na H : Nat} {E M0 : Mem} (hn : n ≤ 8) (hna : na ≤ 8) (hH : H < 40) (hE : okE n E) (hR : R0 n na E M0) (hQ : ∀ M', relOn loc0 (Dn n 0) (runS n na E (H + 1)) M' → place0 n na E (H + 1) M' → fr W0 M0 M' → Q M') : w0_runs (nI H) M0 Q := by
  unfold w0_runs
  have key2 : ∀ (j i : Nat) (M : Mem), i + j = 8 → fr W0 M0 M → (∀ k, k < n → ∀ c, c < 6 → M (30 + k) (6 + c) = beginS E c k) → (∀ k, k < i → M 17 k = 0) → w0_begins_b27 (fun M2 => ∃ f, w0_runs_b6 Q f (nI H) 0 M2) (j + 1) (nI i) M := by
    intro j
    induction j with
    | zero =>
      intro i M hi hf h1 h2
      obtain rfl : i = 8 := by omega
      refine brT (by decide) ?_
      rintro M5 rfl M6 rfl
      refine ⟨H + 2, g0_runs1 hn hna hH hE hR hQ (H + 1) 0 _ (by omega) ?_ (fun h hh => absurd hh (Nat.not_lt_zero h)) ((hf.set _ (by unfold W0; omega)).set _ (by unfold W0; omega))⟩
      intro c x hD
      unfold Dn at hD
      have e : (loc0 c x).1 ≠ 0 → mset (mset M 0 20 (-1)) 0 21 (-1) (loc0 c x).1 (loc0 c x).2 = M (loc0 c x).1 (loc0 c x).2 := fun h => by
        rw [mset_ot _ _ (Or.inl h), mset_ot _ _ (Or.inl h)]
      show _ = beginS E c x
      by_cases q : c < 6 ∧ x < n
      · rw [e (by unfold loc0; rw [if_pos q.1]; simp only; omega)]
        unfold loc0
        rw [if_pos q.1]
        exact h1 x q.2 c q.1
      · have hc : (c = 7 ∧ x < 8) ∨ (c = 8 ∧ x < 2) := by omega
        rcases hc with ⟨rfl, hx⟩ | ⟨rfl, hx⟩
        · rw [e (by simp [loc0])]
          exact h2 x hx
        · have hx2 : x = 0 ∨ x = 1 := by omega
          rcases hx2 with rfl | rfl
          · exact (mset_ot _ _ (Or.inr (by decide))).trans (mset_eq _ _ _ _)
          · exact mset_eq _ _ _ _
    | succ j ih =>
      intro i M hi hf h1 h2
      refine brF (nI_ge (b := 8) (by omega) (by decide)) ⟨vp_in_nI (by omega) (by decide), ?_⟩
      rw [ci_nI (by omega), nI_1]
      rintro M14 rfl
      refine ih (i + 1) _ (by omega) (hf.set _ (by unfold W0; omega)) ?_ ?_
      · intro k hk c hc
        rw [mset_ot _ _ (Or.inl (by omega))]
        exact h1 k hk c hc
      · intro k hk
        by_cases e : k = i
        · subst e
          exact mset_eq _ _ _ _
        · rw [mset_ot _ _ (Or.inr e)]
          exact h2 k (by omega)
  have key1 : ∀ (j i : Nat) (M : Mem), i + j = n → fr W0 M0 M → (∀ k, k < i → ∀ c, c < 6 → M (30 + k) (6 + c) = beginS E c k) → w0_begins_b2 (fun M2 => ∃ f, w0_runs_b6 Q f (nI H) 0 M2) (j + 1) (nI i) M := by
    intro j
    induction j with
    | zero =>
      intro i M hi hf h1
      obtain rfl : i = n := by omega
      refine brT ?_ ⟨9, key2 8 0 M rfl hf h1 (fun k hk => absurd hk (Nat.not_lt_zero k))⟩
      rw [(hR.fr hn hf).1]
      exact nI_le (Nat.le_refl _) (by omega)
    | succ j ih =>
      intro i M hi hf h1
      have hin : i < n := by omega
      have hR' := hR.fr hn hf
      refine brF ?_ ⟨vp_in_nI (by omega) (by decide), ?_⟩
      · rw [hR'.1]
        exact nI_ge (by omega) (by omega)
      rw [ci_nI (by omega), nI_1]
      rintro M1 rfl M2 rfl M3 rfl M4 rfl M5 rfl M6 rfl
      have d0 := hR'.2.2.2.1 i hin 0 (by decide)
      have d3 := hR'.2.2.2.1 i hin 3 (by decide)
      have d5 := hR'.2.2.2.1 i hin 5 (by decide)
      refine ih (i + 1) _ (by omega) ((((((hf.set _ (by unfold W0; omega)).set _ (by unfold W0; omega)).set _ (by unfold W0; omega)).set _ (by unfold W0; omega)).set _ (by unfold W0; omega)).set _ (by unfold W0; omega)) ?_
      intro k hk c hc
      by_cases e : k = i
      · subst e
        have hc6 : c = 0 ∨ c = 1 ∨ c = 2 ∨ c = 3 ∨ c = 4 ∨ c = 5 := by omega
        rcases hc6 with rfl | rfl | rfl | rfl | rfl | rfl <;> simp [mset_at, beginS, d0, d3, d5]
      · rw [mset_ot _ _ (Or.inl (by omega)), mset_ot _ _ (Or.inl (by omega)), mset_ot _ _ (Or.inl (by omega)), mset_ot _ _ (Or.inl (by omega)), mset_ot _ _ (Or.inl (by omega)), mset_ot _ _ (Or.inl (by omega))]
        exact h1 k (by omega) c hc
  exact ⟨n + 1, key1 n 0 M0 (by omega) (fr.refl _ _) (fun k hk => absurd hk (Nat.not_lt_zero k))⟩
