/-! the reference lives as the abstract run -/
def kp (S : Mem) (k j : Nat) : Int32 := if j = 0 then S 0 k else if j = 1 then S 1 k else if j = 2 then S 2 k else if S 0 k = 1 then S 3 k else -1
def kept6 (n na : Nat) (E : Mem) (H : Nat) (M : Mem) : Prop := ∀ h, h < H → ∀ k, k < n → ∀ j, j < 4 → M 24 (32 * h + 4 * k + j) = kp (runS n na E (h + 1)) k j
theorem i32 (h k : Nat) : (32 : Int32) * nI h + 4 * nI k = nI (32 * h + 4 * k) := by
  rw [show (32 : Int32) * nI h = nI (32 * h) from pk_mul 32 h, show (4 : Int32) * nI k = nI (4 * k) from pk_mul 4 k, nI_add]
theorem g6_keeps {Q : Mem → Prop} {n h : Nat} {S M0 : Mem} (hn : n ≤ 8) (h40 : h < 40) (h9 : M0 0 9 = nI n) (hr : relOn loc6 (Dn n 8) S M0) (hQ : ∀ M', (∀ c i, c ≠ 24 → M' c i = M0 c i) → (∀ x, x < 32 * h → M' 24 x = M0 24 x) → (∀ k, k < n → ∀ j, j < 4 → M' 24 (32 * h + 4 * k + j) = kp S k j) → Q M') : w6_keeps (nI h) M0 Q := by
  have key : ∀ (j i : Nat) (M : Mem), i + j = n → (∀ c i, c ≠ 24 → M c i = M0 c i) → (∀ x, x < 32 * h → M 24 x = M0 24 x) → (∀ k, k < i → ∀ j, j < 4 → M 24 (32 * h + 4 * k + j) = kp S k j) → w6_keeps_b2 Q (j + 1) (nI h) (nI i) M := by
    intro j
    induction j with
    | zero =>
      intro i M hi h1 h2 h3
      obtain rfl : i = n := by omega
      refine brT ?_ (hQ M h1 h2 h3)
      rw [h1 _ _ (by decide), h9]
      exact nI_le (Nat.le_refl _) (by omega)
    | succ j ih =>
      intro i M hi h1 h2 h3
      have hin : i < n := by omega
      have hr' : relOn loc6 (Dn n 8) S M := fun c x hD => by
        rw [h1]
        · exact hr c x hD
        · unfold loc6 Dn at *
          split
          · omega
          split
          · simp only; omega
          · simp
      obtain ⟨c0, c1, c2, c3, c4, c5⟩ := s6_c hr' hin
      refine brF ?_ ⟨vp_in_nI (by omega) (by decide), ?_⟩
      · rw [h1 _ _ (by decide), h9]
        exact nI_ge (by omega) (by omega)
      have e1 : nI (32 * h + 4 * i) + 1 = nI (32 * h + 4 * i + 1) := nI_1 _
      have e2 : nI (32 * h + 4 * i) + 2 = nI (32 * h + 4 * i + 2) := nI_add _ 2
      have e3 : nI (32 * h + 4 * i) + 3 = nI (32 * h + 4 * i + 3) := nI_add _ 3
      unfold w6_keeps_b105
      rw [i32, e1, e2, e3, ci_nI (by omega), ci_nI (by omega), ci_nI (by omega), ci_nI (by omega), ci_nI (by omega), nI_1]
      refine ⟨vp_in_nI (by omega) (by decide), ?_⟩
      rintro M5 rfl
      refine ⟨vp_in_nI (by omega) (by decide), ?_⟩
      rintro M7 rfl
      refine ⟨vp_in_nI (by omega) (by decide), ?_⟩
      rintro M9 rfl
      have fin : ∀ v, v = kp S i 3 → ∀ x0 x1 x2, x0 = S 0 i → x1 = S 1 i → x2 = S 2 i → w6_keeps_b2 Q (j + 1) (nI h) (nI (i + 1)) (mset (mset (mset (mset M 24 (32 * h + 4 * i) x0) 24 (32 * h + 4 * i + 1) x1) 24 (32 * h + 4 * i + 2) x2) 24 (32 * h + 4 * i + 3) v) := by
        intro v hv x0 x1 x2 r0 r1 r2
        refine ih (i + 1) _ (by omega) ?_ ?_ ?_
        · intro c x hc
          rw [mset_ot _ _ (Or.inl hc), mset_ot _ _ (Or.inl hc), mset_ot _ _ (Or.inl hc), mset_ot _ _ (Or.inl hc)]
          exact h1 c x hc
        · intro x hx
          rw [mset_ot _ _ (Or.inr (by omega)), mset_ot _ _ (Or.inr (by omega)), mset_ot _ _ (Or.inr (by omega)), mset_ot _ _ (Or.inr (by omega))]
          exact h2 x hx
        · intro k hk y hy
          by_cases e : k = i
          · subst e
            have hy4 : y = 0 ∨ y = 1 ∨ y = 2 ∨ y = 3 := by omega
            rcases hy4 with rfl | rfl | rfl | rfl
            · rw [mset_ot _ _ (Or.inr (by omega)), mset_ot _ _ (Or.inr (by omega)), mset_ot _ _ (Or.inr (by omega)), Nat.add_zero, mset_eq]
              exact r0
            · rw [mset_ot _ _ (Or.inr (by omega)), mset_ot _ _ (Or.inr (by omega)), mset_eq]
              exact r1
            · rw [mset_ot _ _ (Or.inr (by omega)), mset_eq]
              exact r2
            · rw [mset_eq]
              exact hv
          · rw [mset_ot _ _ (Or.inr (by omega)), mset_ot _ _ (Or.inr (by omega)), mset_ot _ _ (Or.inr (by omega)), mset_ot _ _ (Or.inr (by omega))]
            exact h3 k (by omega) y hy
      have f19 : mset M 24 (32 * h + 4 * i) (M 18 i) 19 i = S 1 i := by rw [mset_ot _ _ (Or.inl (by decide))]; exact c1
      have f20 : ∀ x y, mset (mset M 24 (32 * h + 4 * i) x) 24 (32 * h + 4 * i + 1) y 20 i = S 2 i := fun x y => by rw [mset_ot _ _ (Or.inl (by decide)), mset_ot _ _ (Or.inl (by decide))]; exact c2
      have f18 : ∀ x y z, mset (mset (mset M 24 (32 * h + 4 * i) x) 24 (32 * h + 4 * i + 1) y) 24 (32 * h + 4 * i + 2) z 18 i = S 0 i := fun x y z => by rw [mset_ot _ _ (Or.inl (by decide)), mset_ot _ _ (Or.inl (by decide)), mset_ot _ _ (Or.inl (by decide))]; exact c0
      have f21 : ∀ x y z, mset (mset (mset M 24 (32 * h + 4 * i) x) 24 (32 * h + 4 * i + 1) y) 24 (32 * h + 4 * i + 2) z 21 i = S 3 i := fun x y z => by rw [mset_ot _ _ (Or.inl (by decide)), mset_ot _ _ (Or.inl (by decide)), mset_ot _ _ (Or.inl (by decide))]; exact c3
      rw [f18, f21, f20, f19, c0]
      by_cases e : S 0 i = 1
      · refine brT e ⟨vp_in_nI (by omega) (by decide), ?_⟩
        rintro M2 rfl
        exact fin _ (by simp [kp, e]) _ _ _ rfl rfl rfl
      · refine brF e ⟨vp_in_nI (by omega) (by decide), ?_⟩
        rintro M2 rfl
        exact fin _ (by simp [kp, e]) _ _ _ rfl rfl rfl
  exact ⟨n + 1, key n 0 M0 (by omega) (fun _ _ _ => rfl) (fun _ _ => rfl) (fun k hk => absurd hk (Nat.not_lt_zero k))⟩
theorem W6r_W6 (c i : Nat) (h : W6r c i) : W6 c i := by unfold W6r at h; unfold W6; omega
theorem g6_dec {P : Mem → Prop} {Q : Mem → Prop} {K : Int32 → Mem → Prop} {n na h : Nat} {E S M0 : Mem} (hn : n ≤ 8) (hna : na ≤ 8) (h40 : h < 40) (hE : okE n E) (hR : R6 n na E M0) (hD : okD n h 0 S) (hQ : ∀ M', relOn loc6 (Dn n 8) (iter (dec1 na E (nI h)) n S) M' → fr W6r M0 M' → w6_keeps (nI h) M' (fun M1 => K (nI h + 1) M1)) : ∀ (j i : Nat) (M : Mem), i + j = n → relOn loc6 (Dn n 8) (iter (dec1 na E (nI h)) i S) M → fr W6r M0 M → w6_lives_b125 Q K (j + 1) (nI h) (nI i) M
  | 0, i, M, hi, hr, hf => by
    obtain rfl : i = n := by omega
    have hR' := hR.fr (hf.weak W6r_W6)
    refine brT ?_ (hQ M hr hf)
    rw [hR'.1]
    exact nI_le (Nat.le_refl _) (by omega)
  | j + 1, i, M, hi, hr, hf => by
    have hin : i < n := by omega
    have hR' := hR.fr (hf.weak W6r_W6)
    obtain ⟨g1, g2, g3, g4⟩ := okD_iter (na := na) hE h40 hD i (by omega) i hin
    have hnext : ∀ M', relOn loc6 (Dn n 8) (dec1 na E (nI h) i (iter (dec1 na E (nI h)) i S)) M' → fr W6r M M' → w6_lives_b125 Q K (j + 1) (nI h) (nI (i + 1)) M' := fun M' a b => g6_dec (P := P) hn hna h40 hE hR hD hQ j (i + 1) M' (by omega) a (hf.trans b)
    revert hnext g1 g2 g3 g4 hr
    generalize iter (dec1 na E (nI h)) i S = T
    intro hr g1 g2 g3 g4 hnext
    refine brF ?_ ⟨vp_in_nI (by omega) (by decide), ?_⟩
    · rw [hR'.1]
      exact nI_ge (by omega) (by omega)
    unfold w6_lives_b149
    rw [ci_nI (by omega), (s6_c hr hin).2.2.2.2.1, nI_1]
    by_cases b : T 4 i = nI h
    · have b2 : T 0 i < 2 := by
        refine Decidable.byContradiction fun c => ?_
        have := g2 c
        rw [b, nI_toInt (by omega), if_neg (Nat.lt_irrefl i)] at this
        omega
      refine brT b (g6_goesOn hn hna hE hin (g4 (Nat.le_refl i) b2 b) hR' hr (fun M' r f => hnext M' ?_ f))
      unfold dec1
      rw [if_pos ⟨b2, b⟩]
      exact r
    · refine brF b (hnext M ?_ (fr.refl _ _))
      unfold dec1
      rw [if_neg (fun c => b c.2)]
      exact hr
theorem Dn_80 (n c i : Nat) (h : Dn n 0 c i) : Dn n 8 c i := by unfold Dn at *; omega
theorem runS_succ (n na : Nat) (E : Mem) (h : Nat) : runS n na E (h + 1) = hourS n na E h (runS n na E h) := rfl
theorem g6_hours {Q : Mem → Prop} {n na : Nat} {E M0 : Mem} (hn : n ≤ 8) (hna : na ≤ 8) (hE : okE n E) (hR : R6 n na E M0) (hQ : ∀ M', relOn loc6 (Dn n 0) (runS n na E 40) M' → kept6 n na E 40 M' → fr W6 M0 M' → Q M') : ∀ (j h : Nat) (M : Mem), h + j = 40 → relOn loc6 (Dn n 0) (runS n na E h) M → kept6 n na E h M → fr W6 M0 M → w6_lives_b112 Q (j + 1) (nI h) M
  | 0, h, M, hi, hr, hk, hf => by
    obtain rfl : h = 40 := by omega
    exact brT (by decide) (hQ M hr hk hf)
  | j + 1, h, M, hi, hr, hk, hf => by
    have hR' := hR.fr hf
    have h40 : h < 40 := by omega
    refine brF (nI_ge (b := 40) (by omega) (by decide)) ?_
    have hS := okS_run (na := na) hE h (by omega)
    refine g6_gathers hn h40 hR'.1 hS hr (fun M1 r1 f1 => ?_)
    refine ⟨n + 1, g6_dec (P := Q) (S := gathS n (nI h) (runS n na E h)) (K := w6_lives_b112 Q (j + 1)) hn hna h40 hE (hR'.fr (f1.weak W6r_W6)) (okD_0 (okG_gath hS)) (fun M2 r2 f2 => ?_) n 0 M1 (by omega) (by rw [iter_zero]; exact r1) (fr.refl _ _)⟩
    have e9 : M2 0 9 = nI n := ((hR'.fr (f1.weak W6r_W6)).fr (f2.weak W6r_W6)).1
    refine g6_keeps hn h40 e9 r2 (fun M3 a b c => ?_)
    rw [nI_1]
    have f3 : fr W6 M2 M3 := fun c i hw => a c i (by rintro rfl; exact hw (by unfold W6; omega))
    refine g6_hours hn hna hE hR hQ j (h + 1) M3 (by omega) ?_ ?_ (hf.trans ((f1.weak W6r_W6).trans ((f2.weak W6r_W6).trans f3)))
    · intro c i hD
      rw [a]
      · exact r2 c i (Dn_80 n c i hD)
      · unfold loc6
        unfold Dn at hD
        split
        · simp only; omega
        split
        · simp only; omega
        · simp
    · intro h' hh' k hk' y hy
      by_cases e : h' = h
      · subst e
        rw [c k hk' y hy]
        rfl
      · rw [b _ (by omega), f2 _ _ (by unfold W6r; omega), f1 _ _ (by unfold W6r; omega)]
        exact hk h' (by omega) k hk' y hy
theorem g6_lives {Q : Mem → Prop} {n na : Nat} {E M0 : Mem} (hn : n ≤ 8) (hna : na ≤ 8) (hE : okE n E) (hR : R6 n na E M0) (hQ : ∀ M', relOn loc6 (Dn n 0) (runS n na E 40) M' → kept6 n na E 40 M' → fr W6 M0 M' → Q M') : w6_lives M0 Q := by
  have key2 : ∀ (j i : Nat) (M : Mem), i + j = n → fr W6 M0 M → (∀ k, k < 8 → M 18 k = 0 ∧ M 19 k = -1 ∧ M 23 k = -1 ∧ M 26 k = 0) → (∀ k, k < i → M 20 k = E 3 k ∧ M 21 k = E 0 k ∧ M 22 k = E 5 k) → w6_lives_b44 Q (j + 1) (nI i) M := by
    intro j
    induction j with
    | zero =>
      intro i M hi hf h1 h2
      obtain rfl : i = n := by omega
      refine brT ?_ ?_
      · rw [(hR.fr hf).1]
        exact nI_le (Nat.le_refl _) (by omega)
      rintro M5 rfl M6 rfl
      refine ⟨41, g6_hours hn hna hE hR hQ 40 0 _ rfl ?_ (fun h hh => absurd hh (Nat.not_lt_zero h)) ((hf.set _ (by unfold W6; omega)).set _ (by unfold W6; omega))⟩
      intro c x hD
      unfold Dn at hD
      have e : (loc6 c x).1 ≠ 0 → mset (mset M 0 26 (-1)) 0 27 (-1) (loc6 c x).1 (loc6 c x).2 = M (loc6 c x).1 (loc6 c x).2 := fun h => by
        rw [mset_ot _ _ (Or.inl h), mset_ot _ _ (Or.inl h)]
      show _ = beginS E c x
      by_cases q : c < 6 ∧ x < i
      · rw [e (by unfold loc6; rw [if_pos q.1]; simp only; omega)]
        obtain ⟨a1, a2, a3, -⟩ := h1 x (by omega)
        obtain ⟨b1, b2, b3⟩ := h2 x q.2
        have hc : c = 0 ∨ c = 1 ∨ c = 2 ∨ c = 3 ∨ c = 4 ∨ c = 5 := by omega
        rcases hc with rfl | rfl | rfl | rfl | rfl | rfl
        · exact a1
        · exact a2
        · exact b1
        · exact b2
        · exact b3
        · exact a3
      · have hc : (c = 7 ∧ x < 8) ∨ (c = 8 ∧ x < 2) := by omega
        rcases hc with ⟨rfl, hx⟩ | ⟨rfl, hx⟩
        · rw [e (by simp [loc6])]
          exact (h1 x hx).2.2.2
        · have hx2 : x = 0 ∨ x = 1 := by omega
          rcases hx2 with rfl | rfl
          · exact (mset_ot _ _ (Or.inr (by decide))).trans (mset_eq _ _ _ _)
          · exact mset_eq _ _ _ _
    | succ j ih =>
      intro i M hi hf h1 h2
      have hin : i < n := by omega
      have hR' := hR.fr hf
      obtain ⟨d0, d1, d2, d3, d4⟩ := s6_g hR' hin
      have e3 : (5 : Int32) * nI i + 3 = nI (5 * i + 3) := i5 i 3
      have e0 : (5 : Int32) * nI i = nI (5 * i) := pk_mul 5 i
      refine brF ?_ ?_
      · rw [hR'.1]
        exact nI_ge (by omega) (by omega)
      rw [e3, e0, ci_nI (by omega), ci_nI (by omega), ci_nI (by omega), nI_1]
      refine ⟨vp_in_nI (by omega) (by decide), vp_in_nI (by omega) (by decide), ?_⟩
      rintro M9 rfl
      refine ⟨vp_in_nI (by omega) (by decide), ?_⟩
      rintro M11 rfl M12 rfl
      refine ih (i + 1) _ (by omega) (((hf.set _ (by unfold W6; omega)).set _ (by unfold W6; omega)).set _ (by unfold W6; omega)) ?_ ?_
      · intro k hk
        rw [mset_ot _ _ (Or.inl (by decide)), mset_ot _ _ (Or.inl (by decide)), mset_ot _ _ (Or.inl (by decide)), mset_ot _ _ (Or.inl (by decide)), mset_ot _ _ (Or.inl (by decide)), mset_ot _ _ (Or.inl (by decide)), mset_ot _ _ (Or.inl (by decide)), mset_ot _ _ (Or.inl (by decide)), mset_ot _ _ (Or.inl (by decide)), mset_ot _ _ (Or.inl (by decide)), mset_ot _ _ (Or.inl (by decide)), mset_ot _ _ (Or.inl (by decide))]
        exact h1 k hk
      · intro k hk
        have f0 : mset M 20 i (M 11 (5 * i + 3)) 11 (5 * i) = E 0 i := by rw [mset_ot _ _ (Or.inl (by decide))]; exact d0
        have f5 : ∀ x y, mset (mset M 20 i x) 21 i y 12 i = E 5 i := fun x y => by rw [mset_ot _ _ (Or.inl (by decide)), mset_ot _ _ (Or.inl (by decide))]; exact hR'.2.2.2.2.1 i hin
        rw [f0, f5, d3]
        by_cases e : k = i
        · subst e
          simp [mset_at]
        · simp only [mset_at, e, and_false, if_false]
          exact h2 k (by omega)
  have key1 : ∀ (j i : Nat) (M : Mem), i + j = 8 → fr W6 M0 M → (∀ k, k < i → M 18 k = 0 ∧ M 19 k = -1 ∧ M 23 k = -1 ∧ M 26 k = 0) → w6_lives_b2 Q (j + 1) (nI i) M := by
    intro j
    induction j with
    | zero =>
      intro i M hi hf h1
      obtain rfl : i = 8 := by omega
      exact brT (by decide) ⟨n + 1, key2 n 0 M (by omega) hf h1 (fun k hk => absurd hk (Nat.not_lt_zero k))⟩
    | succ j ih =>
      intro i M hi hf h1
      refine brF (nI_ge (b := 8) (by omega) (by decide)) ⟨vp_in_nI (by omega) (by decide), ?_⟩
      rw [ci_nI (by omega), nI_1]
      rintro M14 rfl M15 rfl M16 rfl M17 rfl
      refine ih (i + 1) _ (by omega) ((((hf.set _ (by unfold W6; omega)).set _ (by unfold W6; omega)).set _ (by unfold W6; omega)).set _ (by unfold W6; omega)) ?_
      intro k hk
      by_cases e : k = i
      · subst e
        simp [mset_at]
      · simp only [mset_at, e, and_false, if_false]
        exact h1 k (by omega)
  exact ⟨9, key1 8 0 M0 rfl (fr.refl _ _) (fun k hk => absurd hk (Nat.not_lt_zero k))⟩
