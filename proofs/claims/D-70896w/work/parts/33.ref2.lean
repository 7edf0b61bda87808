/-! the reference decides as the abstract run -/
theorem g6_stays {Q : Mem → Prop} {k h n : Nat} {v : Int32} {hv : Int32} {S M : Mem} (hk : k < n) (hn : n ≤ 8) (hr : relOn loc6 (Dn n 8) S M) (hQ : ∀ M', relOn loc6 (Dn n 8) (endS S k v hv) M' → fr W6r M M' → Q M') : w6_stays (nI k) hv v M Q := by
  refine ⟨vp_in_nI (by omega) (by decide), ?_⟩
  rw [ci_nI (by omega)]
  rintro M2 rfl M3 rfl M4 rfl
  refine hQ _ (((hr.set (loc6_I _ _) (c := 0) (i := k) ?_ v).set (loc6_I _ _) (c := 5) (i := k) ?_ hv).set (loc6_I _ _) (c := 3) (i := k) ?_ (-1)) ((((fr.refl _ _).set _ ?_).set _ ?_).set _ ?_)
  · unfold Dn; omega
  · unfold Dn; omega
  · unfold Dn; omega
  · unfold W6r; omega
  · unfold W6r; omega
  · unfold W6r; omega
theorem g6_isIn {Q : Int32 → Prop} {g : Int32} {k : Nat} (h1 : has1 g k = true → Q 1) (h0 : has1 g k = false → Q 0) : w6_isIn g (nI k) Q := by
  unfold has1 at h1 h0
  refine ⟨fun c => ⟨Or.inr rfl, h1 (by simpa using c)⟩, fun c => ⟨Or.inl rfl, h0 (by simpa using c)⟩⟩
def b01 (b : Bool) : Int32 := if b = true then 1 else 0
theorem b01_B (b : Bool) : isB (b01 b) := by cases b <;> simp [b01, isB]
theorem g6_isAnswer {Q : Int32 → Mem → Prop} {n na : Nat} {E M : Mem} {h p : Int32} (hna : na ≤ 8) (hR : R6 n na E M) (hQ : Q (b01 (an E h p na)) M) : w6_isAnswer h p M Q := by
  have key : ∀ (j i : Nat), i + j = na → w6_isAnswer_b5 (fun r M1 => isB r ∧ Q r M1) (j + 1) h p (b01 (an E h p i)) (nI i) M := by
    intro j
    induction j with
    | zero =>
      intro i hi
      obtain rfl : i = na := by omega
      refine brT ?_ ⟨b01_B _, hQ⟩
      rw [hR.2.1]
      exact nI_le (Nat.le_refl _) (by omega)
    | succ j ih =>
      intro i hi
      have hn1 := ih (i + 1) (by omega)
      refine brF ?_ ?_
      · rw [hR.2.1]
        exact nI_ge (by omega) (by omega)
      have e2 : (2 : Int32) * nI i = nI (2 * i) := pk_mul 2 i
      rw [e2, nI_1, ci_nI (by omega), ci_nI (by omega), (hR.2.2.2.2.2.2 i (by omega)).1, (hR.2.2.2.2.2.2 i (by omega)).2, hR.2.2.1]
      unfold w6_isAnswer_b58 w6_isAnswer_b62 w6_isAnswer_b63
      rw [nI_1]
      unfold an at hn1
      cases hb : an E h p i with
      | true =>
        rw [hb] at hn1
        exact brF (by decide) (by simpa [b01] using hn1)
      | false =>
        rw [hb] at hn1
        refine brT rfl ⟨vp_in_nI (by omega) (by decide), ?_⟩
        by_cases c1 : E 8 i = h
        · refine brT c1 ⟨vp_in_nI (by omega) (by decide), ?_⟩
          by_cases c2 : E 9 i = p
          · refine brT c2 (g6_isIn (fun q => brF (by decide) ?_) (fun q => brT rfl ?_))
            · rw [q] at hn1
              simpa [b01] using hn1
            · rw [q] at hn1
              simpa [b01, c1, c2] using hn1
          · refine brF c2 ?_
            simpa [b01, c1, c2] using hn1
        · refine brF c1 ?_
          simpa [b01, c1] using hn1
  exact ⟨na + 1, key na 0 (by omega)⟩
theorem s6_g {n na : Nat} {E M : Mem} (hR : R6 n na E M) {k : Nat} (hk : k < n) : M 11 (5 * k) = E 0 k ∧ M 11 (5 * k + 1) = E 1 k ∧ M 11 (5 * k + 2) = E 2 k ∧ M 11 (5 * k + 3) = E 3 k ∧ M 11 (5 * k + 4) = E 4 k :=
  ⟨hR.2.2.2.1 k hk 0 (by decide), hR.2.2.2.1 k hk 1 (by decide), hR.2.2.2.1 k hk 2 (by decide), hR.2.2.2.1 k hk 3 (by decide), hR.2.2.2.1 k hk 4 (by decide)⟩
theorem i5 (k j : Nat) : (5 : Int32) * nI k + nI j = nI (5 * k + j) := by
  rw [show (5 : Int32) * nI k = nI (5 * k) from pk_mul 5 k, nI_add]
theorem i8 (k j : Nat) : (8 : Int32) * nI k + nI j = nI (8 * k + j) := by
  rw [show (8 : Int32) * nI k = nI (8 * k) from pk_mul 8 k, nI_add]
theorem g6_isTold {Q : Int32 → Mem → Prop} {n na k : Nat} {E S M : Mem} {h : Int32} (hn : n ≤ 8) (hna : na ≤ 8) (hk : k < n) (hE2 : vp_in (E 2 k) 3) (hp : vp_in (S 1 k) 8) (hR : R6 n na E M) (hr : relOn loc6 (Dn n 8) S M) (hQ : Q (b01 (told na E S k h)) M) : w6_isTold (nI k) h (S 1 k) M Q := by
  have hQ' : isB (b01 (told na E S k h)) ∧ Q (b01 (told na E S k h)) M := ⟨b01_B _, hQ⟩
  have e5 : (5 : Int32) * nI k + 2 = nI (5 * k + 2) := i5 k 2
  unfold w6_isTold w6_isTold_z w6_isTold_b47 w6_isTold_b43 w6_isTold_b48
  rw [e5]
  refine ⟨vp_in_nI (by omega) (by decide), ?_⟩
  rw [ci_nI (by omega), (s6_g hR hk).2.2.1]
  rintro x2 rfl
  obtain ⟨q, hq, e⟩ := vp_in_of hE2 (by decide)
  have hc := (vpN hp (by decide)).1
  unfold told at hQ'
  have hq3 : q = 0 ∨ q = 1 ∨ q = 2 := by omega
  rcases hq3 with rfl | rfl | rfl
  · rw [e] at hQ' ⊢
    rw [if_pos (show nI 0 = 0 from rfl)] at hQ'
    refine brF (by decide) (g6_isAnswer hna hR ?_)
    cases hb : an E h (S 1 k) na with
    | true => rw [hb] at hQ'; exact brF (by decide) hQ'
    | false => rw [hb] at hQ'; exact brT rfl (brF (by decide) hQ')
  · rw [e] at hQ' ⊢
    rw [if_neg (by decide), if_pos (show nI 1 = 1 from rfl)] at hQ'
    refine brF (by decide) (g6_isAnswer hna hR ?_)
    cases hb : an E h (S 1 k) na with
    | true => rw [hb] at hQ'; exact brF (by decide) hQ'
    | false =>
      rw [hb] at hQ'
      refine brT rfl (brT rfl ⟨hp, ?_⟩)
      rw [s6_p hr hc]
      by_cases c : S 6 (ci (S 1 k)) ≤ 1
      · refine brT c ?_
        simpa [c, b01] using hQ'
      · refine brF c ?_
        simpa [c, b01] using hQ'
  · rw [e] at hQ' ⊢
    rw [if_neg (by decide), if_neg (by decide)] at hQ'
    exact brT (by decide) hQ'
theorem g6_next {Q : Int32 → Mem → Prop} {n na a b : Nat} {E M : Mem} (hR : R6 n na E M) (ha : a < 8) (hb : b < 8) (hQ : Q (nx E a b 8) M) : w6_next (nI a) (nI b) M Q := by
  have hT : ∀ q, q < 8 → M 16 (8 * a + q) = E 6 (8 * a + q) := fun q hq => (hR.2.2.2.2.2.1 _ (by omega)).1
  have hF : ∀ q, q < 8 → M 17 (8 * q + b) = E 7 (8 * q + b) := fun q hq => (hR.2.2.2.2.2.1 _ (by omega)).2
  have key : ∀ (j i : Nat), i + j = 8 → nx E a b i = -1 → w6_next_b2 Q (j + 1) (nI a) (nI b) (nI i) M := by
    intro j
    induction j with
    | zero =>
      intro i hi e
      obtain rfl : i = 8 := by omega
      rw [e] at hQ
      exact brT (by decide) hQ
    | succ j ih =>
      intro i hi e
      refine brF (nI_ge (b := 8) (by omega) (by decide)) ?_
      unfold w6_next_b64
      rw [i8, i8, i8, nI_1, ci_nI (by omega), ci_nI (by omega), ci_nI (by omega), hT i (by omega), hF i (by omega), hF a ha]
      have stay : ¬ (E 6 (8 * a + i) < 9999 ∧ E 6 (8 * a + i) + E 7 (8 * i + b) = E 7 (8 * a + b)) → w6_next_b2 Q (j + 1) (nI a) (nI b) (nI (i + 1)) M := by
        intro c
        refine ih (i + 1) (by omega) ?_
        unfold nx
        rw [if_pos e, if_neg c]
      refine ⟨vp_in_nI (by omega) (by decide), ?_⟩
      by_cases c1 : (9999 : Int32) ≤ E 6 (8 * a + i)
      · exact brT c1 (stay (fun c => absurd c1 (Int32.not_le.mpr c.1)))
      · refine brF c1 ⟨vp_in_nI (by omega) (by decide), vp_in_nI (by omega) (by decide), ?_⟩
        by_cases c2 : E 6 (8 * a + i) + E 7 (8 * i + b) = E 7 (8 * a + b)
        · refine brT c2 ?_
          have hi1 : nx E a b (i + 1) = nI i := by
            unfold nx
            rw [if_pos e, if_pos ⟨Int32.not_le.mp c1, c2⟩]
          have hall : ∀ d, nx E a b (i + 1 + d) = nI i := by
            intro d
            induction d with
            | zero => exact hi1
            | succ d ihd =>
              rw [show i + 1 + (d + 1) = (i + 1 + d) + 1 by omega]
              unfold nx
              rw [ihd, if_neg]
              intro q
              have q2 := congrArg Int32.toInt q
              rw [nI_toInt (by omega)] at q2
              have q3 : (-1 : Int32).toInt = -1 := by decide
              omega
          have := hall (7 - i)
          rw [show i + 1 + (7 - i) = 8 by omega] at this
          rw [this] at hQ
          exact hQ
        · exact brF c2 (stay (fun c => c2 c.2))
  exact ⟨9, key 8 0 rfl rfl⟩
theorem g6_goesOn {Q : Mem → Prop} {n na k h : Nat} {E S M : Mem} (hn : n ≤ 8) (hna : na ≤ 8) (hE : okE n E) (hk : k < n) (hp : vp_in (S 1 k) 8) (hR : R6 n na E M) (hr : relOn loc6 (Dn n 8) S M) (hQ : ∀ M', relOn loc6 (Dn n 8) (decS na E k (nI h) S) M' → fr W6r M M' → Q M') : w6_goesOn (nI k) (nI h) M Q := by
  obtain ⟨c0, c1, c2, c3, c4, c5⟩ := s6_c hr hk
  obtain ⟨d0, d1, d2, d3, d4⟩ := s6_g hR hk
  obtain ⟨a1, a2⟩ := vpN hp (by decide)
  obtain ⟨b1, b2⟩ := vpN (hE.2.1 k hk).2.1 (by decide)
  have e1 : (5 : Int32) * nI k + 1 = nI (5 * k + 1) := i5 k 1
  have e4 : (5 : Int32) * nI k + 4 = nI (5 * k + 4) := i5 k 4
  unfold w6_goesOn w6_goesOn_b191
  rw [e1, e4, ci_nI (by omega), ci_nI (by omega), ci_nI (by omega)]
  refine ⟨vp_in_nI (by omega) (by decide), vp_in_nI (by omega) (by decide), ?_⟩
  rw [d1, c1]
  rintro x3 rfl
  unfold decS at hQ
  by_cases q1 : S 1 k = E 1 k
  · rw [if_pos q1] at hQ
    exact brT q1 (g6_stays (h := h) hk hn hr hQ)
  rw [if_neg q1] at hQ
  refine brF q1 (g6_isTold hn hna hk (hE.2.1 k hk).2.2 hp hR hr ?_)
  cases hb : told na E S k (nI h) with
  | true =>
    rw [hb, if_pos rfl] at hQ
    exact brF (by decide) (g6_stays (h := h) hk hn hr hQ)
  | false =>
    rw [hb, if_neg (by decide)] at hQ
    refine brT rfl ?_
    have ei : (8 : Int32) * S 1 k + E 1 k = nI (8 * ci (S 1 k) + ci (E 1 k)) := by
      rw [← i8, ← a2, ← b2]
    rw [ei, ci_nI (by omega), (hR.2.2.2.2.2.1 _ (by omega)).2]
    refine ⟨vp_in_nI (by omega) (by decide), ?_⟩
    by_cases q2 : E 7 (8 * ci (S 1 k) + ci (E 1 k)) < 9999
    · rw [if_pos q2] at hQ
      refine brT q2 ?_
      have key := g6_next (n := n) (na := na) (E := E) (M := M) (a := ci (S 1 k)) (b := ci (E 1 k)) (Q := fun r8 M9 => vp_in ((8 * (S 1 k)) + r8) 64 ∧ vp_in (nI (5 * k + 4)) 40 ∧ ∀ x12 : Int32, x12 = ((M9 16 (ci ((8 * (S 1 k)) + r8))) + (M9 11 (5 * k + 4))) → ((x12 ≤ (M9 20 k) → ∀ M13, M13 = mset M9 20 k ((M9 20 k) - x12) → ∀ M14, M14 = mset M13 18 k 1 → ∀ M15, M15 = mset M14 19 k (-1) → ∀ M16, M16 = mset M15 21 k r8 → ∀ M17, M17 = mset M16 22 k (nI h + (M16 16 (ci ((8 * (S 1 k)) + r8)))) → Q M17) ∧ (¬ x12 ≤ (M9 20 k) → w6_stays (nI k) (nI h) 4 M9 (fun M18 => Q M18)))) hR a1 b1 ?_
      · rw [← a2, ← b2] at key
        exact key
      obtain ⟨q, h1, h2, h3, h4⟩ := nx_in hE a1 b1 (fun e => q1 (by rw [a2, b2, e])) q2
      rw [h3] at hQ ⊢
      have ej : (8 : Int32) * S 1 k + nI q = nI (8 * ci (S 1 k) + q) := by
        rw [← i8, ← a2]
      rw [ej, ci_nI (by omega), (hR.2.2.2.2.2.1 _ (by omega)).1, d4, c2]
      refine ⟨vp_in_nI (by omega) (by decide), vp_in_nI (by omega) (by decide), ?_⟩
      rintro x12 rfl
      simp only [ci_nI (show q < 2 ^ 31 by omega)] at hQ
      by_cases q3 : E 6 (8 * ci (S 1 k) + q) + E 4 k ≤ S 2 k
      · rw [if_pos q3] at hQ
        refine brT q3 ?_
        rintro M13 rfl M14 rfl M15 rfl M16 rfl M17 rfl
        have e16 : ∀ x y z w : Int32, mset (mset (mset (mset M 20 k x) 18 k y) 19 k z) 21 k w 16 (8 * ci (S 1 k) + q) = E 6 (8 * ci (S 1 k) + q) := by
          intro x y z w
          rw [mset_ot _ _ (Or.inl (by decide)), mset_ot _ _ (Or.inl (by decide)), mset_ot _ _ (Or.inl (by decide)), mset_ot _ _ (Or.inl (by decide))]
          exact (hR.2.2.2.2.2.1 _ (by omega)).1
        rw [e16]
        refine hQ _ (((((hr.set (loc6_I _ _) (c := 2) (i := k) ?_ _).set (loc6_I _ _) (c := 0) (i := k) ?_ 1).set (loc6_I _ _) (c := 1) (i := k) ?_ (-1)).set (loc6_I _ _) (c := 3) (i := k) ?_ _).set (loc6_I _ _) (c := 4) (i := k) ?_ _) ((((((fr.refl _ _).set _ ?_).set _ ?_).set _ ?_).set _ ?_).set _ ?_)
        · unfold Dn; omega
        · unfold Dn; omega
        · unfold Dn; omega
        · unfold Dn; omega
        · unfold Dn; omega
        · unfold W6r; omega
        · unfold W6r; omega
        · unfold W6r; omega
        · unfold W6r; omega
        · unfold W6r; omega
      · rw [if_neg q3] at hQ
        exact brF q3 (g6_stays (h := h) hk hn hr hQ)
    · rw [if_neg q2] at hQ
      exact brF q2 (g6_stays (h := h) hk hn hr hQ)
