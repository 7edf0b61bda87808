/-! the system decides as the abstract run -/
theorem g0_ends {Q : Mem → Prop} {k n : Nat} {v : Int32} {hv : Int32} {S M : Mem} (hk : k < n) (hn : n ≤ 8) (hr : relOn loc0 (Dn n 8) S M) (hQ : ∀ M', relOn loc0 (Dn n 8) (endS S k v hv) M' → fr W0r M M' → Q M') : w5_ends (30 + k) v hv M Q := by
  rintro M2 rfl M3 rfl M4 rfl
  refine hQ _ (((hr.set (loc0_I _ _ hn) (c := 0) (i := k) ?_ v).set (loc0_I _ _ hn) (c := 5) (i := k) ?_ hv).set (loc0_I _ _ hn) (c := 3) (i := k) ?_ (-1)) ((((fr.refl _ _).set _ ?_).set _ ?_).set _ ?_)
  · unfold Dn; omega
  · unfold Dn; omega
  · unfold Dn; omega
  · unfold W0r; omega
  · unfold W0r; omega
  · unfold W0r; omega
theorem g0_has {Q : Int32 → Prop} {g : Int32} {k : Nat} (h1 : has1 g k = true → Q 1) (h0 : has1 g k = false → Q 0) : w0_has g (nI k) Q := by
  unfold has1 at h1 h0
  refine ⟨fun c => ⟨Or.inr rfl, h1 (by simpa using c)⟩, fun c => ⟨Or.inl rfl, h0 (by simpa using c)⟩⟩
theorem g0_isAnswer {Q : Int32 → Mem → Prop} {n na : Nat} {E M : Mem} {h p : Int32} (hna : na ≤ 8) (hR : R0 n na E M) (hQ : Q (b01 (an E h p na)) M) : w0_isAnswer h p M Q := by
  have key : ∀ (j i : Nat), i + j = na → w0_isAnswer_b5 (fun r M1 => isB r ∧ Q r M1) (j + 1) h p (b01 (an E h p i)) (nI i) M := by
    intro j
    induction j with
    | zero =>
      intro i hi
      obtain rfl : i = na := by omega
      refine brT ?_ ⟨b01_B _, hQ⟩
      rw [hR.2.1]
      exact nI_le (Nat.le_refl _) (by omega)
    | succ j ih =>
      intro i hi
      have hn1 := ih (i + 1) (by omega)
      refine brF ?_ ?_
      · rw [hR.2.1]
        exact nI_ge (by omega) (by omega)
      rw [ci_nI (by omega), (hR.2.2.2.2.2 i (by omega)).1, (hR.2.2.2.2.2 i (by omega)).2, hR.2.2.1]
      unfold w0_isAnswer_b56 w0_isAnswer_b52 w0_isAnswer_b57
      rw [nI_1]
      unfold an at hn1
      cases hb : an E h p i with
      | true =>
        rw [hb] at hn1
        exact brF (by decide) (by simpa [b01] using hn1)
      | false =>
        rw [hb] at hn1
        refine brT rfl ⟨vp_in_nI (by omega) (by decide), ?_⟩
        by_cases c1 : E 8 i = h
        · refine brT c1 ?_
          by_cases c2 : E 9 i = p
          · refine brT c2 (g0_has (fun q => brF (by decide) ?_) (fun q => brT rfl ?_))
            · rw [q] at hn1
              simpa [b01] using hn1
            · rw [q] at hn1
              simpa [b01, c1, c2] using hn1
          · refine brF c2 ?_
            simpa [b01, c1, c2] using hn1
        · refine brF c1 ?_
          simpa [b01, c1] using hn1
  exact ⟨na + 1, key na 0 (by omega)⟩
theorem nI_m1 {q : Nat} (h : q < 2 ^ 31) : ¬ nI q = -1 := by
  intro e
  have e2 := congrArg Int32.toInt e
  rw [nI_toInt h] at e2
  have e3 : (-1 : Int32).toInt = -1 := by decide
  omega
theorem i_add {x y : Int32} (hx : 0 ≤ x.toInt ∧ x.toInt ≤ 9999) (hy : 0 ≤ y.toInt ∧ y.toInt ≤ 9999) : (x + y).toInt = x.toInt + y.toInt := by
  rw [Int32.toInt_add, Int.bmod_eq_of_le (by omega) (by omega)]
theorem i_lt {x y : Int32} : x < y ↔ x.toInt < y.toInt := Int32.lt_iff_toInt_lt
theorem lenX_40 {a : Nat} (h : a < 8) : lenX (40 + a) = 8 := by
  have : a = 0 ∨ a = 1 ∨ a = 2 ∨ a = 3 ∨ a = 4 ∨ a = 5 ∨ a = 6 ∨ a = 7 := by omega
  rcases this with rfl | rfl | rfl | rfl | rfl | rfl | rfl | rfl <;> rfl
theorem lenX_50 {a : Nat} (h : a < 8) : lenX (50 + a) = 8 := by
  have : a = 0 ∨ a = 1 ∨ a = 2 ∨ a = 3 ∨ a = 4 ∨ a = 5 ∨ a = 6 ∨ a = 7 := by omega
  rcases this with rfl | rfl | rfl | rfl | rfl | rfl | rfl | rfl <;> rfl
theorem lenX_60 : ∀ a, a < 40 → lenX (60 + a) = 8 := by decide
theorem g0_nextOf {Q : Int32 → Mem → Prop} {n na a b : Nat} {E M : Mem} (hE : okE n E) (hR : R0 n na E M) (ha : a < 8) (hb : b < 8) (hQ : Q (if E 7 (8 * a + b) < 9999 then nx E a b 8 else -1) M) : w0_nextOf (nI a) (nI b) M Q := by
  have hF : ∀ q, q < 8 → M (50 + q) b = E 7 (8 * q + b) := fun q hq => (hR.2.2.2.2.1 q hq b hb).2
  have hT : ∀ q, q < 8 → a ≠ q → M (40 + a) q = E 6 (8 * a + q) := fun q hq h => (hR.2.2.2.2.1 a ha q hq).1 h
  have key : ∀ (j i : Nat), i + j = 8 → nx E a b i = -1 → w0_nextOf_b5 Q (j + 1) (nI a) (nI b) (-1) (nI i) M := by
    intro j
    induction j with
    | zero =>
      intro i hi e
      obtain rfl : i = 8 := by omega
      rw [e] at hQ
      exact brT (by decide) (show Q (-1) M by simpa using hQ)
    | succ j ih =>
      intro i hi e
      refine brF (nI_ge (b := 8) (by omega) (by decide)) (brT rfl ⟨vp_in_nI ha (by decide), ?_⟩)
      rw [ci_nI (by omega), ci_nI (by omega), ci_nI (by omega), lenX_50 ha, lenX_50 (by omega), lenX_40 ha, hF a ha]
      refine ⟨vp_in_nI hb (by decide), ?_⟩
      by_cases c0 : (9999 : Int32) ≤ E 7 (8 * a + b)
      · refine brT c0 ?_
        rw [if_neg (Int32.not_lt.mpr c0)] at hQ
        exact hQ
      · have c0' := Int32.not_le.mp c0
        rw [if_pos c0'] at hQ
        refine brF c0 ?_
        have stay : ¬ (E 6 (8 * a + i) < 9999 ∧ E 6 (8 * a + i) + E 7 (8 * i + b) = E 7 (8 * a + b)) → w0_nextOf_b72 Q (w0_nextOf_b5 Q (j + 1)) (nI a) (nI b) (nI i) M := by
          intro c
          unfold w0_nextOf_b72 w0_nextOf_b73
          rw [nI_1]
          refine ih (i + 1) (by omega) ?_
          unfold nx
          rw [if_pos e, if_neg c]
        by_cases c1 : nI i = nI a
        · refine brT c1 (stay (fun c => ?_))
          obtain rfl := (nI_eq (by omega) (by omega)).mp c1
          rw [hE.2.2.2.1 i ha] at c
          exact absurd c.1 (by decide)
        · refine brF c1 ⟨vp_in_nI (by omega) (by decide), vp_in_nI (by omega) (by decide), vp_in_nI hb (by decide), ?_⟩
          rw [hF i (by omega), hT i (by omega) (fun h => c1 (by rw [h]))]
          by_cases c2 : E 6 (8 * a + i) + E 7 (8 * i + b) = E 7 (8 * a + b)
          · refine brT c2 ?_
            have hlt : E 6 (8 * a + i) < 9999 := by
              obtain ⟨t1, t2, -⟩ := hE.2.2.1 (8 * a + i) (by omega)
              obtain ⟨-, -, t3, t4⟩ := hE.2.2.1 (8 * i + b) (by omega)
              have := congrArg Int32.toInt c2
              rw [i_add ⟨by omega, t2⟩ ⟨t3, t4⟩] at this
              rw [i_lt] at c0' ⊢
              have e9 : (9999 : Int32).toInt = 9999 := by decide
              omega
            have hi1 : nx E a b (i + 1) = nI i := by
              unfold nx
              rw [if_pos e, if_pos ⟨hlt, c2⟩]
            have hall : ∀ d, nx E a b (i + 1 + d) = nI i := by
              intro d
              induction d with
              | zero => exact hi1
              | succ d ihd =>
                rw [show i + 1 + (d + 1) = (i + 1 + d) + 1 by omega]
                unfold nx
                rw [ihd, if_neg (nI_m1 (by omega))]
            have := hall (7 - i)
            rw [show i + 1 + (7 - i) = 8 by omega] at this
            rw [this] at hQ
            unfold w0_nextOf_b73
            rw [nI_1]
            by_cases c8 : i + 1 = 8
            · rw [c8]
              exact brT (by decide) hQ
            · exact brF (nI_ge (b := 8) (by omega) (by decide)) (brF (nI_m1 (by omega)) hQ)
          · exact brF c2 (stay (fun c => c2 c.2))
  exact ⟨9, key 8 0 rfl rfl⟩
theorem g0_setsOut {Q : Mem → Prop} {k n : Nat} {q t d h : Int32} {S M : Mem} (hk : k < n) (hn : n ≤ 8) (hr : relOn loc0 (Dn n 8) S M) (hd : M (30 + k) 4 = d) (hQ : ∀ M', relOn loc0 (Dn n 8) (setS S k q t d h) M' → fr W0r M M' → Q M') : w5_setsOut (30 + k) q t h M Q := by
  unfold w5_setsOut
  rw [hd, (s0_c hr hk).2.2.1]
  rintro M13 rfl M14 rfl M15 rfl M16 rfl M17 rfl
  refine hQ _ (((((hr.set (loc0_I _ _ hn) (c := 2) (i := k) ?_ _).set (loc0_I _ _ hn) (c := 0) (i := k) ?_ 1).set (loc0_I _ _ hn) (c := 1) (i := k) ?_ (-1)).set (loc0_I _ _ hn) (c := 3) (i := k) ?_ _).set (loc0_I _ _ hn) (c := 4) (i := k) ?_ _) ((((((fr.refl _ _).set _ ?_).set _ ?_).set _ ?_).set _ ?_).set _ ?_)
  · unfold Dn; omega
  · unfold Dn; omega
  · unfold Dn; omega
  · unfold Dn; omega
  · unfold Dn; omega
  · unfold W0r; omega
  · unfold W0r; omega
  · unfold W0r; omega
  · unfold W0r; omega
  · unfold W0r; omega
theorem g0_b51 {Q : Mem → Prop} {n na k h : Nat} {E S M : Mem} (hn : n ≤ 8) (hE : okE n E) (hk : k < n) (hp : vp_in (S 1 k) 8) (hR : R0 n na E M) (hr : relOn loc0 (Dn n 8) S M) (hne : ¬ S 1 k = E 1 k) {r z : Int32} (hq : (qans (E 2 k) r z = 0) ↔ told na E S k (nI h) = false) (hQ : ∀ M', relOn loc0 (Dn n 8) (decS na E k (nI h) S) M' → fr W0r M M' → Q M') : w0_decides_b51 Q (30 + k) (nI h) (E 2 k) r z M := by
  obtain ⟨c0, c1, c2, c3, c4, c5⟩ := s0_c hr hk
  obtain ⟨a1, a2⟩ := vpN hp (by decide)
  obtain ⟨b1, b2⟩ := vpN (hE.2.1 k hk).2.1 (by decide)
  have d1 := hR.2.2.2.1 k hk 1 (by decide)
  have d4 := hR.2.2.2.1 k hk 4 (by decide)
  unfold w0_decides_b51 w0_decides_b146
  refine ⟨(hE.2.1 k hk).2.2, ?_⟩
  unfold decS at hQ
  rw [if_neg hne] at hQ
  cases hb : told na E S k (nI h) with
  | true =>
    rw [hb, if_pos rfl] at hQ
    refine brF (fun c => by rw [hb] at hq; exact absurd (hq.mp c) (by decide)) ⟨isCar_i (by omega), g0_ends hk hn hr hQ⟩
  | false =>
    rw [hb, if_neg (by decide)] at hQ
    refine brT (hq.mpr hb) ⟨isCar_i (by omega), ?_⟩
    rw [c1, d1]
    have key := g0_nextOf (n := n) (na := na) (E := E) (M := M) (a := ci (S 1 k)) (b := ci (E 1 k)) (Q := fun r7 M8 => ((r7 = (-1) → w0_decides_b99 Q (30 + k) (nI h) r7 0 M8) ∧ (¬ r7 = (-1) → vp_in (M8 (30 + k) 7) 8 ∧ vp_in r7 (lenX (40 + ci (M8 (30 + k) 7))) ∧ w0_decides_b99 Q (30 + k) (nI h) r7 (M8 (40 + ci (M8 (30 + k) 7)) (ci r7)) M8))) hE hR a1 b1 ?_
    · rw [← a2, ← b2] at key
      exact key
    by_cases q2 : E 7 (8 * ci (S 1 k) + ci (E 1 k)) < 9999
    · rw [if_pos q2] at hQ ⊢
      obtain ⟨q, h1, h2, h3, h4⟩ := nx_in hE a1 b1 (fun e => hne (by rw [a2, b2, e])) q2
      rw [h3] at hQ ⊢
      refine brF (nI_m1 (by omega)) ⟨by rw [c1]; exact hp, ?_⟩
      rw [c1, lenX_40 a1, ci_nI (by omega), (hR.2.2.2.2.1 _ a1 q h1).1 (fun e => h2 e.symm)]
      refine ⟨vp_in_nI h1 (by decide), ?_⟩
      simp only [ci_nI (show q < 2 ^ 31 by omega)] at hQ
      unfold w0_decides_b99
      refine brF (nI_m1 (by omega)) ⟨isCar_i (by omega), ?_⟩
      rw [d4, c2]
      by_cases q3 : E 6 (8 * ci (S 1 k) + q) + E 4 k ≤ S 2 k
      · rw [if_pos q3] at hQ
        exact brT q3 (g0_setsOut hk hn hr d4 hQ)
      · rw [if_neg q3] at hQ
        exact brF q3 (brF (nI_m1 (by omega)) ⟨isCar_i (by omega), g0_ends hk hn hr hQ⟩)
    · rw [if_neg q2] at hQ ⊢
      exact brT rfl (brT rfl (brT rfl ⟨isCar_i (by omega), g0_ends hk hn hr hQ⟩))
theorem g0_decides {Q : Mem → Prop} {n na k h : Nat} {E S M : Mem} (hn : n ≤ 8) (hna : na ≤ 8) (hE : okE n E) (hk : k < n) (hp : vp_in (S 1 k) 8) (hR : R0 n na E M) (hr : relOn loc0 (Dn n 8) S M) (hQ : ∀ M', relOn loc0 (Dn n 8) (decS na E k (nI h) S) M' → fr W0r M M' → Q M') : w0_decides (30 + k) (nI h) M Q := by
  obtain ⟨c0, c1, c2, c3, c4, c5⟩ := s0_c hr hk
  have d1 := hR.2.2.2.1 k hk 1 (by decide)
  have d2 := hR.2.2.2.1 k hk 2 (by decide)
  have hc := (vpN hp (by decide)).1
  unfold w0_decides
  refine ⟨isCar_i (by omega), ?_⟩
  rw [c1, d1, d2]
  by_cases q1 : S 1 k = E 1 k
  · unfold decS at hQ
    rw [if_pos q1] at hQ
    exact brT q1 (g0_ends hk hn hr hQ)
  refine brF q1 ⟨(hE.2.1 k hk).2.2, g0_isAnswer hna hR ?_⟩
  rw [c1, s0_p hr hc]
  refine ⟨hp, ?_⟩
  obtain ⟨q, hq, e⟩ := vp_in_of (hE.2.1 k hk).2.2 (by decide)
  have tld : ∀ z : Int32, (z = 0 ↔ S 6 (ci (S 1 k)) ≤ 1) → ((qans (E 2 k) (b01 (an E (nI h) (S 1 k) na)) z = 0) ↔ told na E S k (nI h) = false) := by
    intro z hz
    unfold told qans
    rw [e]
    have hq3 : q = 0 ∨ q = 1 ∨ q = 2 := by omega
    rcases hq3 with rfl | rfl | rfl
    · rw [if_pos (show nI 0 = 0 from rfl), if_pos (show nI 0 = 0 from rfl)]
      cases an E (nI h) (S 1 k) na <;> simp [b01]
    · rw [if_neg (show ¬ nI 1 = 0 by decide), if_pos (show nI 1 = 1 from rfl), if_neg (show ¬ nI 1 = 0 by decide), if_pos (show nI 1 = 1 from rfl)]
      by_cases z0 : z = 0
      · have := hz.mp z0
        cases an E (nI h) (S 1 k) na <;> simp [b01, z0, this]
      · have : ¬ S 6 (ci (S 1 k)) ≤ 1 := fun c => z0 (hz.mpr c)
        cases an E (nI h) (S 1 k) na <;> simp [b01, z0, this]
    · rw [if_neg (show ¬ nI 2 = 0 by decide), if_neg (show ¬ nI 2 = 1 by decide), if_neg (show ¬ nI 2 = 0 by decide), if_neg (show ¬ nI 2 = 1 by decide)]
      simp
  by_cases z : S 6 (ci (S 1 k)) ≤ 1
  · exact brT z (g0_b51 hn hE hk hp hR hr q1 (tld 0 ⟨fun _ => z, fun _ => rfl⟩) hQ)
  · exact brF z (g0_b51 hn hE hk hp hR hr q1 (tld 1 ⟨fun c => absurd c (by decide), fun c => absurd c z⟩) hQ)
