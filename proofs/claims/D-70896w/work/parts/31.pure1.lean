/-! the abstract run keeps its bounds -/
theorem zero1_ot (j : Nat) (S : Mem) {c : Nat} (h : c ≠ 6) (i : Nat) : zero1 j S c i = S c i := mset_ot S 0 (Or.inl h)
theorem met1_ot (h : Int32) (j : Nat) (S : Mem) {c : Nat} (hc : c ≠ 8) (i : Nat) : met1 h j S c i = S c i := by
  unfold met1
  split
  · rw [mset_ot _ _ (Or.inl hc), mset_ot _ _ (Or.inl hc)]
  · rfl
theorem gath1_ot (h : Int32) (k : Nat) (S : Mem) {c : Nat} (h1 : c ≠ 1) (h6 : c ≠ 6) (h7 : c ≠ 7) (i : Nat) : gath1 h k S c i = S c i := by
  unfold gath1 gath2
  split <;> split <;> simp [mset_at, h1, h6, h7]
theorem gath1_1 (h : Int32) (k : Nat) (S : Mem) (i : Nat) : gath1 h k S 1 i = if i = k ∧ S 0 k < 2 ∧ S 4 k = h then S 3 k else S 1 i := by
  unfold gath1 gath2
  by_cases a : S 0 k < 2 ∧ S 4 k = h
  · simp only [a, if_true, and_self, and_true]
    split <;> simp [mset_at]
  · simp only [a, if_false, and_false]
    split <;> simp [mset_at]
theorem iter_ot {f : Nat → Mem → Mem} {c : Nat} (hf : ∀ j S i, f j S c i = S c i) (n : Nat) (S : Mem) (i : Nat) : iter f n S c i = S c i := by
  induction n with
  | zero => rfl
  | succ n ih => rw [iter_succ, hf, ih]
def okG (n h i : Nat) (S : Mem) : Prop := ∀ k, k < n → (S 0 k < 2 → vp_in (S 3 k) 8) ∧ (¬ S 0 k < 2 → (S 4 k).toInt < h) ∧ (S 1 k = -1 ∨ vp_in (S 1 k) 8) ∧ (k < i → S 0 k < 2 → S 4 k = nI h → vp_in (S 1 k) 8)
theorem okG_step {n h i : Nat} {S : Mem} (hG : okG n h i S) : okG n h (i + 1) (gath1 (nI h) i S) := by
  intro k hk
  obtain ⟨g1, g2, g3, g4⟩ := hG k hk
  rw [gath1_ot _ _ _ (by decide) (by decide) (by decide), gath1_ot _ _ _ (by decide) (by decide) (by decide), gath1_ot _ _ _ (by decide) (by decide) (by decide), gath1_1]
  refine ⟨g1, g2, ?_, ?_⟩
  · split
    · rename_i e
      obtain ⟨rfl, e1, -⟩ := e
      exact Or.inr (g1 e1)
    · exact g3
  · intro hki h0 h4
    split
    · rename_i e
      obtain ⟨rfl, e1, -⟩ := e
      exact g1 e1
    · rename_i e
      refine g4 ?_ h0 h4
      rcases Nat.lt_or_eq_of_le (Nat.le_of_lt_succ hki) with q | q
      · exact q
      · subst q
        exact absurd ⟨rfl, h0, h4⟩ e
theorem okG_same {n h i : Nat} {S S' : Mem} (hG : okG n h i S) (e : ∀ c k, c < 6 → S' c k = S c k) : okG n h i S' := by
  intro k hk
  rw [e 0 k (by decide), e 1 k (by decide), e 3 k (by decide), e 4 k (by decide)]
  exact hG k hk
theorem okG_0 {n h : Nat} {S : Mem} (hS : okS n h S) : okG n h 0 S := fun k hk => ⟨(hS k hk).1, (hS k hk).2.1, (hS k hk).2.2, fun h => absurd h (Nat.not_lt_zero k)⟩
theorem okG_iter {n h : Nat} {S : Mem} (hG : okG n h 0 S) : ∀ i, okG n h i (iter (gath1 (nI h)) i S)
  | 0 => hG
  | i + 1 => okG_step (okG_iter hG i)
theorem okG_gath {n h : Nat} {S : Mem} (hS : okS n h S) : okG n h n (gathS n (nI h) S) := by
  unfold gathS
  refine okG_same (okG_iter (okG_same (okG_0 hS) (S' := iter zero1 8 S) ?_) n) ?_
  · exact fun c k hc => iter_ot (fun j S i => zero1_ot j S (by omega) i) _ _ _
  · exact fun c k hc => iter_ot (fun j S i => met1_ot _ j S (by omega) i) _ _ _
/-! the next place -/
theorem nx_or (E : Mem) (p g : Nat) : ∀ j, j ≤ 8 → (nx E p g j = -1 ∧ ∀ q, q < j → ¬ (E 6 (8 * p + q) < 9999 ∧ E 6 (8 * p + q) + E 7 (8 * q + g) = E 7 (8 * p + g))) ∨ ∃ q, q < j ∧ nx E p g j = nI q ∧ E 6 (8 * p + q) < 9999 ∧ E 6 (8 * p + q) + E 7 (8 * q + g) = E 7 (8 * p + g)
  | 0, _ => Or.inl ⟨rfl, fun q h => absurd h (Nat.not_lt_zero q)⟩
  | j + 1, hj => by
    rcases nx_or E p g j (by omega) with ⟨h1, h2⟩ | ⟨q, h1, h2, h3, h4⟩
    · unfold nx
      rw [if_pos h1]
      by_cases e : E 6 (8 * p + j) < 9999 ∧ E 6 (8 * p + j) + E 7 (8 * j + g) = E 7 (8 * p + g)
      · rw [if_pos e]
        exact Or.inr ⟨j, Nat.lt_succ_self j, rfl, e⟩
      · rw [if_neg e]
        refine Or.inl ⟨rfl, fun q hq => ?_⟩
        rcases Nat.lt_or_eq_of_le (Nat.le_of_lt_succ hq) with a | a
        · exact h2 q a
        · subst a
          exact e
    · refine Or.inr ⟨q, Nat.lt_succ_of_lt h1, ?_, h3, h4⟩
      unfold nx
      rw [h2, if_neg ?_]
      intro e
      have e2 := congrArg Int32.toInt e
      rw [nI_toInt (by omega)] at e2
      have e3 : (-1 : Int32).toInt = -1 := by decide
      omega
theorem nx_in {n : Nat} {E : Mem} (hE : okE n E) {a b : Nat} (ha : a < 8) (hb : b < 8) (hab : a ≠ b) (hF : E 7 (8 * a + b) < 9999) : ∃ q, q < 8 ∧ q ≠ a ∧ nx E a b 8 = nI q ∧ E 6 (8 * a + q) < 9999 := by
  rcases nx_or E a b 8 (Nat.le_refl 8) with ⟨-, h2⟩ | ⟨q, h1, h2, h3, h4⟩
  · obtain ⟨q, h3, h4, h5⟩ := hE.2.2.2.2 a b ha hb hab hF
    exact absurd ⟨h4, h5⟩ (h2 q h3)
  · refine ⟨q, h1, ?_, h2, h3⟩
    rintro rfl
    rw [hE.2.2.2.1 q ha] at h3
    exact absurd h3 (by decide)
/-! deciding -/
theorem decS_ot (na : Nat) (E : Mem) (k : Nat) (h : Int32) (S : Mem) {c i : Nat} (e : i ≠ k ∨ 6 ≤ c) : decS na E k h S c i = S c i := by
  unfold decS endS setS
  simp only
  repeat' split
  all_goals (simp only [mset_at]; repeat' rw [if_neg (by omega)])
theorem dec1_ot (na : Nat) (E : Mem) (h : Int32) (k : Nat) (S : Mem) {c i : Nat} (e : i ≠ k ∨ 6 ≤ c) : dec1 na E h k S c i = S c i := by
  unfold dec1
  split
  · exact decS_ot na E k h S e
  · rfl
def okD (n h i : Nat) (S : Mem) : Prop := ∀ k, k < n → (S 0 k < 2 → vp_in (S 3 k) 8) ∧ (¬ S 0 k < 2 → (S 4 k).toInt < (if k < i then h + 1 else h : Nat)) ∧ (S 1 k = -1 ∨ vp_in (S 1 k) 8) ∧ (i ≤ k → S 0 k < 2 → S 4 k = nI h → vp_in (S 1 k) 8)
theorem okD_0 {n h : Nat} {S : Mem} (hG : okG n h n S) : okD n h 0 S := by
  intro k hk
  obtain ⟨g1, g2, g3, g4⟩ := hG k hk
  rw [if_neg (Nat.not_lt_zero k)]
  exact ⟨g1, g2, g3, fun _ => g4 hk⟩
theorem okD_n {n h : Nat} {S : Mem} (hD : okD n h n S) : okS n (h + 1) S := by
  intro k hk
  obtain ⟨g1, g2, g3, g4⟩ := hD k hk
  rw [if_pos hk] at g2
  exact ⟨g1, g2, g3⟩
theorem decS_own {n na h i : Nat} {E S : Mem} (hE : okE n E) (hi : i < n) (h40 : h < 40) (h3 : vp_in (S 1 i) 8) (h4 : S 4 i = nI h) :
    (decS na E i (nI h) S 0 i < 2 → vp_in (decS na E i (nI h) S 3 i) 8) ∧ (¬ decS na E i (nI h) S 0 i < 2 → (decS na E i (nI h) S 4 i).toInt < (h + 1 : Nat)) ∧ (decS na E i (nI h) S 1 i = -1 ∨ vp_in (decS na E i (nI h) S 1 i) 8) := by
  have hh : (nI h).toInt < ((h + 1 : Nat) : Int) := by rw [nI_toInt (by omega)]; omega
  have e2 : ∀ v : Int32, (v = 2 ∨ v = 3 ∨ v = 4 ∨ v = 5) → ¬ v < 2 := by
    rintro v (rfl | rfl | rfl | rfl) <;> decide
  have en : ∀ v : Int32, (v = 2 ∨ v = 3 ∨ v = 4 ∨ v = 5) → (endS S i v (nI h) 0 i < 2 → vp_in (endS S i v (nI h) 3 i) 8) ∧ (¬ endS S i v (nI h) 0 i < 2 → (endS S i v (nI h) 4 i).toInt < (h + 1 : Nat)) ∧ (endS S i v (nI h) 1 i = -1 ∨ vp_in (endS S i v (nI h) 1 i) 8) := by
    intro v hv
    have q0 : endS S i v (nI h) 0 i = v := by simp [endS, mset_at]
    have q1 : endS S i v (nI h) 1 i = S 1 i := by simp [endS, mset_at]
    have q4 : endS S i v (nI h) 4 i = S 4 i := by simp [endS, mset_at]
    rw [q0, q1, q4, h4]
    exact ⟨fun a => absurd a (e2 v hv), fun _ => hh, Or.inr h3⟩
  unfold decS
  split
  · exact en 2 (by simp)
  split
  · exact en 3 (by simp)
  split
  · rename_i hne _ hF
    obtain ⟨a1, a2⟩ := vpN h3 (by decide)
    obtain ⟨b1, b2⟩ := vpN (hE.2.1 i hi).2.1 (by decide)
    obtain ⟨q, q1, q2, q3, q4⟩ := nx_in hE a1 b1 (fun e => hne (by rw [a2, b2, e])) hF
    simp only
    split
    · have w0 : ∀ t, setS S i (nx E (ci (S 1 i)) (ci (E 1 i)) 8) t (E 4 i) (nI h) 0 i = 1 := fun t => by simp [setS, mset_at]
      have w1 : ∀ t, setS S i (nx E (ci (S 1 i)) (ci (E 1 i)) 8) t (E 4 i) (nI h) 1 i = -1 := fun t => by simp [setS, mset_at]
      have w3 : ∀ t, setS S i (nx E (ci (S 1 i)) (ci (E 1 i)) 8) t (E 4 i) (nI h) 3 i = nx E (ci (S 1 i)) (ci (E 1 i)) 8 := fun t => by simp [setS, mset_at]
      rw [w0, w1, w3, q3]
      exact ⟨fun _ => vp_in_nI q1 (by decide), fun a => absurd (by decide) a, Or.inl rfl⟩
    · exact en 4 (by simp)
  · exact en 5 (by simp)
theorem okD_step {n na h i : Nat} {E S : Mem} (hE : okE n E) (hi : i < n) (h40 : h < 40) (hD : okD n h i S) : okD n h (i + 1) (dec1 na E (nI h) i S) := by
  intro k hk
  by_cases e : k = i
  · subst e
    obtain ⟨g1, g2, g3, g4⟩ := hD k hk
    unfold dec1
    split
    · rename_i a
      obtain ⟨o1, o2, o3⟩ := decS_own (na := na) hE hi h40 (g4 (Nat.le_refl k) a.1 a.2) a.2
      rw [if_pos (Nat.lt_succ_self k)]
      exact ⟨o1, o2, o3, fun a => absurd a (by omega)⟩
    · rw [if_pos (Nat.lt_succ_self k)]
      rw [if_neg (Nat.lt_irrefl k)] at g2
      exact ⟨g1, fun a => by have := g2 a; omega, g3, fun a => absurd a (by omega)⟩
  · rw [dec1_ot _ _ _ _ _ (Or.inl e), dec1_ot _ _ _ _ _ (Or.inl e), dec1_ot _ _ _ _ _ (Or.inl e), dec1_ot _ _ _ _ _ (Or.inl e)]
    obtain ⟨g1, g2, g3, g4⟩ := hD k hk
    refine ⟨g1, ?_, g3, fun a => g4 (by omega)⟩
    intro a
    have := g2 a
    by_cases c : k < i
    · rw [if_pos c] at this
      rw [if_pos (by omega)]
      exact this
    · rw [if_neg c] at this
      rw [if_neg (by omega)]
      exact this
theorem okD_iter {n na h : Nat} {E S : Mem} (hE : okE n E) (h40 : h < 40) (hD : okD n h 0 S) : ∀ i, i ≤ n → okD n h i (iter (dec1 na E (nI h)) i S)
  | 0, _ => hD
  | i + 1, hi => okD_step hE hi h40 (okD_iter hE h40 hD i (by omega))
theorem okS_hour {n na h : Nat} {E S : Mem} (hE : okE n E) (h40 : h < 40) (hS : okS n h S) : okS n (h + 1) (hourS n na E h S) := okD_n (okD_iter hE h40 (okD_0 (okG_gath hS)) n (Nat.le_refl n))
theorem okS_begin {n : Nat} {E : Mem} (hE : okE n E) : okS n 0 (beginS E) := by
  intro k hk
  have e0 : beginS E 0 k = 0 := rfl
  have e1 : beginS E 1 k = -1 := rfl
  have e3 : beginS E 3 k = E 0 k := rfl
  rw [e0, e1, e3]
  exact ⟨fun _ => (hE.2.1 k hk).1, fun a => absurd (by decide) a, Or.inl rfl⟩
theorem okS_run {n na : Nat} {E : Mem} (hE : okE n E) : ∀ h, h ≤ 40 → okS n h (runS n na E h)
  | 0, _ => okS_begin hE
  | h + 1, hh => okS_hour hE hh (okS_run hE h (by omega))
