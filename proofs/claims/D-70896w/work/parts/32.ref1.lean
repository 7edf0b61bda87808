/-! the reference runs as the abstract run -/
def R6 (n na : Nat) (E M : Mem) : Prop := M 0 9 = nI n ∧ M 0 12 = nI na ∧ M 0 14 = E 10 0 ∧ (∀ k, k < n → ∀ j, j < 5 → M 11 (5 * k + j) = E j k) ∧ (∀ k, k < n → M 12 k = E 5 k) ∧ (∀ a, a < 64 → M 16 a = E 6 a ∧ M 17 a = E 7 a) ∧ ∀ k, k < na → M 14 (2 * k) = E 8 k ∧ M 14 (2 * k + 1) = E 9 k
theorem R6.fr {n na : Nat} {E M M' : Mem} (h : R6 n na E M) (hf : fr W6 M M') : R6 n na E M' := by
  obtain ⟨h1, h2, h3, h4, h5, h6, h7⟩ := h
  refine ⟨?_, ?_, ?_, fun k hk j hj => ?_, fun k hk => ?_, fun a ha => ⟨?_, ?_⟩, fun k hk => ⟨?_, ?_⟩⟩
  · rw [hf _ _ (by unfold W6; omega)]; exact h1
  · rw [hf _ _ (by unfold W6; omega)]; exact h2
  · rw [hf _ _ (by unfold W6; omega)]; exact h3
  · rw [hf _ _ (by unfold W6; omega)]; exact h4 k hk j hj
  · rw [hf _ _ (by unfold W6; omega)]; exact h5 k hk
  · rw [hf _ _ (by unfold W6; omega)]; exact (h6 a ha).1
  · rw [hf _ _ (by unfold W6; omega)]; exact (h6 a ha).2
  · rw [hf _ _ (by unfold W6; omega)]; exact (h7 k hk).1
  · rw [hf _ _ (by unfold W6; omega)]; exact (h7 k hk).2
theorem s6_c {n m : Nat} {S M : Mem} (hr : relOn loc6 (Dn n m) S M) {i : Nat} (hi : i < n) : M 18 i = S 0 i ∧ M 19 i = S 1 i ∧ M 20 i = S 2 i ∧ M 21 i = S 3 i ∧ M 22 i = S 4 i ∧ M 23 i = S 5 i :=
  ⟨hr 0 i (by unfold Dn; omega), hr 1 i (by unfold Dn; omega), hr 2 i (by unfold Dn; omega), hr 3 i (by unfold Dn; omega), hr 4 i (by unfold Dn; omega), hr 5 i (by unfold Dn; omega)⟩
theorem s6_p {n m : Nat} {S M : Mem} (hr : relOn loc6 (Dn n m) S M) {i : Nat} (hi : i < m) : M 25 i = S 6 i := hr 6 i (by unfold Dn; omega)
theorem s6_a {n m : Nat} {S M : Mem} (hr : relOn loc6 (Dn n m) S M) {i : Nat} (hi : i < 8) : M 26 i = S 7 i := hr 7 i (by unfold Dn; omega)
theorem s6_m {n m : Nat} {S M : Mem} (hr : relOn loc6 (Dn n m) S M) : M 0 26 = S 8 0 ∧ M 0 27 = S 8 1 := ⟨hr 8 0 (by unfold Dn; omega), hr 8 1 (by unfold Dn; omega)⟩
theorem g6_z {Q : Mem → Prop} {h : Int32} {n : Nat} {S M0 : Mem} (hQ : ∀ M', relOn loc6 (Dn n 8) (iter zero1 8 S) M' → fr W6r M0 M' → ∃ f, w6_gathers_b23 Q f h 0 M') : ∀ (j i : Nat) (M : Mem), i + j = 8 → relOn loc6 (Dn n i) (iter zero1 i S) M → fr W6r M0 M → w6_gathers_b2 Q (j + 1) h (nI i) M
  | 0, i, M, hi, hr, hf => by
    obtain rfl : i = 8 := by omega
    exact ⟨fun _ => hQ M hr hf, fun c => absurd (by decide) c⟩
  | j + 1, i, M, hi, hr, hf => by
    refine brF (nI_ge (b := 8) (by omega) (by decide)) ⟨vp_in_nI (by omega) (by decide), ?_⟩
    rintro M12 rfl
    rw [nI_1, ci_nI (by omega)]
    exact g6_z hQ j (i + 1) _ (by omega) (relOn.put hr (loc6_I _ _) (by unfold Dn; omega) (by unfold Dn; omega) 0) (hf.set 0 (by unfold W6r; omega))
theorem g6_68 {Q : Mem → Prop} {K : Int32 → Int32 → Mem → Prop} {h : Int32} {i n : Nat} {S M : Mem} (hn : n ≤ 8) (hi : i < n) (hr : relOn loc6 (Dn n 8) S M) (hp : S 1 i = -1 ∨ vp_in (S 1 i) 8)
    (hK : ∀ M', relOn loc6 (Dn n 8) (gath2 i S) M' → fr W6r M M' → K h (nI (i + 1)) M') : w6_gathers_b68 Q K h (nI i) M := by
  unfold gath2 at hK
  refine ⟨vp_in_nI (by omega) (by decide), ?_⟩
  rw [ci_nI (by omega), (s6_c hr hi).2.1]
  by_cases e : S 1 i = -1
  · refine brT e ?_
    rw [if_pos e] at hK
    unfold w6_gathers_b93
    rw [nI_1]
    exact hK M hr (fr.refl _ _)
  · rw [if_neg e] at hK
    have hv := hp.resolve_left e
    refine brF e ⟨hv, ?_⟩
    rintro M6 rfl
    unfold w6_gathers_b93
    have hc := (vpN hv (by decide)).1
    rw [nI_1, s6_p hr hc]
    exact hK _ (hr.set (loc6_I _ _) (by unfold Dn; omega) _) ((fr.refl _ _).set _ (by unfold W6r; omega))
theorem g6_g {Q : Mem → Prop} {h n : Nat} {S M0 : Mem} (hn : n ≤ 8) (h40 : h < 40) (h9 : M0 0 9 = nI n) (hG : okG n h 0 S) (hQ : ∀ M', relOn loc6 (Dn n 8) (iter (gath1 (nI h)) n S) M' → fr W6r M0 M' → ∃ f, w6_gathers_b102 Q f (nI h) 7 M') : ∀ (j i : Nat) (M : Mem), i + j = n → relOn loc6 (Dn n 8) (iter (gath1 (nI h)) i S) M → fr W6r M0 M → w6_gathers_b23 Q (j + 1) (nI h) (nI i) M
  | 0, i, M, hi, hr, hf => by
    obtain rfl : i = n := by omega
    have e9 : M 0 9 = nI i := by rw [hf _ _ (by unfold W6r; omega)]; exact h9
    refine brT ?_ (hQ M hr hf)
    rw [e9]
    exact nI_le (Nat.le_refl _) (by omega)
  | j + 1, i, M, hi, hr, hf => by
    have e9 : M 0 9 = nI n := by rw [hf _ _ (by unfold W6r; omega)]; exact h9
    have hin : i < n := by omega
    refine brF ?_ ⟨vp_in_nI (by omega) (by decide), ?_⟩
    · rw [e9]
      exact nI_ge (by omega) (by omega)
    have hGi := okG_iter hG i
    obtain ⟨g1, g2, g3, -⟩ := hGi i hin
    have hnext : ∀ M', relOn loc6 (Dn n 8) (gath1 (nI h) i (iter (gath1 (nI h)) i S)) M' → fr W6r M M' → w6_gathers_b23 Q (j + 1) (nI h) (nI (i + 1)) M' := fun M' a b => g6_g hn h40 h9 hG hQ j (i + 1) M' (by omega) a (hf.trans b)
    revert hnext g1 g2 g3 hr
    generalize iter (gath1 (nI h)) i S = T
    intro hr g1 g2 g3 hnext
    rw [ci_nI (by omega), (s6_c hr hin).2.2.2.2.1]
    by_cases b : T 4 i = nI h
    · have b2 : T 0 i < 2 := by
        refine Decidable.byContradiction fun c => ?_
        have := g2 c
        rw [b, nI_toInt (by omega)] at this
        omega
      rw [gath1_yes ⟨b2, b⟩] at hnext
      refine brT b ?_
      rintro M8 rfl
      have hv := g1 b2
      have hc := (vpN hv (by decide)).1
      have hr1 := hr.set (loc6_I _ _) (c := 1) (i := i) (by unfold Dn; omega) (T 3 i)
      have e1 : mset M 19 i (M 21 i) 19 i = T 3 i := by rw [mset_eq, (s6_c hr hin).2.2.2.1]
      rw [e1]
      refine ⟨hv, ?_⟩
      rintro M10 rfl
      rw [(s6_c hr hin).2.2.2.1]
      have e7 : mset M 19 i (T 3 i) 26 (ci (T 3 i)) = T 7 (ci (T 3 i)) := by rw [mset_ot _ _ (Or.inl (by decide))]; exact s6_a hr hc
      rw [e7]
      have hr2 := hr1.set (loc6_I _ _) (c := 7) (i := ci (T 3 i)) (by unfold Dn; omega) (T 7 (ci (T 3 i)) + 1)
      refine g6_68 hn hin hr2 ?_ (fun M' a f => hnext M' a ?_)
      · right
        simpa [mset_at] using hv
      · exact ((((fr.refl _ _).set _ (by unfold W6r; omega)).set _ (by unfold W6r; omega)).trans f)
    · rw [gath1_no (fun c => b c.2)] at hnext
      exact brF b (g6_68 hn hin hr g3 hnext)
theorem g6_m {Q : Mem → Prop} {h : Int32} {n : Nat} {S M0 : Mem} (hQ : ∀ M', relOn loc6 (Dn n 8) (iter (met1 h) 8 S) M' → fr W6r M0 M' → Q M') : ∀ (j i : Nat) (M : Mem), i + j = 8 → relOn loc6 (Dn n 8) (iter (met1 h) i S) M → fr W6r M0 M → w6_gathers_b102 Q (j + 1) h (7 - nI i) M
  | 0, i, M, hi, hr, hf => by
    obtain rfl : i = 8 := by omega
    exact brT (by decide) (hQ M hr hf)
  | j + 1, i, M, hi, hr, hf => by
    have e7 : (7 : Int32) - nI i = nI (7 - i) := pk_sub (a := 7) (by omega)
    have e8 : nI (7 - i) + (-1) = 7 - nI (i + 1) := by
      have : i = 0 ∨ i = 1 ∨ i = 2 ∨ i = 3 ∨ i = 4 ∨ i = 5 ∨ i = 6 ∨ i = 7 := by omega
      rcases this with rfl | rfl | rfl | rfl | rfl | rfl | rfl | rfl <;> decide
    have hnext : ∀ M', relOn loc6 (Dn n 8) (met1 h i (iter (met1 h) i S)) M' → fr W6r M M' → w6_gathers_b102 Q (j + 1) h (nI (7 - i) + (-1)) M' := fun M' a b => by
      rw [e8]
      exact g6_m hQ j (i + 1) M' (by omega) a (hf.trans b)
    rw [e7]
    revert hnext hr
    generalize iter (met1 h) i S = T
    intro hr hnext
    refine brF (nI_pos (by omega)) ⟨vp_in_nI (by omega) (by decide), ?_⟩
    rw [ci_nI (by omega), s6_p hr (by omega), (s6_m hr).1]
    have hno : met1 h i T = T → w6_gathers_b136 Q (w6_gathers_b102 Q (j + 1)) h (nI (7 - i)) M := by
      intro e
      rw [e] at hnext
      refine brT rfl ?_
      rintro M2 rfl
      refine brT rfl ?_
      rintro M1 rfl
      refine hnext _ ?_ (((fr.refl _ _).set _ (by unfold W6r; omega)).set _ (by unfold W6r; omega))
      have a1 := hr.set (loc6_I _ _) (c := 8) (i := 0) (by unfold Dn; omega) (T 8 0)
      have a2 := a1.set (loc6_I _ _) (c := 8) (i := 1) (by unfold Dn; omega) (T 8 1)
      have e1 : mset (mset T 8 0 (T 8 0)) 8 1 (T 8 1) = T := by
        funext c x
        rw [mset_at, mset_at]
        split
        · rename_i q; rw [q.1, q.2]
        split
        · rename_i q; rw [q.1, q.2]
        rfl
      rw [e1] at a2
      rw [(s6_m hr).1]
      have e2 : mset M 0 26 (T 8 0) 0 27 = T 8 1 := by rw [mset_ot _ _ (Or.inr (by decide))]; exact (s6_m hr).2
      rw [e2]
      exact a2
    have hyes : met1 h i T = mset (mset T 8 0 h) 8 1 (nI (7 - i)) → w6_gathers_b132 Q (w6_gathers_b102 Q (j + 1)) h (nI (7 - i)) M := by
      intro e
      rw [e] at hnext
      refine brF (by decide) ?_
      rintro M2 rfl
      refine brF (by decide) ?_
      rintro M1 rfl
      exact hnext _ ((hr.set (loc6_I _ _) (c := 8) (i := 0) (by unfold Dn; omega) h).set (loc6_I _ _) (c := 8) (i := 1) (by unfold Dn; omega) (nI (7 - i))) (((fr.refl _ _).set _ (by unfold W6r; omega)).set _ (by unfold W6r; omega))
    unfold met1 at hno hyes
    by_cases a : T 6 (7 - i) ≤ 1
    · exact brT a (hno (if_neg (fun c => c.1 a)))
    · refine brF a ?_
      by_cases b : T 8 0 = -1
      · exact brT b (hyes (if_pos ⟨a, Or.inl b⟩))
      · refine brF b ?_
        by_cases c : T 8 0 = h
        · exact brT c (hyes (if_pos ⟨a, Or.inr c⟩))
        · exact brF c (hno (if_neg (fun d => d.2.elim b c)))
theorem g6_gathers {Q : Mem → Prop} {h n : Nat} {S M : Mem} (hn : n ≤ 8) (h40 : h < 40) (h9 : M 0 9 = nI n) (hS : okS n h S) (hr : relOn loc6 (Dn n 0) S M) (hQ : ∀ M', relOn loc6 (Dn n 8) (gathS n (nI h) S) M' → fr W6r M M' → Q M') : w6_gathers (nI h) M Q := by
  refine ⟨9, g6_z (n := n) (S := S) (M0 := M) (fun M1 r1 f1 => ?_) 8 0 M rfl hr (fr.refl _ _)⟩
  refine ⟨n + 1, g6_g (n := n) (S := iter zero1 8 S) (M0 := M) hn h40 h9 ?_ (fun M2 r2 f2 => ?_) n 0 M1 (by omega) r1 f1⟩
  · exact okG_same (okG_0 hS) (fun c k hc => iter_ot (fun j S i => zero1_ot j S (by omega) i) _ _ _)
  · exact ⟨9, g6_m (n := n) (S := iter (gath1 (nI h)) n (iter zero1 8 S)) (M0 := M) hQ 8 0 M2 rfl r2 f2⟩
