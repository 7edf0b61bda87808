/-! the system runs as the abstract run -/
def R0 (n na : Nat) (E M : Mem) : Prop := M 0 9 = nI n ∧ M 0 12 = nI na ∧ M 0 17 = E 10 0 ∧ (∀ k, k < n → ∀ j, j < 6 → M (30 + k) j = E j k) ∧ (∀ a, a < 8 → ∀ b, b < 8 → (a ≠ b → M (40 + a) b = E 6 (8 * a + b)) ∧ M (50 + a) b = E 7 (8 * a + b)) ∧ ∀ k, k < na → M 12 k = E 8 k ∧ M 13 k = E 9 k
theorem R0.fr {n na : Nat} {E M M' : Mem} (hn : n ≤ 8) (h : R0 n na E M) (hf : fr W0 M M') : R0 n na E M' := by
  obtain ⟨h1, h2, h3, h4, h6, h7⟩ := h
  refine ⟨?_, ?_, ?_, fun k hk j hj => ?_, fun a ha b hb => ⟨fun hab => ?_, ?_⟩, fun k hk => ⟨?_, ?_⟩⟩
  · rw [hf _ _ (by unfold W0; omega)]; exact h1
  · rw [hf _ _ (by unfold W0; omega)]; exact h2
  · rw [hf _ _ (by unfold W0; omega)]; exact h3
  · rw [hf _ _ (by unfold W0; omega)]; exact h4 k hk j hj
  · rw [hf _ _ (by unfold W0; omega)]; exact (h6 a ha b hb).1 hab
  · rw [hf _ _ (by unfold W0; omega)]; exact (h6 a ha b hb).2
  · rw [hf _ _ (by unfold W0; omega)]; exact (h7 k hk).1
  · rw [hf _ _ (by unfold W0; omega)]; exact (h7 k hk).2
theorem W0r_W0 (c i : Nat) (h : W0r c i) : W0 c i := by unfold W0r at h; unfold W0; omega
theorem s0_c {n m : Nat} {S M : Mem} (hr : relOn loc0 (Dn n m) S M) {i : Nat} (hi : i < n) : M (30 + i) 6 = S 0 i ∧ M (30 + i) 7 = S 1 i ∧ M (30 + i) 8 = S 2 i ∧ M (30 + i) 9 = S 3 i ∧ M (30 + i) 10 = S 4 i ∧ M (30 + i) 11 = S 5 i :=
  ⟨hr 0 i (by unfold Dn; omega), hr 1 i (by unfold Dn; omega), hr 2 i (by unfold Dn; omega), hr 3 i (by unfold Dn; omega), hr 4 i (by unfold Dn; omega), hr 5 i (by unfold Dn; omega)⟩
theorem s0_p {n m : Nat} {S M : Mem} (hr : relOn loc0 (Dn n m) S M) {i : Nat} (hi : i < m) : M 16 i = S 6 i := hr 6 i (by unfold Dn; omega)
theorem s0_a {n m : Nat} {S M : Mem} (hr : relOn loc0 (Dn n m) S M) {i : Nat} (hi : i < 8) : M 17 i = S 7 i := hr 7 i (by unfold Dn; omega)
theorem s0_m {n m : Nat} {S M : Mem} (hr : relOn loc0 (Dn n m) S M) : M 0 20 = S 8 0 ∧ M 0 21 = S 8 1 := ⟨hr 8 0 (by unfold Dn; omega), hr 8 1 (by unfold Dn; omega)⟩
theorem isCar_i {i : Nat} (h : i < 8) : isCar (30 + i) := by unfold isCar; omega
theorem g0_z {Q : Mem → Prop} {h : Int32} {n : Nat} {S M0 : Mem} (hn : n ≤ 8) (hQ : ∀ M', relOn loc0 (Dn n 8) (iter zero1 8 S) M' → fr W0r M0 M' → ∃ f, w0_counts_b23 Q f h 0 M') : ∀ (j i : Nat) (M : Mem), i + j = 8 → relOn loc0 (Dn n i) (iter zero1 i S) M → fr W0r M0 M → w0_counts_b2 Q (j + 1) h (nI i) M
  | 0, i, M, hi, hr, hf => by
    obtain rfl : i = 8 := by omega
    exact ⟨fun _ => hQ M hr hf, fun c => absurd (by decide) c⟩
  | j + 1, i, M, hi, hr, hf => by
    refine brF (nI_ge (b := 8) (by omega) (by decide)) ⟨vp_in_nI (by omega) (by decide), ?_⟩
    rintro M12 rfl
    rw [nI_1, ci_nI (by omega)]
    exact g0_z hn hQ j (i + 1) _ (by omega) (relOn.put hr (loc0_I _ _ hn) (by unfold Dn; omega) (by unfold Dn; omega) 0) (hf.set 0 (by unfold W0r; omega))
theorem g0_68 {Q : Mem → Prop} {K : Int32 → Int32 → Mem → Prop} {h : Int32} {i n : Nat} {S M : Mem} (hn : n ≤ 8) (hi : i < n) (hr : relOn loc0 (Dn n 8) S M) (hp : S 1 i = -1 ∨ vp_in (S 1 i) 8)
    (hK : ∀ M', relOn loc0 (Dn n 8) (gath2 i S) M' → fr W0r M M' → K h (nI (i + 1)) M') : w0_counts_b68 Q K h (nI i) (30 + i) M := by
  unfold gath2 at hK
  refine ⟨isCar_i (by omega), ?_⟩
  rw [(s0_c hr hi).2.1]
  by_cases e : S 1 i = -1
  · refine brT e ?_
    rw [if_pos e] at hK
    unfold w0_counts_b89
    rw [nI_1]
    exact hK M hr (fr.refl _ _)
  · rw [if_neg e] at hK
    have hv := hp.resolve_left e
    refine brF e ⟨hv, ?_⟩
    rintro M6 rfl
    unfold w0_counts_b89
    have hc := (vpN hv (by decide)).1
    rw [nI_1, s0_p hr hc]
    exact hK _ (hr.set (loc0_I _ _ hn) (by unfold Dn; omega) _) ((fr.refl _ _).set _ (by unfold W0r; omega))
theorem g0_doesArrive {Q : Int32 → Mem → Prop} {n m i : Nat} {S M : Mem} {h : Int32} (hn : n ≤ 8) (hi : i < n) (hr : relOn loc0 (Dn n m) S M) (h1 : S 0 i < 2 ∧ S 4 i = h → Q 1 M) (h0 : ¬ (S 0 i < 2 ∧ S 4 i = h) → Q 0 M) : w0_doesArrive (30 + i) h M Q := by
  unfold w0_doesArrive w0_doesArrive_z w0_doesArrive_b20 w0_doesArrive_b21
  refine ⟨isCar_i (by omega), ?_⟩
  rw [(s0_c hr hi).1, (s0_c hr hi).2.2.2.2.1]
  by_cases a : (2 : Int32) ≤ S 0 i
  · exact brT a ⟨Or.inl rfl, h0 (fun c => absurd a (Int32.not_le.mpr c.1))⟩
  · refine brF a ?_
    by_cases b : S 4 i = h
    · exact brT b ⟨Or.inr rfl, h1 ⟨Int32.not_le.mp a, b⟩⟩
    · exact brF b ⟨Or.inl rfl, h0 (fun c => b c.2)⟩
theorem g0_g {Q : Mem → Prop} {h n : Nat} {S M0 : Mem} (hn : n ≤ 8) (h9 : M0 0 9 = nI n) (hG : okG n h 0 S) (hQ : ∀ M', relOn loc0 (Dn n 8) (iter (gath1 (nI h)) n S) M' → fr W0r M0 M' → ∃ f, w0_counts_b98 Q f (nI h) 7 M') : ∀ (j i : Nat) (M : Mem), i + j = n → relOn loc0 (Dn n 8) (iter (gath1 (nI h)) i S) M → fr W0r M0 M → w0_counts_b23 Q (j + 1) (nI h) (nI i) M
  | 0, i, M, hi, hr, hf => by
    obtain rfl : i = n := by omega
    have e9 : M 0 9 = nI i := by rw [hf _ _ (by unfold W0r; omega)]; exact h9
    refine brT ?_ (hQ M hr hf)
    rw [e9]
    exact nI_le (Nat.le_refl _) (by omega)
  | j + 1, i, M, hi, hr, hf => by
    have e9 : M 0 9 = nI n := by rw [hf _ _ (by unfold W0r; omega)]; exact h9
    have hin : i < n := by omega
    refine brF ?_ ⟨vp_in_nI (by omega) (by decide), ?_⟩
    · rw [e9]
      exact nI_ge (by omega) (by omega)
    have hGi := okG_iter hG i
    obtain ⟨g1, g2, g3, -⟩ := hGi i hin
    have hnext : ∀ M', relOn loc0 (Dn n 8) (gath1 (nI h) i (iter (gath1 (nI h)) i S)) M' → fr W0r M M' → w0_counts_b23 Q (j + 1) (nI h) (nI (i + 1)) M' := fun M' a b => g0_g hn h9 hG hQ j (i + 1) M' (by omega) a (hf.trans b)
    revert hnext g1 g2 g3 hr
    generalize iter (gath1 (nI h)) i S = T
    intro hr g1 g2 g3 hnext
    rw [ci_nI (by omega)]
    refine g0_doesArrive hn hin hr (fun b => ?_) (fun b => ?_)
    · rw [gath1_yes b] at hnext
      refine brF (by decide) ?_
      rintro M8 rfl
      have hv := g1 b.1
      have hc := (vpN hv (by decide)).1
      have hr1 := hr.set (loc0_I _ _ hn) (c := 1) (i := i) (by unfold Dn; omega) (T 3 i)
      have e1 : mset M (30 + i) 7 (M (30 + i) 9) (30 + i) 7 = T 3 i := by rw [mset_eq, (s0_c hr hin).2.2.2.1]
      rw [e1]
      refine ⟨hv, ?_⟩
      rintro M10 rfl
      rw [(s0_c hr hin).2.2.2.1]
      have e7 : mset M (30 + i) 7 (T 3 i) 17 (ci (T 3 i)) = T 7 (ci (T 3 i)) := by rw [mset_ot _ _ (Or.inl (by omega))]; exact s0_a hr hc
      rw [e7]
      have hr2 := hr1.set (loc0_I _ _ hn) (c := 7) (i := ci (T 3 i)) (by unfold Dn; omega) (T 7 (ci (T 3 i)) + 1)
      refine g0_68 hn hin hr2 ?_ (fun M' a f => hnext M' a ?_)
      · right
        simpa [mset_at] using hv
      · exact ((((fr.refl _ _).set _ (by unfold W0r; omega)).set _ (by unfold W0r; omega)).trans f)
    · rw [gath1_no b] at hnext
      exact brT rfl (g0_68 hn hin hr g3 hnext)
theorem g0_m {Q : Mem → Prop} {h : Int32} {n : Nat} {S M0 : Mem} (hn : n ≤ 8) (hQ : ∀ M', relOn loc0 (Dn n 8) (iter (met1 h) 8 S) M' → fr W0r M0 M' → Q M') : ∀ (j i : Nat) (M : Mem), i + j = 8 → relOn loc0 (Dn n 8) (iter (met1 h) i S) M → fr W0r M0 M → w0_counts_b98 Q (j + 1) h (7 - nI i) M
  | 0, i, M, hi, hr, hf => by
    obtain rfl : i = 8 := by omega
    exact brT (by decide) (hQ M hr hf)
  | j + 1, i, M, hi, hr, hf => by
    have e7 : (7 : Int32) - nI i = nI (7 - i) := pk_sub (a := 7) (by omega)
    have e8 : nI (7 - i) + (-1) = 7 - nI (i + 1) := by
      have : i = 0 ∨ i = 1 ∨ i = 2 ∨ i = 3 ∨ i = 4 ∨ i = 5 ∨ i = 6 ∨ i = 7 := by omega
      rcases this with rfl | rfl | rfl | rfl | rfl | rfl | rfl | rfl <;> decide
    have hnext : ∀ M', relOn loc0 (Dn n 8) (met1 h i (iter (met1 h) i S)) M' → fr W0r M M' → w0_counts_b98 Q (j + 1) h (nI (7 - i) + (-1)) M' := fun M' a b => by
      rw [e8]
      exact g0_m hn hQ j (i + 1) M' (by omega) a (hf.trans b)
    rw [e7]
    revert hnext hr
    generalize iter (met1 h) i S = T
    intro hr hnext
    refine brF (nI_pos (by omega)) ⟨vp_in_nI (by omega) (by decide), ?_⟩
    rw [ci_nI (by omega), s0_p hr (by omega), (s0_m hr).1]
    have hno : met1 h i T = T → w0_counts_b132 Q (w0_counts_b98 Q (j + 1)) h (nI (7 - i)) M := by
      intro e
      rw [e] at hnext
      refine brT rfl ?_
      rintro M2 rfl
      refine brT rfl ?_
      rintro M1 rfl
      refine hnext _ ?_ (((fr.refl _ _).set _ (by unfold W0r; omega)).set _ (by unfold W0r; omega))
      rw [(s0_m hr).2, mset_ot (i := 21) _ _ (Or.inr (by decide)), (s0_m hr).1]
      have a1 := hr.set (loc0_I _ _ hn) (c := 8) (i := 1) (by unfold Dn; omega) (T 8 1)
      have a2 := a1.set (loc0_I _ _ hn) (c := 8) (i := 0) (by unfold Dn; omega) (T 8 0)
      have e1 : mset (mset T 8 1 (T 8 1)) 8 0 (T 8 0) = T := by
        rw [mset_self, mset_self]
      rw [e1] at a2
      exact a2
    have hyes : met1 h i T = mset (mset T 8 0 h) 8 1 (nI (7 - i)) → w0_counts_b128 Q (w0_counts_b98 Q (j + 1)) h (nI (7 - i)) M := by
      intro e
      rw [e, mset_comm T _ _ (Or.inr (by decide))] at hnext
      refine brF (by decide) ?_
      rintro M2 rfl
      refine brF (by decide) ?_
      rintro M1 rfl
      exact hnext _ ((hr.set (loc0_I _ _ hn) (c := 8) (i := 1) (by unfold Dn; omega) (nI (7 - i))).set (loc0_I _ _ hn) (c := 8) (i := 0) (by unfold Dn; omega) h) (((fr.refl _ _).set _ (by unfold W0r; omega)).set _ (by unfold W0r; omega))
    unfold met1 at hno hyes
    by_cases a : T 6 (7 - i) ≤ 1
    · exact brT a (hno (if_neg (fun c => c.1 a)))
    · refine brF a ?_
      by_cases b : T 8 0 = -1
      · exact brT b (hyes (if_pos ⟨a, Or.inl b⟩))
      · refine brF b ?_
        by_cases c : T 8 0 = h
        · exact brT c (hyes (if_pos ⟨a, Or.inr c⟩))
        · exact brF c (hno (if_neg (fun d => d.2.elim b c)))
theorem g0_gathers {Q : Mem → Prop} {h n : Nat} {S M : Mem} (hn : n ≤ 8) (h40 : h < 40) (h9 : M 0 9 = nI n) (hS : okS n h S) (hr : relOn loc0 (Dn n 0) S M) (hQ : ∀ M', relOn loc0 (Dn n 8) (gathS n (nI h) S) M' → fr W0r M M' → Q M') : w0_counts (nI h) M Q := by
  refine ⟨9, g0_z (n := n) (S := S) (M0 := M) hn (fun M1 r1 f1 => ?_) 8 0 M rfl hr (fr.refl _ _)⟩
  refine ⟨n + 1, g0_g (n := n) (S := iter zero1 8 S) (M0 := M) hn h9 ?_ (fun M2 r2 f2 => ?_) n 0 M1 (by omega) r1 f1⟩
  · exact okG_same (okG_0 hS) (fun c k hc => iter_ot (fun j S i => zero1_ot j S (by omega) i) _ _ _)
  · exact ⟨9, g0_m (n := n) (S := iter (gath1 (nI h)) n (iter zero1 8 S)) (M0 := M) hn hQ 8 0 M2 rfl r2 f2⟩
