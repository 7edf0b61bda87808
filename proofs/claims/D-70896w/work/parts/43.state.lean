/-! what lasts between two calls; the text's fault and parts as functions -/
def gp (v : Nat → Int32) : Nat → Nat
  | 0 => 0
  | j + 1 => if gp v j = j ∧ v j ≠ -1 then j + 1 else gp v j
theorem gp_spec (v : Nat → Int32) : ∀ L, gp v L ≤ L ∧ (∀ j, j < gp v L → v j ≠ -1) ∧ (gp v L < L → v (gp v L) = -1)
  | 0 => ⟨Nat.le_refl 0, fun j h => absurd h (Nat.not_lt_zero j), fun h => absurd h (Nat.lt_irrefl 0)⟩
  | L + 1 => by
    obtain ⟨h1, h2, h3⟩ := gp_spec v L
    unfold gp
    split
    · rename_i h
      refine ⟨Nat.le_refl _, fun j hj => ?_, fun hj => absurd hj (Nat.lt_irrefl _)⟩
      by_cases e : j = L
      · subst e; exact h.2
      · exact h2 j (by omega)
    · rename_i h
      refine ⟨by omega, h2, fun _ => ?_⟩
      by_cases e : gp v L < L
      · exact h3 e
      · have e2 : gp v L = L := by omega
        refine Decidable.byContradiction fun q => h ⟨e2, ?_⟩
        rw [e2] at q
        exact q
def pf (v : Nat → Int32) (s L : Nat) : Int32 := if gp v L < L then nI (gp v L) else if L = 0 ∨ L % s = s - 1 then -1 else nI L
def pn (v : Nat → Int32) (s L : Nat) : Nat := if gp v L < L then 0 else if L = 0 ∨ L % s = s - 1 then (L + 1) / s else 0
theorem Prs_pf (v : Nat → Int32) (s L : Nat) : Prs v s L (pf v s L) (pn v s L) := by
  obtain ⟨h1, h2, h3⟩ := gp_spec v L
  unfold pf pn
  by_cases c : gp v L < L
  · rw [if_pos c, if_pos c]
    exact Or.inl ⟨_, c, h3 c, h2, rfl, rfl⟩
  · rw [if_neg c, if_neg c]
    have e : gp v L = L := by omega
    rw [e] at h2
    by_cases d : L = 0 ∨ L % s = s - 1
    · rw [if_pos d, if_pos d]
      exact Or.inr ⟨h2, Or.inr ⟨d, rfl, rfl⟩⟩
    · rw [if_neg d, if_neg d]
      exact Or.inr ⟨h2, Or.inl ⟨fun q => d (Or.inl q), fun q => d (Or.inr q), rfl, rfl⟩⟩
theorem Prs_eq {v : Nat → Int32} {s L : Nat} {f : Int32} {n : Nat} (h : Prs v s L f n) : f = pf v s L ∧ n = pn v s L := Prs_det h (Prs_pf v s L)
/-! Z: 0, 1 bytes; 2 late; 3, 4 answers' hours, places; 5, 6, 7 sights' hours, carters, places; 8, 9 sheets' forms, sizes; 10.. items; 14 0 the latest finding; 15: lengths of texts, answers, sights as numbers -/
def nW (L0 : Nat) (Z : Mem) : Nat := pn (wv (bt (Z 0) L0)) 5 L0
def nC (L1 : Nat) (Z : Mem) : Nat := pn (cv (bt (Z 1) L1)) 7 L1
def vW (L0 : Nat) (Z : Mem) : Mem := wV (bt (Z 0) L0)
def eM (E : Mem) (T : Nat → Int32) : Mem := fun c i => if c = 6 then T i else if c = 7 then fM T 8 i else E c i
theorem eM_6 (E : Mem) (T : Nat → Int32) (i : Nat) : eM E T 6 i = T i := by unfold eM; rw [if_pos rfl]
theorem eM_7 (E : Mem) (T : Nat → Int32) (i : Nat) : eM E T 7 i = fM T 8 i := by unfold eM; rw [if_neg (by decide), if_pos rfl]
theorem eM_c (E : Mem) (T : Nat → Int32) {c : Nat} (h : c ≠ 6) (h7 : c ≠ 7) (i : Nat) : eM E T c i = E c i := by unfold eM; rw [if_neg h, if_neg h7]
def eC (L1 : Nat) (Z : Mem) : Mem := fun c i => if c < 5 then cE (bt (Z 1) L1) c i else if c = 5 then Z 2 i else if c = 8 then Z 3 i else if c = 9 then Z 4 i else 0
def e0 (L0 L1 : Nat) (Z : Mem) : Mem := eM (eC L1 Z) (tM (vW L0 Z) (nW L0 Z))
def okP (L0 L1 na ns : Nat) (Z : Mem) : Prop := L0 ≤ 49 ∧ L1 ≤ 55 ∧ na ≤ 8 ∧ ns ≤ 8 ∧ okB (Z 0) L0 ∧ okB (Z 1) L1 ∧ (∀ k, k < ns → vp_in (Z 5 k) 40 ∧ vp_in (Z 6 k) 8) ∧ ∀ s, s < 4 → (Z 8 s = -1 ∨ (vp_in (Z 8 s) 3 ∧ (∃ l, l ≤ 60 ∧ Z 9 s = nI l) ∧ (∀ i, Z 8 s = 0 → (Z (10 + s) i).toInt8.toInt32 = Z (10 + s) i) ∧ ∀ i, Z 8 s = 1 → (Z (10 + s) i).toInt16.toInt32 = Z (10 + s) i))
theorem okP_V {L0 L1 na ns : Nat} {Z : Mem} (h : okP L0 L1 na ns Z) : okV (nW L0 Z) (vW L0 Z) := wV_ok h.2.2.2.2.1 h.1 (Prs_pf _ _ _)
theorem okP_C {L0 L1 na ns : Nat} {Z : Mem} (h : okP L0 L1 na ns Z) : nC L1 Z ≤ 8 ∧ ∀ k, k < nC L1 Z → vp_in (cE (bt (Z 1) L1) 0 k) 8 ∧ vp_in (cE (bt (Z 1) L1) 1 k) 8 ∧ vp_in (cE (bt (Z 1) L1) 2 k) 3 := cE_ok h.2.2.2.2.2.1 h.2.1 (Prs_pf _ _ _)
theorem eM_ok {n : Nat} {E : Mem} {T : Nat → Int32} (hn : n ≤ 8) (hE : ∀ k, k < n → vp_in (E 0 k) 8 ∧ vp_in (E 1 k) 8 ∧ vp_in (E 2 k) 3) (hT : okT T) : okE n (eM E T) := by
  obtain ⟨m1, m2, m3⟩ := maps_ok hT
  refine ⟨hn, fun k hk => ?_, fun a ha => ?_, fun a ha => ?_, fun a b ha hb hab hlt => ?_⟩
  · rw [eM_c _ _ (by decide) (by decide), eM_c _ _ (by decide) (by decide), eM_c _ _ (by decide) (by decide)]
    exact hE k hk
  · rw [eM_6, eM_7]
    exact m1 a ha
  · rw [eM_6]
    exact m2 a ha
  · rw [eM_7] at hlt
    obtain ⟨q, q1, q2, q3⟩ := m3 a b ha hb hab hlt
    refine ⟨q, q1, ?_, ?_⟩
    · rw [eM_6]
      exact q2
    · rw [eM_6, eM_7, eM_7]
      exact q3
theorem e0_ok {L0 L1 na ns : Nat} {Z : Mem} (h : okP L0 L1 na ns Z) : okE (nC L1 Z) (e0 L0 L1 Z) := eM_ok (okP_C h).1 (okP_C h).2 (tM_ok (okP_V h) _ (Nat.le_refl _))
/-! the system between two calls -/
def shX (Z M : Mem) : Prop := (∀ s, s < 4 → M 124 s = Z 8 s ∧ (Z 8 s ≠ -1 → M (110 + s) 0 = Z 8 s ∧ M 125 s = Z 9 s ∧ ∀ i, i < ci (Z 9 s) → M (120 + s) i = Z (10 + s) i)) ∧ M 0 30 = Z 14 0
def sgX (ns : Nat) (Z M : Mem) : Prop := M 0 23 = nI ns ∧ ∀ k, k < ns → M 19 k = Z 5 k ∧ M 20 k = Z 6 k ∧ M 21 k = Z 7 k
def anX (na : Nat) (Z M : Mem) : Prop := M 0 12 = nI na ∧ ∀ k, k < na → M 12 k = Z 3 k ∧ M 13 k = Z 4 k
/-- all but what is read out of the texts -/
def bsX (L0 L1 na ns : Nat) (Z M : Mem) : Prop := tx0 0 L0 (Z 0) M ∧ tx0 1 L1 (Z 1) M ∧ anX na Z M ∧ sgX ns Z M ∧ shX Z M
/-- what is read, but the carters' own -/
def rdX (L0 L1 : Nat) (Z M : Mem) : Prop := M 0 2 = 1 ∧ M 0 4 = nI (nW L0 Z) ∧ M 0 9 = nI (nC L1 Z) ∧ M 5 0 = pf (wv (bt (Z 0) L0)) 5 L0 ∧ M 5 1 = pf (cv (bt (Z 1) L1)) 7 L1 ∧ ∀ w, w < nW L0 Z → ∀ c, c < 4 → M (6 + c) w = vW L0 Z c w
def caX (L1 : Nat) (Z M : Mem) : Prop := ∀ k, k < nC L1 Z → ∀ j, j < 5 → M (30 + k) j = eC L1 Z j k
def ltX (Z M : Mem) : Prop := ∀ k, k < 8 → M (30 + k) 5 = Z 2 k
def P0 (L0 L1 na ns : Nat) (Z M : Mem) : Prop := bsX L0 L1 na ns Z M ∧ ltX Z M ∧ (M 0 2 = 0 ∨ (rdX L0 L1 Z M ∧ caX L1 Z M))
/-- what no question changes -/
def Wr (c i : Nat) : Prop := (30 ≤ c ∧ c < 38) ∨ (40 ≤ c ∧ c < 58) ∨ c = 16 ∨ c = 17 ∨ (60 ≤ c ∧ c < 103) ∨ c = 23 ∨ (c = 0 ∧ (i = 17 ∨ i = 20 ∨ i = 21))
def Wp (c i : Nat) : Prop := (30 ≤ c ∧ c < 38 ∧ i < 5) ∨ (5 ≤ c ∧ c ≤ 9) ∨ (c = 0 ∧ (i = 2 ∨ i = 4 ∨ i = 9))
theorem bsX.keep {W : Nat → Nat → Prop} {L0 L1 na ns : Nat} {Z M M' : Mem} (h : bsX L0 L1 na ns Z M) (hf : fr W M M') (hW : ∀ c i, W c i → Wr c i ∨ Wp c i) : bsX L0 L1 na ns Z M' := by
  have hf' : fr (fun c i => Wr c i ∨ Wp c i) M M' := hf.weak hW
  obtain ⟨h1, h2, ⟨a1, a2⟩, ⟨s1, s2⟩, t1, t2⟩ := h
  refine ⟨h1.fr (by decide) hf' (fun i => ⟨by unfold Wr Wp; omega, by unfold Wr Wp; omega⟩), h2.fr (by decide) hf' (fun i => ⟨by unfold Wr Wp; omega, by unfold Wr Wp; omega⟩), ⟨?_, fun k hk => ?_⟩, ⟨?_, fun k hk => ?_⟩, fun s hs => ?_, ?_⟩
  · rw [hf' _ _ (by unfold Wr Wp; omega)]; exact a1
  · rw [hf' _ _ (by unfold Wr Wp; omega), hf' _ _ (by unfold Wr Wp; omega)]; exact a2 k hk
  · rw [hf' _ _ (by unfold Wr Wp; omega)]; exact s1
  · rw [hf' _ _ (by unfold Wr Wp; omega), hf' _ _ (by unfold Wr Wp; omega), hf' _ _ (by unfold Wr Wp; omega)]; exact s2 k hk
  · obtain ⟨u1, u2⟩ := t1 s hs
    refine ⟨by rw [hf' _ _ (by unfold Wr Wp; omega)]; exact u1, fun hne => ?_⟩
    obtain ⟨v1, v2, v3⟩ := u2 hne
    refine ⟨by rw [hf' _ _ (by unfold Wr Wp; omega)]; exact v1, by rw [hf' _ _ (by unfold Wr Wp; omega)]; exact v2, fun i hi => by rw [hf' _ _ (by unfold Wr Wp; omega)]; exact v3 i hi⟩
  · rw [hf' _ _ (by unfold Wr Wp; omega)]; exact t2
theorem rdX.keep {W : Nat → Nat → Prop} {L0 L1 : Nat} {Z M M' : Mem} (h : rdX L0 L1 Z M) (hf : fr W M M') (hW : ∀ c i, W c i → Wr c i) : rdX L0 L1 Z M' := by
  have hf' : fr Wr M M' := hf.weak hW
  obtain ⟨h1, h2, h3, h4, h5, h6⟩ := h
  refine ⟨?_, ?_, ?_, ?_, ?_, fun w hw c hc => ?_⟩
  · rw [hf' _ _ (by unfold Wr; omega)]; exact h1
  · rw [hf' _ _ (by unfold Wr; omega)]; exact h2
  · rw [hf' _ _ (by unfold Wr; omega)]; exact h3
  · rw [hf' _ _ (by unfold Wr; omega)]; exact h4
  · rw [hf' _ _ (by unfold Wr; omega)]; exact h5
  · rw [hf' _ _ (by unfold Wr; omega)]; exact h6 w hw c hc
/-- what lasts, read -/
def C0 (L0 L1 na ns : Nat) (Z M : Mem) : Prop := bsX L0 L1 na ns Z M ∧ ltX Z M ∧ rdX L0 L1 Z M ∧ caX L1 Z M
theorem C0.P {L0 L1 na ns : Nat} {Z M : Mem} (h : C0 L0 L1 na ns Z M) : P0 L0 L1 na ns Z M := ⟨h.1, h.2.1, Or.inr h.2.2⟩
theorem C0.keep {W : Nat → Nat → Prop} {L0 L1 na ns : Nat} {Z M M' : Mem} (h : C0 L0 L1 na ns Z M) (hC : nC L1 Z ≤ 8) (hf : fr W M M') (hW : ∀ c i, W c i → Wr c i ∧ ¬ (30 ≤ c ∧ c < 38 ∧ i < 6)) : C0 L0 L1 na ns Z M' := by
  obtain ⟨h1, h2, h3, h4⟩ := h
  refine ⟨h1.keep hf (fun c i hw => Or.inl (hW c i hw).1), fun k hk => ?_, h3.keep hf (fun c i hw => (hW c i hw).1), fun k hk j hj => ?_⟩
  · rw [hf _ _ (fun hw => (hW _ _ hw).2 (by omega))]
    exact h2 k hk
  · rw [hf _ _ (fun hw => (hW _ _ hw).2 (by omega))]
    exact h4 k hk j hj
theorem g0_reads {Q : Mem → Prop} {L0 L1 na ns : Nat} {Z M0 : Mem} (hP : okP L0 L1 na ns Z) (h : P0 L0 L1 na ns Z M0) (hQ : ∀ M', C0 L0 L1 na ns Z M' → fr Wp M0 M' → Q M') : w0_reads M0 Q := by
  obtain ⟨hb, hl, hor⟩ := h
  obtain ⟨p1, p2, p3, p4, p5, p6, p7⟩ := hP
  unfold w0_reads w0_reads_b44
  rcases hor with h0 | ⟨h1, h2⟩
  · refine brT h0 ⟨Or.inr rfl, ?_⟩
    rintro M2 rfl M3 rfl M4 rfl
    have f4 : fr Wp M0 (mset (mset (mset M0 0 2 1) 0 4 0) 0 9 0) := (((fr.refl _ _).set _ (by unfold Wp; omega)).set _ (by unfold Wp; omega)).set _ (by unfold Wp; omega)
    have b4 := hb.keep f4 (fun c i h => Or.inr h)
    have e2 : mset (mset (mset M0 0 2 1) 0 4 0) 0 9 0 0 2 = 1 := by simp [mset_at]
    have e4 : mset (mset (mset M0 0 2 1) 0 4 0) 0 9 0 0 4 = 0 := by simp [mset_at]
    have e9 : mset (mset (mset M0 0 2 1) 0 4 0) 0 9 0 0 9 = 0 := by simp [mset_at]
    revert f4 b4 e2 e4 e9
    generalize mset (mset (mset M0 0 2 1) 0 4 0) 0 9 0 = M4
    intro f4 b4 e2 e4 e9
    refine g0_parts0 p5 p1 b4.1 e4 (fun f n M6 hp h6 hv hf => ⟨vp_in_nI (n := 0) (by decide) (by decide), ?_⟩)
    obtain ⟨rfl, rfl⟩ := Prs_eq hp
    rintro M8 rfl
    have e0 : ci (0 : Int32) = 0 := rfl
    have e1 : ci (1 : Int32) = 1 := rfl
    rw [e0, e1]
    have f8 : fr Wp M4 (mset M6 5 0 (pf (wv (bt (Z 0) L0)) 5 L0)) := (hf.weak (fun c i h => by unfold W0a at h; unfold Wp; omega)).set _ (by unfold Wp; omega)
    refine g0_parts1 p6 p2 (b4.keep f8 (fun c i h => Or.inr h)).2.1 ?_ (fun f n M10 hp1 h10 hv1 hf1 => ⟨vp_in_nI (n := 1) (by decide) (by decide), ?_⟩)
    · rw [mset_ot _ _ (Or.inl (by decide)), hf _ _ (by unfold W0a; omega)]
      exact e9
    obtain ⟨rfl, rfl⟩ := Prs_eq hp1
    rintro M12 rfl
    have f12 : fr Wp M0 (mset M10 5 1 (pf (cv (bt (Z 1) L1)) 7 L1)) := (f4.trans (f8.trans (hf1.weak (fun c i h => by unfold W0b W0b1 at h; unfold Wp; omega)))).set _ (by unfold Wp; omega)
    refine hQ _ ⟨hb.keep f12 (fun c i h => Or.inr h), fun k hk => ?_, ⟨?_, ?_, ?_, ?_, ?_, fun w hw c hc => ?_⟩, fun k hk j hj => ?_⟩ f12
    · rw [f12 _ _ (by unfold Wp; omega)]
      exact hl k hk
    · rw [mset_ot _ _ (Or.inl (by decide)), hf1 _ _ (by unfold W0b W0b1; omega), mset_ot _ _ (Or.inl (by decide)), hf _ _ (by unfold W0a; omega)]
      exact e2
    · rw [mset_ot _ _ (Or.inl (by decide)), hf1 _ _ (by unfold W0b W0b1; omega), mset_ot _ _ (Or.inl (by decide))]
      exact h6
    · rw [mset_ot _ _ (Or.inl (by decide))]
      exact h10
    · rw [mset_ot _ _ (Or.inr (by decide)), hf1 _ _ (by unfold W0b W0b1; omega), mset_eq]
    · rw [mset_eq]
    · rw [mset_ot _ _ (Or.inl (by omega)), hf1 _ _ (by unfold W0b W0b1; omega), mset_ot _ _ (Or.inl (by omega))]
      exact hv w hw c hc
    · have hn := (okP_C ⟨p1, p2, p3, p4, p5, p6, p7⟩).1
      rw [mset_ot _ _ (Or.inl (by omega)), hv1 k hk j hj]
      unfold eC
      rw [if_pos hj]
  · refine brF ?_ (hQ M0 ⟨hb, hl, h1, h2⟩ (fr.refl _ _))
    rw [h1.1]
    decide
/-- what the system's runs read -/
theorem C0.R0 {L0 L1 na ns : Nat} {Z M : Mem} {T : Nat → Int32} (h : C0 L0 L1 na ns Z M) (hC : nC L1 Z ≤ 8) (hm : ∀ a, a < 8 → ∀ b, b < 8 → (a ≠ b → M (40 + a) b = T (8 * a + b)) ∧ M (50 + a) b = fM T 8 (8 * a + b)) (h17 : M 0 17 = 0) : R0 (nC L1 Z) na (eM (eC L1 Z) T) M := by
  obtain ⟨⟨-, -, ⟨a1, a2⟩, -, -⟩, h2, h3, h4⟩ := h
  refine ⟨h3.2.2.1, a1, ?_, fun k hk j hj => ?_, fun a ha b hb => ?_, fun k hk => ?_⟩
  · rw [eM_c _ _ (by decide) (by decide)]
    exact h17
  · rw [eM_c _ _ (by omega) (by omega)]
    by_cases e : j = 5
    · subst e
      exact h2 k (by omega)
    · exact h4 k hk j (by omega)
  · rw [eM_6, eM_7]
    exact hm a ha b hb
  · rw [eM_c _ _ (by decide) (by decide), eM_c _ _ (by decide) (by decide)]
    exact a2 k hk
theorem g0_measT {Q : Mem → Prop} {L0 L1 na ns : Nat} {Z M0 : Mem} (hP : okP L0 L1 na ns Z) (h : C0 L0 L1 na ns Z M0) (hQ : ∀ M', C0 L0 L1 na ns Z M' → (∀ a, a < 8 → ∀ b, b < 8 → (a ≠ b → M' (40 + a) b = tM (vW L0 Z) (nW L0 Z) (8 * a + b)) ∧ M' (50 + a) b = fM (tM (vW L0 Z) (nW L0 Z)) 8 (8 * a + b)) → fr W0m M0 M' → Q M') : w0_measures (-1) M0 Q := by
  have hV := okP_V hP
  have hn := (okP_C hP).1
  have hV1 := hV.1
  refine g0_measures hV h.2.2.1.2.1 (fun w hw => ?_) (fun M' a f => hQ M' (h.keep hn f (fun c i hw => ?_)) a f)
  · have hv := h.2.2.1.2.2.2.2.2 w hw
    exact ⟨hv 0 (by decide), hv 1 (by decide), hv 2 (by decide), fun e => absurd e (nI_m1 (by omega)), fun _ => hv 3 (by decide)⟩
  · unfold W0m at hw
    unfold Wr
    omega
theorem g0_asTold {Q : Mem → Prop} {L0 L1 na ns : Nat} {Z M0 : Mem} (hP : okP L0 L1 na ns Z) (h : P0 L0 L1 na ns Z M0) (hQ : ∀ M', C0 L0 L1 na ns Z M' → R0 (nC L1 Z) na (e0 L0 L1 Z) M' → Q M') : w0_asTold M0 Q := by
  have hn := (okP_C hP).1
  unfold w0_asTold
  refine g0_reads hP h (fun M1 c1 f1 => g0_measT hP c1 (fun M2 c2 m2 f2 => ?_))
  rintro M3 rfl
  have c3 : C0 L0 L1 na ns Z (mset M2 0 17 0) := c2.keep (W := fun c i => c = 0 ∧ i = 17) hn ((fr.refl _ _).set _ ⟨rfl, rfl⟩) (fun c i hw => ⟨by unfold Wr; omega, by omega⟩)
  refine hQ _ c3 (c3.R0 hn (fun a ha b hb => ?_) (mset_eq _ _ _ _))
  rw [mset_ot _ _ (Or.inl (by omega)), mset_ot _ _ (Or.inl (by omega))]
  exact m2 a ha b hb
