/-! the reference reads its texts -/
theorem vp_0 {x : Int32} {n : Nat} (h : vp_in x n) : 0 ≤ x.toInt := (vp_in_iff.mp h).1
theorem pl_0 {b : Int32} (hb : smallB b) : pl b = -1 ∨ 0 ≤ (pl b).toInt := (pl_or hb).imp id vp_0
theorem fg_0 {l : Nat} {b : Int32} (hl : l ≤ 1) (hb : smallB b) : fg (nI l) b = -1 ∨ 0 ≤ (fg (nI l) b).toInt := (fg_or hl hb).imp id (fun ⟨d, _, h2, h3⟩ => by rw [h3, nI_toInt (by omega)]; omega)
theorem sl_0 (b : Int32) : sl b = -1 ∨ 0 ≤ (sl b).toInt := (sl_or b).imp id (fun ⟨d, h2, h3⟩ => by rw [h3, nI_toInt (by omega)]; omega)
theorem kd_0 (b : Int32) : kd b = -1 ∨ 0 ≤ (kd b).toInt := (kd_or b).imp id vp_0
theorem sm_0 (b : Int32) : sm b = -1 ∨ 0 ≤ (sm b).toInt := by
  unfold sm
  split
  · exact Or.inr (by decide)
  · exact Or.inl rfl
theorem wv_0 {B : Nat → Int32} {L : Nat} (hB : okB B L) (i : Nat) : wv (bt B L) i = -1 ∨ 0 ≤ (wv (bt B L) i).toInt := by
  have hs := bt_small hB i
  unfold wv
  split
  · exact pl_0 hs
  split
  · split
    · exact Or.inl rfl
    · exact pl_0 hs
  split
  · exact fg_0 (l := 1) (by decide) hs
  split
  · exact sl_0 _
  · exact sm_0 _
theorem cv_0 {B : Nat → Int32} {L : Nat} (hB : okB B L) (i : Nat) : cv (bt B L) i = -1 ∨ 0 ≤ (cv (bt B L) i).toInt := by
  have hs := bt_small hB i
  unfold cv
  split
  · exact pl_0 hs
  split
  · exact kd_0 _
  split
  · exact fg_0 (l := 0) (by decide) hs
  · exact sm_0 _
theorem g6_wayOf {Q : Int32 → Prop} {B : Nat → Int32} {L i : Nat} {first : Int32} (hB : okB B L) (hf : i % 5 = 1 → first = pl (bt B L (i - 1)) ∧ first ≠ -1) (h : Q (w9 (wv (bt B L) i))) : w6_wayOf (nI (i % 5)) (bt B L i) first Q := by
  have hs := bt_small hB i
  unfold w6_wayOf w6_wayOf_b54 w6_wayOf_b93 w6_wayOf_b106
  have h5 : i % 5 = 0 ∨ i % 5 = 1 ∨ i % 5 = 2 ∨ i % 5 = 3 ∨ i % 5 = 4 := by omega
  unfold wv at h
  rcases h5 with e | e | e | e | e
  · rw [if_pos e] at h
    rw [e]
    exact brT rfl (g6_placeOf hs h)
  · rw [if_neg (by omega), if_pos e] at h
    obtain ⟨f1, f2⟩ := hf e
    rw [e]
    refine brF (by decide) (brT rfl (g6_placeOf hs ?_))
    by_cases c : pl (bt B L i) = pl (bt B L (i - 1))
    · rw [if_pos c] at h
      refine brT ?_ h
      rw [f1, c]
      unfold w9
      rw [if_neg (fun q => f2 (by rw [f1]; exact q))]
    · rw [if_neg c] at h
      refine brF ?_ (g6_placeOf hs h)
      intro q
      unfold w9 at q
      split at q
      · have h1 := pl_or (bt_small hB (i - 1))
        rw [← f1] at h1
        have h2 := vp_0 (h1.resolve_left f2)
        have := congrArg Int32.toInt q
        have e9 : (-9 : Int32).toInt = -9 := by decide
        omega
      · exact c (by rw [q, f1])
  · rw [if_neg (by omega), if_neg (by omega), if_pos e] at h
    rw [e]
    exact brF (by decide) (brF (by decide) (brT rfl (g6_figureOf (l := 1) (by decide) hs h)))
  · rw [if_neg (by omega), if_neg (by omega), if_neg (by omega), if_pos e] at h
    rw [e]
    refine brF (by decide) (brF (by decide) (brF (by decide) (brT rfl ?_)))
    unfold sl at h
    by_cases c1 : bt B L i = 117
    · rw [if_pos c1] at h; exact brT c1 h
    rw [if_neg c1] at h
    refine brF c1 ?_
    by_cases c2 : bt B L i = 102
    · rw [if_pos c2] at h; exact brT c2 h
    rw [if_neg c2] at h
    refine brF c2 ?_
    by_cases c3 : bt B L i = 100
    · rw [if_pos c3] at h; exact brT c3 h
    rw [if_neg c3] at h
    exact brF c3 h
  · rw [if_neg (by omega), if_neg (by omega), if_neg (by omega), if_neg (by omega)] at h
    rw [e]
    refine brF (by decide) (brF (by decide) (brF (by decide) (brF (by decide) ?_)))
    unfold sm at h
    by_cases c1 : bt B L i = 59
    · rw [if_pos c1] at h; exact brT c1 h
    · rw [if_neg c1] at h; exact brF c1 h
theorem g6_carterOf {Q : Int32 → Prop} {B : Nat → Int32} {L i : Nat} (hB : okB B L) (h : Q (w9 (cv (bt B L) i))) : w6_carterOf (nI (i % 7)) (bt B L i) Q := by
  have hs := bt_small hB i
  unfold w6_carterOf w6_carterOf_b40 w6_carterOf_b77 w6_carterOf_b78 w6_carterOf_b96
  have h7 : i % 7 = 0 ∨ i % 7 = 1 ∨ i % 7 = 2 ∨ i % 7 = 3 ∨ i % 7 = 4 ∨ i % 7 = 5 ∨ i % 7 = 6 := by omega
  unfold cv at h
  have e00 : (nI 0) = 0 := rfl
  rcases h7 with e | e | e | e | e | e | e
  · rw [if_pos (by omega)] at h
    rw [e]
    exact brT rfl (g6_placeOf hs h)
  · rw [if_pos (by omega)] at h
    rw [e]
    exact brF (by decide) (brT rfl (g6_placeOf hs h))
  · rw [if_neg (by omega), if_pos e] at h
    rw [e]
    refine brF (by decide) (brF (by decide) (brT rfl ?_))
    unfold kd at h
    by_cases c1 : bt B L i = 111
    · rw [if_pos c1] at h; exact brT c1 h
    rw [if_neg c1] at h
    refine brF c1 ?_
    by_cases c2 : bt B L i = 99
    · rw [if_pos c2] at h; exact brT c2 h
    rw [if_neg c2] at h
    refine brF c2 ?_
    by_cases c3 : bt B L i = 114
    · rw [if_pos c3] at h; exact brT c3 h
    rw [if_neg c3] at h
    exact brF c3 h
  · rw [if_neg (by omega), if_neg (by omega), if_pos (by omega)] at h
    rw [e]
    exact brF (by decide) (brF (by decide) (brF (by decide) (brT rfl (g6_figureOf (l := 0) (by decide) hs h))))
  · rw [if_neg (by omega), if_neg (by omega), if_pos (by omega)] at h
    rw [e]
    exact brF (by decide) (brF (by decide) (brF (by decide) (brF (by decide) (brT rfl (g6_figureOf (l := 0) (by decide) hs h)))))
  · rw [if_neg (by omega), if_neg (by omega), if_pos (by omega)] at h
    rw [e]
    exact brF (by decide) (brF (by decide) (brF (by decide) (brF (by decide) (brF (by decide) (brT rfl (g6_figureOf (l := 0) (by decide) hs h))))))
  · rw [if_neg (by omega), if_neg (by omega), if_neg (by omega)] at h
    rw [e]
    refine brF (by decide) (brF (by decide) (brF (by decide) (brF (by decide) (brF (by decide) (brF (by decide) ?_)))))
    unfold sm at h
    by_cases c1 : bt B L i = 59
    · rw [if_pos c1] at h; exact brT c1 h
    · rw [if_neg c1] at h; exact brF c1 h
theorem pk_d5 {i : Nat} (h : i < 2 ^ 31) : nI i / 5 = nI (i / 5) := pk_div (d := 5) h (by decide) (by decide)
theorem pk_r5 {i : Nat} (h : i < 2 ^ 31) : nI i - nI i / 5 * 5 = nI (i % 5) := pk_rem (d := 5) h (by decide) (by decide)
theorem pk_d7 {i : Nat} (h : i < 2 ^ 31) : nI i / 7 = nI (i / 7) := pk_div (d := 7) h (by decide) (by decide)
theorem pk_r7 {i : Nat} (h : i < 2 ^ 31) : nI i - nI i / 7 * 7 = nI (i % 7) := pk_rem (d := 7) h (by decide) (by decide)
theorem nI_ne {a b : Nat} (ha : a < 2 ^ 31) (hb : b < 2 ^ 31) (h : a ≠ b) : ¬ nI a = nI b := fun e => h ((nI_eq ha hb).mp e)
def W6w (c i : Nat) : Prop := c = 9 ∨ (c = 0 ∧ i = 7)
theorem g6_readsWays {Q : Int32 → Mem → Prop} {M0 : Mem} {B : Nat → Int32} {L : Nat} (hB : okB B L) (hL : L ≤ 49) (h7 : M0 7 0 = nI L) (hb : ∀ i, i < L → M0 6 i = B i) (hQ : ∀ f n M', Prs (wv (bt B L)) 5 L f n → M' 0 7 = nI n → (∀ w, w < n → ∀ c, c < 4 → M' 9 (4 * w + c) = wV (bt B L) c w) → fr W6w M0 M' → Q f M') : w6_readsWays M0 Q := by
  have key : ∀ (j i : Nat) (M : Mem), i + j = L → (∀ j, j < i → wv (bt B L) j ≠ -1) → M 0 7 = nI ((i + 1) / 5) → (∀ x, x < i → x % 5 < 4 → M 9 (4 * (x / 5) + x % 5) = wv (bt B L) x) → fr W6w M0 M → w6_readsWays_b14 Q (j + 1) (nI L) (nI i) M := by
    intro j
    induction j with
    | zero =>
      intro i M hi hg hn hv hf
      obtain rfl : i = L := by omega
      refine brT (nI_le (Nat.le_refl _) (by omega)) ?_
      rw [pk_r5 (by omega)]
      unfold w6_readsWays_b131
      have good : (i = 0 ∨ i % 5 = 4) → Q (-1) M := by
        intro c
        have hP : Prs (wv (bt B i)) 5 i (-1) ((i + 1) / 5) := Or.inr ⟨hg, Or.inr ⟨c, rfl, rfl⟩⟩
        refine hQ _ _ M hP hn ?_ hf
        intro w hw c hc
        have := hv (5 * w + c) (by omega) (by omega)
        rw [show (5 * w + c) / 5 = w by omega, show (5 * w + c) % 5 = c by omega] at this
        exact this
      by_cases c0 : i = 0
      · subst c0
        exact brT (by decide) (good (Or.inl rfl))
      · refine brF (nI_nle (by omega) (by omega)) ?_
        by_cases c4 : i % 5 = 4
        · rw [c4]
          exact brT rfl (good (Or.inr c4))
        · refine brF (nI_ne (a := i % 5) (b := 4) (by omega) (by decide) c4) ?_
          rintro M6 rfl
          refine hQ _ 0 _ (Or.inr ⟨hg, Or.inl ⟨c0, c4, rfl, rfl⟩⟩) (mset_eq _ _ _ _) (fun w hw => absurd hw (Nat.not_lt_zero w)) (hf.set _ (Or.inr ⟨rfl, rfl⟩))
    | succ j ih =>
      intro i M hi hg hn hv hf
      have hiL : i < L := by omega
      refine brF (nI_ge hiL (by omega)) ⟨vp_in_nI (by omega) (by decide), ?_⟩
      have e6 : M 6 i = bt B L i := by
        rw [hf _ _ (by unfold W6w; omega), hb i hiL, bt_in hiL]
      have e4 : (4 : Int32) * nI (i / 5) = nI (4 * (i / 5)) := pk_mul 4 _
      rw [pk_r5 (by omega), pk_d5 (by omega), e4, ci_nI (by omega), ci_nI (by omega), e6]
      have fin : ∀ first, (i % 5 = 1 → first = pl (bt B L (i - 1)) ∧ first ≠ -1) → w6_readsWays_b53 Q (w6_readsWays_b14 Q (j + 1)) (nI L) (nI i) (nI (i % 5)) (nI (4 * (i / 5))) (nI (i % 5)) (bt B L i) first M := by
        intro first hfirst
        unfold w6_readsWays_b53
        refine g6_wayOf hB hfirst ?_
        have w9e := w9_eq (wv_0 hB i)
        by_cases c : wv (bt B L) i = -1
        · refine brT (w9e.mpr c) ?_
          rintro M3 rfl
          exact hQ _ 0 _ (Or.inl ⟨i, hiL, c, hg, rfl, rfl⟩) (mset_eq _ _ _ _) (fun w hw => absurd hw (Nat.not_lt_zero w)) (hf.set _ (Or.inr ⟨rfl, rfl⟩))
        · refine brF (fun q => c (w9e.mp q)) ?_
          have ew : w9 (wv (bt B L) i) = wv (bt B L) i := by unfold w9; rw [if_neg c]
          have hg' : ∀ j, j < i + 1 → wv (bt B L) j ≠ -1 := fun x hx => by
            by_cases q : x = i
            · rw [q]; exact c
            · exact hg x (by omega)
          by_cases c4 : i % 5 = 4
          · rw [c4]
            refine brT (by decide) (brF (by decide) ?_)
            rintro M1 rfl
            rw [nI_1]
            refine ih (i + 1) _ (by omega) hg' ?_ ?_ (hf.set _ (Or.inr ⟨rfl, rfl⟩))
            · rw [mset_eq, hn, show (i + 1 + 1) / 5 = (i + 1) / 5 by omega]
              exact nI_add _ 0
            · intro x hx hx4
              rw [mset_ot _ _ (Or.inl (by decide))]
              exact hv x (by omega) hx4
          · refine brF (nI_ge (b := 4) (by omega) (by decide)) ?_
            rw [nI_add, ci_nI (by omega), ew]
            refine ⟨vp_in_nI (by omega) (by decide), ?_⟩
            rintro M5 rfl
            have hv' : ∀ s, ∀ x, x < i + 1 → x % 5 < 4 → mset (mset M 9 (4 * (i / 5) + i % 5) (wv (bt B L) i)) 0 7 s 9 (4 * (x / 5) + x % 5) = wv (bt B L) x := by
              intro s x hx hx4
              rw [mset_ot _ _ (Or.inl (by decide))]
              by_cases q : x = i
              · subst q
                exact mset_eq _ _ _ _
              · rw [mset_ot _ _ (Or.inr (by omega))]
                exact hv x (by omega) hx4
            unfold w6_readsWays_b88 w6_readsWays_b103
            rw [nI_1]
            by_cases c3 : i % 5 = 3
            · rw [c3]
              refine brT rfl ?_
              rintro M1 rfl
              have := hv' (mset M 9 (4 * (i / 5) + 3) (wv (bt B L) i) 0 7 + 1)
              rw [c3] at this
              refine ih (i + 1) _ (by omega) hg' ?_ this ((hf.set _ (Or.inl rfl)).set _ (Or.inr ⟨rfl, rfl⟩))
              rw [mset_eq, mset_ot _ _ (Or.inl (by decide)), hn, nI_1, show (i + 1 + 1) / 5 = (i + 1) / 5 + 1 by omega]
            · refine brF (nI_ne (a := i % 5) (b := 3) (by omega) (by decide) c3) ?_
              rintro M1 rfl
              refine ih (i + 1) _ (by omega) hg' ?_ (hv' _) ((hf.set _ (Or.inl rfl)).set _ (Or.inr ⟨rfl, rfl⟩))
              rw [mset_eq, mset_ot _ _ (Or.inl (by decide)), hn, show (i + 1 + 1) / 5 = (i + 1) / 5 by omega]
              exact nI_add _ 0
      by_cases c1 : i % 5 = 1
      · refine brT (by rw [c1]; rfl) ⟨vp_in_nI (by omega) (by decide), fin _ (fun _ => ?_)⟩
        have hp := hv (i - 1) (by omega) (by omega)
        have hp2 := hg (i - 1) (by omega)
        have ep : wv (bt B L) (i - 1) = pl (bt B L (i - 1)) := by
          unfold wv
          rw [if_pos (by omega)]
        rw [show 4 * ((i - 1) / 5) + (i - 1) % 5 = 4 * (i / 5) by omega] at hp
        rw [ep] at hp hp2
        rw [hp]
        exact ⟨rfl, hp2⟩
      · exact brF (nI_ne (a := i % 5) (b := 1) (by omega) (by decide) c1) (fin _ (fun q => absurd q c1))
  unfold w6_readsWays
  rintro M9 rfl
  refine ⟨vp_in_nI (n := 0) (by decide) (by decide), L + 1, ?_⟩
  have e : mset M0 0 7 0 7 (ci 0) = nI L := by
    rw [mset_ot _ _ (Or.inl (by decide))]
    exact h7
  rw [e]
  exact key L 0 _ (by omega) (fun j hj => absurd hj (Nat.not_lt_zero j)) (mset_eq _ _ _ _) (fun x hx => absurd hx (Nat.not_lt_zero x)) ((fr.refl _ _).set _ (Or.inr ⟨rfl, rfl⟩))
def W6c (c i : Nat) : Prop := c = 11 ∨ (c = 0 ∧ i = 9)
/-- what stands of the carters' row when i bytes are read -/
def cRow (b : Nat → Int32) (i : Nat) (M : Mem) : Prop := ∀ w, (∀ c, c < 3 → 7 * w + c < i → M 11 (5 * w + c) = cv b (7 * w + c)) ∧ (7 * w + 3 < i → M 11 (5 * w + 3) = if 7 * w + 4 < i then 10 * cv b (7 * w + 3) + cv b (7 * w + 4) else 10 * cv b (7 * w + 3)) ∧ (7 * w + 5 < i → M 11 (5 * w + 4) = cv b (7 * w + 5))
theorem g6_readsCarters {Q : Int32 → Mem → Prop} {M0 : Mem} {B : Nat → Int32} {L : Nat} (hB : okB B L) (hL : L ≤ 55) (h7 : M0 7 1 = nI L) (hb : ∀ i, i < L → M0 6 (56 + i) = B i) (hQ : ∀ f n M', Prs (cv (bt B L)) 7 L f n → M' 0 9 = nI n → (∀ k, k < n → ∀ c, c < 5 → M' 11 (5 * k + c) = cE (bt B L) c k) → fr W6c M0 M' → Q f M') : w6_readsCarters M0 Q := by
  have key : ∀ (j i : Nat) (M : Mem), i + j = L → (∀ j, j < i → cv (bt B L) j ≠ -1) → M 0 9 = nI ((i + 1) / 7) → cRow (bt B L) i M → fr W6c M0 M → w6_readsCarters_b14 Q (j + 1) (nI L) (nI i) M := by
    intro j
    induction j with
    | zero =>
      intro i M hi hg hn hv hf
      obtain rfl : i = L := by omega
      refine brT (nI_le (Nat.le_refl _) (by omega)) ?_
      rw [pk_r7 (by omega)]
      unfold w6_readsCarters_b176
      have good : (i = 0 ∨ i % 7 = 6) → Q (-1) M := by
        intro c
        have hP : Prs (cv (bt B i)) 7 i (-1) ((i + 1) / 7) := Or.inr ⟨hg, Or.inr ⟨c, rfl, rfl⟩⟩
        refine hQ _ _ M hP hn ?_ hf
        intro w hw c hc
        obtain ⟨r1, r2, r3⟩ := hv w
        show _ = if c < 3 then cv (bt B i) (7 * w + c) else if c = 3 then 10 * cv (bt B i) (7 * w + 3) + cv (bt B i) (7 * w + 4) else cv (bt B i) (7 * w + 5)
        by_cases c3 : c < 3
        · rw [if_pos c3]
          exact r1 c c3 (by omega)
        rw [if_neg c3]
        by_cases c4 : c = 3
        · subst c4
          rw [if_pos rfl, r2 (by omega), if_pos (by omega)]
        · rw [if_neg c4]
          obtain rfl : c = 4 := by omega
          exact r3 (by omega)
      by_cases c0 : i = 0
      · subst c0
        exact brT (by decide) (good (Or.inl rfl))
      · refine brF (nI_nle (by omega) (by omega)) ?_
        by_cases c4 : i % 7 = 6
        · rw [c4]
          exact brT rfl (good (Or.inr c4))
        · refine brF (nI_ne (a := i % 7) (b := 6) (by omega) (by decide) c4) ?_
          rintro M6 rfl
          refine hQ _ 0 _ (Or.inr ⟨hg, Or.inl ⟨c0, c4, rfl, rfl⟩⟩) (mset_eq _ _ _ _) (fun w hw => absurd hw (Nat.not_lt_zero w)) (hf.set _ (Or.inr ⟨rfl, rfl⟩))
    | succ j ih =>
      intro i M hi hg hn hv hf
      have hiL : i < L := by omega
      have e56 : (56 : Int32) + nI i = nI (56 + i) := nI_add 56 i
      refine brF (nI_ge hiL (by omega)) ?_
      have e6 : M 6 (56 + i) = bt B L i := by
        rw [hf _ _ (by unfold W6c; omega), hb i hiL, bt_in hiL]
      rw [e56, pk_r7 (by omega), pk_d7 (by omega), i5, ci_nI (by omega), e6]
      have e53 : (5 : Int32) * nI (i / 7) + 3 = nI (5 * (i / 7) + 3) := i5 _ 3
      have e54 : (5 : Int32) * nI (i / 7) + 4 = nI (5 * (i / 7) + 4) := i5 _ 4
      rw [e53, e54, ci_nI (by omega), ci_nI (by omega), ci_nI (by omega)]
      unfold w6_readsCarters_b150
      rw [nI_1]
      refine ⟨vp_in_nI (by omega) (by decide), g6_carterOf hB ?_⟩
      have w9e := w9_eq (cv_0 hB i)
      by_cases c : cv (bt B L) i = -1
      · refine brT (w9e.mpr c) ?_
        rintro M3 rfl
        exact hQ _ 0 _ (Or.inl ⟨i, hiL, c, hg, rfl, rfl⟩) (mset_eq _ _ _ _) (fun w hw => absurd hw (Nat.not_lt_zero w)) (hf.set _ (Or.inr ⟨rfl, rfl⟩))
      refine brF (fun q => c (w9e.mp q)) ?_
      have ew : w9 (cv (bt B L) i) = cv (bt B L) i := by unfold w9; rw [if_neg c]
      rw [ew]
      have hg' : ∀ j, j < i + 1 → cv (bt B L) j ≠ -1 := fun x hx => by
        by_cases q : x = i
        · rw [q]; exact c
        · exact hg x (by omega)
      have h7 : i % 7 < 3 ∨ i % 7 = 3 ∨ i % 7 = 4 ∨ i % 7 = 5 ∨ i % 7 = 6 := by omega
      rcases h7 with e | e | e | e | e
      · refine brF (nI_ge (b := 3) (by omega) (by decide)) ⟨vp_in_nI (by omega) (by decide), ?_⟩
        rintro M13 rfl
        refine ih (i + 1) _ (by omega) hg' ?_ ?_ (hf.set _ (Or.inl rfl))
        · rw [mset_ot _ _ (Or.inl (by decide)), hn, show (i + 1 + 1) / 7 = (i + 1) / 7 by omega]
        · intro w
          obtain ⟨r1, r2, r3⟩ := hv w
          refine ⟨fun c hc h => ?_, fun h => ?_, fun h => ?_⟩
          · by_cases q : 7 * w + c = i
            · rw [show w = i / 7 by omega, show c = i % 7 by omega, mset_eq, show 7 * (i / 7) + i % 7 = i by omega]
            · rw [mset_ot _ _ (Or.inr (by omega))]
              exact r1 c hc (by omega)
          · rw [mset_ot _ _ (Or.inr (by omega)), r2 (by omega), if_pos (show 7 * w + 4 < i by omega), if_pos (by omega)]
          · rw [mset_ot _ _ (Or.inr (by omega))]
            exact r3 (by omega)
      · rw [e]
        refine brT (by decide) (brT rfl ⟨vp_in_nI (by omega) (by decide), ?_⟩)
        rintro M13 rfl
        refine ih (i + 1) _ (by omega) hg' ?_ ?_ (hf.set _ (Or.inl rfl))
        · rw [mset_ot _ _ (Or.inl (by decide)), hn, show (i + 1 + 1) / 7 = (i + 1) / 7 by omega]
        · intro w
          obtain ⟨r1, r2, r3⟩ := hv w
          refine ⟨fun c hc h => ?_, fun h => ?_, fun h => ?_⟩
          · rw [mset_ot _ _ (Or.inr (by omega))]
            exact r1 c hc (by omega)
          · by_cases q : 7 * w + 3 = i
            · rw [show w = i / 7 by omega, mset_eq, if_neg (by omega), show 7 * (i / 7) + 3 = i by omega]
            · rw [mset_ot _ _ (Or.inr (by omega)), r2 (by omega), if_pos (show 7 * w + 4 < i by omega), if_pos (by omega)]
          · rw [mset_ot _ _ (Or.inr (by omega))]
            exact r3 (by omega)
      · rw [e]
        refine brT (by decide) (brF (by decide) (brT rfl ⟨vp_in_nI (by omega) (by decide), ?_⟩))
        rintro M13 rfl
        refine ih (i + 1) _ (by omega) hg' ?_ ?_ (hf.set _ (Or.inl rfl))
        · rw [mset_ot _ _ (Or.inl (by decide)), hn, show (i + 1 + 1) / 7 = (i + 1) / 7 by omega]
        · intro w
          obtain ⟨r1, r2, r3⟩ := hv w
          refine ⟨fun c hc h => ?_, fun h => ?_, fun h => ?_⟩
          · rw [mset_ot _ _ (Or.inr (by omega))]
            exact r1 c hc (by omega)
          · by_cases q : 7 * w + 4 = i
            · have := r2 (by omega)
              rw [if_neg (by omega)] at this
              rw [show i / 7 = w by omega, mset_eq, this, if_pos (by omega), q]
            · rw [mset_ot _ _ (Or.inr (by omega)), r2 (by omega), if_pos (show 7 * w + 4 < i by omega), if_pos (by omega)]
          · rw [mset_ot _ _ (Or.inr (by omega))]
            exact r3 (by omega)
      · rw [e]
        refine brT (by decide) (brF (by decide) (brF (by decide) (brT rfl ⟨vp_in_nI (by omega) (by decide), ?_⟩)))
        rintro M13 rfl M11 rfl
        refine ih (i + 1) _ (by omega) hg' ?_ ?_ ((hf.set _ (Or.inl rfl)).set _ (Or.inr ⟨rfl, rfl⟩))
        · rw [mset_eq, mset_ot _ _ (Or.inl (by decide)), hn, nI_1, show (i + 1 + 1) / 7 = (i + 1) / 7 + 1 by omega]
        · intro w
          obtain ⟨r1, r2, r3⟩ := hv w
          refine ⟨fun c hc h => ?_, fun h => ?_, fun h => ?_⟩
          · rw [mset_ot _ _ (Or.inl (by decide)), mset_ot _ _ (Or.inr (by omega))]
            exact r1 c hc (by omega)
          · rw [mset_ot _ _ (Or.inl (by decide)), mset_ot _ _ (Or.inr (by omega)), r2 (by omega), if_pos (show 7 * w + 4 < i by omega), if_pos (by omega)]
          · rw [mset_ot _ _ (Or.inl (by decide))]
            by_cases q : 7 * w + 5 = i
            · rw [show i / 7 = w by omega, mset_eq, q]
            · rw [mset_ot _ _ (Or.inr (by omega))]
              exact r3 (by omega)
      · rw [e]
        refine brT (by decide) (brF (by decide) (brF (by decide) (brF (by decide) ?_)))
        refine ih (i + 1) _ (by omega) hg' ?_ ?_ hf
        · rw [hn, show (i + 1 + 1) / 7 = (i + 1) / 7 by omega]
        · intro w
          obtain ⟨r1, r2, r3⟩ := hv w
          refine ⟨fun c hc h => r1 c hc (by omega), fun h => ?_, fun h => r3 (by omega)⟩
          rw [r2 (by omega), if_pos (show 7 * w + 4 < i by omega), if_pos (by omega)]
  unfold w6_readsCarters
  rintro M9 rfl
  refine ⟨vp_in_nI (n := 1) (by decide) (by decide), L + 1, ?_⟩
  have e : mset M0 0 9 0 7 (ci 1) = nI L := by
    rw [mset_ot _ _ (Or.inl (by decide))]
    exact h7
  rw [e]
  exact key L 0 _ (by omega) (fun j hj => absurd hj (Nat.not_lt_zero j)) (mset_eq _ _ _ _) (fun w => ⟨fun c _ h => absurd h (Nat.not_lt_zero _), fun h => absurd h (Nat.not_lt_zero _), fun h => absurd h (Nat.not_lt_zero _)⟩) ((fr.refl _ _).set _ (Or.inr ⟨rfl, rfl⟩))
