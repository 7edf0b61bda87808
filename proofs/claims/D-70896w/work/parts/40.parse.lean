/-! texts: what they say -/
theorem i_sub {x y : Int32} (hx : -10000 ≤ x.toInt ∧ x.toInt ≤ 10000) (hy : -10000 ≤ y.toInt ∧ y.toInt ≤ 10000) : (x - y).toInt = x.toInt - y.toInt := by
  rw [Int32.toInt_sub, Int.bmod_eq_of_le (by omega) (by omega)]
theorem g6_in {Q : Int32 → Prop} {x lo hi : Int32} {l h : Int64} (el : l = lo.toInt64) (eh : h = hi.toInt64) (h1 : lo ≤ x ∧ x ≤ hi → Q 1) (h0 : ¬ (lo ≤ x ∧ x ≤ hi) → Q 0) : w6_in x.toInt64 l h Q := by
  subst el eh
  unfold w6_in w6_in_z w6_in_b17 w6_in_b18
  rw [lg_cmp_lt, lg_cmp_gt, Int64.lt_iff_toInt_lt, Int64.lt_iff_toInt_lt, Int32.toInt_toInt64, Int32.toInt_toInt64, Int32.toInt_toInt64]
  rw [i_le, i_le] at h1 h0
  by_cases a : x.toInt < lo.toInt
  · exact brT a ⟨Or.inl rfl, h0 (fun c => by omega)⟩
  · refine brF a ?_
    by_cases b : hi.toInt < x.toInt
    · exact brT b ⟨Or.inl rfl, h0 (fun c => by omega)⟩
    · exact brF b ⟨Or.inr rfl, h1 ⟨by omega, by omega⟩⟩
theorem g0_in {Q : Int32 → Prop} {x lo hi : Int32} (h1 : lo ≤ x ∧ x ≤ hi → Q 1) (h0 : ¬ (lo ≤ x ∧ x ≤ hi) → Q 0) : w0_in x lo hi Q := by
  unfold w0_in w0_in_z w0_in_b14 w0_in_b15
  by_cases a : x < lo
  · exact brT a ⟨Or.inl rfl, h0 (fun c => absurd c.1 (Int32.not_le.mpr a))⟩
  · refine brF a ?_
    by_cases b : hi < x
    · exact brT b ⟨Or.inl rfl, h0 (fun c => absurd c.2 (Int32.not_le.mpr b))⟩
    · exact brF b ⟨Or.inr rfl, h1 ⟨Int32.not_lt.mp a, Int32.not_lt.mp b⟩⟩
def pl (b : Int32) : Int32 := if 97 ≤ b ∧ b ≤ 104 then b - 97 else -1
def fg (l b : Int32) : Int32 := if 48 + l ≤ b ∧ b ≤ 57 then b - 48 else -1
def sl (b : Int32) : Int32 := if b = 117 then 0 else if b = 102 then 1 else if b = 100 then 2 else -1
def kd (b : Int32) : Int32 := if b = 111 then 0 else if b = 99 then 1 else if b = 114 then 2 else -1
def sm (b : Int32) : Int32 := if b = 59 then 0 else -1
def smallB (b : Int32) : Prop := -1 ≤ b.toInt ∧ b.toInt ≤ 255
theorem pl_or {b : Int32} (hb : smallB b) : pl b = -1 ∨ vp_in (pl b) 8 := by
  unfold pl
  split
  · rename_i h
    rw [i_le, i_le] at h
    have e1 : (97 : Int32).toInt = 97 := by decide
    have e2 : (104 : Int32).toInt = 104 := by decide
    obtain ⟨b1, b2⟩ := hb
    refine Or.inr (vp_in_iff.mpr ?_)
    rw [i_sub ⟨by omega, by omega⟩ ⟨by omega, by omega⟩]
    omega
  · exact Or.inl rfl
theorem fg_or {l : Nat} {b : Int32} (hl : l ≤ 1) (hb : smallB b) : fg (nI l) b = -1 ∨ ∃ d, l ≤ d ∧ d ≤ 9 ∧ fg (nI l) b = nI d := by
  unfold fg
  split
  · rename_i h
    rw [i_le, i_le] at h
    have e1 : (57 : Int32).toInt = 57 := by decide
    have e2 : (48 + nI l : Int32).toInt = 48 + l := by
      rw [show (48 : Int32) + nI l = nI (48 + l) from nI_add 48 l, nI_toInt (by omega)]
      omega
    have e3 : (48 : Int32).toInt = 48 := by decide
    obtain ⟨b1, b2⟩ := hb
    right
    have e4 := i_sub (x := b) (y := 48) ⟨by omega, by omega⟩ ⟨by omega, by omega⟩
    refine ⟨(b - 48).toInt.toNat, by omega, by omega, ?_⟩
    apply Int32.toInt_inj.mp
    rw [nI_toInt (by omega)]
    omega
  · exact Or.inl rfl
theorem sl_or (b : Int32) : sl b = -1 ∨ ∃ d, d ≤ 2 ∧ sl b = nI d := by
  unfold sl
  split
  · exact Or.inr ⟨0, by decide, rfl⟩
  split
  · exact Or.inr ⟨1, by decide, rfl⟩
  split
  · exact Or.inr ⟨2, by decide, rfl⟩
  · exact Or.inl rfl
theorem kd_or (b : Int32) : kd b = -1 ∨ vp_in (kd b) 3 := by
  unfold kd
  split
  · exact Or.inr (vp_in_nI (n := 0) (by decide) (by decide))
  split
  · exact Or.inr (vp_in_nI (n := 1) (by decide) (by decide))
  split
  · exact Or.inr (vp_in_nI (n := 2) (by decide) (by decide))
  · exact Or.inl rfl
/-- a text's byte, or none -/
def bt (B : Nat → Int32) (L i : Nat) : Int32 := if i < L then B i else -1
theorem bt_in {B : Nat → Int32} {L i : Nat} (h : i < L) : bt B L i = B i := if_pos h
theorem bt_out {B : Nat → Int32} {L i : Nat} (h : L ≤ i) : bt B L i = -1 := if_neg (by omega)
def okB (B : Nat → Int32) (L : Nat) : Prop := ∀ i, i < L → 0 ≤ (B i).toInt ∧ (B i).toInt ≤ 255
theorem bt_small {B : Nat → Int32} {L : Nat} (h : okB B L) (i : Nat) : smallB (bt B L i) := by
  unfold bt
  split
  · rename_i q
    have := h i q
    exact ⟨by omega, this.2⟩
  · unfold smallB
    decide
def wv (b : Nat → Int32) (i : Nat) : Int32 := if i % 5 = 0 then pl (b i) else if i % 5 = 1 then (if pl (b i) = pl (b (i - 1)) then -1 else pl (b i)) else if i % 5 = 2 then fg 1 (b i) else if i % 5 = 3 then sl (b i) else sm (b i)
def cv (b : Nat → Int32) (i : Nat) : Int32 := if i % 7 < 2 then pl (b i) else if i % 7 = 2 then kd (b i) else if i % 7 < 6 then fg 0 (b i) else sm (b i)
/-- f is the text's fault, n how many parts it tells -/
def Prs (v : Nat → Int32) (s L : Nat) (f : Int32) (n : Nat) : Prop := (∃ i, i < L ∧ v i = -1 ∧ (∀ j, j < i → v j ≠ -1) ∧ f = nI i ∧ n = 0) ∨ ((∀ j, j < L → v j ≠ -1) ∧ ((L ≠ 0 ∧ L % s ≠ s - 1 ∧ f = nI L ∧ n = 0) ∨ ((L = 0 ∨ L % s = s - 1) ∧ f = -1 ∧ n = (L + 1) / s)))
theorem Prs_det {v : Nat → Int32} {s L : Nat} {f f' : Int32} {n n' : Nat} (h : Prs v s L f n) (h' : Prs v s L f' n') : f = f' ∧ n = n' := by
  rcases h with ⟨i, h1, h2, h3, h4, h5⟩ | ⟨h1, h2⟩
  · rcases h' with ⟨i', k1, k2, k3, k4, k5⟩ | ⟨k1, -⟩
    · have : i = i' := by
        rcases Nat.lt_trichotomy i i' with q | q | q
        · exact absurd h2 (k3 i q)
        · exact q
        · exact absurd k2 (h3 i' q)
      subst this
      rw [h4, k4, h5, k5]
      exact ⟨rfl, rfl⟩
    · exact absurd h2 (k1 i h1)
  · rcases h' with ⟨i', k1, k2, k3, k4, k5⟩ | ⟨k1, k2⟩
    · exact absurd k2 (h1 i' k1)
    · rcases h2 with ⟨a1, a2, a3, a4⟩ | ⟨a1, a2, a3⟩
      · rcases k2 with ⟨b1, b2, b3, b4⟩ | ⟨b1, b2, b3⟩
        · exact ⟨a3.trans b3.symm, a4.trans b4.symm⟩
        · omega
      · rcases k2 with ⟨b1, b2, b3, b4⟩ | ⟨b1, b2, b3⟩
        · omega
        · exact ⟨a2.trans b2.symm, a3.trans b3.symm⟩
theorem Prs_in {v : Nat → Int32} {s L : Nat} {f : Int32} {n : Nat} (hs : s = 5 ∨ s = 7) (h : Prs v s L f n) : s * n ≤ L + 1 ∧ ∀ w, w < n → ∀ c, c + 1 < s → s * w + c < L ∧ v (s * w + c) ≠ -1 := by
  rcases h with ⟨i, h1, h2, h3, h4, h5⟩ | ⟨h1, h2⟩
  · subst h5
    exact ⟨by omega, fun w hw => absurd hw (Nat.not_lt_zero w)⟩
  · rcases h2 with ⟨a1, a2, a3, a4⟩ | ⟨a1, a2, a3⟩
    · subst a4
      exact ⟨by omega, fun w hw => absurd hw (Nat.not_lt_zero w)⟩
    · rcases hs with rfl | rfl
      · refine ⟨by omega, fun w hw c hc => ?_⟩
        have : 5 * w + c < L := by omega
        exact ⟨this, h1 _ this⟩
      · refine ⟨by omega, fun w hw c hc => ?_⟩
        have : 7 * w + c < L := by omega
        exact ⟨this, h1 _ this⟩
/-- the ways told -/
def wV (b : Nat → Int32) : Mem := fun c w => wv b (5 * w + c)
/-- the carters told -/
def cE (b : Nat → Int32) : Mem := fun c w => if c < 3 then cv b (7 * w + c) else if c = 3 then 10 * cv b (7 * w + 3) + cv b (7 * w + 4) else cv b (7 * w + 5)
theorem wV_ok {B : Nat → Int32} {L n : Nat} {f : Int32} (hB : okB B L) (hL : L ≤ 49) (h : Prs (wv (bt B L)) 5 L f n) : okV n (wV (bt B L)) := by
  obtain ⟨h1, h2⟩ := Prs_in (Or.inl rfl) h
  refine ⟨by omega, fun w hw => ?_⟩
  have v0 := (h2 w hw 0 (by decide)).2
  have v1 := (h2 w hw 1 (by decide)).2
  have v2 := (h2 w hw 2 (by decide)).2
  have v3 := (h2 w hw 3 (by decide)).2
  show vp_in (wv (bt B L) (5 * w + 0)) 8 ∧ vp_in (wv (bt B L) (5 * w + 1)) 8 ∧ wv (bt B L) (5 * w + 0) ≠ wv (bt B L) (5 * w + 1) ∧ (∃ l, 1 ≤ l ∧ l ≤ 9 ∧ wv (bt B L) (5 * w + 2) = nI l) ∧ ∃ s, s ≤ 2 ∧ wv (bt B L) (5 * w + 3) = nI s
  have e0 : wv (bt B L) (5 * w + 0) = pl (bt B L (5 * w + 0)) := by
    unfold wv
    rw [if_pos (by omega)]
  have e1 : wv (bt B L) (5 * w + 1) = if pl (bt B L (5 * w + 1)) = pl (bt B L (5 * w + 0)) then -1 else pl (bt B L (5 * w + 1)) := by
    unfold wv
    rw [if_neg (by omega), if_pos (by omega), show 5 * w + 1 - 1 = 5 * w + 0 by omega]
  have e2 : wv (bt B L) (5 * w + 2) = fg 1 (bt B L (5 * w + 2)) := by
    unfold wv
    rw [if_neg (by omega), if_neg (by omega), if_pos (by omega)]
  have e3 : wv (bt B L) (5 * w + 3) = sl (bt B L (5 * w + 3)) := by
    unfold wv
    rw [if_neg (by omega), if_neg (by omega), if_neg (by omega), if_pos (by omega)]
  have c1 : ¬ pl (bt B L (5 * w + 1)) = pl (bt B L (5 * w + 0)) := fun q => v1 (by rw [e1, if_pos q])
  rw [if_neg c1] at e1
  rw [e0, e1, e2, e3]
  rw [e0] at v0
  rw [e1] at v1
  rw [e2] at v2
  rw [e3] at v3
  refine ⟨(pl_or (bt_small hB _)).resolve_left v0, (pl_or (bt_small hB _)).resolve_left v1, fun q => c1 q.symm, ?_, (sl_or _).resolve_left v3⟩
  exact (fg_or (l := 1) (by decide) (bt_small hB _)).resolve_left v2
theorem cE_ok {B : Nat → Int32} {L n : Nat} {f : Int32} (hB : okB B L) (hL : L ≤ 55) (h : Prs (cv (bt B L)) 7 L f n) : n ≤ 8 ∧ ∀ k, k < n → vp_in (cE (bt B L) 0 k) 8 ∧ vp_in (cE (bt B L) 1 k) 8 ∧ vp_in (cE (bt B L) 2 k) 3 := by
  obtain ⟨h1, h2⟩ := Prs_in (Or.inr rfl) h
  refine ⟨by omega, fun w hw => ?_⟩
  have v0 := (h2 w hw 0 (by decide)).2
  have v1 := (h2 w hw 1 (by decide)).2
  have v2 := (h2 w hw 2 (by decide)).2
  show vp_in (cv (bt B L) (7 * w + 0)) 8 ∧ vp_in (cv (bt B L) (7 * w + 1)) 8 ∧ vp_in (cv (bt B L) (7 * w + 2)) 3
  have e0 : cv (bt B L) (7 * w + 0) = pl (bt B L (7 * w + 0)) := by
    unfold cv
    rw [if_pos (by omega)]
  have e1 : cv (bt B L) (7 * w + 1) = pl (bt B L (7 * w + 1)) := by
    unfold cv
    rw [if_pos (by omega)]
  have e2 : cv (bt B L) (7 * w + 2) = kd (bt B L (7 * w + 2)) := by
    unfold cv
    rw [if_neg (by omega), if_pos (by omega)]
  rw [e0, e1, e2]
  rw [e0] at v0
  rw [e1] at v1
  rw [e2] at v2
  exact ⟨(pl_or (bt_small hB _)).resolve_left v0, (pl_or (bt_small hB _)).resolve_left v1, (kd_or _).resolve_left v2⟩
/-! the reference reads a byte -/
def w9 (v : Int32) : Int32 := if v = -1 then -9 else v
theorem w9_eq {v : Int32} (h : v = -1 ∨ 0 ≤ v.toInt) : (w9 v = -9) ↔ v = -1 := by
  unfold w9
  split
  · rename_i q
    exact ⟨fun _ => q, fun _ => rfl⟩
  · rename_i q
    refine ⟨fun e => ?_, fun e => absurd e q⟩
    exfalso
    have h0 := h.resolve_left q
    have := congrArg Int32.toInt e
    have e9 : (-9 : Int32).toInt = -9 := by decide
    omega
theorem g6_placeOf {Q : Int32 → Prop} {b : Int32} (hb : smallB b) (h : Q (w9 (pl b))) : w6_placeOf b Q := by
  unfold w6_placeOf w6_placeOf_b23
  have hor := pl_or hb
  refine g6_in (lo := 97) (hi := 104) (by decide) (by decide) (fun c => brF (by decide) ?_) (fun c => brT rfl ?_)
  · have hn : pl b ≠ -1 := by
      intro q
      unfold pl at q
      rw [if_pos c] at q
      have := congrArg Int32.toInt q
      rw [i_le, i_le] at c
      have e1 : (97 : Int32).toInt = 97 := by decide
      have e2 : (104 : Int32).toInt = 104 := by decide
      have e3 : (-1 : Int32).toInt = -1 := by decide
      rw [i_sub ⟨by omega, by omega⟩ ⟨by omega, by omega⟩] at this
      omega
    unfold w9 at h
    rw [if_neg hn] at h
    unfold pl at h
    rw [if_pos c] at h
    exact h
  · unfold pl at h
    rw [if_neg c] at h
    exact h
theorem g6_figureOf {Q : Int32 → Prop} {b : Int32} {l : Nat} (hl : l ≤ 1) (hb : smallB b) (h : Q (w9 (fg (nI l) b))) : w6_figureOf b (nI l) Q := by
  unfold w6_figureOf w6_figureOf_b25
  have hl2 : l = 0 ∨ l = 1 := by omega
  refine g6_in (lo := 48 + nI l) (hi := 57) rfl (by decide) (fun c => brF (by decide) ?_) (fun c => brT rfl ?_)
  · have hn : fg (nI l) b ≠ -1 := by
      intro q
      unfold fg at q
      rw [if_pos c] at q
      have := congrArg Int32.toInt q
      rw [i_le, i_le] at c
      have e1 : (57 : Int32).toInt = 57 := by decide
      have e3 : (-1 : Int32).toInt = -1 := by decide
      have e4 : (48 : Int32).toInt = 48 := by decide
      have e2 : (48 + nI l : Int32).toInt = 48 + l := by
        rw [show (48 : Int32) + nI l = nI (48 + l) from nI_add 48 l, nI_toInt (by omega)]
        omega
      rw [i_sub ⟨by omega, by omega⟩ ⟨by omega, by omega⟩] at this
      omega
    unfold w9 at h
    rw [if_neg hn] at h
    unfold fg at h
    rw [if_pos c] at h
    exact h
  · unfold fg at h
    rw [if_neg c] at h
    exact h
