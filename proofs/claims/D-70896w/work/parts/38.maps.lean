/-! ways' hours, least hours: plain law -/
def les (a b : Int32) : Int32 := if b ≤ a then b else a
theorem imin_les (x y : Int32) : imin x y = les y x := by
  unfold imin les
  by_cases h : y < x
  · rw [if_pos h, if_neg (Int32.not_le.mpr h)]
  · rw [if_neg h, if_pos (Int32.not_lt.mp h)]
theorem i_le {x y : Int32} : x ≤ y ↔ x.toInt ≤ y.toInt := Int32.le_iff_toInt_le
theorem les_int (a b : Int32) : (les a b).toInt ≤ a.toInt ∧ (les a b).toInt ≤ b.toInt ∧ ((les a b).toInt = a.toInt ∨ (les a b).toInt = b.toInt) := by
  unfold les
  split
  · rename_i h
    rw [i_le] at h
    exact ⟨h, Int.le_refl _, Or.inr rfl⟩
  · rename_i h
    rw [i_le] at h
    exact ⟨Int.le_refl _, by omega, Or.inl rfl⟩
theorem les_le {a b : Int32} (h : b ≤ a) : les a b = b := by unfold les; rw [if_pos h]
def tj (V : Mem) (w : Nat) (T : Nat → Int32) : Nat → Int32 :=
  let T1 := upd T (8 * ci (V 0 w) + ci (V 1 w)) (les (V 2 w * (3 - V 3 w)) (T (8 * ci (V 0 w) + ci (V 1 w))))
  upd T1 (8 * ci (V 1 w) + ci (V 0 w)) (les (V 2 w * (1 + V 3 w)) (T1 (8 * ci (V 1 w) + ci (V 0 w))))
def tM (V : Mem) : Nat → Nat → Int32
  | 0 => fun _ => 9999
  | w + 1 => tj V w (tM V w)
def f0 (T : Nat → Int32) : Nat → Int32 := fun i => if i / 8 = i % 8 then 0 else T i
def stg (b : Nat) (d : Nat → Int32) : Nat → Int32 := fun i => les (d (8 * (i / 8) + b) + d (8 * b + i % 8)) (d i)
def fM (T : Nat → Int32) : Nat → Nat → Int32
  | 0 => f0 T
  | b + 1 => stg b (fM T b)
def okT (T : Nat → Int32) : Prop := (∀ i, i < 64 → 1 ≤ (T i).toInt ∧ (T i).toInt ≤ 9999) ∧ ∀ a, a < 8 → T (8 * a + a) = 9999
def okV (nw : Nat) (V : Mem) : Prop := nw ≤ 10 ∧ ∀ w, w < nw → vp_in (V 0 w) 8 ∧ vp_in (V 1 w) 8 ∧ V 0 w ≠ V 1 w ∧ (∃ l, 1 ≤ l ∧ l ≤ 9 ∧ V 2 w = nI l) ∧ ∃ s, s ≤ 2 ∧ V 3 w = nI s
theorem okV_hours {l s : Nat} (h1 : 1 ≤ l) (h9 : l ≤ 9) (hs : s ≤ 2) : nI l * (3 - nI s) = nI (l * (3 - s)) ∧ nI l * (1 + nI s) = nI (l * (1 + s)) := by
  have e3 : (3 : Int32) - nI s = nI (3 - s) := pk_sub (a := 3) (by omega)
  have e1 : (1 : Int32) + nI s = nI (1 + s) := nI_add 1 s
  rw [e3, e1, pk_mul, pk_mul]
  exact ⟨rfl, rfl⟩
theorem okT_upd {T : Nat → Int32} (h : okT T) {a b l : Nat} (ha : a < 8) (hb : b < 8) (hab : a ≠ b) (h1 : 1 ≤ l) (h2 : l ≤ 9999) : okT (upd T (8 * a + b) (les (nI l) (T (8 * a + b)))) := by
  have hl : (nI l).toInt = l := nI_toInt (by omega)
  refine ⟨fun i hi => ?_, fun x hx => ?_⟩
  · rw [upd_at]
    split
    · obtain ⟨q1, q2⟩ := h.1 (8 * a + b) (by omega)
      obtain ⟨-, -, r⟩ := les_int (nI l) (T (8 * a + b))
      omega
    · exact h.1 i hi
  · rw [upd_at, if_neg (by omega)]
    exact h.2 x hx
theorem tM_ok {nw : Nat} {V : Mem} (hV : okV nw V) : ∀ w, w ≤ nw → okT (tM V w)
  | 0, _ => by
    unfold tM
    refine ⟨fun i _ => ?_, fun a _ => rfl⟩
    show 1 ≤ (9999 : Int32).toInt ∧ (9999 : Int32).toInt ≤ 9999
    decide
  | w + 1, hw => by
    have ih := tM_ok hV w (by omega)
    obtain ⟨h0, h1, hne, ⟨l, l1, l2, l3⟩, s, s1, s2⟩ := hV.2 w (by omega)
    obtain ⟨a1, a2⟩ := vpN h0 (by decide)
    obtain ⟨b1, b2⟩ := vpN h1 (by decide)
    have hab : ci (V 0 w) ≠ ci (V 1 w) := fun e => hne (by rw [a2, b2, e])
    obtain ⟨m1, m2⟩ := okV_hours l1 l2 s1
    show okT (tj V w (tM V w))
    unfold tj
    rw [l3, s2, m1, m2]
    have p1 : 1 ≤ l * (3 - s) ∧ l * (3 - s) ≤ 9999 := ⟨Nat.mul_pos (by omega) (by omega), Nat.le_trans (Nat.mul_le_mul l2 (show 3 - s ≤ 3 by omega)) (by decide)⟩
    have p2 : 1 ≤ l * (1 + s) ∧ l * (1 + s) ≤ 9999 := ⟨Nat.mul_pos (by omega) (by omega), Nat.le_trans (Nat.mul_le_mul l2 (show 1 + s ≤ 3 by omega)) (by decide)⟩
    exact okT_upd (okT_upd ih a1 b1 hab p1.1 p1.2) b1 a1 (Ne.symm hab) p2.1 p2.2
def okF (d : Nat → Int32) : Prop := (∀ a b, a < 8 → b < 8 → 0 ≤ (d (8 * a + b)).toInt ∧ (d (8 * a + b)).toInt ≤ 9999) ∧ ∀ a, a < 8 → (d (8 * a + a)).toInt = 0
theorem i_add2 {x y : Int32} (hx : 0 ≤ x.toInt ∧ x.toInt ≤ 9999) (hy : 0 ≤ y.toInt ∧ y.toInt ≤ 9999) : (x + y).toInt = x.toInt + y.toInt := i_add hx hy
theorem stg_int {d : Nat → Int32} (hd : okF d) {b x y : Nat} (hb : b < 8) (hx : x < 8) (hy : y < 8) : (stg b d (8 * x + y)).toInt ≤ (d (8 * x + b)).toInt + (d (8 * b + y)).toInt ∧ (stg b d (8 * x + y)).toInt ≤ (d (8 * x + y)).toInt ∧ ((stg b d (8 * x + y)).toInt = (d (8 * x + b)).toInt + (d (8 * b + y)).toInt ∨ (stg b d (8 * x + y)).toInt = (d (8 * x + y)).toInt) := by
  unfold stg
  rw [show (8 * x + y) / 8 = x by omega, show (8 * x + y) % 8 = y by omega]
  have := les_int (d (8 * x + b) + d (8 * b + y)) (d (8 * x + y))
  rw [i_add (hd.1 x b hx hb) (hd.1 b y hb hy)] at this
  exact this
theorem stg_ok {d : Nat → Int32} (hd : okF d) {b : Nat} (hb : b < 8) : okF (stg b d) := by
  refine ⟨fun x y hx hy => ?_, fun x hx => ?_⟩
  · have h1 := stg_int hd hb hx hy
    have h2 := hd.1 x b hx hb
    have h3 := hd.1 b y hb hy
    have h4 := hd.1 x y hx hy
    omega
  · have h1 := stg_int hd hb hx hx
    have h2 := hd.1 x b hx hb
    have h3 := hd.1 b x hb hx
    have h4 := hd.2 x hx
    omega
theorem f0_ok {T : Nat → Int32} (hT : okT T) : okF (f0 T) := by
  refine ⟨fun a b ha hb => ?_, fun a ha => ?_⟩
  · unfold f0
    split
    · decide
    · have := hT.1 (8 * a + b) (by omega)
      omega
  · unfold f0
    rw [if_pos (by omega)]
    rfl
theorem fM_ok {T : Nat → Int32} (hT : okT T) : ∀ b, b ≤ 8 → okF (fM T b)
  | 0, _ => f0_ok hT
  | b + 1, h => stg_ok (fM_ok hT b (by omega)) (by omega)
def triF (b : Nat) (d : Nat → Int32) : Prop := ∀ k x y, k < b → x < 8 → y < 8 → (d (8 * x + y)).toInt ≤ (d (8 * x + k)).toInt + (d (8 * k + y)).toInt
theorem stg_tri {d : Nat → Int32} (hd : okF d) {b : Nat} (hb : b < 8) (ht : triF b d) : triF (b + 1) (stg b d) := by
  intro k x y hk hx hy
  have k8 : k < 8 := by omega
  have xy := stg_int hd hb hx hy
  have xk := stg_int hd hb hx k8
  have ky := stg_int hd hb k8 hy
  have a1 := hd.1 x b hx hb
  have a2 := hd.1 b y hb hy
  have a3 := hd.1 b k hb k8
  have a4 := hd.1 k b k8 hb
  by_cases e : k = b
  · subst e
    have z := hd.2 k k8
    omega
  · have t1 := ht k x y (by omega) hx hy
    have t2 := ht k x b (by omega) hx hb
    have t3 := ht k b y (by omega) hb hy
    omega
theorem fM_tri {T : Nat → Int32} (hT : okT T) : ∀ b, b ≤ 8 → triF b (fM T b)
  | 0, _ => fun k x y hk => absurd hk (Nat.not_lt_zero k)
  | b + 1, h => stg_tri (fM_ok hT b (by omega)) (by omega) (fM_tri hT b (by omega))
def nhF (T d : Nat → Int32) : Prop := ∀ x y, x < 8 → y < 8 → x ≠ y → (d (8 * x + y)).toInt ≤ (T (8 * x + y)).toInt ∧ ∃ q, q < 8 ∧ ((T (8 * x + q)).toInt + (d (8 * q + y)).toInt ≤ (d (8 * x + y)).toInt ∨ 9999 ≤ (d (8 * x + y)).toInt)
theorem stg_nh {T d : Nat → Int32} (hd : okF d) {b : Nat} (hb : b < 8) (hn : nhF T d) : nhF T (stg b d) := by
  intro x y hx hy hxy
  have xy := stg_int hd hb hx hy
  obtain ⟨n1, q, q8, n2⟩ := hn x y hx hy hxy
  refine ⟨by omega, ?_⟩
  rcases xy.2.2 with e | e
  · by_cases hxb : x = b
    · subst hxb
      have z := hd.2 x hx
      refine ⟨q, q8, ?_⟩
      have qy := stg_int hd hb q8 hy
      omega
    · obtain ⟨m1, r, r8, m2⟩ := hn x b hx hb hxb
      refine ⟨r, r8, ?_⟩
      have ry := stg_int hd hb r8 hy
      have p := hd.1 b y hb hy
      omega
  · refine ⟨q, q8, ?_⟩
    have qy := stg_int hd hb q8 hy
    omega
theorem f0_nh {T : Nat → Int32} : nhF T (f0 T) := by
  intro x y hx hy hxy
  have e : f0 T (8 * x + y) = T (8 * x + y) := by
    unfold f0
    rw [if_neg (by omega)]
  have e0 : f0 T (8 * y + y) = 0 := by
    unfold f0
    rw [if_pos (by omega)]
  refine ⟨by rw [e]; exact Int.le_refl _, y, hy, Or.inl ?_⟩
  rw [e, e0]
  have : (0 : Int32).toInt = 0 := rfl
  omega
theorem fM_nh {T : Nat → Int32} (hT : okT T) : ∀ b, b ≤ 8 → nhF T (fM T b)
  | 0, _ => f0_nh
  | b + 1, h => stg_nh (fM_ok hT b (by omega)) (by omega) (fM_nh hT b (by omega))
/-- what the runs ask of the maps -/
theorem maps_ok {T : Nat → Int32} (hT : okT T) : (∀ a, a < 64 → 1 ≤ (T a).toInt ∧ (T a).toInt ≤ 9999 ∧ 0 ≤ (fM T 8 a).toInt ∧ (fM T 8 a).toInt ≤ 9999) ∧ (∀ a, a < 8 → T (8 * a + a) = 9999) ∧ ∀ a b, a < 8 → b < 8 → a ≠ b → fM T 8 (8 * a + b) < 9999 → ∃ q, q < 8 ∧ T (8 * a + q) < 9999 ∧ T (8 * a + q) + fM T 8 (8 * q + b) = fM T 8 (8 * a + b) := by
  have hF := fM_ok hT 8 (Nat.le_refl 8)
  have e9 : (9999 : Int32).toInt = 9999 := by decide
  refine ⟨fun a ha => ?_, hT.2, fun a b ha hb hab hlt => ?_⟩
  · have h1 := hT.1 a ha
    have h2 := hF.1 (a / 8) (a % 8) (by omega) (by omega)
    rw [show 8 * (a / 8) + a % 8 = a by omega] at h2
    exact ⟨h1.1, h1.2, h2.1, h2.2⟩
  · rw [i_lt, e9] at hlt
    obtain ⟨n1, q, q8, n2⟩ := fM_nh hT 8 (Nat.le_refl 8) a b ha hb hab
    have n3 := n2.resolve_right (by omega)
    have hq := hF.1 q b q8 hb
    have hTq := hT.1 (8 * a + q) (by omega)
    have hqa : a ≠ q := by
      rintro rfl
      rw [hT.2 a ha, e9] at n3
      omega
    obtain ⟨m1, -⟩ := fM_nh hT 8 (Nat.le_refl 8) a q ha q8 hqa
    have t := fM_tri hT 8 (Nat.le_refl 8) q a b q8 ha hb
    refine ⟨q, q8, ?_, ?_⟩
    · rw [i_lt, e9]
      omega
    · apply Int32.toInt_inj.mp
      rw [i_add ⟨by omega, hTq.2⟩ hq]
      omega
/-- one round of all pairs, pair by pair -/
theorem stg_in {d : Nat → Int32} (hd : okF d) {b : Nat} (hb : b < 8) {c : Nat → Int32} {i : Nat} (hi : i < 64) (hc : ∀ x, x < 64 → c x = if x < i then stg b d x else d x) : les (c (8 * (i / 8) + b) + c (8 * b + i % 8)) (c i) = stg b d i := by
  have r1 : ∀ x, x < 8 → stg b d (8 * x + b) = d (8 * x + b) := by
    intro x hx
    have h := stg_int hd hb hx hb
    have z := hd.2 b hb
    apply Int32.toInt_inj.mp
    omega
  have r2 : ∀ y, y < 8 → stg b d (8 * b + y) = d (8 * b + y) := by
    intro y hy
    have h := stg_int hd hb hb hy
    have z := hd.2 b hb
    apply Int32.toInt_inj.mp
    omega
  have c1 : c (8 * (i / 8) + b) = d (8 * (i / 8) + b) := by
    rw [hc _ (by omega)]
    split
    · exact r1 _ (by omega)
    · rfl
  have c2 : c (8 * b + i % 8) = d (8 * b + i % 8) := by
    rw [hc _ (by omega)]
    split
    · exact r2 _ (by omega)
    · rfl
  rw [c1, c2, hc i hi, if_neg (Nat.lt_irrefl i)]
  rfl
