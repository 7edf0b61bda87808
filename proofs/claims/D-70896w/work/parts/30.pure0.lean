/-! PLAIN LAW: memories, relations, the abstract run -/
theorem upd_at (f : Nat → Int32) (i : Nat) (v : Int32) (x : Nat) : upd f i v x = if x = i then v else f x := rfl
theorem mset_at (M : Mem) (k i : Nat) (v : Int32) (j x : Nat) : mset M k i v j x = if j = k ∧ x = i then v else M j x := by
  unfold mset
  by_cases h : j = k
  · subst h
    simp [upd_at]
  · simp [h]
theorem mset_eq (M : Mem) (k i : Nat) (v : Int32) : mset M k i v k i = v := by simp [mset_at]
theorem mset_ot (M : Mem) {k i : Nat} (v : Int32) {j x : Nat} (h : j ≠ k ∨ x ≠ i) : mset M k i v j x = M j x := by
  rw [mset_at, if_neg (by rintro ⟨rfl, rfl⟩; simp at h)]
/-- S told in M by a map of places -/
def relOn (loc : Nat → Nat → Nat × Nat) (D : Nat → Nat → Prop) (S M : Mem) : Prop := ∀ c i, D c i → M (loc c i).1 (loc c i).2 = S c i
def locI (loc : Nat → Nat → Nat × Nat) (D : Nat → Nat → Prop) : Prop := ∀ c i c' i', D c i → D c' i' → (loc c i).1 = (loc c' i').1 → (loc c i).2 = (loc c' i').2 → c = c' ∧ i = i'
theorem relOn.set {loc : Nat → Nat → Nat × Nat} {D : Nat → Nat → Prop} {S M : Mem} (h : relOn loc D S M) (hI : locI loc D) {c i : Nat} (hD : D c i) (v : Int32) : relOn loc D (mset S c i v) (mset M (loc c i).1 (loc c i).2 v) := by
  intro c' i' hD'
  rw [mset_at, mset_at]
  by_cases e : c' = c ∧ i' = i
  · obtain ⟨rfl, rfl⟩ := e
    simp
  · rw [if_neg e, if_neg (fun h2 => e (hI _ _ _ _ hD' hD h2.1 h2.2))]
    exact h c' i' hD'
theorem relOn.off {loc : Nat → Nat → Nat × Nat} {D : Nat → Nat → Prop} {S M : Mem} (h : relOn loc D S M) {k j : Nat} (v : Int32) (hn : ∀ c i, D c i → (loc c i).1 = k → (loc c i).2 = j → False) : relOn loc D S (mset M k j v) := by
  intro c' i' hD'
  rw [mset_at, if_neg (fun h2 => hn _ _ hD' h2.1 h2.2)]
  exact h c' i' hD'
theorem relOn.weak {loc : Nat → Nat → Nat × Nat} {D D' : Nat → Nat → Prop} {S M : Mem} (h : relOn loc D S M) (hw : ∀ c i, D' c i → D c i) : relOn loc D' S M := fun c i hD => h c i (hw c i hD)
/-- unchanged off W -/
def fr (W : Nat → Nat → Prop) (M M' : Mem) : Prop := ∀ c i, ¬ W c i → M' c i = M c i
theorem fr.refl (W : Nat → Nat → Prop) (M : Mem) : fr W M M := fun _ _ _ => rfl
theorem fr.trans {W : Nat → Nat → Prop} {M M1 M2 : Mem} (h : fr W M M1) (h1 : fr W M1 M2) : fr W M M2 := fun c i hw => (h1 c i hw).trans (h c i hw)
theorem fr.set {W : Nat → Nat → Prop} {M M1 : Mem} (h : fr W M M1) {k i : Nat} (v : Int32) (hw : W k i) : fr W M (mset M1 k i v) := by
  intro c j hn
  rw [mset_at, if_neg (by rintro ⟨rfl, rfl⟩; exact hn hw)]
  exact h c j hn
theorem fr.weak {W W' : Nat → Nat → Prop} {M M1 : Mem} (h : fr W M M1) (hw : ∀ c i, W c i → W' c i) : fr W' M M1 := fun c i hn => h c i (fun h2 => hn (hw c i h2))
def iter (f : Nat → Mem → Mem) : Nat → Mem → Mem
  | 0, S => S
  | j + 1, S => f j (iter f j S)
/-! the abstract run: E what is given (from, goal, kind, strength, load, late, steps, far, answers' hours, places, gone), S what is -/
def has1 (g : Int32) (k : Nat) : Bool := decide (((g >>> (nI k &&& 31)) &&& 1) = 1)
def an (E : Mem) (h p : Int32) : Nat → Bool
  | 0 => false
  | k + 1 => an E h p k || (decide (E 8 k = h) && decide (E 9 k = p) && !(has1 (E 10 0) k))
def nx (E : Mem) (p g : Nat) : Nat → Int32
  | 0 => -1
  | j + 1 => if nx E p g j = -1 then (if E 6 (8 * p + j) < 9999 ∧ E 6 (8 * p + j) + E 7 (8 * j + g) = E 7 (8 * p + g) then nI j else -1) else nx E p g j
def gath2 (k : Nat) (S : Mem) : Mem := if S 1 k = -1 then S else mset S 6 (ci (S 1 k)) (S 6 (ci (S 1 k)) + 1)
def gath1 (h : Int32) (k : Nat) (S : Mem) : Mem := gath2 k (if S 0 k < 2 ∧ S 4 k = h then mset (mset S 1 k (S 3 k)) 7 (ci (S 3 k)) (S 7 (ci (S 3 k)) + 1) else S)
theorem gath1_yes {h : Int32} {k : Nat} {S : Mem} (a : S 0 k < 2 ∧ S 4 k = h) : gath1 h k S = gath2 k (mset (mset S 1 k (S 3 k)) 7 (ci (S 3 k)) (S 7 (ci (S 3 k)) + 1)) := by
  unfold gath1
  rw [if_pos a]
theorem gath1_no {h : Int32} {k : Nat} {S : Mem} (a : ¬ (S 0 k < 2 ∧ S 4 k = h)) : gath1 h k S = gath2 k S := by
  unfold gath1
  rw [if_neg a]
def met1 (h : Int32) (j : Nat) (S : Mem) : Mem :=
  if ¬ S 6 (7 - j) ≤ 1 ∧ (S 8 0 = -1 ∨ S 8 0 = h) then mset (mset S 8 0 h) 8 1 (nI (7 - j)) else S
def zero1 (j : Nat) (S : Mem) : Mem := mset S 6 j 0
def gathS (n : Nat) (h : Int32) (S : Mem) : Mem := iter (met1 h) 8 (iter (gath1 h) n (iter zero1 8 S))
def told (na : Nat) (E S : Mem) (k : Nat) (h : Int32) : Bool :=
  if E 2 k = 0 then an E h (S 1 k) na else if E 2 k = 1 then (an E h (S 1 k) na || decide (¬ S 6 (ci (S 1 k)) ≤ 1)) else false
def endS (S : Mem) (k : Nat) (how h : Int32) : Mem := mset (mset (mset S 0 k how) 5 k h) 3 k (-1)
def setS (S : Mem) (k : Nat) (q t d h : Int32) : Mem := mset (mset (mset (mset (mset S 2 k (S 2 k - (t + d))) 0 k 1) 1 k (-1)) 3 k q) 4 k (h + t)
def decS (na : Nat) (E : Mem) (k : Nat) (h : Int32) (S : Mem) : Mem :=
  if S 1 k = E 1 k then endS S k 2 h
  else if told na E S k h = true then endS S k 3 h
  else if E 7 (8 * ci (S 1 k) + ci (E 1 k)) < 9999 then
    (let q := nx E (ci (S 1 k)) (ci (E 1 k)) 8
     let t := E 6 (8 * ci (S 1 k) + ci q)
     if t + E 4 k ≤ S 2 k then setS S k q t (E 4 k) h else endS S k 4 h)
  else endS S k 5 h
def dec1 (na : Nat) (E : Mem) (h : Int32) (k : Nat) (S : Mem) : Mem := if S 0 k < 2 ∧ S 4 k = h then decS na E k h S else S
def hourS (n na : Nat) (E : Mem) (h : Nat) (S : Mem) : Mem := iter (dec1 na E (nI h)) n (gathS n (nI h) S)
def beginS (E : Mem) : Mem := fun c i => if c = 0 then 0 else if c = 1 then -1 else if c = 2 then E 3 i else if c = 3 then E 0 i else if c = 4 then E 5 i else if c = 5 then -1 else if c = 7 then 0 else -1
def runS (n na : Nat) (E : Mem) (j : Nat) : Mem := iter (hourS n na E) j (beginS E)
/-- what the carters are between two hours -/
def okS (n h : Nat) (S : Mem) : Prop := ∀ k, k < n → (S 0 k < 2 → vp_in (S 3 k) 8) ∧ (¬ S 0 k < 2 → (S 4 k).toInt < h) ∧ (S 1 k = -1 ∨ vp_in (S 1 k) 8)
def okE (n : Nat) (E : Mem) : Prop := n ≤ 8 ∧ (∀ k, k < n → vp_in (E 0 k) 8 ∧ vp_in (E 1 k) 8 ∧ vp_in (E 2 k) 3) ∧ (∀ a, a < 64 → 1 ≤ (E 6 a).toInt ∧ (E 6 a).toInt ≤ 9999 ∧ 0 ≤ (E 7 a).toInt ∧ (E 7 a).toInt ≤ 9999) ∧ (∀ a, a < 8 → E 6 (8 * a + a) = 9999) ∧
  ∀ a b, a < 8 → b < 8 → a ≠ b → E 7 (8 * a + b) < 9999 → ∃ q, q < 8 ∧ E 6 (8 * a + q) < 9999 ∧ E 6 (8 * a + q) + E 7 (8 * q + b) = E 7 (8 * a + b)
theorem brT {c A B : Prop} (h : c) (a : A) : (c → A) ∧ (¬ c → B) := ⟨fun _ => a, fun n => absurd h n⟩
theorem brF {c A B : Prop} (h : ¬ c) (b : B) : (c → A) ∧ (¬ c → B) := ⟨fun n => absurd n h, fun _ => b⟩
theorem relOn.put {loc : Nat → Nat → Nat × Nat} {D D' : Nat → Nat → Prop} {S M : Mem} (h : relOn loc D S M) (hI : locI loc D') {c i : Nat} (hw : ∀ c' i', D' c' i' → D c' i' ∨ (c' = c ∧ i' = i)) (hD : D' c i) (v : Int32) : relOn loc D' (mset S c i v) (mset M (loc c i).1 (loc c i).2 v) := by
  intro c' i' hD'
  rw [mset_at, mset_at]
  by_cases e : c' = c ∧ i' = i
  · obtain ⟨rfl, rfl⟩ := e
    simp
  · rw [if_neg e, if_neg (fun h2 => e (hI _ _ _ _ hD' hD h2.1 h2.2))]
    exact h c' i' ((hw _ _ hD').resolve_right e)
theorem ci_nI {n : Nat} (h : n < 2 ^ 31) : ci (nI n) = n := nI_clamp h
theorem vpN {x : Int32} {n : Nat} (h : vp_in x n) (hn : n < 2 ^ 31) : ci x < n ∧ x = nI (ci x) := by
  obtain ⟨j, hj, rfl⟩ := vp_in_of h hn
  rw [ci_nI (Nat.lt_trans hj hn)]
  exact ⟨hj, rfl⟩
/-- the places of a run: carters' own, present (m of them told), arrivals, met -/
def Dn (n m c i : Nat) : Prop := (c < 6 ∧ i < n) ∨ (c = 6 ∧ i < m) ∨ (c = 7 ∧ i < 8) ∨ (c = 8 ∧ i < 2)
def loc6 (c i : Nat) : Nat × Nat := if c < 6 then (18 + c, i) else if c < 8 then (19 + c, i) else (0, 26 + i)
def loc0 (c i : Nat) : Nat × Nat := if c < 6 then (30 + i, 6 + c) else if c < 8 then (10 + c, i) else (0, 20 + i)
theorem loc6_I (n m : Nat) : locI loc6 (Dn n m) := by
  intro c i c' i' h h' e1 e2
  unfold Dn at h h'
  by_cases a : c < 6 <;> by_cases b : c < 8 <;> by_cases a' : c' < 6 <;> by_cases b' : c' < 8 <;> simp only [loc6, a, b, a', b', if_true, if_false] at e1 e2 <;> omega
theorem loc0_I (n m : Nat) (hn : n ≤ 8) : locI loc0 (Dn n m) := by
  intro c i c' i' h h' e1 e2
  unfold Dn at h h'
  by_cases a : c < 6 <;> by_cases b : c < 8 <;> by_cases a' : c' < 6 <;> by_cases b' : c' < 8 <;> simp only [loc0, a, b, a', b', if_true, if_false] at e1 e2 <;> omega
def W6 (c i : Nat) : Prop := (18 ≤ c ∧ c ≤ 26) ∨ (c = 0 ∧ (i = 26 ∨ i = 27))
def W6r (c i : Nat) : Prop := (18 ≤ c ∧ c ≤ 23) ∨ c = 25 ∨ c = 26 ∨ (c = 0 ∧ (i = 26 ∨ i = 27))
def W0r (c i : Nat) : Prop := (30 ≤ c ∧ c < 38 ∧ 6 ≤ i ∧ i < 12) ∨ c = 16 ∨ c = 17 ∨ (c = 0 ∧ (i = 20 ∨ i = 21))
def W0 (c i : Nat) : Prop := (30 ≤ c ∧ c < 38 ∧ 6 ≤ i ∧ i < 12) ∨ c = 16 ∨ c = 17 ∨ (60 ≤ c ∧ c < 100) ∨ (c = 0 ∧ (i = 20 ∨ i = 21))
theorem iter_succ (f : Nat → Mem → Mem) (j : Nat) (S : Mem) : iter f (j + 1) S = f j (iter f j S) := rfl
theorem iter_zero (f : Nat → Mem → Mem) (S : Mem) : iter f 0 S = S := rfl
theorem mset_comm (M : Mem) {k i k' i' : Nat} (v v' : Int32) (h : k ≠ k' ∨ i ≠ i') : mset (mset M k i v) k' i' v' = mset (mset M k' i' v') k i v := by
  funext c x
  simp only [mset_at]
  by_cases a : c = k' ∧ x = i'
  · rw [if_pos a, if_neg (by rintro ⟨rfl, rfl⟩; omega), if_pos a]
  · rw [if_neg a, if_neg a]
theorem mset_self (M : Mem) (k i : Nat) : mset M k i (M k i) = M := by
  funext c x
  rw [mset_at]
  split
  · rename_i q; rw [q.1, q.2]
  · rfl
