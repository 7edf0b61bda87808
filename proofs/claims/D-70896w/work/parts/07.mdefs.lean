/-! the reference: what each method asks, out of its bytecode; printed by gen.py -/
/-! in -/
def w6_in_b18 (Q : Int32 → Prop)  (s0 : Int32) : Prop := Q s0
def w6_in_b17 (Q : Int32 → Prop)   : Prop := w6_in_b18 Q 0
def w6_in_z (v0 : Int64) (v2 : Int64) (v4 : Int64) (Q : Int32 → Prop) : Prop := (((lg_cmp v0 v2) < 0 → w6_in_b17 Q ) ∧ (¬ (lg_cmp v0 v2) < 0 → ((0 < (lg_cmp v0 v4) → w6_in_b17 Q ) ∧ (¬ 0 < (lg_cmp v0 v4) → w6_in_b18 Q 1))))
def w6_in (v0 : Int64) (v2 : Int64) (v4 : Int64) (Q : Int32 → Prop) : Prop := w6_in_z v0 v2 v4 (fun r => isB r ∧ Q r)
/-! isSheet -/
def w6_isSheet_z (v0 : Int32) (Q : Int32 → Prop) : Prop := w6_in (Int32.toInt64 v0) 0 3 (fun r1 => Q r1)
def w6_isSheet (v0 : Int32) (Q : Int32 → Prop) : Prop := w6_isSheet_z v0 (fun r => isB r ∧ Q r)
/-! finds -/
def w6_finds (v1 : Int32) (M : Mem) (Q : Int32 → Mem → Prop) : Prop := ∀ M1, M1 = mset M 0 4 v1 → Q ((-10) - v1) M1
/-! sheet -/
def w6_sheet_b55_f (Q : Int32 → Mem → Prop) (K55 : Int32 → Int32 → Int32 → Mem → Prop) (v1 : Int32) (v3 : Int32) (v4 : Int32) (M : Mem) : Prop := ((v3 ≤ v4 → Q v3 M) ∧ (¬ v3 ≤ v4 → vp_in ((60 * v1) + v4) 240 ∧ ∀ M2, M2 = mset M 3 (ci ((60 * v1) + v4)) 0 → K55 v1 v3 (v4 + 1) M2))
def w6_sheet_b55 (Q : Int32 → Mem → Prop)  : Nat → Int32 → Int32 → Int32 → Mem → Prop
  | 0 => fun _ _ _ _ => False
  | n + 1 => w6_sheet_b55_f Q (w6_sheet_b55 Q n)
def w6_sheet_b25 (Q : Int32 → Mem → Prop)   (M : Mem) : Prop := Q (-2) M
def w6_sheet (v1 : Int32) (v2 : Int32) (v3 : Int32) (M : Mem) (Q : Int32 → Mem → Prop) : Prop := w6_isSheet v1 (fun r3 => ((r3 = 0 → w6_sheet_b25 Q M) ∧ (¬ r3 = 0 → w6_in (Int32.toInt64 v2) 0 2 (fun r4 => ((r4 = 0 → w6_sheet_b25 Q M) ∧ (¬ r4 = 0 → ((v3 ≤ 60 → ((0 ≤ v3 → vp_in v1 4 ∧ ∀ M6, M6 = mset M 1 (ci v1) v2 → ∀ M7, M7 = mset M6 2 (ci v1) v3 → ∃ n, w6_sheet_b55 Q n v1 v3 0 M7) ∧ (¬ 0 ≤ v3 → w6_finds 5 M (fun r8 M9 => Q r8 M9)))) ∧ (¬ v3 ≤ 60 → w6_sheet_b25 Q M))))))))
/-! lose -/
def w6_lose (v1 : Int32) (M : Mem) (Q : Int32 → Mem → Prop) : Prop := w6_isSheet v1 (fun r1 => ((r1 = 0 → Q (-2) M) ∧ (¬ r1 = 0 → vp_in v1 4 ∧ ((0 ≤ (M 1 (ci v1)) → ∀ M3, M3 = mset M 1 (ci v1) (-1) → Q (M3 2 (ci v1)) M3) ∧ (¬ 0 ≤ (M 1 (ci v1)) → w6_finds 1 M (fun r4 M5 => Q r4 M5))))))
/-! lacks -/
def w6_lacks_b58 (Q : Int32 → Mem → Prop)  (s0 : Int32) (M : Mem) : Prop := Q s0 M
def w6_lacks (v1 : Int32) (v2 : Int32) (v3 : Int32) (M : Mem) (Q : Int32 → Mem → Prop) : Prop := vp_in v1 4 ∧ ((0 ≤ (M 1 (ci v1)) → (((M 1 (ci v1)) = v2 → w6_in (Int32.toInt64 v3) 0 (Int32.toInt64 ((M 2 (ci v1)) - 1)) (fun r2 => ((r2 = 0 → w6_finds 2 M (fun r3 M4 => w6_lacks_b58 Q r3 M4)) ∧ (¬ r2 = 0 → w6_lacks_b58 Q 0 M)))) ∧ (¬ (M 1 (ci v1)) = v2 → w6_finds 3 M (fun r5 M6 => Q r5 M6)))) ∧ (¬ 0 ≤ (M 1 (ci v1)) → w6_finds 1 M (fun r7 M8 => Q r7 M8)))
/-! cut -/
def w6_cut_b20 (Q : Int32 → Prop)  (s0 : Int32) : Prop := Q s0
def w6_cut (v0 : Int32) (v1 : Int32) (Q : Int32 → Prop) : Prop := ((v0 = 0 → w6_cut_b20 Q ((Int32.toInt8 v1).toInt32)) ∧ (¬ v0 = 0 → ((v0 = 1 → w6_cut_b20 Q ((Int32.toInt16 v1).toInt32)) ∧ (¬ v0 = 1 → w6_cut_b20 Q v1))))
/-! lay -/
def w6_lay_b19 (Q : Int32 → Mem → Prop)   (M : Mem) : Prop := Q (-2) M
def w6_lay (v1 : Int32) (v2 : Int32) (v3 : Int32) (v4 : Int32) (M : Mem) (Q : Int32 → Mem → Prop) : Prop := w6_isSheet v1 (fun r1 => ((r1 = 0 → w6_lay_b19 Q M) ∧ (¬ r1 = 0 → w6_in (Int32.toInt64 v2) 0 2 (fun r2 => ((r2 = 0 → w6_lay_b19 Q M) ∧ (¬ r2 = 0 → w6_lacks v1 v2 v3 M (fun r3 M4 => ((r3 = 0 → w6_cut v2 v4 (fun r5 => vp_in ((60 * v1) + v3) 240 ∧ ∀ M7, M7 = mset M4 3 (ci ((60 * v1) + v3)) r5 → Q 1 M7)) ∧ (¬ r3 = 0 → Q r3 M4)))))))))
/-! get -/
def w6_get_b29 (Q : Int32 → Mem → Prop)   (M : Mem) : Prop := Q (-2147483648) M
def w6_get (v1 : Int32) (v2 : Int32) (v3 : Int32) (M : Mem) (Q : Int32 → Mem → Prop) : Prop := w6_isSheet v1 (fun r1 => ((r1 = 0 → w6_get_b29 Q M) ∧ (¬ r1 = 0 → w6_in (Int32.toInt64 v2) 0 2 (fun r2 => ((r2 = 0 → w6_get_b29 Q M) ∧ (¬ r2 = 0 → w6_lacks v1 v2 v3 M (fun r3 M4 => ((r3 = 0 → vp_in ((60 * v1) + v3) 240 ∧ Q (M4 3 (ci ((60 * v1) + v3))) M4) ∧ (¬ r3 = 0 → w6_get_b29 Q M4)))))))))
/-! copy -/
def w6_copy_b157_f (Q : Int32 → Mem → Prop) (K157 : Int32 → Int32 → Int32 → Int32 → Mem → Prop) (v3 : Int32) (v4 : Int32) (v5 : Int32) (v6 : Int32) (M : Mem) : Prop := ((v5 ≤ v6 → Q 1 M) ∧ (¬ v5 ≤ v6 → vp_in v6 60 ∧ vp_in (((60 * v3) + v4) + v6) 240 ∧ ∀ M3, M3 = mset M 3 (ci (((60 * v3) + v4) + v6)) (M 4 (ci v6)) → K157 v3 v4 v5 (v6 + 1) M3))
def w6_copy_b157 (Q : Int32 → Mem → Prop)  : Nat → Int32 → Int32 → Int32 → Int32 → Mem → Prop
  | 0 => fun _ _ _ _ _ => False
  | n + 1 => w6_copy_b157_f Q (w6_copy_b157 Q n)
def w6_copy_b120_f (Q : Int32 → Mem → Prop) (K120 : Int32 → Int32 → Int32 → Int32 → Int32 → Int32 → Mem → Prop) (v1 : Int32) (v2 : Int32) (v3 : Int32) (v4 : Int32) (v5 : Int32) (v6 : Int32) (M : Mem) : Prop := ((v5 ≤ v6 → ∃ n, w6_copy_b157 Q n v3 v4 v5 0 M) ∧ (¬ v5 ≤ v6 → vp_in (((60 * v1) + v2) + v6) 240 ∧ vp_in v6 60 ∧ ∀ M6, M6 = mset M 4 (ci v6) (M 3 (ci (((60 * v1) + v2) + v6))) → K120 v1 v2 v3 v4 v5 (v6 + 1) M6))
def w6_copy_b120 (Q : Int32 → Mem → Prop)  : Nat → Int32 → Int32 → Int32 → Int32 → Int32 → Int32 → Mem → Prop
  | 0 => fun _ _ _ _ _ _ _ => False
  | n + 1 => w6_copy_b120_f Q (w6_copy_b120 Q n)
def w6_copy_b111 (Q : Int32 → Mem → Prop)   (M : Mem) : Prop := w6_finds 2 M (fun r7 M8 => Q r7 M8)
def w6_copy_b35 (Q : Int32 → Mem → Prop)   (M : Mem) : Prop := w6_finds 1 M (fun r9 M10 => Q r9 M10)
def w6_copy_b14 (Q : Int32 → Mem → Prop)   (M : Mem) : Prop := Q (-2) M
def w6_copy (v1 : Int32) (v2 : Int32) (v3 : Int32) (v4 : Int32) (v5 : Int32) (M : Mem) (Q : Int32 → Mem → Prop) : Prop := w6_isSheet v1 (fun r11 => ((r11 = 0 → w6_copy_b14 Q M) ∧ (¬ r11 = 0 → w6_isSheet v3 (fun r12 => ((r12 = 0 → w6_copy_b14 Q M) ∧ (¬ r12 = 0 → vp_in v1 4 ∧ (((M 1 (ci v1)) < 0 → w6_copy_b35 Q M) ∧ (¬ (M 1 (ci v1)) < 0 → vp_in v3 4 ∧ ((0 ≤ (M 1 (ci v3)) → (((M 1 (ci v1)) = (M 1 (ci v3)) → ((v2 < 0 → w6_copy_b111 Q M) ∧ (¬ v2 < 0 → ((v4 < 0 → w6_copy_b111 Q M) ∧ (¬ v4 < 0 → ((v5 < 0 → w6_copy_b111 Q M) ∧ (¬ v5 < 0 → ((0 < (lg_cmp ((Int32.toInt64 v2) + (Int32.toInt64 v5)) (Int32.toInt64 (M 2 (ci v1)))) → w6_copy_b111 Q M) ∧ (¬ 0 < (lg_cmp ((Int32.toInt64 v2) + (Int32.toInt64 v5)) (Int32.toInt64 (M 2 (ci v1)))) → (((lg_cmp ((Int32.toInt64 v4) + (Int32.toInt64 v5)) (Int32.toInt64 (M 2 (ci v3)))) ≤ 0 → ∃ n, w6_copy_b120 Q n v1 v2 v3 v4 v5 0 M) ∧ (¬ (lg_cmp ((Int32.toInt64 v4) + (Int32.toInt64 v5)) (Int32.toInt64 (M 2 (ci v3)))) ≤ 0 → w6_copy_b111 Q M))))))))))) ∧ (¬ (M 1 (ci v1)) = (M 1 (ci v3)) → w6_finds 4 M (fun r15 M16 => Q r15 M16)))) ∧ (¬ 0 ≤ (M 1 (ci v3)) → w6_copy_b35 Q M))))))))))
/-! isTwo -/
def w6_isTwo_z (v0 : Int32) (Q : Int32 → Prop) : Prop := w6_in (Int32.toInt64 v0) 0 1 (fun r1 => Q r1)
def w6_isTwo (v0 : Int32) (Q : Int32 → Prop) : Prop := w6_isTwo_z v0 (fun r => isB r ∧ Q r)
/-! type -/
def w6_type_b39 (Q : Int32 → Mem → Prop)  (v1 : Int32) (v2 : Int32) (s0 : Int32) (s1 : Int32) (M : Mem) : Prop := ((s0 = s1 → Q (-4) M) ∧ (¬ s0 = s1 → vp_in v1 2 ∧ vp_in ((56 * v1) + (M 7 (ci v1))) 112 ∧ ∀ M3, M3 = mset M 6 (ci ((56 * v1) + (M 7 (ci v1)))) v2 → ∀ M4, M4 = mset M3 7 (ci v1) ((M3 7 (ci v1)) + 1) → Q (M4 7 (ci v1)) M4))
def w6_type_b19 (Q : Int32 → Mem → Prop)   (M : Mem) : Prop := Q (-2) M
def w6_type (v1 : Int32) (v2 : Int32) (M : Mem) (Q : Int32 → Mem → Prop) : Prop := w6_isTwo v1 (fun r5 => ((r5 = 0 → w6_type_b19 Q M) ∧ (¬ r5 = 0 → w6_in (Int32.toInt64 v2) 0 255 (fun r6 => ((r6 = 0 → w6_type_b19 Q M) ∧ (¬ r6 = 0 → vp_in v1 2 ∧ ((v1 = 0 → w6_type_b39 Q v1 v2 (M 7 (ci v1)) 49 M) ∧ (¬ v1 = 0 → w6_type_b39 Q v1 v2 (M 7 (ci v1)) 55 M))))))))
/-! wipe -/
def w6_wipe (v1 : Int32) (M : Mem) (Q : Int32 → Mem → Prop) : Prop := w6_isTwo v1 (fun r1 => ((r1 = 0 → Q (-2) M) ∧ (¬ r1 = 0 → vp_in v1 2 ∧ ∀ M3, M3 = mset M 7 (ci v1) 0 → Q (M 7 (ci v1)) M3)))
/-! undo -/
def w6_undo (v1 : Int32) (M : Mem) (Q : Int32 → Mem → Prop) : Prop := w6_isTwo v1 (fun r1 => ((r1 = 0 → Q (-2) M) ∧ (¬ r1 = 0 → vp_in v1 2 ∧ (((M 7 (ci v1)) = 0 → Q (-3) M) ∧ (¬ (M 7 (ci v1)) = 0 → ∀ M3, M3 = mset M 7 (ci v1) ((M 7 (ci v1)) - 1) → Q (M3 7 (ci v1)) M3)))))
/-! placeOf -/
def w6_placeOf_b23 (Q : Int32 → Prop)  (s0 : Int32) : Prop := Q s0
def w6_placeOf (v0 : Int32) (Q : Int32 → Prop) : Prop := w6_in (Int32.toInt64 v0) 97 104 (fun r1 => ((r1 = 0 → w6_placeOf_b23 Q (-9)) ∧ (¬ r1 = 0 → w6_placeOf_b23 Q (v0 - 97))))
/-! figureOf -/
def w6_figureOf_b25 (Q : Int32 → Prop)  (s0 : Int32) : Prop := Q s0
def w6_figureOf (v0 : Int32) (v1 : Int32) (Q : Int32 → Prop) : Prop := w6_in (Int32.toInt64 v0) (Int32.toInt64 (48 + v1)) 57 (fun r1 => ((r1 = 0 → w6_figureOf_b25 Q (-9)) ∧ (¬ r1 = 0 → w6_figureOf_b25 Q (v0 - 48))))
/-! wayOf -/
def w6_wayOf_b106 (Q : Int32 → Prop)  (s0 : Int32) : Prop := Q s0
def w6_wayOf_b93 (Q : Int32 → Prop)  (s0 : Int32) : Prop := Q s0
def w6_wayOf_b54 (Q : Int32 → Prop)  (s0 : Int32) : Prop := Q s0
def w6_wayOf (v0 : Int32) (v1 : Int32) (v2 : Int32) (Q : Int32 → Prop) : Prop := ((v0 = 0 → w6_placeOf v1 (fun r1 => Q r1)) ∧ (¬ v0 = 0 → ((v0 = 1 → w6_placeOf v1 (fun r2 => ((r2 = v2 → w6_wayOf_b54 Q (-9)) ∧ (¬ r2 = v2 → w6_placeOf v1 (fun r3 => w6_wayOf_b54 Q r3))))) ∧ (¬ v0 = 1 → ((v0 = 2 → w6_figureOf v1 1 (fun r4 => Q r4)) ∧ (¬ v0 = 2 → ((v0 = 3 → ((v1 = 117 → w6_wayOf_b93 Q 0) ∧ (¬ v1 = 117 → ((v1 = 102 → w6_wayOf_b93 Q 1) ∧ (¬ v1 = 102 → ((v1 = 100 → w6_wayOf_b93 Q 2) ∧ (¬ v1 = 100 → w6_wayOf_b93 Q (-9)))))))) ∧ (¬ v0 = 3 → (((v1 = 59 → w6_wayOf_b106 Q 0) ∧ (¬ v1 = 59 → w6_wayOf_b106 Q (-9))))))))))))
/-! readsWays -/
def w6_readsWays_b131 (Q : Int32 → Mem → Prop)   (M : Mem) : Prop := Q (-1) M
def w6_readsWays_b103 (Q : Int32 → Mem → Prop) (K14 : Int32 → Int32 → Mem → Prop) (v1 : Int32) (v2 : Int32) (s1 : Int32) (s2 : Int32) (M : Mem) : Prop := ∀ M1, M1 = mset M 0 7 (s1 + s2) → K14 v1 (v2 + 1) M1
def w6_readsWays_b88 (Q : Int32 → Mem → Prop) (K14 : Int32 → Int32 → Mem → Prop) (v1 : Int32) (v2 : Int32) (v3 : Int32) (M : Mem) : Prop := ((v3 = 3 → w6_readsWays_b103 Q K14 v1 v2 (M 0 7) 1 M) ∧ (¬ v3 = 3 → w6_readsWays_b103 Q K14 v1 v2 (M 0 7) 0 M))
def w6_readsWays_b53 (Q : Int32 → Mem → Prop) (K14 : Int32 → Int32 → Mem → Prop) (v1 : Int32) (v2 : Int32) (v3 : Int32) (v4 : Int32) (s0 : Int32) (s1 : Int32) (s2 : Int32) (M : Mem) : Prop := w6_wayOf s0 s1 s2 (fun r2 => ((r2 = (-9) → ∀ M3, M3 = mset M 0 7 0 → Q v2 M3) ∧ (¬ r2 = (-9) → ((4 ≤ v3 → w6_readsWays_b88 Q K14 v1 v2 v3 M) ∧ (¬ 4 ≤ v3 → vp_in (v4 + v3) 40 ∧ ∀ M5, M5 = mset M 9 (ci (v4 + v3)) r2 → w6_readsWays_b88 Q K14 v1 v2 v3 M5)))))
def w6_readsWays_b14_f (Q : Int32 → Mem → Prop) (K14 : Int32 → Int32 → Mem → Prop) (v1 : Int32) (v2 : Int32) (M : Mem) : Prop := ((v1 ≤ v2 → ((v1 ≤ 0 → w6_readsWays_b131 Q M) ∧ (¬ v1 ≤ 0 → (((v1 - v1 / 5 * 5) = 4 → w6_readsWays_b131 Q M) ∧ (¬ (v1 - v1 / 5 * 5) = 4 → ∀ M6, M6 = mset M 0 7 0 → Q v1 M6))))) ∧ (¬ v1 ≤ v2 → vp_in v2 112 ∧ (((v2 - v2 / 5 * 5) = 1 → vp_in (4 * (v2 / 5)) 40 ∧ w6_readsWays_b53 Q K14 v1 v2 (v2 - v2 / 5 * 5) (4 * (v2 / 5)) (v2 - v2 / 5 * 5) (M 6 (ci v2)) (M 9 (ci (4 * (v2 / 5)))) M) ∧ (¬ (v2 - v2 / 5 * 5) = 1 → w6_readsWays_b53 Q K14 v1 v2 (v2 - v2 / 5 * 5) (4 * (v2 / 5)) (v2 - v2 / 5 * 5) (M 6 (ci v2)) (-1) M))))
def w6_readsWays_b14 (Q : Int32 → Mem → Prop)  : Nat → Int32 → Int32 → Mem → Prop
  | 0 => fun _ _ _ => False
  | n + 1 => w6_readsWays_b14_f Q (w6_readsWays_b14 Q n)
def w6_readsWays  (M : Mem) (Q : Int32 → Mem → Prop) : Prop := ∀ M9, M9 = mset M 0 7 0 → vp_in 0 2 ∧ ∃ n, w6_readsWays_b14 Q n (M9 7 (ci 0)) 0 M9
/-! carterOf -/
def w6_carterOf_b96 (Q : Int32 → Prop)  (s0 : Int32) : Prop := Q s0
def w6_carterOf_b78 (Q : Int32 → Prop)  (v1 : Int32) : Prop := w6_figureOf v1 0 (fun r1 => Q r1)
def w6_carterOf_b77 (Q : Int32 → Prop)  (s0 : Int32) : Prop := Q s0
def w6_carterOf_b40 (Q : Int32 → Prop)  (v1 : Int32) : Prop := w6_placeOf v1 (fun r2 => Q r2)
def w6_carterOf (v0 : Int32) (v1 : Int32) (Q : Int32 → Prop) : Prop := ((v0 = 0 → w6_carterOf_b40 Q v1) ∧ (¬ v0 = 0 → ((v0 = 1 → w6_carterOf_b40 Q v1) ∧ (¬ v0 = 1 → ((v0 = 2 → ((v1 = 111 → w6_carterOf_b77 Q 0) ∧ (¬ v1 = 111 → ((v1 = 99 → w6_carterOf_b77 Q 1) ∧ (¬ v1 = 99 → ((v1 = 114 → w6_carterOf_b77 Q 2) ∧ (¬ v1 = 114 → w6_carterOf_b77 Q (-9)))))))) ∧ (¬ v0 = 2 → ((v0 = 3 → w6_carterOf_b78 Q v1) ∧ (¬ v0 = 3 → ((v0 = 4 → w6_carterOf_b78 Q v1) ∧ (¬ v0 = 4 → ((v0 = 5 → w6_carterOf_b78 Q v1) ∧ (¬ v0 = 5 → (((v1 = 59 → w6_carterOf_b96 Q 0) ∧ (¬ v1 = 59 → w6_carterOf_b96 Q (-9))))))))))))))))
/-! readsCarters -/
def w6_readsCarters_b176 (Q : Int32 → Mem → Prop)   (M : Mem) : Prop := Q (-1) M
def w6_readsCarters_b150 (Q : Int32 → Mem → Prop) (K14 : Int32 → Int32 → Mem → Prop) (v1 : Int32) (v2 : Int32) (M : Mem) : Prop := K14 v1 (v2 + 1) M
def w6_readsCarters_b14_f (Q : Int32 → Mem → Prop) (K14 : Int32 → Int32 → Mem → Prop) (v1 : Int32) (v2 : Int32) (M : Mem) : Prop := ((v1 ≤ v2 → ((v1 ≤ 0 → w6_readsCarters_b176 Q M) ∧ (¬ v1 ≤ 0 → (((v1 - v1 / 7 * 7) = 6 → w6_readsCarters_b176 Q M) ∧ (¬ (v1 - v1 / 7 * 7) = 6 → ∀ M1, M1 = mset M 0 9 0 → Q v1 M1))))) ∧ (¬ v1 ≤ v2 → vp_in (56 + v2) 112 ∧ w6_carterOf (v2 - v2 / 7 * 7) (M 6 (ci (56 + v2))) (fun r3 => ((r3 = (-9) → ∀ M4, M4 = mset M 0 9 0 → Q v2 M4) ∧ (¬ r3 = (-9) → ((3 ≤ (v2 - v2 / 7 * 7) → (((v2 - v2 / 7 * 7) = 3 → vp_in ((5 * (v2 / 7)) + 3) 40 ∧ ∀ M6, M6 = mset M 11 (ci ((5 * (v2 / 7)) + 3)) (10 * r3) → w6_readsCarters_b150 Q K14 v1 v2 M6) ∧ (¬ (v2 - v2 / 7 * 7) = 3 → (((v2 - v2 / 7 * 7) = 4 → vp_in ((5 * (v2 / 7)) + 3) 40 ∧ ∀ M8, M8 = mset M 11 (ci ((5 * (v2 / 7)) + 3)) ((M 11 (ci ((5 * (v2 / 7)) + 3))) + r3) → w6_readsCarters_b150 Q K14 v1 v2 M8) ∧ (¬ (v2 - v2 / 7 * 7) = 4 → (((v2 - v2 / 7 * 7) = 5 → vp_in ((5 * (v2 / 7)) + 4) 40 ∧ ∀ M10, M10 = mset M 11 (ci ((5 * (v2 / 7)) + 4)) r3 → ∀ M11, M11 = mset M10 0 9 ((M10 0 9) + 1) → w6_readsCarters_b150 Q K14 v1 v2 M11) ∧ (¬ (v2 - v2 / 7 * 7) = 5 → w6_readsCarters_b150 Q K14 v1 v2 M))))))) ∧ (¬ 3 ≤ (v2 - v2 / 7 * 7) → vp_in ((5 * (v2 / 7)) + (v2 - v2 / 7 * 7)) 40 ∧ ∀ M13, M13 = mset M 11 (ci ((5 * (v2 / 7)) + (v2 - v2 / 7 * 7))) r3 → w6_readsCarters_b150 Q K14 v1 v2 M13)))))))
def w6_readsCarters_b14 (Q : Int32 → Mem → Prop)  : Nat → Int32 → Int32 → Mem → Prop
  | 0 => fun _ _ _ => False
  | n + 1 => w6_readsCarters_b14_f Q (w6_readsCarters_b14 Q n)
def w6_readsCarters  (M : Mem) (Q : Int32 → Mem → Prop) : Prop := ∀ M14, M14 = mset M 0 9 0 → vp_in 1 2 ∧ ∃ n, w6_readsCarters_b14 Q n (M14 7 (ci 1)) 0 M14
/-! readsText -/
def w6_readsText_b15 (Q : Int32 → Mem → Prop)  (s0 : Int32) (M : Mem) : Prop := Q s0 M
def w6_readsText (v1 : Int32) (M : Mem) (Q : Int32 → Mem → Prop) : Prop := ((v1 = 0 → w6_readsWays M (fun r1 M2 => w6_readsText_b15 Q r1 M2)) ∧ (¬ v1 = 0 → w6_readsCarters M (fun r3 M4 => w6_readsText_b15 Q r3 M4)))
/-! fault -/
def w6_fault_b17 (Q : Int32 → Mem → Prop)  (s0 : Int32) (M : Mem) : Prop := Q s0 M
def w6_fault (v1 : Int32) (M : Mem) (Q : Int32 → Mem → Prop) : Prop := w6_isTwo v1 (fun r1 => ((r1 = 0 → w6_fault_b17 Q (-2) M) ∧ (¬ r1 = 0 → w6_readsText v1 M (fun r2 M3 => w6_fault_b17 Q r2 M3))))
/-! way -/
def w6_way_b48 (Q : Int32 → Mem → Prop)  (s0 : Int32) (M : Mem) : Prop := Q s0 M
def w6_way_b46 (Q : Int32 → Mem → Prop)   (M : Mem) : Prop := w6_way_b48 Q (-2) M
def w6_way (v1 : Int32) (v2 : Int32) (M : Mem) (Q : Int32 → Mem → Prop) : Prop := w6_readsWays M (fun r1 M2 => w6_in (Int32.toInt64 v1) 0 (Int32.toInt64 ((M2 0 7) - 1)) (fun r3 => ((r3 = 0 → w6_way_b46 Q M2) ∧ (¬ r3 = 0 → w6_in (Int32.toInt64 v2) 0 3 (fun r4 => ((r4 = 0 → w6_way_b46 Q M2) ∧ (¬ r4 = 0 → vp_in ((4 * v1) + v2) 40 ∧ w6_way_b48 Q (M2 9 (ci ((4 * v1) + v2))) M2)))))))
/-! isCarter -/
def w6_isCarter_z (v1 : Int32) (M : Mem) (Q : Int32 → Mem → Prop) : Prop := w6_in (Int32.toInt64 v1) 0 (Int32.toInt64 ((M 0 9) - 1)) (fun r1 => Q r1 M)
def w6_isCarter (v1 : Int32) (M : Mem) (Q : Int32 → Mem → Prop) : Prop := w6_isCarter_z v1 M (fun r M1 => isB r ∧ Q r M1)
/-! carter -/
def w6_carter_b40 (Q : Int32 → Mem → Prop)  (s0 : Int32) (M : Mem) : Prop := Q s0 M
def w6_carter_b38 (Q : Int32 → Mem → Prop)   (M : Mem) : Prop := w6_carter_b40 Q (-2) M
def w6_carter (v1 : Int32) (v2 : Int32) (M : Mem) (Q : Int32 → Mem → Prop) : Prop := w6_readsCarters M (fun r1 M2 => w6_isCarter v1 M2 (fun r3 M4 => ((r3 = 0 → w6_carter_b38 Q M4) ∧ (¬ r3 = 0 → w6_in (Int32.toInt64 v2) 0 4 (fun r5 => ((r5 = 0 → w6_carter_b38 Q M4) ∧ (¬ r5 = 0 → vp_in ((5 * v1) + v2) 40 ∧ w6_carter_b40 Q (M4 11 (ci ((5 * v1) + v2))) M4)))))))
/-! late -/
def w6_late_b24 (Q : Int32 → Mem → Prop)   (M : Mem) : Prop := Q (-2) M
def w6_late (v1 : Int32) (v2 : Int32) (M : Mem) (Q : Int32 → Mem → Prop) : Prop := w6_in (Int32.toInt64 v1) 0 7 (fun r1 => ((r1 = 0 → w6_late_b24 Q M) ∧ (¬ r1 = 0 → w6_in (Int32.toInt64 v2) 0 9 (fun r2 => ((r2 = 0 → w6_late_b24 Q M) ∧ (¬ r2 = 0 → vp_in v1 8 ∧ ∀ M4, M4 = mset M 12 (ci v1) v2 → Q (M 12 (ci v1)) M4))))))
/-! isHour -/
def w6_isHour_z (v0 : Int32) (Q : Int32 → Prop) : Prop := w6_in (Int32.toInt64 v0) 0 39 (fun r1 => Q r1)
def w6_isHour (v0 : Int32) (Q : Int32 → Prop) : Prop := w6_isHour_z v0 (fun r => isB r ∧ Q r)
/-! isPlace -/
def w6_isPlace_z (v0 : Int32) (Q : Int32 → Prop) : Prop := w6_in (Int32.toInt64 v0) 0 7 (fun r1 => Q r1)
def w6_isPlace (v0 : Int32) (Q : Int32 → Prop) : Prop := w6_isPlace_z v0 (fun r => isB r ∧ Q r)
/-! answer -/
def w6_answer_b14 (Q : Int32 → Mem → Prop)   (M : Mem) : Prop := Q (-2) M
def w6_answer (v1 : Int32) (v2 : Int32) (M : Mem) (Q : Int32 → Mem → Prop) : Prop := w6_isHour v1 (fun r1 => ((r1 = 0 → w6_answer_b14 Q M) ∧ (¬ r1 = 0 → w6_isPlace v2 (fun r2 => ((r2 = 0 → w6_answer_b14 Q M) ∧ (¬ r2 = 0 → (((M 0 12) = 8 → Q (-4) M) ∧ (¬ (M 0 12) = 8 → vp_in (2 * (M 0 12)) 16 ∧ ∀ M4, M4 = mset M 14 (ci (2 * (M 0 12))) v1 → vp_in ((2 * (M4 0 12)) + 1) 16 ∧ ∀ M6, M6 = mset M4 14 (ci ((2 * (M4 0 12)) + 1)) v2 → ∀ M7, M7 = mset M6 0 12 ((M6 0 12) + 1) → Q (M7 0 12) M7))))))))
/-! back -/
def w6_back  (M : Mem) (Q : Int32 → Mem → Prop) : Prop := (((M 0 12) = 0 → Q (-3) M) ∧ (¬ (M 0 12) = 0 → ∀ M1, M1 = mset M 0 12 ((M 0 12) - 1) → Q (M1 0 12) M1))
/-! read -/
def w6_read_b103 (Q : Int32 → Mem → Prop)  (v2 : Int32) (M : Mem) : Prop := Q v2 M
def w6_read_b98 (Q : Int32 → Mem → Prop) (K29 : Int32 → Int32 → Int32 → Mem → Prop) (v1 : Int32) (v3 : Int32) (s0 : Int32) (s1 : Int32) (M : Mem) : Prop := K29 v1 (s0 + s1) v3 M
def w6_read_b87 (Q : Int32 → Mem → Prop) (K29 : Int32 → Int32 → Int32 → Mem → Prop) (v1 : Int32) (v2 : Int32) (s0 : Int32) (M : Mem) : Prop := ((s0 = 0 → w6_read_b98 Q K29 v1 s0 v2 0 M) ∧ (¬ s0 = 0 → w6_read_b98 Q K29 v1 s0 v2 1 M))
def w6_read_b29_f (Q : Int32 → Mem → Prop) (K29 : Int32 → Int32 → Int32 → Mem → Prop) (v1 : Int32) (v2 : Int32) (v3 : Int32) (M : Mem) : Prop := ((v3 = 0 → w6_read_b103 Q v2 M) ∧ (¬ v3 = 0 → vp_in v1 4 ∧ (((M 2 (ci v1)) < ((2 * v2) + 2) → w6_read_b103 Q v2 M) ∧ (¬ (M 2 (ci v1)) < ((2 * v2) + 2) → vp_in ((60 * v1) + (2 * v2)) 240 ∧ vp_in (((60 * v1) + (2 * v2)) + 1) 240 ∧ w6_answer (M 3 (ci ((60 * v1) + (2 * v2)))) (M 3 (ci (((60 * v1) + (2 * v2)) + 1))) M (fun r4 M5 => ((r4 < 0 → w6_read_b87 Q K29 v1 v2 0 M5) ∧ (¬ r4 < 0 → w6_read_b87 Q K29 v1 v2 1 M5)))))))
def w6_read_b29 (Q : Int32 → Mem → Prop)  : Nat → Int32 → Int32 → Int32 → Mem → Prop
  | 0 => fun _ _ _ _ => False
  | n + 1 => w6_read_b29_f Q (w6_read_b29 Q n)
def w6_read (v1 : Int32) (M : Mem) (Q : Int32 → Mem → Prop) : Prop := w6_isSheet v1 (fun r6 => ((r6 = 0 → Q (-2) M) ∧ (¬ r6 = 0 → vp_in v1 4 ∧ ((0 ≤ (M 1 (ci v1)) → ∃ n, w6_read_b29 Q n v1 0 1 M) ∧ (¬ 0 ≤ (M 1 (ci v1)) → w6_finds 1 M (fun r8 M9 => Q r8 M9))))))
/-! lesser -/
def w6_lesser_b10 (Q : Int32 → Prop)  (s0 : Int32) : Prop := Q s0
def w6_lesser (v0 : Int32) (v1 : Int32) (Q : Int32 → Prop) : Prop := ((v1 ≤ v0 → w6_lesser_b10 Q v1) ∧ (¬ v1 ≤ v0 → w6_lesser_b10 Q v0))
/-! maps -/
def w6_maps_b214_f (Q : Mem → Prop) (K206 : Int32 → Mem → Prop) (K214 : Int32 → Int32 → Mem → Prop) (v1 : Int32) (v2 : Int32) (M : Mem) : Prop := ((64 ≤ v2 → K206 (v1 + 1) M) ∧ (¬ 64 ≤ v2 → vp_in ((8 * (v2 / 8)) + v1) 64 ∧ vp_in ((8 * v1) + (v2 - v2 / 8 * 8)) 64 ∧ vp_in v2 64 ∧ w6_lesser ((M 17 (ci ((8 * (v2 / 8)) + v1))) + (M 17 (ci ((8 * v1) + (v2 - v2 / 8 * 8))))) (M 17 (ci v2)) (fun r4 => ∀ M5, M5 = mset M 17 (ci v2) r4 → K214 v1 (v2 + 1) M5)))
def w6_maps_b214 (Q : Mem → Prop) (K206 : Int32 → Mem → Prop) : Nat → Int32 → Int32 → Mem → Prop
  | 0 => fun _ _ _ => False
  | n + 1 => w6_maps_b214_f Q K206 (w6_maps_b214 Q K206 n)
def w6_maps_b206_f (Q : Mem → Prop) (K206 : Int32 → Mem → Prop) (v1 : Int32) (M : Mem) : Prop := ((8 ≤ v1 → Q M) ∧ (¬ 8 ≤ v1 → ∃ n, w6_maps_b214 Q K206 n v1 0 M))
def w6_maps_b206 (Q : Mem → Prop)  : Nat → Int32 → Mem → Prop
  | 0 => fun _ _ => False
  | n + 1 => w6_maps_b206_f Q (w6_maps_b206 Q n)
def w6_maps_b197 (Q : Mem → Prop) (K165 : Int32 → Mem → Prop) (v1 : Int32) (s1 : Int32) (s2 : Int32) (M : Mem) : Prop := vp_in s1 64 ∧ ∀ M7, M7 = mset M 17 (ci s1) s2 → K165 (v1 + 1) M7
def w6_maps_b165_f (Q : Mem → Prop) (K165 : Int32 → Mem → Prop) (v1 : Int32) (M : Mem) : Prop := ((64 ≤ v1 → ∃ n, w6_maps_b206 Q n 0 M) ∧ (¬ 64 ≤ v1 → (((v1 / 8) = (v1 - v1 / 8 * 8) → w6_maps_b197 Q K165 v1 v1 0 M) ∧ (¬ (v1 / 8) = (v1 - v1 / 8 * 8) → vp_in v1 64 ∧ w6_maps_b197 Q K165 v1 v1 (M 16 (ci v1)) M))))
def w6_maps_b165 (Q : Mem → Prop)  : Nat → Int32 → Mem → Prop
  | 0 => fun _ _ => False
  | n + 1 => w6_maps_b165_f Q (w6_maps_b165 Q n)
def w6_maps_b25_f (Q : Mem → Prop) (K25 : Int32 → Mem → Prop) (v1 : Int32) (M : Mem) : Prop := (((M 0 7) ≤ v1 → ∃ n, w6_maps_b165 Q n 0 M) ∧ (¬ (M 0 7) ≤ v1 → vp_in (4 * v1) 40 ∧ vp_in ((4 * v1) + 1) 40 ∧ ∀ x11 : Int32, x11 = (M 9 (ci ((4 * v1) + 1))) → vp_in ((4 * v1) + 2) 40 ∧ vp_in ((4 * v1) + 3) 40 ∧ ∀ x14 : Int32, x14 = ((M 9 (ci ((4 * v1) + 2))) * (3 - (M 9 (ci ((4 * v1) + 3))))) → ∀ x15 : Int32, x15 = ((M 9 (ci ((4 * v1) + 2))) * (1 + (M 9 (ci ((4 * v1) + 3))))) → vp_in ((8 * (M 9 (ci (4 * v1)))) + x11) 64 ∧ w6_lesser x14 (M 16 (ci ((8 * (M 9 (ci (4 * v1)))) + x11))) (fun r17 => ∀ M18, M18 = mset M 16 (ci ((8 * (M 9 (ci (4 * v1)))) + x11)) r17 → vp_in ((8 * x11) + (M 9 (ci (4 * v1)))) 64 ∧ w6_lesser x15 (M18 16 (ci ((8 * x11) + (M 9 (ci (4 * v1)))))) (fun r20 => ∀ M21, M21 = mset M18 16 (ci ((8 * x11) + (M 9 (ci (4 * v1))))) r20 → K25 (v1 + 1) M21))))
def w6_maps_b25 (Q : Mem → Prop)  : Nat → Int32 → Mem → Prop
  | 0 => fun _ _ => False
  | n + 1 => w6_maps_b25_f Q (w6_maps_b25 Q n)
def w6_maps_b2_f (Q : Mem → Prop) (K2 : Int32 → Mem → Prop) (v1 : Int32) (M : Mem) : Prop := ((64 ≤ v1 → ∃ n, w6_maps_b25 Q n 0 M) ∧ (¬ 64 ≤ v1 → vp_in v1 64 ∧ ∀ M23, M23 = mset M 16 (ci v1) 9999 → K2 (v1 + 1) M23))
def w6_maps_b2 (Q : Mem → Prop)  : Nat → Int32 → Mem → Prop
  | 0 => fun _ _ => False
  | n + 1 => w6_maps_b2_f Q (w6_maps_b2 Q n)
def w6_maps  (M : Mem) (Q : Mem → Prop) : Prop := ∃ n, w6_maps_b2 Q n 0 M
/-! gathers -/
def w6_gathers_b167 (Q : Mem → Prop) (K102 : Int32 → Int32 → Mem → Prop) (v1 : Int32) (v2 : Int32) (s1 : Int32) (M : Mem) : Prop := ∀ M1, M1 = mset M 0 27 s1 → K102 v1 (v2 + (-1)) M1
def w6_gathers_b151 (Q : Mem → Prop) (K102 : Int32 → Int32 → Mem → Prop) (v1 : Int32) (v2 : Int32) (v3 : Int32) (s1 : Int32) (M : Mem) : Prop := ∀ M2, M2 = mset M 0 26 s1 → ((v3 = 0 → w6_gathers_b167 Q K102 v1 v2 (M2 0 27) M2) ∧ (¬ v3 = 0 → w6_gathers_b167 Q K102 v1 v2 v2 M2))
def w6_gathers_b137 (Q : Mem → Prop) (K102 : Int32 → Int32 → Mem → Prop) (v1 : Int32) (v2 : Int32) (s0 : Int32) (M : Mem) : Prop := ((s0 = 0 → w6_gathers_b151 Q K102 v1 v2 s0 (M 0 26) M) ∧ (¬ s0 = 0 → w6_gathers_b151 Q K102 v1 v2 s0 v1 M))
def w6_gathers_b136 (Q : Mem → Prop) (K102 : Int32 → Int32 → Mem → Prop) (v1 : Int32) (v2 : Int32) (M : Mem) : Prop := w6_gathers_b137 Q K102 v1 v2 0 M
def w6_gathers_b132 (Q : Mem → Prop) (K102 : Int32 → Int32 → Mem → Prop) (v1 : Int32) (v2 : Int32) (M : Mem) : Prop := w6_gathers_b137 Q K102 v1 v2 1 M
def w6_gathers_b102_f (Q : Mem → Prop) (K102 : Int32 → Int32 → Mem → Prop) (v1 : Int32) (v2 : Int32) (M : Mem) : Prop := ((v2 < 0 → Q M) ∧ (¬ v2 < 0 → vp_in v2 8 ∧ (((M 25 (ci v2)) ≤ 1 → w6_gathers_b136 Q K102 v1 v2 M) ∧ (¬ (M 25 (ci v2)) ≤ 1 → (((M 0 26) = (-1) → w6_gathers_b132 Q K102 v1 v2 M) ∧ (¬ (M 0 26) = (-1) → (((M 0 26) = v1 → w6_gathers_b132 Q K102 v1 v2 M) ∧ (¬ (M 0 26) = v1 → w6_gathers_b136 Q K102 v1 v2 M))))))))
def w6_gathers_b102 (Q : Mem → Prop)  : Nat → Int32 → Int32 → Mem → Prop
  | 0 => fun _ _ _ => False
  | n + 1 => w6_gathers_b102_f Q (w6_gathers_b102 Q n)
def w6_gathers_b93 (Q : Mem → Prop) (K23 : Int32 → Int32 → Mem → Prop) (v1 : Int32) (v2 : Int32) (M : Mem) : Prop := K23 v1 (v2 + 1) M
def w6_gathers_b68 (Q : Mem → Prop) (K23 : Int32 → Int32 → Mem → Prop) (v1 : Int32) (v2 : Int32) (M : Mem) : Prop := vp_in v2 8 ∧ (((M 19 (ci v2)) = (-1) → w6_gathers_b93 Q K23 v1 v2 M) ∧ (¬ (M 19 (ci v2)) = (-1) → vp_in (M 19 (ci v2)) 8 ∧ ∀ M6, M6 = mset M 25 (ci (M 19 (ci v2))) ((M 25 (ci (M 19 (ci v2)))) + 1) → w6_gathers_b93 Q K23 v1 v2 M6))
def w6_gathers_b23_f (Q : Mem → Prop) (K23 : Int32 → Int32 → Mem → Prop) (v1 : Int32) (v2 : Int32) (M : Mem) : Prop := (((M 0 9) ≤ v2 → ∃ n, w6_gathers_b102 Q n v1 7 M) ∧ (¬ (M 0 9) ≤ v2 → vp_in v2 8 ∧ (((M 22 (ci v2)) = v1 → ∀ M8, M8 = mset M 19 (ci v2) (M 21 (ci v2)) → vp_in (M8 19 (ci v2)) 8 ∧ ∀ M10, M10 = mset M8 26 (ci (M8 19 (ci v2))) ((M8 26 (ci (M8 19 (ci v2)))) + 1) → w6_gathers_b68 Q K23 v1 v2 M10) ∧ (¬ (M 22 (ci v2)) = v1 → w6_gathers_b68 Q K23 v1 v2 M))))
def w6_gathers_b23 (Q : Mem → Prop)  : Nat → Int32 → Int32 → Mem → Prop
  | 0 => fun _ _ _ => False
  | n + 1 => w6_gathers_b23_f Q (w6_gathers_b23 Q n)
def w6_gathers_b2_f (Q : Mem → Prop) (K2 : Int32 → Int32 → Mem → Prop) (v1 : Int32) (v2 : Int32) (M : Mem) : Prop := ((8 ≤ v2 → ∃ n, w6_gathers_b23 Q n v1 0 M) ∧ (¬ 8 ≤ v2 → vp_in v2 8 ∧ ∀ M12, M12 = mset M 25 (ci v2) 0 → K2 v1 (v2 + 1) M12))
def w6_gathers_b2 (Q : Mem → Prop)  : Nat → Int32 → Int32 → Mem → Prop
  | 0 => fun _ _ _ => False
  | n + 1 => w6_gathers_b2_f Q (w6_gathers_b2 Q n)
def w6_gathers (v1 : Int32) (M : Mem) (Q : Mem → Prop) : Prop := ∃ n, w6_gathers_b2 Q n v1 0 M
/-! stays -/
def w6_stays (v1 : Int32) (v2 : Int32) (v3 : Int32) (M : Mem) (Q : Mem → Prop) : Prop := vp_in v1 8 ∧ ∀ M2, M2 = mset M 18 (ci v1) v3 → ∀ M3, M3 = mset M2 23 (ci v1) v2 → ∀ M4, M4 = mset M3 21 (ci v1) (-1) → Q M4
/-! isIn -/
def w6_isIn_b14 (Q : Int32 → Prop)  (s0 : Int32) : Prop := Q s0
def w6_isIn_z (v0 : Int32) (v1 : Int32) (Q : Int32 → Prop) : Prop := ((((v0 >>> (v1 &&& 31)) &&& 1) = 1 → w6_isIn_b14 Q 1) ∧ (¬ ((v0 >>> (v1 &&& 31)) &&& 1) = 1 → w6_isIn_b14 Q 0))
def w6_isIn (v0 : Int32) (v1 : Int32) (Q : Int32 → Prop) : Prop := w6_isIn_z v0 v1 (fun r => isB r ∧ Q r)
/-! isAnswer -/
def w6_isAnswer_b63 (Q : Int32 → Mem → Prop) (K5 : Int32 → Int32 → Int32 → Int32 → Mem → Prop) (v1 : Int32) (v2 : Int32) (v4 : Int32) (s0 : Int32) (M : Mem) : Prop := K5 v1 v2 s0 (v4 + 1) M
def w6_isAnswer_b62 (Q : Int32 → Mem → Prop) (K5 : Int32 → Int32 → Int32 → Int32 → Mem → Prop) (v1 : Int32) (v2 : Int32) (v4 : Int32) (M : Mem) : Prop := w6_isAnswer_b63 Q K5 v1 v2 v4 0 M
def w6_isAnswer_b58 (Q : Int32 → Mem → Prop) (K5 : Int32 → Int32 → Int32 → Int32 → Mem → Prop) (v1 : Int32) (v2 : Int32) (v4 : Int32) (M : Mem) : Prop := w6_isAnswer_b63 Q K5 v1 v2 v4 1 M
def w6_isAnswer_b5_f (Q : Int32 → Mem → Prop) (K5 : Int32 → Int32 → Int32 → Int32 → Mem → Prop) (v1 : Int32) (v2 : Int32) (v3 : Int32) (v4 : Int32) (M : Mem) : Prop := (((M 0 12) ≤ v4 → Q v3 M) ∧ (¬ (M 0 12) ≤ v4 → ((v3 = 0 → vp_in (2 * v4) 16 ∧ (((M 14 (ci (2 * v4))) = v1 → vp_in ((2 * v4) + 1) 16 ∧ (((M 14 (ci ((2 * v4) + 1))) = v2 → w6_isIn (M 0 14) v4 (fun r3 => ((r3 = 0 → w6_isAnswer_b58 Q K5 v1 v2 v4 M) ∧ (¬ r3 = 0 → w6_isAnswer_b62 Q K5 v1 v2 v4 M)))) ∧ (¬ (M 14 (ci ((2 * v4) + 1))) = v2 → w6_isAnswer_b62 Q K5 v1 v2 v4 M))) ∧ (¬ (M 14 (ci (2 * v4))) = v1 → w6_isAnswer_b62 Q K5 v1 v2 v4 M))) ∧ (¬ v3 = 0 → w6_isAnswer_b58 Q K5 v1 v2 v4 M))))
def w6_isAnswer_b5 (Q : Int32 → Mem → Prop)  : Nat → Int32 → Int32 → Int32 → Int32 → Mem → Prop
  | 0 => fun _ _ _ _ _ => False
  | n + 1 => w6_isAnswer_b5_f Q (w6_isAnswer_b5 Q n)
def w6_isAnswer_z (v1 : Int32) (v2 : Int32) (M : Mem) (Q : Int32 → Mem → Prop) : Prop := ∃ n, w6_isAnswer_b5 Q n v1 v2 0 0 M
def w6_isAnswer (v1 : Int32) (v2 : Int32) (M : Mem) (Q : Int32 → Mem → Prop) : Prop := w6_isAnswer_z v1 v2 M (fun r M1 => isB r ∧ Q r M1)
/-! isTold -/
def w6_isTold_b48 (Q : Int32 → Mem → Prop)  (s0 : Int32) (M : Mem) : Prop := Q s0 M
def w6_isTold_b47 (Q : Int32 → Mem → Prop)   (M : Mem) : Prop := w6_isTold_b48 Q 0 M
def w6_isTold_b43 (Q : Int32 → Mem → Prop)   (M : Mem) : Prop := w6_isTold_b48 Q 1 M
def w6_isTold_z (v1 : Int32) (v2 : Int32) (v3 : Int32) (M : Mem) (Q : Int32 → Mem → Prop) : Prop := vp_in ((5 * v1) + 2) 40 ∧ ∀ x2 : Int32, x2 = (M 11 (ci ((5 * v1) + 2))) → ((2 ≤ x2 → w6_isTold_b47 Q M) ∧ (¬ 2 ≤ x2 → w6_isAnswer v2 v3 M (fun r3 M4 => ((r3 = 0 → ((x2 = 1 → vp_in v3 8 ∧ (((M4 25 (ci v3)) ≤ 1 → w6_isTold_b47 Q M4) ∧ (¬ (M4 25 (ci v3)) ≤ 1 → w6_isTold_b43 Q M4))) ∧ (¬ x2 = 1 → w6_isTold_b47 Q M4))) ∧ (¬ r3 = 0 → w6_isTold_b43 Q M4)))))
def w6_isTold (v1 : Int32) (v2 : Int32) (v3 : Int32) (M : Mem) (Q : Int32 → Mem → Prop) : Prop := w6_isTold_z v1 v2 v3 M (fun r M1 => isB r ∧ Q r M1)
/-! next -/
def w6_next_b64 (Q : Int32 → Mem → Prop) (K2 : Int32 → Int32 → Int32 → Mem → Prop) (v1 : Int32) (v2 : Int32) (v3 : Int32) (M : Mem) : Prop := K2 v1 v2 (v3 + 1) M
def w6_next_b2_f (Q : Int32 → Mem → Prop) (K2 : Int32 → Int32 → Int32 → Mem → Prop) (v1 : Int32) (v2 : Int32) (v3 : Int32) (M : Mem) : Prop := ((8 ≤ v3 → Q (-1) M) ∧ (¬ 8 ≤ v3 → vp_in ((8 * v1) + v3) 64 ∧ ((9999 ≤ (M 16 (ci ((8 * v1) + v3))) → w6_next_b64 Q K2 v1 v2 v3 M) ∧ (¬ 9999 ≤ (M 16 (ci ((8 * v1) + v3))) → vp_in ((8 * v3) + v2) 64 ∧ vp_in ((8 * v1) + v2) 64 ∧ ((((M 16 (ci ((8 * v1) + v3))) + (M 17 (ci ((8 * v3) + v2)))) = (M 17 (ci ((8 * v1) + v2))) → Q v3 M) ∧ (¬ ((M 16 (ci ((8 * v1) + v3))) + (M 17 (ci ((8 * v3) + v2)))) = (M 17 (ci ((8 * v1) + v2))) → w6_next_b64 Q K2 v1 v2 v3 M))))))
def w6_next_b2 (Q : Int32 → Mem → Prop)  : Nat → Int32 → Int32 → Int32 → Mem → Prop
  | 0 => fun _ _ _ _ => False
  | n + 1 => w6_next_b2_f Q (w6_next_b2 Q n)
def w6_next (v1 : Int32) (v2 : Int32) (M : Mem) (Q : Int32 → Mem → Prop) : Prop := ∃ n, w6_next_b2 Q n v1 v2 0 M
/-! goesOn -/
def w6_goesOn_b191 (Q : Mem → Prop)   (M : Mem) : Prop := Q M
def w6_goesOn (v1 : Int32) (v2 : Int32) (M : Mem) (Q : Mem → Prop) : Prop := vp_in v1 8 ∧ vp_in ((5 * v1) + 1) 40 ∧ ∀ x3 : Int32, x3 = (M 11 (ci ((5 * v1) + 1))) → (((M 19 (ci v1)) = x3 → w6_stays v1 v2 2 M (fun M4 => w6_goesOn_b191 Q M4)) ∧ (¬ (M 19 (ci v1)) = x3 → w6_isTold v1 v2 (M 19 (ci v1)) M (fun r5 M6 => ((r5 = 0 → vp_in ((8 * (M 19 (ci v1))) + x3) 64 ∧ (((M6 17 (ci ((8 * (M 19 (ci v1))) + x3))) < 9999 → w6_next (M 19 (ci v1)) x3 M6 (fun r8 M9 => vp_in ((8 * (M 19 (ci v1))) + r8) 64 ∧ vp_in ((5 * v1) + 4) 40 ∧ ∀ x12 : Int32, x12 = ((M9 16 (ci ((8 * (M 19 (ci v1))) + r8))) + (M9 11 (ci ((5 * v1) + 4)))) → ((x12 ≤ (M9 20 (ci v1)) → ∀ M13, M13 = mset M9 20 (ci v1) ((M9 20 (ci v1)) - x12) → ∀ M14, M14 = mset M13 18 (ci v1) 1 → ∀ M15, M15 = mset M14 19 (ci v1) (-1) → ∀ M16, M16 = mset M15 21 (ci v1) r8 → ∀ M17, M17 = mset M16 22 (ci v1) (v2 + (M16 16 (ci ((8 * (M 19 (ci v1))) + r8)))) → w6_goesOn_b191 Q M17) ∧ (¬ x12 ≤ (M9 20 (ci v1)) → w6_stays v1 v2 4 M9 (fun M18 => w6_goesOn_b191 Q M18))))) ∧ (¬ (M6 17 (ci ((8 * (M 19 (ci v1))) + x3))) < 9999 → w6_stays v1 v2 5 M6 (fun M19 => w6_goesOn_b191 Q M19)))) ∧ (¬ r5 = 0 → w6_stays v1 v2 3 M6 (fun M20 => w6_goesOn_b191 Q M20))))))
/-! keeps -/
def w6_keeps_b105 (Q : Mem → Prop) (K2 : Int32 → Int32 → Mem → Prop) (v1 : Int32) (v2 : Int32) (s1 : Int32) (s2 : Int32) (M : Mem) : Prop := vp_in s1 1280 ∧ ∀ M2, M2 = mset M 24 (ci s1) s2 → K2 v1 (v2 + 1) M2
def w6_keeps_b2_f (Q : Mem → Prop) (K2 : Int32 → Int32 → Mem → Prop) (v1 : Int32) (v2 : Int32) (M : Mem) : Prop := (((M 0 9) ≤ v2 → Q M) ∧ (¬ (M 0 9) ≤ v2 → vp_in v2 8 ∧ vp_in ((32 * v1) + (4 * v2)) 1280 ∧ ∀ M5, M5 = mset M 24 (ci ((32 * v1) + (4 * v2))) (M 18 (ci v2)) → vp_in (((32 * v1) + (4 * v2)) + 1) 1280 ∧ ∀ M7, M7 = mset M5 24 (ci (((32 * v1) + (4 * v2)) + 1)) (M5 19 (ci v2)) → vp_in (((32 * v1) + (4 * v2)) + 2) 1280 ∧ ∀ M9, M9 = mset M7 24 (ci (((32 * v1) + (4 * v2)) + 2)) (M7 20 (ci v2)) → (((M9 18 (ci v2)) = 1 → w6_keeps_b105 Q K2 v1 v2 (((32 * v1) + (4 * v2)) + 3) (M9 21 (ci v2)) M9) ∧ (¬ (M9 18 (ci v2)) = 1 → w6_keeps_b105 Q K2 v1 v2 (((32 * v1) + (4 * v2)) + 3) (-1) M9))))
def w6_keeps_b2 (Q : Mem → Prop)  : Nat → Int32 → Int32 → Mem → Prop
  | 0 => fun _ _ _ => False
  | n + 1 => w6_keeps_b2_f Q (w6_keeps_b2 Q n)
def w6_keeps (v1 : Int32) (M : Mem) (Q : Mem → Prop) : Prop := ∃ n, w6_keeps_b2 Q n v1 0 M
/-! lives -/
def w6_lives_b149 (Q : Mem → Prop) (K112 : Int32 → Mem → Prop) (K125 : Int32 → Int32 → Mem → Prop) (v1 : Int32) (v2 : Int32) (M : Mem) : Prop := K125 v1 (v2 + 1) M
def w6_lives_b125_f (Q : Mem → Prop) (K112 : Int32 → Mem → Prop) (K125 : Int32 → Int32 → Mem → Prop) (v1 : Int32) (v2 : Int32) (M : Mem) : Prop := (((M 0 9) ≤ v2 → w6_keeps v1 M (fun M1 => K112 (v1 + 1) M1)) ∧ (¬ (M 0 9) ≤ v2 → vp_in v2 8 ∧ (((M 22 (ci v2)) = v1 → w6_goesOn v2 v1 M (fun M3 => w6_lives_b149 Q K112 K125 v1 v2 M3)) ∧ (¬ (M 22 (ci v2)) = v1 → w6_lives_b149 Q K112 K125 v1 v2 M))))
def w6_lives_b125 (Q : Mem → Prop) (K112 : Int32 → Mem → Prop) : Nat → Int32 → Int32 → Mem → Prop
  | 0 => fun _ _ _ => False
  | n + 1 => w6_lives_b125_f Q K112 (w6_lives_b125 Q K112 n)
def w6_lives_b112_f (Q : Mem → Prop) (K112 : Int32 → Mem → Prop) (v1 : Int32) (M : Mem) : Prop := ((40 ≤ v1 → Q M) ∧ (¬ 40 ≤ v1 → w6_gathers v1 M (fun M4 => ∃ n, w6_lives_b125 Q K112 n v1 0 M4)))
def w6_lives_b112 (Q : Mem → Prop)  : Nat → Int32 → Mem → Prop
  | 0 => fun _ _ => False
  | n + 1 => w6_lives_b112_f Q (w6_lives_b112 Q n)
def w6_lives_b44_f (Q : Mem → Prop) (K44 : Int32 → Mem → Prop) (v1 : Int32) (M : Mem) : Prop := (((M 0 9) ≤ v1 → ∀ M5, M5 = mset M 0 26 (-1) → ∀ M6, M6 = mset M5 0 27 (-1) → ∃ n, w6_lives_b112 Q n 0 M6) ∧ (¬ (M 0 9) ≤ v1 → vp_in ((5 * v1) + 3) 40 ∧ vp_in v1 8 ∧ ∀ M9, M9 = mset M 20 (ci v1) (M 11 (ci ((5 * v1) + 3))) → vp_in (5 * v1) 40 ∧ ∀ M11, M11 = mset M9 21 (ci v1) (M9 11 (ci (5 * v1))) → ∀ M12, M12 = mset M11 22 (ci v1) (M11 12 (ci v1)) → K44 (v1 + 1) M12))
def w6_lives_b44 (Q : Mem → Prop)  : Nat → Int32 → Mem → Prop
  | 0 => fun _ _ => False
  | n + 1 => w6_lives_b44_f Q (w6_lives_b44 Q n)
def w6_lives_b2_f (Q : Mem → Prop) (K2 : Int32 → Mem → Prop) (v1 : Int32) (M : Mem) : Prop := ((8 ≤ v1 → ∃ n, w6_lives_b44 Q n 0 M) ∧ (¬ 8 ≤ v1 → vp_in v1 8 ∧ ∀ M14, M14 = mset M 18 (ci v1) 0 → ∀ M15, M15 = mset M14 19 (ci v1) (-1) → ∀ M16, M16 = mset M15 23 (ci v1) (-1) → ∀ M17, M17 = mset M16 26 (ci v1) 0 → K2 (v1 + 1) M17))
def w6_lives_b2 (Q : Mem → Prop)  : Nat → Int32 → Mem → Prop
  | 0 => fun _ _ => False
  | n + 1 => w6_lives_b2_f Q (w6_lives_b2 Q n)
def w6_lives  (M : Mem) (Q : Mem → Prop) : Prop := ∃ n, w6_lives_b2 Q n 0 M
/-! find -/
def w6_find  (M : Mem) (Q : Mem → Prop) : Prop := w6_readsWays M (fun r1 M2 => w6_readsCarters M2 (fun r3 M4 => w6_maps M4 (fun M5 => w6_lives M5 (fun M6 => Q M6))))
/-! at -/
def w6_at_b51 (Q : Int32 → Mem → Prop)  (s0 : Int32) (M : Mem) : Prop := Q s0 M
def w6_at_b49 (Q : Int32 → Mem → Prop)   (M : Mem) : Prop := w6_at_b51 Q (-2) M
def w6_at (v1 : Int32) (v2 : Int32) (v3 : Int32) (M : Mem) (Q : Int32 → Mem → Prop) : Prop := w6_find M (fun M1 => w6_isHour v1 (fun r2 => ((r2 = 0 → w6_at_b49 Q M1) ∧ (¬ r2 = 0 → w6_isCarter v2 M1 (fun r3 M4 => ((r3 = 0 → w6_at_b49 Q M4) ∧ (¬ r3 = 0 → w6_in (Int32.toInt64 v3) 0 3 (fun r5 => ((r5 = 0 → w6_at_b49 Q M4) ∧ (¬ r5 = 0 → vp_in (((32 * v1) + (4 * v2)) + v3) 1280 ∧ w6_at_b51 Q (M4 24 (ci (((32 * v1) + (4 * v2)) + v3))) M4))))))))))
/-! ends -/
def w6_ends_b23 (Q : Int32 → Mem → Prop)  (s0 : Int32) (M : Mem) : Prop := Q s0 M
def w6_ends (v1 : Int32) (M : Mem) (Q : Int32 → Mem → Prop) : Prop := w6_find M (fun M1 => w6_isCarter v1 M1 (fun r2 M3 => ((r2 = 0 → w6_ends_b23 Q (-2) M3) ∧ (¬ r2 = 0 → vp_in v1 8 ∧ w6_ends_b23 Q (M3 23 (ci v1)) M3))))
/-! farBy -/
def w6_farBy_b32 (Q : Int32 → Mem → Prop)  (s0 : Int32) (M : Mem) : Prop := Q s0 M
def w6_farBy (v1 : Int32) (v2 : Int32) (M : Mem) (Q : Int32 → Mem → Prop) : Prop := vp_in ((8 * v1) + v2) 64 ∧ ((9999 ≤ (M 17 (ci ((8 * v1) + v2))) → w6_farBy_b32 Q (-1) M) ∧ (¬ 9999 ≤ (M 17 (ci ((8 * v1) + v2))) → w6_farBy_b32 Q (M 17 (ci ((8 * v1) + v2))) M))
/-! far -/
def w6_far_b29 (Q : Int32 → Mem → Prop)  (s0 : Int32) (M : Mem) : Prop := Q s0 M
def w6_far_b27 (Q : Int32 → Mem → Prop)   (M : Mem) : Prop := w6_far_b29 Q (-2) M
def w6_far (v1 : Int32) (v2 : Int32) (M : Mem) (Q : Int32 → Mem → Prop) : Prop := w6_find M (fun M1 => w6_isPlace v1 (fun r2 => ((r2 = 0 → w6_far_b27 Q M1) ∧ (¬ r2 = 0 → w6_isPlace v2 (fun r3 => ((r3 = 0 → w6_far_b27 Q M1) ∧ (¬ r3 = 0 → w6_farBy v1 v2 M1 (fun r4 M5 => w6_far_b29 Q r4 M5))))))))
/-! whoBy -/
def w6_whoBy_b30 (Q : Int32 → Mem → Prop) (K4 : Int32 → Int32 → Int32 → Mem → Prop) (v1 : Int32) (v3 : Int32) (s0 : Int32) (s1 : Int32) (M : Mem) : Prop := K4 v1 (s0 ||| s1) (v3 + 1) M
def w6_whoBy_b4_f (Q : Int32 → Mem → Prop) (K4 : Int32 → Int32 → Int32 → Mem → Prop) (v1 : Int32) (v2 : Int32) (v3 : Int32) (M : Mem) : Prop := (((M 0 9) ≤ v3 → Q v2 M) ∧ (¬ (M 0 9) ≤ v3 → vp_in v3 8 ∧ (((M 18 (ci v3)) = v1 → w6_whoBy_b30 Q K4 v1 v3 v2 (1 <<< (v3 &&& 31)) M) ∧ (¬ (M 18 (ci v3)) = v1 → w6_whoBy_b30 Q K4 v1 v3 v2 0 M))))
def w6_whoBy_b4 (Q : Int32 → Mem → Prop)  : Nat → Int32 → Int32 → Int32 → Mem → Prop
  | 0 => fun _ _ _ _ => False
  | n + 1 => w6_whoBy_b4_f Q (w6_whoBy_b4 Q n)
def w6_whoBy (v1 : Int32) (M : Mem) (Q : Int32 → Mem → Prop) : Prop := ∃ n, w6_whoBy_b4 Q n v1 0 0 M
/-! who -/
def w6_who_b28 (Q : Int32 → Mem → Prop)  (s0 : Int32) (M : Mem) : Prop := Q s0 M
def w6_who (v1 : Int32) (M : Mem) (Q : Int32 → Mem → Prop) : Prop := w6_find M (fun M1 => w6_in (Int32.toInt64 v1) 2 5 (fun r2 => ((r2 = 0 → w6_who_b28 Q (-2) M1) ∧ (¬ r2 = 0 → w6_whoBy v1 M1 (fun r3 M4 => w6_who_b28 Q r3 M4)))))
/-! met -/
def w6_met_b31 (Q : Int32 → Mem → Prop)  (s0 : Int32) (M : Mem) : Prop := Q s0 M
def w6_met (v1 : Int32) (M : Mem) (Q : Int32 → Mem → Prop) : Prop := w6_find M (fun M1 => w6_isTwo v1 (fun r2 => ((r2 = 0 → w6_met_b31 Q (-2) M1) ∧ (¬ r2 = 0 → ((v1 = 0 → w6_met_b31 Q (M1 0 26) M1) ∧ (¬ v1 = 0 → w6_met_b31 Q (M1 0 27) M1))))))
/-! greater -/
def w6_greater_b10 (Q : Int32 → Prop)  (s0 : Int32) : Prop := Q s0
def w6_greater (v0 : Int32) (v1 : Int32) (Q : Int32 → Prop) : Prop := ((v0 ≤ v1 → w6_greater_b10 Q v1) ∧ (¬ v0 ≤ v1 → w6_greater_b10 Q v0))
/-! busiestNow -/
def w6_busiestNow_b27 (Q : Int32 → Mem → Prop) (K6 : Int32 → Int32 → Int32 → Mem → Prop) (v2 : Int32) (v3 : Int32) (s0 : Int32) (M : Mem) : Prop := vp_in v3 8 ∧ w6_greater (M 26 (ci v3)) v2 (fun r2 => K6 s0 r2 (v3 + 1) M)
def w6_busiestNow_b6_f (Q : Int32 → Mem → Prop) (K6 : Int32 → Int32 → Int32 → Mem → Prop) (v1 : Int32) (v2 : Int32) (v3 : Int32) (M : Mem) : Prop := ((8 ≤ v3 → Q v1 M) ∧ (¬ 8 ≤ v3 → vp_in v3 8 ∧ (((M 26 (ci v3)) ≤ v2 → w6_busiestNow_b27 Q K6 v2 v3 v1 M) ∧ (¬ (M 26 (ci v3)) ≤ v2 → w6_busiestNow_b27 Q K6 v2 v3 v3 M))))
def w6_busiestNow_b6 (Q : Int32 → Mem → Prop)  : Nat → Int32 → Int32 → Int32 → Mem → Prop
  | 0 => fun _ _ _ _ => False
  | n + 1 => w6_busiestNow_b6_f Q (w6_busiestNow_b6 Q n)
def w6_busiestNow  (M : Mem) (Q : Int32 → Mem → Prop) : Prop := ∃ n, w6_busiestNow_b6 Q n (-1) 0 0 M
/-! busiest -/
def w6_busiest  (M : Mem) (Q : Int32 → Mem → Prop) : Prop := w6_find M (fun M1 => w6_busiestNow M1 (fun r2 M3 => Q r2 M3))
/-! needsOf -/
def w6_needsOf_b54 (Q : Int32 → Mem → Prop) (K17 : Int32 → Int32 → Int32 → Int32 → Mem → Prop) (v1 : Int32) (v2 : Int32) (v4 : Int32) (s0 : Int32) (M : Mem) : Prop := K17 v1 v2 s0 (v4 + (-1)) M
def w6_needsOf_b17_f (Q : Int32 → Mem → Prop) (K17 : Int32 → Int32 → Int32 → Int32 → Mem → Prop) (v1 : Int32) (v2 : Int32) (v3 : Int32) (v4 : Int32) (M : Mem) : Prop := ((v4 < 0 → vp_in ((5 * v1) + 3) 40 ∧ ∀ M2, M2 = mset M 11 (ci ((5 * v1) + 3)) v2 → Q v3 M2) ∧ (¬ v4 < 0 → vp_in ((5 * v1) + 3) 40 ∧ ∀ M4, M4 = mset M 11 (ci ((5 * v1) + 3)) v4 → w6_lives M4 (fun M5 => vp_in v1 8 ∧ (((M5 18 (ci v1)) = 2 → w6_needsOf_b54 Q K17 v1 v2 v4 v4 M5) ∧ (¬ (M5 18 (ci v1)) = 2 → w6_needsOf_b54 Q K17 v1 v2 v4 v3 M5)))))
def w6_needsOf_b17 (Q : Int32 → Mem → Prop)  : Nat → Int32 → Int32 → Int32 → Int32 → Mem → Prop
  | 0 => fun _ _ _ _ _ => False
  | n + 1 => w6_needsOf_b17_f Q (w6_needsOf_b17 Q n)
def w6_needsOf (v1 : Int32) (M : Mem) (Q : Int32 → Mem → Prop) : Prop := vp_in ((5 * v1) + 3) 40 ∧ ∀ x8 : Int32, x8 = (M 11 (ci ((5 * v1) + 3))) → ∃ n, w6_needsOf_b17 Q n v1 x8 (-1) 99 M
/-! needs -/
def w6_needs_b22 (Q : Int32 → Mem → Prop)  (s0 : Int32) (M : Mem) : Prop := Q s0 M
def w6_needs (v1 : Int32) (M : Mem) (Q : Int32 → Mem → Prop) : Prop := w6_find M (fun M1 => w6_isCarter v1 M1 (fun r2 M3 => ((r2 = 0 → w6_needs_b22 Q (-2) M3) ∧ (¬ r2 = 0 → w6_needsOf v1 M3 (fun r4 M5 => w6_needs_b22 Q r4 M5)))))
/-! lends -/
def w6_lends_b2_f (Q : Mem → Prop) (K2 : Int32 → Int32 → Int32 → Mem → Prop) (v1 : Int32) (v2 : Int32) (v3 : Int32) (M : Mem) : Prop := ((4 ≤ v3 → Q M) ∧ (¬ 4 ≤ v3 → vp_in ((5 * v1) + v3) 40 ∧ ∀ x2 : Int32, x2 = (M 11 (ci ((5 * v1) + v3))) → vp_in ((5 * v2) + v3) 40 ∧ ∀ M4, M4 = mset M 11 (ci ((5 * v1) + v3)) (M 11 (ci ((5 * v2) + v3))) → ∀ M5, M5 = mset M4 11 (ci ((5 * v2) + v3)) x2 → K2 v1 v2 (v3 + 1) M5))
def w6_lends_b2 (Q : Mem → Prop)  : Nat → Int32 → Int32 → Int32 → Mem → Prop
  | 0 => fun _ _ _ _ => False
  | n + 1 => w6_lends_b2_f Q (w6_lends_b2 Q n)
def w6_lends (v1 : Int32) (v2 : Int32) (M : Mem) (Q : Mem → Prop) : Prop := ∃ n, w6_lends_b2 Q n v1 v2 2 M
/-! ones -/
def w6_ones_b4_f (Q : Int32 → Prop) (K4 : Int32 → Int32 → Prop) (v1 : Int32) (v2 : Int32) : Prop := ((v2 = 0 → Q v1) ∧ (¬ v2 = 0 → K4 (v1 + 1) (v2 &&& (v2 - 1))))
def w6_ones_b4 (Q : Int32 → Prop)  : Nat → Int32 → Int32 → Prop
  | 0 => fun _ _ => False
  | n + 1 => w6_ones_b4_f Q (w6_ones_b4 Q n)
def w6_ones (v0 : Int32) (Q : Int32 → Prop) : Prop := ∃ n, w6_ones_b4 Q n 0 v0
/-! comers -/
def w6_comers  (M : Mem) (Q : Int32 → Mem → Prop) : Prop := w6_whoBy 2 M (fun r1 M2 => w6_ones r1 (fun r3 => Q r3 M2))
/-! lendBy -/
def w6_lendBy_b129 (Q : Int32 → Mem → Prop)  (s0 : Int32) (M : Mem) : Prop := Q s0 M
def w6_lendBy_b90 (Q : Int32 → Mem → Prop) (K7 : Int32 → Int32 → Int32 → Int32 → Mem → Prop) (v1 : Int32) (v2 : Int32) (v3 : Int32) (v4 : Int32) (M : Mem) : Prop := K7 v1 v2 v3 (v4 + 1) M
def w6_lendBy_b74 (Q : Int32 → Mem → Prop) (K7 : Int32 → Int32 → Int32 → Int32 → Mem → Prop) (v1 : Int32) (v3 : Int32) (v4 : Int32) (v5 : Int32) (v6 : Int32) (v7 : Int32) (s0 : Int32) (M : Mem) : Prop := w6_greater v7 v3 (fun r1 => w6_lends v5 v6 M (fun M2 => w6_lendBy_b90 Q K7 v1 s0 r1 v4 M2))
def w6_lendBy_b7_f (Q : Int32 → Mem → Prop) (K7 : Int32 → Int32 → Int32 → Int32 → Mem → Prop) (v1 : Int32) (v2 : Int32) (v3 : Int32) (v4 : Int32) (M : Mem) : Prop := ((64 ≤ v4 → ((v2 = (-1) → w6_lendBy_b129 Q (-1) M) ∧ (¬ v2 = (-1) → ((v1 = 0 → w6_lendBy_b129 Q (v2 / 8) M) ∧ (¬ v1 = 0 → ((v1 = 1 → w6_lendBy_b129 Q (v2 - v2 / 8 * 8) M) ∧ (¬ v1 = 1 → w6_lendBy_b129 Q v3 M))))))) ∧ (¬ 64 ≤ v4 → (((v4 - v4 / 8 * 8) ≤ (v4 / 8) → w6_lendBy_b90 Q K7 v1 v2 v3 v4 M) ∧ (¬ (v4 - v4 / 8 * 8) ≤ (v4 / 8) → (((M 0 9) ≤ (v4 - v4 / 8 * 8) → w6_lendBy_b90 Q K7 v1 v2 v3 v4 M) ∧ (¬ (M 0 9) ≤ (v4 - v4 / 8 * 8) → w6_lends (v4 / 8) (v4 - v4 / 8 * 8) M (fun M3 => w6_lives M3 (fun M4 => w6_comers M4 (fun r5 M6 => ((r5 ≤ v3 → w6_lendBy_b74 Q K7 v1 v3 v4 (v4 / 8) (v4 - v4 / 8 * 8) r5 v2 M6) ∧ (¬ r5 ≤ v3 → w6_lendBy_b74 Q K7 v1 v3 v4 (v4 / 8) (v4 - v4 / 8 * 8) r5 v4 M6)))))))))))
def w6_lendBy_b7 (Q : Int32 → Mem → Prop)  : Nat → Int32 → Int32 → Int32 → Int32 → Mem → Prop
  | 0 => fun _ _ _ _ _ => False
  | n + 1 => w6_lendBy_b7_f Q (w6_lendBy_b7 Q n)
def w6_lendBy (v1 : Int32) (M : Mem) (Q : Int32 → Mem → Prop) : Prop := ∃ n, w6_lendBy_b7 Q n v1 (-1) (-1) 0 M
/-! lend -/
def w6_lend_b26 (Q : Int32 → Mem → Prop)  (s0 : Int32) (M : Mem) : Prop := Q s0 M
def w6_lend (v1 : Int32) (M : Mem) (Q : Int32 → Mem → Prop) : Prop := w6_find M (fun M1 => w6_in (Int32.toInt64 v1) 0 2 (fun r2 => ((r2 = 0 → w6_lend_b26 Q (-2) M1) ∧ (¬ r2 = 0 → w6_lendBy v1 M1 (fun r3 M4 => w6_lend_b26 Q r3 M4)))))
/-! delayOf -/
def w6_delayOf_b90 (Q : Int32 → Mem → Prop)  (s0 : Int32) (M : Mem) : Prop := Q s0 M
def w6_delayOf_b55 (Q : Int32 → Mem → Prop) (K16 : Int32 → Int32 → Int32 → Int32 → Int32 → Int32 → Mem → Prop) (v1 : Int32) (v2 : Int32) (v3 : Int32) (v5 : Int32) (v6 : Int32) (v7 : Int32) (s0 : Int32) (M : Mem) : Prop := w6_greater v7 v5 (fun r1 => K16 v1 v2 v3 s0 r1 (v6 + 1) M)
def w6_delayOf_b16_f (Q : Int32 → Mem → Prop) (K16 : Int32 → Int32 → Int32 → Int32 → Int32 → Int32 → Mem → Prop) (v1 : Int32) (v2 : Int32) (v3 : Int32) (v4 : Int32) (v5 : Int32) (v6 : Int32) (M : Mem) : Prop := ((10 ≤ v6 → vp_in v1 8 ∧ ∀ M3, M3 = mset M 12 (ci v1) v3 → ((v2 = 0 → w6_delayOf_b90 Q v4 M3) ∧ (¬ v2 = 0 → w6_delayOf_b90 Q v5 M3))) ∧ (¬ 10 ≤ v6 → vp_in v1 8 ∧ ∀ M5, M5 = mset M 12 (ci v1) v6 → w6_lives M5 (fun M6 => w6_comers M6 (fun r7 M8 => ((r7 ≤ v5 → w6_delayOf_b55 Q K16 v1 v2 v3 v5 v6 r7 v4 M8) ∧ (¬ r7 ≤ v5 → w6_delayOf_b55 Q K16 v1 v2 v3 v5 v6 r7 v6 M8))))))
def w6_delayOf_b16 (Q : Int32 → Mem → Prop)  : Nat → Int32 → Int32 → Int32 → Int32 → Int32 → Int32 → Mem → Prop
  | 0 => fun _ _ _ _ _ _ _ => False
  | n + 1 => w6_delayOf_b16_f Q (w6_delayOf_b16 Q n)
def w6_delayOf (v1 : Int32) (v2 : Int32) (M : Mem) (Q : Int32 → Mem → Prop) : Prop := vp_in v1 8 ∧ ∃ n, w6_delayOf_b16 Q n v1 v2 (M 12 (ci v1)) (-1) (-1) 0 M
/-! delay -/
def w6_delay_b30 (Q : Int32 → Mem → Prop)  (s0 : Int32) (M : Mem) : Prop := Q s0 M
def w6_delay_b28 (Q : Int32 → Mem → Prop)   (M : Mem) : Prop := w6_delay_b30 Q (-2) M
def w6_delay (v1 : Int32) (v2 : Int32) (M : Mem) (Q : Int32 → Mem → Prop) : Prop := w6_find M (fun M1 => w6_isCarter v1 M1 (fun r2 M3 => ((r2 = 0 → w6_delay_b28 Q M3) ∧ (¬ r2 = 0 → w6_isTwo v2 (fun r4 => ((r4 = 0 → w6_delay_b28 Q M3) ∧ (¬ r4 = 0 → w6_delayOf v1 v2 M3 (fun r5 M6 => w6_delay_b30 Q r5 M6))))))))
/-! levelBy -/
def w6_levelBy_b107 (Q : Int32 → Mem → Prop)  (s0 : Int32) (M : Mem) : Prop := Q s0 M
def w6_levelBy_b67 (Q : Int32 → Mem → Prop) (K7 : Int32 → Int32 → Int32 → Int32 → Mem → Prop) (v1 : Int32) (v3 : Int32) (v4 : Int32) (v5 : Int32) (v6 : Int32) (s0 : Int32) (M : Mem) : Prop := w6_greater v6 v3 (fun r1 => vp_in ((4 * v4) + 3) 40 ∧ ∀ M3, M3 = mset M 9 (ci ((4 * v4) + 3)) v5 → K7 v1 s0 r1 (v4 + 1) M3)
def w6_levelBy_b7_f (Q : Int32 → Mem → Prop) (K7 : Int32 → Int32 → Int32 → Int32 → Mem → Prop) (v1 : Int32) (v2 : Int32) (v3 : Int32) (v4 : Int32) (M : Mem) : Prop := (((M 0 7) ≤ v4 → w6_maps M (fun M4 => ((v1 = 0 → w6_levelBy_b107 Q v2 M4) ∧ (¬ v1 = 0 → w6_levelBy_b107 Q v3 M4)))) ∧ (¬ (M 0 7) ≤ v4 → vp_in ((4 * v4) + 3) 40 ∧ ∀ x6 : Int32, x6 = (M 9 (ci ((4 * v4) + 3))) → ∀ M7, M7 = mset M 9 (ci ((4 * v4) + 3)) 1 → w6_maps M7 (fun M8 => w6_lives M8 (fun M9 => w6_comers M9 (fun r10 M11 => ((r10 ≤ v3 → w6_levelBy_b67 Q K7 v1 v3 v4 x6 r10 v2 M11) ∧ (¬ r10 ≤ v3 → w6_levelBy_b67 Q K7 v1 v3 v4 x6 r10 v4 M11)))))))
def w6_levelBy_b7 (Q : Int32 → Mem → Prop)  : Nat → Int32 → Int32 → Int32 → Int32 → Mem → Prop
  | 0 => fun _ _ _ _ _ => False
  | n + 1 => w6_levelBy_b7_f Q (w6_levelBy_b7 Q n)
def w6_levelBy (v1 : Int32) (M : Mem) (Q : Int32 → Mem → Prop) : Prop := ∃ n, w6_levelBy_b7 Q n v1 (-1) (-1) 0 M
/-! level -/
def w6_level_b21 (Q : Int32 → Mem → Prop)  (s0 : Int32) (M : Mem) : Prop := Q s0 M
def w6_level (v1 : Int32) (M : Mem) (Q : Int32 → Mem → Prop) : Prop := w6_find M (fun M1 => w6_isTwo v1 (fun r2 => ((r2 = 0 → w6_level_b21 Q (-2) M1) ∧ (¬ r2 = 0 → w6_levelBy v1 M1 (fun r3 M4 => w6_level_b21 Q r3 M4)))))
/-! seen -/
def w6_seen_b31 (Q : Int32 → Mem → Prop)   (M : Mem) : Prop := Q (-2) M
def w6_seen (v1 : Int32) (v2 : Int32) (v3 : Int32) (M : Mem) (Q : Int32 → Mem → Prop) : Prop := w6_isHour v1 (fun r1 => ((r1 = 0 → w6_seen_b31 Q M) ∧ (¬ r1 = 0 → w6_in (Int32.toInt64 v2) 0 7 (fun r2 => ((r2 = 0 → w6_seen_b31 Q M) ∧ (¬ r2 = 0 → w6_in (Int32.toInt64 v3) 0 8 (fun r3 => ((r3 = 0 → w6_seen_b31 Q M) ∧ (¬ r3 = 0 → (((M 0 28) = 8 → Q (-4) M) ∧ (¬ (M 0 28) = 8 → vp_in (3 * (M 0 28)) 24 ∧ ∀ M5, M5 = mset M 30 (ci (3 * (M 0 28))) v1 → vp_in ((3 * (M5 0 28)) + 1) 24 ∧ ∀ M7, M7 = mset M5 30 (ci ((3 * (M5 0 28)) + 1)) v2 → vp_in ((3 * (M7 0 28)) + 2) 24 ∧ ∀ M9, M9 = mset M7 30 (ci ((3 * (M7 0 28)) + 2)) v3 → ∀ M10, M10 = mset M9 0 28 ((M9 0 28) + 1) → Q (M10 0 28) M10)))))))))))
/-! forget -/
def w6_forget  (M : Mem) (Q : Int32 → Mem → Prop) : Prop := ∀ M1, M1 = mset M 0 28 0 → Q (M 0 28) M1
/-! isSeen -/
def w6_isSeen_b105 (Q : Int32 → Mem → Prop)  (v1 : Int32) (M : Mem) : Prop := Q v1 M
def w6_isSeen_b98 (Q : Int32 → Mem → Prop) (K8 : Int32 → Int32 → Mem → Prop) (v2 : Int32) (s0 : Int32) (M : Mem) : Prop := K8 s0 (v2 + 1) M
def w6_isSeen_b97 (Q : Int32 → Mem → Prop) (K8 : Int32 → Int32 → Mem → Prop) (v2 : Int32) (M : Mem) : Prop := w6_isSeen_b98 Q K8 v2 0 M
def w6_isSeen_b90 (Q : Int32 → Mem → Prop) (K8 : Int32 → Int32 → Mem → Prop) (v2 : Int32) (s0 : Int32) (s1 : Int32) (M : Mem) : Prop := ((s0 = s1 → w6_isSeen_b98 Q K8 v2 1 M) ∧ (¬ s0 = s1 → w6_isSeen_b97 Q K8 v2 M))
def w6_isSeen_b8_f (Q : Int32 → Mem → Prop) (K8 : Int32 → Int32 → Mem → Prop) (v1 : Int32) (v2 : Int32) (M : Mem) : Prop := (((M 0 28) ≤ v2 → w6_isSeen_b105 Q v1 M) ∧ (¬ (M 0 28) ≤ v2 → ((v1 = 0 → w6_isSeen_b105 Q v1 M) ∧ (¬ v1 = 0 → vp_in ((3 * v2) + 1) 24 ∧ ∀ x2 : Int32, x2 = (M 30 (ci ((3 * v2) + 1))) → w6_isCarter x2 M (fun r3 M4 => ((r3 = 0 → w6_isSeen_b97 Q K8 v2 M4) ∧ (¬ r3 = 0 → vp_in (3 * v2) 24 ∧ vp_in (((32 * (M4 30 (ci (3 * v2)))) + (4 * x2)) + 1) 1280 ∧ vp_in ((3 * v2) + 2) 24 ∧ (((M4 30 (ci ((3 * v2) + 2))) = 8 → w6_isSeen_b90 Q K8 v2 (M4 24 (ci (((32 * (M4 30 (ci (3 * v2)))) + (4 * x2)) + 1))) (-1) M4) ∧ (¬ (M4 30 (ci ((3 * v2) + 2))) = 8 → w6_isSeen_b90 Q K8 v2 (M4 24 (ci (((32 * (M4 30 (ci (3 * v2)))) + (4 * x2)) + 1))) (M4 30 (ci ((3 * v2) + 2))) M4)))))))))
def w6_isSeen_b8 (Q : Int32 → Mem → Prop)  : Nat → Int32 → Int32 → Mem → Prop
  | 0 => fun _ _ _ => False
  | n + 1 => w6_isSeen_b8_f Q (w6_isSeen_b8 Q n)
def w6_isSeen_z  (M : Mem) (Q : Int32 → Mem → Prop) : Prop := w6_lives M (fun M8 => ∃ n, w6_isSeen_b8 Q n 1 0 M8)
def w6_isSeen  (M : Mem) (Q : Int32 → Mem → Prop) : Prop := w6_isSeen_z M (fun r M1 => isB r ∧ Q r M1)
/-! neverNow -/
def w6_neverNow_b34 (Q : Int32 → Mem → Prop) (K4 : Int32 → Int32 → Mem → Prop) (v2 : Int32) (s0 : Int32) (s1 : Int32) (M : Mem) : Prop := K4 (s0 ||| s1) (v2 + 1) M
def w6_neverNow_b4_f (Q : Int32 → Mem → Prop) (K4 : Int32 → Int32 → Mem → Prop) (v1 : Int32) (v2 : Int32) (M : Mem) : Prop := (((M 0 12) ≤ v2 → ∀ M1, M1 = mset M 0 14 0 → Q v1 M1) ∧ (¬ (M 0 12) ≤ v2 → ∀ M2, M2 = mset M 0 14 (1 <<< (v2 &&& 31)) → w6_isSeen M2 (fun r3 M4 => ((r3 = 0 → w6_neverNow_b34 Q K4 v2 v1 0 M4) ∧ (¬ r3 = 0 → w6_neverNow_b34 Q K4 v2 v1 (1 <<< (v2 &&& 31)) M4)))))
def w6_neverNow_b4 (Q : Int32 → Mem → Prop)  : Nat → Int32 → Int32 → Mem → Prop
  | 0 => fun _ _ _ => False
  | n + 1 => w6_neverNow_b4_f Q (w6_neverNow_b4 Q n)
def w6_neverNow  (M : Mem) (Q : Int32 → Mem → Prop) : Prop := ∃ n, w6_neverNow_b4 Q n 0 0 M
/-! never -/
def w6_never  (M : Mem) (Q : Int32 → Mem → Prop) : Prop := w6_find M (fun M1 => w6_neverNow M1 (fun r2 M3 => Q r2 M3))
/-! sortOf -/
def w6_sortOf_b55_f (Q : Int32 → Mem → Prop) (K16 : Int32 → Int32 → Int32 → Int32 → Mem → Prop) (K55 : Int32 → Int32 → Int32 → Int32 → Int32 → Mem → Prop) (v1 : Int32) (v2 : Int32) (v3 : Int32) (v4 : Int32) (v5 : Int32) (M : Mem) : Prop := ((40 ≤ v5 → K16 v1 v2 v3 (v4 + 1) M) ∧ (¬ 40 ≤ v5 → vp_in (((32 * v5) + (4 * v1)) + 1) 1280 ∧ vp_in ((40 * v4) + v5) 120 ∧ ∀ M3, M3 = mset M 31 (ci ((40 * v4) + v5)) (M 24 (ci (((32 * v5) + (4 * v1)) + 1))) → K55 v1 v2 v3 v4 (v5 + 1) M3))
def w6_sortOf_b55 (Q : Int32 → Mem → Prop) (K16 : Int32 → Int32 → Int32 → Int32 → Mem → Prop) : Nat → Int32 → Int32 → Int32 → Int32 → Int32 → Mem → Prop
  | 0 => fun _ _ _ _ _ _ => False
  | n + 1 => w6_sortOf_b55_f Q K16 (w6_sortOf_b55 Q K16 n)
def w6_sortOf_b50 (Q : Int32 → Mem → Prop) (K16 : Int32 → Int32 → Int32 → Int32 → Mem → Prop) (v1 : Int32) (v2 : Int32) (v4 : Int32) (s0 : Int32) (s1 : Int32) (M : Mem) : Prop := ∃ n, w6_sortOf_b55 Q K16 n v1 v2 (s0 ||| s1) v4 0 M
def w6_sortOf_b16_f (Q : Int32 → Mem → Prop) (K16 : Int32 → Int32 → Int32 → Int32 → Mem → Prop) (v1 : Int32) (v2 : Int32) (v3 : Int32) (v4 : Int32) (M : Mem) : Prop := ((3 ≤ v4 → vp_in ((5 * v1) + 2) 40 ∧ ∀ M5, M5 = mset M 11 (ci ((5 * v1) + 2)) v2 → Q v3 M5) ∧ (¬ 3 ≤ v4 → vp_in ((5 * v1) + 2) 40 ∧ ∀ M7, M7 = mset M 11 (ci ((5 * v1) + 2)) v4 → w6_isSeen M7 (fun r8 M9 => ((r8 = 0 → w6_sortOf_b50 Q K16 v1 v2 v4 v3 0 M9) ∧ (¬ r8 = 0 → w6_sortOf_b50 Q K16 v1 v2 v4 v3 (1 <<< (v4 &&& 31)) M9)))))
def w6_sortOf_b16 (Q : Int32 → Mem → Prop)  : Nat → Int32 → Int32 → Int32 → Int32 → Mem → Prop
  | 0 => fun _ _ _ _ _ => False
  | n + 1 => w6_sortOf_b16_f Q (w6_sortOf_b16 Q n)
def w6_sortOf (v1 : Int32) (M : Mem) (Q : Int32 → Mem → Prop) : Prop := vp_in ((5 * v1) + 2) 40 ∧ ∀ x11 : Int32, x11 = (M 11 (ci ((5 * v1) + 2))) → ∃ n, w6_sortOf_b16 Q n v1 x11 0 0 M
/-! sort -/
def w6_sort_b22 (Q : Int32 → Mem → Prop)  (s0 : Int32) (M : Mem) : Prop := Q s0 M
def w6_sort (v1 : Int32) (M : Mem) (Q : Int32 → Mem → Prop) : Prop := w6_find M (fun M1 => w6_isCarter v1 M1 (fun r2 M3 => ((r2 = 0 → w6_sort_b22 Q (-2) M3) ∧ (¬ r2 = 0 → w6_sortOf v1 M3 (fun r4 M5 => w6_sort_b22 Q r4 M5)))))
/-! forceOf -/
def w6_forceOf_b135 (Q : Int32 → Mem → Prop)  (s0 : Int32) (M : Mem) : Prop := Q s0 M
def w6_forceOf_b95 (Q : Int32 → Mem → Prop) (K23 : Int32 → Int32 → Int32 → Int32 → Int32 → Int32 → Int32 → Mem → Prop) (v1 : Int32) (v2 : Int32) (v3 : Int32) (v4 : Int32) (v5 : Int32) (v7 : Int32) (s0 : Int32) (M : Mem) : Prop := K23 v1 v2 v3 v4 v5 s0 (v7 + 1) M
def w6_forceOf_b81 (Q : Int32 → Mem → Prop) (K23 : Int32 → Int32 → Int32 → Int32 → Int32 → Int32 → Int32 → Mem → Prop) (v1 : Int32) (v2 : Int32) (v3 : Int32) (v4 : Int32) (v6 : Int32) (v7 : Int32) (v8 : Int32) (s0 : Int32) (M : Mem) : Prop := ((v8 = 0 → w6_forceOf_b95 Q K23 v1 v2 v3 v4 s0 v7 v6 M) ∧ (¬ v8 = 0 → w6_forceOf_b95 Q K23 v1 v2 v3 v4 s0 v7 v7 M))
def w6_forceOf_b79 (Q : Int32 → Mem → Prop) (K23 : Int32 → Int32 → Int32 → Int32 → Int32 → Int32 → Int32 → Mem → Prop) (v1 : Int32) (v2 : Int32) (v3 : Int32) (v4 : Int32) (v5 : Int32) (v6 : Int32) (v7 : Int32) (v8 : Int32) (M : Mem) : Prop := w6_forceOf_b81 Q K23 v1 v2 v3 v4 v6 v7 v8 v5 M
def w6_forceOf_b60 (Q : Int32 → Mem → Prop) (K23 : Int32 → Int32 → Int32 → Int32 → Int32 → Int32 → Int32 → Mem → Prop) (v1 : Int32) (v2 : Int32) (v3 : Int32) (v5 : Int32) (v6 : Int32) (v7 : Int32) (v8 : Int32) (s0 : Int32) (s1 : Int32) (M : Mem) : Prop := ((v8 = 0 → w6_forceOf_b79 Q K23 v1 v2 v3 (s0 + s1) v5 v6 v7 v8 M) ∧ (¬ v8 = 0 → ((v5 = (-1) → w6_forceOf_b81 Q K23 v1 v2 v3 (s0 + s1) v6 v7 v8 v7 M) ∧ (¬ v5 = (-1) → w6_forceOf_b79 Q K23 v1 v2 v3 (s0 + s1) v5 v6 v7 v8 M))))
def w6_forceOf_b23_f (Q : Int32 → Mem → Prop) (K23 : Int32 → Int32 → Int32 → Int32 → Int32 → Int32 → Int32 → Mem → Prop) (v1 : Int32) (v2 : Int32) (v3 : Int32) (v4 : Int32) (v5 : Int32) (v6 : Int32) (v7 : Int32) (M : Mem) : Prop := ((100 ≤ v7 → vp_in ((5 * v1) + 3) 40 ∧ ∀ M2, M2 = mset M 11 (ci ((5 * v1) + 3)) v3 → ((v2 = 0 → w6_forceOf_b135 Q v4 M2) ∧ (¬ v2 = 0 → ((v2 = 1 → w6_forceOf_b135 Q v5 M2) ∧ (¬ v2 = 1 → w6_forceOf_b135 Q v6 M2))))) ∧ (¬ 100 ≤ v7 → vp_in ((5 * v1) + 3) 40 ∧ ∀ M4, M4 = mset M 11 (ci ((5 * v1) + 3)) v7 → w6_isSeen M4 (fun r5 M6 => ((r5 = 0 → w6_forceOf_b60 Q K23 v1 v2 v3 v5 v6 v7 r5 v4 0 M6) ∧ (¬ r5 = 0 → w6_forceOf_b60 Q K23 v1 v2 v3 v5 v6 v7 r5 v4 1 M6)))))
def w6_forceOf_b23 (Q : Int32 → Mem → Prop)  : Nat → Int32 → Int32 → Int32 → Int32 → Int32 → Int32 → Int32 → Mem → Prop
  | 0 => fun _ _ _ _ _ _ _ _ => False
  | n + 1 => w6_forceOf_b23_f Q (w6_forceOf_b23 Q n)
def w6_forceOf (v1 : Int32) (v2 : Int32) (M : Mem) (Q : Int32 → Mem → Prop) : Prop := vp_in ((5 * v1) + 3) 40 ∧ ∀ x8 : Int32, x8 = (M 11 (ci ((5 * v1) + 3))) → ∃ n, w6_forceOf_b23 Q n v1 v2 x8 0 (-1) (-1) 0 M
/-! force -/
def w6_force_b35 (Q : Int32 → Mem → Prop)  (s0 : Int32) (M : Mem) : Prop := Q s0 M
def w6_force_b33 (Q : Int32 → Mem → Prop)   (M : Mem) : Prop := w6_force_b35 Q (-2) M
def w6_force (v1 : Int32) (v2 : Int32) (M : Mem) (Q : Int32 → Mem → Prop) : Prop := w6_find M (fun M1 => w6_isCarter v1 M1 (fun r2 M3 => ((r2 = 0 → w6_force_b33 Q M3) ∧ (¬ r2 = 0 → w6_in (Int32.toInt64 v2) 0 2 (fun r4 => ((r4 = 0 → w6_force_b33 Q M3) ∧ (¬ r4 = 0 → w6_forceOf v1 v2 M3 (fun r5 M6 => w6_force_b35 Q r5 M6))))))))
/-! alike -/
def w6_alike_b75 (Q : Int32 → Mem → Prop) (K5 : Int32 → Int32 → Int32 → Int32 → Mem → Prop) (K17 : Int32 → Int32 → Int32 → Int32 → Int32 → Int32 → Mem → Prop) (v1 : Int32) (v2 : Int32) (v3 : Int32) (v4 : Int32) (v6 : Int32) (s0 : Int32) (s1 : Int32) (M : Mem) : Prop := K17 v1 v2 v3 v4 (s0 + s1) (v6 + 1) M
def w6_alike_b74 (Q : Int32 → Mem → Prop) (K5 : Int32 → Int32 → Int32 → Int32 → Mem → Prop) (K17 : Int32 → Int32 → Int32 → Int32 → Int32 → Int32 → Mem → Prop) (v1 : Int32) (v2 : Int32) (v3 : Int32) (v4 : Int32) (v6 : Int32) (s0 : Int32) (M : Mem) : Prop := w6_alike_b75 Q K5 K17 v1 v2 v3 v4 v6 s0 0 M
def w6_alike_b17_f (Q : Int32 → Mem → Prop) (K5 : Int32 → Int32 → Int32 → Int32 → Mem → Prop) (K17 : Int32 → Int32 → Int32 → Int32 → Int32 → Int32 → Mem → Prop) (v1 : Int32) (v2 : Int32) (v3 : Int32) (v4 : Int32) (v5 : Int32) (v6 : Int32) (M : Mem) : Prop := ((3 ≤ v6 → w6_greater v5 v3 (fun r1 => K5 v1 v2 r1 (v4 + 1) M)) ∧ (¬ 3 ≤ v6 → w6_isIn v1 v4 (fun r2 => ((r2 = 0 → w6_alike_b74 Q K5 K17 v1 v2 v3 v4 v6 v5 M) ∧ (¬ r2 = 0 → w6_isIn v1 v6 (fun r3 => ((r3 = 0 → w6_alike_b74 Q K5 K17 v1 v2 v3 v4 v6 v5 M) ∧ (¬ r3 = 0 → vp_in ((40 * v4) + v2) 120 ∧ vp_in ((40 * v6) + v2) 120 ∧ (((M 31 (ci ((40 * v4) + v2))) = (M 31 (ci ((40 * v6) + v2))) → w6_alike_b75 Q K5 K17 v1 v2 v3 v4 v6 v5 1 M) ∧ (¬ (M 31 (ci ((40 * v4) + v2))) = (M 31 (ci ((40 * v6) + v2))) → w6_alike_b74 Q K5 K17 v1 v2 v3 v4 v6 v5 M))))))))))
def w6_alike_b17 (Q : Int32 → Mem → Prop) (K5 : Int32 → Int32 → Int32 → Int32 → Mem → Prop) : Nat → Int32 → Int32 → Int32 → Int32 → Int32 → Int32 → Mem → Prop
  | 0 => fun _ _ _ _ _ _ _ => False
  | n + 1 => w6_alike_b17_f Q K5 (w6_alike_b17 Q K5 n)
def w6_alike_b5_f (Q : Int32 → Mem → Prop) (K5 : Int32 → Int32 → Int32 → Int32 → Mem → Prop) (v1 : Int32) (v2 : Int32) (v3 : Int32) (v4 : Int32) (M : Mem) : Prop := ((3 ≤ v4 → Q v3 M) ∧ (¬ 3 ≤ v4 → ∃ n, w6_alike_b17 Q K5 n v1 v2 v3 v4 0 0 M))
def w6_alike_b5 (Q : Int32 → Mem → Prop)  : Nat → Int32 → Int32 → Int32 → Int32 → Mem → Prop
  | 0 => fun _ _ _ _ _ => False
  | n + 1 => w6_alike_b5_f Q (w6_alike_b5 Q n)
def w6_alike (v1 : Int32) (v2 : Int32) (M : Mem) (Q : Int32 → Mem → Prop) : Prop := ∃ n, w6_alike_b5 Q n v1 v2 0 0 M
/-! askOf -/
def w6_askOf_b40 (Q : Int32 → Mem → Prop) (K11 : Int32 → Int32 → Int32 → Mem → Prop) (v2 : Int32) (v4 : Int32) (s0 : Int32) (M : Mem) : Prop := K11 v2 s0 (v4 + 1) M
def w6_askOf_b11_f (Q : Int32 → Mem → Prop) (K11 : Int32 → Int32 → Int32 → Mem → Prop) (v2 : Int32) (v3 : Int32) (v4 : Int32) (M : Mem) : Prop := ((40 ≤ v4 → Q v3 M) ∧ (¬ 40 ≤ v4 → w6_alike v2 v4 M (fun r1 M2 => w6_alike v2 v3 M2 (fun r3 M4 => ((r3 ≤ r1 → w6_askOf_b40 Q K11 v2 v4 v3 M4) ∧ (¬ r3 ≤ r1 → w6_askOf_b40 Q K11 v2 v4 v4 M4))))))
def w6_askOf_b11 (Q : Int32 → Mem → Prop)  : Nat → Int32 → Int32 → Int32 → Mem → Prop
  | 0 => fun _ _ _ _ => False
  | n + 1 => w6_askOf_b11_f Q (w6_askOf_b11 Q n)
def w6_askOf (v1 : Int32) (M : Mem) (Q : Int32 → Mem → Prop) : Prop := w6_sortOf v1 M (fun r5 M6 => ∃ n, w6_askOf_b11 Q n r5 0 1 M6)
/-! ask -/
def w6_ask_b22 (Q : Int32 → Mem → Prop)  (s0 : Int32) (M : Mem) : Prop := Q s0 M
def w6_ask (v1 : Int32) (M : Mem) (Q : Int32 → Mem → Prop) : Prop := w6_find M (fun M1 => w6_isCarter v1 M1 (fun r2 M3 => ((r2 = 0 → w6_ask_b22 Q (-2) M3) ∧ (¬ r2 = 0 → w6_askOf v1 M3 (fun r4 M5 => w6_ask_b22 Q r4 M5)))))
/-! part -/
def w6_part_b41 (Q : Int64 → Prop)  (v5 : Int64) (s0 : Int64) : Prop := ¬ v5 = 0 ∧ Q (s0 / v5)
def w6_part_b6_f (Q : Int64 → Prop) (K6 : Int64 → Int64 → Int32 → Int64 → Int64 → Prop) (v0 : Int64) (v2 : Int64) (v4 : Int32) (v5 : Int64) (v7 : Int64) : Prop := (((lg_cmp v7 0) = 0 → ((v4 = 0 → w6_part_b41 Q v5 v0) ∧ (¬ v4 = 0 → w6_part_b41 Q v5 v2))) ∧ (¬ (lg_cmp v7 0) = 0 → ¬ v7 = 0 ∧ K6 v0 v2 v4 v7 (v5 - v5 / v7 * v7)))
def w6_part_b6 (Q : Int64 → Prop)  : Nat → Int64 → Int64 → Int32 → Int64 → Int64 → Prop
  | 0 => fun _ _ _ _ _ => False
  | n + 1 => w6_part_b6_f Q (w6_part_b6 Q n)
def w6_part (v0 : Int64) (v2 : Int64) (v4 : Int32) (Q : Int64 → Prop) : Prop := ∃ n, w6_part_b6 Q n v0 v2 v4 v0 v2
/-! rumourOf -/
def w6_rumourOf_b90 (Q : Int64 → Mem → Prop) (K6 : Int32 → Int32 → Int32 → Int64 → Int32 → Mem → Prop) (v1 : Int32) (v2 : Int32) (v3 : Int32) (v4 : Int64) (v6 : Int32) (M : Mem) : Prop := K6 v1 v2 v3 v4 (v6 + 1) M
def w6_rumourOf_b74 (Q : Int64 → Mem → Prop) (K6 : Int32 → Int32 → Int32 → Int64 → Int32 → Mem → Prop) (K43 : Int32 → Int32 → Int32 → Int64 → Int32 → Int64 → Int32 → Mem → Prop) (v1 : Int32) (v2 : Int32) (v3 : Int32) (v4 : Int64) (v6 : Int32) (v9 : Int32) (s0 : Int64) (s1 : Int64) (M : Mem) : Prop := K43 v1 v2 v3 v4 v6 (s0 * s1) (v9 + 1) M
def w6_rumourOf_b43_f (Q : Int64 → Mem → Prop) (K6 : Int32 → Int32 → Int32 → Int64 → Int32 → Mem → Prop) (K43 : Int32 → Int32 → Int32 → Int64 → Int32 → Int64 → Int32 → Mem → Prop) (v1 : Int32) (v2 : Int32) (v3 : Int32) (v4 : Int64) (v6 : Int32) (v7 : Int64) (v9 : Int32) (M : Mem) : Prop := (((M 0 12) ≤ v9 → w6_rumourOf_b90 Q K6 v1 v2 v3 (v4 + v7) v6 M) ∧ (¬ (M 0 12) ≤ v9 → w6_isIn v6 v9 (fun r1 => ((r1 = 0 → w6_rumourOf_b74 Q K6 K43 v1 v2 v3 v4 v6 v9 v7 (Int32.toInt64 v1) M) ∧ (¬ r1 = 0 → w6_rumourOf_b74 Q K6 K43 v1 v2 v3 v4 v6 v9 v7 (Int32.toInt64 (16 - v1)) M)))))
def w6_rumourOf_b43 (Q : Int64 → Mem → Prop) (K6 : Int32 → Int32 → Int32 → Int64 → Int32 → Mem → Prop) : Nat → Int32 → Int32 → Int32 → Int64 → Int32 → Int64 → Int32 → Mem → Prop
  | 0 => fun _ _ _ _ _ _ _ _ => False
  | n + 1 => w6_rumourOf_b43_f Q K6 (w6_rumourOf_b43 Q K6 n)
def w6_rumourOf_b6_f (Q : Int64 → Mem → Prop) (K6 : Int32 → Int32 → Int32 → Int64 → Int32 → Mem → Prop) (v1 : Int32) (v2 : Int32) (v3 : Int32) (v4 : Int64) (v6 : Int32) (M : Mem) : Prop := (((1 <<< ((M 0 12) &&& 31)) ≤ v6 → ∀ M2, M2 = mset M 0 14 0 → w6_part v4 (1 <<< (Int32.toInt64 (4 * (M2 0 12)) &&& 63)) v3 (fun r3 => Q r3 M2)) ∧ (¬ (1 <<< ((M 0 12) &&& 31)) ≤ v6 → ∀ M4, M4 = mset M 0 14 v6 → w6_lives M4 (fun M5 => vp_in v2 8 ∧ (((M5 18 (ci v2)) = 2 → ∃ n, w6_rumourOf_b43 Q K6 n v1 v2 v3 v4 v6 1 0 M5) ∧ (¬ (M5 18 (ci v2)) = 2 → w6_rumourOf_b90 Q K6 v1 v2 v3 v4 v6 M5)))))
def w6_rumourOf_b6 (Q : Int64 → Mem → Prop)  : Nat → Int32 → Int32 → Int32 → Int64 → Int32 → Mem → Prop
  | 0 => fun _ _ _ _ _ _ => False
  | n + 1 => w6_rumourOf_b6_f Q (w6_rumourOf_b6 Q n)
def w6_rumourOf (v1 : Int32) (v2 : Int32) (v3 : Int32) (M : Mem) (Q : Int64 → Mem → Prop) : Prop := ∃ n, w6_rumourOf_b6 Q n v1 v2 v3 0 0 M
/-! no -/
def w6_no (v0 : Int32) (Q : Int64 → Prop) : Prop := Q ((-9223372036854775808) - (Int32.toInt64 v0))
/-! rumour -/
def w6_rumour_b46 (Q : Int64 → Mem → Prop)  (s0 : Int64) (M : Mem) : Prop := Q s0 M
def w6_rumour_b41 (Q : Int64 → Mem → Prop)   (M : Mem) : Prop := w6_no (-2) (fun r1 => w6_rumour_b46 Q r1 M)
def w6_rumour (v1 : Int32) (v2 : Int32) (v3 : Int32) (M : Mem) (Q : Int64 → Mem → Prop) : Prop := w6_find M (fun M2 => w6_in (Int32.toInt64 v1) 0 16 (fun r3 => ((r3 = 0 → w6_rumour_b41 Q M2) ∧ (¬ r3 = 0 → w6_isCarter v2 M2 (fun r4 M5 => ((r4 = 0 → w6_rumour_b41 Q M5) ∧ (¬ r4 = 0 → w6_isTwo v3 (fun r6 => ((r6 = 0 → w6_rumour_b41 Q M5) ∧ (¬ r6 = 0 → w6_rumourOf v1 v2 v3 M5 (fun r7 M8 => w6_rumour_b46 Q r7 M8)))))))))))
/-! lot -/
def w6_lot (v1 : Int32) (M : Mem) (Q : Int32 → Mem → Prop) : Prop := ∀ M1, M1 = mset M 0 31 ((1103515245 * (M 0 31)) + 12345) → ¬ v1 = 0 ∧ Q (((Int32.toUInt32 (M1 0 31) >>> (Int32.toUInt32 16 &&& Int32.toUInt32 31)).toInt32) - ((Int32.toUInt32 (M1 0 31) >>> (Int32.toUInt32 16 &&& Int32.toUInt32 31)).toInt32) / v1 * v1) M1
/-! marketOf -/
def w6_marketOf_b56 (Q : Int32 → Mem → Prop)  (s1 : Int32) (M : Mem) : Prop := w6_whoBy s1 M (fun r1 M2 => w6_ones r1 (fun r3 => Q r3 M2))
def w6_marketOf_b7_f (Q : Int32 → Mem → Prop) (K7 : Int32 → Int32 → Mem → Prop) (v2 : Int32) (v3 : Int32) (M : Mem) : Prop := (((M 0 9) ≤ v3 → w6_lives M (fun M4 => w6_readsCarters M4 (fun r5 M6 => ((v2 = 0 → w6_marketOf_b56 Q 2 M6) ∧ (¬ v2 = 0 → w6_marketOf_b56 Q 4 M6))))) ∧ (¬ (M 0 9) ≤ v3 → w6_lot 100 M (fun r7 M8 => vp_in ((5 * v3) + 3) 40 ∧ ∀ M10, M10 = mset M8 11 (ci ((5 * v3) + 3)) r7 → K7 v2 (v3 + 1) M10)))
def w6_marketOf_b7 (Q : Int32 → Mem → Prop)  : Nat → Int32 → Int32 → Mem → Prop
  | 0 => fun _ _ _ => False
  | n + 1 => w6_marketOf_b7_f Q (w6_marketOf_b7 Q n)
def w6_marketOf (v1 : Int32) (v2 : Int32) (M : Mem) (Q : Int32 → Mem → Prop) : Prop := ∀ M11, M11 = mset M 0 31 v1 → ∃ n, w6_marketOf_b7 Q n v2 0 M11
/-! market -/
def w6_market_b22 (Q : Int32 → Mem → Prop)  (s0 : Int32) (M : Mem) : Prop := Q s0 M
def w6_market (v1 : Int32) (v2 : Int32) (M : Mem) (Q : Int32 → Mem → Prop) : Prop := w6_find M (fun M1 => w6_isTwo v2 (fun r2 => ((r2 = 0 → w6_market_b22 Q (-2) M1) ∧ (¬ r2 = 0 → w6_marketOf v1 v2 M1 (fun r3 M4 => w6_market_b22 Q r3 M4)))))
/-! write -/
def w6_write_b52_f (Q : Int32 → Mem → Prop) (K52 : Int32 → Int32 → Int32 → Int32 → Mem → Prop) (v1 : Int32) (v2 : Int32) (v3 : Int32) (v4 : Int32) (M : Mem) : Prop := ((v3 ≤ v4 → Q v3 M) ∧ (¬ v3 ≤ v4 → vp_in v2 4 ∧ vp_in (((32 * v4) + (4 * v1)) + 1) 1280 ∧ w6_cut (M 1 (ci v2)) (M 24 (ci (((32 * v4) + (4 * v1)) + 1))) (fun r3 => vp_in ((60 * v2) + v4) 240 ∧ ∀ M5, M5 = mset M 3 (ci ((60 * v2) + v4)) r3 → K52 v1 v2 v3 (v4 + 1) M5)))
def w6_write_b52 (Q : Int32 → Mem → Prop)  : Nat → Int32 → Int32 → Int32 → Int32 → Mem → Prop
  | 0 => fun _ _ _ _ _ => False
  | n + 1 => w6_write_b52_f Q (w6_write_b52 Q n)
def w6_write_b19 (Q : Int32 → Mem → Prop)   (M : Mem) : Prop := Q (-2) M
def w6_write (v1 : Int32) (v2 : Int32) (M : Mem) (Q : Int32 → Mem → Prop) : Prop := w6_find M (fun M6 => w6_isCarter v1 M6 (fun r7 M8 => ((r7 = 0 → w6_write_b19 Q M8) ∧ (¬ r7 = 0 → w6_isSheet v2 (fun r9 => ((r9 = 0 → w6_write_b19 Q M8) ∧ (¬ r9 = 0 → vp_in v2 4 ∧ ((0 ≤ (M8 1 (ci v2)) → w6_lesser (M8 2 (ci v2)) 40 (fun r11 => ∃ n, w6_write_b52 Q n v1 v2 r11 0 M8)) ∧ (¬ 0 ≤ (M8 1 (ci v2)) → w6_finds 1 M8 (fun r12 M13 => Q r12 M13))))))))))
/-! allArrivals -/
def w6_allArrivals_b4_f (Q : Int32 → Mem → Prop) (K4 : Int32 → Int32 → Mem → Prop) (v1 : Int32) (v2 : Int32) (M : Mem) : Prop := ((8 ≤ v2 → Q v1 M) ∧ (¬ 8 ≤ v2 → vp_in v2 8 ∧ K4 (v1 + (M 26 (ci v2))) (v2 + 1) M))
def w6_allArrivals_b4 (Q : Int32 → Mem → Prop)  : Nat → Int32 → Int32 → Mem → Prop
  | 0 => fun _ _ _ => False
  | n + 1 => w6_allArrivals_b4_f Q (w6_allArrivals_b4 Q n)
def w6_allArrivals  (M : Mem) (Q : Int32 → Mem → Prop) : Prop := ∃ n, w6_allArrivals_b4 Q n 0 0 M
/-! count -/
def w6_count_b66 (Q : Int32 → Mem → Prop)  (v1 : Int32) (M : Mem) : Prop := vp_in (v1 - 2) 2 ∧ Q (M 7 (ci (v1 - 2))) M
def w6_count (v1 : Int32) (M : Mem) (Q : Int32 → Mem → Prop) : Prop := w6_find M (fun M2 => ((v1 = 0 → Q (M2 0 7) M2) ∧ (¬ v1 = 0 → ((v1 = 1 → Q (M2 0 9) M2) ∧ (¬ v1 = 1 → ((v1 = 2 → w6_count_b66 Q v1 M2) ∧ (¬ v1 = 2 → ((v1 = 3 → w6_count_b66 Q v1 M2) ∧ (¬ v1 = 3 → ((v1 = 4 → Q (M2 0 12) M2) ∧ (¬ v1 = 4 → ((v1 = 5 → w6_comers M2 (fun r3 M4 => Q r3 M4)) ∧ (¬ v1 = 5 → ((v1 = 6 → w6_allArrivals M2 (fun r5 M6 => Q r5 M6)) ∧ (¬ v1 = 6 → ((v1 = 7 → Q (M2 0 28) M2) ∧ (¬ v1 = 7 → ((v1 = 8 → Q (M2 0 4) M2) ∧ (¬ v1 = 8 → (Q (-2) M2))))))))))))))))))))
/-! tellsHour -/
def w6_tellsHour_b6_f (Q : Int64 → Mem → Prop) (K6 : Int32 → Int32 → Int64 → Int32 → Mem → Prop) (v3 : Int32) (v4 : Int32) (v5 : Int64) (v7 : Int32) (M : Mem) : Prop := ((4 ≤ v7 → Q v5 M) ∧ (¬ 4 ≤ v7 → vp_in (((32 * v4) + (4 * v3)) + v7) 1280 ∧ ∀ x2 : Int64, x2 = ((31 * v5) + (Int32.toInt64 (M 24 (ci (((32 * v4) + (4 * v3)) + v7))))) → K6 v3 v4 x2 (v7 + 1) M))
def w6_tellsHour_b6 (Q : Int64 → Mem → Prop)  : Nat → Int32 → Int32 → Int64 → Int32 → Mem → Prop
  | 0 => fun _ _ _ _ _ => False
  | n + 1 => w6_tellsHour_b6_f Q (w6_tellsHour_b6 Q n)
def w6_tellsHour (v1 : Int64) (v3 : Int32) (v4 : Int32) (M : Mem) (Q : Int64 → Mem → Prop) : Prop := ∃ n, w6_tellsHour_b6 Q n v3 v4 v1 0 M
/-! tellsCarter -/
def w6_tellsCarter_b154_f (Q : Int64 → Mem → Prop) (K154 : Int32 → Int64 → Int32 → Mem → Prop) (v3 : Int32) (v4 : Int64) (v6 : Int32) (M : Mem) : Prop := ((3 ≤ v6 → w6_askOf v3 M (fun r1 M2 => ∀ x3 : Int64, x3 = ((31 * v4) + (Int32.toInt64 r1)) → w6_rumourOf 5 v3 0 M2 (fun r4 M5 => w6_rumourOf 5 v3 1 M5 (fun r6 M7 => Q ((31 * ((31 * x3) + r4)) + r6) M7)))) ∧ (¬ 3 ≤ v6 → w6_forceOf v3 v6 M (fun r8 M9 => ∀ x10 : Int64, x10 = ((31 * v4) + (Int32.toInt64 r8)) → K154 v3 x10 (v6 + 1) M9)))
def w6_tellsCarter_b154 (Q : Int64 → Mem → Prop)  : Nat → Int32 → Int64 → Int32 → Mem → Prop
  | 0 => fun _ _ _ _ => False
  | n + 1 => w6_tellsCarter_b154_f Q (w6_tellsCarter_b154 Q n)
def w6_tellsCarter_b10_f (Q : Int64 → Mem → Prop) (K10 : Int32 → Int64 → Int32 → Mem → Prop) (v3 : Int32) (v4 : Int64) (v6 : Int32) (M : Mem) : Prop := ((5 ≤ v6 → w6_tellsHour v4 v3 0 M (fun r11 M12 => w6_tellsHour r11 v3 5 M12 (fun r13 M14 => w6_tellsHour r13 v3 15 M14 (fun r15 M16 => w6_tellsHour r15 v3 39 M16 (fun r17 M18 => vp_in v3 8 ∧ ∀ x20 : Int64, x20 = ((31 * r17) + (Int32.toInt64 (M18 23 (ci v3)))) → w6_needsOf v3 M18 (fun r21 M22 => ∀ x23 : Int64, x23 = ((31 * x20) + (Int32.toInt64 r21)) → w6_delayOf v3 0 M22 (fun r24 M25 => ∀ x26 : Int64, x26 = ((31 * x23) + (Int32.toInt64 r24)) → w6_delayOf v3 1 M25 (fun r27 M28 => ∀ x29 : Int64, x29 = ((31 * x26) + (Int32.toInt64 r27)) → w6_sortOf v3 M28 (fun r30 M31 => ∀ x32 : Int64, x32 = ((31 * x29) + (Int32.toInt64 r30)) → ∃ n, w6_tellsCarter_b154 Q n v3 x32 0 M31))))))))) ∧ (¬ 5 ≤ v6 → vp_in ((5 * v3) + v6) 40 ∧ ∀ x34 : Int64, x34 = ((31 * v4) + (Int32.toInt64 (M 11 (ci ((5 * v3) + v6))))) → K10 v3 x34 (v6 + 1) M))
def w6_tellsCarter_b10 (Q : Int64 → Mem → Prop)  : Nat → Int32 → Int64 → Int32 → Mem → Prop
  | 0 => fun _ _ _ _ => False
  | n + 1 => w6_tellsCarter_b10_f Q (w6_tellsCarter_b10 Q n)
def w6_tellsCarter (v1 : Int64) (v3 : Int32) (M : Mem) (Q : Int64 → Mem → Prop) : Prop := w6_lives M (fun M35 => ∃ n, w6_tellsCarter_b10 Q n v3 v1 0 M35)
/-! digest -/
def w6_digest_b223_f (Q : Int64 → Mem → Prop) (K223 : Int64 → Int32 → Mem → Prop) (v1 : Int64) (v3 : Int32) (M : Mem) : Prop := ((3 ≤ v3 → w6_levelBy 0 M (fun r1 M2 => ∀ x3 : Int64, x3 = ((31 * v1) + (Int32.toInt64 r1)) → w6_levelBy 1 M2 (fun r4 M5 => ∀ x6 : Int64, x6 = ((31 * x3) + (Int32.toInt64 r4)) → w6_neverNow M5 (fun r7 M8 => ∀ x9 : Int64, x9 = ((31 * x6) + (Int32.toInt64 r7)) → w6_marketOf 7 0 M8 (fun r10 M11 => ∀ x12 : Int64, x12 = ((31 * x9) + (Int32.toInt64 r10)) → w6_marketOf 7 1 M11 (fun r13 M14 => Q ((31 * x12) + (Int32.toInt64 r13)) M14)))))) ∧ (¬ 3 ≤ v3 → w6_lendBy v3 M (fun r15 M16 => ∀ x17 : Int64, x17 = ((31 * v1) + (Int32.toInt64 r15)) → K223 x17 (v3 + 1) M16)))
def w6_digest_b223 (Q : Int64 → Mem → Prop)  : Nat → Int64 → Int32 → Mem → Prop
  | 0 => fun _ _ _ => False
  | n + 1 => w6_digest_b223_f Q (w6_digest_b223 Q n)
def w6_digest_b160_f (Q : Int64 → Mem → Prop) (K160 : Int64 → Int32 → Mem → Prop) (v1 : Int64) (v3 : Int32) (M : Mem) : Prop := ((6 ≤ v3 → ∀ x18 : Int64, x18 = ((31 * v1) + (Int32.toInt64 (M 0 26))) → ∀ x19 : Int64, x19 = ((31 * x18) + (Int32.toInt64 (M 0 27))) → w6_busiestNow M (fun r20 M21 => ∀ x22 : Int64, x22 = ((31 * x19) + (Int32.toInt64 r20)) → ∃ n, w6_digest_b223 Q n x22 0 M21)) ∧ (¬ 6 ≤ v3 → w6_whoBy v3 M (fun r23 M24 => ∀ x25 : Int64, x25 = ((31 * v1) + (Int32.toInt64 r23)) → K160 x25 (v3 + 1) M24)))
def w6_digest_b160 (Q : Int64 → Mem → Prop)  : Nat → Int64 → Int32 → Mem → Prop
  | 0 => fun _ _ _ => False
  | n + 1 => w6_digest_b160_f Q (w6_digest_b160 Q n)
def w6_digest_b133_f (Q : Int64 → Mem → Prop) (K133 : Int64 → Int32 → Mem → Prop) (v1 : Int64) (v3 : Int32) (M : Mem) : Prop := (((M 0 9) ≤ v3 → w6_lives M (fun M26 => ∃ n, w6_digest_b160 Q n v1 2 M26)) ∧ (¬ (M 0 9) ≤ v3 → w6_tellsCarter v1 v3 M (fun r27 M28 => K133 r27 (v3 + 1) M28)))
def w6_digest_b133 (Q : Int64 → Mem → Prop)  : Nat → Int64 → Int32 → Mem → Prop
  | 0 => fun _ _ _ => False
  | n + 1 => w6_digest_b133_f Q (w6_digest_b133 Q n)
def w6_digest_b91_f (Q : Int64 → Mem → Prop) (K91 : Int64 → Int32 → Mem → Prop) (v1 : Int64) (v3 : Int32) (M : Mem) : Prop := ((8 ≤ v3 → ∃ n, w6_digest_b133 Q n v1 0 M) ∧ (¬ 8 ≤ v3 → w6_farBy 0 v3 M (fun r29 M30 => ∀ x31 : Int64, x31 = ((31 * v1) + (Int32.toInt64 r29)) → w6_farBy v3 3 M30 (fun r32 M33 => ∀ x34 : Int64, x34 = ((31 * x31) + (Int32.toInt64 r32)) → K91 x34 (v3 + 1) M33))))
def w6_digest_b91 (Q : Int64 → Mem → Prop)  : Nat → Int64 → Int32 → Mem → Prop
  | 0 => fun _ _ _ => False
  | n + 1 => w6_digest_b91_f Q (w6_digest_b91 Q n)
def w6_digest_b59_f (Q : Int64 → Mem → Prop) (K59 : Int64 → Int32 → Mem → Prop) (v1 : Int64) (v3 : Int32) (M : Mem) : Prop := (((4 * (M 0 7)) ≤ v3 → ∃ n, w6_digest_b91 Q n v1 0 M) ∧ (¬ (4 * (M 0 7)) ≤ v3 → vp_in v3 40 ∧ ∀ x36 : Int64, x36 = ((31 * v1) + (Int32.toInt64 (M 9 (ci v3)))) → K59 x36 (v3 + 1) M))
def w6_digest_b59 (Q : Int64 → Mem → Prop)  : Nat → Int64 → Int32 → Mem → Prop
  | 0 => fun _ _ _ => False
  | n + 1 => w6_digest_b59_f Q (w6_digest_b59 Q n)
def w6_digest_b6_f (Q : Int64 → Mem → Prop) (K6 : Int64 → Int32 → Mem → Prop) (v1 : Int64) (v3 : Int32) (M : Mem) : Prop := ((8 ≤ v3 → w6_readsText 0 M (fun r37 M38 => ∀ x39 : Int64, x39 = ((31 * v1) + (Int32.toInt64 r37)) → w6_readsText 1 M38 (fun r40 M41 => ∀ x42 : Int64, x42 = ((31 * x39) + (Int32.toInt64 r40)) → ∃ n, w6_digest_b59 Q n x42 0 M41))) ∧ (¬ 8 ≤ v3 → w6_count v3 M (fun r43 M44 => ∀ x45 : Int64, x45 = ((31 * v1) + (Int32.toInt64 r43)) → K6 x45 (v3 + 1) M44)))
def w6_digest_b6 (Q : Int64 → Mem → Prop)  : Nat → Int64 → Int32 → Mem → Prop
  | 0 => fun _ _ _ => False
  | n + 1 => w6_digest_b6_f Q (w6_digest_b6 Q n)
def w6_digest  (M : Mem) (Q : Int64 → Mem → Prop) : Prop := ∃ n, w6_digest_b6 Q n 17 0 M
