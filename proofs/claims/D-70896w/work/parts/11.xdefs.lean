/-! the system: what each method asks, out of its bytecode; printed by gen.py -/
/-! in -/
def w0_in_b15 (Q : Int32 → Prop)  (s0 : Int32) : Prop := Q s0
def w0_in_b14 (Q : Int32 → Prop)   : Prop := w0_in_b15 Q 0
def w0_in_z (v0 : Int32) (v1 : Int32) (v2 : Int32) (Q : Int32 → Prop) : Prop := ((v0 < v1 → w0_in_b14 Q ) ∧ (¬ v0 < v1 → ((v2 < v0 → w0_in_b14 Q ) ∧ (¬ v2 < v0 → w0_in_b15 Q 1))))
def w0_in (v0 : Int32) (v1 : Int32) (v2 : Int32) (Q : Int32 → Prop) : Prop := w0_in_z v0 v1 v2 (fun r => isB r ∧ Q r)
/-! isText -/
def w0_isText_z (v0 : Int32) (Q : Int32 → Prop) : Prop := w0_in v0 0 1 (fun r1 => Q r1)
def w0_isText (v0 : Int32) (Q : Int32 → Prop) : Prop := w0_isText_z v0 (fun r => isB r ∧ Q r)
/-! type -/
def w0_type_b18 (Q : Int32 → Mem → Prop)   (M : Mem) : Prop := Q (-2) M
def w0_type (v1 : Int32) (v2 : Int32) (M : Mem) (Q : Int32 → Mem → Prop) : Prop := w0_isText v1 (fun r1 => ((r1 = 0 → w0_type_b18 Q M) ∧ (¬ r1 = 0 → w0_in v2 0 255 (fun r2 => ((r2 = 0 → w0_type_b18 Q M) ∧ (¬ r2 = 0 → vp_in v1 2 ∧ lenX (2 + ci v1) ≠ 0 ∧ (((M 4 (ci v1)) = (Int32.ofNat (lenX (2 + ci v1))) → Q (-4) M) ∧ (¬ (M 4 (ci v1)) = (Int32.ofNat (lenX (2 + ci v1))) → vp_in (M 4 (ci v1)) (lenX (2 + ci v1)) ∧ ∀ M6, M6 = mset M (2 + ci v1) (ci (M 4 (ci v1))) v2 → ∀ M7, M7 = mset M6 4 (ci v1) ((M6 4 (ci v1)) + 1) → isB 0 ∧ ∀ M9, M9 = mset M7 0 2 0 → Q (M9 4 (ci v1)) M9))))))))
/-! wipe -/
def w0_wipe (v1 : Int32) (M : Mem) (Q : Int32 → Mem → Prop) : Prop := w0_isText v1 (fun r1 => ((r1 = 0 → Q (-2) M) ∧ (¬ r1 = 0 → vp_in v1 2 ∧ ∀ M3, M3 = mset M 4 (ci v1) 0 → isB 0 ∧ ∀ M5, M5 = mset M3 0 2 0 → Q (M 4 (ci v1)) M5)))
/-! undo -/
def w0_undo (v1 : Int32) (M : Mem) (Q : Int32 → Mem → Prop) : Prop := w0_isText v1 (fun r1 => ((r1 = 0 → Q (-2) M) ∧ (¬ r1 = 0 → vp_in v1 2 ∧ (((M 4 (ci v1)) = 0 → Q (-3) M) ∧ (¬ (M 4 (ci v1)) = 0 → ∀ M3, M3 = mset M 4 (ci v1) ((M 4 (ci v1)) - 1) → isB 0 ∧ ∀ M5, M5 = mset M3 0 2 0 → Q (M5 4 (ci v1)) M5)))))
/-! byteAt -/
def w0_byteAt_b22 (Q : Int32 → Mem → Prop)  (s0 : Int32) (M : Mem) : Prop := Q s0 M
def w0_byteAt (v1 : Int32) (v2 : Int32) (M : Mem) (Q : Int32 → Mem → Prop) : Prop := vp_in v1 2 ∧ (((M 4 (ci v1)) ≤ v2 → w0_byteAt_b22 Q (-1) M) ∧ (¬ (M 4 (ci v1)) ≤ v2 → vp_in v2 (lenX (2 + ci v1)) ∧ w0_byteAt_b22 Q (M (2 + ci v1) (ci v2)) M))
/-! isPlace -/
def w0_isPlace_z (v0 : Int32) (Q : Int32 → Prop) : Prop := w0_in v0 0 7 (fun r1 => Q r1)
def w0_isPlace (v0 : Int32) (Q : Int32 → Prop) : Prop := w0_isPlace_z v0 (fun r => isB r ∧ Q r)
/-! placeAt -/
def w0_placeAt_b22 (Q : Int32 → Mem → Prop)  (s0 : Int32) (M : Mem) : Prop := Q s0 M
def w0_placeAt (v1 : Int32) (v2 : Int32) (M : Mem) (Q : Int32 → Mem → Prop) : Prop := w0_byteAt v1 v2 M (fun r1 M2 => w0_isPlace (r1 - 97) (fun r3 => ((r3 = 0 → w0_placeAt_b22 Q (-1) M2) ∧ (¬ r3 = 0 → w0_placeAt_b22 Q (r1 - 97) M2))))
/-! figureAt -/
def w0_figureAt_b28 (Q : Int32 → Mem → Prop)  (s0 : Int32) (M : Mem) : Prop := Q s0 M
def w0_figureAt (v1 : Int32) (v2 : Int32) (v3 : Int32) (M : Mem) (Q : Int32 → Mem → Prop) : Prop := w0_byteAt v1 v2 M (fun r1 M2 => w0_in (r1 - 48) v3 9 (fun r3 => ((r3 = 0 → w0_figureAt_b28 Q (-1) M2) ∧ (¬ r3 = 0 → w0_figureAt_b28 Q (r1 - 48) M2))))
/-! slopeOf -/
def w0_slopeOf_b31 (Q : Int32 → Prop)  (s0 : Int32) : Prop := Q s0
def w0_slopeOf (v0 : Int32) (Q : Int32 → Prop) : Prop := ((v0 = 117 → w0_slopeOf_b31 Q 0) ∧ (¬ v0 = 117 → ((v0 = 102 → w0_slopeOf_b31 Q 1) ∧ (¬ v0 = 102 → ((v0 = 100 → w0_slopeOf_b31 Q 2) ∧ (¬ v0 = 100 → w0_slopeOf_b31 Q (-1)))))))
/-! readsWay -/
def w0_readsWay_b132 (Q : Int32 → Mem → Prop)  (v7 : Int32) (M : Mem) : Prop := Q v7 M
def w0_readsWay_b93 (Q : Int32 → Mem → Prop)  (v1 : Int32) (v3 : Int32) (v4 : Int32) (v5 : Int32) (v6 : Int32) (s0 : Int32) (M : Mem) : Prop := ((s0 = 4 → vp_in v1 10 ∧ ∀ M2, M2 = mset M 6 (ci v1) v3 → ∀ M3, M3 = mset M2 7 (ci v1) v4 → ∀ M4, M4 = mset M3 8 (ci v1) v5 → ∀ M5, M5 = mset M4 9 (ci v1) v6 → w0_readsWay_b132 Q s0 M5) ∧ (¬ s0 = 4 → w0_readsWay_b132 Q s0 M))
def w0_readsWay_b68 (Q : Int32 → Mem → Prop)  (v1 : Int32) (v3 : Int32) (v4 : Int32) (v5 : Int32) (v6 : Int32) (M : Mem) : Prop := w0_readsWay_b93 Q v1 v3 v4 v5 v6 1 M
def w0_readsWay_b52 (Q : Int32 → Mem → Prop)  (v1 : Int32) (v3 : Int32) (v4 : Int32) (v5 : Int32) (v6 : Int32) (M : Mem) : Prop := w0_readsWay_b93 Q v1 v3 v4 v5 v6 0 M
def w0_readsWay (v1 : Int32) (v2 : Int32) (M : Mem) (Q : Int32 → Mem → Prop) : Prop := w0_placeAt 0 v2 M (fun r6 M7 => w0_placeAt 0 (v2 + 1) M7 (fun r8 M9 => w0_figureAt 0 (v2 + 2) 1 M9 (fun r10 M11 => w0_byteAt 0 (v2 + 3) M11 (fun r12 M13 => w0_slopeOf r12 (fun r14 => ((v1 = 10 → w0_readsWay_b52 Q v1 r6 r8 r10 r14 M13) ∧ (¬ v1 = 10 → ((r6 = (-1) → w0_readsWay_b52 Q v1 r6 r8 r10 r14 M13) ∧ (¬ r6 = (-1) → ((r8 = (-1) → w0_readsWay_b68 Q v1 r6 r8 r10 r14 M13) ∧ (¬ r8 = (-1) → ((r8 = r6 → w0_readsWay_b68 Q v1 r6 r8 r10 r14 M13) ∧ (¬ r8 = r6 → ((r10 = (-1) → w0_readsWay_b93 Q v1 r6 r8 r10 r14 2 M13) ∧ (¬ r10 = (-1) → ((r14 = (-1) → w0_readsWay_b93 Q v1 r6 r8 r10 r14 3 M13) ∧ (¬ r14 = (-1) → w0_readsWay_b93 Q v1 r6 r8 r10 r14 4 M13)))))))))))))))))
/-! kindOf -/
def w0_kindOf_b31 (Q : Int32 → Prop)  (s0 : Int32) : Prop := Q s0
def w0_kindOf (v0 : Int32) (Q : Int32 → Prop) : Prop := ((v0 = 111 → w0_kindOf_b31 Q 0) ∧ (¬ v0 = 111 → ((v0 = 99 → w0_kindOf_b31 Q 1) ∧ (¬ v0 = 99 → ((v0 = 114 → w0_kindOf_b31 Q 2) ∧ (¬ v0 = 114 → w0_kindOf_b31 Q (-1)))))))
/-! isCarterByte -/
def w0_isCarterByte_b71 (Q : Int32 → Mem → Prop)  (s0 : Int32) (M : Mem) : Prop := Q s0 M
def w0_isCarterByte_z (v1 : Int32) (v2 : Int32) (M : Mem) (Q : Int32 → Mem → Prop) : Prop := ((2 ≤ v2 → ((v2 = 2 → w0_byteAt 1 (v1 + v2) M (fun r1 M2 => w0_kindOf r1 (fun r3 => ((r3 = (-1) → w0_isCarterByte_b71 Q 0 M2) ∧ (¬ r3 = (-1) → w0_isCarterByte_b71 Q 1 M2))))) ∧ (¬ v2 = 2 → w0_figureAt 1 (v1 + v2) 0 M (fun r4 M5 => ((r4 = (-1) → w0_isCarterByte_b71 Q 0 M5) ∧ (¬ r4 = (-1) → w0_isCarterByte_b71 Q 1 M5)))))) ∧ (¬ 2 ≤ v2 → w0_placeAt 1 (v1 + v2) M (fun r6 M7 => ((r6 = (-1) → w0_isCarterByte_b71 Q 0 M7) ∧ (¬ r6 = (-1) → w0_isCarterByte_b71 Q 1 M7)))))
def w0_isCarterByte (v1 : Int32) (v2 : Int32) (M : Mem) (Q : Int32 → Mem → Prop) : Prop := w0_isCarterByte_z v1 v2 M (fun r M1 => isB r ∧ Q r M1)
/-! readsCarter -/
def w0_readsCarter_b129 (Q : Int32 → Mem → Prop)  (v3 : Int32) (M : Mem) : Prop := Q v3 M
def w0_readsCarter_b29 (Q : Int32 → Mem → Prop)  (v1 : Int32) (v2 : Int32) (v3 : Int32) (M : Mem) : Prop := ((v3 = 6 → vp_in v1 8 ∧ w0_placeAt 1 v2 M (fun r2 M3 => ∀ M4, M4 = mset M3 (30 + ci v1) 0 r2 → w0_placeAt 1 (v2 + 1) M4 (fun r5 M6 => ∀ M7, M7 = mset M6 (30 + ci v1) 1 r5 → w0_byteAt 1 (v2 + 2) M7 (fun r8 M9 => w0_kindOf r8 (fun r10 => vp_in r10 3 ∧ ∀ M12, M12 = mset M9 (30 + ci v1) 2 r10 → w0_figureAt 1 (v2 + 3) 0 M12 (fun r13 M14 => w0_figureAt 1 (v2 + 4) 0 M14 (fun r15 M16 => ∀ M17, M17 = mset M16 (30 + ci v1) 3 ((10 * r13) + r15) → w0_figureAt 1 (v2 + 5) 0 M17 (fun r18 M19 => ∀ M20, M20 = mset M19 (30 + ci v1) 4 r18 → w0_readsCarter_b129 Q v3 M20)))))))) ∧ (¬ v3 = 6 → w0_readsCarter_b129 Q v3 M))
def w0_readsCarter_b2_f (Q : Int32 → Mem → Prop) (K2 : Int32 → Int32 → Int32 → Mem → Prop) (v1 : Int32) (v2 : Int32) (v3 : Int32) (M : Mem) : Prop := ((8 ≤ v1 → w0_readsCarter_b29 Q v1 v2 v3 M) ∧ (¬ 8 ≤ v1 → ((6 ≤ v3 → w0_readsCarter_b29 Q v1 v2 v3 M) ∧ (¬ 6 ≤ v3 → w0_isCarterByte v2 v3 M (fun r21 M22 => ((r21 = 0 → w0_readsCarter_b29 Q v1 v2 v3 M22) ∧ (¬ r21 = 0 → K2 v1 v2 (v3 + 1) M22)))))))
def w0_readsCarter_b2 (Q : Int32 → Mem → Prop)  : Nat → Int32 → Int32 → Int32 → Mem → Prop
  | 0 => fun _ _ _ _ => False
  | n + 1 => w0_readsCarter_b2_f Q (w0_readsCarter_b2 Q n)
def w0_readsCarter (v1 : Int32) (v2 : Int32) (M : Mem) (Q : Int32 → Mem → Prop) : Prop := ∃ n, w0_readsCarter_b2 Q n v1 v2 0 M
/-! readsParts -/
def w0_readsParts_b169 (Q : Int32 → Mem → Prop)  (s1 : Int32) (M : Mem) : Prop := ∀ M1, M1 = mset M 0 9 s1 → Q (-1) M1
def w0_readsParts_b152 (Q : Int32 → Mem → Prop)  (v1 : Int32) (v3 : Int32) (s1 : Int32) (M : Mem) : Prop := ∀ M2, M2 = mset M 0 4 s1 → ((v1 = 1 → w0_readsParts_b169 Q v3 M2) ∧ (¬ v1 = 1 → w0_readsParts_b169 Q (M2 0 9) M2))
def w0_readsParts_b133 (Q : Int32 → Mem → Prop) (K32 : Int32 → Int32 → Int32 → Int32 → Int32 → Mem → Prop) (v1 : Int32) (v2 : Int32) (v3 : Int32) (v5 : Int32) (s0 : Int32) (s1 : Int32) (M : Mem) : Prop := K32 v1 v2 v3 (s0 + s1) v5 M
def w0_readsParts_b121 (Q : Int32 → Mem → Prop) (K32 : Int32 → Int32 → Int32 → Int32 → Int32 → Mem → Prop) (v1 : Int32) (v2 : Int32) (v3 : Int32) (v4 : Int32) (v5 : Int32) (M : Mem) : Prop := ((v5 = 0 → w0_readsParts_b133 Q K32 v1 v2 v3 v5 v4 0 M) ∧ (¬ v5 = 0 → w0_readsParts_b133 Q K32 v1 v2 v3 v5 v4 1 M))
def w0_readsParts_b97 (Q : Int32 → Mem → Prop) (K32 : Int32 → Int32 → Int32 → Int32 → Int32 → Mem → Prop) (v1 : Int32) (v2 : Int32) (v3 : Int32) (v4 : Int32) (s0 : Int32) (M : Mem) : Prop := ((s0 = 0 → w0_readsParts_b121 Q K32 v1 v2 v3 v4 s0 M) ∧ (¬ s0 = 0 → vp_in v1 2 ∧ vp_in v4 (lenX (2 + ci v1)) ∧ (((M (2 + ci v1) (ci v4)) = 59 → w0_readsParts_b121 Q K32 v1 v2 v3 v4 s0 M) ∧ (¬ (M (2 + ci v1) (ci v4)) = 59 → Q v4 M))))
def w0_readsParts_b58 (Q : Int32 → Mem → Prop) (K32 : Int32 → Int32 → Int32 → Int32 → Int32 → Mem → Prop) (v1 : Int32) (v2 : Int32) (v3 : Int32) (v4 : Int32) (s0 : Int32) (M : Mem) : Prop := ((v2 ≤ s0 → vp_in v1 2 ∧ (((M 4 (ci v1)) ≤ (v4 + v2) → w0_readsParts_b97 Q K32 v1 v2 (v3 + 1) (v4 + v2) 0 M) ∧ (¬ (M 4 (ci v1)) ≤ (v4 + v2) → w0_readsParts_b97 Q K32 v1 v2 (v3 + 1) (v4 + v2) 1 M))) ∧ (¬ v2 ≤ s0 → Q (v4 + s0) M))
def w0_readsParts_b32_f (Q : Int32 → Mem → Prop) (K32 : Int32 → Int32 → Int32 → Int32 → Int32 → Mem → Prop) (v1 : Int32) (v2 : Int32) (v3 : Int32) (v4 : Int32) (v5 : Int32) (M : Mem) : Prop := ((v5 = 0 → ((v1 = 0 → w0_readsParts_b152 Q v1 v3 v3 M) ∧ (¬ v1 = 0 → w0_readsParts_b152 Q v1 v3 (M 0 4) M))) ∧ (¬ v5 = 0 → ((v1 = 0 → w0_readsWay v3 v4 M (fun r6 M7 => w0_readsParts_b58 Q K32 v1 v2 v3 v4 r6 M7)) ∧ (¬ v1 = 0 → w0_readsCarter v3 v4 M (fun r8 M9 => w0_readsParts_b58 Q K32 v1 v2 v3 v4 r8 M9)))))
def w0_readsParts_b32 (Q : Int32 → Mem → Prop)  : Nat → Int32 → Int32 → Int32 → Int32 → Int32 → Mem → Prop
  | 0 => fun _ _ _ _ _ _ => False
  | n + 1 => w0_readsParts_b32_f Q (w0_readsParts_b32 Q n)
def w0_readsParts_b30 (Q : Int32 → Mem → Prop)  (v1 : Int32) (v2 : Int32) (v3 : Int32) (v4 : Int32) (s0 : Int32) (M : Mem) : Prop := ∃ n, w0_readsParts_b32 Q n v1 v2 v3 v4 s0 M
def w0_readsParts_b10 (Q : Int32 → Mem → Prop)  (v1 : Int32) (s0 : Int32) (M : Mem) : Prop := vp_in v1 2 ∧ (((M 4 (ci v1)) ≤ 0 → w0_readsParts_b30 Q v1 s0 0 0 0 M) ∧ (¬ (M 4 (ci v1)) ≤ 0 → w0_readsParts_b30 Q v1 s0 0 0 1 M))
def w0_readsParts (v1 : Int32) (M : Mem) (Q : Int32 → Mem → Prop) : Prop := ((v1 = 0 → w0_readsParts_b10 Q v1 4 M) ∧ (¬ v1 = 0 → w0_readsParts_b10 Q v1 6 M))
/-! reads -/
def w0_reads_b44 (Q : Mem → Prop)   (M : Mem) : Prop := Q M
def w0_reads  (M : Mem) (Q : Mem → Prop) : Prop := (((M 0 2) = 0 → isB 1 ∧ ∀ M2, M2 = mset M 0 2 1 → ∀ M3, M3 = mset M2 0 4 0 → ∀ M4, M4 = mset M3 0 9 0 → w0_readsParts 0 M4 (fun r5 M6 => vp_in 0 2 ∧ ∀ M8, M8 = mset M6 5 (ci 0) r5 → w0_readsParts 1 M8 (fun r9 M10 => vp_in 1 2 ∧ ∀ M12, M12 = mset M10 5 (ci 1) r9 → w0_reads_b44 Q M12))) ∧ (¬ (M 0 2) = 0 → w0_reads_b44 Q M))
/-! faultOf -/
def w0_faultOf (v1 : Int32) (M : Mem) (Q : Int32 → Mem → Prop) : Prop := w0_reads M (fun M1 => vp_in v1 2 ∧ Q (M1 5 (ci v1)) M1)
/-! fault -/
def w0_fault_b17 (Q : Int32 → Mem → Prop)  (s0 : Int32) (M : Mem) : Prop := Q s0 M
def w0_fault (v1 : Int32) (M : Mem) (Q : Int32 → Mem → Prop) : Prop := w0_isText v1 (fun r1 => ((r1 = 0 → w0_fault_b17 Q (-2) M) ∧ (¬ r1 = 0 → w0_faultOf v1 M (fun r2 M3 => w0_fault_b17 Q r2 M3))))
/-! isWay -/
def w0_isWay_z (v1 : Int32) (M : Mem) (Q : Int32 → Mem → Prop) : Prop := w0_reads M (fun M1 => w0_in v1 0 ((M1 0 4) - 1) (fun r2 => Q r2 M1))
def w0_isWay (v1 : Int32) (M : Mem) (Q : Int32 → Mem → Prop) : Prop := w0_isWay_z v1 M (fun r M1 => isB r ∧ Q r M1)
/-! wayOf -/
def w0_wayOf_b47 (Q : Int32 → Mem → Prop)  (s0 : Int32) (M : Mem) : Prop := Q s0 M
def w0_wayOf (v1 : Int32) (v2 : Int32) (M : Mem) (Q : Int32 → Mem → Prop) : Prop := ((v2 = 0 → vp_in v1 10 ∧ w0_wayOf_b47 Q (M 6 (ci v1)) M) ∧ (¬ v2 = 0 → ((v2 = 1 → vp_in v1 10 ∧ w0_wayOf_b47 Q (M 7 (ci v1)) M) ∧ (¬ v2 = 1 → ((v2 = 2 → vp_in v1 10 ∧ w0_wayOf_b47 Q (M 8 (ci v1)) M) ∧ (¬ v2 = 2 → vp_in v1 10 ∧ w0_wayOf_b47 Q (M 9 (ci v1)) M))))))
/-! way -/
def w0_way_b28 (Q : Int32 → Mem → Prop)  (s0 : Int32) (M : Mem) : Prop := Q s0 M
def w0_way_b26 (Q : Int32 → Mem → Prop)   (M : Mem) : Prop := w0_way_b28 Q (-2) M
def w0_way (v1 : Int32) (v2 : Int32) (M : Mem) (Q : Int32 → Mem → Prop) : Prop := w0_isWay v1 M (fun r1 M2 => ((r1 = 0 → w0_way_b26 Q M2) ∧ (¬ r1 = 0 → w0_in v2 0 3 (fun r3 => ((r3 = 0 → w0_way_b26 Q M2) ∧ (¬ r3 = 0 → w0_wayOf v1 v2 M2 (fun r4 M5 => w0_way_b28 Q r4 M5)))))))
/-! isCarter -/
def w0_isCarter_z (v1 : Int32) (M : Mem) (Q : Int32 → Mem → Prop) : Prop := w0_reads M (fun M1 => w0_in v1 0 ((M1 0 9) - 1) (fun r2 => Q r2 M1))
def w0_isCarter (v1 : Int32) (M : Mem) (Q : Int32 → Mem → Prop) : Prop := w0_isCarter_z v1 M (fun r M1 => isB r ∧ Q r M1)
/-! carterOf -/
def w0_carterOf_b61 (Q : Int32 → Mem → Prop)  (s0 : Int32) (M : Mem) : Prop := Q s0 M
def w0_carterOf (v1 : Int32) (v2 : Int32) (M : Mem) (Q : Int32 → Mem → Prop) : Prop := vp_in v1 8 ∧ ((v2 = 0 → w0_carterOf_b61 Q (M (30 + ci v1) 0) M) ∧ (¬ v2 = 0 → ((v2 = 1 → w0_carterOf_b61 Q (M (30 + ci v1) 1) M) ∧ (¬ v2 = 1 → ((v2 = 2 → vp_in (M (30 + ci v1) 2) 3 ∧ w0_carterOf_b61 Q (qkind (M (30 + ci v1) 2)) M) ∧ (¬ v2 = 2 → ((v2 = 3 → w0_carterOf_b61 Q (M (30 + ci v1) 3) M) ∧ (¬ v2 = 3 → w0_carterOf_b61 Q (M (30 + ci v1) 4) M))))))))
/-! carter -/
def w0_carter_b28 (Q : Int32 → Mem → Prop)  (s0 : Int32) (M : Mem) : Prop := Q s0 M
def w0_carter_b26 (Q : Int32 → Mem → Prop)   (M : Mem) : Prop := w0_carter_b28 Q (-2) M
def w0_carter (v1 : Int32) (v2 : Int32) (M : Mem) (Q : Int32 → Mem → Prop) : Prop := w0_isCarter v1 M (fun r1 M2 => ((r1 = 0 → w0_carter_b26 Q M2) ∧ (¬ r1 = 0 → w0_in v2 0 4 (fun r3 => ((r3 = 0 → w0_carter_b26 Q M2) ∧ (¬ r3 = 0 → w0_carterOf v1 v2 M2 (fun r4 M5 => w0_carter_b28 Q r4 M5)))))))
/-! isEight -/
def w0_isEight_z (v0 : Int32) (Q : Int32 → Prop) : Prop := w0_in v0 0 7 (fun r1 => Q r1)
def w0_isEight (v0 : Int32) (Q : Int32 → Prop) : Prop := w0_isEight_z v0 (fun r => isB r ∧ Q r)
/-! late -/
def w0_late_b17 (Q : Int32 → Mem → Prop)   (M : Mem) : Prop := Q (-2) M
def w0_late (v1 : Int32) (v2 : Int32) (M : Mem) (Q : Int32 → Mem → Prop) : Prop := w0_isEight v1 (fun r1 => ((r1 = 0 → w0_late_b17 Q M) ∧ (¬ r1 = 0 → w0_in v2 0 9 (fun r2 => ((r2 = 0 → w0_late_b17 Q M) ∧ (¬ r2 = 0 → vp_in v1 8 ∧ ∀ M4, M4 = mset M (30 + ci v1) 5 v2 → Q (M (30 + ci v1) 5) M4))))))
/-! isHour -/
def w0_isHour_z (v0 : Int32) (Q : Int32 → Prop) : Prop := w0_in v0 0 39 (fun r1 => Q r1)
def w0_isHour (v0 : Int32) (Q : Int32 → Prop) : Prop := w0_isHour_z v0 (fun r => isB r ∧ Q r)
/-! more -/
def w0_more_b14 (Q : Int32 → Mem → Prop)   (M : Mem) : Prop := Q (-2) M
def w0_more (v1 : Int32) (v2 : Int32) (M : Mem) (Q : Int32 → Mem → Prop) : Prop := w0_isHour v1 (fun r1 => ((r1 = 0 → w0_more_b14 Q M) ∧ (¬ r1 = 0 → w0_isPlace v2 (fun r2 => ((r2 = 0 → w0_more_b14 Q M) ∧ (¬ r2 = 0 → (((M 0 12) = 8 → Q (-4) M) ∧ (¬ (M 0 12) = 8 → vp_in (M 0 12) 8 ∧ ∀ M4, M4 = mset M 12 (ci (M 0 12)) v1 → vp_in (M4 0 12) 8 ∧ ∀ M6, M6 = mset M4 13 (ci (M4 0 12)) v2 → ∀ M7, M7 = mset M6 0 12 ((M6 0 12) + 1) → Q (M7 0 12) M7))))))))
/-! answer -/
def w0_answer (v1 : Int32) (v2 : Int32) (M : Mem) (Q : Int32 → Mem → Prop) : Prop := w0_more v1 v2 M (fun r1 M2 => Q r1 M2)
/-! back -/
def w0_back  (M : Mem) (Q : Int32 → Mem → Prop) : Prop := (((M 0 12) = 0 → Q (-3) M) ∧ (¬ (M 0 12) = 0 → ∀ M1, M1 = mset M 0 12 ((M 0 12) - 1) → Q (M1 0 12) M1))
/-! isSheet -/
def w0_isSheet_z (v0 : Int32) (Q : Int32 → Prop) : Prop := w0_in v0 0 3 (fun r1 => Q r1)
def w0_isSheet (v0 : Int32) (Q : Int32 → Prop) : Prop := w0_isSheet_z v0 (fun r => isB r ∧ Q r)
/-! meets -/
def w0_meets (v1 : Int32) (M : Mem) (Q : Int32 → Mem → Prop) : Prop := ∀ M1, M1 = mset M 0 30 v1 → Q ((-10) - v1) M1
/-! joins -/
def w0_joins (v1 : Int32) (v2 : Int32) (v3 : Int32) (M : Mem) (Q : Mem → Prop) : Prop := vp_in v1 8 ∧ vp_in v2 (lenX (40 + ci v1)) ∧ ∀ M3, M3 = mset M (40 + ci v1) (ci v2) (imin (M (40 + ci v1) (ci v2)) v3) → Q M3
/-! measures -/
def w0_measures_b184_f (Q : Mem → Prop) (K167 : Int32 → Mem → Prop) (K175 : Int32 → Int32 → Mem → Prop) (K184 : Int32 → Int32 → Int32 → Mem → Prop) (v2 : Int32) (v3 : Int32) (v4 : Int32) (M : Mem) : Prop := ((8 ≤ v4 → K175 v2 (v3 + 1) M) ∧ (¬ 8 ≤ v4 → vp_in v3 8 ∧ vp_in v4 (lenX (50 + ci v3)) ∧ vp_in v2 (lenX (50 + ci v3)) ∧ vp_in v2 8 ∧ vp_in v4 (lenX (50 + ci v2)) ∧ ∀ M6, M6 = mset M (50 + ci v3) (ci v4) (imin (M (50 + ci v3) (ci v4)) ((M (50 + ci v3) (ci v2)) + (M (50 + ci v2) (ci v4)))) → K184 v2 v3 (v4 + 1) M6))
def w0_measures_b184 (Q : Mem → Prop) (K167 : Int32 → Mem → Prop) (K175 : Int32 → Int32 → Mem → Prop) : Nat → Int32 → Int32 → Int32 → Mem → Prop
  | 0 => fun _ _ _ _ => False
  | n + 1 => w0_measures_b184_f Q K167 K175 (w0_measures_b184 Q K167 K175 n)
def w0_measures_b175_f (Q : Mem → Prop) (K167 : Int32 → Mem → Prop) (K175 : Int32 → Int32 → Mem → Prop) (v2 : Int32) (v3 : Int32) (M : Mem) : Prop := ((8 ≤ v3 → K167 (v2 + 1) M) ∧ (¬ 8 ≤ v3 → ∃ n, w0_measures_b184 Q K167 K175 n v2 v3 0 M))
def w0_measures_b175 (Q : Mem → Prop) (K167 : Int32 → Mem → Prop) : Nat → Int32 → Int32 → Mem → Prop
  | 0 => fun _ _ _ => False
  | n + 1 => w0_measures_b175_f Q K167 (w0_measures_b175 Q K167 n)
def w0_measures_b167_f (Q : Mem → Prop) (K167 : Int32 → Mem → Prop) (v2 : Int32) (M : Mem) : Prop := ((8 ≤ v2 → Q M) ∧ (¬ 8 ≤ v2 → ∃ n, w0_measures_b175 Q K167 n v2 0 M))
def w0_measures_b167 (Q : Mem → Prop)  : Nat → Int32 → Mem → Prop
  | 0 => fun _ _ => False
  | n + 1 => w0_measures_b167_f Q (w0_measures_b167 Q n)
def w0_measures_b134_f (Q : Mem → Prop) (K134 : Int32 → Mem → Prop) (v2 : Int32) (M : Mem) : Prop := ((8 ≤ v2 → ∃ n, w0_measures_b167 Q n 0 M) ∧ (¬ 8 ≤ v2 → vp_in v2 8 ∧ (40 + ci v2) ≠ (50 + ci v2) ∧ ci 0 + ci 8 ≤ lenX (40 + ci v2) ∧ ci 0 + ci 8 ≤ lenX (50 + ci v2) ∧ lenX (40 + ci v2) ≠ 0 ∧ lenX (50 + ci v2) ≠ 0 ∧ ∀ M13, M13 = mcpy M (40 + ci v2) (50 + ci v2) (ci 0) (ci 0) (ci 8) → K134 (v2 + 1) M13))
def w0_measures_b134 (Q : Mem → Prop)  : Nat → Int32 → Mem → Prop
  | 0 => fun _ _ => False
  | n + 1 => w0_measures_b134_f Q (w0_measures_b134 Q n)
def w0_measures_b73 (Q : Mem → Prop) (K50 : Int32 → Int32 → Mem → Prop) (v1 : Int32) (v2 : Int32) (s0 : Int32) (M : Mem) : Prop := vp_in v2 10 ∧ w0_joins (M 6 (ci v2)) (M 7 (ci v2)) ((M 8 (ci v2)) * (3 - s0)) M (fun M15 => w0_joins (M15 7 (ci v2)) (M15 6 (ci v2)) ((M15 8 (ci v2)) * (1 + s0)) M15 (fun M16 => K50 v1 (v2 + 1) M16))
def w0_measures_b50_f (Q : Mem → Prop) (K50 : Int32 → Int32 → Mem → Prop) (v1 : Int32) (v2 : Int32) (M : Mem) : Prop := (((M 0 4) ≤ v2 → ∃ n, w0_measures_b134 Q n 0 M) ∧ (¬ (M 0 4) ≤ v2 → ((v2 = v1 → w0_measures_b73 Q K50 v1 v2 1 M) ∧ (¬ v2 = v1 → vp_in v2 10 ∧ w0_measures_b73 Q K50 v1 v2 (M 9 (ci v2)) M))))
def w0_measures_b50 (Q : Mem → Prop)  : Nat → Int32 → Int32 → Mem → Prop
  | 0 => fun _ _ _ => False
  | n + 1 => w0_measures_b50_f Q (w0_measures_b50 Q n)
def w0_measures_b35 (Q : Mem → Prop) (K2 : Int32 → Int32 → Mem → Prop) (K10 : Int32 → Int32 → Int32 → Mem → Prop) (v1 : Int32) (v2 : Int32) (v3 : Int32) (s0 : Nat) (s1 : Int32) (s2 : Int32) (M : Mem) : Prop := vp_in s1 (lenX s0) ∧ ∀ M19, M19 = mset M s0 (ci s1) s2 → K10 v1 v2 (v3 + 1) M19
def w0_measures_b10_f (Q : Mem → Prop) (K2 : Int32 → Int32 → Mem → Prop) (K10 : Int32 → Int32 → Int32 → Mem → Prop) (v1 : Int32) (v2 : Int32) (v3 : Int32) (M : Mem) : Prop := ((8 ≤ v3 → K2 v1 (v2 + 1) M) ∧ (¬ 8 ≤ v3 → vp_in v2 8 ∧ ((v2 = v3 → w0_measures_b35 Q K2 K10 v1 v2 v3 (40 + ci v2) v3 0 M) ∧ (¬ v2 = v3 → w0_measures_b35 Q K2 K10 v1 v2 v3 (40 + ci v2) v3 9999 M))))
def w0_measures_b10 (Q : Mem → Prop) (K2 : Int32 → Int32 → Mem → Prop) : Nat → Int32 → Int32 → Int32 → Mem → Prop
  | 0 => fun _ _ _ _ => False
  | n + 1 => w0_measures_b10_f Q K2 (w0_measures_b10 Q K2 n)
def w0_measures_b2_f (Q : Mem → Prop) (K2 : Int32 → Int32 → Mem → Prop) (v1 : Int32) (v2 : Int32) (M : Mem) : Prop := ((8 ≤ v2 → ∃ n, w0_measures_b50 Q n v1 0 M) ∧ (¬ 8 ≤ v2 → ∃ n, w0_measures_b10 Q K2 n v1 v2 0 M))
def w0_measures_b2 (Q : Mem → Prop)  : Nat → Int32 → Int32 → Mem → Prop
  | 0 => fun _ _ _ => False
  | n + 1 => w0_measures_b2_f Q (w0_measures_b2 Q n)
def w0_measures (v1 : Int32) (M : Mem) (Q : Mem → Prop) : Prop := ∃ n, w0_measures_b2 Q n v1 0 M
/-! farOf -/
def w0_farOf_b35 (Q : Int32 → Mem → Prop)  (s0 : Int32) (M : Mem) : Prop := Q s0 M
def w0_farOf (v1 : Int32) (v2 : Int32) (M : Mem) (Q : Int32 → Mem → Prop) : Prop := w0_reads M (fun M1 => w0_measures (-1) M1 (fun M2 => vp_in v1 8 ∧ vp_in v2 (lenX (50 + ci v1)) ∧ ((9999 ≤ (M2 (50 + ci v1) (ci v2)) → w0_farOf_b35 Q (-1) M2) ∧ (¬ 9999 ≤ (M2 (50 + ci v1) (ci v2)) → w0_farOf_b35 Q (M2 (50 + ci v1) (ci v2)) M2))))
/-! far -/
def w0_far_b25 (Q : Int32 → Mem → Prop)  (s0 : Int32) (M : Mem) : Prop := Q s0 M
def w0_far_b23 (Q : Int32 → Mem → Prop)   (M : Mem) : Prop := w0_far_b25 Q (-2) M
def w0_far (v1 : Int32) (v2 : Int32) (M : Mem) (Q : Int32 → Mem → Prop) : Prop := w0_isPlace v1 (fun r1 => ((r1 = 0 → w0_far_b23 Q M) ∧ (¬ r1 = 0 → w0_isPlace v2 (fun r2 => ((r2 = 0 → w0_far_b23 Q M) ∧ (¬ r2 = 0 → w0_farOf v1 v2 M (fun r3 M4 => w0_far_b25 Q r3 M4)))))))
/-! asTold -/
def w0_asTold  (M : Mem) (Q : Mem → Prop) : Prop := w0_reads M (fun M1 => w0_measures (-1) M1 (fun M2 => ∀ M3, M3 = mset M2 0 17 0 → Q M3))
/-! begins -/
def w5_begins (o : Nat)  (M : Mem) (Q : Mem → Prop) : Prop := ∀ M1, M1 = mset M o 6 0 → ∀ M2, M2 = mset M1 o 7 (-1) → ∀ M3, M3 = mset M2 o 8 (M2 o 3) → ∀ M4, M4 = mset M3 o 9 (M3 o 0) → ∀ M5, M5 = mset M4 o 10 (M4 o 5) → ∀ M6, M6 = mset M5 o 11 (-1) → Q M6
/-! begins -/
def w0_begins_b27_f (Q : Mem → Prop) (K27 : Int32 → Mem → Prop) (v1 : Int32) (M : Mem) : Prop := ((8 ≤ v1 → ∀ M1, M1 = mset M 0 20 (-1) → ∀ M2, M2 = mset M1 0 21 (-1) → Q M2) ∧ (¬ 8 ≤ v1 → vp_in v1 8 ∧ ∀ M4, M4 = mset M 17 (ci v1) 0 → K27 (v1 + 1) M4))
def w0_begins_b27 (Q : Mem → Prop)  : Nat → Int32 → Mem → Prop
  | 0 => fun _ _ => False
  | n + 1 => w0_begins_b27_f Q (w0_begins_b27 Q n)
def w0_begins_b2_f (Q : Mem → Prop) (K2 : Int32 → Mem → Prop) (v1 : Int32) (M : Mem) : Prop := (((M 0 9) ≤ v1 → ∃ n, w0_begins_b27 Q n 0 M) ∧ (¬ (M 0 9) ≤ v1 → vp_in v1 8 ∧ w5_begins (30 + ci v1) M (fun M6 => K2 (v1 + 1) M6)))
def w0_begins_b2 (Q : Mem → Prop)  : Nat → Int32 → Mem → Prop
  | 0 => fun _ _ => False
  | n + 1 => w0_begins_b2_f Q (w0_begins_b2 Q n)
def w0_begins  (M : Mem) (Q : Mem → Prop) : Prop := ∃ n, w0_begins_b2 Q n 0 M
/-! doesArrive -/
def w0_doesArrive_b21 (Q : Int32 → Mem → Prop)  (s0 : Int32) (M : Mem) : Prop := Q s0 M
def w0_doesArrive_b20 (Q : Int32 → Mem → Prop)   (M : Mem) : Prop := w0_doesArrive_b21 Q 0 M
def w0_doesArrive_z (v1 : Nat) (v2 : Int32) (M : Mem) (Q : Int32 → Mem → Prop) : Prop := isCar v1 ∧ ((2 ≤ (M v1 6) → w0_doesArrive_b20 Q M) ∧ (¬ 2 ≤ (M v1 6) → (((M v1 10) = v2 → w0_doesArrive_b21 Q 1 M) ∧ (¬ (M v1 10) = v2 → w0_doesArrive_b20 Q M))))
def w0_doesArrive (v1 : Nat) (v2 : Int32) (M : Mem) (Q : Int32 → Mem → Prop) : Prop := w0_doesArrive_z v1 v2 M (fun r M1 => isB r ∧ Q r M1)
/-! counts -/
def w0_counts_b163 (Q : Mem → Prop) (K98 : Int32 → Int32 → Mem → Prop) (v1 : Int32) (v2 : Int32) (s1 : Int32) (M : Mem) : Prop := ∀ M1, M1 = mset M 0 20 s1 → K98 v1 (v2 + (-1)) M1
def w0_counts_b147 (Q : Mem → Prop) (K98 : Int32 → Int32 → Mem → Prop) (v1 : Int32) (v2 : Int32) (v3 : Int32) (s1 : Int32) (M : Mem) : Prop := ∀ M2, M2 = mset M 0 21 s1 → ((v3 = 0 → w0_counts_b163 Q K98 v1 v2 (M2 0 20) M2) ∧ (¬ v3 = 0 → w0_counts_b163 Q K98 v1 v2 v1 M2))
def w0_counts_b133 (Q : Mem → Prop) (K98 : Int32 → Int32 → Mem → Prop) (v1 : Int32) (v2 : Int32) (s0 : Int32) (M : Mem) : Prop := ((s0 = 0 → w0_counts_b147 Q K98 v1 v2 s0 (M 0 21) M) ∧ (¬ s0 = 0 → w0_counts_b147 Q K98 v1 v2 s0 v2 M))
def w0_counts_b132 (Q : Mem → Prop) (K98 : Int32 → Int32 → Mem → Prop) (v1 : Int32) (v2 : Int32) (M : Mem) : Prop := w0_counts_b133 Q K98 v1 v2 0 M
def w0_counts_b128 (Q : Mem → Prop) (K98 : Int32 → Int32 → Mem → Prop) (v1 : Int32) (v2 : Int32) (M : Mem) : Prop := w0_counts_b133 Q K98 v1 v2 1 M
def w0_counts_b98_f (Q : Mem → Prop) (K98 : Int32 → Int32 → Mem → Prop) (v1 : Int32) (v2 : Int32) (M : Mem) : Prop := ((v2 < 0 → Q M) ∧ (¬ v2 < 0 → vp_in v2 8 ∧ (((M 16 (ci v2)) ≤ 1 → w0_counts_b132 Q K98 v1 v2 M) ∧ (¬ (M 16 (ci v2)) ≤ 1 → (((M 0 20) = (-1) → w0_counts_b128 Q K98 v1 v2 M) ∧ (¬ (M 0 20) = (-1) → (((M 0 20) = v1 → w0_counts_b128 Q K98 v1 v2 M) ∧ (¬ (M 0 20) = v1 → w0_counts_b132 Q K98 v1 v2 M))))))))
def w0_counts_b98 (Q : Mem → Prop)  : Nat → Int32 → Int32 → Mem → Prop
  | 0 => fun _ _ _ => False
  | n + 1 => w0_counts_b98_f Q (w0_counts_b98 Q n)
def w0_counts_b89 (Q : Mem → Prop) (K23 : Int32 → Int32 → Mem → Prop) (v1 : Int32) (v2 : Int32) (M : Mem) : Prop := K23 v1 (v2 + 1) M
def w0_counts_b68 (Q : Mem → Prop) (K23 : Int32 → Int32 → Mem → Prop) (v1 : Int32) (v2 : Int32) (v3 : Nat) (M : Mem) : Prop := isCar v3 ∧ (((M v3 7) = (-1) → w0_counts_b89 Q K23 v1 v2 M) ∧ (¬ (M v3 7) = (-1) → vp_in (M v3 7) 8 ∧ ∀ M6, M6 = mset M 16 (ci (M v3 7)) ((M 16 (ci (M v3 7))) + 1) → w0_counts_b89 Q K23 v1 v2 M6))
def w0_counts_b23_f (Q : Mem → Prop) (K23 : Int32 → Int32 → Mem → Prop) (v1 : Int32) (v2 : Int32) (M : Mem) : Prop := (((M 0 9) ≤ v2 → ∃ n, w0_counts_b98 Q n v1 7 M) ∧ (¬ (M 0 9) ≤ v2 → vp_in v2 8 ∧ w0_doesArrive (30 + ci v2) v1 M (fun r8 M9 => ((r8 = 0 → w0_counts_b68 Q K23 v1 v2 (30 + ci v2) M9) ∧ (¬ r8 = 0 → ∀ M10, M10 = mset M9 (30 + ci v2) 7 (M9 (30 + ci v2) 9) → vp_in (M10 (30 + ci v2) 7) 8 ∧ ∀ M12, M12 = mset M10 17 (ci (M10 (30 + ci v2) 7)) ((M10 17 (ci (M10 (30 + ci v2) 7))) + 1) → w0_counts_b68 Q K23 v1 v2 (30 + ci v2) M12)))))
def w0_counts_b23 (Q : Mem → Prop)  : Nat → Int32 → Int32 → Mem → Prop
  | 0 => fun _ _ _ => False
  | n + 1 => w0_counts_b23_f Q (w0_counts_b23 Q n)
def w0_counts_b2_f (Q : Mem → Prop) (K2 : Int32 → Int32 → Mem → Prop) (v1 : Int32) (v2 : Int32) (M : Mem) : Prop := ((8 ≤ v2 → ∃ n, w0_counts_b23 Q n v1 0 M) ∧ (¬ 8 ≤ v2 → vp_in v2 8 ∧ ∀ M14, M14 = mset M 16 (ci v2) 0 → K2 v1 (v2 + 1) M14))
def w0_counts_b2 (Q : Mem → Prop)  : Nat → Int32 → Int32 → Mem → Prop
  | 0 => fun _ _ _ => False
  | n + 1 => w0_counts_b2_f Q (w0_counts_b2 Q n)
def w0_counts (v1 : Int32) (M : Mem) (Q : Mem → Prop) : Prop := ∃ n, w0_counts_b2 Q n v1 0 M
/-! ends -/
def w5_ends (o : Nat) (v1 : Int32) (v2 : Int32) (M : Mem) (Q : Mem → Prop) : Prop := ∀ M1, M1 = mset M o 6 v1 → ∀ M2, M2 = mset M1 o 11 v2 → ∀ M3, M3 = mset M2 o 9 (-1) → Q M3
/-! has -/
def w0_has_b14 (Q : Int32 → Prop)  (s0 : Int32) : Prop := Q s0
def w0_has_z (v0 : Int32) (v1 : Int32) (Q : Int32 → Prop) : Prop := ((((v0 >>> (v1 &&& 31)) &&& 1) = 1 → w0_has_b14 Q 1) ∧ (¬ ((v0 >>> (v1 &&& 31)) &&& 1) = 1 → w0_has_b14 Q 0))
def w0_has (v0 : Int32) (v1 : Int32) (Q : Int32 → Prop) : Prop := w0_has_z v0 v1 (fun r => isB r ∧ Q r)
/-! isAnswer -/
def w0_isAnswer_b57 (Q : Int32 → Mem → Prop) (K5 : Int32 → Int32 → Int32 → Int32 → Mem → Prop) (v1 : Int32) (v2 : Int32) (v4 : Int32) (s0 : Int32) (M : Mem) : Prop := K5 v1 v2 s0 (v4 + 1) M
def w0_isAnswer_b56 (Q : Int32 → Mem → Prop) (K5 : Int32 → Int32 → Int32 → Int32 → Mem → Prop) (v1 : Int32) (v2 : Int32) (v4 : Int32) (M : Mem) : Prop := w0_isAnswer_b57 Q K5 v1 v2 v4 0 M
def w0_isAnswer_b52 (Q : Int32 → Mem → Prop) (K5 : Int32 → Int32 → Int32 → Int32 → Mem → Prop) (v1 : Int32) (v2 : Int32) (v4 : Int32) (M : Mem) : Prop := w0_isAnswer_b57 Q K5 v1 v2 v4 1 M
def w0_isAnswer_b5_f (Q : Int32 → Mem → Prop) (K5 : Int32 → Int32 → Int32 → Int32 → Mem → Prop) (v1 : Int32) (v2 : Int32) (v3 : Int32) (v4 : Int32) (M : Mem) : Prop := (((M 0 12) ≤ v4 → Q v3 M) ∧ (¬ (M 0 12) ≤ v4 → ((v3 = 0 → vp_in v4 8 ∧ (((M 12 (ci v4)) = v1 → (((M 13 (ci v4)) = v2 → w0_has (M 0 17) v4 (fun r2 => ((r2 = 0 → w0_isAnswer_b52 Q K5 v1 v2 v4 M) ∧ (¬ r2 = 0 → w0_isAnswer_b56 Q K5 v1 v2 v4 M)))) ∧ (¬ (M 13 (ci v4)) = v2 → w0_isAnswer_b56 Q K5 v1 v2 v4 M))) ∧ (¬ (M 12 (ci v4)) = v1 → w0_isAnswer_b56 Q K5 v1 v2 v4 M))) ∧ (¬ v3 = 0 → w0_isAnswer_b52 Q K5 v1 v2 v4 M))))
def w0_isAnswer_b5 (Q : Int32 → Mem → Prop)  : Nat → Int32 → Int32 → Int32 → Int32 → Mem → Prop
  | 0 => fun _ _ _ _ _ => False
  | n + 1 => w0_isAnswer_b5_f Q (w0_isAnswer_b5 Q n)
def w0_isAnswer_z (v1 : Int32) (v2 : Int32) (M : Mem) (Q : Int32 → Mem → Prop) : Prop := ∃ n, w0_isAnswer_b5 Q n v1 v2 0 0 M
def w0_isAnswer (v1 : Int32) (v2 : Int32) (M : Mem) (Q : Int32 → Mem → Prop) : Prop := w0_isAnswer_z v1 v2 M (fun r M1 => isB r ∧ Q r M1)
/-! nextOf -/
def w0_nextOf_b80 (Q : Int32 → Mem → Prop)  (v3 : Int32) (M : Mem) : Prop := Q v3 M
def w0_nextOf_b73 (Q : Int32 → Mem → Prop) (K5 : Int32 → Int32 → Int32 → Int32 → Mem → Prop) (v1 : Int32) (v2 : Int32) (v4 : Int32) (s0 : Int32) (M : Mem) : Prop := K5 v1 v2 s0 (v4 + 1) M
def w0_nextOf_b72 (Q : Int32 → Mem → Prop) (K5 : Int32 → Int32 → Int32 → Int32 → Mem → Prop) (v1 : Int32) (v2 : Int32) (v4 : Int32) (M : Mem) : Prop := w0_nextOf_b73 Q K5 v1 v2 v4 (-1) M
def w0_nextOf_b5_f (Q : Int32 → Mem → Prop) (K5 : Int32 → Int32 → Int32 → Int32 → Mem → Prop) (v1 : Int32) (v2 : Int32) (v3 : Int32) (v4 : Int32) (M : Mem) : Prop := ((8 ≤ v4 → w0_nextOf_b80 Q v3 M) ∧ (¬ 8 ≤ v4 → ((v3 = (-1) → vp_in v1 8 ∧ vp_in v2 (lenX (50 + ci v1)) ∧ ((9999 ≤ (M (50 + ci v1) (ci v2)) → w0_nextOf_b80 Q v3 M) ∧ (¬ 9999 ≤ (M (50 + ci v1) (ci v2)) → ((v4 = v1 → w0_nextOf_b72 Q K5 v1 v2 v4 M) ∧ (¬ v4 = v1 → vp_in v4 (lenX (40 + ci v1)) ∧ vp_in v4 8 ∧ vp_in v2 (lenX (50 + ci v4)) ∧ ((((M (40 + ci v1) (ci v4)) + (M (50 + ci v4) (ci v2))) = (M (50 + ci v1) (ci v2)) → w0_nextOf_b73 Q K5 v1 v2 v4 v4 M) ∧ (¬ ((M (40 + ci v1) (ci v4)) + (M (50 + ci v4) (ci v2))) = (M (50 + ci v1) (ci v2)) → w0_nextOf_b72 Q K5 v1 v2 v4 M))))))) ∧ (¬ v3 = (-1) → w0_nextOf_b80 Q v3 M))))
def w0_nextOf_b5 (Q : Int32 → Mem → Prop)  : Nat → Int32 → Int32 → Int32 → Int32 → Mem → Prop
  | 0 => fun _ _ _ _ _ => False
  | n + 1 => w0_nextOf_b5_f Q (w0_nextOf_b5 Q n)
def w0_nextOf (v1 : Int32) (v2 : Int32) (M : Mem) (Q : Int32 → Mem → Prop) : Prop := ∃ n, w0_nextOf_b5 Q n v1 v2 (-1) 0 M
/-! setsOut -/
def w5_setsOut (o : Nat) (v1 : Int32) (v2 : Int32) (v3 : Int32) (M : Mem) (Q : Mem → Prop) : Prop := ∀ M1, M1 = mset M o 8 ((M o 8) - (v2 + (M o 4))) → ∀ M2, M2 = mset M1 o 6 1 → ∀ M3, M3 = mset M2 o 7 (-1) → ∀ M4, M4 = mset M3 o 9 v1 → ∀ M5, M5 = mset M4 o 10 (v3 + v2) → Q M5
/-! decides -/
def w0_decides_b146 (Q : Mem → Prop)   (M : Mem) : Prop := Q M
def w0_decides_b131 (Q : Mem → Prop)  (v2 : Int32) (s0 : Nat) (s1 : Int32) (M : Mem) : Prop := isCar s0 ∧ w5_ends s0 s1 v2 M (fun M1 => w0_decides_b146 Q M1)
def w0_decides_b120 (Q : Mem → Prop)  (v1 : Nat) (v2 : Int32) (v3 : Int32) (M : Mem) : Prop := ((v3 = (-1) → w0_decides_b131 Q v2 v1 5 M) ∧ (¬ v3 = (-1) → w0_decides_b131 Q v2 v1 4 M))
def w0_decides_b99 (Q : Mem → Prop)  (v1 : Nat) (v2 : Int32) (v3 : Int32) (s0 : Int32) (M : Mem) : Prop := ((v3 = (-1) → w0_decides_b120 Q v1 v2 v3 M) ∧ (¬ v3 = (-1) → isCar v1 ∧ (((s0 + (M v1 4)) ≤ (M v1 8) → w5_setsOut v1 v3 s0 v2 M (fun M4 => w0_decides_b146 Q M4)) ∧ (¬ (s0 + (M v1 4)) ≤ (M v1 8) → w0_decides_b120 Q v1 v2 v3 M))))
def w0_decides_b51 (Q : Mem → Prop)  (v1 : Nat) (v2 : Int32) (s0 : Int32) (s1 : Int32) (s2 : Int32) (M : Mem) : Prop := vp_in s0 3 ∧ (((qans s0 s1 s2) = 0 → isCar v1 ∧ w0_nextOf (M v1 7) (M v1 1) M (fun r7 M8 => ((r7 = (-1) → w0_decides_b99 Q v1 v2 r7 0 M8) ∧ (¬ r7 = (-1) → vp_in (M8 v1 7) 8 ∧ vp_in r7 (lenX (40 + ci (M8 v1 7))) ∧ w0_decides_b99 Q v1 v2 r7 (M8 (40 + ci (M8 v1 7)) (ci r7)) M8)))) ∧ (¬ (qans s0 s1 s2) = 0 → isCar v1 ∧ w5_ends v1 3 v2 M (fun M11 => w0_decides_b146 Q M11)))
def w0_decides (v1 : Nat) (v2 : Int32) (M : Mem) (Q : Mem → Prop) : Prop := isCar v1 ∧ (((M v1 7) = (M v1 1) → w5_ends v1 2 v2 M (fun M14 => w0_decides_b146 Q M14)) ∧ (¬ (M v1 7) = (M v1 1) → vp_in (M v1 2) 3 ∧ w0_isAnswer v2 (M v1 7) M (fun r16 M17 => vp_in (M17 v1 7) 8 ∧ (((M17 16 (ci (M17 v1 7))) ≤ 1 → w0_decides_b51 Q v1 v2 (M v1 2) r16 0 M17) ∧ (¬ (M17 16 (ci (M17 v1 7))) ≤ 1 → w0_decides_b51 Q v1 v2 (M v1 2) r16 1 M17)))))
/-! goesBy -/
def w0_goesBy_b40 (Q : Mem → Prop) (K7 : Int32 → Int32 → Mem → Prop) (v1 : Int32) (v2 : Int32) (M : Mem) : Prop := vp_in v1 40 ∧ vp_in v2 8 ∧ vp_in v2 (lenX (60 + ci v1)) ∧ ∀ M4, M4 = mset M (60 + ci v1) (ci v2) (M (30 + ci v2) 7) → K7 v1 (v2 + 1) M4
def w0_goesBy_b7_f (Q : Mem → Prop) (K7 : Int32 → Int32 → Mem → Prop) (v1 : Int32) (v2 : Int32) (M : Mem) : Prop := (((M 0 9) ≤ v2 → Q M) ∧ (¬ (M 0 9) ≤ v2 → vp_in v2 8 ∧ w0_doesArrive (30 + ci v2) v1 M (fun r6 M7 => ((r6 = 0 → w0_goesBy_b40 Q K7 v1 v2 M7) ∧ (¬ r6 = 0 → w0_decides (30 + ci v2) v1 M7 (fun M8 => w0_goesBy_b40 Q K7 v1 v2 M8))))))
def w0_goesBy_b7 (Q : Mem → Prop)  : Nat → Int32 → Int32 → Mem → Prop
  | 0 => fun _ _ _ => False
  | n + 1 => w0_goesBy_b7_f Q (w0_goesBy_b7 Q n)
def w0_goesBy (v1 : Int32) (M : Mem) (Q : Mem → Prop) : Prop := w0_counts v1 M (fun M9 => ∃ n, w0_goesBy_b7 Q n v1 0 M9)
/-! runs -/
def w0_runs_b6_f (Q : Mem → Prop) (K6 : Int32 → Int32 → Mem → Prop) (v1 : Int32) (v2 : Int32) (M : Mem) : Prop := ((v1 < v2 → Q M) ∧ (¬ v1 < v2 → w0_goesBy v2 M (fun M1 => K6 v1 (v2 + 1) M1)))
def w0_runs_b6 (Q : Mem → Prop)  : Nat → Int32 → Int32 → Mem → Prop
  | 0 => fun _ _ _ => False
  | n + 1 => w0_runs_b6_f Q (w0_runs_b6 Q n)
def w0_runs (v1 : Int32) (M : Mem) (Q : Mem → Prop) : Prop := w0_begins M (fun M2 => ∃ n, w0_runs_b6 Q n v1 0 M2)
/-! atOf -/
def w0_atOf_b73 (Q : Int32 → Mem → Prop)  (s0 : Int32) (M : Mem) : Prop := Q s0 M
def w0_atOf (v1 : Int32) (v2 : Int32) (v3 : Int32) (M : Mem) (Q : Int32 → Mem → Prop) : Prop := w0_asTold M (fun M1 => w0_runs v1 M1 (fun M2 => vp_in v2 8 ∧ ((v3 = 0 → w0_atOf_b73 Q (M2 (30 + ci v2) 6) M2) ∧ (¬ v3 = 0 → ((v3 = 1 → w0_atOf_b73 Q (M2 (30 + ci v2) 7) M2) ∧ (¬ v3 = 1 → ((v3 = 2 → w0_atOf_b73 Q (M2 (30 + ci v2) 8) M2) ∧ (¬ v3 = 2 → (((M2 (30 + ci v2) 6) = 1 → w0_atOf_b73 Q (M2 (30 + ci v2) 9) M2) ∧ (¬ (M2 (30 + ci v2) 6) = 1 → w0_atOf_b73 Q (-1) M2))))))))))
/-! at -/
def w0_at_b36 (Q : Int32 → Mem → Prop)  (s0 : Int32) (M : Mem) : Prop := Q s0 M
def w0_at_b34 (Q : Int32 → Mem → Prop)   (M : Mem) : Prop := w0_at_b36 Q (-2) M
def w0_at (v1 : Int32) (v2 : Int32) (v3 : Int32) (M : Mem) (Q : Int32 → Mem → Prop) : Prop := w0_isHour v1 (fun r1 => ((r1 = 0 → w0_at_b34 Q M) ∧ (¬ r1 = 0 → w0_isCarter v2 M (fun r2 M3 => ((r2 = 0 → w0_at_b34 Q M3) ∧ (¬ r2 = 0 → w0_in v3 0 3 (fun r4 => ((r4 = 0 → w0_at_b34 Q M3) ∧ (¬ r4 = 0 → w0_atOf v1 v2 v3 M3 (fun r5 M6 => w0_at_b36 Q r5 M6))))))))))
/-! endsOf -/
def w0_endsOf (v1 : Int32) (M : Mem) (Q : Int32 → Mem → Prop) : Prop := w0_asTold M (fun M1 => w0_runs 39 M1 (fun M2 => vp_in v1 8 ∧ Q (M2 (30 + ci v1) 11) M2))
/-! ends -/
def w0_ends_b18 (Q : Int32 → Mem → Prop)  (s0 : Int32) (M : Mem) : Prop := Q s0 M
def w0_ends (v1 : Int32) (M : Mem) (Q : Int32 → Mem → Prop) : Prop := w0_isCarter v1 M (fun r1 M2 => ((r1 = 0 → w0_ends_b18 Q (-2) M2) ∧ (¬ r1 = 0 → w0_endsOf v1 M2 (fun r3 M4 => w0_ends_b18 Q r3 M4))))
/-! whoNow -/
def w0_whoNow_b33 (Q : Int32 → Mem → Prop) (K4 : Int32 → Int32 → Int32 → Mem → Prop) (v1 : Int32) (v3 : Int32) (s0 : Int32) (s1 : Int32) (M : Mem) : Prop := K4 v1 (s0 ||| s1) (v3 + 1) M
def w0_whoNow_b4_f (Q : Int32 → Mem → Prop) (K4 : Int32 → Int32 → Int32 → Mem → Prop) (v1 : Int32) (v2 : Int32) (v3 : Int32) (M : Mem) : Prop := (((M 0 9) ≤ v3 → Q v2 M) ∧ (¬ (M 0 9) ≤ v3 → vp_in v3 8 ∧ (((M (30 + ci v3) 6) = v1 → w0_whoNow_b33 Q K4 v1 v3 v2 (1 <<< (v3 &&& 31)) M) ∧ (¬ (M (30 + ci v3) 6) = v1 → w0_whoNow_b33 Q K4 v1 v3 v2 0 M))))
def w0_whoNow_b4 (Q : Int32 → Mem → Prop)  : Nat → Int32 → Int32 → Int32 → Mem → Prop
  | 0 => fun _ _ _ _ => False
  | n + 1 => w0_whoNow_b4_f Q (w0_whoNow_b4 Q n)
def w0_whoNow (v1 : Int32) (M : Mem) (Q : Int32 → Mem → Prop) : Prop := ∃ n, w0_whoNow_b4 Q n v1 0 0 M
/-! whoOf -/
def w0_whoOf (v1 : Int32) (M : Mem) (Q : Int32 → Mem → Prop) : Prop := w0_asTold M (fun M1 => w0_runs 39 M1 (fun M2 => w0_whoNow v1 M2 (fun r3 M4 => Q r3 M4)))
/-! who -/
def w0_who_b19 (Q : Int32 → Mem → Prop)  (s0 : Int32) (M : Mem) : Prop := Q s0 M
def w0_who (v1 : Int32) (M : Mem) (Q : Int32 → Mem → Prop) : Prop := w0_in v1 2 5 (fun r1 => ((r1 = 0 → w0_who_b19 Q (-2) M) ∧ (¬ r1 = 0 → w0_whoOf v1 M (fun r2 M3 => w0_who_b19 Q r2 M3))))
/-! isTwo -/
def w0_isTwo_z (v0 : Int32) (Q : Int32 → Prop) : Prop := w0_in v0 0 1 (fun r1 => Q r1)
def w0_isTwo (v0 : Int32) (Q : Int32 → Prop) : Prop := w0_isTwo_z v0 (fun r => isB r ∧ Q r)
/-! metOf -/
def w0_metOf_b25 (Q : Int32 → Mem → Prop)  (s0 : Int32) (M : Mem) : Prop := Q s0 M
def w0_metOf (v1 : Int32) (M : Mem) (Q : Int32 → Mem → Prop) : Prop := w0_asTold M (fun M1 => w0_runs 39 M1 (fun M2 => ((v1 = 0 → w0_metOf_b25 Q (M2 0 20) M2) ∧ (¬ v1 = 0 → w0_metOf_b25 Q (M2 0 21) M2))))
/-! met -/
def w0_met_b17 (Q : Int32 → Mem → Prop)  (s0 : Int32) (M : Mem) : Prop := Q s0 M
def w0_met (v1 : Int32) (M : Mem) (Q : Int32 → Mem → Prop) : Prop := w0_isTwo v1 (fun r1 => ((r1 = 0 → w0_met_b17 Q (-2) M) ∧ (¬ r1 = 0 → w0_metOf v1 M (fun r2 M3 => w0_met_b17 Q r2 M3))))
/-! busiestNow -/
def w0_busiestNow_b49 (Q : Int32 → Mem → Prop) (K14 : Int32 → Int32 → Mem → Prop) (v2 : Int32) (s0 : Int32) (M : Mem) : Prop := K14 s0 (v2 + 1) M
def w0_busiestNow_b41 (Q : Int32 → Mem → Prop) (K14 : Int32 → Int32 → Mem → Prop) (v1 : Int32) (v2 : Int32) (s0 : Int32) (s1 : Int32) (M : Mem) : Prop := ((s0 ≤ s1 → w0_busiestNow_b49 Q K14 v2 v1 M) ∧ (¬ s0 ≤ s1 → w0_busiestNow_b49 Q K14 v2 v2 M))
def w0_busiestNow_b14_f (Q : Int32 → Mem → Prop) (K14 : Int32 → Int32 → Mem → Prop) (v1 : Int32) (v2 : Int32) (M : Mem) : Prop := ((8 ≤ v2 → Q v1 M) ∧ (¬ 8 ≤ v2 → vp_in v2 8 ∧ ((v1 = (-1) → w0_busiestNow_b41 Q K14 v1 v2 (M 17 (ci v2)) 0 M) ∧ (¬ v1 = (-1) → vp_in v1 8 ∧ w0_busiestNow_b41 Q K14 v1 v2 (M 17 (ci v2)) (M 17 (ci v1)) M))))
def w0_busiestNow_b14 (Q : Int32 → Mem → Prop)  : Nat → Int32 → Int32 → Mem → Prop
  | 0 => fun _ _ _ => False
  | n + 1 => w0_busiestNow_b14_f Q (w0_busiestNow_b14 Q n)
def w0_busiestNow  (M : Mem) (Q : Int32 → Mem → Prop) : Prop := w0_asTold M (fun M3 => w0_runs 39 M3 (fun M4 => ∃ n, w0_busiestNow_b14 Q n (-1) 0 M4))
/-! busiest -/
def w0_busiest  (M : Mem) (Q : Int32 → Mem → Prop) : Prop := w0_busiestNow M (fun r1 M2 => Q r1 M2)
/-! needsOf -/
def w0_needsOf_b74 (Q : Int32 → Mem → Prop)  (v1 : Int32) (v2 : Int32) (v3 : Int32) (M : Mem) : Prop := vp_in v1 8 ∧ ∀ M2, M2 = mset M (30 + ci v1) 3 v2 → Q v3 M2
def w0_needsOf_b67 (Q : Int32 → Mem → Prop) (K19 : Int32 → Int32 → Int32 → Int32 → Mem → Prop) (v1 : Int32) (v2 : Int32) (v4 : Int32) (s0 : Int32) (M : Mem) : Prop := K19 v1 v2 s0 (v4 + 1) M
def w0_needsOf_b19_f (Q : Int32 → Mem → Prop) (K19 : Int32 → Int32 → Int32 → Int32 → Mem → Prop) (v1 : Int32) (v2 : Int32) (v3 : Int32) (v4 : Int32) (M : Mem) : Prop := ((100 ≤ v4 → w0_needsOf_b74 Q v1 v2 v3 M) ∧ (¬ 100 ≤ v4 → ((v3 = (-1) → vp_in v1 8 ∧ ∀ M4, M4 = mset M (30 + ci v1) 3 v4 → w0_runs 39 M4 (fun M5 => (((M5 (30 + ci v1) 6) = 2 → w0_needsOf_b67 Q K19 v1 v2 v4 v4 M5) ∧ (¬ (M5 (30 + ci v1) 6) = 2 → w0_needsOf_b67 Q K19 v1 v2 v4 (-1) M5)))) ∧ (¬ v3 = (-1) → w0_needsOf_b74 Q v1 v2 v3 M))))
def w0_needsOf_b19 (Q : Int32 → Mem → Prop)  : Nat → Int32 → Int32 → Int32 → Int32 → Mem → Prop
  | 0 => fun _ _ _ _ _ => False
  | n + 1 => w0_needsOf_b19_f Q (w0_needsOf_b19 Q n)
def w0_needsOf (v1 : Int32) (M : Mem) (Q : Int32 → Mem → Prop) : Prop := w0_asTold M (fun M6 => vp_in v1 8 ∧ ∃ n, w0_needsOf_b19 Q n v1 (M6 (30 + ci v1) 3) (-1) 0 M6)
/-! needs -/
def w0_needs_b18 (Q : Int32 → Mem → Prop)  (s0 : Int32) (M : Mem) : Prop := Q s0 M
def w0_needs (v1 : Int32) (M : Mem) (Q : Int32 → Mem → Prop) : Prop := w0_isCarter v1 M (fun r1 M2 => ((r1 = 0 → w0_needs_b18 Q (-2) M2) ∧ (¬ r1 = 0 → w0_needsOf v1 M2 (fun r3 M4 => w0_needs_b18 Q r3 M4))))
/-! changes -/
def w0_changes (v0 : Nat) (v1 : Nat) (M : Mem) (Q : Mem → Prop) : Prop := isCar v0 ∧ vp_in (M v0 2) 3 ∧ isCar v1 ∧ vp_in (M v1 2) 3 ∧ ∀ M5, M5 = mset M v0 2 (M v1 2) → ∀ M6, M6 = mset M5 v0 3 (M5 v1 3) → ∀ M7, M7 = mset M6 v1 2 (M v0 2) → ∀ M8, M8 = mset M7 v1 3 (M v0 3) → Q M8
/-! many -/
def w0_many_b4_f (Q : Int32 → Prop) (K4 : Int32 → Int32 → Prop) (v1 : Int32) (v2 : Int32) : Prop := ((v2 = 0 → Q v1) ∧ (¬ v2 = 0 → ∀ x1 : Int32, x1 = ((Int32.toUInt32 v2 >>> (Int32.toUInt32 1 &&& Int32.toUInt32 31)).toInt32) → K4 (v1 + (v2 &&& 1)) x1))
def w0_many_b4 (Q : Int32 → Prop)  : Nat → Int32 → Int32 → Prop
  | 0 => fun _ _ => False
  | n + 1 => w0_many_b4_f Q (w0_many_b4 Q n)
def w0_many (v0 : Int32) (Q : Int32 → Prop) : Prop := ∃ n, w0_many_b4 Q n 0 v0
/-! comeNow -/
def w0_comeNow  (M : Mem) (Q : Int32 → Mem → Prop) : Prop := w0_runs 39 M (fun M1 => w0_whoNow 2 M1 (fun r2 M3 => w0_many r2 (fun r4 => Q r4 M3)))
/-! lendOf -/
def w0_lendOf_b142 (Q : Int32 → Mem → Prop)  (s0 : Int32) (M : Mem) : Prop := Q s0 M
def w0_lendOf_b123 (Q : Int32 → Mem → Prop)  (v3 : Int32) (M : Mem) : Prop := w0_lendOf_b142 Q v3 M
def w0_lendOf_b93 (Q : Int32 → Mem → Prop) (K11 : Int32 → Int32 → Int32 → Int32 → Mem → Prop) (K26 : Int32 → Int32 → Int32 → Int32 → Int32 → Mem → Prop) (v1 : Int32) (v3 : Int32) (v4 : Int32) (v5 : Int32) (v6 : Int32) (s0 : Int32) (M : Mem) : Prop := K26 v1 s0 (imax v3 v6) v4 (v5 + 1) M
def w0_lendOf_b26_f (Q : Int32 → Mem → Prop) (K11 : Int32 → Int32 → Int32 → Int32 → Mem → Prop) (K26 : Int32 → Int32 → Int32 → Int32 → Int32 → Mem → Prop) (v1 : Int32) (v2 : Int32) (v3 : Int32) (v4 : Int32) (v5 : Int32) (M : Mem) : Prop := (((M 0 9) ≤ v5 → K11 v1 v2 v3 (v4 + 1) M) ∧ (¬ (M 0 9) ≤ v5 → vp_in v4 8 ∧ vp_in v5 8 ∧ w0_changes (30 + ci v4) (30 + ci v5) M (fun M3 => w0_comeNow M3 (fun r4 M5 => w0_changes (30 + ci v4) (30 + ci v5) M5 (fun M6 => ((r4 ≤ v3 → w0_lendOf_b93 Q K11 K26 v1 v3 v4 v5 r4 v2 M6) ∧ (¬ r4 ≤ v3 → w0_lendOf_b93 Q K11 K26 v1 v3 v4 v5 r4 ((8 * v4) + v5) M6)))))))
def w0_lendOf_b26 (Q : Int32 → Mem → Prop) (K11 : Int32 → Int32 → Int32 → Int32 → Mem → Prop) : Nat → Int32 → Int32 → Int32 → Int32 → Int32 → Mem → Prop
  | 0 => fun _ _ _ _ _ _ => False
  | n + 1 => w0_lendOf_b26_f Q K11 (w0_lendOf_b26 Q K11 n)
def w0_lendOf_b11_f (Q : Int32 → Mem → Prop) (K11 : Int32 → Int32 → Int32 → Int32 → Mem → Prop) (v1 : Int32) (v2 : Int32) (v3 : Int32) (v4 : Int32) (M : Mem) : Prop := (((M 0 9) ≤ v4 → ((v2 = (-1) → w0_lendOf_b123 Q v3 M) ∧ (¬ v2 = (-1) → ((v1 = 2 → w0_lendOf_b123 Q v3 M) ∧ (¬ v1 = 2 → ((v1 = 0 → w0_lendOf_b142 Q (v2 / 8) M) ∧ (¬ v1 = 0 → w0_lendOf_b142 Q (v2 - v2 / 8 * 8) M))))))) ∧ (¬ (M 0 9) ≤ v4 → ∃ n, w0_lendOf_b26 Q K11 n v1 v2 v3 v4 (v4 + 1) M))
def w0_lendOf_b11 (Q : Int32 → Mem → Prop)  : Nat → Int32 → Int32 → Int32 → Int32 → Mem → Prop
  | 0 => fun _ _ _ _ _ => False
  | n + 1 => w0_lendOf_b11_f Q (w0_lendOf_b11 Q n)
def w0_lendOf (v1 : Int32) (M : Mem) (Q : Int32 → Mem → Prop) : Prop := w0_asTold M (fun M7 => ∃ n, w0_lendOf_b11 Q n v1 (-1) (-1) 0 M7)
/-! lend -/
def w0_lend_b19 (Q : Int32 → Mem → Prop)  (s0 : Int32) (M : Mem) : Prop := Q s0 M
def w0_lend (v1 : Int32) (M : Mem) (Q : Int32 → Mem → Prop) : Prop := w0_in v1 0 2 (fun r1 => ((r1 = 0 → w0_lend_b19 Q (-2) M) ∧ (¬ r1 = 0 → w0_lendOf v1 M (fun r2 M3 => w0_lend_b19 Q r2 M3))))
/-! delayOf -/
def w0_delayOf_b99 (Q : Int32 → Mem → Prop)  (s0 : Int32) (M : Mem) : Prop := Q s0 M
def w0_delayOf_b61 (Q : Int32 → Mem → Prop) (K23 : Int32 → Int32 → Int32 → Int32 → Int32 → Int32 → Mem → Prop) (v1 : Int32) (v2 : Int32) (v3 : Int32) (v5 : Int32) (v6 : Int32) (v7 : Int32) (s0 : Int32) (M : Mem) : Prop := K23 v1 v2 v3 s0 (imax v5 v7) (v6 + 1) M
def w0_delayOf_b23_f (Q : Int32 → Mem → Prop) (K23 : Int32 → Int32 → Int32 → Int32 → Int32 → Int32 → Mem → Prop) (v1 : Int32) (v2 : Int32) (v3 : Int32) (v4 : Int32) (v5 : Int32) (v6 : Int32) (M : Mem) : Prop := ((9 < v6 → vp_in v1 8 ∧ ∀ M2, M2 = mset M (30 + ci v1) 5 v3 → ((v2 = 0 → w0_delayOf_b99 Q v4 M2) ∧ (¬ v2 = 0 → w0_delayOf_b99 Q v5 M2))) ∧ (¬ 9 < v6 → vp_in v1 8 ∧ ∀ M4, M4 = mset M (30 + ci v1) 5 v6 → w0_comeNow M4 (fun r5 M6 => ((r5 ≤ v5 → w0_delayOf_b61 Q K23 v1 v2 v3 v5 v6 r5 v4 M6) ∧ (¬ r5 ≤ v5 → w0_delayOf_b61 Q K23 v1 v2 v3 v5 v6 r5 v6 M6)))))
def w0_delayOf_b23 (Q : Int32 → Mem → Prop)  : Nat → Int32 → Int32 → Int32 → Int32 → Int32 → Int32 → Mem → Prop
  | 0 => fun _ _ _ _ _ _ _ => False
  | n + 1 => w0_delayOf_b23_f Q (w0_delayOf_b23 Q n)
def w0_delayOf (v1 : Int32) (v2 : Int32) (M : Mem) (Q : Int32 → Mem → Prop) : Prop := w0_asTold M (fun M7 => vp_in v1 8 ∧ ∃ n, w0_delayOf_b23 Q n v1 v2 (M7 (30 + ci v1) 5) (-1) (-1) 0 M7)
/-! delay -/
def w0_delay_b26 (Q : Int32 → Mem → Prop)  (s0 : Int32) (M : Mem) : Prop := Q s0 M
def w0_delay_b24 (Q : Int32 → Mem → Prop)   (M : Mem) : Prop := w0_delay_b26 Q (-2) M
def w0_delay (v1 : Int32) (v2 : Int32) (M : Mem) (Q : Int32 → Mem → Prop) : Prop := w0_isCarter v1 M (fun r1 M2 => ((r1 = 0 → w0_delay_b24 Q M2) ∧ (¬ r1 = 0 → w0_isTwo v2 (fun r3 => ((r3 = 0 → w0_delay_b24 Q M2) ∧ (¬ r3 = 0 → w0_delayOf v1 v2 M2 (fun r4 M5 => w0_delay_b26 Q r4 M5)))))))
/-! levelOf -/
def w0_levelOf_b67 (Q : Int32 → Mem → Prop)  (s0 : Int32) (M : Mem) : Prop := Q s0 M
def w0_levelOf_b44 (Q : Int32 → Mem → Prop) (K11 : Int32 → Int32 → Int32 → Int32 → Mem → Prop) (v1 : Int32) (v3 : Int32) (v4 : Int32) (v5 : Int32) (s0 : Int32) (M : Mem) : Prop := K11 v1 s0 (imax v3 v5) (v4 + 1) M
def w0_levelOf_b11_f (Q : Int32 → Mem → Prop) (K11 : Int32 → Int32 → Int32 → Int32 → Mem → Prop) (v1 : Int32) (v2 : Int32) (v3 : Int32) (v4 : Int32) (M : Mem) : Prop := (((M 0 4) ≤ v4 → ((v1 = 0 → w0_levelOf_b67 Q v2 M) ∧ (¬ v1 = 0 → w0_levelOf_b67 Q v3 M))) ∧ (¬ (M 0 4) ≤ v4 → w0_measures v4 M (fun M1 => w0_comeNow M1 (fun r2 M3 => ((r2 ≤ v3 → w0_levelOf_b44 Q K11 v1 v3 v4 r2 v2 M3) ∧ (¬ r2 ≤ v3 → w0_levelOf_b44 Q K11 v1 v3 v4 r2 v4 M3))))))
def w0_levelOf_b11 (Q : Int32 → Mem → Prop)  : Nat → Int32 → Int32 → Int32 → Int32 → Mem → Prop
  | 0 => fun _ _ _ _ _ => False
  | n + 1 => w0_levelOf_b11_f Q (w0_levelOf_b11 Q n)
def w0_levelOf (v1 : Int32) (M : Mem) (Q : Int32 → Mem → Prop) : Prop := w0_asTold M (fun M4 => ∃ n, w0_levelOf_b11 Q n v1 (-1) (-1) 0 M4)
/-! level -/
def w0_level_b17 (Q : Int32 → Mem → Prop)  (s0 : Int32) (M : Mem) : Prop := Q s0 M
def w0_level (v1 : Int32) (M : Mem) (Q : Int32 → Mem → Prop) : Prop := w0_isTwo v1 (fun r1 => ((r1 = 0 → w0_level_b17 Q (-2) M) ∧ (¬ r1 = 0 → w0_levelOf v1 M (fun r2 M3 => w0_level_b17 Q r2 M3))))
/-! seen -/
def w0_seen_b24 (Q : Int32 → Mem → Prop)   (M : Mem) : Prop := Q (-2) M
def w0_seen (v1 : Int32) (v2 : Int32) (v3 : Int32) (M : Mem) (Q : Int32 → Mem → Prop) : Prop := w0_isHour v1 (fun r1 => ((r1 = 0 → w0_seen_b24 Q M) ∧ (¬ r1 = 0 → w0_isEight v2 (fun r2 => ((r2 = 0 → w0_seen_b24 Q M) ∧ (¬ r2 = 0 → w0_in v3 0 8 (fun r3 => ((r3 = 0 → w0_seen_b24 Q M) ∧ (¬ r3 = 0 → (((M 0 23) = 8 → Q (-4) M) ∧ (¬ (M 0 23) = 8 → vp_in (M 0 23) 8 ∧ ∀ M5, M5 = mset M 19 (ci (M 0 23)) v1 → vp_in (M5 0 23) 8 ∧ ∀ M7, M7 = mset M5 20 (ci (M5 0 23)) v2 → vp_in (M7 0 23) 8 ∧ ∀ M9, M9 = mset M7 21 (ci (M7 0 23)) v3 → ∀ M10, M10 = mset M9 0 23 ((M9 0 23) + 1) → Q (M10 0 23) M10)))))))))))
/-! forget -/
def w0_forget  (M : Mem) (Q : Int32 → Mem → Prop) : Prop := ∀ M1, M1 = mset M 0 23 0 → Q (M 0 23) M1
/-! fits -/
def w0_fits_b91 (Q : Int32 → Mem → Prop)  (v1 : Int32) (M : Mem) : Prop := Q v1 M
def w0_fits_b84 (Q : Int32 → Mem → Prop) (K10 : Int32 → Int32 → Mem → Prop) (v2 : Int32) (s0 : Int32) (M : Mem) : Prop := K10 s0 (v2 + 1) M
def w0_fits_b83 (Q : Int32 → Mem → Prop) (K10 : Int32 → Int32 → Mem → Prop) (v2 : Int32) (M : Mem) : Prop := w0_fits_b84 Q K10 v2 0 M
def w0_fits_b43 (Q : Int32 → Mem → Prop) (K10 : Int32 → Int32 → Mem → Prop) (v2 : Int32) (s0 : Int32) (M : Mem) : Prop := vp_in v2 8 ∧ (((M 0 9) ≤ (M 20 (ci v2)) → w0_fits_b83 Q K10 v2 M) ∧ (¬ (M 0 9) ≤ (M 20 (ci v2)) → vp_in (M 19 (ci v2)) 40 ∧ vp_in (M 20 (ci v2)) (lenX (60 + ci (M 19 (ci v2)))) ∧ (((M (60 + ci (M 19 (ci v2))) (ci (M 20 (ci v2)))) = s0 → w0_fits_b84 Q K10 v2 1 M) ∧ (¬ (M (60 + ci (M 19 (ci v2))) (ci (M 20 (ci v2)))) = s0 → w0_fits_b83 Q K10 v2 M))))
def w0_fits_b10_f (Q : Int32 → Mem → Prop) (K10 : Int32 → Int32 → Mem → Prop) (v1 : Int32) (v2 : Int32) (M : Mem) : Prop := (((M 0 23) ≤ v2 → w0_fits_b91 Q v1 M) ∧ (¬ (M 0 23) ≤ v2 → ((v1 = 0 → w0_fits_b91 Q v1 M) ∧ (¬ v1 = 0 → vp_in v2 8 ∧ (((M 21 (ci v2)) = 8 → w0_fits_b43 Q K10 v2 (-1) M) ∧ (¬ (M 21 (ci v2)) = 8 → w0_fits_b43 Q K10 v2 (M 21 (ci v2)) M))))))
def w0_fits_b10 (Q : Int32 → Mem → Prop)  : Nat → Int32 → Int32 → Mem → Prop
  | 0 => fun _ _ _ => False
  | n + 1 => w0_fits_b10_f Q (w0_fits_b10 Q n)
def w0_fits_z  (M : Mem) (Q : Int32 → Mem → Prop) : Prop := w0_runs 39 M (fun M5 => ∃ n, w0_fits_b10 Q n 1 0 M5)
def w0_fits  (M : Mem) (Q : Int32 → Mem → Prop) : Prop := w0_fits_z M (fun r M1 => isB r ∧ Q r M1)
/-! neverNow -/
def w0_neverNow_b38 (Q : Int32 → Mem → Prop) (K8 : Int32 → Int32 → Mem → Prop) (v2 : Int32) (s0 : Int32) (s1 : Int32) (M : Mem) : Prop := K8 (s0 ||| s1) (v2 + 1) M
def w0_neverNow_b8_f (Q : Int32 → Mem → Prop) (K8 : Int32 → Int32 → Mem → Prop) (v1 : Int32) (v2 : Int32) (M : Mem) : Prop := (((M 0 12) ≤ v2 → Q v1 M) ∧ (¬ (M 0 12) ≤ v2 → ∀ M1, M1 = mset M 0 17 (1 <<< (v2 &&& 31)) → w0_fits M1 (fun r2 M3 => ((r2 = 0 → w0_neverNow_b38 Q K8 v2 v1 0 M3) ∧ (¬ r2 = 0 → w0_neverNow_b38 Q K8 v2 v1 (1 <<< (v2 &&& 31)) M3)))))
def w0_neverNow_b8 (Q : Int32 → Mem → Prop)  : Nat → Int32 → Int32 → Mem → Prop
  | 0 => fun _ _ _ => False
  | n + 1 => w0_neverNow_b8_f Q (w0_neverNow_b8 Q n)
def w0_neverNow  (M : Mem) (Q : Int32 → Mem → Prop) : Prop := w0_asTold M (fun M4 => ∃ n, w0_neverNow_b8 Q n 0 0 M4)
/-! never -/
def w0_never  (M : Mem) (Q : Int32 → Mem → Prop) : Prop := w0_neverNow M (fun r1 M2 => Q r1 M2)
/-! sortOf -/
def w0_sortOf_b62_f (Q : Int32 → Mem → Prop) (K19 : Int32 → Int32 → Int32 → Int32 → Mem → Prop) (K62 : Int32 → Int32 → Int32 → Int32 → Int32 → Mem → Prop) (v1 : Int32) (v2 : Int32) (v3 : Int32) (v4 : Int32) (v5 : Int32) (M : Mem) : Prop := ((40 ≤ v5 → K19 v1 v2 v3 (v4 + 1) M) ∧ (¬ 40 ≤ v5 → vp_in v4 3 ∧ vp_in v5 40 ∧ vp_in v1 (lenX (60 + ci v5)) ∧ vp_in v5 (lenX (100 + ci v4)) ∧ ∀ M5, M5 = mset M (100 + ci v4) (ci v5) (M (60 + ci v5) (ci v1)) → K62 v1 v2 v3 v4 (v5 + 1) M5))
def w0_sortOf_b62 (Q : Int32 → Mem → Prop) (K19 : Int32 → Int32 → Int32 → Int32 → Mem → Prop) : Nat → Int32 → Int32 → Int32 → Int32 → Int32 → Mem → Prop
  | 0 => fun _ _ _ _ _ _ => False
  | n + 1 => w0_sortOf_b62_f Q K19 (w0_sortOf_b62 Q K19 n)
def w0_sortOf_b57 (Q : Int32 → Mem → Prop) (K19 : Int32 → Int32 → Int32 → Int32 → Mem → Prop) (v1 : Int32) (v2 : Int32) (v4 : Int32) (s0 : Int32) (s1 : Int32) (M : Mem) : Prop := ∃ n, w0_sortOf_b62 Q K19 n v1 v2 (s0 ||| s1) v4 0 M
def w0_sortOf_b19_f (Q : Int32 → Mem → Prop) (K19 : Int32 → Int32 → Int32 → Int32 → Mem → Prop) (v1 : Int32) (v2 : Int32) (v3 : Int32) (v4 : Int32) (M : Mem) : Prop := ((3 ≤ v4 → vp_in v1 8 ∧ vp_in v2 3 ∧ ∀ M8, M8 = mset M (30 + ci v1) 2 v2 → Q v3 M8) ∧ (¬ 3 ≤ v4 → vp_in v1 8 ∧ vp_in v4 3 ∧ ∀ M11, M11 = mset M (30 + ci v1) 2 v4 → w0_fits M11 (fun r12 M13 => ((r12 = 0 → w0_sortOf_b57 Q K19 v1 v2 v4 v3 0 M13) ∧ (¬ r12 = 0 → w0_sortOf_b57 Q K19 v1 v2 v4 v3 (1 <<< (v4 &&& 31)) M13)))))
def w0_sortOf_b19 (Q : Int32 → Mem → Prop)  : Nat → Int32 → Int32 → Int32 → Int32 → Mem → Prop
  | 0 => fun _ _ _ _ _ => False
  | n + 1 => w0_sortOf_b19_f Q (w0_sortOf_b19 Q n)
def w0_sortOf (v1 : Int32) (M : Mem) (Q : Int32 → Mem → Prop) : Prop := w0_asTold M (fun M14 => vp_in v1 8 ∧ vp_in (M14 (30 + ci v1) 2) 3 ∧ ∃ n, w0_sortOf_b19 Q n v1 (M14 (30 + ci v1) 2) 0 0 M14)
/-! sort -/
def w0_sort_b18 (Q : Int32 → Mem → Prop)  (s0 : Int32) (M : Mem) : Prop := Q s0 M
def w0_sort (v1 : Int32) (M : Mem) (Q : Int32 → Mem → Prop) : Prop := w0_isCarter v1 M (fun r1 M2 => ((r1 = 0 → w0_sort_b18 Q (-2) M2) ∧ (¬ r1 = 0 → w0_sortOf v1 M2 (fun r3 M4 => w0_sort_b18 Q r3 M4))))
/-! forceOf -/
def w0_forceOf_b136 (Q : Int32 → Mem → Prop)  (s0 : Int32) (M : Mem) : Prop := Q s0 M
def w0_forceOf_b97 (Q : Int32 → Mem → Prop) (K26 : Int32 → Int32 → Int32 → Int32 → Int32 → Int32 → Int32 → Mem → Prop) (v1 : Int32) (v2 : Int32) (v3 : Int32) (v4 : Int32) (v5 : Int32) (v7 : Int32) (s0 : Int32) (M : Mem) : Prop := K26 v1 v2 v3 v4 v5 s0 (v7 + 1) M
def w0_forceOf_b83 (Q : Int32 → Mem → Prop) (K26 : Int32 → Int32 → Int32 → Int32 → Int32 → Int32 → Int32 → Mem → Prop) (v1 : Int32) (v2 : Int32) (v3 : Int32) (v4 : Int32) (v6 : Int32) (v7 : Int32) (v8 : Int32) (s0 : Int32) (M : Mem) : Prop := ((v8 = 0 → w0_forceOf_b97 Q K26 v1 v2 v3 v4 s0 v7 v6 M) ∧ (¬ v8 = 0 → w0_forceOf_b97 Q K26 v1 v2 v3 v4 s0 v7 v7 M))
def w0_forceOf_b81 (Q : Int32 → Mem → Prop) (K26 : Int32 → Int32 → Int32 → Int32 → Int32 → Int32 → Int32 → Mem → Prop) (v1 : Int32) (v2 : Int32) (v3 : Int32) (v4 : Int32) (v5 : Int32) (v6 : Int32) (v7 : Int32) (v8 : Int32) (M : Mem) : Prop := w0_forceOf_b83 Q K26 v1 v2 v3 v4 v6 v7 v8 v5 M
def w0_forceOf_b62 (Q : Int32 → Mem → Prop) (K26 : Int32 → Int32 → Int32 → Int32 → Int32 → Int32 → Int32 → Mem → Prop) (v1 : Int32) (v2 : Int32) (v3 : Int32) (v5 : Int32) (v6 : Int32) (v7 : Int32) (v8 : Int32) (s0 : Int32) (s1 : Int32) (M : Mem) : Prop := ((v8 = 0 → w0_forceOf_b81 Q K26 v1 v2 v3 (s0 + s1) v5 v6 v7 v8 M) ∧ (¬ v8 = 0 → ((v5 = (-1) → w0_forceOf_b83 Q K26 v1 v2 v3 (s0 + s1) v6 v7 v8 v7 M) ∧ (¬ v5 = (-1) → w0_forceOf_b81 Q K26 v1 v2 v3 (s0 + s1) v5 v6 v7 v8 M))))
def w0_forceOf_b26_f (Q : Int32 → Mem → Prop) (K26 : Int32 → Int32 → Int32 → Int32 → Int32 → Int32 → Int32 → Mem → Prop) (v1 : Int32) (v2 : Int32) (v3 : Int32) (v4 : Int32) (v5 : Int32) (v6 : Int32) (v7 : Int32) (M : Mem) : Prop := ((100 ≤ v7 → vp_in v1 8 ∧ ∀ M2, M2 = mset M (30 + ci v1) 3 v3 → ((v2 = 0 → w0_forceOf_b136 Q v4 M2) ∧ (¬ v2 = 0 → ((v2 = 1 → w0_forceOf_b136 Q v5 M2) ∧ (¬ v2 = 1 → w0_forceOf_b136 Q v6 M2))))) ∧ (¬ 100 ≤ v7 → vp_in v1 8 ∧ ∀ M4, M4 = mset M (30 + ci v1) 3 v7 → w0_fits M4 (fun r5 M6 => ((r5 = 0 → w0_forceOf_b62 Q K26 v1 v2 v3 v5 v6 v7 r5 v4 0 M6) ∧ (¬ r5 = 0 → w0_forceOf_b62 Q K26 v1 v2 v3 v5 v6 v7 r5 v4 1 M6)))))
def w0_forceOf_b26 (Q : Int32 → Mem → Prop)  : Nat → Int32 → Int32 → Int32 → Int32 → Int32 → Int32 → Int32 → Mem → Prop
  | 0 => fun _ _ _ _ _ _ _ _ => False
  | n + 1 => w0_forceOf_b26_f Q (w0_forceOf_b26 Q n)
def w0_forceOf (v1 : Int32) (v2 : Int32) (M : Mem) (Q : Int32 → Mem → Prop) : Prop := w0_asTold M (fun M7 => vp_in v1 8 ∧ ∃ n, w0_forceOf_b26 Q n v1 v2 (M7 (30 + ci v1) 3) 0 (-1) (-1) 0 M7)
/-! force -/
def w0_force_b28 (Q : Int32 → Mem → Prop)  (s0 : Int32) (M : Mem) : Prop := Q s0 M
def w0_force_b26 (Q : Int32 → Mem → Prop)   (M : Mem) : Prop := w0_force_b28 Q (-2) M
def w0_force (v1 : Int32) (v2 : Int32) (M : Mem) (Q : Int32 → Mem → Prop) : Prop := w0_isCarter v1 M (fun r1 M2 => ((r1 = 0 → w0_force_b26 Q M2) ∧ (¬ r1 = 0 → w0_in v2 0 2 (fun r3 => ((r3 = 0 → w0_force_b26 Q M2) ∧ (¬ r3 = 0 → w0_forceOf v1 v2 M2 (fun r4 M5 => w0_force_b28 Q r4 M5)))))))
/-! mostAlike -/
def w0_mostAlike_b69 (Q : Int32 → Mem → Prop) (K5 : Int32 → Int32 → Int32 → Int32 → Mem → Prop) (K17 : Int32 → Int32 → Int32 → Int32 → Int32 → Int32 → Mem → Prop) (v1 : Int32) (v2 : Int32) (v3 : Int32) (v4 : Int32) (v6 : Int32) (s0 : Int32) (s1 : Int32) (M : Mem) : Prop := K17 v1 v2 v3 v4 (s0 + s1) (v6 + 1) M
def w0_mostAlike_b68 (Q : Int32 → Mem → Prop) (K5 : Int32 → Int32 → Int32 → Int32 → Mem → Prop) (K17 : Int32 → Int32 → Int32 → Int32 → Int32 → Int32 → Mem → Prop) (v1 : Int32) (v2 : Int32) (v3 : Int32) (v4 : Int32) (v6 : Int32) (s0 : Int32) (M : Mem) : Prop := w0_mostAlike_b69 Q K5 K17 v1 v2 v3 v4 v6 s0 0 M
def w0_mostAlike_b17_f (Q : Int32 → Mem → Prop) (K5 : Int32 → Int32 → Int32 → Int32 → Mem → Prop) (K17 : Int32 → Int32 → Int32 → Int32 → Int32 → Int32 → Mem → Prop) (v1 : Int32) (v2 : Int32) (v3 : Int32) (v4 : Int32) (v5 : Int32) (v6 : Int32) (M : Mem) : Prop := ((3 ≤ v6 → K5 v1 v2 (imax v3 v5) (v4 + 1) M) ∧ (¬ 3 ≤ v6 → w0_has v1 v4 (fun r1 => ((r1 = 0 → w0_mostAlike_b68 Q K5 K17 v1 v2 v3 v4 v6 v5 M) ∧ (¬ r1 = 0 → w0_has v1 v6 (fun r2 => ((r2 = 0 → w0_mostAlike_b68 Q K5 K17 v1 v2 v3 v4 v6 v5 M) ∧ (¬ r2 = 0 → vp_in v4 3 ∧ vp_in v2 (lenX (100 + ci v4)) ∧ vp_in v6 3 ∧ vp_in v2 (lenX (100 + ci v6)) ∧ (((M (100 + ci v4) (ci v2)) = (M (100 + ci v6) (ci v2)) → w0_mostAlike_b69 Q K5 K17 v1 v2 v3 v4 v6 v5 1 M) ∧ (¬ (M (100 + ci v4) (ci v2)) = (M (100 + ci v6) (ci v2)) → w0_mostAlike_b68 Q K5 K17 v1 v2 v3 v4 v6 v5 M))))))))))
def w0_mostAlike_b17 (Q : Int32 → Mem → Prop) (K5 : Int32 → Int32 → Int32 → Int32 → Mem → Prop) : Nat → Int32 → Int32 → Int32 → Int32 → Int32 → Int32 → Mem → Prop
  | 0 => fun _ _ _ _ _ _ _ => False
  | n + 1 => w0_mostAlike_b17_f Q K5 (w0_mostAlike_b17 Q K5 n)
def w0_mostAlike_b5_f (Q : Int32 → Mem → Prop) (K5 : Int32 → Int32 → Int32 → Int32 → Mem → Prop) (v1 : Int32) (v2 : Int32) (v3 : Int32) (v4 : Int32) (M : Mem) : Prop := ((3 ≤ v4 → Q v3 M) ∧ (¬ 3 ≤ v4 → ∃ n, w0_mostAlike_b17 Q K5 n v1 v2 v3 v4 0 0 M))
def w0_mostAlike_b5 (Q : Int32 → Mem → Prop)  : Nat → Int32 → Int32 → Int32 → Int32 → Mem → Prop
  | 0 => fun _ _ _ _ _ => False
  | n + 1 => w0_mostAlike_b5_f Q (w0_mostAlike_b5 Q n)
def w0_mostAlike (v1 : Int32) (v2 : Int32) (M : Mem) (Q : Int32 → Mem → Prop) : Prop := ∃ n, w0_mostAlike_b5 Q n v1 v2 0 0 M
/-! askOf -/
def w0_askOf_b40 (Q : Int32 → Mem → Prop) (K11 : Int32 → Int32 → Int32 → Mem → Prop) (v2 : Int32) (v4 : Int32) (s0 : Int32) (M : Mem) : Prop := K11 v2 s0 (v4 + 1) M
def w0_askOf_b11_f (Q : Int32 → Mem → Prop) (K11 : Int32 → Int32 → Int32 → Mem → Prop) (v2 : Int32) (v3 : Int32) (v4 : Int32) (M : Mem) : Prop := ((40 ≤ v4 → Q v3 M) ∧ (¬ 40 ≤ v4 → w0_mostAlike v2 v4 M (fun r1 M2 => w0_mostAlike v2 v3 M2 (fun r3 M4 => ((r3 ≤ r1 → w0_askOf_b40 Q K11 v2 v4 v3 M4) ∧ (¬ r3 ≤ r1 → w0_askOf_b40 Q K11 v2 v4 v4 M4))))))
def w0_askOf_b11 (Q : Int32 → Mem → Prop)  : Nat → Int32 → Int32 → Int32 → Mem → Prop
  | 0 => fun _ _ _ _ => False
  | n + 1 => w0_askOf_b11_f Q (w0_askOf_b11 Q n)
def w0_askOf (v1 : Int32) (M : Mem) (Q : Int32 → Mem → Prop) : Prop := w0_sortOf v1 M (fun r5 M6 => ∃ n, w0_askOf_b11 Q n r5 0 1 M6)
/-! ask -/
def w0_ask_b18 (Q : Int32 → Mem → Prop)  (s0 : Int32) (M : Mem) : Prop := Q s0 M
def w0_ask (v1 : Int32) (M : Mem) (Q : Int32 → Mem → Prop) : Prop := w0_isCarter v1 M (fun r1 M2 => ((r1 = 0 → w0_ask_b18 Q (-2) M2) ∧ (¬ r1 = 0 → w0_askOf v1 M2 (fun r3 M4 => w0_ask_b18 Q r3 M4))))
/-! lowest -/
def w0_lowest_b47 (Q : Int64 → Prop)  (s0 : Int64) : Prop := Q s0
def w0_lowest_b6_f (Q : Int64 → Prop) (K6 : Int64 → Int64 → Int32 → Int64 → Int64 → Prop) (v0 : Int64) (v2 : Int64) (v4 : Int32) (v5 : Int64) (v7 : Int64) : Prop := (((lg_cmp v7 0) = 0 → ((v4 = 0 → ¬ v5 = 0 ∧ w0_lowest_b47 Q (v0 / v5)) ∧ (¬ v4 = 0 → ¬ v5 = 0 ∧ w0_lowest_b47 Q (v2 / v5)))) ∧ (¬ (lg_cmp v7 0) = 0 → ¬ v7 = 0 ∧ K6 v0 v2 v4 v7 (v5 - v5 / v7 * v7)))
def w0_lowest_b6 (Q : Int64 → Prop)  : Nat → Int64 → Int64 → Int32 → Int64 → Int64 → Prop
  | 0 => fun _ _ _ _ _ => False
  | n + 1 => w0_lowest_b6_f Q (w0_lowest_b6 Q n)
def w0_lowest (v0 : Int64) (v2 : Int64) (v4 : Int32) (Q : Int64 → Prop) : Prop := ∃ n, w0_lowest_b6 Q n v0 v2 v4 v0 v2
/-! rumourOf -/
def w0_rumourOf_b110 (Q : Int64 → Mem → Prop) (K10 : Int32 → Int32 → Int32 → Int64 → Int32 → Mem → Prop) (v1 : Int32) (v2 : Int32) (v3 : Int32) (v4 : Int64) (v6 : Int32) (M : Mem) : Prop := K10 v1 v2 v3 v4 (v6 + 1) M
def w0_rumourOf_b107 (Q : Int64 → Mem → Prop) (K10 : Int32 → Int32 → Int32 → Int64 → Int32 → Mem → Prop) (v1 : Int32) (v2 : Int32) (v3 : Int32) (v6 : Int32) (s0 : Int64) (s1 : Int64) (M : Mem) : Prop := w0_rumourOf_b110 Q K10 v1 v2 v3 (s0 + s1) v6 M
def w0_rumourOf_b58 (Q : Int64 → Mem → Prop) (K10 : Int32 → Int32 → Int32 → Int64 → Int32 → Mem → Prop) (K27 : Int32 → Int32 → Int32 → Int64 → Int32 → Int64 → Int32 → Mem → Prop) (v1 : Int32) (v2 : Int32) (v3 : Int32) (v4 : Int64) (v6 : Int32) (v9 : Int32) (s0 : Int64) (s1 : Int64) (M : Mem) : Prop := K27 v1 v2 v3 v4 v6 (s0 * s1) (v9 + 1) M
def w0_rumourOf_b27_f (Q : Int64 → Mem → Prop) (K10 : Int32 → Int32 → Int32 → Int64 → Int32 → Mem → Prop) (K27 : Int32 → Int32 → Int32 → Int64 → Int32 → Int64 → Int32 → Mem → Prop) (v1 : Int32) (v2 : Int32) (v3 : Int32) (v4 : Int64) (v6 : Int32) (v7 : Int64) (v9 : Int32) (M : Mem) : Prop := (((M 0 12) ≤ v9 → (((lg_cmp v7 0) ≤ 0 → w0_rumourOf_b110 Q K10 v1 v2 v3 v4 v6 M) ∧ (¬ (lg_cmp v7 0) ≤ 0 → ∀ M1, M1 = mset M 0 17 v6 → w0_runs 39 M1 (fun M2 => vp_in v2 8 ∧ (((M2 (30 + ci v2) 6) = 2 → w0_rumourOf_b107 Q K10 v1 v2 v3 v6 v4 v7 M2) ∧ (¬ (M2 (30 + ci v2) 6) = 2 → w0_rumourOf_b107 Q K10 v1 v2 v3 v6 v4 0 M2)))))) ∧ (¬ (M 0 12) ≤ v9 → w0_has v6 v9 (fun r4 => ((r4 = 0 → w0_rumourOf_b58 Q K10 K27 v1 v2 v3 v4 v6 v9 v7 (Int32.toInt64 v1) M) ∧ (¬ r4 = 0 → w0_rumourOf_b58 Q K10 K27 v1 v2 v3 v4 v6 v9 v7 (Int32.toInt64 (16 - v1)) M)))))
def w0_rumourOf_b27 (Q : Int64 → Mem → Prop) (K10 : Int32 → Int32 → Int32 → Int64 → Int32 → Mem → Prop) : Nat → Int32 → Int32 → Int32 → Int64 → Int32 → Int64 → Int32 → Mem → Prop
  | 0 => fun _ _ _ _ _ _ _ _ => False
  | n + 1 => w0_rumourOf_b27_f Q K10 (w0_rumourOf_b27 Q K10 n)
def w0_rumourOf_b10_f (Q : Int64 → Mem → Prop) (K10 : Int32 → Int32 → Int32 → Int64 → Int32 → Mem → Prop) (v1 : Int32) (v2 : Int32) (v3 : Int32) (v4 : Int64) (v6 : Int32) (M : Mem) : Prop := (((1 <<< ((M 0 12) &&& 31)) ≤ v6 → w0_lowest v4 (1 <<< (Int32.toInt64 (4 * (M 0 12)) &&& 63)) v3 (fun r5 => Q r5 M)) ∧ (¬ (1 <<< ((M 0 12) &&& 31)) ≤ v6 → ∃ n, w0_rumourOf_b27 Q K10 n v1 v2 v3 v4 v6 1 0 M))
def w0_rumourOf_b10 (Q : Int64 → Mem → Prop)  : Nat → Int32 → Int32 → Int32 → Int64 → Int32 → Mem → Prop
  | 0 => fun _ _ _ _ _ _ => False
  | n + 1 => w0_rumourOf_b10_f Q (w0_rumourOf_b10 Q n)
def w0_rumourOf (v1 : Int32) (v2 : Int32) (v3 : Int32) (M : Mem) (Q : Int64 → Mem → Prop) : Prop := w0_asTold M (fun M6 => ∃ n, w0_rumourOf_b10 Q n v1 v2 v3 0 0 M6)
/-! no -/
def w0_no (v0 : Int32) (Q : Int64 → Prop) : Prop := Q ((-9223372036854775808) - (Int32.toInt64 v0))
/-! rumour -/
def w0_rumour_b40 (Q : Int64 → Mem → Prop)  (s0 : Int64) (M : Mem) : Prop := Q s0 M
def w0_rumour_b35 (Q : Int64 → Mem → Prop)   (M : Mem) : Prop := w0_no (-2) (fun r1 => w0_rumour_b40 Q r1 M)
def w0_rumour (v1 : Int32) (v2 : Int32) (v3 : Int32) (M : Mem) (Q : Int64 → Mem → Prop) : Prop := w0_in v1 0 16 (fun r2 => ((r2 = 0 → w0_rumour_b35 Q M) ∧ (¬ r2 = 0 → w0_isCarter v2 M (fun r3 M4 => ((r3 = 0 → w0_rumour_b35 Q M4) ∧ (¬ r3 = 0 → w0_isTwo v3 (fun r5 => ((r5 = 0 → w0_rumour_b35 Q M4) ∧ (¬ r5 = 0 → w0_rumourOf v1 v2 v3 M4 (fun r6 M7 => w0_rumour_b40 Q r6 M7))))))))))
/-! marketOf -/
def w0_marketOf_b119 (Q : Int32 → Mem → Prop)  (s1 : Int32) (M : Mem) : Prop := w0_whoNow s1 M (fun r1 M2 => w0_many r1 (fun r3 => Q r3 M2))
def w0_marketOf_b77_f (Q : Int32 → Mem → Prop) (K77 : Int32 → Int32 → Mem → Prop) (v2 : Int32) (v4 : Int32) (M : Mem) : Prop := (((M 0 9) ≤ v4 → ((v2 = 0 → w0_marketOf_b119 Q 2 M) ∧ (¬ v2 = 0 → w0_marketOf_b119 Q 4 M))) ∧ (¬ (M 0 9) ≤ v4 → vp_in v4 8 ∧ ∀ M5, M5 = mset M (30 + ci v4) 3 (M 23 (ci v4)) → K77 v2 (v4 + 1) M5))
def w0_marketOf_b77 (Q : Int32 → Mem → Prop)  : Nat → Int32 → Int32 → Mem → Prop
  | 0 => fun _ _ _ => False
  | n + 1 => w0_marketOf_b77_f Q (w0_marketOf_b77 Q n)
def w0_marketOf_b9_f (Q : Int32 → Mem → Prop) (K9 : Int32 → Int32 → Int32 → Mem → Prop) (v2 : Int32) (v3 : Int32) (v4 : Int32) (M : Mem) : Prop := (((M 0 9) ≤ v4 → w0_runs 39 M (fun M6 => ∃ n, w0_marketOf_b77 Q n v2 0 M6)) ∧ (¬ (M 0 9) ≤ v4 → vp_in v4 8 ∧ ∀ M8, M8 = mset M 23 (ci v4) (M (30 + ci v4) 3) → ∀ x9 : Int32, x9 = ((1103515245 * v3) + 12345) → ∀ M10, M10 = mset M8 (30 + ci v4) 3 (((Int32.toUInt32 x9 >>> (Int32.toUInt32 16 &&& Int32.toUInt32 31)).toInt32) - ((Int32.toUInt32 x9 >>> (Int32.toUInt32 16 &&& Int32.toUInt32 31)).toInt32) / 100 * 100) → K9 v2 x9 (v4 + 1) M10))
def w0_marketOf_b9 (Q : Int32 → Mem → Prop)  : Nat → Int32 → Int32 → Int32 → Mem → Prop
  | 0 => fun _ _ _ _ => False
  | n + 1 => w0_marketOf_b9_f Q (w0_marketOf_b9 Q n)
def w0_marketOf (v1 : Int32) (v2 : Int32) (M : Mem) (Q : Int32 → Mem → Prop) : Prop := w0_asTold M (fun M11 => ∃ n, w0_marketOf_b9 Q n v2 v1 0 M11)
/-! market -/
def w0_market_b18 (Q : Int32 → Mem → Prop)  (s0 : Int32) (M : Mem) : Prop := Q s0 M
def w0_market (v1 : Int32) (v2 : Int32) (M : Mem) (Q : Int32 → Mem → Prop) : Prop := w0_isTwo v2 (fun r1 => ((r1 = 0 → w0_market_b18 Q (-2) M) ∧ (¬ r1 = 0 → w0_marketOf v1 v2 M (fun r2 M3 => w0_market_b18 Q r2 M3))))
/-! sumOf -/
def w0_sumOf_b75 (Q : Int32 → Mem → Prop)  (s0 : Int32) (M : Mem) : Prop := Q s0 M
def w0_sumOf_b14_f (Q : Int32 → Mem → Prop) (K14 : Int32 → Int32 → Int32 → Mem → Prop) (v1 : Int32) (v2 : Int32) (v3 : Int32) (M : Mem) : Prop := ((8 ≤ v3 → ((v1 = 0 → w0_sumOf_b75 Q (M 0 4) M) ∧ (¬ v1 = 0 → ((v1 = 1 → w0_sumOf_b75 Q (M 0 9) M) ∧ (¬ v1 = 1 → ((v1 = 5 → w0_whoNow 2 M (fun r1 M2 => w0_many r1 (fun r3 => w0_sumOf_b75 Q r3 M2))) ∧ (¬ v1 = 5 → w0_sumOf_b75 Q v2 M))))))) ∧ (¬ 8 ≤ v3 → vp_in v3 8 ∧ K14 v1 (v2 + (M 17 (ci v3))) (v3 + 1) M))
def w0_sumOf_b14 (Q : Int32 → Mem → Prop)  : Nat → Int32 → Int32 → Int32 → Mem → Prop
  | 0 => fun _ _ _ _ => False
  | n + 1 => w0_sumOf_b14_f Q (w0_sumOf_b14 Q n)
def w0_sumOf (v1 : Int32) (M : Mem) (Q : Int32 → Mem → Prop) : Prop := w0_asTold M (fun M5 => w0_runs 39 M5 (fun M6 => ∃ n, w0_sumOf_b14 Q n v1 0 0 M6))
/-! count -/
def w0_count_b58 (Q : Int32 → Mem → Prop)  (v1 : Int32) (M : Mem) : Prop := vp_in (v1 - 2) 2 ∧ Q (M 4 (ci (v1 - 2))) M
def w0_count_b52 (Q : Int32 → Mem → Prop)  (v1 : Int32) (M : Mem) : Prop := w0_sumOf v1 M (fun r2 M3 => Q r2 M3)
def w0_count (v1 : Int32) (M : Mem) (Q : Int32 → Mem → Prop) : Prop := ((v1 = 0 → w0_count_b52 Q v1 M) ∧ (¬ v1 = 0 → ((v1 = 1 → w0_count_b52 Q v1 M) ∧ (¬ v1 = 1 → ((v1 = 2 → w0_count_b58 Q v1 M) ∧ (¬ v1 = 2 → ((v1 = 3 → w0_count_b58 Q v1 M) ∧ (¬ v1 = 3 → ((v1 = 4 → Q (M 0 12) M) ∧ (¬ v1 = 4 → ((v1 = 5 → w0_count_b52 Q v1 M) ∧ (¬ v1 = 5 → ((v1 = 6 → w0_count_b52 Q v1 M) ∧ (¬ v1 = 6 → ((v1 = 7 → Q (M 0 23) M) ∧ (¬ v1 = 7 → ((v1 = 8 → Q (M 0 30) M) ∧ (¬ v1 = 8 → (Q (-2) M)))))))))))))))))))
/-! hourDigest -/
def w0_hourDigest_b6_f (Q : Int64 → Mem → Prop) (K6 : Int32 → Int32 → Int64 → Int32 → Mem → Prop) (v3 : Int32) (v4 : Int32) (v5 : Int64) (v7 : Int32) (M : Mem) : Prop := ((4 ≤ v7 → Q v5 M) ∧ (¬ 4 ≤ v7 → w0_atOf v3 v4 v7 M (fun r1 M2 => ∀ x3 : Int64, x3 = ((31 * v5) + (Int32.toInt64 r1)) → K6 v3 v4 x3 (v7 + 1) M2)))
def w0_hourDigest_b6 (Q : Int64 → Mem → Prop)  : Nat → Int32 → Int32 → Int64 → Int32 → Mem → Prop
  | 0 => fun _ _ _ _ _ => False
  | n + 1 => w0_hourDigest_b6_f Q (w0_hourDigest_b6 Q n)
def w0_hourDigest (v1 : Int64) (v3 : Int32) (v4 : Int32) (M : Mem) (Q : Int64 → Mem → Prop) : Prop := ∃ n, w0_hourDigest_b6 Q n v3 v4 v1 0 M
/-! carterDigest -/
def w0_carterDigest_b157_f (Q : Int64 → Mem → Prop) (K157 : Int32 → Int64 → Int32 → Mem → Prop) (v3 : Int32) (v4 : Int64) (v6 : Int32) (M : Mem) : Prop := ((3 ≤ v6 → w0_askOf v3 M (fun r1 M2 => ∀ x3 : Int64, x3 = ((31 * v4) + (Int32.toInt64 r1)) → w0_rumourOf 5 v3 0 M2 (fun r4 M5 => w0_rumourOf 5 v3 1 M5 (fun r6 M7 => Q ((31 * ((31 * x3) + r4)) + r6) M7)))) ∧ (¬ 3 ≤ v6 → w0_forceOf v3 v6 M (fun r8 M9 => ∀ x10 : Int64, x10 = ((31 * v4) + (Int32.toInt64 r8)) → K157 v3 x10 (v6 + 1) M9)))
def w0_carterDigest_b157 (Q : Int64 → Mem → Prop)  : Nat → Int32 → Int64 → Int32 → Mem → Prop
  | 0 => fun _ _ _ _ => False
  | n + 1 => w0_carterDigest_b157_f Q (w0_carterDigest_b157 Q n)
def w0_carterDigest_b6_f (Q : Int64 → Mem → Prop) (K6 : Int32 → Int64 → Int32 → Mem → Prop) (v3 : Int32) (v4 : Int64) (v6 : Int32) (M : Mem) : Prop := ((5 ≤ v6 → w0_hourDigest v4 0 v3 M (fun r11 M12 => w0_hourDigest r11 5 v3 M12 (fun r13 M14 => w0_hourDigest r13 15 v3 M14 (fun r15 M16 => w0_hourDigest r15 39 v3 M16 (fun r17 M18 => w0_endsOf v3 M18 (fun r19 M20 => ∀ x21 : Int64, x21 = ((31 * r17) + (Int32.toInt64 r19)) → w0_needsOf v3 M20 (fun r22 M23 => ∀ x24 : Int64, x24 = ((31 * x21) + (Int32.toInt64 r22)) → w0_delayOf v3 0 M23 (fun r25 M26 => ∀ x27 : Int64, x27 = ((31 * x24) + (Int32.toInt64 r25)) → w0_delayOf v3 1 M26 (fun r28 M29 => ∀ x30 : Int64, x30 = ((31 * x27) + (Int32.toInt64 r28)) → w0_sortOf v3 M29 (fun r31 M32 => ∀ x33 : Int64, x33 = ((31 * x30) + (Int32.toInt64 r31)) → ∃ n, w0_carterDigest_b157 Q n v3 x33 0 M32)))))))))) ∧ (¬ 5 ≤ v6 → w0_carterOf v3 v6 M (fun r34 M35 => ∀ x36 : Int64, x36 = ((31 * v4) + (Int32.toInt64 r34)) → K6 v3 x36 (v6 + 1) M35)))
def w0_carterDigest_b6 (Q : Int64 → Mem → Prop)  : Nat → Int32 → Int64 → Int32 → Mem → Prop
  | 0 => fun _ _ _ _ => False
  | n + 1 => w0_carterDigest_b6_f Q (w0_carterDigest_b6 Q n)
def w0_carterDigest (v1 : Int64) (v3 : Int32) (M : Mem) (Q : Int64 → Mem → Prop) : Prop := ∃ n, w0_carterDigest_b6 Q n v3 v1 0 M
/-! digest -/
def w0_digest_b234_f (Q : Int64 → Mem → Prop) (K234 : Int64 → Int32 → Mem → Prop) (v1 : Int64) (v3 : Int32) (M : Mem) : Prop := ((3 ≤ v3 → w0_levelOf 0 M (fun r1 M2 => ∀ x3 : Int64, x3 = ((31 * v1) + (Int32.toInt64 r1)) → w0_levelOf 1 M2 (fun r4 M5 => ∀ x6 : Int64, x6 = ((31 * x3) + (Int32.toInt64 r4)) → w0_neverNow M5 (fun r7 M8 => ∀ x9 : Int64, x9 = ((31 * x6) + (Int32.toInt64 r7)) → w0_marketOf 7 0 M8 (fun r10 M11 => ∀ x12 : Int64, x12 = ((31 * x9) + (Int32.toInt64 r10)) → w0_marketOf 7 1 M11 (fun r13 M14 => Q ((31 * x12) + (Int32.toInt64 r13)) M14)))))) ∧ (¬ 3 ≤ v3 → w0_lendOf v3 M (fun r15 M16 => ∀ x17 : Int64, x17 = ((31 * v1) + (Int32.toInt64 r15)) → K234 x17 (v3 + 1) M16)))
def w0_digest_b234 (Q : Int64 → Mem → Prop)  : Nat → Int64 → Int32 → Mem → Prop
  | 0 => fun _ _ _ => False
  | n + 1 => w0_digest_b234_f Q (w0_digest_b234 Q n)
def w0_digest_b170_f (Q : Int64 → Mem → Prop) (K170 : Int64 → Int32 → Mem → Prop) (v1 : Int64) (v3 : Int32) (M : Mem) : Prop := ((5 < v3 → w0_metOf 0 M (fun r18 M19 => ∀ x20 : Int64, x20 = ((31 * v1) + (Int32.toInt64 r18)) → w0_metOf 1 M19 (fun r21 M22 => ∀ x23 : Int64, x23 = ((31 * x20) + (Int32.toInt64 r21)) → w0_busiestNow M22 (fun r24 M25 => ∀ x26 : Int64, x26 = ((31 * x23) + (Int32.toInt64 r24)) → ∃ n, w0_digest_b234 Q n x26 0 M25)))) ∧ (¬ 5 < v3 → w0_whoOf v3 M (fun r27 M28 => ∀ x29 : Int64, x29 = ((31 * v1) + (Int32.toInt64 r27)) → K170 x29 (v3 + 1) M28)))
def w0_digest_b170 (Q : Int64 → Mem → Prop)  : Nat → Int64 → Int32 → Mem → Prop
  | 0 => fun _ _ _ => False
  | n + 1 => w0_digest_b170_f Q (w0_digest_b170 Q n)
def w0_digest_b147_f (Q : Int64 → Mem → Prop) (K147 : Int64 → Int32 → Mem → Prop) (v1 : Int64) (v3 : Int32) (M : Mem) : Prop := (((M 0 9) ≤ v3 → ∃ n, w0_digest_b170 Q n v1 2 M) ∧ (¬ (M 0 9) ≤ v3 → w0_carterDigest v1 v3 M (fun r30 M31 => K147 r30 (v3 + 1) M31)))
def w0_digest_b147 (Q : Int64 → Mem → Prop)  : Nat → Int64 → Int32 → Mem → Prop
  | 0 => fun _ _ _ => False
  | n + 1 => w0_digest_b147_f Q (w0_digest_b147 Q n)
def w0_digest_b105_f (Q : Int64 → Mem → Prop) (K105 : Int64 → Int32 → Mem → Prop) (v1 : Int64) (v3 : Int32) (M : Mem) : Prop := ((8 ≤ v3 → ∃ n, w0_digest_b147 Q n v1 0 M) ∧ (¬ 8 ≤ v3 → w0_farOf 0 v3 M (fun r32 M33 => ∀ x34 : Int64, x34 = ((31 * v1) + (Int32.toInt64 r32)) → w0_farOf v3 3 M33 (fun r35 M36 => ∀ x37 : Int64, x37 = ((31 * x34) + (Int32.toInt64 r35)) → K105 x37 (v3 + 1) M36))))
def w0_digest_b105 (Q : Int64 → Mem → Prop)  : Nat → Int64 → Int32 → Mem → Prop
  | 0 => fun _ _ _ => False
  | n + 1 => w0_digest_b105_f Q (w0_digest_b105 Q n)
def w0_digest_b70_f (Q : Int64 → Mem → Prop) (K59 : Int64 → Int32 → Mem → Prop) (K70 : Int64 → Int32 → Int32 → Mem → Prop) (v1 : Int64) (v3 : Int32) (v4 : Int32) (M : Mem) : Prop := ((4 ≤ v4 → K59 v1 (v3 + 1) M) ∧ (¬ 4 ≤ v4 → w0_wayOf v3 v4 M (fun r38 M39 => ∀ x40 : Int64, x40 = ((31 * v1) + (Int32.toInt64 r38)) → K70 x40 v3 (v4 + 1) M39)))
def w0_digest_b70 (Q : Int64 → Mem → Prop) (K59 : Int64 → Int32 → Mem → Prop) : Nat → Int64 → Int32 → Int32 → Mem → Prop
  | 0 => fun _ _ _ _ => False
  | n + 1 => w0_digest_b70_f Q K59 (w0_digest_b70 Q K59 n)
def w0_digest_b59_f (Q : Int64 → Mem → Prop) (K59 : Int64 → Int32 → Mem → Prop) (v1 : Int64) (v3 : Int32) (M : Mem) : Prop := (((M 0 4) ≤ v3 → ∃ n, w0_digest_b105 Q n v1 0 M) ∧ (¬ (M 0 4) ≤ v3 → ∃ n, w0_digest_b70 Q K59 n v1 v3 0 M))
def w0_digest_b59 (Q : Int64 → Mem → Prop)  : Nat → Int64 → Int32 → Mem → Prop
  | 0 => fun _ _ _ => False
  | n + 1 => w0_digest_b59_f Q (w0_digest_b59 Q n)
def w0_digest_b6_f (Q : Int64 → Mem → Prop) (K6 : Int64 → Int32 → Mem → Prop) (v1 : Int64) (v3 : Int32) (M : Mem) : Prop := ((8 ≤ v3 → w0_faultOf 0 M (fun r41 M42 => ∀ x43 : Int64, x43 = ((31 * v1) + (Int32.toInt64 r41)) → w0_faultOf 1 M42 (fun r44 M45 => ∀ x46 : Int64, x46 = ((31 * x43) + (Int32.toInt64 r44)) → ∃ n, w0_digest_b59 Q n x46 0 M45))) ∧ (¬ 8 ≤ v3 → w0_count v3 M (fun r47 M48 => ∀ x49 : Int64, x49 = ((31 * v1) + (Int32.toInt64 r47)) → K6 x49 (v3 + 1) M48)))
def w0_digest_b6 (Q : Int64 → Mem → Prop)  : Nat → Int64 → Int32 → Mem → Prop
  | 0 => fun _ _ _ => False
  | n + 1 => w0_digest_b6_f Q (w0_digest_b6 Q n)
def w0_digest  (M : Mem) (Q : Int64 → Mem → Prop) : Prop := ∃ n, w0_digest_b6 Q n 17 0 M
