/-! QuestionRoad -/
set_option maxRecDepth 100000
def RX0 : String := "QuestionRoad"
def TX0 : u_T := fun k => match k with
  | 0 => ("QuestionRoad", "texts", "[[I", true)
  | 1 => ("QuestionRoad", "typed", "[I", true)
  | 2 => ("QuestionRoad", "isRead", "Z", false)
  | 3 => ("QuestionRoad", "faults", "[I", true)
  | 4 => ("QuestionRoad", "ways", "I", false)
  | 5 => ("QuestionRoad", "wayFrom", "[I", true)
  | 6 => ("QuestionRoad", "wayTo", "[I", true)
  | 7 => ("QuestionRoad", "wayLong", "[I", true)
  | 8 => ("QuestionRoad", "waySlope", "[I", true)
  | 9 => ("QuestionRoad", "carters", "I", false)
  | 10 => ("QuestionRoad", "all", "[LQuestionRoad$Carter;", true)
  | 11 => ("QuestionRoad", "kinds", "[LQuestionRoad$Question;", true)
  | 12 => ("QuestionRoad", "answers", "I", false)
  | 13 => ("QuestionRoad", "answerHour", "[I", true)
  | 14 => ("QuestionRoad", "answerPlace", "[I", true)
  | 15 => ("QuestionRoad", "beside", "[[I", true)
  | 16 => ("QuestionRoad", "farNow", "[[I", true)
  | 17 => ("QuestionRoad", "notAnswers", "I", false)
  | 18 => ("QuestionRoad", "present", "[I", true)
  | 19 => ("QuestionRoad", "arrivals", "[I", true)
  | 20 => ("QuestionRoad", "metHour", "I", false)
  | 21 => ("QuestionRoad", "metPlace", "I", false)
  | 22 => ("QuestionRoad", "placeAt", "[[I", true)
  | 23 => ("QuestionRoad", "sights", "I", false)
  | 24 => ("QuestionRoad", "seenHour", "[I", true)
  | 25 => ("QuestionRoad", "seenWho", "[I", true)
  | 26 => ("QuestionRoad", "seenPlace", "[I", true)
  | 27 => ("QuestionRoad", "placeBy", "[[I", true)
  | 28 => ("QuestionRoad", "ownStrengths", "[I", true)
  | 29 => ("QuestionRoad", "sheets", "[LQuestionRoad$Sheet;", true)
  | _ => ("QuestionRoad", "finding", "I", false)
def tyX0 : Nat → FieldType := fun k => match k with
  | 0 => .array (.array .int)
  | 1 => .array .int
  | 2 => .boolean
  | 3 => .array .int
  | 4 => .int
  | 5 => .array .int
  | 6 => .array .int
  | 7 => .array .int
  | 8 => .array .int
  | 9 => .int
  | 10 => .array (.object "QuestionRoad$Carter")
  | 11 => .array (.object "QuestionRoad$Question")
  | 12 => .int
  | 13 => .array .int
  | 14 => .array .int
  | 15 => .array (.array .int)
  | 16 => .array (.array .int)
  | 17 => .int
  | 18 => .array .int
  | 19 => .array .int
  | 20 => .int
  | 21 => .int
  | 22 => .array (.array .int)
  | 23 => .int
  | 24 => .array .int
  | 25 => .array .int
  | 26 => .array .int
  | 27 => .array (.array .int)
  | 28 => .array .int
  | 29 => .array (.object "QuestionRoad$Sheet")
  | _ => .int
abbrev wsX00 : List Cond := u_ws RX0 TX0 31
set_option maxRecDepth 100000 in
theorem nmX0 : ∀ a, a < 31 → ∀ b, b < 31 → a ≠ b → (TX0 a).2.1 ≠ (TX0 b).2.1 := by decide +kernel
set_option maxRecDepth 100000 in
theorem tyX0_ok : ∀ k, k < 31 → parseFieldDescriptor (TX0 k).2.2.1 = some (tyX0 k) := by decide +kernel
abbrev cX0_type : ByteArray := prog_1_method_11_code
def yX0_type : MethodName := ⟨RX0, "type", "(II)I"⟩
def dkwX0_type_3 : List UInt8 := [180, 0, 13, 27, 46, 172]
abbrev dktX0_type_3 : List UInt8 := dkwX0_type_3 ++ []
def dkwX0_type_2 : List UInt8 := [42, 180, 0, 13, 27, 46, 28, 79, 42, 180, 0, 13, 27, 92, 46, 4, 96, 79, 42, 3, 181, 0, 21, 42]
abbrev dktX0_type_2 : List UInt8 := dkwX0_type_2 ++ dktX0_type_3
def dkwX0_type_1 : List UInt8 := [180, 0, 13, 27, 46, 42, 180, 0, 17, 27, 50, 190, 160, 0, 6, 16, 252, 172, 42, 180, 0, 17, 27, 50]
abbrev dktX0_type_1 : List UInt8 := dkwX0_type_1 ++ dktX0_type_2
def dkwX0_type_0 : List UInt8 := [27, 184, 0, 9, 153, 0, 14, 28, 3, 17, 0, 255, 184, 0, 5, 154, 0, 6, 16, 254, 172, 42]
abbrev dktX0_type_0 : List UInt8 := dkwX0_type_0 ++ dktX0_type_1
theorem dksX0_type_0 : cX0_type.data.toList.drop 0 = dktX0_type_0 := by decide +kernel
theorem dksX0_type_1 : cX0_type.data.toList.drop 22 = dktX0_type_1 := dk_seg dksX0_type_0 22 rfl rfl
theorem dksX0_type_2 : cX0_type.data.toList.drop 46 = dktX0_type_2 := dk_seg dksX0_type_1 24 rfl rfl
theorem dksX0_type_3 : cX0_type.data.toList.drop 70 = dktX0_type_3 := dk_seg dksX0_type_2 24 rfl rfl
theorem dX0_type_0 : decode cX0_type 0 = .ok (.iload_n 1, 1) := dk_27 (dk_at dksX0_type_0 0 rfl rfl)
theorem dX0_type_1 : decode cX0_type 1 = .ok (.invokestatic 9, 3) := dk_184 0 9 (dk_at dksX0_type_0 1 rfl rfl)
theorem dX0_type_4 : decode cX0_type 4 = .ok (.ifCond .eq 14, 3) := dk_153 0 14 (dk_at dksX0_type_0 4 rfl rfl)
theorem dX0_type_7 : decode cX0_type 7 = .ok (.iload_n 2, 1) := dk_28 (dk_at dksX0_type_0 7 rfl rfl)
theorem dX0_type_8 : decode cX0_type 8 = .ok (.iconst 0, 1) := dk_3 (dk_at dksX0_type_0 8 rfl rfl)
theorem dX0_type_9 : decode cX0_type 9 = .ok (.sipush 255, 3) := dk_17 0 255 (dk_at dksX0_type_0 9 rfl rfl)
theorem dX0_type_12 : decode cX0_type 12 = .ok (.invokestatic 5, 3) := dk_184 0 5 (dk_at dksX0_type_0 12 rfl rfl)
theorem dX0_type_15 : decode cX0_type 15 = .ok (.ifCond .ne 6, 3) := dk_154 0 6 (dk_at dksX0_type_0 15 rfl rfl)
theorem dX0_type_18 : decode cX0_type 18 = .ok (.bipush (-2), 2) := dk_16 254 (dk_at dksX0_type_0 18 rfl rfl)
theorem dX0_type_20 : decode cX0_type 20 = .ok (.ireturn, 1) := dk_172 (dk_at dksX0_type_0 20 rfl rfl)
theorem dX0_type_21 : decode cX0_type 21 = .ok (.aload_n 0, 1) := dk_42 (dk_at dksX0_type_0 21 rfl rfl)
theorem dX0_type_22 : decode cX0_type 22 = .ok (.getfield 13, 3) := dk_180 0 13 (dk_at dksX0_type_1 0 rfl rfl)
theorem dX0_type_25 : decode cX0_type 25 = .ok (.iload_n 1, 1) := dk_27 (dk_at dksX0_type_1 3 rfl rfl)
theorem dX0_type_26 : decode cX0_type 26 = .ok (.iaload, 1) := dk_46 (dk_at dksX0_type_1 4 rfl rfl)
theorem dX0_type_27 : decode cX0_type 27 = .ok (.aload_n 0, 1) := dk_42 (dk_at dksX0_type_1 5 rfl rfl)
theorem dX0_type_28 : decode cX0_type 28 = .ok (.getfield 17, 3) := dk_180 0 17 (dk_at dksX0_type_1 6 rfl rfl)
theorem dX0_type_31 : decode cX0_type 31 = .ok (.iload_n 1, 1) := dk_27 (dk_at dksX0_type_1 9 rfl rfl)
theorem dX0_type_32 : decode cX0_type 32 = .ok (.aaload, 1) := dk_50 (dk_at dksX0_type_1 10 rfl rfl)
theorem dX0_type_33 : decode cX0_type 33 = .ok (.arraylength, 1) := dk_190 (dk_at dksX0_type_1 11 rfl rfl)
theorem dX0_type_34 : decode cX0_type 34 = .ok (.if_icmp .ne 6, 3) := dk_160 0 6 (dk_at dksX0_type_1 12 rfl rfl)
theorem dX0_type_37 : decode cX0_type 37 = .ok (.bipush (-4), 2) := dk_16 252 (dk_at dksX0_type_1 15 rfl rfl)
theorem dX0_type_39 : decode cX0_type 39 = .ok (.ireturn, 1) := dk_172 (dk_at dksX0_type_1 17 rfl rfl)
theorem dX0_type_40 : decode cX0_type 40 = .ok (.aload_n 0, 1) := dk_42 (dk_at dksX0_type_1 18 rfl rfl)
theorem dX0_type_41 : decode cX0_type 41 = .ok (.getfield 17, 3) := dk_180 0 17 (dk_at dksX0_type_1 19 rfl rfl)
theorem dX0_type_44 : decode cX0_type 44 = .ok (.iload_n 1, 1) := dk_27 (dk_at dksX0_type_1 22 rfl rfl)
theorem dX0_type_45 : decode cX0_type 45 = .ok (.aaload, 1) := dk_50 (dk_at dksX0_type_1 23 rfl rfl)
theorem dX0_type_46 : decode cX0_type 46 = .ok (.aload_n 0, 1) := dk_42 (dk_at dksX0_type_2 0 rfl rfl)
theorem dX0_type_47 : decode cX0_type 47 = .ok (.getfield 13, 3) := dk_180 0 13 (dk_at dksX0_type_2 1 rfl rfl)
theorem dX0_type_50 : decode cX0_type 50 = .ok (.iload_n 1, 1) := dk_27 (dk_at dksX0_type_2 4 rfl rfl)
theorem dX0_type_51 : decode cX0_type 51 = .ok (.iaload, 1) := dk_46 (dk_at dksX0_type_2 5 rfl rfl)
theorem dX0_type_52 : decode cX0_type 52 = .ok (.iload_n 2, 1) := dk_28 (dk_at dksX0_type_2 6 rfl rfl)
theorem dX0_type_53 : decode cX0_type 53 = .ok (.iastore, 1) := dk_79 (dk_at dksX0_type_2 7 rfl rfl)
theorem dX0_type_54 : decode cX0_type 54 = .ok (.aload_n 0, 1) := dk_42 (dk_at dksX0_type_2 8 rfl rfl)
theorem dX0_type_55 : decode cX0_type 55 = .ok (.getfield 13, 3) := dk_180 0 13 (dk_at dksX0_type_2 9 rfl rfl)
theorem dX0_type_58 : decode cX0_type 58 = .ok (.iload_n 1, 1) := dk_27 (dk_at dksX0_type_2 12 rfl rfl)
theorem dX0_type_59 : decode cX0_type 59 = .ok (.dup2, 1) := dk_92 (dk_at dksX0_type_2 13 rfl rfl)
theorem dX0_type_60 : decode cX0_type 60 = .ok (.iaload, 1) := dk_46 (dk_at dksX0_type_2 14 rfl rfl)
theorem dX0_type_61 : decode cX0_type 61 = .ok (.iconst 1, 1) := dk_4 (dk_at dksX0_type_2 15 rfl rfl)
theorem dX0_type_62 : decode cX0_type 62 = .ok (.iadd, 1) := dk_96 (dk_at dksX0_type_2 16 rfl rfl)
theorem dX0_type_63 : decode cX0_type 63 = .ok (.iastore, 1) := dk_79 (dk_at dksX0_type_2 17 rfl rfl)
theorem dX0_type_64 : decode cX0_type 64 = .ok (.aload_n 0, 1) := dk_42 (dk_at dksX0_type_2 18 rfl rfl)
theorem dX0_type_65 : decode cX0_type 65 = .ok (.iconst 0, 1) := dk_3 (dk_at dksX0_type_2 19 rfl rfl)
theorem dX0_type_66 : decode cX0_type 66 = .ok (.putfield 21, 3) := dk_181 0 21 (dk_at dksX0_type_2 20 rfl rfl)
theorem dX0_type_69 : decode cX0_type 69 = .ok (.aload_n 0, 1) := dk_42 (dk_at dksX0_type_2 23 rfl rfl)
theorem dX0_type_70 : decode cX0_type 70 = .ok (.getfield 13, 3) := dk_180 0 13 (dk_at dksX0_type_3 0 rfl rfl)
theorem dX0_type_73 : decode cX0_type 73 = .ok (.iload_n 1, 1) := dk_27 (dk_at dksX0_type_3 3 rfl rfl)
theorem dX0_type_74 : decode cX0_type 74 = .ok (.iaload, 1) := dk_46 (dk_at dksX0_type_3 4 rfl rfl)
theorem dX0_type_75 : decode cX0_type 75 = .ok (.ireturn, 1) := dk_172 (dk_at dksX0_type_3 5 rfl rfl)
abbrev cX0_isText : ByteArray := prog_1_method_6_code
def yX0_isText : MethodName := ⟨RX0, "isText", "(I)Z"⟩
def dkwX0_isText_0 : List UInt8 := [26, 3, 4, 184, 0, 5, 172]
abbrev dktX0_isText_0 : List UInt8 := dkwX0_isText_0 ++ []
theorem dksX0_isText_0 : cX0_isText.data.toList.drop 0 = dktX0_isText_0 := by decide +kernel
theorem dX0_isText_0 : decode cX0_isText 0 = .ok (.iload_n 0, 1) := dk_26 (dk_at dksX0_isText_0 0 rfl rfl)
theorem dX0_isText_1 : decode cX0_isText 1 = .ok (.iconst 0, 1) := dk_3 (dk_at dksX0_isText_0 1 rfl rfl)
theorem dX0_isText_2 : decode cX0_isText 2 = .ok (.iconst 1, 1) := dk_4 (dk_at dksX0_isText_0 2 rfl rfl)
theorem dX0_isText_3 : decode cX0_isText 3 = .ok (.invokestatic 5, 3) := dk_184 0 5 (dk_at dksX0_isText_0 3 rfl rfl)
theorem dX0_isText_6 : decode cX0_isText 6 = .ok (.ireturn, 1) := dk_172 (dk_at dksX0_isText_0 6 rfl rfl)
abbrev cX0_in : ByteArray := prog_1_method_1_code
def yX0_in : MethodName := ⟨RX0, "in", "(III)Z"⟩
def dkwX0_in_0 : List UInt8 := [26, 27, 161, 0, 12, 26, 28, 163, 0, 7, 4, 167, 0, 4, 3, 172]
abbrev dktX0_in_0 : List UInt8 := dkwX0_in_0 ++ []
theorem dksX0_in_0 : cX0_in.data.toList.drop 0 = dktX0_in_0 := by decide +kernel
theorem dX0_in_0 : decode cX0_in 0 = .ok (.iload_n 0, 1) := dk_26 (dk_at dksX0_in_0 0 rfl rfl)
theorem dX0_in_1 : decode cX0_in 1 = .ok (.iload_n 1, 1) := dk_27 (dk_at dksX0_in_0 1 rfl rfl)
theorem dX0_in_2 : decode cX0_in 2 = .ok (.if_icmp .lt 12, 3) := dk_161 0 12 (dk_at dksX0_in_0 2 rfl rfl)
theorem dX0_in_5 : decode cX0_in 5 = .ok (.iload_n 0, 1) := dk_26 (dk_at dksX0_in_0 5 rfl rfl)
theorem dX0_in_6 : decode cX0_in 6 = .ok (.iload_n 2, 1) := dk_28 (dk_at dksX0_in_0 6 rfl rfl)
theorem dX0_in_7 : decode cX0_in 7 = .ok (.if_icmp .gt 7, 3) := dk_163 0 7 (dk_at dksX0_in_0 7 rfl rfl)
theorem dX0_in_10 : decode cX0_in 10 = .ok (.iconst 1, 1) := dk_4 (dk_at dksX0_in_0 10 rfl rfl)
theorem dX0_in_11 : decode cX0_in 11 = .ok (.goto 4, 3) := dk_167 0 4 (dk_at dksX0_in_0 11 rfl rfl)
theorem dX0_in_14 : decode cX0_in 14 = .ok (.iconst 0, 1) := dk_3 (dk_at dksX0_in_0 14 rfl rfl)
theorem dX0_in_15 : decode cX0_in 15 = .ok (.ireturn, 1) := dk_172 (dk_at dksX0_in_0 15 rfl rfl)
abbrev cX0_wipe : ByteArray := prog_1_method_12_code
def yX0_wipe : MethodName := ⟨RX0, "wipe", "(I)I"⟩
def dkwX0_wipe_1 : List UInt8 := [42, 3, 181, 0, 21, 28, 172]
abbrev dktX0_wipe_1 : List UInt8 := dkwX0_wipe_1 ++ []
def dkwX0_wipe_0 : List UInt8 := [27, 184, 0, 9, 154, 0, 6, 16, 254, 172, 42, 180, 0, 13, 27, 46, 61, 42, 180, 0, 13, 27, 3, 79]
abbrev dktX0_wipe_0 : List UInt8 := dkwX0_wipe_0 ++ dktX0_wipe_1
theorem dksX0_wipe_0 : cX0_wipe.data.toList.drop 0 = dktX0_wipe_0 := by decide +kernel
theorem dksX0_wipe_1 : cX0_wipe.data.toList.drop 24 = dktX0_wipe_1 := dk_seg dksX0_wipe_0 24 rfl rfl
theorem dX0_wipe_0 : decode cX0_wipe 0 = .ok (.iload_n 1, 1) := dk_27 (dk_at dksX0_wipe_0 0 rfl rfl)
theorem dX0_wipe_1 : decode cX0_wipe 1 = .ok (.invokestatic 9, 3) := dk_184 0 9 (dk_at dksX0_wipe_0 1 rfl rfl)
theorem dX0_wipe_4 : decode cX0_wipe 4 = .ok (.ifCond .ne 6, 3) := dk_154 0 6 (dk_at dksX0_wipe_0 4 rfl rfl)
theorem dX0_wipe_7 : decode cX0_wipe 7 = .ok (.bipush (-2), 2) := dk_16 254 (dk_at dksX0_wipe_0 7 rfl rfl)
theorem dX0_wipe_9 : decode cX0_wipe 9 = .ok (.ireturn, 1) := dk_172 (dk_at dksX0_wipe_0 9 rfl rfl)
theorem dX0_wipe_10 : decode cX0_wipe 10 = .ok (.aload_n 0, 1) := dk_42 (dk_at dksX0_wipe_0 10 rfl rfl)
theorem dX0_wipe_11 : decode cX0_wipe 11 = .ok (.getfield 13, 3) := dk_180 0 13 (dk_at dksX0_wipe_0 11 rfl rfl)
theorem dX0_wipe_14 : decode cX0_wipe 14 = .ok (.iload_n 1, 1) := dk_27 (dk_at dksX0_wipe_0 14 rfl rfl)
theorem dX0_wipe_15 : decode cX0_wipe 15 = .ok (.iaload, 1) := dk_46 (dk_at dksX0_wipe_0 15 rfl rfl)
theorem dX0_wipe_16 : decode cX0_wipe 16 = .ok (.istore_n 2, 1) := dk_61 (dk_at dksX0_wipe_0 16 rfl rfl)
theorem dX0_wipe_17 : decode cX0_wipe 17 = .ok (.aload_n 0, 1) := dk_42 (dk_at dksX0_wipe_0 17 rfl rfl)
theorem dX0_wipe_18 : decode cX0_wipe 18 = .ok (.getfield 13, 3) := dk_180 0 13 (dk_at dksX0_wipe_0 18 rfl rfl)
theorem dX0_wipe_21 : decode cX0_wipe 21 = .ok (.iload_n 1, 1) := dk_27 (dk_at dksX0_wipe_0 21 rfl rfl)
theorem dX0_wipe_22 : decode cX0_wipe 22 = .ok (.iconst 0, 1) := dk_3 (dk_at dksX0_wipe_0 22 rfl rfl)
theorem dX0_wipe_23 : decode cX0_wipe 23 = .ok (.iastore, 1) := dk_79 (dk_at dksX0_wipe_0 23 rfl rfl)
theorem dX0_wipe_24 : decode cX0_wipe 24 = .ok (.aload_n 0, 1) := dk_42 (dk_at dksX0_wipe_1 0 rfl rfl)
theorem dX0_wipe_25 : decode cX0_wipe 25 = .ok (.iconst 0, 1) := dk_3 (dk_at dksX0_wipe_1 1 rfl rfl)
theorem dX0_wipe_26 : decode cX0_wipe 26 = .ok (.putfield 21, 3) := dk_181 0 21 (dk_at dksX0_wipe_1 2 rfl rfl)
theorem dX0_wipe_29 : decode cX0_wipe 29 = .ok (.iload_n 2, 1) := dk_28 (dk_at dksX0_wipe_1 5 rfl rfl)
theorem dX0_wipe_30 : decode cX0_wipe 30 = .ok (.ireturn, 1) := dk_172 (dk_at dksX0_wipe_1 6 rfl rfl)
abbrev cX0_undo : ByteArray := prog_1_method_13_code
def yX0_undo : MethodName := ⟨RX0, "undo", "(I)I"⟩
def dkwX0_undo_1 : List UInt8 := [180, 0, 13, 27, 92, 46, 4, 100, 79, 42, 3, 181, 0, 21, 42, 180, 0, 13, 27, 46, 172]
abbrev dktX0_undo_1 : List UInt8 := dkwX0_undo_1 ++ []
def dkwX0_undo_0 : List UInt8 := [27, 184, 0, 9, 154, 0, 6, 16, 254, 172, 42, 180, 0, 13, 27, 46, 154, 0, 6, 16, 253, 172, 42]
abbrev dktX0_undo_0 : List UInt8 := dkwX0_undo_0 ++ dktX0_undo_1
theorem dksX0_undo_0 : cX0_undo.data.toList.drop 0 = dktX0_undo_0 := by decide +kernel
theorem dksX0_undo_1 : cX0_undo.data.toList.drop 23 = dktX0_undo_1 := dk_seg dksX0_undo_0 23 rfl rfl
theorem dX0_undo_0 : decode cX0_undo 0 = .ok (.iload_n 1, 1) := dk_27 (dk_at dksX0_undo_0 0 rfl rfl)
theorem dX0_undo_1 : decode cX0_undo 1 = .ok (.invokestatic 9, 3) := dk_184 0 9 (dk_at dksX0_undo_0 1 rfl rfl)
theorem dX0_undo_4 : decode cX0_undo 4 = .ok (.ifCond .ne 6, 3) := dk_154 0 6 (dk_at dksX0_undo_0 4 rfl rfl)
theorem dX0_undo_7 : decode cX0_undo 7 = .ok (.bipush (-2), 2) := dk_16 254 (dk_at dksX0_undo_0 7 rfl rfl)
theorem dX0_undo_9 : decode cX0_undo 9 = .ok (.ireturn, 1) := dk_172 (dk_at dksX0_undo_0 9 rfl rfl)
theorem dX0_undo_10 : decode cX0_undo 10 = .ok (.aload_n 0, 1) := dk_42 (dk_at dksX0_undo_0 10 rfl rfl)
theorem dX0_undo_11 : decode cX0_undo 11 = .ok (.getfield 13, 3) := dk_180 0 13 (dk_at dksX0_undo_0 11 rfl rfl)
theorem dX0_undo_14 : decode cX0_undo 14 = .ok (.iload_n 1, 1) := dk_27 (dk_at dksX0_undo_0 14 rfl rfl)
theorem dX0_undo_15 : decode cX0_undo 15 = .ok (.iaload, 1) := dk_46 (dk_at dksX0_undo_0 15 rfl rfl)
theorem dX0_undo_16 : decode cX0_undo 16 = .ok (.ifCond .ne 6, 3) := dk_154 0 6 (dk_at dksX0_undo_0 16 rfl rfl)
theorem dX0_undo_19 : decode cX0_undo 19 = .ok (.bipush (-3), 2) := dk_16 253 (dk_at dksX0_undo_0 19 rfl rfl)
theorem dX0_undo_21 : decode cX0_undo 21 = .ok (.ireturn, 1) := dk_172 (dk_at dksX0_undo_0 21 rfl rfl)
theorem dX0_undo_22 : decode cX0_undo 22 = .ok (.aload_n 0, 1) := dk_42 (dk_at dksX0_undo_0 22 rfl rfl)
theorem dX0_undo_23 : decode cX0_undo 23 = .ok (.getfield 13, 3) := dk_180 0 13 (dk_at dksX0_undo_1 0 rfl rfl)
theorem dX0_undo_26 : decode cX0_undo 26 = .ok (.iload_n 1, 1) := dk_27 (dk_at dksX0_undo_1 3 rfl rfl)
theorem dX0_undo_27 : decode cX0_undo 27 = .ok (.dup2, 1) := dk_92 (dk_at dksX0_undo_1 4 rfl rfl)
theorem dX0_undo_28 : decode cX0_undo 28 = .ok (.iaload, 1) := dk_46 (dk_at dksX0_undo_1 5 rfl rfl)
theorem dX0_undo_29 : decode cX0_undo 29 = .ok (.iconst 1, 1) := dk_4 (dk_at dksX0_undo_1 6 rfl rfl)
theorem dX0_undo_30 : decode cX0_undo 30 = .ok (.isub, 1) := dk_100 (dk_at dksX0_undo_1 7 rfl rfl)
theorem dX0_undo_31 : decode cX0_undo 31 = .ok (.iastore, 1) := dk_79 (dk_at dksX0_undo_1 8 rfl rfl)
theorem dX0_undo_32 : decode cX0_undo 32 = .ok (.aload_n 0, 1) := dk_42 (dk_at dksX0_undo_1 9 rfl rfl)
theorem dX0_undo_33 : decode cX0_undo 33 = .ok (.iconst 0, 1) := dk_3 (dk_at dksX0_undo_1 10 rfl rfl)
theorem dX0_undo_34 : decode cX0_undo 34 = .ok (.putfield 21, 3) := dk_181 0 21 (dk_at dksX0_undo_1 11 rfl rfl)
theorem dX0_undo_37 : decode cX0_undo 37 = .ok (.aload_n 0, 1) := dk_42 (dk_at dksX0_undo_1 14 rfl rfl)
theorem dX0_undo_38 : decode cX0_undo 38 = .ok (.getfield 13, 3) := dk_180 0 13 (dk_at dksX0_undo_1 15 rfl rfl)
theorem dX0_undo_41 : decode cX0_undo 41 = .ok (.iload_n 1, 1) := dk_27 (dk_at dksX0_undo_1 18 rfl rfl)
theorem dX0_undo_42 : decode cX0_undo 42 = .ok (.iaload, 1) := dk_46 (dk_at dksX0_undo_1 19 rfl rfl)
theorem dX0_undo_43 : decode cX0_undo 43 = .ok (.ireturn, 1) := dk_172 (dk_at dksX0_undo_1 20 rfl rfl)
abbrev cX0_fault : ByteArray := prog_1_method_25_code
def yX0_fault : MethodName := ⟨RX0, "fault", "(I)I"⟩
def dkwX0_fault_0 : List UInt8 := [27, 184, 0, 9, 153, 0, 11, 42, 27, 182, 0, 111, 167, 0, 5, 16, 254, 172]
abbrev dktX0_fault_0 : List UInt8 := dkwX0_fault_0 ++ []
theorem dksX0_fault_0 : cX0_fault.data.toList.drop 0 = dktX0_fault_0 := by decide +kernel
theorem dX0_fault_0 : decode cX0_fault 0 = .ok (.iload_n 1, 1) := dk_27 (dk_at dksX0_fault_0 0 rfl rfl)
theorem dX0_fault_1 : decode cX0_fault 1 = .ok (.invokestatic 9, 3) := dk_184 0 9 (dk_at dksX0_fault_0 1 rfl rfl)
theorem dX0_fault_4 : decode cX0_fault 4 = .ok (.ifCond .eq 11, 3) := dk_153 0 11 (dk_at dksX0_fault_0 4 rfl rfl)
theorem dX0_fault_7 : decode cX0_fault 7 = .ok (.aload_n 0, 1) := dk_42 (dk_at dksX0_fault_0 7 rfl rfl)
theorem dX0_fault_8 : decode cX0_fault 8 = .ok (.iload_n 1, 1) := dk_27 (dk_at dksX0_fault_0 8 rfl rfl)
theorem dX0_fault_9 : decode cX0_fault 9 = .ok (.invokevirtual 111, 3) := dk_182 0 111 (dk_at dksX0_fault_0 9 rfl rfl)
theorem dX0_fault_12 : decode cX0_fault 12 = .ok (.goto 5, 3) := dk_167 0 5 (dk_at dksX0_fault_0 12 rfl rfl)
theorem dX0_fault_15 : decode cX0_fault 15 = .ok (.bipush (-2), 2) := dk_16 254 (dk_at dksX0_fault_0 15 rfl rfl)
theorem dX0_fault_17 : decode cX0_fault 17 = .ok (.ireturn, 1) := dk_172 (dk_at dksX0_fault_0 17 rfl rfl)
abbrev cX0_faultOf : ByteArray := prog_1_method_24_code
def yX0_faultOf : MethodName := ⟨RX0, "faultOf", "(I)I"⟩
def dkwX0_faultOf_0 : List UInt8 := [42, 182, 0, 107, 42, 180, 0, 101, 27, 46, 172]
abbrev dktX0_faultOf_0 : List UInt8 := dkwX0_faultOf_0 ++ []
theorem dksX0_faultOf_0 : cX0_faultOf.data.toList.drop 0 = dktX0_faultOf_0 := by decide +kernel
theorem dX0_faultOf_0 : decode cX0_faultOf 0 = .ok (.aload_n 0, 1) := dk_42 (dk_at dksX0_faultOf_0 0 rfl rfl)
theorem dX0_faultOf_1 : decode cX0_faultOf 1 = .ok (.invokevirtual 107, 3) := dk_182 0 107 (dk_at dksX0_faultOf_0 1 rfl rfl)
theorem dX0_faultOf_4 : decode cX0_faultOf 4 = .ok (.aload_n 0, 1) := dk_42 (dk_at dksX0_faultOf_0 4 rfl rfl)
theorem dX0_faultOf_5 : decode cX0_faultOf 5 = .ok (.getfield 101, 3) := dk_180 0 101 (dk_at dksX0_faultOf_0 5 rfl rfl)
theorem dX0_faultOf_8 : decode cX0_faultOf 8 = .ok (.iload_n 1, 1) := dk_27 (dk_at dksX0_faultOf_0 8 rfl rfl)
theorem dX0_faultOf_9 : decode cX0_faultOf 9 = .ok (.iaload, 1) := dk_46 (dk_at dksX0_faultOf_0 9 rfl rfl)
theorem dX0_faultOf_10 : decode cX0_faultOf 10 = .ok (.ireturn, 1) := dk_172 (dk_at dksX0_faultOf_0 10 rfl rfl)
abbrev cX0_reads : ByteArray := prog_1_method_23_code
def yX0_reads : MethodName := ⟨RX0, "reads", "()V"⟩
def dkwX0_reads_1 : List UInt8 := [180, 0, 101, 3, 42, 3, 182, 0, 104, 79, 42, 180, 0, 101, 4, 42, 4, 182, 0, 104, 79, 177]
abbrev dktX0_reads_1 : List UInt8 := dkwX0_reads_1 ++ []
def dkwX0_reads_0 : List UInt8 := [42, 180, 0, 21, 154, 0, 40, 42, 4, 181, 0, 21, 42, 3, 181, 0, 95, 42, 3, 181, 0, 98, 42]
abbrev dktX0_reads_0 : List UInt8 := dkwX0_reads_0 ++ dktX0_reads_1
theorem dksX0_reads_0 : cX0_reads.data.toList.drop 0 = dktX0_reads_0 := by decide +kernel
theorem dksX0_reads_1 : cX0_reads.data.toList.drop 23 = dktX0_reads_1 := dk_seg dksX0_reads_0 23 rfl rfl
theorem dX0_reads_0 : decode cX0_reads 0 = .ok (.aload_n 0, 1) := dk_42 (dk_at dksX0_reads_0 0 rfl rfl)
theorem dX0_reads_1 : decode cX0_reads 1 = .ok (.getfield 21, 3) := dk_180 0 21 (dk_at dksX0_reads_0 1 rfl rfl)
theorem dX0_reads_4 : decode cX0_reads 4 = .ok (.ifCond .ne 40, 3) := dk_154 0 40 (dk_at dksX0_reads_0 4 rfl rfl)
theorem dX0_reads_7 : decode cX0_reads 7 = .ok (.aload_n 0, 1) := dk_42 (dk_at dksX0_reads_0 7 rfl rfl)
theorem dX0_reads_8 : decode cX0_reads 8 = .ok (.iconst 1, 1) := dk_4 (dk_at dksX0_reads_0 8 rfl rfl)
theorem dX0_reads_9 : decode cX0_reads 9 = .ok (.putfield 21, 3) := dk_181 0 21 (dk_at dksX0_reads_0 9 rfl rfl)
theorem dX0_reads_12 : decode cX0_reads 12 = .ok (.aload_n 0, 1) := dk_42 (dk_at dksX0_reads_0 12 rfl rfl)
theorem dX0_reads_13 : decode cX0_reads 13 = .ok (.iconst 0, 1) := dk_3 (dk_at dksX0_reads_0 13 rfl rfl)
theorem dX0_reads_14 : decode cX0_reads 14 = .ok (.putfield 95, 3) := dk_181 0 95 (dk_at dksX0_reads_0 14 rfl rfl)
theorem dX0_reads_17 : decode cX0_reads 17 = .ok (.aload_n 0, 1) := dk_42 (dk_at dksX0_reads_0 17 rfl rfl)
theorem dX0_reads_18 : decode cX0_reads 18 = .ok (.iconst 0, 1) := dk_3 (dk_at dksX0_reads_0 18 rfl rfl)
theorem dX0_reads_19 : decode cX0_reads 19 = .ok (.putfield 98, 3) := dk_181 0 98 (dk_at dksX0_reads_0 19 rfl rfl)
theorem dX0_reads_22 : decode cX0_reads 22 = .ok (.aload_n 0, 1) := dk_42 (dk_at dksX0_reads_0 22 rfl rfl)
theorem dX0_reads_23 : decode cX0_reads 23 = .ok (.getfield 101, 3) := dk_180 0 101 (dk_at dksX0_reads_1 0 rfl rfl)
theorem dX0_reads_26 : decode cX0_reads 26 = .ok (.iconst 0, 1) := dk_3 (dk_at dksX0_reads_1 3 rfl rfl)
theorem dX0_reads_27 : decode cX0_reads 27 = .ok (.aload_n 0, 1) := dk_42 (dk_at dksX0_reads_1 4 rfl rfl)
theorem dX0_reads_28 : decode cX0_reads 28 = .ok (.iconst 0, 1) := dk_3 (dk_at dksX0_reads_1 5 rfl rfl)
theorem dX0_reads_29 : decode cX0_reads 29 = .ok (.invokevirtual 104, 3) := dk_182 0 104 (dk_at dksX0_reads_1 6 rfl rfl)
theorem dX0_reads_32 : decode cX0_reads 32 = .ok (.iastore, 1) := dk_79 (dk_at dksX0_reads_1 9 rfl rfl)
theorem dX0_reads_33 : decode cX0_reads 33 = .ok (.aload_n 0, 1) := dk_42 (dk_at dksX0_reads_1 10 rfl rfl)
theorem dX0_reads_34 : decode cX0_reads 34 = .ok (.getfield 101, 3) := dk_180 0 101 (dk_at dksX0_reads_1 11 rfl rfl)
theorem dX0_reads_37 : decode cX0_reads 37 = .ok (.iconst 1, 1) := dk_4 (dk_at dksX0_reads_1 14 rfl rfl)
theorem dX0_reads_38 : decode cX0_reads 38 = .ok (.aload_n 0, 1) := dk_42 (dk_at dksX0_reads_1 15 rfl rfl)
theorem dX0_reads_39 : decode cX0_reads 39 = .ok (.iconst 1, 1) := dk_4 (dk_at dksX0_reads_1 16 rfl rfl)
theorem dX0_reads_40 : decode cX0_reads 40 = .ok (.invokevirtual 104, 3) := dk_182 0 104 (dk_at dksX0_reads_1 17 rfl rfl)
theorem dX0_reads_43 : decode cX0_reads 43 = .ok (.iastore, 1) := dk_79 (dk_at dksX0_reads_1 20 rfl rfl)
theorem dX0_reads_44 : decode cX0_reads 44 = .ok (.return_, 1) := dk_177 (dk_at dksX0_reads_1 21 rfl rfl)
abbrev cX0_readsParts : ByteArray := prog_1_method_22_code
def yX0_readsParts : MethodName := ⟨RX0, "readsParts", "(I)I"⟩
def dkwX0_readsParts_7 : List UInt8 := [167, 0, 7, 42, 180, 0, 98, 181, 0, 98, 2, 172]
abbrev dktX0_readsParts_7 : List UInt8 := dkwX0_readsParts_7 ++ []
def dkwX0_readsParts_6 : List UInt8 := [42, 27, 154, 0, 7, 29, 167, 0, 7, 42, 180, 0, 95, 181, 0, 95, 42, 27, 4, 160, 0, 7, 29]
abbrev dktX0_readsParts_6 : List UInt8 := dkwX0_readsParts_6 ++ dktX0_readsParts_7
def dkwX0_readsParts_5 : List UInt8 := [159, 0, 6, 21, 4, 172, 21, 4, 21, 5, 153, 0, 7, 4, 167, 0, 4, 3, 96, 54, 4, 167, 255, 152]
abbrev dktX0_readsParts_5 : List UInt8 := dkwX0_readsParts_5 ++ dktX0_readsParts_6
def dkwX0_readsParts_4 : List UInt8 := [4, 167, 0, 4, 3, 54, 5, 21, 5, 153, 0, 20, 42, 180, 0, 17, 27, 50, 21, 4, 46, 16, 59]
abbrev dktX0_readsParts_4 : List UInt8 := dkwX0_readsParts_4 ++ dktX0_readsParts_5
def dkwX0_readsParts_3 : List UInt8 := [21, 6, 96, 172, 132, 3, 1, 21, 4, 28, 96, 54, 4, 21, 4, 42, 180, 0, 13, 27, 46, 162, 0, 7]
abbrev dktX0_readsParts_3 : List UInt8 := dkwX0_readsParts_3 ++ dktX0_readsParts_4
def dkwX0_readsParts_2 : List UInt8 := [182, 0, 89, 167, 0, 10, 42, 29, 21, 4, 182, 0, 92, 54, 6, 21, 6, 28, 162, 0, 9, 21, 4]
abbrev dktX0_readsParts_2 : List UInt8 := dkwX0_readsParts_2 ++ dktX0_readsParts_3
def dkwX0_readsParts_1 : List UInt8 := [158, 0, 7, 4, 167, 0, 4, 3, 54, 5, 21, 5, 153, 0, 105, 27, 154, 0, 13, 42, 29, 21, 4]
abbrev dktX0_readsParts_1 : List UInt8 := dkwX0_readsParts_1 ++ dktX0_readsParts_2
def dkwX0_readsParts_0 : List UInt8 := [27, 154, 0, 7, 7, 167, 0, 5, 16, 6, 61, 3, 62, 3, 54, 4, 42, 180, 0, 13, 27, 46]
abbrev dktX0_readsParts_0 : List UInt8 := dkwX0_readsParts_0 ++ dktX0_readsParts_1
theorem dksX0_readsParts_0 : cX0_readsParts.data.toList.drop 0 = dktX0_readsParts_0 := by decide +kernel
theorem dksX0_readsParts_1 : cX0_readsParts.data.toList.drop 22 = dktX0_readsParts_1 := dk_seg dksX0_readsParts_0 22 rfl rfl
theorem dksX0_readsParts_2 : cX0_readsParts.data.toList.drop 45 = dktX0_readsParts_2 := dk_seg dksX0_readsParts_1 23 rfl rfl
theorem dksX0_readsParts_3 : cX0_readsParts.data.toList.drop 68 = dktX0_readsParts_3 := dk_seg dksX0_readsParts_2 23 rfl rfl
theorem dksX0_readsParts_4 : cX0_readsParts.data.toList.drop 92 = dktX0_readsParts_4 := dk_seg dksX0_readsParts_3 24 rfl rfl
theorem dksX0_readsParts_5 : cX0_readsParts.data.toList.drop 115 = dktX0_readsParts_5 := dk_seg dksX0_readsParts_4 23 rfl rfl
theorem dksX0_readsParts_6 : cX0_readsParts.data.toList.drop 139 = dktX0_readsParts_6 := dk_seg dksX0_readsParts_5 24 rfl rfl
theorem dksX0_readsParts_7 : cX0_readsParts.data.toList.drop 162 = dktX0_readsParts_7 := dk_seg dksX0_readsParts_6 23 rfl rfl
theorem dX0_readsParts_0 : decode cX0_readsParts 0 = .ok (.iload_n 1, 1) := dk_27 (dk_at dksX0_readsParts_0 0 rfl rfl)
theorem dX0_readsParts_1 : decode cX0_readsParts 1 = .ok (.ifCond .ne 7, 3) := dk_154 0 7 (dk_at dksX0_readsParts_0 1 rfl rfl)
theorem dX0_readsParts_4 : decode cX0_readsParts 4 = .ok (.iconst 4, 1) := dk_7 (dk_at dksX0_readsParts_0 4 rfl rfl)
theorem dX0_readsParts_5 : decode cX0_readsParts 5 = .ok (.goto 5, 3) := dk_167 0 5 (dk_at dksX0_readsParts_0 5 rfl rfl)
theorem dX0_readsParts_8 : decode cX0_readsParts 8 = .ok (.bipush 6, 2) := dk_16 6 (dk_at dksX0_readsParts_0 8 rfl rfl)
theorem dX0_readsParts_10 : decode cX0_readsParts 10 = .ok (.istore_n 2, 1) := dk_61 (dk_at dksX0_readsParts_0 10 rfl rfl)
theorem dX0_readsParts_11 : decode cX0_readsParts 11 = .ok (.iconst 0, 1) := dk_3 (dk_at dksX0_readsParts_0 11 rfl rfl)
theorem dX0_readsParts_12 : decode cX0_readsParts 12 = .ok (.istore_n 3, 1) := dk_62 (dk_at dksX0_readsParts_0 12 rfl rfl)
theorem dX0_readsParts_13 : decode cX0_readsParts 13 = .ok (.iconst 0, 1) := dk_3 (dk_at dksX0_readsParts_0 13 rfl rfl)
theorem dX0_readsParts_14 : decode cX0_readsParts 14 = .ok (.istore 4, 2) := dk_54 4 (dk_at dksX0_readsParts_0 14 rfl rfl)
theorem dX0_readsParts_16 : decode cX0_readsParts 16 = .ok (.aload_n 0, 1) := dk_42 (dk_at dksX0_readsParts_0 16 rfl rfl)
theorem dX0_readsParts_17 : decode cX0_readsParts 17 = .ok (.getfield 13, 3) := dk_180 0 13 (dk_at dksX0_readsParts_0 17 rfl rfl)
theorem dX0_readsParts_20 : decode cX0_readsParts 20 = .ok (.iload_n 1, 1) := dk_27 (dk_at dksX0_readsParts_0 20 rfl rfl)
theorem dX0_readsParts_21 : decode cX0_readsParts 21 = .ok (.iaload, 1) := dk_46 (dk_at dksX0_readsParts_0 21 rfl rfl)
theorem dX0_readsParts_22 : decode cX0_readsParts 22 = .ok (.ifCond .le 7, 3) := dk_158 0 7 (dk_at dksX0_readsParts_1 0 rfl rfl)
theorem dX0_readsParts_25 : decode cX0_readsParts 25 = .ok (.iconst 1, 1) := dk_4 (dk_at dksX0_readsParts_1 3 rfl rfl)
theorem dX0_readsParts_26 : decode cX0_readsParts 26 = .ok (.goto 4, 3) := dk_167 0 4 (dk_at dksX0_readsParts_1 4 rfl rfl)
theorem dX0_readsParts_29 : decode cX0_readsParts 29 = .ok (.iconst 0, 1) := dk_3 (dk_at dksX0_readsParts_1 7 rfl rfl)
theorem dX0_readsParts_30 : decode cX0_readsParts 30 = .ok (.istore 5, 2) := dk_54 5 (dk_at dksX0_readsParts_1 8 rfl rfl)
theorem dX0_readsParts_32 : decode cX0_readsParts 32 = .ok (.iload 5, 2) := dk_21 5 (dk_at dksX0_readsParts_1 10 rfl rfl)
theorem dX0_readsParts_34 : decode cX0_readsParts 34 = .ok (.ifCond .eq 105, 3) := dk_153 0 105 (dk_at dksX0_readsParts_1 12 rfl rfl)
theorem dX0_readsParts_37 : decode cX0_readsParts 37 = .ok (.iload_n 1, 1) := dk_27 (dk_at dksX0_readsParts_1 15 rfl rfl)
theorem dX0_readsParts_38 : decode cX0_readsParts 38 = .ok (.ifCond .ne 13, 3) := dk_154 0 13 (dk_at dksX0_readsParts_1 16 rfl rfl)
theorem dX0_readsParts_41 : decode cX0_readsParts 41 = .ok (.aload_n 0, 1) := dk_42 (dk_at dksX0_readsParts_1 19 rfl rfl)
theorem dX0_readsParts_42 : decode cX0_readsParts 42 = .ok (.iload_n 3, 1) := dk_29 (dk_at dksX0_readsParts_1 20 rfl rfl)
theorem dX0_readsParts_43 : decode cX0_readsParts 43 = .ok (.iload 4, 2) := dk_21 4 (dk_at dksX0_readsParts_1 21 rfl rfl)
theorem dX0_readsParts_45 : decode cX0_readsParts 45 = .ok (.invokevirtual 89, 3) := dk_182 0 89 (dk_at dksX0_readsParts_2 0 rfl rfl)
theorem dX0_readsParts_48 : decode cX0_readsParts 48 = .ok (.goto 10, 3) := dk_167 0 10 (dk_at dksX0_readsParts_2 3 rfl rfl)
theorem dX0_readsParts_51 : decode cX0_readsParts 51 = .ok (.aload_n 0, 1) := dk_42 (dk_at dksX0_readsParts_2 6 rfl rfl)
theorem dX0_readsParts_52 : decode cX0_readsParts 52 = .ok (.iload_n 3, 1) := dk_29 (dk_at dksX0_readsParts_2 7 rfl rfl)
theorem dX0_readsParts_53 : decode cX0_readsParts 53 = .ok (.iload 4, 2) := dk_21 4 (dk_at dksX0_readsParts_2 8 rfl rfl)
theorem dX0_readsParts_55 : decode cX0_readsParts 55 = .ok (.invokevirtual 92, 3) := dk_182 0 92 (dk_at dksX0_readsParts_2 10 rfl rfl)
theorem dX0_readsParts_58 : decode cX0_readsParts 58 = .ok (.istore 6, 2) := dk_54 6 (dk_at dksX0_readsParts_2 13 rfl rfl)
theorem dX0_readsParts_60 : decode cX0_readsParts 60 = .ok (.iload 6, 2) := dk_21 6 (dk_at dksX0_readsParts_2 15 rfl rfl)
theorem dX0_readsParts_62 : decode cX0_readsParts 62 = .ok (.iload_n 2, 1) := dk_28 (dk_at dksX0_readsParts_2 17 rfl rfl)
theorem dX0_readsParts_63 : decode cX0_readsParts 63 = .ok (.if_icmp .ge 9, 3) := dk_162 0 9 (dk_at dksX0_readsParts_2 18 rfl rfl)
theorem dX0_readsParts_66 : decode cX0_readsParts 66 = .ok (.iload 4, 2) := dk_21 4 (dk_at dksX0_readsParts_2 21 rfl rfl)
theorem dX0_readsParts_68 : decode cX0_readsParts 68 = .ok (.iload 6, 2) := dk_21 6 (dk_at dksX0_readsParts_3 0 rfl rfl)
theorem dX0_readsParts_70 : decode cX0_readsParts 70 = .ok (.iadd, 1) := dk_96 (dk_at dksX0_readsParts_3 2 rfl rfl)
theorem dX0_readsParts_71 : decode cX0_readsParts 71 = .ok (.ireturn, 1) := dk_172 (dk_at dksX0_readsParts_3 3 rfl rfl)
theorem dX0_readsParts_72 : decode cX0_readsParts 72 = .ok (.iinc 3 1, 3) := dk_132 3 1 (dk_at dksX0_readsParts_3 4 rfl rfl)
theorem dX0_readsParts_75 : decode cX0_readsParts 75 = .ok (.iload 4, 2) := dk_21 4 (dk_at dksX0_readsParts_3 7 rfl rfl)
theorem dX0_readsParts_77 : decode cX0_readsParts 77 = .ok (.iload_n 2, 1) := dk_28 (dk_at dksX0_readsParts_3 9 rfl rfl)
theorem dX0_readsParts_78 : decode cX0_readsParts 78 = .ok (.iadd, 1) := dk_96 (dk_at dksX0_readsParts_3 10 rfl rfl)
theorem dX0_readsParts_79 : decode cX0_readsParts 79 = .ok (.istore 4, 2) := dk_54 4 (dk_at dksX0_readsParts_3 11 rfl rfl)
theorem dX0_readsParts_81 : decode cX0_readsParts 81 = .ok (.iload 4, 2) := dk_21 4 (dk_at dksX0_readsParts_3 13 rfl rfl)
theorem dX0_readsParts_83 : decode cX0_readsParts 83 = .ok (.aload_n 0, 1) := dk_42 (dk_at dksX0_readsParts_3 15 rfl rfl)
theorem dX0_readsParts_84 : decode cX0_readsParts 84 = .ok (.getfield 13, 3) := dk_180 0 13 (dk_at dksX0_readsParts_3 16 rfl rfl)
theorem dX0_readsParts_87 : decode cX0_readsParts 87 = .ok (.iload_n 1, 1) := dk_27 (dk_at dksX0_readsParts_3 19 rfl rfl)
theorem dX0_readsParts_88 : decode cX0_readsParts 88 = .ok (.iaload, 1) := dk_46 (dk_at dksX0_readsParts_3 20 rfl rfl)
theorem dX0_readsParts_89 : decode cX0_readsParts 89 = .ok (.if_icmp .ge 7, 3) := dk_162 0 7 (dk_at dksX0_readsParts_3 21 rfl rfl)
theorem dX0_readsParts_92 : decode cX0_readsParts 92 = .ok (.iconst 1, 1) := dk_4 (dk_at dksX0_readsParts_4 0 rfl rfl)
theorem dX0_readsParts_93 : decode cX0_readsParts 93 = .ok (.goto 4, 3) := dk_167 0 4 (dk_at dksX0_readsParts_4 1 rfl rfl)
theorem dX0_readsParts_96 : decode cX0_readsParts 96 = .ok (.iconst 0, 1) := dk_3 (dk_at dksX0_readsParts_4 4 rfl rfl)
theorem dX0_readsParts_97 : decode cX0_readsParts 97 = .ok (.istore 5, 2) := dk_54 5 (dk_at dksX0_readsParts_4 5 rfl rfl)
theorem dX0_readsParts_99 : decode cX0_readsParts 99 = .ok (.iload 5, 2) := dk_21 5 (dk_at dksX0_readsParts_4 7 rfl rfl)
theorem dX0_readsParts_101 : decode cX0_readsParts 101 = .ok (.ifCond .eq 20, 3) := dk_153 0 20 (dk_at dksX0_readsParts_4 9 rfl rfl)
theorem dX0_readsParts_104 : decode cX0_readsParts 104 = .ok (.aload_n 0, 1) := dk_42 (dk_at dksX0_readsParts_4 12 rfl rfl)
theorem dX0_readsParts_105 : decode cX0_readsParts 105 = .ok (.getfield 17, 3) := dk_180 0 17 (dk_at dksX0_readsParts_4 13 rfl rfl)
theorem dX0_readsParts_108 : decode cX0_readsParts 108 = .ok (.iload_n 1, 1) := dk_27 (dk_at dksX0_readsParts_4 16 rfl rfl)
theorem dX0_readsParts_109 : decode cX0_readsParts 109 = .ok (.aaload, 1) := dk_50 (dk_at dksX0_readsParts_4 17 rfl rfl)
theorem dX0_readsParts_110 : decode cX0_readsParts 110 = .ok (.iload 4, 2) := dk_21 4 (dk_at dksX0_readsParts_4 18 rfl rfl)
theorem dX0_readsParts_112 : decode cX0_readsParts 112 = .ok (.iaload, 1) := dk_46 (dk_at dksX0_readsParts_4 20 rfl rfl)
theorem dX0_readsParts_113 : decode cX0_readsParts 113 = .ok (.bipush 59, 2) := dk_16 59 (dk_at dksX0_readsParts_4 21 rfl rfl)
theorem dX0_readsParts_115 : decode cX0_readsParts 115 = .ok (.if_icmp .eq 6, 3) := dk_159 0 6 (dk_at dksX0_readsParts_5 0 rfl rfl)
theorem dX0_readsParts_118 : decode cX0_readsParts 118 = .ok (.iload 4, 2) := dk_21 4 (dk_at dksX0_readsParts_5 3 rfl rfl)
theorem dX0_readsParts_120 : decode cX0_readsParts 120 = .ok (.ireturn, 1) := dk_172 (dk_at dksX0_readsParts_5 5 rfl rfl)
theorem dX0_readsParts_121 : decode cX0_readsParts 121 = .ok (.iload 4, 2) := dk_21 4 (dk_at dksX0_readsParts_5 6 rfl rfl)
theorem dX0_readsParts_123 : decode cX0_readsParts 123 = .ok (.iload 5, 2) := dk_21 5 (dk_at dksX0_readsParts_5 8 rfl rfl)
theorem dX0_readsParts_125 : decode cX0_readsParts 125 = .ok (.ifCond .eq 7, 3) := dk_153 0 7 (dk_at dksX0_readsParts_5 10 rfl rfl)
theorem dX0_readsParts_128 : decode cX0_readsParts 128 = .ok (.iconst 1, 1) := dk_4 (dk_at dksX0_readsParts_5 13 rfl rfl)
theorem dX0_readsParts_129 : decode cX0_readsParts 129 = .ok (.goto 4, 3) := dk_167 0 4 (dk_at dksX0_readsParts_5 14 rfl rfl)
theorem dX0_readsParts_132 : decode cX0_readsParts 132 = .ok (.iconst 0, 1) := dk_3 (dk_at dksX0_readsParts_5 17 rfl rfl)
theorem dX0_readsParts_133 : decode cX0_readsParts 133 = .ok (.iadd, 1) := dk_96 (dk_at dksX0_readsParts_5 18 rfl rfl)
theorem dX0_readsParts_134 : decode cX0_readsParts 134 = .ok (.istore 4, 2) := dk_54 4 (dk_at dksX0_readsParts_5 19 rfl rfl)
theorem dX0_readsParts_136 : decode cX0_readsParts 136 = .ok (.goto (-104), 3) := dk_167 255 152 (dk_at dksX0_readsParts_5 21 rfl rfl)
theorem dX0_readsParts_139 : decode cX0_readsParts 139 = .ok (.aload_n 0, 1) := dk_42 (dk_at dksX0_readsParts_6 0 rfl rfl)
theorem dX0_readsParts_140 : decode cX0_readsParts 140 = .ok (.iload_n 1, 1) := dk_27 (dk_at dksX0_readsParts_6 1 rfl rfl)
theorem dX0_readsParts_141 : decode cX0_readsParts 141 = .ok (.ifCond .ne 7, 3) := dk_154 0 7 (dk_at dksX0_readsParts_6 2 rfl rfl)
theorem dX0_readsParts_144 : decode cX0_readsParts 144 = .ok (.iload_n 3, 1) := dk_29 (dk_at dksX0_readsParts_6 5 rfl rfl)
theorem dX0_readsParts_145 : decode cX0_readsParts 145 = .ok (.goto 7, 3) := dk_167 0 7 (dk_at dksX0_readsParts_6 6 rfl rfl)
theorem dX0_readsParts_148 : decode cX0_readsParts 148 = .ok (.aload_n 0, 1) := dk_42 (dk_at dksX0_readsParts_6 9 rfl rfl)
theorem dX0_readsParts_149 : decode cX0_readsParts 149 = .ok (.getfield 95, 3) := dk_180 0 95 (dk_at dksX0_readsParts_6 10 rfl rfl)
theorem dX0_readsParts_152 : decode cX0_readsParts 152 = .ok (.putfield 95, 3) := dk_181 0 95 (dk_at dksX0_readsParts_6 13 rfl rfl)
theorem dX0_readsParts_155 : decode cX0_readsParts 155 = .ok (.aload_n 0, 1) := dk_42 (dk_at dksX0_readsParts_6 16 rfl rfl)
theorem dX0_readsParts_156 : decode cX0_readsParts 156 = .ok (.iload_n 1, 1) := dk_27 (dk_at dksX0_readsParts_6 17 rfl rfl)
theorem dX0_readsParts_157 : decode cX0_readsParts 157 = .ok (.iconst 1, 1) := dk_4 (dk_at dksX0_readsParts_6 18 rfl rfl)
theorem dX0_readsParts_158 : decode cX0_readsParts 158 = .ok (.if_icmp .ne 7, 3) := dk_160 0 7 (dk_at dksX0_readsParts_6 19 rfl rfl)
theorem dX0_readsParts_161 : decode cX0_readsParts 161 = .ok (.iload_n 3, 1) := dk_29 (dk_at dksX0_readsParts_6 22 rfl rfl)
theorem dX0_readsParts_162 : decode cX0_readsParts 162 = .ok (.goto 7, 3) := dk_167 0 7 (dk_at dksX0_readsParts_7 0 rfl rfl)
theorem dX0_readsParts_165 : decode cX0_readsParts 165 = .ok (.aload_n 0, 1) := dk_42 (dk_at dksX0_readsParts_7 3 rfl rfl)
theorem dX0_readsParts_166 : decode cX0_readsParts 166 = .ok (.getfield 98, 3) := dk_180 0 98 (dk_at dksX0_readsParts_7 4 rfl rfl)
theorem dX0_readsParts_169 : decode cX0_readsParts 169 = .ok (.putfield 98, 3) := dk_181 0 98 (dk_at dksX0_readsParts_7 7 rfl rfl)
theorem dX0_readsParts_172 : decode cX0_readsParts 172 = .ok (.iconst (-1), 1) := dk_2 (dk_at dksX0_readsParts_7 10 rfl rfl)
theorem dX0_readsParts_173 : decode cX0_readsParts 173 = .ok (.ireturn, 1) := dk_172 (dk_at dksX0_readsParts_7 11 rfl rfl)
abbrev cX0_readsWay : ByteArray := prog_1_method_19_code
def yX0_readsWay : MethodName := ⟨RX0, "readsWay", "(II)I"⟩
def dkwX0_readsWay_5 : List UInt8 := [180, 0, 49, 27, 21, 5, 79, 42, 180, 0, 52, 27, 21, 6, 79, 21, 7, 172]
abbrev dktX0_readsWay_5 : List UInt8 := dkwX0_readsWay_5 ++ []
def dkwX0_readsWay_4 : List UInt8 := [54, 7, 21, 7, 7, 160, 0, 34, 42, 180, 0, 43, 27, 29, 79, 42, 180, 0, 46, 27, 21, 4, 79, 42]
abbrev dktX0_readsWay_4 : List UInt8 := dkwX0_readsWay_4 ++ dktX0_readsWay_5
def dkwX0_readsWay_3 : List UInt8 := [167, 0, 24, 21, 5, 2, 160, 0, 7, 5, 167, 0, 14, 21, 6, 2, 160, 0, 7, 6, 167, 0, 4, 7]
abbrev dktX0_readsWay_3 : List UInt8 := dkwX0_readsWay_3 ++ dktX0_readsWay_4
def dkwX0_readsWay_2 : List UInt8 := [29, 2, 160, 0, 7, 3, 167, 0, 40, 21, 4, 2, 159, 0, 9, 21, 4, 29, 160, 0, 7, 4]
abbrev dktX0_readsWay_2 : List UInt8 := dkwX0_readsWay_2 ++ dktX0_readsWay_3
def dkwX0_readsWay_1 : List UInt8 := [182, 0, 35, 54, 5, 42, 3, 28, 6, 96, 182, 0, 25, 184, 0, 39, 54, 6, 27, 16, 10, 159, 0, 8]
abbrev dktX0_readsWay_1 : List UInt8 := dkwX0_readsWay_1 ++ dktX0_readsWay_2
def dkwX0_readsWay_0 : List UInt8 := [42, 3, 28, 182, 0, 32, 62, 42, 3, 28, 4, 96, 182, 0, 32, 54, 4, 42, 3, 28, 5, 96, 4]
abbrev dktX0_readsWay_0 : List UInt8 := dkwX0_readsWay_0 ++ dktX0_readsWay_1
theorem dksX0_readsWay_0 : cX0_readsWay.data.toList.drop 0 = dktX0_readsWay_0 := by decide +kernel
theorem dksX0_readsWay_1 : cX0_readsWay.data.toList.drop 23 = dktX0_readsWay_1 := dk_seg dksX0_readsWay_0 23 rfl rfl
theorem dksX0_readsWay_2 : cX0_readsWay.data.toList.drop 47 = dktX0_readsWay_2 := dk_seg dksX0_readsWay_1 24 rfl rfl
theorem dksX0_readsWay_3 : cX0_readsWay.data.toList.drop 69 = dktX0_readsWay_3 := dk_seg dksX0_readsWay_2 22 rfl rfl
theorem dksX0_readsWay_4 : cX0_readsWay.data.toList.drop 93 = dktX0_readsWay_4 := dk_seg dksX0_readsWay_3 24 rfl rfl
theorem dksX0_readsWay_5 : cX0_readsWay.data.toList.drop 117 = dktX0_readsWay_5 := dk_seg dksX0_readsWay_4 24 rfl rfl
theorem dX0_readsWay_0 : decode cX0_readsWay 0 = .ok (.aload_n 0, 1) := dk_42 (dk_at dksX0_readsWay_0 0 rfl rfl)
theorem dX0_readsWay_1 : decode cX0_readsWay 1 = .ok (.iconst 0, 1) := dk_3 (dk_at dksX0_readsWay_0 1 rfl rfl)
theorem dX0_readsWay_2 : decode cX0_readsWay 2 = .ok (.iload_n 2, 1) := dk_28 (dk_at dksX0_readsWay_0 2 rfl rfl)
theorem dX0_readsWay_3 : decode cX0_readsWay 3 = .ok (.invokevirtual 32, 3) := dk_182 0 32 (dk_at dksX0_readsWay_0 3 rfl rfl)
theorem dX0_readsWay_6 : decode cX0_readsWay 6 = .ok (.istore_n 3, 1) := dk_62 (dk_at dksX0_readsWay_0 6 rfl rfl)
theorem dX0_readsWay_7 : decode cX0_readsWay 7 = .ok (.aload_n 0, 1) := dk_42 (dk_at dksX0_readsWay_0 7 rfl rfl)
theorem dX0_readsWay_8 : decode cX0_readsWay 8 = .ok (.iconst 0, 1) := dk_3 (dk_at dksX0_readsWay_0 8 rfl rfl)
theorem dX0_readsWay_9 : decode cX0_readsWay 9 = .ok (.iload_n 2, 1) := dk_28 (dk_at dksX0_readsWay_0 9 rfl rfl)
theorem dX0_readsWay_10 : decode cX0_readsWay 10 = .ok (.iconst 1, 1) := dk_4 (dk_at dksX0_readsWay_0 10 rfl rfl)
theorem dX0_readsWay_11 : decode cX0_readsWay 11 = .ok (.iadd, 1) := dk_96 (dk_at dksX0_readsWay_0 11 rfl rfl)
theorem dX0_readsWay_12 : decode cX0_readsWay 12 = .ok (.invokevirtual 32, 3) := dk_182 0 32 (dk_at dksX0_readsWay_0 12 rfl rfl)
theorem dX0_readsWay_15 : decode cX0_readsWay 15 = .ok (.istore 4, 2) := dk_54 4 (dk_at dksX0_readsWay_0 15 rfl rfl)
theorem dX0_readsWay_17 : decode cX0_readsWay 17 = .ok (.aload_n 0, 1) := dk_42 (dk_at dksX0_readsWay_0 17 rfl rfl)
theorem dX0_readsWay_18 : decode cX0_readsWay 18 = .ok (.iconst 0, 1) := dk_3 (dk_at dksX0_readsWay_0 18 rfl rfl)
theorem dX0_readsWay_19 : decode cX0_readsWay 19 = .ok (.iload_n 2, 1) := dk_28 (dk_at dksX0_readsWay_0 19 rfl rfl)
theorem dX0_readsWay_20 : decode cX0_readsWay 20 = .ok (.iconst 2, 1) := dk_5 (dk_at dksX0_readsWay_0 20 rfl rfl)
theorem dX0_readsWay_21 : decode cX0_readsWay 21 = .ok (.iadd, 1) := dk_96 (dk_at dksX0_readsWay_0 21 rfl rfl)
theorem dX0_readsWay_22 : decode cX0_readsWay 22 = .ok (.iconst 1, 1) := dk_4 (dk_at dksX0_readsWay_0 22 rfl rfl)
theorem dX0_readsWay_23 : decode cX0_readsWay 23 = .ok (.invokevirtual 35, 3) := dk_182 0 35 (dk_at dksX0_readsWay_1 0 rfl rfl)
theorem dX0_readsWay_26 : decode cX0_readsWay 26 = .ok (.istore 5, 2) := dk_54 5 (dk_at dksX0_readsWay_1 3 rfl rfl)
theorem dX0_readsWay_28 : decode cX0_readsWay 28 = .ok (.aload_n 0, 1) := dk_42 (dk_at dksX0_readsWay_1 5 rfl rfl)
theorem dX0_readsWay_29 : decode cX0_readsWay 29 = .ok (.iconst 0, 1) := dk_3 (dk_at dksX0_readsWay_1 6 rfl rfl)
theorem dX0_readsWay_30 : decode cX0_readsWay 30 = .ok (.iload_n 2, 1) := dk_28 (dk_at dksX0_readsWay_1 7 rfl rfl)
theorem dX0_readsWay_31 : decode cX0_readsWay 31 = .ok (.iconst 3, 1) := dk_6 (dk_at dksX0_readsWay_1 8 rfl rfl)
theorem dX0_readsWay_32 : decode cX0_readsWay 32 = .ok (.iadd, 1) := dk_96 (dk_at dksX0_readsWay_1 9 rfl rfl)
theorem dX0_readsWay_33 : decode cX0_readsWay 33 = .ok (.invokevirtual 25, 3) := dk_182 0 25 (dk_at dksX0_readsWay_1 10 rfl rfl)
theorem dX0_readsWay_36 : decode cX0_readsWay 36 = .ok (.invokestatic 39, 3) := dk_184 0 39 (dk_at dksX0_readsWay_1 13 rfl rfl)
theorem dX0_readsWay_39 : decode cX0_readsWay 39 = .ok (.istore 6, 2) := dk_54 6 (dk_at dksX0_readsWay_1 16 rfl rfl)
theorem dX0_readsWay_41 : decode cX0_readsWay 41 = .ok (.iload_n 1, 1) := dk_27 (dk_at dksX0_readsWay_1 18 rfl rfl)
theorem dX0_readsWay_42 : decode cX0_readsWay 42 = .ok (.bipush 10, 2) := dk_16 10 (dk_at dksX0_readsWay_1 19 rfl rfl)
theorem dX0_readsWay_44 : decode cX0_readsWay 44 = .ok (.if_icmp .eq 8, 3) := dk_159 0 8 (dk_at dksX0_readsWay_1 21 rfl rfl)
theorem dX0_readsWay_47 : decode cX0_readsWay 47 = .ok (.iload_n 3, 1) := dk_29 (dk_at dksX0_readsWay_2 0 rfl rfl)
theorem dX0_readsWay_48 : decode cX0_readsWay 48 = .ok (.iconst (-1), 1) := dk_2 (dk_at dksX0_readsWay_2 1 rfl rfl)
theorem dX0_readsWay_49 : decode cX0_readsWay 49 = .ok (.if_icmp .ne 7, 3) := dk_160 0 7 (dk_at dksX0_readsWay_2 2 rfl rfl)
theorem dX0_readsWay_52 : decode cX0_readsWay 52 = .ok (.iconst 0, 1) := dk_3 (dk_at dksX0_readsWay_2 5 rfl rfl)
theorem dX0_readsWay_53 : decode cX0_readsWay 53 = .ok (.goto 40, 3) := dk_167 0 40 (dk_at dksX0_readsWay_2 6 rfl rfl)
theorem dX0_readsWay_56 : decode cX0_readsWay 56 = .ok (.iload 4, 2) := dk_21 4 (dk_at dksX0_readsWay_2 9 rfl rfl)
theorem dX0_readsWay_58 : decode cX0_readsWay 58 = .ok (.iconst (-1), 1) := dk_2 (dk_at dksX0_readsWay_2 11 rfl rfl)
theorem dX0_readsWay_59 : decode cX0_readsWay 59 = .ok (.if_icmp .eq 9, 3) := dk_159 0 9 (dk_at dksX0_readsWay_2 12 rfl rfl)
theorem dX0_readsWay_62 : decode cX0_readsWay 62 = .ok (.iload 4, 2) := dk_21 4 (dk_at dksX0_readsWay_2 15 rfl rfl)
theorem dX0_readsWay_64 : decode cX0_readsWay 64 = .ok (.iload_n 3, 1) := dk_29 (dk_at dksX0_readsWay_2 17 rfl rfl)
theorem dX0_readsWay_65 : decode cX0_readsWay 65 = .ok (.if_icmp .ne 7, 3) := dk_160 0 7 (dk_at dksX0_readsWay_2 18 rfl rfl)
theorem dX0_readsWay_68 : decode cX0_readsWay 68 = .ok (.iconst 1, 1) := dk_4 (dk_at dksX0_readsWay_2 21 rfl rfl)
theorem dX0_readsWay_69 : decode cX0_readsWay 69 = .ok (.goto 24, 3) := dk_167 0 24 (dk_at dksX0_readsWay_3 0 rfl rfl)
theorem dX0_readsWay_72 : decode cX0_readsWay 72 = .ok (.iload 5, 2) := dk_21 5 (dk_at dksX0_readsWay_3 3 rfl rfl)
theorem dX0_readsWay_74 : decode cX0_readsWay 74 = .ok (.iconst (-1), 1) := dk_2 (dk_at dksX0_readsWay_3 5 rfl rfl)
theorem dX0_readsWay_75 : decode cX0_readsWay 75 = .ok (.if_icmp .ne 7, 3) := dk_160 0 7 (dk_at dksX0_readsWay_3 6 rfl rfl)
theorem dX0_readsWay_78 : decode cX0_readsWay 78 = .ok (.iconst 2, 1) := dk_5 (dk_at dksX0_readsWay_3 9 rfl rfl)
theorem dX0_readsWay_79 : decode cX0_readsWay 79 = .ok (.goto 14, 3) := dk_167 0 14 (dk_at dksX0_readsWay_3 10 rfl rfl)
theorem dX0_readsWay_82 : decode cX0_readsWay 82 = .ok (.iload 6, 2) := dk_21 6 (dk_at dksX0_readsWay_3 13 rfl rfl)
theorem dX0_readsWay_84 : decode cX0_readsWay 84 = .ok (.iconst (-1), 1) := dk_2 (dk_at dksX0_readsWay_3 15 rfl rfl)
theorem dX0_readsWay_85 : decode cX0_readsWay 85 = .ok (.if_icmp .ne 7, 3) := dk_160 0 7 (dk_at dksX0_readsWay_3 16 rfl rfl)
theorem dX0_readsWay_88 : decode cX0_readsWay 88 = .ok (.iconst 3, 1) := dk_6 (dk_at dksX0_readsWay_3 19 rfl rfl)
theorem dX0_readsWay_89 : decode cX0_readsWay 89 = .ok (.goto 4, 3) := dk_167 0 4 (dk_at dksX0_readsWay_3 20 rfl rfl)
theorem dX0_readsWay_92 : decode cX0_readsWay 92 = .ok (.iconst 4, 1) := dk_7 (dk_at dksX0_readsWay_3 23 rfl rfl)
theorem dX0_readsWay_93 : decode cX0_readsWay 93 = .ok (.istore 7, 2) := dk_54 7 (dk_at dksX0_readsWay_4 0 rfl rfl)
theorem dX0_readsWay_95 : decode cX0_readsWay 95 = .ok (.iload 7, 2) := dk_21 7 (dk_at dksX0_readsWay_4 2 rfl rfl)
theorem dX0_readsWay_97 : decode cX0_readsWay 97 = .ok (.iconst 4, 1) := dk_7 (dk_at dksX0_readsWay_4 4 rfl rfl)
theorem dX0_readsWay_98 : decode cX0_readsWay 98 = .ok (.if_icmp .ne 34, 3) := dk_160 0 34 (dk_at dksX0_readsWay_4 5 rfl rfl)
theorem dX0_readsWay_101 : decode cX0_readsWay 101 = .ok (.aload_n 0, 1) := dk_42 (dk_at dksX0_readsWay_4 8 rfl rfl)
theorem dX0_readsWay_102 : decode cX0_readsWay 102 = .ok (.getfield 43, 3) := dk_180 0 43 (dk_at dksX0_readsWay_4 9 rfl rfl)
theorem dX0_readsWay_105 : decode cX0_readsWay 105 = .ok (.iload_n 1, 1) := dk_27 (dk_at dksX0_readsWay_4 12 rfl rfl)
theorem dX0_readsWay_106 : decode cX0_readsWay 106 = .ok (.iload_n 3, 1) := dk_29 (dk_at dksX0_readsWay_4 13 rfl rfl)
theorem dX0_readsWay_107 : decode cX0_readsWay 107 = .ok (.iastore, 1) := dk_79 (dk_at dksX0_readsWay_4 14 rfl rfl)
theorem dX0_readsWay_108 : decode cX0_readsWay 108 = .ok (.aload_n 0, 1) := dk_42 (dk_at dksX0_readsWay_4 15 rfl rfl)
theorem dX0_readsWay_109 : decode cX0_readsWay 109 = .ok (.getfield 46, 3) := dk_180 0 46 (dk_at dksX0_readsWay_4 16 rfl rfl)
theorem dX0_readsWay_112 : decode cX0_readsWay 112 = .ok (.iload_n 1, 1) := dk_27 (dk_at dksX0_readsWay_4 19 rfl rfl)
theorem dX0_readsWay_113 : decode cX0_readsWay 113 = .ok (.iload 4, 2) := dk_21 4 (dk_at dksX0_readsWay_4 20 rfl rfl)
theorem dX0_readsWay_115 : decode cX0_readsWay 115 = .ok (.iastore, 1) := dk_79 (dk_at dksX0_readsWay_4 22 rfl rfl)
theorem dX0_readsWay_116 : decode cX0_readsWay 116 = .ok (.aload_n 0, 1) := dk_42 (dk_at dksX0_readsWay_4 23 rfl rfl)
theorem dX0_readsWay_117 : decode cX0_readsWay 117 = .ok (.getfield 49, 3) := dk_180 0 49 (dk_at dksX0_readsWay_5 0 rfl rfl)
theorem dX0_readsWay_120 : decode cX0_readsWay 120 = .ok (.iload_n 1, 1) := dk_27 (dk_at dksX0_readsWay_5 3 rfl rfl)
theorem dX0_readsWay_121 : decode cX0_readsWay 121 = .ok (.iload 5, 2) := dk_21 5 (dk_at dksX0_readsWay_5 4 rfl rfl)
theorem dX0_readsWay_123 : decode cX0_readsWay 123 = .ok (.iastore, 1) := dk_79 (dk_at dksX0_readsWay_5 6 rfl rfl)
theorem dX0_readsWay_124 : decode cX0_readsWay 124 = .ok (.aload_n 0, 1) := dk_42 (dk_at dksX0_readsWay_5 7 rfl rfl)
theorem dX0_readsWay_125 : decode cX0_readsWay 125 = .ok (.getfield 52, 3) := dk_180 0 52 (dk_at dksX0_readsWay_5 8 rfl rfl)
theorem dX0_readsWay_128 : decode cX0_readsWay 128 = .ok (.iload_n 1, 1) := dk_27 (dk_at dksX0_readsWay_5 11 rfl rfl)
theorem dX0_readsWay_129 : decode cX0_readsWay 129 = .ok (.iload 6, 2) := dk_21 6 (dk_at dksX0_readsWay_5 12 rfl rfl)
theorem dX0_readsWay_131 : decode cX0_readsWay 131 = .ok (.iastore, 1) := dk_79 (dk_at dksX0_readsWay_5 14 rfl rfl)
theorem dX0_readsWay_132 : decode cX0_readsWay 132 = .ok (.iload 7, 2) := dk_21 7 (dk_at dksX0_readsWay_5 15 rfl rfl)
theorem dX0_readsWay_134 : decode cX0_readsWay 134 = .ok (.ireturn, 1) := dk_172 (dk_at dksX0_readsWay_5 17 rfl rfl)
abbrev cX0_placeAt : ByteArray := prog_1_method_16_code
def yX0_placeAt : MethodName := ⟨RX0, "placeAt", "(II)I"⟩
def dkwX0_placeAt_0 : List UInt8 := [42, 27, 28, 182, 0, 25, 16, 97, 100, 62, 29, 184, 0, 29, 153, 0, 7, 29, 167, 0, 4, 2, 172]
abbrev dktX0_placeAt_0 : List UInt8 := dkwX0_placeAt_0 ++ []
theorem dksX0_placeAt_0 : cX0_placeAt.data.toList.drop 0 = dktX0_placeAt_0 := by decide +kernel
theorem dX0_placeAt_0 : decode cX0_placeAt 0 = .ok (.aload_n 0, 1) := dk_42 (dk_at dksX0_placeAt_0 0 rfl rfl)
theorem dX0_placeAt_1 : decode cX0_placeAt 1 = .ok (.iload_n 1, 1) := dk_27 (dk_at dksX0_placeAt_0 1 rfl rfl)
theorem dX0_placeAt_2 : decode cX0_placeAt 2 = .ok (.iload_n 2, 1) := dk_28 (dk_at dksX0_placeAt_0 2 rfl rfl)
theorem dX0_placeAt_3 : decode cX0_placeAt 3 = .ok (.invokevirtual 25, 3) := dk_182 0 25 (dk_at dksX0_placeAt_0 3 rfl rfl)
theorem dX0_placeAt_6 : decode cX0_placeAt 6 = .ok (.bipush 97, 2) := dk_16 97 (dk_at dksX0_placeAt_0 6 rfl rfl)
theorem dX0_placeAt_8 : decode cX0_placeAt 8 = .ok (.isub, 1) := dk_100 (dk_at dksX0_placeAt_0 8 rfl rfl)
theorem dX0_placeAt_9 : decode cX0_placeAt 9 = .ok (.istore_n 3, 1) := dk_62 (dk_at dksX0_placeAt_0 9 rfl rfl)
theorem dX0_placeAt_10 : decode cX0_placeAt 10 = .ok (.iload_n 3, 1) := dk_29 (dk_at dksX0_placeAt_0 10 rfl rfl)
theorem dX0_placeAt_11 : decode cX0_placeAt 11 = .ok (.invokestatic 29, 3) := dk_184 0 29 (dk_at dksX0_placeAt_0 11 rfl rfl)
theorem dX0_placeAt_14 : decode cX0_placeAt 14 = .ok (.ifCond .eq 7, 3) := dk_153 0 7 (dk_at dksX0_placeAt_0 14 rfl rfl)
theorem dX0_placeAt_17 : decode cX0_placeAt 17 = .ok (.iload_n 3, 1) := dk_29 (dk_at dksX0_placeAt_0 17 rfl rfl)
theorem dX0_placeAt_18 : decode cX0_placeAt 18 = .ok (.goto 4, 3) := dk_167 0 4 (dk_at dksX0_placeAt_0 18 rfl rfl)
theorem dX0_placeAt_21 : decode cX0_placeAt 21 = .ok (.iconst (-1), 1) := dk_2 (dk_at dksX0_placeAt_0 21 rfl rfl)
theorem dX0_placeAt_22 : decode cX0_placeAt 22 = .ok (.ireturn, 1) := dk_172 (dk_at dksX0_placeAt_0 22 rfl rfl)
abbrev cX0_byteAt : ByteArray := prog_1_method_14_code
def yX0_byteAt : MethodName := ⟨RX0, "byteAt", "(II)I"⟩
def dkwX0_byteAt_0 : List UInt8 := [28, 42, 180, 0, 13, 27, 46, 162, 0, 14, 42, 180, 0, 17, 27, 50, 28, 46, 167, 0, 4, 2, 172]
abbrev dktX0_byteAt_0 : List UInt8 := dkwX0_byteAt_0 ++ []
theorem dksX0_byteAt_0 : cX0_byteAt.data.toList.drop 0 = dktX0_byteAt_0 := by decide +kernel
theorem dX0_byteAt_0 : decode cX0_byteAt 0 = .ok (.iload_n 2, 1) := dk_28 (dk_at dksX0_byteAt_0 0 rfl rfl)
theorem dX0_byteAt_1 : decode cX0_byteAt 1 = .ok (.aload_n 0, 1) := dk_42 (dk_at dksX0_byteAt_0 1 rfl rfl)
theorem dX0_byteAt_2 : decode cX0_byteAt 2 = .ok (.getfield 13, 3) := dk_180 0 13 (dk_at dksX0_byteAt_0 2 rfl rfl)
theorem dX0_byteAt_5 : decode cX0_byteAt 5 = .ok (.iload_n 1, 1) := dk_27 (dk_at dksX0_byteAt_0 5 rfl rfl)
theorem dX0_byteAt_6 : decode cX0_byteAt 6 = .ok (.iaload, 1) := dk_46 (dk_at dksX0_byteAt_0 6 rfl rfl)
theorem dX0_byteAt_7 : decode cX0_byteAt 7 = .ok (.if_icmp .ge 14, 3) := dk_162 0 14 (dk_at dksX0_byteAt_0 7 rfl rfl)
theorem dX0_byteAt_10 : decode cX0_byteAt 10 = .ok (.aload_n 0, 1) := dk_42 (dk_at dksX0_byteAt_0 10 rfl rfl)
theorem dX0_byteAt_11 : decode cX0_byteAt 11 = .ok (.getfield 17, 3) := dk_180 0 17 (dk_at dksX0_byteAt_0 11 rfl rfl)
theorem dX0_byteAt_14 : decode cX0_byteAt 14 = .ok (.iload_n 1, 1) := dk_27 (dk_at dksX0_byteAt_0 14 rfl rfl)
theorem dX0_byteAt_15 : decode cX0_byteAt 15 = .ok (.aaload, 1) := dk_50 (dk_at dksX0_byteAt_0 15 rfl rfl)
theorem dX0_byteAt_16 : decode cX0_byteAt 16 = .ok (.iload_n 2, 1) := dk_28 (dk_at dksX0_byteAt_0 16 rfl rfl)
theorem dX0_byteAt_17 : decode cX0_byteAt 17 = .ok (.iaload, 1) := dk_46 (dk_at dksX0_byteAt_0 17 rfl rfl)
theorem dX0_byteAt_18 : decode cX0_byteAt 18 = .ok (.goto 4, 3) := dk_167 0 4 (dk_at dksX0_byteAt_0 18 rfl rfl)
theorem dX0_byteAt_21 : decode cX0_byteAt 21 = .ok (.iconst (-1), 1) := dk_2 (dk_at dksX0_byteAt_0 21 rfl rfl)
theorem dX0_byteAt_22 : decode cX0_byteAt 22 = .ok (.ireturn, 1) := dk_172 (dk_at dksX0_byteAt_0 22 rfl rfl)
abbrev cX0_isPlace : ByteArray := prog_1_method_8_code
def yX0_isPlace : MethodName := ⟨RX0, "isPlace", "(I)Z"⟩
def dkwX0_isPlace_0 : List UInt8 := [26, 3, 16, 7, 184, 0, 5, 172]
abbrev dktX0_isPlace_0 : List UInt8 := dkwX0_isPlace_0 ++ []
theorem dksX0_isPlace_0 : cX0_isPlace.data.toList.drop 0 = dktX0_isPlace_0 := by decide +kernel
theorem dX0_isPlace_0 : decode cX0_isPlace 0 = .ok (.iload_n 0, 1) := dk_26 (dk_at dksX0_isPlace_0 0 rfl rfl)
theorem dX0_isPlace_1 : decode cX0_isPlace 1 = .ok (.iconst 0, 1) := dk_3 (dk_at dksX0_isPlace_0 1 rfl rfl)
theorem dX0_isPlace_2 : decode cX0_isPlace 2 = .ok (.bipush 7, 2) := dk_16 7 (dk_at dksX0_isPlace_0 2 rfl rfl)
theorem dX0_isPlace_4 : decode cX0_isPlace 4 = .ok (.invokestatic 5, 3) := dk_184 0 5 (dk_at dksX0_isPlace_0 4 rfl rfl)
theorem dX0_isPlace_7 : decode cX0_isPlace 7 = .ok (.ireturn, 1) := dk_172 (dk_at dksX0_isPlace_0 7 rfl rfl)
abbrev cX0_figureAt : ByteArray := prog_1_method_15_code
def yX0_figureAt : MethodName := ⟨RX0, "figureAt", "(III)I"⟩
def dkwX0_figureAt_1 : List UInt8 := [167, 0, 4, 2, 172]
abbrev dktX0_figureAt_1 : List UInt8 := dkwX0_figureAt_1 ++ []
def dkwX0_figureAt_0 : List UInt8 := [42, 27, 28, 182, 0, 25, 16, 48, 100, 54, 4, 21, 4, 29, 16, 9, 184, 0, 5, 153, 0, 8, 21, 4]
abbrev dktX0_figureAt_0 : List UInt8 := dkwX0_figureAt_0 ++ dktX0_figureAt_1
theorem dksX0_figureAt_0 : cX0_figureAt.data.toList.drop 0 = dktX0_figureAt_0 := by decide +kernel
theorem dksX0_figureAt_1 : cX0_figureAt.data.toList.drop 24 = dktX0_figureAt_1 := dk_seg dksX0_figureAt_0 24 rfl rfl
theorem dX0_figureAt_0 : decode cX0_figureAt 0 = .ok (.aload_n 0, 1) := dk_42 (dk_at dksX0_figureAt_0 0 rfl rfl)
theorem dX0_figureAt_1 : decode cX0_figureAt 1 = .ok (.iload_n 1, 1) := dk_27 (dk_at dksX0_figureAt_0 1 rfl rfl)
theorem dX0_figureAt_2 : decode cX0_figureAt 2 = .ok (.iload_n 2, 1) := dk_28 (dk_at dksX0_figureAt_0 2 rfl rfl)
theorem dX0_figureAt_3 : decode cX0_figureAt 3 = .ok (.invokevirtual 25, 3) := dk_182 0 25 (dk_at dksX0_figureAt_0 3 rfl rfl)
theorem dX0_figureAt_6 : decode cX0_figureAt 6 = .ok (.bipush 48, 2) := dk_16 48 (dk_at dksX0_figureAt_0 6 rfl rfl)
theorem dX0_figureAt_8 : decode cX0_figureAt 8 = .ok (.isub, 1) := dk_100 (dk_at dksX0_figureAt_0 8 rfl rfl)
theorem dX0_figureAt_9 : decode cX0_figureAt 9 = .ok (.istore 4, 2) := dk_54 4 (dk_at dksX0_figureAt_0 9 rfl rfl)
theorem dX0_figureAt_11 : decode cX0_figureAt 11 = .ok (.iload 4, 2) := dk_21 4 (dk_at dksX0_figureAt_0 11 rfl rfl)
theorem dX0_figureAt_13 : decode cX0_figureAt 13 = .ok (.iload_n 3, 1) := dk_29 (dk_at dksX0_figureAt_0 13 rfl rfl)
theorem dX0_figureAt_14 : decode cX0_figureAt 14 = .ok (.bipush 9, 2) := dk_16 9 (dk_at dksX0_figureAt_0 14 rfl rfl)
theorem dX0_figureAt_16 : decode cX0_figureAt 16 = .ok (.invokestatic 5, 3) := dk_184 0 5 (dk_at dksX0_figureAt_0 16 rfl rfl)
theorem dX0_figureAt_19 : decode cX0_figureAt 19 = .ok (.ifCond .eq 8, 3) := dk_153 0 8 (dk_at dksX0_figureAt_0 19 rfl rfl)
theorem dX0_figureAt_22 : decode cX0_figureAt 22 = .ok (.iload 4, 2) := dk_21 4 (dk_at dksX0_figureAt_0 22 rfl rfl)
theorem dX0_figureAt_24 : decode cX0_figureAt 24 = .ok (.goto 4, 3) := dk_167 0 4 (dk_at dksX0_figureAt_1 0 rfl rfl)
theorem dX0_figureAt_27 : decode cX0_figureAt 27 = .ok (.iconst (-1), 1) := dk_2 (dk_at dksX0_figureAt_1 3 rfl rfl)
theorem dX0_figureAt_28 : decode cX0_figureAt 28 = .ok (.ireturn, 1) := dk_172 (dk_at dksX0_figureAt_1 4 rfl rfl)
abbrev cX0_slopeOf : ByteArray := prog_1_method_17_code
def yX0_slopeOf : MethodName := ⟨RX0, "slopeOf", "(I)I"⟩
def dkwX0_slopeOf_1 : List UInt8 := [160, 0, 7, 5, 167, 0, 4, 2, 172]
abbrev dktX0_slopeOf_1 : List UInt8 := dkwX0_slopeOf_1 ++ []
def dkwX0_slopeOf_0 : List UInt8 := [26, 16, 117, 160, 0, 7, 3, 167, 0, 24, 26, 16, 102, 160, 0, 7, 4, 167, 0, 14, 26, 16, 100]
abbrev dktX0_slopeOf_0 : List UInt8 := dkwX0_slopeOf_0 ++ dktX0_slopeOf_1
theorem dksX0_slopeOf_0 : cX0_slopeOf.data.toList.drop 0 = dktX0_slopeOf_0 := by decide +kernel
theorem dksX0_slopeOf_1 : cX0_slopeOf.data.toList.drop 23 = dktX0_slopeOf_1 := dk_seg dksX0_slopeOf_0 23 rfl rfl
theorem dX0_slopeOf_0 : decode cX0_slopeOf 0 = .ok (.iload_n 0, 1) := dk_26 (dk_at dksX0_slopeOf_0 0 rfl rfl)
theorem dX0_slopeOf_1 : decode cX0_slopeOf 1 = .ok (.bipush 117, 2) := dk_16 117 (dk_at dksX0_slopeOf_0 1 rfl rfl)
theorem dX0_slopeOf_3 : decode cX0_slopeOf 3 = .ok (.if_icmp .ne 7, 3) := dk_160 0 7 (dk_at dksX0_slopeOf_0 3 rfl rfl)
theorem dX0_slopeOf_6 : decode cX0_slopeOf 6 = .ok (.iconst 0, 1) := dk_3 (dk_at dksX0_slopeOf_0 6 rfl rfl)
theorem dX0_slopeOf_7 : decode cX0_slopeOf 7 = .ok (.goto 24, 3) := dk_167 0 24 (dk_at dksX0_slopeOf_0 7 rfl rfl)
theorem dX0_slopeOf_10 : decode cX0_slopeOf 10 = .ok (.iload_n 0, 1) := dk_26 (dk_at dksX0_slopeOf_0 10 rfl rfl)
theorem dX0_slopeOf_11 : decode cX0_slopeOf 11 = .ok (.bipush 102, 2) := dk_16 102 (dk_at dksX0_slopeOf_0 11 rfl rfl)
theorem dX0_slopeOf_13 : decode cX0_slopeOf 13 = .ok (.if_icmp .ne 7, 3) := dk_160 0 7 (dk_at dksX0_slopeOf_0 13 rfl rfl)
theorem dX0_slopeOf_16 : decode cX0_slopeOf 16 = .ok (.iconst 1, 1) := dk_4 (dk_at dksX0_slopeOf_0 16 rfl rfl)
theorem dX0_slopeOf_17 : decode cX0_slopeOf 17 = .ok (.goto 14, 3) := dk_167 0 14 (dk_at dksX0_slopeOf_0 17 rfl rfl)
theorem dX0_slopeOf_20 : decode cX0_slopeOf 20 = .ok (.iload_n 0, 1) := dk_26 (dk_at dksX0_slopeOf_0 20 rfl rfl)
theorem dX0_slopeOf_21 : decode cX0_slopeOf 21 = .ok (.bipush 100, 2) := dk_16 100 (dk_at dksX0_slopeOf_0 21 rfl rfl)
theorem dX0_slopeOf_23 : decode cX0_slopeOf 23 = .ok (.if_icmp .ne 7, 3) := dk_160 0 7 (dk_at dksX0_slopeOf_1 0 rfl rfl)
theorem dX0_slopeOf_26 : decode cX0_slopeOf 26 = .ok (.iconst 2, 1) := dk_5 (dk_at dksX0_slopeOf_1 3 rfl rfl)
theorem dX0_slopeOf_27 : decode cX0_slopeOf 27 = .ok (.goto 4, 3) := dk_167 0 4 (dk_at dksX0_slopeOf_1 4 rfl rfl)
theorem dX0_slopeOf_30 : decode cX0_slopeOf 30 = .ok (.iconst (-1), 1) := dk_2 (dk_at dksX0_slopeOf_1 7 rfl rfl)
theorem dX0_slopeOf_31 : decode cX0_slopeOf 31 = .ok (.ireturn, 1) := dk_172 (dk_at dksX0_slopeOf_1 8 rfl rfl)
abbrev cX0_readsCarter : ByteArray := prog_1_method_21_code
def yX0_readsCarter : MethodName := ⟨RX0, "readsCarter", "(II)I"⟩
def dkwX0_readsCarter_5 : List UInt8 := [4, 28, 8, 96, 3, 182, 0, 35, 181, 0, 86, 29, 172]
abbrev dktX0_readsCarter_5 : List UInt8 := dkwX0_readsCarter_5 ++ []
def dkwX0_readsCarter_4 : List UInt8 := [28, 6, 96, 3, 182, 0, 35, 104, 42, 4, 28, 7, 96, 3, 182, 0, 35, 96, 181, 0, 83, 25, 4, 42]
abbrev dktX0_readsCarter_4 : List UInt8 := dkwX0_readsCarter_4 ++ dktX0_readsCarter_5
def dkwX0_readsCarter_3 : List UInt8 := [180, 0, 75, 42, 4, 28, 5, 96, 182, 0, 25, 184, 0, 55, 50, 181, 0, 79, 25, 4, 16, 10, 42, 4]
abbrev dktX0_readsCarter_3 : List UInt8 := dkwX0_readsCarter_3 ++ dktX0_readsCarter_4
def dkwX0_readsCarter_2 : List UInt8 := [28, 182, 0, 32, 181, 0, 66, 25, 4, 42, 4, 28, 4, 96, 182, 0, 32, 181, 0, 72, 25, 4, 42]
abbrev dktX0_readsCarter_2 : List UInt8 := dkwX0_readsCarter_2 ++ dktX0_readsCarter_3
def dkwX0_readsCarter_1 : List UInt8 := [132, 3, 1, 167, 255, 232, 29, 16, 6, 160, 0, 97, 42, 180, 0, 62, 27, 50, 58, 4, 25, 4, 42, 4]
abbrev dktX0_readsCarter_1 : List UInt8 := dkwX0_readsCarter_1 ++ dktX0_readsCarter_2
def dkwX0_readsCarter_0 : List UInt8 := [3, 62, 27, 16, 8, 162, 0, 24, 29, 16, 6, 162, 0, 18, 42, 28, 29, 182, 0, 58, 153, 0, 9]
abbrev dktX0_readsCarter_0 : List UInt8 := dkwX0_readsCarter_0 ++ dktX0_readsCarter_1
theorem dksX0_readsCarter_0 : cX0_readsCarter.data.toList.drop 0 = dktX0_readsCarter_0 := by decide +kernel
theorem dksX0_readsCarter_1 : cX0_readsCarter.data.toList.drop 23 = dktX0_readsCarter_1 := dk_seg dksX0_readsCarter_0 23 rfl rfl
theorem dksX0_readsCarter_2 : cX0_readsCarter.data.toList.drop 47 = dktX0_readsCarter_2 := dk_seg dksX0_readsCarter_1 24 rfl rfl
theorem dksX0_readsCarter_3 : cX0_readsCarter.data.toList.drop 70 = dktX0_readsCarter_3 := dk_seg dksX0_readsCarter_2 23 rfl rfl
theorem dksX0_readsCarter_4 : cX0_readsCarter.data.toList.drop 94 = dktX0_readsCarter_4 := dk_seg dksX0_readsCarter_3 24 rfl rfl
theorem dksX0_readsCarter_5 : cX0_readsCarter.data.toList.drop 118 = dktX0_readsCarter_5 := dk_seg dksX0_readsCarter_4 24 rfl rfl
theorem dX0_readsCarter_0 : decode cX0_readsCarter 0 = .ok (.iconst 0, 1) := dk_3 (dk_at dksX0_readsCarter_0 0 rfl rfl)
theorem dX0_readsCarter_1 : decode cX0_readsCarter 1 = .ok (.istore_n 3, 1) := dk_62 (dk_at dksX0_readsCarter_0 1 rfl rfl)
theorem dX0_readsCarter_2 : decode cX0_readsCarter 2 = .ok (.iload_n 1, 1) := dk_27 (dk_at dksX0_readsCarter_0 2 rfl rfl)
theorem dX0_readsCarter_3 : decode cX0_readsCarter 3 = .ok (.bipush 8, 2) := dk_16 8 (dk_at dksX0_readsCarter_0 3 rfl rfl)
theorem dX0_readsCarter_5 : decode cX0_readsCarter 5 = .ok (.if_icmp .ge 24, 3) := dk_162 0 24 (dk_at dksX0_readsCarter_0 5 rfl rfl)
theorem dX0_readsCarter_8 : decode cX0_readsCarter 8 = .ok (.iload_n 3, 1) := dk_29 (dk_at dksX0_readsCarter_0 8 rfl rfl)
theorem dX0_readsCarter_9 : decode cX0_readsCarter 9 = .ok (.bipush 6, 2) := dk_16 6 (dk_at dksX0_readsCarter_0 9 rfl rfl)
theorem dX0_readsCarter_11 : decode cX0_readsCarter 11 = .ok (.if_icmp .ge 18, 3) := dk_162 0 18 (dk_at dksX0_readsCarter_0 11 rfl rfl)
theorem dX0_readsCarter_14 : decode cX0_readsCarter 14 = .ok (.aload_n 0, 1) := dk_42 (dk_at dksX0_readsCarter_0 14 rfl rfl)
theorem dX0_readsCarter_15 : decode cX0_readsCarter 15 = .ok (.iload_n 2, 1) := dk_28 (dk_at dksX0_readsCarter_0 15 rfl rfl)
theorem dX0_readsCarter_16 : decode cX0_readsCarter 16 = .ok (.iload_n 3, 1) := dk_29 (dk_at dksX0_readsCarter_0 16 rfl rfl)
theorem dX0_readsCarter_17 : decode cX0_readsCarter 17 = .ok (.invokevirtual 58, 3) := dk_182 0 58 (dk_at dksX0_readsCarter_0 17 rfl rfl)
theorem dX0_readsCarter_20 : decode cX0_readsCarter 20 = .ok (.ifCond .eq 9, 3) := dk_153 0 9 (dk_at dksX0_readsCarter_0 20 rfl rfl)
theorem dX0_readsCarter_23 : decode cX0_readsCarter 23 = .ok (.iinc 3 1, 3) := dk_132 3 1 (dk_at dksX0_readsCarter_1 0 rfl rfl)
theorem dX0_readsCarter_26 : decode cX0_readsCarter 26 = .ok (.goto (-24), 3) := dk_167 255 232 (dk_at dksX0_readsCarter_1 3 rfl rfl)
theorem dX0_readsCarter_29 : decode cX0_readsCarter 29 = .ok (.iload_n 3, 1) := dk_29 (dk_at dksX0_readsCarter_1 6 rfl rfl)
theorem dX0_readsCarter_30 : decode cX0_readsCarter 30 = .ok (.bipush 6, 2) := dk_16 6 (dk_at dksX0_readsCarter_1 7 rfl rfl)
theorem dX0_readsCarter_32 : decode cX0_readsCarter 32 = .ok (.if_icmp .ne 97, 3) := dk_160 0 97 (dk_at dksX0_readsCarter_1 9 rfl rfl)
theorem dX0_readsCarter_35 : decode cX0_readsCarter 35 = .ok (.aload_n 0, 1) := dk_42 (dk_at dksX0_readsCarter_1 12 rfl rfl)
theorem dX0_readsCarter_36 : decode cX0_readsCarter 36 = .ok (.getfield 62, 3) := dk_180 0 62 (dk_at dksX0_readsCarter_1 13 rfl rfl)
theorem dX0_readsCarter_39 : decode cX0_readsCarter 39 = .ok (.iload_n 1, 1) := dk_27 (dk_at dksX0_readsCarter_1 16 rfl rfl)
theorem dX0_readsCarter_40 : decode cX0_readsCarter 40 = .ok (.aaload, 1) := dk_50 (dk_at dksX0_readsCarter_1 17 rfl rfl)
theorem dX0_readsCarter_41 : decode cX0_readsCarter 41 = .ok (.astore 4, 2) := dk_58 4 (dk_at dksX0_readsCarter_1 18 rfl rfl)
theorem dX0_readsCarter_43 : decode cX0_readsCarter 43 = .ok (.aload 4, 2) := dk_25 4 (dk_at dksX0_readsCarter_1 20 rfl rfl)
theorem dX0_readsCarter_45 : decode cX0_readsCarter 45 = .ok (.aload_n 0, 1) := dk_42 (dk_at dksX0_readsCarter_1 22 rfl rfl)
theorem dX0_readsCarter_46 : decode cX0_readsCarter 46 = .ok (.iconst 1, 1) := dk_4 (dk_at dksX0_readsCarter_1 23 rfl rfl)
theorem dX0_readsCarter_47 : decode cX0_readsCarter 47 = .ok (.iload_n 2, 1) := dk_28 (dk_at dksX0_readsCarter_2 0 rfl rfl)
theorem dX0_readsCarter_48 : decode cX0_readsCarter 48 = .ok (.invokevirtual 32, 3) := dk_182 0 32 (dk_at dksX0_readsCarter_2 1 rfl rfl)
theorem dX0_readsCarter_51 : decode cX0_readsCarter 51 = .ok (.putfield 66, 3) := dk_181 0 66 (dk_at dksX0_readsCarter_2 4 rfl rfl)
theorem dX0_readsCarter_54 : decode cX0_readsCarter 54 = .ok (.aload 4, 2) := dk_25 4 (dk_at dksX0_readsCarter_2 7 rfl rfl)
theorem dX0_readsCarter_56 : decode cX0_readsCarter 56 = .ok (.aload_n 0, 1) := dk_42 (dk_at dksX0_readsCarter_2 9 rfl rfl)
theorem dX0_readsCarter_57 : decode cX0_readsCarter 57 = .ok (.iconst 1, 1) := dk_4 (dk_at dksX0_readsCarter_2 10 rfl rfl)
theorem dX0_readsCarter_58 : decode cX0_readsCarter 58 = .ok (.iload_n 2, 1) := dk_28 (dk_at dksX0_readsCarter_2 11 rfl rfl)
theorem dX0_readsCarter_59 : decode cX0_readsCarter 59 = .ok (.iconst 1, 1) := dk_4 (dk_at dksX0_readsCarter_2 12 rfl rfl)
theorem dX0_readsCarter_60 : decode cX0_readsCarter 60 = .ok (.iadd, 1) := dk_96 (dk_at dksX0_readsCarter_2 13 rfl rfl)
theorem dX0_readsCarter_61 : decode cX0_readsCarter 61 = .ok (.invokevirtual 32, 3) := dk_182 0 32 (dk_at dksX0_readsCarter_2 14 rfl rfl)
theorem dX0_readsCarter_64 : decode cX0_readsCarter 64 = .ok (.putfield 72, 3) := dk_181 0 72 (dk_at dksX0_readsCarter_2 17 rfl rfl)
theorem dX0_readsCarter_67 : decode cX0_readsCarter 67 = .ok (.aload 4, 2) := dk_25 4 (dk_at dksX0_readsCarter_2 20 rfl rfl)
theorem dX0_readsCarter_69 : decode cX0_readsCarter 69 = .ok (.aload_n 0, 1) := dk_42 (dk_at dksX0_readsCarter_2 22 rfl rfl)
theorem dX0_readsCarter_70 : decode cX0_readsCarter 70 = .ok (.getfield 75, 3) := dk_180 0 75 (dk_at dksX0_readsCarter_3 0 rfl rfl)
theorem dX0_readsCarter_73 : decode cX0_readsCarter 73 = .ok (.aload_n 0, 1) := dk_42 (dk_at dksX0_readsCarter_3 3 rfl rfl)
theorem dX0_readsCarter_74 : decode cX0_readsCarter 74 = .ok (.iconst 1, 1) := dk_4 (dk_at dksX0_readsCarter_3 4 rfl rfl)
theorem dX0_readsCarter_75 : decode cX0_readsCarter 75 = .ok (.iload_n 2, 1) := dk_28 (dk_at dksX0_readsCarter_3 5 rfl rfl)
theorem dX0_readsCarter_76 : decode cX0_readsCarter 76 = .ok (.iconst 2, 1) := dk_5 (dk_at dksX0_readsCarter_3 6 rfl rfl)
theorem dX0_readsCarter_77 : decode cX0_readsCarter 77 = .ok (.iadd, 1) := dk_96 (dk_at dksX0_readsCarter_3 7 rfl rfl)
theorem dX0_readsCarter_78 : decode cX0_readsCarter 78 = .ok (.invokevirtual 25, 3) := dk_182 0 25 (dk_at dksX0_readsCarter_3 8 rfl rfl)
theorem dX0_readsCarter_81 : decode cX0_readsCarter 81 = .ok (.invokestatic 55, 3) := dk_184 0 55 (dk_at dksX0_readsCarter_3 11 rfl rfl)
theorem dX0_readsCarter_84 : decode cX0_readsCarter 84 = .ok (.aaload, 1) := dk_50 (dk_at dksX0_readsCarter_3 14 rfl rfl)
theorem dX0_readsCarter_85 : decode cX0_readsCarter 85 = .ok (.putfield 79, 3) := dk_181 0 79 (dk_at dksX0_readsCarter_3 15 rfl rfl)
theorem dX0_readsCarter_88 : decode cX0_readsCarter 88 = .ok (.aload 4, 2) := dk_25 4 (dk_at dksX0_readsCarter_3 18 rfl rfl)
theorem dX0_readsCarter_90 : decode cX0_readsCarter 90 = .ok (.bipush 10, 2) := dk_16 10 (dk_at dksX0_readsCarter_3 20 rfl rfl)
theorem dX0_readsCarter_92 : decode cX0_readsCarter 92 = .ok (.aload_n 0, 1) := dk_42 (dk_at dksX0_readsCarter_3 22 rfl rfl)
theorem dX0_readsCarter_93 : decode cX0_readsCarter 93 = .ok (.iconst 1, 1) := dk_4 (dk_at dksX0_readsCarter_3 23 rfl rfl)
theorem dX0_readsCarter_94 : decode cX0_readsCarter 94 = .ok (.iload_n 2, 1) := dk_28 (dk_at dksX0_readsCarter_4 0 rfl rfl)
theorem dX0_readsCarter_95 : decode cX0_readsCarter 95 = .ok (.iconst 3, 1) := dk_6 (dk_at dksX0_readsCarter_4 1 rfl rfl)
theorem dX0_readsCarter_96 : decode cX0_readsCarter 96 = .ok (.iadd, 1) := dk_96 (dk_at dksX0_readsCarter_4 2 rfl rfl)
theorem dX0_readsCarter_97 : decode cX0_readsCarter 97 = .ok (.iconst 0, 1) := dk_3 (dk_at dksX0_readsCarter_4 3 rfl rfl)
theorem dX0_readsCarter_98 : decode cX0_readsCarter 98 = .ok (.invokevirtual 35, 3) := dk_182 0 35 (dk_at dksX0_readsCarter_4 4 rfl rfl)
theorem dX0_readsCarter_101 : decode cX0_readsCarter 101 = .ok (.imul, 1) := dk_104 (dk_at dksX0_readsCarter_4 7 rfl rfl)
theorem dX0_readsCarter_102 : decode cX0_readsCarter 102 = .ok (.aload_n 0, 1) := dk_42 (dk_at dksX0_readsCarter_4 8 rfl rfl)
theorem dX0_readsCarter_103 : decode cX0_readsCarter 103 = .ok (.iconst 1, 1) := dk_4 (dk_at dksX0_readsCarter_4 9 rfl rfl)
theorem dX0_readsCarter_104 : decode cX0_readsCarter 104 = .ok (.iload_n 2, 1) := dk_28 (dk_at dksX0_readsCarter_4 10 rfl rfl)
theorem dX0_readsCarter_105 : decode cX0_readsCarter 105 = .ok (.iconst 4, 1) := dk_7 (dk_at dksX0_readsCarter_4 11 rfl rfl)
theorem dX0_readsCarter_106 : decode cX0_readsCarter 106 = .ok (.iadd, 1) := dk_96 (dk_at dksX0_readsCarter_4 12 rfl rfl)
theorem dX0_readsCarter_107 : decode cX0_readsCarter 107 = .ok (.iconst 0, 1) := dk_3 (dk_at dksX0_readsCarter_4 13 rfl rfl)
theorem dX0_readsCarter_108 : decode cX0_readsCarter 108 = .ok (.invokevirtual 35, 3) := dk_182 0 35 (dk_at dksX0_readsCarter_4 14 rfl rfl)
theorem dX0_readsCarter_111 : decode cX0_readsCarter 111 = .ok (.iadd, 1) := dk_96 (dk_at dksX0_readsCarter_4 17 rfl rfl)
theorem dX0_readsCarter_112 : decode cX0_readsCarter 112 = .ok (.putfield 83, 3) := dk_181 0 83 (dk_at dksX0_readsCarter_4 18 rfl rfl)
theorem dX0_readsCarter_115 : decode cX0_readsCarter 115 = .ok (.aload 4, 2) := dk_25 4 (dk_at dksX0_readsCarter_4 21 rfl rfl)
theorem dX0_readsCarter_117 : decode cX0_readsCarter 117 = .ok (.aload_n 0, 1) := dk_42 (dk_at dksX0_readsCarter_4 23 rfl rfl)
theorem dX0_readsCarter_118 : decode cX0_readsCarter 118 = .ok (.iconst 1, 1) := dk_4 (dk_at dksX0_readsCarter_5 0 rfl rfl)
theorem dX0_readsCarter_119 : decode cX0_readsCarter 119 = .ok (.iload_n 2, 1) := dk_28 (dk_at dksX0_readsCarter_5 1 rfl rfl)
theorem dX0_readsCarter_120 : decode cX0_readsCarter 120 = .ok (.iconst 5, 1) := dk_8 (dk_at dksX0_readsCarter_5 2 rfl rfl)
theorem dX0_readsCarter_121 : decode cX0_readsCarter 121 = .ok (.iadd, 1) := dk_96 (dk_at dksX0_readsCarter_5 3 rfl rfl)
theorem dX0_readsCarter_122 : decode cX0_readsCarter 122 = .ok (.iconst 0, 1) := dk_3 (dk_at dksX0_readsCarter_5 4 rfl rfl)
theorem dX0_readsCarter_123 : decode cX0_readsCarter 123 = .ok (.invokevirtual 35, 3) := dk_182 0 35 (dk_at dksX0_readsCarter_5 5 rfl rfl)
theorem dX0_readsCarter_126 : decode cX0_readsCarter 126 = .ok (.putfield 86, 3) := dk_181 0 86 (dk_at dksX0_readsCarter_5 8 rfl rfl)
theorem dX0_readsCarter_129 : decode cX0_readsCarter 129 = .ok (.iload_n 3, 1) := dk_29 (dk_at dksX0_readsCarter_5 11 rfl rfl)
theorem dX0_readsCarter_130 : decode cX0_readsCarter 130 = .ok (.ireturn, 1) := dk_172 (dk_at dksX0_readsCarter_5 12 rfl rfl)
abbrev cX0_isCarterByte : ByteArray := prog_1_method_20_code
def yX0_isCarterByte : MethodName := ⟨RX0, "isCarterByte", "(II)Z"⟩
def dkwX0_isCarterByte_3 : List UInt8 := [3, 172]
abbrev dktX0_isCarterByte_3 : List UInt8 := dkwX0_isCarterByte_3 ++ []
def dkwX0_isCarterByte_2 : List UInt8 := [167, 0, 25, 3, 167, 0, 21, 42, 4, 27, 28, 96, 3, 182, 0, 35, 2, 159, 0, 7, 4, 167, 0, 4]
abbrev dktX0_isCarterByte_2 : List UInt8 := dkwX0_isCarterByte_2 ++ dktX0_isCarterByte_3
def dkwX0_isCarterByte_1 : List UInt8 := [167, 0, 49, 28, 5, 160, 0, 26, 42, 4, 27, 28, 96, 182, 0, 25, 184, 0, 55, 2, 159, 0, 7, 4]
abbrev dktX0_isCarterByte_1 : List UInt8 := dkwX0_isCarterByte_1 ++ dktX0_isCarterByte_2
def dkwX0_isCarterByte_0 : List UInt8 := [28, 5, 162, 0, 23, 42, 4, 27, 28, 96, 182, 0, 32, 2, 159, 0, 7, 4, 167, 0, 53, 3]
abbrev dktX0_isCarterByte_0 : List UInt8 := dkwX0_isCarterByte_0 ++ dktX0_isCarterByte_1
theorem dksX0_isCarterByte_0 : cX0_isCarterByte.data.toList.drop 0 = dktX0_isCarterByte_0 := by decide +kernel
theorem dksX0_isCarterByte_1 : cX0_isCarterByte.data.toList.drop 22 = dktX0_isCarterByte_1 := dk_seg dksX0_isCarterByte_0 22 rfl rfl
theorem dksX0_isCarterByte_2 : cX0_isCarterByte.data.toList.drop 46 = dktX0_isCarterByte_2 := dk_seg dksX0_isCarterByte_1 24 rfl rfl
theorem dksX0_isCarterByte_3 : cX0_isCarterByte.data.toList.drop 70 = dktX0_isCarterByte_3 := dk_seg dksX0_isCarterByte_2 24 rfl rfl
theorem dX0_isCarterByte_0 : decode cX0_isCarterByte 0 = .ok (.iload_n 2, 1) := dk_28 (dk_at dksX0_isCarterByte_0 0 rfl rfl)
theorem dX0_isCarterByte_1 : decode cX0_isCarterByte 1 = .ok (.iconst 2, 1) := dk_5 (dk_at dksX0_isCarterByte_0 1 rfl rfl)
theorem dX0_isCarterByte_2 : decode cX0_isCarterByte 2 = .ok (.if_icmp .ge 23, 3) := dk_162 0 23 (dk_at dksX0_isCarterByte_0 2 rfl rfl)
theorem dX0_isCarterByte_5 : decode cX0_isCarterByte 5 = .ok (.aload_n 0, 1) := dk_42 (dk_at dksX0_isCarterByte_0 5 rfl rfl)
theorem dX0_isCarterByte_6 : decode cX0_isCarterByte 6 = .ok (.iconst 1, 1) := dk_4 (dk_at dksX0_isCarterByte_0 6 rfl rfl)
theorem dX0_isCarterByte_7 : decode cX0_isCarterByte 7 = .ok (.iload_n 1, 1) := dk_27 (dk_at dksX0_isCarterByte_0 7 rfl rfl)
theorem dX0_isCarterByte_8 : decode cX0_isCarterByte 8 = .ok (.iload_n 2, 1) := dk_28 (dk_at dksX0_isCarterByte_0 8 rfl rfl)
theorem dX0_isCarterByte_9 : decode cX0_isCarterByte 9 = .ok (.iadd, 1) := dk_96 (dk_at dksX0_isCarterByte_0 9 rfl rfl)
theorem dX0_isCarterByte_10 : decode cX0_isCarterByte 10 = .ok (.invokevirtual 32, 3) := dk_182 0 32 (dk_at dksX0_isCarterByte_0 10 rfl rfl)
theorem dX0_isCarterByte_13 : decode cX0_isCarterByte 13 = .ok (.iconst (-1), 1) := dk_2 (dk_at dksX0_isCarterByte_0 13 rfl rfl)
theorem dX0_isCarterByte_14 : decode cX0_isCarterByte 14 = .ok (.if_icmp .eq 7, 3) := dk_159 0 7 (dk_at dksX0_isCarterByte_0 14 rfl rfl)
theorem dX0_isCarterByte_17 : decode cX0_isCarterByte 17 = .ok (.iconst 1, 1) := dk_4 (dk_at dksX0_isCarterByte_0 17 rfl rfl)
theorem dX0_isCarterByte_18 : decode cX0_isCarterByte 18 = .ok (.goto 53, 3) := dk_167 0 53 (dk_at dksX0_isCarterByte_0 18 rfl rfl)
theorem dX0_isCarterByte_21 : decode cX0_isCarterByte 21 = .ok (.iconst 0, 1) := dk_3 (dk_at dksX0_isCarterByte_0 21 rfl rfl)
theorem dX0_isCarterByte_22 : decode cX0_isCarterByte 22 = .ok (.goto 49, 3) := dk_167 0 49 (dk_at dksX0_isCarterByte_1 0 rfl rfl)
theorem dX0_isCarterByte_25 : decode cX0_isCarterByte 25 = .ok (.iload_n 2, 1) := dk_28 (dk_at dksX0_isCarterByte_1 3 rfl rfl)
theorem dX0_isCarterByte_26 : decode cX0_isCarterByte 26 = .ok (.iconst 2, 1) := dk_5 (dk_at dksX0_isCarterByte_1 4 rfl rfl)
theorem dX0_isCarterByte_27 : decode cX0_isCarterByte 27 = .ok (.if_icmp .ne 26, 3) := dk_160 0 26 (dk_at dksX0_isCarterByte_1 5 rfl rfl)
theorem dX0_isCarterByte_30 : decode cX0_isCarterByte 30 = .ok (.aload_n 0, 1) := dk_42 (dk_at dksX0_isCarterByte_1 8 rfl rfl)
theorem dX0_isCarterByte_31 : decode cX0_isCarterByte 31 = .ok (.iconst 1, 1) := dk_4 (dk_at dksX0_isCarterByte_1 9 rfl rfl)
theorem dX0_isCarterByte_32 : decode cX0_isCarterByte 32 = .ok (.iload_n 1, 1) := dk_27 (dk_at dksX0_isCarterByte_1 10 rfl rfl)
theorem dX0_isCarterByte_33 : decode cX0_isCarterByte 33 = .ok (.iload_n 2, 1) := dk_28 (dk_at dksX0_isCarterByte_1 11 rfl rfl)
theorem dX0_isCarterByte_34 : decode cX0_isCarterByte 34 = .ok (.iadd, 1) := dk_96 (dk_at dksX0_isCarterByte_1 12 rfl rfl)
theorem dX0_isCarterByte_35 : decode cX0_isCarterByte 35 = .ok (.invokevirtual 25, 3) := dk_182 0 25 (dk_at dksX0_isCarterByte_1 13 rfl rfl)
theorem dX0_isCarterByte_38 : decode cX0_isCarterByte 38 = .ok (.invokestatic 55, 3) := dk_184 0 55 (dk_at dksX0_isCarterByte_1 16 rfl rfl)
theorem dX0_isCarterByte_41 : decode cX0_isCarterByte 41 = .ok (.iconst (-1), 1) := dk_2 (dk_at dksX0_isCarterByte_1 19 rfl rfl)
theorem dX0_isCarterByte_42 : decode cX0_isCarterByte 42 = .ok (.if_icmp .eq 7, 3) := dk_159 0 7 (dk_at dksX0_isCarterByte_1 20 rfl rfl)
theorem dX0_isCarterByte_45 : decode cX0_isCarterByte 45 = .ok (.iconst 1, 1) := dk_4 (dk_at dksX0_isCarterByte_1 23 rfl rfl)
theorem dX0_isCarterByte_46 : decode cX0_isCarterByte 46 = .ok (.goto 25, 3) := dk_167 0 25 (dk_at dksX0_isCarterByte_2 0 rfl rfl)
theorem dX0_isCarterByte_49 : decode cX0_isCarterByte 49 = .ok (.iconst 0, 1) := dk_3 (dk_at dksX0_isCarterByte_2 3 rfl rfl)
theorem dX0_isCarterByte_50 : decode cX0_isCarterByte 50 = .ok (.goto 21, 3) := dk_167 0 21 (dk_at dksX0_isCarterByte_2 4 rfl rfl)
theorem dX0_isCarterByte_53 : decode cX0_isCarterByte 53 = .ok (.aload_n 0, 1) := dk_42 (dk_at dksX0_isCarterByte_2 7 rfl rfl)
theorem dX0_isCarterByte_54 : decode cX0_isCarterByte 54 = .ok (.iconst 1, 1) := dk_4 (dk_at dksX0_isCarterByte_2 8 rfl rfl)
theorem dX0_isCarterByte_55 : decode cX0_isCarterByte 55 = .ok (.iload_n 1, 1) := dk_27 (dk_at dksX0_isCarterByte_2 9 rfl rfl)
theorem dX0_isCarterByte_56 : decode cX0_isCarterByte 56 = .ok (.iload_n 2, 1) := dk_28 (dk_at dksX0_isCarterByte_2 10 rfl rfl)
theorem dX0_isCarterByte_57 : decode cX0_isCarterByte 57 = .ok (.iadd, 1) := dk_96 (dk_at dksX0_isCarterByte_2 11 rfl rfl)
theorem dX0_isCarterByte_58 : decode cX0_isCarterByte 58 = .ok (.iconst 0, 1) := dk_3 (dk_at dksX0_isCarterByte_2 12 rfl rfl)
theorem dX0_isCarterByte_59 : decode cX0_isCarterByte 59 = .ok (.invokevirtual 35, 3) := dk_182 0 35 (dk_at dksX0_isCarterByte_2 13 rfl rfl)
theorem dX0_isCarterByte_62 : decode cX0_isCarterByte 62 = .ok (.iconst (-1), 1) := dk_2 (dk_at dksX0_isCarterByte_2 16 rfl rfl)
theorem dX0_isCarterByte_63 : decode cX0_isCarterByte 63 = .ok (.if_icmp .eq 7, 3) := dk_159 0 7 (dk_at dksX0_isCarterByte_2 17 rfl rfl)
theorem dX0_isCarterByte_66 : decode cX0_isCarterByte 66 = .ok (.iconst 1, 1) := dk_4 (dk_at dksX0_isCarterByte_2 20 rfl rfl)
theorem dX0_isCarterByte_67 : decode cX0_isCarterByte 67 = .ok (.goto 4, 3) := dk_167 0 4 (dk_at dksX0_isCarterByte_2 21 rfl rfl)
theorem dX0_isCarterByte_70 : decode cX0_isCarterByte 70 = .ok (.iconst 0, 1) := dk_3 (dk_at dksX0_isCarterByte_3 0 rfl rfl)
theorem dX0_isCarterByte_71 : decode cX0_isCarterByte 71 = .ok (.ireturn, 1) := dk_172 (dk_at dksX0_isCarterByte_3 1 rfl rfl)
abbrev cX0_kindOf : ByteArray := prog_1_method_18_code
def yX0_kindOf : MethodName := ⟨RX0, "kindOf", "(I)I"⟩
def dkwX0_kindOf_1 : List UInt8 := [160, 0, 7, 5, 167, 0, 4, 2, 172]
abbrev dktX0_kindOf_1 : List UInt8 := dkwX0_kindOf_1 ++ []
def dkwX0_kindOf_0 : List UInt8 := [26, 16, 111, 160, 0, 7, 3, 167, 0, 24, 26, 16, 99, 160, 0, 7, 4, 167, 0, 14, 26, 16, 114]
abbrev dktX0_kindOf_0 : List UInt8 := dkwX0_kindOf_0 ++ dktX0_kindOf_1
theorem dksX0_kindOf_0 : cX0_kindOf.data.toList.drop 0 = dktX0_kindOf_0 := by decide +kernel
theorem dksX0_kindOf_1 : cX0_kindOf.data.toList.drop 23 = dktX0_kindOf_1 := dk_seg dksX0_kindOf_0 23 rfl rfl
theorem dX0_kindOf_0 : decode cX0_kindOf 0 = .ok (.iload_n 0, 1) := dk_26 (dk_at dksX0_kindOf_0 0 rfl rfl)
theorem dX0_kindOf_1 : decode cX0_kindOf 1 = .ok (.bipush 111, 2) := dk_16 111 (dk_at dksX0_kindOf_0 1 rfl rfl)
theorem dX0_kindOf_3 : decode cX0_kindOf 3 = .ok (.if_icmp .ne 7, 3) := dk_160 0 7 (dk_at dksX0_kindOf_0 3 rfl rfl)
theorem dX0_kindOf_6 : decode cX0_kindOf 6 = .ok (.iconst 0, 1) := dk_3 (dk_at dksX0_kindOf_0 6 rfl rfl)
theorem dX0_kindOf_7 : decode cX0_kindOf 7 = .ok (.goto 24, 3) := dk_167 0 24 (dk_at dksX0_kindOf_0 7 rfl rfl)
theorem dX0_kindOf_10 : decode cX0_kindOf 10 = .ok (.iload_n 0, 1) := dk_26 (dk_at dksX0_kindOf_0 10 rfl rfl)
theorem dX0_kindOf_11 : decode cX0_kindOf 11 = .ok (.bipush 99, 2) := dk_16 99 (dk_at dksX0_kindOf_0 11 rfl rfl)
theorem dX0_kindOf_13 : decode cX0_kindOf 13 = .ok (.if_icmp .ne 7, 3) := dk_160 0 7 (dk_at dksX0_kindOf_0 13 rfl rfl)
theorem dX0_kindOf_16 : decode cX0_kindOf 16 = .ok (.iconst 1, 1) := dk_4 (dk_at dksX0_kindOf_0 16 rfl rfl)
theorem dX0_kindOf_17 : decode cX0_kindOf 17 = .ok (.goto 14, 3) := dk_167 0 14 (dk_at dksX0_kindOf_0 17 rfl rfl)
theorem dX0_kindOf_20 : decode cX0_kindOf 20 = .ok (.iload_n 0, 1) := dk_26 (dk_at dksX0_kindOf_0 20 rfl rfl)
theorem dX0_kindOf_21 : decode cX0_kindOf 21 = .ok (.bipush 114, 2) := dk_16 114 (dk_at dksX0_kindOf_0 21 rfl rfl)
theorem dX0_kindOf_23 : decode cX0_kindOf 23 = .ok (.if_icmp .ne 7, 3) := dk_160 0 7 (dk_at dksX0_kindOf_1 0 rfl rfl)
theorem dX0_kindOf_26 : decode cX0_kindOf 26 = .ok (.iconst 2, 1) := dk_5 (dk_at dksX0_kindOf_1 3 rfl rfl)
theorem dX0_kindOf_27 : decode cX0_kindOf 27 = .ok (.goto 4, 3) := dk_167 0 4 (dk_at dksX0_kindOf_1 4 rfl rfl)
theorem dX0_kindOf_30 : decode cX0_kindOf 30 = .ok (.iconst (-1), 1) := dk_2 (dk_at dksX0_kindOf_1 7 rfl rfl)
theorem dX0_kindOf_31 : decode cX0_kindOf 31 = .ok (.ireturn, 1) := dk_172 (dk_at dksX0_kindOf_1 8 rfl rfl)
abbrev cX0_way : ByteArray := prog_1_method_29_code
def yX0_way : MethodName := ⟨RX0, "way", "(II)I"⟩
def dkwX0_way_1 : List UInt8 := [167, 0, 5, 16, 254, 172]
abbrev dktX0_way_1 : List UInt8 := dkwX0_way_1 ++ []
def dkwX0_way_0 : List UInt8 := [42, 27, 182, 0, 114, 153, 0, 21, 28, 3, 6, 184, 0, 5, 153, 0, 12, 42, 27, 28, 182, 0, 117]
abbrev dktX0_way_0 : List UInt8 := dkwX0_way_0 ++ dktX0_way_1
theorem dksX0_way_0 : cX0_way.data.toList.drop 0 = dktX0_way_0 := by decide +kernel
theorem dksX0_way_1 : cX0_way.data.toList.drop 23 = dktX0_way_1 := dk_seg dksX0_way_0 23 rfl rfl
theorem dX0_way_0 : decode cX0_way 0 = .ok (.aload_n 0, 1) := dk_42 (dk_at dksX0_way_0 0 rfl rfl)
theorem dX0_way_1 : decode cX0_way 1 = .ok (.iload_n 1, 1) := dk_27 (dk_at dksX0_way_0 1 rfl rfl)
theorem dX0_way_2 : decode cX0_way 2 = .ok (.invokevirtual 114, 3) := dk_182 0 114 (dk_at dksX0_way_0 2 rfl rfl)
theorem dX0_way_5 : decode cX0_way 5 = .ok (.ifCond .eq 21, 3) := dk_153 0 21 (dk_at dksX0_way_0 5 rfl rfl)
theorem dX0_way_8 : decode cX0_way 8 = .ok (.iload_n 2, 1) := dk_28 (dk_at dksX0_way_0 8 rfl rfl)
theorem dX0_way_9 : decode cX0_way 9 = .ok (.iconst 0, 1) := dk_3 (dk_at dksX0_way_0 9 rfl rfl)
theorem dX0_way_10 : decode cX0_way 10 = .ok (.iconst 3, 1) := dk_6 (dk_at dksX0_way_0 10 rfl rfl)
theorem dX0_way_11 : decode cX0_way 11 = .ok (.invokestatic 5, 3) := dk_184 0 5 (dk_at dksX0_way_0 11 rfl rfl)
theorem dX0_way_14 : decode cX0_way 14 = .ok (.ifCond .eq 12, 3) := dk_153 0 12 (dk_at dksX0_way_0 14 rfl rfl)
theorem dX0_way_17 : decode cX0_way 17 = .ok (.aload_n 0, 1) := dk_42 (dk_at dksX0_way_0 17 rfl rfl)
theorem dX0_way_18 : decode cX0_way 18 = .ok (.iload_n 1, 1) := dk_27 (dk_at dksX0_way_0 18 rfl rfl)
theorem dX0_way_19 : decode cX0_way 19 = .ok (.iload_n 2, 1) := dk_28 (dk_at dksX0_way_0 19 rfl rfl)
theorem dX0_way_20 : decode cX0_way 20 = .ok (.invokevirtual 117, 3) := dk_182 0 117 (dk_at dksX0_way_0 20 rfl rfl)
theorem dX0_way_23 : decode cX0_way 23 = .ok (.goto 5, 3) := dk_167 0 5 (dk_at dksX0_way_1 0 rfl rfl)
theorem dX0_way_26 : decode cX0_way 26 = .ok (.bipush (-2), 2) := dk_16 254 (dk_at dksX0_way_1 3 rfl rfl)
theorem dX0_way_28 : decode cX0_way 28 = .ok (.ireturn, 1) := dk_172 (dk_at dksX0_way_1 5 rfl rfl)
abbrev cX0_isWay : ByteArray := prog_1_method_26_code
def yX0_isWay : MethodName := ⟨RX0, "isWay", "(I)Z"⟩
def dkwX0_isWay_0 : List UInt8 := [42, 182, 0, 107, 27, 3, 42, 180, 0, 95, 4, 100, 184, 0, 5, 172]
abbrev dktX0_isWay_0 : List UInt8 := dkwX0_isWay_0 ++ []
theorem dksX0_isWay_0 : cX0_isWay.data.toList.drop 0 = dktX0_isWay_0 := by decide +kernel
theorem dX0_isWay_0 : decode cX0_isWay 0 = .ok (.aload_n 0, 1) := dk_42 (dk_at dksX0_isWay_0 0 rfl rfl)
theorem dX0_isWay_1 : decode cX0_isWay 1 = .ok (.invokevirtual 107, 3) := dk_182 0 107 (dk_at dksX0_isWay_0 1 rfl rfl)
theorem dX0_isWay_4 : decode cX0_isWay 4 = .ok (.iload_n 1, 1) := dk_27 (dk_at dksX0_isWay_0 4 rfl rfl)
theorem dX0_isWay_5 : decode cX0_isWay 5 = .ok (.iconst 0, 1) := dk_3 (dk_at dksX0_isWay_0 5 rfl rfl)
theorem dX0_isWay_6 : decode cX0_isWay 6 = .ok (.aload_n 0, 1) := dk_42 (dk_at dksX0_isWay_0 6 rfl rfl)
theorem dX0_isWay_7 : decode cX0_isWay 7 = .ok (.getfield 95, 3) := dk_180 0 95 (dk_at dksX0_isWay_0 7 rfl rfl)
theorem dX0_isWay_10 : decode cX0_isWay 10 = .ok (.iconst 1, 1) := dk_4 (dk_at dksX0_isWay_0 10 rfl rfl)
theorem dX0_isWay_11 : decode cX0_isWay 11 = .ok (.isub, 1) := dk_100 (dk_at dksX0_isWay_0 11 rfl rfl)
theorem dX0_isWay_12 : decode cX0_isWay 12 = .ok (.invokestatic 5, 3) := dk_184 0 5 (dk_at dksX0_isWay_0 12 rfl rfl)
theorem dX0_isWay_15 : decode cX0_isWay 15 = .ok (.ireturn, 1) := dk_172 (dk_at dksX0_isWay_0 15 rfl rfl)
abbrev cX0_wayOf : ByteArray := prog_1_method_28_code
def yX0_wayOf : MethodName := ⟨RX0, "wayOf", "(II)I"⟩
def dkwX0_wayOf_1 : List UInt8 := [167, 0, 23, 28, 5, 160, 0, 12, 42, 180, 0, 49, 27, 46, 167, 0, 9, 42, 180, 0, 52, 27, 46, 172]
abbrev dktX0_wayOf_1 : List UInt8 := dkwX0_wayOf_1 ++ []
def dkwX0_wayOf_0 : List UInt8 := [28, 154, 0, 12, 42, 180, 0, 43, 27, 46, 167, 0, 37, 28, 4, 160, 0, 12, 42, 180, 0, 46, 27, 46]
abbrev dktX0_wayOf_0 : List UInt8 := dkwX0_wayOf_0 ++ dktX0_wayOf_1
theorem dksX0_wayOf_0 : cX0_wayOf.data.toList.drop 0 = dktX0_wayOf_0 := by decide +kernel
theorem dksX0_wayOf_1 : cX0_wayOf.data.toList.drop 24 = dktX0_wayOf_1 := dk_seg dksX0_wayOf_0 24 rfl rfl
theorem dX0_wayOf_0 : decode cX0_wayOf 0 = .ok (.iload_n 2, 1) := dk_28 (dk_at dksX0_wayOf_0 0 rfl rfl)
theorem dX0_wayOf_1 : decode cX0_wayOf 1 = .ok (.ifCond .ne 12, 3) := dk_154 0 12 (dk_at dksX0_wayOf_0 1 rfl rfl)
theorem dX0_wayOf_4 : decode cX0_wayOf 4 = .ok (.aload_n 0, 1) := dk_42 (dk_at dksX0_wayOf_0 4 rfl rfl)
theorem dX0_wayOf_5 : decode cX0_wayOf 5 = .ok (.getfield 43, 3) := dk_180 0 43 (dk_at dksX0_wayOf_0 5 rfl rfl)
theorem dX0_wayOf_8 : decode cX0_wayOf 8 = .ok (.iload_n 1, 1) := dk_27 (dk_at dksX0_wayOf_0 8 rfl rfl)
theorem dX0_wayOf_9 : decode cX0_wayOf 9 = .ok (.iaload, 1) := dk_46 (dk_at dksX0_wayOf_0 9 rfl rfl)
theorem dX0_wayOf_10 : decode cX0_wayOf 10 = .ok (.goto 37, 3) := dk_167 0 37 (dk_at dksX0_wayOf_0 10 rfl rfl)
theorem dX0_wayOf_13 : decode cX0_wayOf 13 = .ok (.iload_n 2, 1) := dk_28 (dk_at dksX0_wayOf_0 13 rfl rfl)
theorem dX0_wayOf_14 : decode cX0_wayOf 14 = .ok (.iconst 1, 1) := dk_4 (dk_at dksX0_wayOf_0 14 rfl rfl)
theorem dX0_wayOf_15 : decode cX0_wayOf 15 = .ok (.if_icmp .ne 12, 3) := dk_160 0 12 (dk_at dksX0_wayOf_0 15 rfl rfl)
theorem dX0_wayOf_18 : decode cX0_wayOf 18 = .ok (.aload_n 0, 1) := dk_42 (dk_at dksX0_wayOf_0 18 rfl rfl)
theorem dX0_wayOf_19 : decode cX0_wayOf 19 = .ok (.getfield 46, 3) := dk_180 0 46 (dk_at dksX0_wayOf_0 19 rfl rfl)
theorem dX0_wayOf_22 : decode cX0_wayOf 22 = .ok (.iload_n 1, 1) := dk_27 (dk_at dksX0_wayOf_0 22 rfl rfl)
theorem dX0_wayOf_23 : decode cX0_wayOf 23 = .ok (.iaload, 1) := dk_46 (dk_at dksX0_wayOf_0 23 rfl rfl)
theorem dX0_wayOf_24 : decode cX0_wayOf 24 = .ok (.goto 23, 3) := dk_167 0 23 (dk_at dksX0_wayOf_1 0 rfl rfl)
theorem dX0_wayOf_27 : decode cX0_wayOf 27 = .ok (.iload_n 2, 1) := dk_28 (dk_at dksX0_wayOf_1 3 rfl rfl)
theorem dX0_wayOf_28 : decode cX0_wayOf 28 = .ok (.iconst 2, 1) := dk_5 (dk_at dksX0_wayOf_1 4 rfl rfl)
theorem dX0_wayOf_29 : decode cX0_wayOf 29 = .ok (.if_icmp .ne 12, 3) := dk_160 0 12 (dk_at dksX0_wayOf_1 5 rfl rfl)
theorem dX0_wayOf_32 : decode cX0_wayOf 32 = .ok (.aload_n 0, 1) := dk_42 (dk_at dksX0_wayOf_1 8 rfl rfl)
theorem dX0_wayOf_33 : decode cX0_wayOf 33 = .ok (.getfield 49, 3) := dk_180 0 49 (dk_at dksX0_wayOf_1 9 rfl rfl)
theorem dX0_wayOf_36 : decode cX0_wayOf 36 = .ok (.iload_n 1, 1) := dk_27 (dk_at dksX0_wayOf_1 12 rfl rfl)
theorem dX0_wayOf_37 : decode cX0_wayOf 37 = .ok (.iaload, 1) := dk_46 (dk_at dksX0_wayOf_1 13 rfl rfl)
theorem dX0_wayOf_38 : decode cX0_wayOf 38 = .ok (.goto 9, 3) := dk_167 0 9 (dk_at dksX0_wayOf_1 14 rfl rfl)
theorem dX0_wayOf_41 : decode cX0_wayOf 41 = .ok (.aload_n 0, 1) := dk_42 (dk_at dksX0_wayOf_1 17 rfl rfl)
theorem dX0_wayOf_42 : decode cX0_wayOf 42 = .ok (.getfield 52, 3) := dk_180 0 52 (dk_at dksX0_wayOf_1 18 rfl rfl)
theorem dX0_wayOf_45 : decode cX0_wayOf 45 = .ok (.iload_n 1, 1) := dk_27 (dk_at dksX0_wayOf_1 21 rfl rfl)
theorem dX0_wayOf_46 : decode cX0_wayOf 46 = .ok (.iaload, 1) := dk_46 (dk_at dksX0_wayOf_1 22 rfl rfl)
theorem dX0_wayOf_47 : decode cX0_wayOf 47 = .ok (.ireturn, 1) := dk_172 (dk_at dksX0_wayOf_1 23 rfl rfl)
abbrev cX0_carter : ByteArray := prog_1_method_31_code
def yX0_carter : MethodName := ⟨RX0, "carter", "(II)I"⟩
def dkwX0_carter_1 : List UInt8 := [167, 0, 5, 16, 254, 172]
abbrev dktX0_carter_1 : List UInt8 := dkwX0_carter_1 ++ []
def dkwX0_carter_0 : List UInt8 := [42, 27, 182, 0, 126, 153, 0, 21, 28, 3, 7, 184, 0, 5, 153, 0, 12, 42, 27, 28, 182, 0, 129]
abbrev dktX0_carter_0 : List UInt8 := dkwX0_carter_0 ++ dktX0_carter_1
theorem dksX0_carter_0 : cX0_carter.data.toList.drop 0 = dktX0_carter_0 := by decide +kernel
theorem dksX0_carter_1 : cX0_carter.data.toList.drop 23 = dktX0_carter_1 := dk_seg dksX0_carter_0 23 rfl rfl
theorem dX0_carter_0 : decode cX0_carter 0 = .ok (.aload_n 0, 1) := dk_42 (dk_at dksX0_carter_0 0 rfl rfl)
theorem dX0_carter_1 : decode cX0_carter 1 = .ok (.iload_n 1, 1) := dk_27 (dk_at dksX0_carter_0 1 rfl rfl)
theorem dX0_carter_2 : decode cX0_carter 2 = .ok (.invokevirtual 126, 3) := dk_182 0 126 (dk_at dksX0_carter_0 2 rfl rfl)
theorem dX0_carter_5 : decode cX0_carter 5 = .ok (.ifCond .eq 21, 3) := dk_153 0 21 (dk_at dksX0_carter_0 5 rfl rfl)
theorem dX0_carter_8 : decode cX0_carter 8 = .ok (.iload_n 2, 1) := dk_28 (dk_at dksX0_carter_0 8 rfl rfl)
theorem dX0_carter_9 : decode cX0_carter 9 = .ok (.iconst 0, 1) := dk_3 (dk_at dksX0_carter_0 9 rfl rfl)
theorem dX0_carter_10 : decode cX0_carter 10 = .ok (.iconst 4, 1) := dk_7 (dk_at dksX0_carter_0 10 rfl rfl)
theorem dX0_carter_11 : decode cX0_carter 11 = .ok (.invokestatic 5, 3) := dk_184 0 5 (dk_at dksX0_carter_0 11 rfl rfl)
theorem dX0_carter_14 : decode cX0_carter 14 = .ok (.ifCond .eq 12, 3) := dk_153 0 12 (dk_at dksX0_carter_0 14 rfl rfl)
theorem dX0_carter_17 : decode cX0_carter 17 = .ok (.aload_n 0, 1) := dk_42 (dk_at dksX0_carter_0 17 rfl rfl)
theorem dX0_carter_18 : decode cX0_carter 18 = .ok (.iload_n 1, 1) := dk_27 (dk_at dksX0_carter_0 18 rfl rfl)
theorem dX0_carter_19 : decode cX0_carter 19 = .ok (.iload_n 2, 1) := dk_28 (dk_at dksX0_carter_0 19 rfl rfl)
theorem dX0_carter_20 : decode cX0_carter 20 = .ok (.invokevirtual 129, 3) := dk_182 0 129 (dk_at dksX0_carter_0 20 rfl rfl)
theorem dX0_carter_23 : decode cX0_carter 23 = .ok (.goto 5, 3) := dk_167 0 5 (dk_at dksX0_carter_1 0 rfl rfl)
theorem dX0_carter_26 : decode cX0_carter 26 = .ok (.bipush (-2), 2) := dk_16 254 (dk_at dksX0_carter_1 3 rfl rfl)
theorem dX0_carter_28 : decode cX0_carter 28 = .ok (.ireturn, 1) := dk_172 (dk_at dksX0_carter_1 5 rfl rfl)
abbrev cX0_isCarter : ByteArray := prog_1_method_27_code
def yX0_isCarter : MethodName := ⟨RX0, "isCarter", "(I)Z"⟩
def dkwX0_isCarter_0 : List UInt8 := [42, 182, 0, 107, 27, 3, 42, 180, 0, 98, 4, 100, 184, 0, 5, 172]
abbrev dktX0_isCarter_0 : List UInt8 := dkwX0_isCarter_0 ++ []
theorem dksX0_isCarter_0 : cX0_isCarter.data.toList.drop 0 = dktX0_isCarter_0 := by decide +kernel
theorem dX0_isCarter_0 : decode cX0_isCarter 0 = .ok (.aload_n 0, 1) := dk_42 (dk_at dksX0_isCarter_0 0 rfl rfl)
theorem dX0_isCarter_1 : decode cX0_isCarter 1 = .ok (.invokevirtual 107, 3) := dk_182 0 107 (dk_at dksX0_isCarter_0 1 rfl rfl)
theorem dX0_isCarter_4 : decode cX0_isCarter 4 = .ok (.iload_n 1, 1) := dk_27 (dk_at dksX0_isCarter_0 4 rfl rfl)
theorem dX0_isCarter_5 : decode cX0_isCarter 5 = .ok (.iconst 0, 1) := dk_3 (dk_at dksX0_isCarter_0 5 rfl rfl)
theorem dX0_isCarter_6 : decode cX0_isCarter 6 = .ok (.aload_n 0, 1) := dk_42 (dk_at dksX0_isCarter_0 6 rfl rfl)
theorem dX0_isCarter_7 : decode cX0_isCarter 7 = .ok (.getfield 98, 3) := dk_180 0 98 (dk_at dksX0_isCarter_0 7 rfl rfl)
theorem dX0_isCarter_10 : decode cX0_isCarter 10 = .ok (.iconst 1, 1) := dk_4 (dk_at dksX0_isCarter_0 10 rfl rfl)
theorem dX0_isCarter_11 : decode cX0_isCarter 11 = .ok (.isub, 1) := dk_100 (dk_at dksX0_isCarter_0 11 rfl rfl)
theorem dX0_isCarter_12 : decode cX0_isCarter 12 = .ok (.invokestatic 5, 3) := dk_184 0 5 (dk_at dksX0_isCarter_0 12 rfl rfl)
theorem dX0_isCarter_15 : decode cX0_isCarter 15 = .ok (.ireturn, 1) := dk_172 (dk_at dksX0_isCarter_0 15 rfl rfl)
abbrev cX0_carterOf : ByteArray := prog_1_method_30_code
def yX0_carterOf : MethodName := ⟨RX0, "carterOf", "(II)I"⟩
def dkwX0_carterOf_2 : List UInt8 := [160, 0, 10, 45, 180, 0, 83, 167, 0, 7, 45, 180, 0, 86, 172]
abbrev dktX0_carterOf_2 : List UInt8 := dkwX0_carterOf_2 ++ []
def dkwX0_carterOf_1 : List UInt8 := [180, 0, 72, 167, 0, 34, 28, 5, 160, 0, 13, 45, 180, 0, 79, 182, 0, 120, 167, 0, 19, 28, 6]
abbrev dktX0_carterOf_1 : List UInt8 := dkwX0_carterOf_1 ++ dktX0_carterOf_2
def dkwX0_carterOf_0 : List UInt8 := [42, 180, 0, 62, 27, 50, 78, 28, 154, 0, 10, 45, 180, 0, 66, 167, 0, 46, 28, 4, 160, 0, 10, 45]
abbrev dktX0_carterOf_0 : List UInt8 := dkwX0_carterOf_0 ++ dktX0_carterOf_1
theorem dksX0_carterOf_0 : cX0_carterOf.data.toList.drop 0 = dktX0_carterOf_0 := by decide +kernel
theorem dksX0_carterOf_1 : cX0_carterOf.data.toList.drop 24 = dktX0_carterOf_1 := dk_seg dksX0_carterOf_0 24 rfl rfl
theorem dksX0_carterOf_2 : cX0_carterOf.data.toList.drop 47 = dktX0_carterOf_2 := dk_seg dksX0_carterOf_1 23 rfl rfl
theorem dX0_carterOf_0 : decode cX0_carterOf 0 = .ok (.aload_n 0, 1) := dk_42 (dk_at dksX0_carterOf_0 0 rfl rfl)
theorem dX0_carterOf_1 : decode cX0_carterOf 1 = .ok (.getfield 62, 3) := dk_180 0 62 (dk_at dksX0_carterOf_0 1 rfl rfl)
theorem dX0_carterOf_4 : decode cX0_carterOf 4 = .ok (.iload_n 1, 1) := dk_27 (dk_at dksX0_carterOf_0 4 rfl rfl)
theorem dX0_carterOf_5 : decode cX0_carterOf 5 = .ok (.aaload, 1) := dk_50 (dk_at dksX0_carterOf_0 5 rfl rfl)
theorem dX0_carterOf_6 : decode cX0_carterOf 6 = .ok (.astore_n 3, 1) := dk_78 (dk_at dksX0_carterOf_0 6 rfl rfl)
theorem dX0_carterOf_7 : decode cX0_carterOf 7 = .ok (.iload_n 2, 1) := dk_28 (dk_at dksX0_carterOf_0 7 rfl rfl)
theorem dX0_carterOf_8 : decode cX0_carterOf 8 = .ok (.ifCond .ne 10, 3) := dk_154 0 10 (dk_at dksX0_carterOf_0 8 rfl rfl)
theorem dX0_carterOf_11 : decode cX0_carterOf 11 = .ok (.aload_n 3, 1) := dk_45 (dk_at dksX0_carterOf_0 11 rfl rfl)
theorem dX0_carterOf_12 : decode cX0_carterOf 12 = .ok (.getfield 66, 3) := dk_180 0 66 (dk_at dksX0_carterOf_0 12 rfl rfl)
theorem dX0_carterOf_15 : decode cX0_carterOf 15 = .ok (.goto 46, 3) := dk_167 0 46 (dk_at dksX0_carterOf_0 15 rfl rfl)
theorem dX0_carterOf_18 : decode cX0_carterOf 18 = .ok (.iload_n 2, 1) := dk_28 (dk_at dksX0_carterOf_0 18 rfl rfl)
theorem dX0_carterOf_19 : decode cX0_carterOf 19 = .ok (.iconst 1, 1) := dk_4 (dk_at dksX0_carterOf_0 19 rfl rfl)
theorem dX0_carterOf_20 : decode cX0_carterOf 20 = .ok (.if_icmp .ne 10, 3) := dk_160 0 10 (dk_at dksX0_carterOf_0 20 rfl rfl)
theorem dX0_carterOf_23 : decode cX0_carterOf 23 = .ok (.aload_n 3, 1) := dk_45 (dk_at dksX0_carterOf_0 23 rfl rfl)
theorem dX0_carterOf_24 : decode cX0_carterOf 24 = .ok (.getfield 72, 3) := dk_180 0 72 (dk_at dksX0_carterOf_1 0 rfl rfl)
theorem dX0_carterOf_27 : decode cX0_carterOf 27 = .ok (.goto 34, 3) := dk_167 0 34 (dk_at dksX0_carterOf_1 3 rfl rfl)
theorem dX0_carterOf_30 : decode cX0_carterOf 30 = .ok (.iload_n 2, 1) := dk_28 (dk_at dksX0_carterOf_1 6 rfl rfl)
theorem dX0_carterOf_31 : decode cX0_carterOf 31 = .ok (.iconst 2, 1) := dk_5 (dk_at dksX0_carterOf_1 7 rfl rfl)
theorem dX0_carterOf_32 : decode cX0_carterOf 32 = .ok (.if_icmp .ne 13, 3) := dk_160 0 13 (dk_at dksX0_carterOf_1 8 rfl rfl)
theorem dX0_carterOf_35 : decode cX0_carterOf 35 = .ok (.aload_n 3, 1) := dk_45 (dk_at dksX0_carterOf_1 11 rfl rfl)
theorem dX0_carterOf_36 : decode cX0_carterOf 36 = .ok (.getfield 79, 3) := dk_180 0 79 (dk_at dksX0_carterOf_1 12 rfl rfl)
theorem dX0_carterOf_39 : decode cX0_carterOf 39 = .ok (.invokevirtual 120, 3) := dk_182 0 120 (dk_at dksX0_carterOf_1 15 rfl rfl)
theorem dX0_carterOf_42 : decode cX0_carterOf 42 = .ok (.goto 19, 3) := dk_167 0 19 (dk_at dksX0_carterOf_1 18 rfl rfl)
theorem dX0_carterOf_45 : decode cX0_carterOf 45 = .ok (.iload_n 2, 1) := dk_28 (dk_at dksX0_carterOf_1 21 rfl rfl)
theorem dX0_carterOf_46 : decode cX0_carterOf 46 = .ok (.iconst 3, 1) := dk_6 (dk_at dksX0_carterOf_1 22 rfl rfl)
theorem dX0_carterOf_47 : decode cX0_carterOf 47 = .ok (.if_icmp .ne 10, 3) := dk_160 0 10 (dk_at dksX0_carterOf_2 0 rfl rfl)
theorem dX0_carterOf_50 : decode cX0_carterOf 50 = .ok (.aload_n 3, 1) := dk_45 (dk_at dksX0_carterOf_2 3 rfl rfl)
theorem dX0_carterOf_51 : decode cX0_carterOf 51 = .ok (.getfield 83, 3) := dk_180 0 83 (dk_at dksX0_carterOf_2 4 rfl rfl)
theorem dX0_carterOf_54 : decode cX0_carterOf 54 = .ok (.goto 7, 3) := dk_167 0 7 (dk_at dksX0_carterOf_2 7 rfl rfl)
theorem dX0_carterOf_57 : decode cX0_carterOf 57 = .ok (.aload_n 3, 1) := dk_45 (dk_at dksX0_carterOf_2 10 rfl rfl)
theorem dX0_carterOf_58 : decode cX0_carterOf 58 = .ok (.getfield 86, 3) := dk_180 0 86 (dk_at dksX0_carterOf_2 11 rfl rfl)
theorem dX0_carterOf_61 : decode cX0_carterOf 61 = .ok (.ireturn, 1) := dk_172 (dk_at dksX0_carterOf_2 14 rfl rfl)
abbrev cX0_late : ByteArray := prog_1_method_32_code
def yX0_late : MethodName := ⟨RX0, "late", "(II)I"⟩
def dkwX0_late_1 : List UInt8 := [27, 50, 180, 0, 135, 62, 42, 180, 0, 62, 27, 50, 28, 181, 0, 135, 29, 172]
abbrev dktX0_late_1 : List UInt8 := dkwX0_late_1 ++ []
def dkwX0_late_0 : List UInt8 := [27, 184, 0, 132, 153, 0, 13, 28, 3, 16, 9, 184, 0, 5, 154, 0, 6, 16, 254, 172, 42, 180, 0, 62]
abbrev dktX0_late_0 : List UInt8 := dkwX0_late_0 ++ dktX0_late_1
theorem dksX0_late_0 : cX0_late.data.toList.drop 0 = dktX0_late_0 := by decide +kernel
theorem dksX0_late_1 : cX0_late.data.toList.drop 24 = dktX0_late_1 := dk_seg dksX0_late_0 24 rfl rfl
theorem dX0_late_0 : decode cX0_late 0 = .ok (.iload_n 1, 1) := dk_27 (dk_at dksX0_late_0 0 rfl rfl)
theorem dX0_late_1 : decode cX0_late 1 = .ok (.invokestatic 132, 3) := dk_184 0 132 (dk_at dksX0_late_0 1 rfl rfl)
theorem dX0_late_4 : decode cX0_late 4 = .ok (.ifCond .eq 13, 3) := dk_153 0 13 (dk_at dksX0_late_0 4 rfl rfl)
theorem dX0_late_7 : decode cX0_late 7 = .ok (.iload_n 2, 1) := dk_28 (dk_at dksX0_late_0 7 rfl rfl)
theorem dX0_late_8 : decode cX0_late 8 = .ok (.iconst 0, 1) := dk_3 (dk_at dksX0_late_0 8 rfl rfl)
theorem dX0_late_9 : decode cX0_late 9 = .ok (.bipush 9, 2) := dk_16 9 (dk_at dksX0_late_0 9 rfl rfl)
theorem dX0_late_11 : decode cX0_late 11 = .ok (.invokestatic 5, 3) := dk_184 0 5 (dk_at dksX0_late_0 11 rfl rfl)
theorem dX0_late_14 : decode cX0_late 14 = .ok (.ifCond .ne 6, 3) := dk_154 0 6 (dk_at dksX0_late_0 14 rfl rfl)
theorem dX0_late_17 : decode cX0_late 17 = .ok (.bipush (-2), 2) := dk_16 254 (dk_at dksX0_late_0 17 rfl rfl)
theorem dX0_late_19 : decode cX0_late 19 = .ok (.ireturn, 1) := dk_172 (dk_at dksX0_late_0 19 rfl rfl)
theorem dX0_late_20 : decode cX0_late 20 = .ok (.aload_n 0, 1) := dk_42 (dk_at dksX0_late_0 20 rfl rfl)
theorem dX0_late_21 : decode cX0_late 21 = .ok (.getfield 62, 3) := dk_180 0 62 (dk_at dksX0_late_0 21 rfl rfl)
theorem dX0_late_24 : decode cX0_late 24 = .ok (.iload_n 1, 1) := dk_27 (dk_at dksX0_late_1 0 rfl rfl)
theorem dX0_late_25 : decode cX0_late 25 = .ok (.aaload, 1) := dk_50 (dk_at dksX0_late_1 1 rfl rfl)
theorem dX0_late_26 : decode cX0_late 26 = .ok (.getfield 135, 3) := dk_180 0 135 (dk_at dksX0_late_1 2 rfl rfl)
theorem dX0_late_29 : decode cX0_late 29 = .ok (.istore_n 3, 1) := dk_62 (dk_at dksX0_late_1 5 rfl rfl)
theorem dX0_late_30 : decode cX0_late 30 = .ok (.aload_n 0, 1) := dk_42 (dk_at dksX0_late_1 6 rfl rfl)
theorem dX0_late_31 : decode cX0_late 31 = .ok (.getfield 62, 3) := dk_180 0 62 (dk_at dksX0_late_1 7 rfl rfl)
theorem dX0_late_34 : decode cX0_late 34 = .ok (.iload_n 1, 1) := dk_27 (dk_at dksX0_late_1 10 rfl rfl)
theorem dX0_late_35 : decode cX0_late 35 = .ok (.aaload, 1) := dk_50 (dk_at dksX0_late_1 11 rfl rfl)
theorem dX0_late_36 : decode cX0_late 36 = .ok (.iload_n 2, 1) := dk_28 (dk_at dksX0_late_1 12 rfl rfl)
theorem dX0_late_37 : decode cX0_late 37 = .ok (.putfield 135, 3) := dk_181 0 135 (dk_at dksX0_late_1 13 rfl rfl)
theorem dX0_late_40 : decode cX0_late 40 = .ok (.iload_n 3, 1) := dk_29 (dk_at dksX0_late_1 16 rfl rfl)
theorem dX0_late_41 : decode cX0_late 41 = .ok (.ireturn, 1) := dk_172 (dk_at dksX0_late_1 17 rfl rfl)
abbrev cX0_isEight : ByteArray := prog_1_method_9_code
def yX0_isEight : MethodName := ⟨RX0, "isEight", "(I)Z"⟩
def dkwX0_isEight_0 : List UInt8 := [26, 3, 16, 7, 184, 0, 5, 172]
abbrev dktX0_isEight_0 : List UInt8 := dkwX0_isEight_0 ++ []
theorem dksX0_isEight_0 : cX0_isEight.data.toList.drop 0 = dktX0_isEight_0 := by decide +kernel
theorem dX0_isEight_0 : decode cX0_isEight 0 = .ok (.iload_n 0, 1) := dk_26 (dk_at dksX0_isEight_0 0 rfl rfl)
theorem dX0_isEight_1 : decode cX0_isEight 1 = .ok (.iconst 0, 1) := dk_3 (dk_at dksX0_isEight_0 1 rfl rfl)
theorem dX0_isEight_2 : decode cX0_isEight 2 = .ok (.bipush 7, 2) := dk_16 7 (dk_at dksX0_isEight_0 2 rfl rfl)
theorem dX0_isEight_4 : decode cX0_isEight 4 = .ok (.invokestatic 5, 3) := dk_184 0 5 (dk_at dksX0_isEight_0 4 rfl rfl)
theorem dX0_isEight_7 : decode cX0_isEight 7 = .ok (.ireturn, 1) := dk_172 (dk_at dksX0_isEight_0 7 rfl rfl)
abbrev cX0_answer : ByteArray := prog_1_method_34_code
def yX0_answer : MethodName := ⟨RX0, "answer", "(II)I"⟩
def dkwX0_answer_0 : List UInt8 := [42, 27, 28, 182, 0, 150, 172]
abbrev dktX0_answer_0 : List UInt8 := dkwX0_answer_0 ++ []
theorem dksX0_answer_0 : cX0_answer.data.toList.drop 0 = dktX0_answer_0 := by decide +kernel
theorem dX0_answer_0 : decode cX0_answer 0 = .ok (.aload_n 0, 1) := dk_42 (dk_at dksX0_answer_0 0 rfl rfl)
theorem dX0_answer_1 : decode cX0_answer 1 = .ok (.iload_n 1, 1) := dk_27 (dk_at dksX0_answer_0 1 rfl rfl)
theorem dX0_answer_2 : decode cX0_answer 2 = .ok (.iload_n 2, 1) := dk_28 (dk_at dksX0_answer_0 2 rfl rfl)
theorem dX0_answer_3 : decode cX0_answer 3 = .ok (.invokevirtual 150, 3) := dk_182 0 150 (dk_at dksX0_answer_0 3 rfl rfl)
theorem dX0_answer_6 : decode cX0_answer 6 = .ok (.ireturn, 1) := dk_172 (dk_at dksX0_answer_0 6 rfl rfl)
abbrev cX0_more : ByteArray := prog_1_method_33_code
def yX0_more : MethodName := ⟨RX0, "more", "(II)I"⟩
def dkwX0_more_2 : List UInt8 := [28, 79, 42, 89, 180, 0, 141, 4, 96, 181, 0, 141, 42, 180, 0, 141, 172]
abbrev dktX0_more_2 : List UInt8 := dkwX0_more_2 ++ []
def dkwX0_more_1 : List UInt8 := [160, 0, 6, 16, 252, 172, 42, 180, 0, 144, 42, 180, 0, 141, 27, 79, 42, 180, 0, 147, 42, 180, 0, 141]
abbrev dktX0_more_1 : List UInt8 := dkwX0_more_1 ++ dktX0_more_2
def dkwX0_more_0 : List UInt8 := [27, 184, 0, 138, 153, 0, 10, 28, 184, 0, 29, 154, 0, 6, 16, 254, 172, 42, 180, 0, 141, 16, 8]
abbrev dktX0_more_0 : List UInt8 := dkwX0_more_0 ++ dktX0_more_1
theorem dksX0_more_0 : cX0_more.data.toList.drop 0 = dktX0_more_0 := by decide +kernel
theorem dksX0_more_1 : cX0_more.data.toList.drop 23 = dktX0_more_1 := dk_seg dksX0_more_0 23 rfl rfl
theorem dksX0_more_2 : cX0_more.data.toList.drop 47 = dktX0_more_2 := dk_seg dksX0_more_1 24 rfl rfl
theorem dX0_more_0 : decode cX0_more 0 = .ok (.iload_n 1, 1) := dk_27 (dk_at dksX0_more_0 0 rfl rfl)
theorem dX0_more_1 : decode cX0_more 1 = .ok (.invokestatic 138, 3) := dk_184 0 138 (dk_at dksX0_more_0 1 rfl rfl)
theorem dX0_more_4 : decode cX0_more 4 = .ok (.ifCond .eq 10, 3) := dk_153 0 10 (dk_at dksX0_more_0 4 rfl rfl)
theorem dX0_more_7 : decode cX0_more 7 = .ok (.iload_n 2, 1) := dk_28 (dk_at dksX0_more_0 7 rfl rfl)
theorem dX0_more_8 : decode cX0_more 8 = .ok (.invokestatic 29, 3) := dk_184 0 29 (dk_at dksX0_more_0 8 rfl rfl)
theorem dX0_more_11 : decode cX0_more 11 = .ok (.ifCond .ne 6, 3) := dk_154 0 6 (dk_at dksX0_more_0 11 rfl rfl)
theorem dX0_more_14 : decode cX0_more 14 = .ok (.bipush (-2), 2) := dk_16 254 (dk_at dksX0_more_0 14 rfl rfl)
theorem dX0_more_16 : decode cX0_more 16 = .ok (.ireturn, 1) := dk_172 (dk_at dksX0_more_0 16 rfl rfl)
theorem dX0_more_17 : decode cX0_more 17 = .ok (.aload_n 0, 1) := dk_42 (dk_at dksX0_more_0 17 rfl rfl)
theorem dX0_more_18 : decode cX0_more 18 = .ok (.getfield 141, 3) := dk_180 0 141 (dk_at dksX0_more_0 18 rfl rfl)
theorem dX0_more_21 : decode cX0_more 21 = .ok (.bipush 8, 2) := dk_16 8 (dk_at dksX0_more_0 21 rfl rfl)
theorem dX0_more_23 : decode cX0_more 23 = .ok (.if_icmp .ne 6, 3) := dk_160 0 6 (dk_at dksX0_more_1 0 rfl rfl)
theorem dX0_more_26 : decode cX0_more 26 = .ok (.bipush (-4), 2) := dk_16 252 (dk_at dksX0_more_1 3 rfl rfl)
theorem dX0_more_28 : decode cX0_more 28 = .ok (.ireturn, 1) := dk_172 (dk_at dksX0_more_1 5 rfl rfl)
theorem dX0_more_29 : decode cX0_more 29 = .ok (.aload_n 0, 1) := dk_42 (dk_at dksX0_more_1 6 rfl rfl)
theorem dX0_more_30 : decode cX0_more 30 = .ok (.getfield 144, 3) := dk_180 0 144 (dk_at dksX0_more_1 7 rfl rfl)
theorem dX0_more_33 : decode cX0_more 33 = .ok (.aload_n 0, 1) := dk_42 (dk_at dksX0_more_1 10 rfl rfl)
theorem dX0_more_34 : decode cX0_more 34 = .ok (.getfield 141, 3) := dk_180 0 141 (dk_at dksX0_more_1 11 rfl rfl)
theorem dX0_more_37 : decode cX0_more 37 = .ok (.iload_n 1, 1) := dk_27 (dk_at dksX0_more_1 14 rfl rfl)
theorem dX0_more_38 : decode cX0_more 38 = .ok (.iastore, 1) := dk_79 (dk_at dksX0_more_1 15 rfl rfl)
theorem dX0_more_39 : decode cX0_more 39 = .ok (.aload_n 0, 1) := dk_42 (dk_at dksX0_more_1 16 rfl rfl)
theorem dX0_more_40 : decode cX0_more 40 = .ok (.getfield 147, 3) := dk_180 0 147 (dk_at dksX0_more_1 17 rfl rfl)
theorem dX0_more_43 : decode cX0_more 43 = .ok (.aload_n 0, 1) := dk_42 (dk_at dksX0_more_1 20 rfl rfl)
theorem dX0_more_44 : decode cX0_more 44 = .ok (.getfield 141, 3) := dk_180 0 141 (dk_at dksX0_more_1 21 rfl rfl)
theorem dX0_more_47 : decode cX0_more 47 = .ok (.iload_n 2, 1) := dk_28 (dk_at dksX0_more_2 0 rfl rfl)
theorem dX0_more_48 : decode cX0_more 48 = .ok (.iastore, 1) := dk_79 (dk_at dksX0_more_2 1 rfl rfl)
theorem dX0_more_49 : decode cX0_more 49 = .ok (.aload_n 0, 1) := dk_42 (dk_at dksX0_more_2 2 rfl rfl)
theorem dX0_more_50 : decode cX0_more 50 = .ok (.dup, 1) := dk_89 (dk_at dksX0_more_2 3 rfl rfl)
theorem dX0_more_51 : decode cX0_more 51 = .ok (.getfield 141, 3) := dk_180 0 141 (dk_at dksX0_more_2 4 rfl rfl)
theorem dX0_more_54 : decode cX0_more 54 = .ok (.iconst 1, 1) := dk_4 (dk_at dksX0_more_2 7 rfl rfl)
theorem dX0_more_55 : decode cX0_more 55 = .ok (.iadd, 1) := dk_96 (dk_at dksX0_more_2 8 rfl rfl)
theorem dX0_more_56 : decode cX0_more 56 = .ok (.putfield 141, 3) := dk_181 0 141 (dk_at dksX0_more_2 9 rfl rfl)
theorem dX0_more_59 : decode cX0_more 59 = .ok (.aload_n 0, 1) := dk_42 (dk_at dksX0_more_2 12 rfl rfl)
theorem dX0_more_60 : decode cX0_more 60 = .ok (.getfield 141, 3) := dk_180 0 141 (dk_at dksX0_more_2 13 rfl rfl)
theorem dX0_more_63 : decode cX0_more 63 = .ok (.ireturn, 1) := dk_172 (dk_at dksX0_more_2 16 rfl rfl)
abbrev cX0_isHour : ByteArray := prog_1_method_10_code
def yX0_isHour : MethodName := ⟨RX0, "isHour", "(I)Z"⟩
def dkwX0_isHour_0 : List UInt8 := [26, 3, 16, 39, 184, 0, 5, 172]
abbrev dktX0_isHour_0 : List UInt8 := dkwX0_isHour_0 ++ []
theorem dksX0_isHour_0 : cX0_isHour.data.toList.drop 0 = dktX0_isHour_0 := by decide +kernel
theorem dX0_isHour_0 : decode cX0_isHour 0 = .ok (.iload_n 0, 1) := dk_26 (dk_at dksX0_isHour_0 0 rfl rfl)
theorem dX0_isHour_1 : decode cX0_isHour 1 = .ok (.iconst 0, 1) := dk_3 (dk_at dksX0_isHour_0 1 rfl rfl)
theorem dX0_isHour_2 : decode cX0_isHour 2 = .ok (.bipush 39, 2) := dk_16 39 (dk_at dksX0_isHour_0 2 rfl rfl)
theorem dX0_isHour_4 : decode cX0_isHour 4 = .ok (.invokestatic 5, 3) := dk_184 0 5 (dk_at dksX0_isHour_0 4 rfl rfl)
theorem dX0_isHour_7 : decode cX0_isHour 7 = .ok (.ireturn, 1) := dk_172 (dk_at dksX0_isHour_0 7 rfl rfl)
abbrev cX0_back : ByteArray := prog_1_method_35_code
def yX0_back : MethodName := ⟨RX0, "back", "()I"⟩
def dkwX0_back_1 : List UInt8 := [172]
abbrev dktX0_back_1 : List UInt8 := dkwX0_back_1 ++ []
def dkwX0_back_0 : List UInt8 := [42, 180, 0, 141, 154, 0, 6, 16, 253, 172, 42, 89, 180, 0, 141, 4, 100, 181, 0, 141, 42, 180, 0, 141]
abbrev dktX0_back_0 : List UInt8 := dkwX0_back_0 ++ dktX0_back_1
theorem dksX0_back_0 : cX0_back.data.toList.drop 0 = dktX0_back_0 := by decide +kernel
theorem dksX0_back_1 : cX0_back.data.toList.drop 24 = dktX0_back_1 := dk_seg dksX0_back_0 24 rfl rfl
theorem dX0_back_0 : decode cX0_back 0 = .ok (.aload_n 0, 1) := dk_42 (dk_at dksX0_back_0 0 rfl rfl)
theorem dX0_back_1 : decode cX0_back 1 = .ok (.getfield 141, 3) := dk_180 0 141 (dk_at dksX0_back_0 1 rfl rfl)
theorem dX0_back_4 : decode cX0_back 4 = .ok (.ifCond .ne 6, 3) := dk_154 0 6 (dk_at dksX0_back_0 4 rfl rfl)
theorem dX0_back_7 : decode cX0_back 7 = .ok (.bipush (-3), 2) := dk_16 253 (dk_at dksX0_back_0 7 rfl rfl)
theorem dX0_back_9 : decode cX0_back 9 = .ok (.ireturn, 1) := dk_172 (dk_at dksX0_back_0 9 rfl rfl)
theorem dX0_back_10 : decode cX0_back 10 = .ok (.aload_n 0, 1) := dk_42 (dk_at dksX0_back_0 10 rfl rfl)
theorem dX0_back_11 : decode cX0_back 11 = .ok (.dup, 1) := dk_89 (dk_at dksX0_back_0 11 rfl rfl)
theorem dX0_back_12 : decode cX0_back 12 = .ok (.getfield 141, 3) := dk_180 0 141 (dk_at dksX0_back_0 12 rfl rfl)
theorem dX0_back_15 : decode cX0_back 15 = .ok (.iconst 1, 1) := dk_4 (dk_at dksX0_back_0 15 rfl rfl)
theorem dX0_back_16 : decode cX0_back 16 = .ok (.isub, 1) := dk_100 (dk_at dksX0_back_0 16 rfl rfl)
theorem dX0_back_17 : decode cX0_back 17 = .ok (.putfield 141, 3) := dk_181 0 141 (dk_at dksX0_back_0 17 rfl rfl)
theorem dX0_back_20 : decode cX0_back 20 = .ok (.aload_n 0, 1) := dk_42 (dk_at dksX0_back_0 20 rfl rfl)
theorem dX0_back_21 : decode cX0_back 21 = .ok (.getfield 141, 3) := dk_180 0 141 (dk_at dksX0_back_0 21 rfl rfl)
theorem dX0_back_24 : decode cX0_back 24 = .ok (.ireturn, 1) := dk_172 (dk_at dksX0_back_1 0 rfl rfl)
abbrev cX0_read : ByteArray := prog_1_method_36_code
def yX0_read : MethodName := ⟨RX0, "read", "(I)I"⟩
def dkwX0_read_3 : List UInt8 := [167, 255, 218, 29, 172]
abbrev dktX0_read_3 : List UInt8 := dkwX0_read_3 ++ []
def dkwX0_read_2 : List UInt8 := [104, 182, 0, 172, 44, 5, 29, 104, 4, 96, 182, 0, 172, 182, 0, 150, 158, 0, 9, 132, 3, 1]
abbrev dktX0_read_2 : List UInt8 := dkwX0_read_2 ++ dktX0_read_3
def dkwX0_read_1 : List UInt8 := [42, 4, 182, 0, 166, 172, 3, 62, 5, 29, 104, 4, 96, 44, 182, 0, 169, 162, 0, 32, 42, 44, 5, 29]
abbrev dktX0_read_1 : List UInt8 := dkwX0_read_1 ++ dktX0_read_2
def dkwX0_read_0 : List UInt8 := [27, 184, 0, 153, 154, 0, 6, 16, 254, 172, 42, 180, 0, 156, 27, 50, 77, 44, 180, 0, 160, 199, 0, 9]
abbrev dktX0_read_0 : List UInt8 := dkwX0_read_0 ++ dktX0_read_1
theorem dksX0_read_0 : cX0_read.data.toList.drop 0 = dktX0_read_0 := by decide +kernel
theorem dksX0_read_1 : cX0_read.data.toList.drop 24 = dktX0_read_1 := dk_seg dksX0_read_0 24 rfl rfl
theorem dksX0_read_2 : cX0_read.data.toList.drop 48 = dktX0_read_2 := dk_seg dksX0_read_1 24 rfl rfl
theorem dksX0_read_3 : cX0_read.data.toList.drop 70 = dktX0_read_3 := dk_seg dksX0_read_2 22 rfl rfl
theorem dX0_read_0 : decode cX0_read 0 = .ok (.iload_n 1, 1) := dk_27 (dk_at dksX0_read_0 0 rfl rfl)
theorem dX0_read_1 : decode cX0_read 1 = .ok (.invokestatic 153, 3) := dk_184 0 153 (dk_at dksX0_read_0 1 rfl rfl)
theorem dX0_read_4 : decode cX0_read 4 = .ok (.ifCond .ne 6, 3) := dk_154 0 6 (dk_at dksX0_read_0 4 rfl rfl)
theorem dX0_read_7 : decode cX0_read 7 = .ok (.bipush (-2), 2) := dk_16 254 (dk_at dksX0_read_0 7 rfl rfl)
theorem dX0_read_9 : decode cX0_read 9 = .ok (.ireturn, 1) := dk_172 (dk_at dksX0_read_0 9 rfl rfl)
theorem dX0_read_10 : decode cX0_read 10 = .ok (.aload_n 0, 1) := dk_42 (dk_at dksX0_read_0 10 rfl rfl)
theorem dX0_read_11 : decode cX0_read 11 = .ok (.getfield 156, 3) := dk_180 0 156 (dk_at dksX0_read_0 11 rfl rfl)
theorem dX0_read_14 : decode cX0_read 14 = .ok (.iload_n 1, 1) := dk_27 (dk_at dksX0_read_0 14 rfl rfl)
theorem dX0_read_15 : decode cX0_read 15 = .ok (.aaload, 1) := dk_50 (dk_at dksX0_read_0 15 rfl rfl)
theorem dX0_read_16 : decode cX0_read 16 = .ok (.astore_n 2, 1) := dk_77 (dk_at dksX0_read_0 16 rfl rfl)
theorem dX0_read_17 : decode cX0_read 17 = .ok (.aload_n 2, 1) := dk_44 (dk_at dksX0_read_0 17 rfl rfl)
theorem dX0_read_18 : decode cX0_read 18 = .ok (.getfield 160, 3) := dk_180 0 160 (dk_at dksX0_read_0 18 rfl rfl)
theorem dX0_read_21 : decode cX0_read 21 = .ok (.ifnonnull 9, 3) := dk_199 0 9 (dk_at dksX0_read_0 21 rfl rfl)
theorem dX0_read_24 : decode cX0_read 24 = .ok (.aload_n 0, 1) := dk_42 (dk_at dksX0_read_1 0 rfl rfl)
theorem dX0_read_25 : decode cX0_read 25 = .ok (.iconst 1, 1) := dk_4 (dk_at dksX0_read_1 1 rfl rfl)
theorem dX0_read_26 : decode cX0_read 26 = .ok (.invokevirtual 166, 3) := dk_182 0 166 (dk_at dksX0_read_1 2 rfl rfl)
theorem dX0_read_29 : decode cX0_read 29 = .ok (.ireturn, 1) := dk_172 (dk_at dksX0_read_1 5 rfl rfl)
theorem dX0_read_30 : decode cX0_read 30 = .ok (.iconst 0, 1) := dk_3 (dk_at dksX0_read_1 6 rfl rfl)
theorem dX0_read_31 : decode cX0_read 31 = .ok (.istore_n 3, 1) := dk_62 (dk_at dksX0_read_1 7 rfl rfl)
theorem dX0_read_32 : decode cX0_read 32 = .ok (.iconst 2, 1) := dk_5 (dk_at dksX0_read_1 8 rfl rfl)
theorem dX0_read_33 : decode cX0_read 33 = .ok (.iload_n 3, 1) := dk_29 (dk_at dksX0_read_1 9 rfl rfl)
theorem dX0_read_34 : decode cX0_read 34 = .ok (.imul, 1) := dk_104 (dk_at dksX0_read_1 10 rfl rfl)
theorem dX0_read_35 : decode cX0_read 35 = .ok (.iconst 1, 1) := dk_4 (dk_at dksX0_read_1 11 rfl rfl)
theorem dX0_read_36 : decode cX0_read 36 = .ok (.iadd, 1) := dk_96 (dk_at dksX0_read_1 12 rfl rfl)
theorem dX0_read_37 : decode cX0_read 37 = .ok (.aload_n 2, 1) := dk_44 (dk_at dksX0_read_1 13 rfl rfl)
theorem dX0_read_38 : decode cX0_read 38 = .ok (.invokevirtual 169, 3) := dk_182 0 169 (dk_at dksX0_read_1 14 rfl rfl)
theorem dX0_read_41 : decode cX0_read 41 = .ok (.if_icmp .ge 32, 3) := dk_162 0 32 (dk_at dksX0_read_1 17 rfl rfl)
theorem dX0_read_44 : decode cX0_read 44 = .ok (.aload_n 0, 1) := dk_42 (dk_at dksX0_read_1 20 rfl rfl)
theorem dX0_read_45 : decode cX0_read 45 = .ok (.aload_n 2, 1) := dk_44 (dk_at dksX0_read_1 21 rfl rfl)
theorem dX0_read_46 : decode cX0_read 46 = .ok (.iconst 2, 1) := dk_5 (dk_at dksX0_read_1 22 rfl rfl)
theorem dX0_read_47 : decode cX0_read 47 = .ok (.iload_n 3, 1) := dk_29 (dk_at dksX0_read_1 23 rfl rfl)
theorem dX0_read_48 : decode cX0_read 48 = .ok (.imul, 1) := dk_104 (dk_at dksX0_read_2 0 rfl rfl)
theorem dX0_read_49 : decode cX0_read 49 = .ok (.invokevirtual 172, 3) := dk_182 0 172 (dk_at dksX0_read_2 1 rfl rfl)
theorem dX0_read_52 : decode cX0_read 52 = .ok (.aload_n 2, 1) := dk_44 (dk_at dksX0_read_2 4 rfl rfl)
theorem dX0_read_53 : decode cX0_read 53 = .ok (.iconst 2, 1) := dk_5 (dk_at dksX0_read_2 5 rfl rfl)
theorem dX0_read_54 : decode cX0_read 54 = .ok (.iload_n 3, 1) := dk_29 (dk_at dksX0_read_2 6 rfl rfl)
theorem dX0_read_55 : decode cX0_read 55 = .ok (.imul, 1) := dk_104 (dk_at dksX0_read_2 7 rfl rfl)
theorem dX0_read_56 : decode cX0_read 56 = .ok (.iconst 1, 1) := dk_4 (dk_at dksX0_read_2 8 rfl rfl)
theorem dX0_read_57 : decode cX0_read 57 = .ok (.iadd, 1) := dk_96 (dk_at dksX0_read_2 9 rfl rfl)
theorem dX0_read_58 : decode cX0_read 58 = .ok (.invokevirtual 172, 3) := dk_182 0 172 (dk_at dksX0_read_2 10 rfl rfl)
theorem dX0_read_61 : decode cX0_read 61 = .ok (.invokevirtual 150, 3) := dk_182 0 150 (dk_at dksX0_read_2 13 rfl rfl)
theorem dX0_read_64 : decode cX0_read 64 = .ok (.ifCond .le 9, 3) := dk_158 0 9 (dk_at dksX0_read_2 16 rfl rfl)
theorem dX0_read_67 : decode cX0_read 67 = .ok (.iinc 3 1, 3) := dk_132 3 1 (dk_at dksX0_read_2 19 rfl rfl)
theorem dX0_read_70 : decode cX0_read 70 = .ok (.goto (-38), 3) := dk_167 255 218 (dk_at dksX0_read_3 0 rfl rfl)
theorem dX0_read_73 : decode cX0_read 73 = .ok (.iload_n 3, 1) := dk_29 (dk_at dksX0_read_3 3 rfl rfl)
theorem dX0_read_74 : decode cX0_read 74 = .ok (.ireturn, 1) := dk_172 (dk_at dksX0_read_3 4 rfl rfl)
abbrev cX0_isSheet : ByteArray := prog_1_method_89_code
def yX0_isSheet : MethodName := ⟨RX0, "isSheet", "(I)Z"⟩
def dkwX0_isSheet_0 : List UInt8 := [26, 3, 6, 184, 0, 5, 172]
abbrev dktX0_isSheet_0 : List UInt8 := dkwX0_isSheet_0 ++ []
theorem dksX0_isSheet_0 : cX0_isSheet.data.toList.drop 0 = dktX0_isSheet_0 := by decide +kernel
theorem dX0_isSheet_0 : decode cX0_isSheet 0 = .ok (.iload_n 0, 1) := dk_26 (dk_at dksX0_isSheet_0 0 rfl rfl)
theorem dX0_isSheet_1 : decode cX0_isSheet 1 = .ok (.iconst 0, 1) := dk_3 (dk_at dksX0_isSheet_0 1 rfl rfl)
theorem dX0_isSheet_2 : decode cX0_isSheet 2 = .ok (.iconst 3, 1) := dk_6 (dk_at dksX0_isSheet_0 2 rfl rfl)
theorem dX0_isSheet_3 : decode cX0_isSheet 3 = .ok (.invokestatic 5, 3) := dk_184 0 5 (dk_at dksX0_isSheet_0 3 rfl rfl)
theorem dX0_isSheet_6 : decode cX0_isSheet 6 = .ok (.ireturn, 1) := dk_172 (dk_at dksX0_isSheet_0 6 rfl rfl)
abbrev cX0_meets : ByteArray := prog_1_method_88_code
def yX0_meets : MethodName := ⟨RX0, "meets", "(I)I"⟩
def dkwX0_meets_0 : List UInt8 := [42, 27, 181, 1, 141, 16, 246, 27, 100, 172]
abbrev dktX0_meets_0 : List UInt8 := dkwX0_meets_0 ++ []
theorem dksX0_meets_0 : cX0_meets.data.toList.drop 0 = dktX0_meets_0 := by decide +kernel
theorem dX0_meets_0 : decode cX0_meets 0 = .ok (.aload_n 0, 1) := dk_42 (dk_at dksX0_meets_0 0 rfl rfl)
theorem dX0_meets_1 : decode cX0_meets 1 = .ok (.iload_n 1, 1) := dk_27 (dk_at dksX0_meets_0 1 rfl rfl)
theorem dX0_meets_2 : decode cX0_meets 2 = .ok (.putfield 397, 3) := dk_181 1 141 (dk_at dksX0_meets_0 2 rfl rfl)
theorem dX0_meets_5 : decode cX0_meets 5 = .ok (.bipush (-10), 2) := dk_16 246 (dk_at dksX0_meets_0 5 rfl rfl)
theorem dX0_meets_7 : decode cX0_meets 7 = .ok (.iload_n 1, 1) := dk_27 (dk_at dksX0_meets_0 7 rfl rfl)
theorem dX0_meets_8 : decode cX0_meets 8 = .ok (.isub, 1) := dk_100 (dk_at dksX0_meets_0 8 rfl rfl)
theorem dX0_meets_9 : decode cX0_meets 9 = .ok (.ireturn, 1) := dk_172 (dk_at dksX0_meets_0 9 rfl rfl)
abbrev cX0_taken : ByteArray := prog_1_method_94_code
def yX0_taken : MethodName := ⟨RX0, "taken", "(Ljava/lang/Object;II)I"⟩
def dkwX0_taken_2 : List UInt8 := [42, 192, 1, 153, 28, 51, 172, 42, 192, 1, 155, 28, 53, 172, 42, 192, 1, 130, 28, 46, 172]
abbrev dktX0_taken_2 : List UInt8 := dkwX0_taken_2 ++ []
def dkwX0_taken_1 : List UInt8 := [171, 0, 0, 0, 0, 0, 41, 0, 0, 0, 2, 0, 0, 0, 0, 0, 0, 0, 27, 0, 0, 0, 1, 0, 0, 0, 34]
abbrev dktX0_taken_1 : List UInt8 := dkwX0_taken_1 ++ dktX0_taken_2
def dkwX0_taken_0 : List UInt8 := [27]
abbrev dktX0_taken_0 : List UInt8 := dkwX0_taken_0 ++ dktX0_taken_1
theorem dksX0_taken_0 : cX0_taken.data.toList.drop 0 = dktX0_taken_0 := by decide +kernel
theorem dksX0_taken_1 : cX0_taken.data.toList.drop 1 = dktX0_taken_1 := dk_seg dksX0_taken_0 1 rfl rfl
theorem dksX0_taken_2 : cX0_taken.data.toList.drop 28 = dktX0_taken_2 := dk_seg dksX0_taken_1 27 rfl rfl
theorem dX0_taken_0 : decode cX0_taken 0 = .ok (.iload_n 1, 1) := dk_27 (dk_at dksX0_taken_0 0 rfl rfl)
theorem dX0_taken_1 : decode cX0_taken 1 = .ok (.lookupswitch 41 #[(0, 27), (1, 34)], 27) := by decide +kernel
theorem dX0_taken_28 : decode cX0_taken 28 = .ok (.aload_n 0, 1) := dk_42 (dk_at dksX0_taken_2 0 rfl rfl)
theorem dX0_taken_29 : decode cX0_taken 29 = .ok (.checkcast 409, 3) := dk_192 1 153 (dk_at dksX0_taken_2 1 rfl rfl)
theorem dX0_taken_32 : decode cX0_taken 32 = .ok (.iload_n 2, 1) := dk_28 (dk_at dksX0_taken_2 4 rfl rfl)
theorem dX0_taken_33 : decode cX0_taken 33 = .ok (.baload, 1) := dk_51 (dk_at dksX0_taken_2 5 rfl rfl)
theorem dX0_taken_34 : decode cX0_taken 34 = .ok (.ireturn, 1) := dk_172 (dk_at dksX0_taken_2 6 rfl rfl)
theorem dX0_taken_35 : decode cX0_taken 35 = .ok (.aload_n 0, 1) := dk_42 (dk_at dksX0_taken_2 7 rfl rfl)
theorem dX0_taken_36 : decode cX0_taken 36 = .ok (.checkcast 411, 3) := dk_192 1 155 (dk_at dksX0_taken_2 8 rfl rfl)
theorem dX0_taken_39 : decode cX0_taken 39 = .ok (.iload_n 2, 1) := dk_28 (dk_at dksX0_taken_2 11 rfl rfl)
theorem dX0_taken_40 : decode cX0_taken 40 = .ok (.saload, 1) := dk_53 (dk_at dksX0_taken_2 12 rfl rfl)
theorem dX0_taken_41 : decode cX0_taken 41 = .ok (.ireturn, 1) := dk_172 (dk_at dksX0_taken_2 13 rfl rfl)
theorem dX0_taken_42 : decode cX0_taken 42 = .ok (.aload_n 0, 1) := dk_42 (dk_at dksX0_taken_2 14 rfl rfl)
theorem dX0_taken_43 : decode cX0_taken 43 = .ok (.checkcast 386, 3) := dk_192 1 130 (dk_at dksX0_taken_2 15 rfl rfl)
theorem dX0_taken_46 : decode cX0_taken 46 = .ok (.iload_n 2, 1) := dk_28 (dk_at dksX0_taken_2 18 rfl rfl)
theorem dX0_taken_47 : decode cX0_taken 47 = .ok (.iaload, 1) := dk_46 (dk_at dksX0_taken_2 19 rfl rfl)
theorem dX0_taken_48 : decode cX0_taken 48 = .ok (.ireturn, 1) := dk_172 (dk_at dksX0_taken_2 20 rfl rfl)
abbrev cX0_far : ByteArray := prog_1_method_41_code
def yX0_far : MethodName := ⟨RX0, "far", "(II)I"⟩
def dkwX0_far_1 : List UInt8 := [16, 254, 172]
abbrev dktX0_far_1 : List UInt8 := dkwX0_far_1 ++ []
def dkwX0_far_0 : List UInt8 := [27, 184, 0, 29, 153, 0, 19, 28, 184, 0, 29, 153, 0, 12, 42, 27, 28, 182, 0, 200, 167, 0, 5]
abbrev dktX0_far_0 : List UInt8 := dkwX0_far_0 ++ dktX0_far_1
theorem dksX0_far_0 : cX0_far.data.toList.drop 0 = dktX0_far_0 := by decide +kernel
theorem dksX0_far_1 : cX0_far.data.toList.drop 23 = dktX0_far_1 := dk_seg dksX0_far_0 23 rfl rfl
theorem dX0_far_0 : decode cX0_far 0 = .ok (.iload_n 1, 1) := dk_27 (dk_at dksX0_far_0 0 rfl rfl)
theorem dX0_far_1 : decode cX0_far 1 = .ok (.invokestatic 29, 3) := dk_184 0 29 (dk_at dksX0_far_0 1 rfl rfl)
theorem dX0_far_4 : decode cX0_far 4 = .ok (.ifCond .eq 19, 3) := dk_153 0 19 (dk_at dksX0_far_0 4 rfl rfl)
theorem dX0_far_7 : decode cX0_far 7 = .ok (.iload_n 2, 1) := dk_28 (dk_at dksX0_far_0 7 rfl rfl)
theorem dX0_far_8 : decode cX0_far 8 = .ok (.invokestatic 29, 3) := dk_184 0 29 (dk_at dksX0_far_0 8 rfl rfl)
theorem dX0_far_11 : decode cX0_far 11 = .ok (.ifCond .eq 12, 3) := dk_153 0 12 (dk_at dksX0_far_0 11 rfl rfl)
theorem dX0_far_14 : decode cX0_far 14 = .ok (.aload_n 0, 1) := dk_42 (dk_at dksX0_far_0 14 rfl rfl)
theorem dX0_far_15 : decode cX0_far 15 = .ok (.iload_n 1, 1) := dk_27 (dk_at dksX0_far_0 15 rfl rfl)
theorem dX0_far_16 : decode cX0_far 16 = .ok (.iload_n 2, 1) := dk_28 (dk_at dksX0_far_0 16 rfl rfl)
theorem dX0_far_17 : decode cX0_far 17 = .ok (.invokevirtual 200, 3) := dk_182 0 200 (dk_at dksX0_far_0 17 rfl rfl)
theorem dX0_far_20 : decode cX0_far 20 = .ok (.goto 5, 3) := dk_167 0 5 (dk_at dksX0_far_0 20 rfl rfl)
theorem dX0_far_23 : decode cX0_far 23 = .ok (.bipush (-2), 2) := dk_16 254 (dk_at dksX0_far_1 0 rfl rfl)
theorem dX0_far_25 : decode cX0_far 25 = .ok (.ireturn, 1) := dk_172 (dk_at dksX0_far_1 2 rfl rfl)
abbrev cX0_farOf : ByteArray := prog_1_method_40_code
def yX0_farOf : MethodName := ⟨RX0, "farOf", "(II)I"⟩
def dkwX0_farOf_1 : List UInt8 := [180, 0, 187, 27, 50, 28, 46, 167, 0, 4, 2, 172]
abbrev dktX0_farOf_1 : List UInt8 := dkwX0_farOf_1 ++ []
def dkwX0_farOf_0 : List UInt8 := [42, 182, 0, 107, 42, 2, 182, 0, 196, 42, 180, 0, 187, 27, 50, 28, 46, 17, 39, 15, 162, 0, 14, 42]
abbrev dktX0_farOf_0 : List UInt8 := dkwX0_farOf_0 ++ dktX0_farOf_1
theorem dksX0_farOf_0 : cX0_farOf.data.toList.drop 0 = dktX0_farOf_0 := by decide +kernel
theorem dksX0_farOf_1 : cX0_farOf.data.toList.drop 24 = dktX0_farOf_1 := dk_seg dksX0_farOf_0 24 rfl rfl
theorem dX0_farOf_0 : decode cX0_farOf 0 = .ok (.aload_n 0, 1) := dk_42 (dk_at dksX0_farOf_0 0 rfl rfl)
theorem dX0_farOf_1 : decode cX0_farOf 1 = .ok (.invokevirtual 107, 3) := dk_182 0 107 (dk_at dksX0_farOf_0 1 rfl rfl)
theorem dX0_farOf_4 : decode cX0_farOf 4 = .ok (.aload_n 0, 1) := dk_42 (dk_at dksX0_farOf_0 4 rfl rfl)
theorem dX0_farOf_5 : decode cX0_farOf 5 = .ok (.iconst (-1), 1) := dk_2 (dk_at dksX0_farOf_0 5 rfl rfl)
theorem dX0_farOf_6 : decode cX0_farOf 6 = .ok (.invokevirtual 196, 3) := dk_182 0 196 (dk_at dksX0_farOf_0 6 rfl rfl)
theorem dX0_farOf_9 : decode cX0_farOf 9 = .ok (.aload_n 0, 1) := dk_42 (dk_at dksX0_farOf_0 9 rfl rfl)
theorem dX0_farOf_10 : decode cX0_farOf 10 = .ok (.getfield 187, 3) := dk_180 0 187 (dk_at dksX0_farOf_0 10 rfl rfl)
theorem dX0_farOf_13 : decode cX0_farOf 13 = .ok (.iload_n 1, 1) := dk_27 (dk_at dksX0_farOf_0 13 rfl rfl)
theorem dX0_farOf_14 : decode cX0_farOf 14 = .ok (.aaload, 1) := dk_50 (dk_at dksX0_farOf_0 14 rfl rfl)
theorem dX0_farOf_15 : decode cX0_farOf 15 = .ok (.iload_n 2, 1) := dk_28 (dk_at dksX0_farOf_0 15 rfl rfl)
theorem dX0_farOf_16 : decode cX0_farOf 16 = .ok (.iaload, 1) := dk_46 (dk_at dksX0_farOf_0 16 rfl rfl)
theorem dX0_farOf_17 : decode cX0_farOf 17 = .ok (.sipush 9999, 3) := dk_17 39 15 (dk_at dksX0_farOf_0 17 rfl rfl)
theorem dX0_farOf_20 : decode cX0_farOf 20 = .ok (.if_icmp .ge 14, 3) := dk_162 0 14 (dk_at dksX0_farOf_0 20 rfl rfl)
theorem dX0_farOf_23 : decode cX0_farOf 23 = .ok (.aload_n 0, 1) := dk_42 (dk_at dksX0_farOf_0 23 rfl rfl)
theorem dX0_farOf_24 : decode cX0_farOf 24 = .ok (.getfield 187, 3) := dk_180 0 187 (dk_at dksX0_farOf_1 0 rfl rfl)
theorem dX0_farOf_27 : decode cX0_farOf 27 = .ok (.iload_n 1, 1) := dk_27 (dk_at dksX0_farOf_1 3 rfl rfl)
theorem dX0_farOf_28 : decode cX0_farOf 28 = .ok (.aaload, 1) := dk_50 (dk_at dksX0_farOf_1 4 rfl rfl)
theorem dX0_farOf_29 : decode cX0_farOf 29 = .ok (.iload_n 2, 1) := dk_28 (dk_at dksX0_farOf_1 5 rfl rfl)
theorem dX0_farOf_30 : decode cX0_farOf 30 = .ok (.iaload, 1) := dk_46 (dk_at dksX0_farOf_1 6 rfl rfl)
theorem dX0_farOf_31 : decode cX0_farOf 31 = .ok (.goto 4, 3) := dk_167 0 4 (dk_at dksX0_farOf_1 7 rfl rfl)
theorem dX0_farOf_34 : decode cX0_farOf 34 = .ok (.iconst (-1), 1) := dk_2 (dk_at dksX0_farOf_1 10 rfl rfl)
theorem dX0_farOf_35 : decode cX0_farOf 35 = .ok (.ireturn, 1) := dk_172 (dk_at dksX0_farOf_1 11 rfl rfl)
abbrev cX0_measures : ByteArray := prog_1_method_38_code
def yX0_measures : MethodName := ⟨RX0, "measures", "(I)V"⟩
def dkwX0_measures_10 : List UInt8 := [167, 255, 192, 132, 2, 1, 167, 255, 178, 177]
abbrev dktX0_measures_10 : List UInt8 := dkwX0_measures_10 ++ []
def dkwX0_measures_9 : List UInt8 := [42, 180, 0, 187, 28, 50, 21, 4, 46, 96, 184, 0, 178, 79, 132, 4, 1, 167, 255, 207, 132, 3, 1]
abbrev dktX0_measures_9 : List UInt8 := dkwX0_measures_9 ++ dktX0_measures_10
def dkwX0_measures_8 : List UInt8 := [180, 0, 187, 29, 50, 21, 4, 42, 180, 0, 187, 29, 50, 21, 4, 46, 42, 180, 0, 187, 29, 50, 28, 46]
abbrev dktX0_measures_8 : List UInt8 := dkwX0_measures_8 ++ dktX0_measures_9
def dkwX0_measures_7 : List UInt8 := [16, 8, 162, 0, 78, 3, 62, 29, 16, 8, 162, 0, 64, 3, 54, 4, 21, 4, 16, 8, 162, 0, 48, 42]
abbrev dktX0_measures_7 : List UInt8 := dkwX0_measures_7 ++ dktX0_measures_8
def dkwX0_measures_6 : List UInt8 := [28, 50, 3, 42, 180, 0, 187, 28, 50, 3, 16, 8, 184, 0, 190, 132, 2, 1, 167, 255, 228, 3, 61, 28]
abbrev dktX0_measures_6 : List UInt8 := dkwX0_measures_6 ++ dktX0_measures_7
def dkwX0_measures_5 : List UInt8 := [29, 96, 104, 182, 0, 183, 132, 2, 1, 167, 255, 177, 3, 61, 28, 16, 8, 162, 0, 28, 42, 180, 0, 175]
abbrev dktX0_measures_5 : List UInt8 := dkwX0_measures_5 ++ dktX0_measures_6
def dkwX0_measures_4 : List UInt8 := [104, 182, 0, 183, 42, 42, 180, 0, 46, 28, 46, 42, 180, 0, 43, 28, 46, 42, 180, 0, 49, 28, 46, 4]
abbrev dktX0_measures_4 : List UInt8 := dkwX0_measures_4 ++ dktX0_measures_5
def dkwX0_measures_3 : List UInt8 := [46, 62, 42, 42, 180, 0, 43, 28, 46, 42, 180, 0, 46, 28, 46, 42, 180, 0, 49, 28, 46, 6, 29, 100]
abbrev dktX0_measures_3 : List UInt8 := dkwX0_measures_3 ++ dktX0_measures_4
def dkwX0_measures_2 : List UInt8 := [3, 61, 28, 42, 180, 0, 95, 162, 0, 77, 28, 27, 160, 0, 7, 4, 167, 0, 9, 42, 180, 0, 52, 28]
abbrev dktX0_measures_2 : List UInt8 := dkwX0_measures_2 ++ dktX0_measures_3
def dkwX0_measures_1 : List UInt8 := [29, 160, 0, 7, 3, 167, 0, 6, 17, 39, 15, 79, 132, 3, 1, 167, 255, 227, 132, 2, 1, 167, 255, 213]
abbrev dktX0_measures_1 : List UInt8 := dkwX0_measures_1 ++ dktX0_measures_2
def dkwX0_measures_0 : List UInt8 := [3, 61, 28, 16, 8, 162, 0, 43, 3, 62, 29, 16, 8, 162, 0, 29, 42, 180, 0, 175, 28, 50, 29, 28]
abbrev dktX0_measures_0 : List UInt8 := dkwX0_measures_0 ++ dktX0_measures_1
theorem dksX0_measures_0 : cX0_measures.data.toList.drop 0 = dktX0_measures_0 := by decide +kernel
theorem dksX0_measures_1 : cX0_measures.data.toList.drop 24 = dktX0_measures_1 := dk_seg dksX0_measures_0 24 rfl rfl
theorem dksX0_measures_2 : cX0_measures.data.toList.drop 48 = dktX0_measures_2 := dk_seg dksX0_measures_1 24 rfl rfl
theorem dksX0_measures_3 : cX0_measures.data.toList.drop 72 = dktX0_measures_3 := dk_seg dksX0_measures_2 24 rfl rfl
theorem dksX0_measures_4 : cX0_measures.data.toList.drop 96 = dktX0_measures_4 := dk_seg dksX0_measures_3 24 rfl rfl
theorem dksX0_measures_5 : cX0_measures.data.toList.drop 120 = dktX0_measures_5 := dk_seg dksX0_measures_4 24 rfl rfl
theorem dksX0_measures_6 : cX0_measures.data.toList.drop 144 = dktX0_measures_6 := dk_seg dksX0_measures_5 24 rfl rfl
theorem dksX0_measures_7 : cX0_measures.data.toList.drop 168 = dktX0_measures_7 := dk_seg dksX0_measures_6 24 rfl rfl
theorem dksX0_measures_8 : cX0_measures.data.toList.drop 192 = dktX0_measures_8 := dk_seg dksX0_measures_7 24 rfl rfl
theorem dksX0_measures_9 : cX0_measures.data.toList.drop 216 = dktX0_measures_9 := dk_seg dksX0_measures_8 24 rfl rfl
theorem dksX0_measures_10 : cX0_measures.data.toList.drop 239 = dktX0_measures_10 := dk_seg dksX0_measures_9 23 rfl rfl
theorem dX0_measures_0 : decode cX0_measures 0 = .ok (.iconst 0, 1) := dk_3 (dk_at dksX0_measures_0 0 rfl rfl)
theorem dX0_measures_1 : decode cX0_measures 1 = .ok (.istore_n 2, 1) := dk_61 (dk_at dksX0_measures_0 1 rfl rfl)
theorem dX0_measures_2 : decode cX0_measures 2 = .ok (.iload_n 2, 1) := dk_28 (dk_at dksX0_measures_0 2 rfl rfl)
theorem dX0_measures_3 : decode cX0_measures 3 = .ok (.bipush 8, 2) := dk_16 8 (dk_at dksX0_measures_0 3 rfl rfl)
theorem dX0_measures_5 : decode cX0_measures 5 = .ok (.if_icmp .ge 43, 3) := dk_162 0 43 (dk_at dksX0_measures_0 5 rfl rfl)
theorem dX0_measures_8 : decode cX0_measures 8 = .ok (.iconst 0, 1) := dk_3 (dk_at dksX0_measures_0 8 rfl rfl)
theorem dX0_measures_9 : decode cX0_measures 9 = .ok (.istore_n 3, 1) := dk_62 (dk_at dksX0_measures_0 9 rfl rfl)
theorem dX0_measures_10 : decode cX0_measures 10 = .ok (.iload_n 3, 1) := dk_29 (dk_at dksX0_measures_0 10 rfl rfl)
theorem dX0_measures_11 : decode cX0_measures 11 = .ok (.bipush 8, 2) := dk_16 8 (dk_at dksX0_measures_0 11 rfl rfl)
theorem dX0_measures_13 : decode cX0_measures 13 = .ok (.if_icmp .ge 29, 3) := dk_162 0 29 (dk_at dksX0_measures_0 13 rfl rfl)
theorem dX0_measures_16 : decode cX0_measures 16 = .ok (.aload_n 0, 1) := dk_42 (dk_at dksX0_measures_0 16 rfl rfl)
theorem dX0_measures_17 : decode cX0_measures 17 = .ok (.getfield 175, 3) := dk_180 0 175 (dk_at dksX0_measures_0 17 rfl rfl)
theorem dX0_measures_20 : decode cX0_measures 20 = .ok (.iload_n 2, 1) := dk_28 (dk_at dksX0_measures_0 20 rfl rfl)
theorem dX0_measures_21 : decode cX0_measures 21 = .ok (.aaload, 1) := dk_50 (dk_at dksX0_measures_0 21 rfl rfl)
theorem dX0_measures_22 : decode cX0_measures 22 = .ok (.iload_n 3, 1) := dk_29 (dk_at dksX0_measures_0 22 rfl rfl)
theorem dX0_measures_23 : decode cX0_measures 23 = .ok (.iload_n 2, 1) := dk_28 (dk_at dksX0_measures_0 23 rfl rfl)
theorem dX0_measures_24 : decode cX0_measures 24 = .ok (.iload_n 3, 1) := dk_29 (dk_at dksX0_measures_1 0 rfl rfl)
theorem dX0_measures_25 : decode cX0_measures 25 = .ok (.if_icmp .ne 7, 3) := dk_160 0 7 (dk_at dksX0_measures_1 1 rfl rfl)
theorem dX0_measures_28 : decode cX0_measures 28 = .ok (.iconst 0, 1) := dk_3 (dk_at dksX0_measures_1 4 rfl rfl)
theorem dX0_measures_29 : decode cX0_measures 29 = .ok (.goto 6, 3) := dk_167 0 6 (dk_at dksX0_measures_1 5 rfl rfl)
theorem dX0_measures_32 : decode cX0_measures 32 = .ok (.sipush 9999, 3) := dk_17 39 15 (dk_at dksX0_measures_1 8 rfl rfl)
theorem dX0_measures_35 : decode cX0_measures 35 = .ok (.iastore, 1) := dk_79 (dk_at dksX0_measures_1 11 rfl rfl)
theorem dX0_measures_36 : decode cX0_measures 36 = .ok (.iinc 3 1, 3) := dk_132 3 1 (dk_at dksX0_measures_1 12 rfl rfl)
theorem dX0_measures_39 : decode cX0_measures 39 = .ok (.goto (-29), 3) := dk_167 255 227 (dk_at dksX0_measures_1 15 rfl rfl)
theorem dX0_measures_42 : decode cX0_measures 42 = .ok (.iinc 2 1, 3) := dk_132 2 1 (dk_at dksX0_measures_1 18 rfl rfl)
theorem dX0_measures_45 : decode cX0_measures 45 = .ok (.goto (-43), 3) := dk_167 255 213 (dk_at dksX0_measures_1 21 rfl rfl)
theorem dX0_measures_48 : decode cX0_measures 48 = .ok (.iconst 0, 1) := dk_3 (dk_at dksX0_measures_2 0 rfl rfl)
theorem dX0_measures_49 : decode cX0_measures 49 = .ok (.istore_n 2, 1) := dk_61 (dk_at dksX0_measures_2 1 rfl rfl)
theorem dX0_measures_50 : decode cX0_measures 50 = .ok (.iload_n 2, 1) := dk_28 (dk_at dksX0_measures_2 2 rfl rfl)
theorem dX0_measures_51 : decode cX0_measures 51 = .ok (.aload_n 0, 1) := dk_42 (dk_at dksX0_measures_2 3 rfl rfl)
theorem dX0_measures_52 : decode cX0_measures 52 = .ok (.getfield 95, 3) := dk_180 0 95 (dk_at dksX0_measures_2 4 rfl rfl)
theorem dX0_measures_55 : decode cX0_measures 55 = .ok (.if_icmp .ge 77, 3) := dk_162 0 77 (dk_at dksX0_measures_2 7 rfl rfl)
theorem dX0_measures_58 : decode cX0_measures 58 = .ok (.iload_n 2, 1) := dk_28 (dk_at dksX0_measures_2 10 rfl rfl)
theorem dX0_measures_59 : decode cX0_measures 59 = .ok (.iload_n 1, 1) := dk_27 (dk_at dksX0_measures_2 11 rfl rfl)
theorem dX0_measures_60 : decode cX0_measures 60 = .ok (.if_icmp .ne 7, 3) := dk_160 0 7 (dk_at dksX0_measures_2 12 rfl rfl)
theorem dX0_measures_63 : decode cX0_measures 63 = .ok (.iconst 1, 1) := dk_4 (dk_at dksX0_measures_2 15 rfl rfl)
theorem dX0_measures_64 : decode cX0_measures 64 = .ok (.goto 9, 3) := dk_167 0 9 (dk_at dksX0_measures_2 16 rfl rfl)
theorem dX0_measures_67 : decode cX0_measures 67 = .ok (.aload_n 0, 1) := dk_42 (dk_at dksX0_measures_2 19 rfl rfl)
theorem dX0_measures_68 : decode cX0_measures 68 = .ok (.getfield 52, 3) := dk_180 0 52 (dk_at dksX0_measures_2 20 rfl rfl)
theorem dX0_measures_71 : decode cX0_measures 71 = .ok (.iload_n 2, 1) := dk_28 (dk_at dksX0_measures_2 23 rfl rfl)
theorem dX0_measures_72 : decode cX0_measures 72 = .ok (.iaload, 1) := dk_46 (dk_at dksX0_measures_3 0 rfl rfl)
theorem dX0_measures_73 : decode cX0_measures 73 = .ok (.istore_n 3, 1) := dk_62 (dk_at dksX0_measures_3 1 rfl rfl)
theorem dX0_measures_74 : decode cX0_measures 74 = .ok (.aload_n 0, 1) := dk_42 (dk_at dksX0_measures_3 2 rfl rfl)
theorem dX0_measures_75 : decode cX0_measures 75 = .ok (.aload_n 0, 1) := dk_42 (dk_at dksX0_measures_3 3 rfl rfl)
theorem dX0_measures_76 : decode cX0_measures 76 = .ok (.getfield 43, 3) := dk_180 0 43 (dk_at dksX0_measures_3 4 rfl rfl)
theorem dX0_measures_79 : decode cX0_measures 79 = .ok (.iload_n 2, 1) := dk_28 (dk_at dksX0_measures_3 7 rfl rfl)
theorem dX0_measures_80 : decode cX0_measures 80 = .ok (.iaload, 1) := dk_46 (dk_at dksX0_measures_3 8 rfl rfl)
theorem dX0_measures_81 : decode cX0_measures 81 = .ok (.aload_n 0, 1) := dk_42 (dk_at dksX0_measures_3 9 rfl rfl)
theorem dX0_measures_82 : decode cX0_measures 82 = .ok (.getfield 46, 3) := dk_180 0 46 (dk_at dksX0_measures_3 10 rfl rfl)
theorem dX0_measures_85 : decode cX0_measures 85 = .ok (.iload_n 2, 1) := dk_28 (dk_at dksX0_measures_3 13 rfl rfl)
theorem dX0_measures_86 : decode cX0_measures 86 = .ok (.iaload, 1) := dk_46 (dk_at dksX0_measures_3 14 rfl rfl)
theorem dX0_measures_87 : decode cX0_measures 87 = .ok (.aload_n 0, 1) := dk_42 (dk_at dksX0_measures_3 15 rfl rfl)
theorem dX0_measures_88 : decode cX0_measures 88 = .ok (.getfield 49, 3) := dk_180 0 49 (dk_at dksX0_measures_3 16 rfl rfl)
theorem dX0_measures_91 : decode cX0_measures 91 = .ok (.iload_n 2, 1) := dk_28 (dk_at dksX0_measures_3 19 rfl rfl)
theorem dX0_measures_92 : decode cX0_measures 92 = .ok (.iaload, 1) := dk_46 (dk_at dksX0_measures_3 20 rfl rfl)
theorem dX0_measures_93 : decode cX0_measures 93 = .ok (.iconst 3, 1) := dk_6 (dk_at dksX0_measures_3 21 rfl rfl)
theorem dX0_measures_94 : decode cX0_measures 94 = .ok (.iload_n 3, 1) := dk_29 (dk_at dksX0_measures_3 22 rfl rfl)
theorem dX0_measures_95 : decode cX0_measures 95 = .ok (.isub, 1) := dk_100 (dk_at dksX0_measures_3 23 rfl rfl)
theorem dX0_measures_96 : decode cX0_measures 96 = .ok (.imul, 1) := dk_104 (dk_at dksX0_measures_4 0 rfl rfl)
theorem dX0_measures_97 : decode cX0_measures 97 = .ok (.invokevirtual 183, 3) := dk_182 0 183 (dk_at dksX0_measures_4 1 rfl rfl)
theorem dX0_measures_100 : decode cX0_measures 100 = .ok (.aload_n 0, 1) := dk_42 (dk_at dksX0_measures_4 4 rfl rfl)
theorem dX0_measures_101 : decode cX0_measures 101 = .ok (.aload_n 0, 1) := dk_42 (dk_at dksX0_measures_4 5 rfl rfl)
theorem dX0_measures_102 : decode cX0_measures 102 = .ok (.getfield 46, 3) := dk_180 0 46 (dk_at dksX0_measures_4 6 rfl rfl)
theorem dX0_measures_105 : decode cX0_measures 105 = .ok (.iload_n 2, 1) := dk_28 (dk_at dksX0_measures_4 9 rfl rfl)
theorem dX0_measures_106 : decode cX0_measures 106 = .ok (.iaload, 1) := dk_46 (dk_at dksX0_measures_4 10 rfl rfl)
theorem dX0_measures_107 : decode cX0_measures 107 = .ok (.aload_n 0, 1) := dk_42 (dk_at dksX0_measures_4 11 rfl rfl)
theorem dX0_measures_108 : decode cX0_measures 108 = .ok (.getfield 43, 3) := dk_180 0 43 (dk_at dksX0_measures_4 12 rfl rfl)
theorem dX0_measures_111 : decode cX0_measures 111 = .ok (.iload_n 2, 1) := dk_28 (dk_at dksX0_measures_4 15 rfl rfl)
theorem dX0_measures_112 : decode cX0_measures 112 = .ok (.iaload, 1) := dk_46 (dk_at dksX0_measures_4 16 rfl rfl)
theorem dX0_measures_113 : decode cX0_measures 113 = .ok (.aload_n 0, 1) := dk_42 (dk_at dksX0_measures_4 17 rfl rfl)
theorem dX0_measures_114 : decode cX0_measures 114 = .ok (.getfield 49, 3) := dk_180 0 49 (dk_at dksX0_measures_4 18 rfl rfl)
theorem dX0_measures_117 : decode cX0_measures 117 = .ok (.iload_n 2, 1) := dk_28 (dk_at dksX0_measures_4 21 rfl rfl)
theorem dX0_measures_118 : decode cX0_measures 118 = .ok (.iaload, 1) := dk_46 (dk_at dksX0_measures_4 22 rfl rfl)
theorem dX0_measures_119 : decode cX0_measures 119 = .ok (.iconst 1, 1) := dk_4 (dk_at dksX0_measures_4 23 rfl rfl)
theorem dX0_measures_120 : decode cX0_measures 120 = .ok (.iload_n 3, 1) := dk_29 (dk_at dksX0_measures_5 0 rfl rfl)
theorem dX0_measures_121 : decode cX0_measures 121 = .ok (.iadd, 1) := dk_96 (dk_at dksX0_measures_5 1 rfl rfl)
theorem dX0_measures_122 : decode cX0_measures 122 = .ok (.imul, 1) := dk_104 (dk_at dksX0_measures_5 2 rfl rfl)
theorem dX0_measures_123 : decode cX0_measures 123 = .ok (.invokevirtual 183, 3) := dk_182 0 183 (dk_at dksX0_measures_5 3 rfl rfl)
theorem dX0_measures_126 : decode cX0_measures 126 = .ok (.iinc 2 1, 3) := dk_132 2 1 (dk_at dksX0_measures_5 6 rfl rfl)
theorem dX0_measures_129 : decode cX0_measures 129 = .ok (.goto (-79), 3) := dk_167 255 177 (dk_at dksX0_measures_5 9 rfl rfl)
theorem dX0_measures_132 : decode cX0_measures 132 = .ok (.iconst 0, 1) := dk_3 (dk_at dksX0_measures_5 12 rfl rfl)
theorem dX0_measures_133 : decode cX0_measures 133 = .ok (.istore_n 2, 1) := dk_61 (dk_at dksX0_measures_5 13 rfl rfl)
theorem dX0_measures_134 : decode cX0_measures 134 = .ok (.iload_n 2, 1) := dk_28 (dk_at dksX0_measures_5 14 rfl rfl)
theorem dX0_measures_135 : decode cX0_measures 135 = .ok (.bipush 8, 2) := dk_16 8 (dk_at dksX0_measures_5 15 rfl rfl)
theorem dX0_measures_137 : decode cX0_measures 137 = .ok (.if_icmp .ge 28, 3) := dk_162 0 28 (dk_at dksX0_measures_5 17 rfl rfl)
theorem dX0_measures_140 : decode cX0_measures 140 = .ok (.aload_n 0, 1) := dk_42 (dk_at dksX0_measures_5 20 rfl rfl)
theorem dX0_measures_141 : decode cX0_measures 141 = .ok (.getfield 175, 3) := dk_180 0 175 (dk_at dksX0_measures_5 21 rfl rfl)
theorem dX0_measures_144 : decode cX0_measures 144 = .ok (.iload_n 2, 1) := dk_28 (dk_at dksX0_measures_6 0 rfl rfl)
theorem dX0_measures_145 : decode cX0_measures 145 = .ok (.aaload, 1) := dk_50 (dk_at dksX0_measures_6 1 rfl rfl)
theorem dX0_measures_146 : decode cX0_measures 146 = .ok (.iconst 0, 1) := dk_3 (dk_at dksX0_measures_6 2 rfl rfl)
theorem dX0_measures_147 : decode cX0_measures 147 = .ok (.aload_n 0, 1) := dk_42 (dk_at dksX0_measures_6 3 rfl rfl)
theorem dX0_measures_148 : decode cX0_measures 148 = .ok (.getfield 187, 3) := dk_180 0 187 (dk_at dksX0_measures_6 4 rfl rfl)
theorem dX0_measures_151 : decode cX0_measures 151 = .ok (.iload_n 2, 1) := dk_28 (dk_at dksX0_measures_6 7 rfl rfl)
theorem dX0_measures_152 : decode cX0_measures 152 = .ok (.aaload, 1) := dk_50 (dk_at dksX0_measures_6 8 rfl rfl)
theorem dX0_measures_153 : decode cX0_measures 153 = .ok (.iconst 0, 1) := dk_3 (dk_at dksX0_measures_6 9 rfl rfl)
theorem dX0_measures_154 : decode cX0_measures 154 = .ok (.bipush 8, 2) := dk_16 8 (dk_at dksX0_measures_6 10 rfl rfl)
theorem dX0_measures_156 : decode cX0_measures 156 = .ok (.invokestatic 190, 3) := dk_184 0 190 (dk_at dksX0_measures_6 12 rfl rfl)
theorem dX0_measures_159 : decode cX0_measures 159 = .ok (.iinc 2 1, 3) := dk_132 2 1 (dk_at dksX0_measures_6 15 rfl rfl)
theorem dX0_measures_162 : decode cX0_measures 162 = .ok (.goto (-28), 3) := dk_167 255 228 (dk_at dksX0_measures_6 18 rfl rfl)
theorem dX0_measures_165 : decode cX0_measures 165 = .ok (.iconst 0, 1) := dk_3 (dk_at dksX0_measures_6 21 rfl rfl)
theorem dX0_measures_166 : decode cX0_measures 166 = .ok (.istore_n 2, 1) := dk_61 (dk_at dksX0_measures_6 22 rfl rfl)
theorem dX0_measures_167 : decode cX0_measures 167 = .ok (.iload_n 2, 1) := dk_28 (dk_at dksX0_measures_6 23 rfl rfl)
theorem dX0_measures_168 : decode cX0_measures 168 = .ok (.bipush 8, 2) := dk_16 8 (dk_at dksX0_measures_7 0 rfl rfl)
theorem dX0_measures_170 : decode cX0_measures 170 = .ok (.if_icmp .ge 78, 3) := dk_162 0 78 (dk_at dksX0_measures_7 2 rfl rfl)
theorem dX0_measures_173 : decode cX0_measures 173 = .ok (.iconst 0, 1) := dk_3 (dk_at dksX0_measures_7 5 rfl rfl)
theorem dX0_measures_174 : decode cX0_measures 174 = .ok (.istore_n 3, 1) := dk_62 (dk_at dksX0_measures_7 6 rfl rfl)
theorem dX0_measures_175 : decode cX0_measures 175 = .ok (.iload_n 3, 1) := dk_29 (dk_at dksX0_measures_7 7 rfl rfl)
theorem dX0_measures_176 : decode cX0_measures 176 = .ok (.bipush 8, 2) := dk_16 8 (dk_at dksX0_measures_7 8 rfl rfl)
theorem dX0_measures_178 : decode cX0_measures 178 = .ok (.if_icmp .ge 64, 3) := dk_162 0 64 (dk_at dksX0_measures_7 10 rfl rfl)
theorem dX0_measures_181 : decode cX0_measures 181 = .ok (.iconst 0, 1) := dk_3 (dk_at dksX0_measures_7 13 rfl rfl)
theorem dX0_measures_182 : decode cX0_measures 182 = .ok (.istore 4, 2) := dk_54 4 (dk_at dksX0_measures_7 14 rfl rfl)
theorem dX0_measures_184 : decode cX0_measures 184 = .ok (.iload 4, 2) := dk_21 4 (dk_at dksX0_measures_7 16 rfl rfl)
theorem dX0_measures_186 : decode cX0_measures 186 = .ok (.bipush 8, 2) := dk_16 8 (dk_at dksX0_measures_7 18 rfl rfl)
theorem dX0_measures_188 : decode cX0_measures 188 = .ok (.if_icmp .ge 48, 3) := dk_162 0 48 (dk_at dksX0_measures_7 20 rfl rfl)
theorem dX0_measures_191 : decode cX0_measures 191 = .ok (.aload_n 0, 1) := dk_42 (dk_at dksX0_measures_7 23 rfl rfl)
theorem dX0_measures_192 : decode cX0_measures 192 = .ok (.getfield 187, 3) := dk_180 0 187 (dk_at dksX0_measures_8 0 rfl rfl)
theorem dX0_measures_195 : decode cX0_measures 195 = .ok (.iload_n 3, 1) := dk_29 (dk_at dksX0_measures_8 3 rfl rfl)
theorem dX0_measures_196 : decode cX0_measures 196 = .ok (.aaload, 1) := dk_50 (dk_at dksX0_measures_8 4 rfl rfl)
theorem dX0_measures_197 : decode cX0_measures 197 = .ok (.iload 4, 2) := dk_21 4 (dk_at dksX0_measures_8 5 rfl rfl)
theorem dX0_measures_199 : decode cX0_measures 199 = .ok (.aload_n 0, 1) := dk_42 (dk_at dksX0_measures_8 7 rfl rfl)
theorem dX0_measures_200 : decode cX0_measures 200 = .ok (.getfield 187, 3) := dk_180 0 187 (dk_at dksX0_measures_8 8 rfl rfl)
theorem dX0_measures_203 : decode cX0_measures 203 = .ok (.iload_n 3, 1) := dk_29 (dk_at dksX0_measures_8 11 rfl rfl)
theorem dX0_measures_204 : decode cX0_measures 204 = .ok (.aaload, 1) := dk_50 (dk_at dksX0_measures_8 12 rfl rfl)
theorem dX0_measures_205 : decode cX0_measures 205 = .ok (.iload 4, 2) := dk_21 4 (dk_at dksX0_measures_8 13 rfl rfl)
theorem dX0_measures_207 : decode cX0_measures 207 = .ok (.iaload, 1) := dk_46 (dk_at dksX0_measures_8 15 rfl rfl)
theorem dX0_measures_208 : decode cX0_measures 208 = .ok (.aload_n 0, 1) := dk_42 (dk_at dksX0_measures_8 16 rfl rfl)
theorem dX0_measures_209 : decode cX0_measures 209 = .ok (.getfield 187, 3) := dk_180 0 187 (dk_at dksX0_measures_8 17 rfl rfl)
theorem dX0_measures_212 : decode cX0_measures 212 = .ok (.iload_n 3, 1) := dk_29 (dk_at dksX0_measures_8 20 rfl rfl)
theorem dX0_measures_213 : decode cX0_measures 213 = .ok (.aaload, 1) := dk_50 (dk_at dksX0_measures_8 21 rfl rfl)
theorem dX0_measures_214 : decode cX0_measures 214 = .ok (.iload_n 2, 1) := dk_28 (dk_at dksX0_measures_8 22 rfl rfl)
theorem dX0_measures_215 : decode cX0_measures 215 = .ok (.iaload, 1) := dk_46 (dk_at dksX0_measures_8 23 rfl rfl)
theorem dX0_measures_216 : decode cX0_measures 216 = .ok (.aload_n 0, 1) := dk_42 (dk_at dksX0_measures_9 0 rfl rfl)
theorem dX0_measures_217 : decode cX0_measures 217 = .ok (.getfield 187, 3) := dk_180 0 187 (dk_at dksX0_measures_9 1 rfl rfl)
theorem dX0_measures_220 : decode cX0_measures 220 = .ok (.iload_n 2, 1) := dk_28 (dk_at dksX0_measures_9 4 rfl rfl)
theorem dX0_measures_221 : decode cX0_measures 221 = .ok (.aaload, 1) := dk_50 (dk_at dksX0_measures_9 5 rfl rfl)
theorem dX0_measures_222 : decode cX0_measures 222 = .ok (.iload 4, 2) := dk_21 4 (dk_at dksX0_measures_9 6 rfl rfl)
theorem dX0_measures_224 : decode cX0_measures 224 = .ok (.iaload, 1) := dk_46 (dk_at dksX0_measures_9 8 rfl rfl)
theorem dX0_measures_225 : decode cX0_measures 225 = .ok (.iadd, 1) := dk_96 (dk_at dksX0_measures_9 9 rfl rfl)
theorem dX0_measures_226 : decode cX0_measures 226 = .ok (.invokestatic 178, 3) := dk_184 0 178 (dk_at dksX0_measures_9 10 rfl rfl)
theorem dX0_measures_229 : decode cX0_measures 229 = .ok (.iastore, 1) := dk_79 (dk_at dksX0_measures_9 13 rfl rfl)
theorem dX0_measures_230 : decode cX0_measures 230 = .ok (.iinc 4 1, 3) := dk_132 4 1 (dk_at dksX0_measures_9 14 rfl rfl)
theorem dX0_measures_233 : decode cX0_measures 233 = .ok (.goto (-49), 3) := dk_167 255 207 (dk_at dksX0_measures_9 17 rfl rfl)
theorem dX0_measures_236 : decode cX0_measures 236 = .ok (.iinc 3 1, 3) := dk_132 3 1 (dk_at dksX0_measures_9 20 rfl rfl)
theorem dX0_measures_239 : decode cX0_measures 239 = .ok (.goto (-64), 3) := dk_167 255 192 (dk_at dksX0_measures_10 0 rfl rfl)
theorem dX0_measures_242 : decode cX0_measures 242 = .ok (.iinc 2 1, 3) := dk_132 2 1 (dk_at dksX0_measures_10 3 rfl rfl)
theorem dX0_measures_245 : decode cX0_measures 245 = .ok (.goto (-78), 3) := dk_167 255 178 (dk_at dksX0_measures_10 6 rfl rfl)
theorem dX0_measures_248 : decode cX0_measures 248 = .ok (.return_, 1) := dk_177 (dk_at dksX0_measures_10 9 rfl rfl)
abbrev cX0_joins : ByteArray := prog_1_method_37_code
def yX0_joins : MethodName := ⟨RX0, "joins", "(III)V"⟩
def dkwX0_joins_0 : List UInt8 := [42, 180, 0, 175, 27, 50, 28, 42, 180, 0, 175, 27, 50, 28, 46, 29, 184, 0, 178, 79, 177]
abbrev dktX0_joins_0 : List UInt8 := dkwX0_joins_0 ++ []
theorem dksX0_joins_0 : cX0_joins.data.toList.drop 0 = dktX0_joins_0 := by decide +kernel
theorem dX0_joins_0 : decode cX0_joins 0 = .ok (.aload_n 0, 1) := dk_42 (dk_at dksX0_joins_0 0 rfl rfl)
theorem dX0_joins_1 : decode cX0_joins 1 = .ok (.getfield 175, 3) := dk_180 0 175 (dk_at dksX0_joins_0 1 rfl rfl)
theorem dX0_joins_4 : decode cX0_joins 4 = .ok (.iload_n 1, 1) := dk_27 (dk_at dksX0_joins_0 4 rfl rfl)
theorem dX0_joins_5 : decode cX0_joins 5 = .ok (.aaload, 1) := dk_50 (dk_at dksX0_joins_0 5 rfl rfl)
theorem dX0_joins_6 : decode cX0_joins 6 = .ok (.iload_n 2, 1) := dk_28 (dk_at dksX0_joins_0 6 rfl rfl)
theorem dX0_joins_7 : decode cX0_joins 7 = .ok (.aload_n 0, 1) := dk_42 (dk_at dksX0_joins_0 7 rfl rfl)
theorem dX0_joins_8 : decode cX0_joins 8 = .ok (.getfield 175, 3) := dk_180 0 175 (dk_at dksX0_joins_0 8 rfl rfl)
theorem dX0_joins_11 : decode cX0_joins 11 = .ok (.iload_n 1, 1) := dk_27 (dk_at dksX0_joins_0 11 rfl rfl)
theorem dX0_joins_12 : decode cX0_joins 12 = .ok (.aaload, 1) := dk_50 (dk_at dksX0_joins_0 12 rfl rfl)
theorem dX0_joins_13 : decode cX0_joins 13 = .ok (.iload_n 2, 1) := dk_28 (dk_at dksX0_joins_0 13 rfl rfl)
theorem dX0_joins_14 : decode cX0_joins 14 = .ok (.iaload, 1) := dk_46 (dk_at dksX0_joins_0 14 rfl rfl)
theorem dX0_joins_15 : decode cX0_joins 15 = .ok (.iload_n 3, 1) := dk_29 (dk_at dksX0_joins_0 15 rfl rfl)
theorem dX0_joins_16 : decode cX0_joins 16 = .ok (.invokestatic 178, 3) := dk_184 0 178 (dk_at dksX0_joins_0 16 rfl rfl)
theorem dX0_joins_19 : decode cX0_joins 19 = .ok (.iastore, 1) := dk_79 (dk_at dksX0_joins_0 19 rfl rfl)
theorem dX0_joins_20 : decode cX0_joins 20 = .ok (.return_, 1) := dk_177 (dk_at dksX0_joins_0 20 rfl rfl)
abbrev cX0_at : ByteArray := prog_1_method_51_code
def yX0_at : MethodName := ⟨RX0, "at", "(III)I"⟩
def dkwX0_at_1 : List UInt8 := [42, 27, 28, 29, 182, 1, 23, 167, 0, 5, 16, 254, 172]
abbrev dktX0_at_1 : List UInt8 := dkwX0_at_1 ++ []
def dkwX0_at_0 : List UInt8 := [27, 184, 0, 138, 153, 0, 30, 42, 28, 182, 0, 126, 153, 0, 22, 29, 3, 6, 184, 0, 5, 153, 0, 13]
abbrev dktX0_at_0 : List UInt8 := dkwX0_at_0 ++ dktX0_at_1
theorem dksX0_at_0 : cX0_at.data.toList.drop 0 = dktX0_at_0 := by decide +kernel
theorem dksX0_at_1 : cX0_at.data.toList.drop 24 = dktX0_at_1 := dk_seg dksX0_at_0 24 rfl rfl
theorem dX0_at_0 : decode cX0_at 0 = .ok (.iload_n 1, 1) := dk_27 (dk_at dksX0_at_0 0 rfl rfl)
theorem dX0_at_1 : decode cX0_at 1 = .ok (.invokestatic 138, 3) := dk_184 0 138 (dk_at dksX0_at_0 1 rfl rfl)
theorem dX0_at_4 : decode cX0_at 4 = .ok (.ifCond .eq 30, 3) := dk_153 0 30 (dk_at dksX0_at_0 4 rfl rfl)
theorem dX0_at_7 : decode cX0_at 7 = .ok (.aload_n 0, 1) := dk_42 (dk_at dksX0_at_0 7 rfl rfl)
theorem dX0_at_8 : decode cX0_at 8 = .ok (.iload_n 2, 1) := dk_28 (dk_at dksX0_at_0 8 rfl rfl)
theorem dX0_at_9 : decode cX0_at 9 = .ok (.invokevirtual 126, 3) := dk_182 0 126 (dk_at dksX0_at_0 9 rfl rfl)
theorem dX0_at_12 : decode cX0_at 12 = .ok (.ifCond .eq 22, 3) := dk_153 0 22 (dk_at dksX0_at_0 12 rfl rfl)
theorem dX0_at_15 : decode cX0_at 15 = .ok (.iload_n 3, 1) := dk_29 (dk_at dksX0_at_0 15 rfl rfl)
theorem dX0_at_16 : decode cX0_at 16 = .ok (.iconst 0, 1) := dk_3 (dk_at dksX0_at_0 16 rfl rfl)
theorem dX0_at_17 : decode cX0_at 17 = .ok (.iconst 3, 1) := dk_6 (dk_at dksX0_at_0 17 rfl rfl)
theorem dX0_at_18 : decode cX0_at 18 = .ok (.invokestatic 5, 3) := dk_184 0 5 (dk_at dksX0_at_0 18 rfl rfl)
theorem dX0_at_21 : decode cX0_at 21 = .ok (.ifCond .eq 13, 3) := dk_153 0 13 (dk_at dksX0_at_0 21 rfl rfl)
theorem dX0_at_24 : decode cX0_at 24 = .ok (.aload_n 0, 1) := dk_42 (dk_at dksX0_at_1 0 rfl rfl)
theorem dX0_at_25 : decode cX0_at 25 = .ok (.iload_n 1, 1) := dk_27 (dk_at dksX0_at_1 1 rfl rfl)
theorem dX0_at_26 : decode cX0_at 26 = .ok (.iload_n 2, 1) := dk_28 (dk_at dksX0_at_1 2 rfl rfl)
theorem dX0_at_27 : decode cX0_at 27 = .ok (.iload_n 3, 1) := dk_29 (dk_at dksX0_at_1 3 rfl rfl)
theorem dX0_at_28 : decode cX0_at 28 = .ok (.invokevirtual 279, 3) := dk_182 1 23 (dk_at dksX0_at_1 4 rfl rfl)
theorem dX0_at_31 : decode cX0_at 31 = .ok (.goto 5, 3) := dk_167 0 5 (dk_at dksX0_at_1 7 rfl rfl)
theorem dX0_at_34 : decode cX0_at 34 = .ok (.bipush (-2), 2) := dk_16 254 (dk_at dksX0_at_1 10 rfl rfl)
theorem dX0_at_36 : decode cX0_at 36 = .ok (.ireturn, 1) := dk_172 (dk_at dksX0_at_1 12 rfl rfl)
abbrev cX0_atOf : ByteArray := prog_1_method_50_code
def yX0_atOf : MethodName := ⟨RX0, "atOf", "(III)I"⟩
def dkwX0_atOf_3 : List UInt8 := [167, 0, 4, 2, 172]
abbrev dktX0_atOf_3 : List UInt8 := dkwX0_atOf_3 ++ []
def dkwX0_atOf_2 : List UInt8 := [25, 4, 180, 0, 254, 167, 0, 21, 25, 4, 180, 0, 221, 4, 160, 0, 11, 25, 4, 180, 0, 234]
abbrev dktX0_atOf_2 : List UInt8 := dkwX0_atOf_2 ++ dktX0_atOf_3
def dkwX0_atOf_1 : List UInt8 := [180, 0, 221, 167, 0, 47, 29, 4, 160, 0, 11, 25, 4, 180, 0, 237, 167, 0, 34, 29, 5, 160, 0, 11]
abbrev dktX0_atOf_1 : List UInt8 := dkwX0_atOf_1 ++ dktX0_atOf_2
def dkwX0_atOf_0 : List UInt8 := [42, 182, 1, 17, 42, 27, 182, 1, 20, 42, 180, 0, 62, 28, 50, 58, 4, 29, 154, 0, 11, 25, 4]
abbrev dktX0_atOf_0 : List UInt8 := dkwX0_atOf_0 ++ dktX0_atOf_1
theorem dksX0_atOf_0 : cX0_atOf.data.toList.drop 0 = dktX0_atOf_0 := by decide +kernel
theorem dksX0_atOf_1 : cX0_atOf.data.toList.drop 23 = dktX0_atOf_1 := dk_seg dksX0_atOf_0 23 rfl rfl
theorem dksX0_atOf_2 : cX0_atOf.data.toList.drop 47 = dktX0_atOf_2 := dk_seg dksX0_atOf_1 24 rfl rfl
theorem dksX0_atOf_3 : cX0_atOf.data.toList.drop 69 = dktX0_atOf_3 := dk_seg dksX0_atOf_2 22 rfl rfl
theorem dX0_atOf_0 : decode cX0_atOf 0 = .ok (.aload_n 0, 1) := dk_42 (dk_at dksX0_atOf_0 0 rfl rfl)
theorem dX0_atOf_1 : decode cX0_atOf 1 = .ok (.invokevirtual 273, 3) := dk_182 1 17 (dk_at dksX0_atOf_0 1 rfl rfl)
theorem dX0_atOf_4 : decode cX0_atOf 4 = .ok (.aload_n 0, 1) := dk_42 (dk_at dksX0_atOf_0 4 rfl rfl)
theorem dX0_atOf_5 : decode cX0_atOf 5 = .ok (.iload_n 1, 1) := dk_27 (dk_at dksX0_atOf_0 5 rfl rfl)
theorem dX0_atOf_6 : decode cX0_atOf 6 = .ok (.invokevirtual 276, 3) := dk_182 1 20 (dk_at dksX0_atOf_0 6 rfl rfl)
theorem dX0_atOf_9 : decode cX0_atOf 9 = .ok (.aload_n 0, 1) := dk_42 (dk_at dksX0_atOf_0 9 rfl rfl)
theorem dX0_atOf_10 : decode cX0_atOf 10 = .ok (.getfield 62, 3) := dk_180 0 62 (dk_at dksX0_atOf_0 10 rfl rfl)
theorem dX0_atOf_13 : decode cX0_atOf 13 = .ok (.iload_n 2, 1) := dk_28 (dk_at dksX0_atOf_0 13 rfl rfl)
theorem dX0_atOf_14 : decode cX0_atOf 14 = .ok (.aaload, 1) := dk_50 (dk_at dksX0_atOf_0 14 rfl rfl)
theorem dX0_atOf_15 : decode cX0_atOf 15 = .ok (.astore 4, 2) := dk_58 4 (dk_at dksX0_atOf_0 15 rfl rfl)
theorem dX0_atOf_17 : decode cX0_atOf 17 = .ok (.iload_n 3, 1) := dk_29 (dk_at dksX0_atOf_0 17 rfl rfl)
theorem dX0_atOf_18 : decode cX0_atOf 18 = .ok (.ifCond .ne 11, 3) := dk_154 0 11 (dk_at dksX0_atOf_0 18 rfl rfl)
theorem dX0_atOf_21 : decode cX0_atOf 21 = .ok (.aload 4, 2) := dk_25 4 (dk_at dksX0_atOf_0 21 rfl rfl)
theorem dX0_atOf_23 : decode cX0_atOf 23 = .ok (.getfield 221, 3) := dk_180 0 221 (dk_at dksX0_atOf_1 0 rfl rfl)
theorem dX0_atOf_26 : decode cX0_atOf 26 = .ok (.goto 47, 3) := dk_167 0 47 (dk_at dksX0_atOf_1 3 rfl rfl)
theorem dX0_atOf_29 : decode cX0_atOf 29 = .ok (.iload_n 3, 1) := dk_29 (dk_at dksX0_atOf_1 6 rfl rfl)
theorem dX0_atOf_30 : decode cX0_atOf 30 = .ok (.iconst 1, 1) := dk_4 (dk_at dksX0_atOf_1 7 rfl rfl)
theorem dX0_atOf_31 : decode cX0_atOf 31 = .ok (.if_icmp .ne 11, 3) := dk_160 0 11 (dk_at dksX0_atOf_1 8 rfl rfl)
theorem dX0_atOf_34 : decode cX0_atOf 34 = .ok (.aload 4, 2) := dk_25 4 (dk_at dksX0_atOf_1 11 rfl rfl)
theorem dX0_atOf_36 : decode cX0_atOf 36 = .ok (.getfield 237, 3) := dk_180 0 237 (dk_at dksX0_atOf_1 13 rfl rfl)
theorem dX0_atOf_39 : decode cX0_atOf 39 = .ok (.goto 34, 3) := dk_167 0 34 (dk_at dksX0_atOf_1 16 rfl rfl)
theorem dX0_atOf_42 : decode cX0_atOf 42 = .ok (.iload_n 3, 1) := dk_29 (dk_at dksX0_atOf_1 19 rfl rfl)
theorem dX0_atOf_43 : decode cX0_atOf 43 = .ok (.iconst 2, 1) := dk_5 (dk_at dksX0_atOf_1 20 rfl rfl)
theorem dX0_atOf_44 : decode cX0_atOf 44 = .ok (.if_icmp .ne 11, 3) := dk_160 0 11 (dk_at dksX0_atOf_1 21 rfl rfl)
theorem dX0_atOf_47 : decode cX0_atOf 47 = .ok (.aload 4, 2) := dk_25 4 (dk_at dksX0_atOf_2 0 rfl rfl)
theorem dX0_atOf_49 : decode cX0_atOf 49 = .ok (.getfield 254, 3) := dk_180 0 254 (dk_at dksX0_atOf_2 2 rfl rfl)
theorem dX0_atOf_52 : decode cX0_atOf 52 = .ok (.goto 21, 3) := dk_167 0 21 (dk_at dksX0_atOf_2 5 rfl rfl)
theorem dX0_atOf_55 : decode cX0_atOf 55 = .ok (.aload 4, 2) := dk_25 4 (dk_at dksX0_atOf_2 8 rfl rfl)
theorem dX0_atOf_57 : decode cX0_atOf 57 = .ok (.getfield 221, 3) := dk_180 0 221 (dk_at dksX0_atOf_2 10 rfl rfl)
theorem dX0_atOf_60 : decode cX0_atOf 60 = .ok (.iconst 1, 1) := dk_4 (dk_at dksX0_atOf_2 13 rfl rfl)
theorem dX0_atOf_61 : decode cX0_atOf 61 = .ok (.if_icmp .ne 11, 3) := dk_160 0 11 (dk_at dksX0_atOf_2 14 rfl rfl)
theorem dX0_atOf_64 : decode cX0_atOf 64 = .ok (.aload 4, 2) := dk_25 4 (dk_at dksX0_atOf_2 17 rfl rfl)
theorem dX0_atOf_66 : decode cX0_atOf 66 = .ok (.getfield 234, 3) := dk_180 0 234 (dk_at dksX0_atOf_2 19 rfl rfl)
theorem dX0_atOf_69 : decode cX0_atOf 69 = .ok (.goto 4, 3) := dk_167 0 4 (dk_at dksX0_atOf_3 0 rfl rfl)
theorem dX0_atOf_72 : decode cX0_atOf 72 = .ok (.iconst (-1), 1) := dk_2 (dk_at dksX0_atOf_3 3 rfl rfl)
theorem dX0_atOf_73 : decode cX0_atOf 73 = .ok (.ireturn, 1) := dk_172 (dk_at dksX0_atOf_3 4 rfl rfl)
abbrev cX0_asTold : ByteArray := prog_1_method_42_code
def yX0_asTold : MethodName := ⟨RX0, "asTold", "()V"⟩
def dkwX0_asTold_0 : List UInt8 := [42, 182, 0, 107, 42, 2, 182, 0, 196, 42, 3, 181, 0, 203, 177]
abbrev dktX0_asTold_0 : List UInt8 := dkwX0_asTold_0 ++ []
theorem dksX0_asTold_0 : cX0_asTold.data.toList.drop 0 = dktX0_asTold_0 := by decide +kernel
theorem dX0_asTold_0 : decode cX0_asTold 0 = .ok (.aload_n 0, 1) := dk_42 (dk_at dksX0_asTold_0 0 rfl rfl)
theorem dX0_asTold_1 : decode cX0_asTold 1 = .ok (.invokevirtual 107, 3) := dk_182 0 107 (dk_at dksX0_asTold_0 1 rfl rfl)
theorem dX0_asTold_4 : decode cX0_asTold 4 = .ok (.aload_n 0, 1) := dk_42 (dk_at dksX0_asTold_0 4 rfl rfl)
theorem dX0_asTold_5 : decode cX0_asTold 5 = .ok (.iconst (-1), 1) := dk_2 (dk_at dksX0_asTold_0 5 rfl rfl)
theorem dX0_asTold_6 : decode cX0_asTold 6 = .ok (.invokevirtual 196, 3) := dk_182 0 196 (dk_at dksX0_asTold_0 6 rfl rfl)
theorem dX0_asTold_9 : decode cX0_asTold 9 = .ok (.aload_n 0, 1) := dk_42 (dk_at dksX0_asTold_0 9 rfl rfl)
theorem dX0_asTold_10 : decode cX0_asTold 10 = .ok (.iconst 0, 1) := dk_3 (dk_at dksX0_asTold_0 10 rfl rfl)
theorem dX0_asTold_11 : decode cX0_asTold 11 = .ok (.putfield 203, 3) := dk_181 0 203 (dk_at dksX0_asTold_0 11 rfl rfl)
theorem dX0_asTold_14 : decode cX0_asTold 14 = .ok (.return_, 1) := dk_177 (dk_at dksX0_asTold_0 14 rfl rfl)
abbrev cX0_runs : ByteArray := prog_1_method_49_code
def yX0_runs : MethodName := ⟨RX0, "runs", "(I)V"⟩
def dkwX0_runs_0 : List UInt8 := [42, 182, 1, 13, 3, 61, 28, 27, 163, 0, 14, 42, 28, 182, 1, 14, 132, 2, 1, 167, 255, 243, 177]
abbrev dktX0_runs_0 : List UInt8 := dkwX0_runs_0 ++ []
theorem dksX0_runs_0 : cX0_runs.data.toList.drop 0 = dktX0_runs_0 := by decide +kernel
theorem dX0_runs_0 : decode cX0_runs 0 = .ok (.aload_n 0, 1) := dk_42 (dk_at dksX0_runs_0 0 rfl rfl)
theorem dX0_runs_1 : decode cX0_runs 1 = .ok (.invokevirtual 269, 3) := dk_182 1 13 (dk_at dksX0_runs_0 1 rfl rfl)
theorem dX0_runs_4 : decode cX0_runs 4 = .ok (.iconst 0, 1) := dk_3 (dk_at dksX0_runs_0 4 rfl rfl)
theorem dX0_runs_5 : decode cX0_runs 5 = .ok (.istore_n 2, 1) := dk_61 (dk_at dksX0_runs_0 5 rfl rfl)
theorem dX0_runs_6 : decode cX0_runs 6 = .ok (.iload_n 2, 1) := dk_28 (dk_at dksX0_runs_0 6 rfl rfl)
theorem dX0_runs_7 : decode cX0_runs 7 = .ok (.iload_n 1, 1) := dk_27 (dk_at dksX0_runs_0 7 rfl rfl)
theorem dX0_runs_8 : decode cX0_runs 8 = .ok (.if_icmp .gt 14, 3) := dk_163 0 14 (dk_at dksX0_runs_0 8 rfl rfl)
theorem dX0_runs_11 : decode cX0_runs 11 = .ok (.aload_n 0, 1) := dk_42 (dk_at dksX0_runs_0 11 rfl rfl)
theorem dX0_runs_12 : decode cX0_runs 12 = .ok (.iload_n 2, 1) := dk_28 (dk_at dksX0_runs_0 12 rfl rfl)
theorem dX0_runs_13 : decode cX0_runs 13 = .ok (.invokevirtual 270, 3) := dk_182 1 14 (dk_at dksX0_runs_0 13 rfl rfl)
theorem dX0_runs_16 : decode cX0_runs 16 = .ok (.iinc 2 1, 3) := dk_132 2 1 (dk_at dksX0_runs_0 16 rfl rfl)
theorem dX0_runs_19 : decode cX0_runs 19 = .ok (.goto (-13), 3) := dk_167 255 243 (dk_at dksX0_runs_0 19 rfl rfl)
theorem dX0_runs_22 : decode cX0_runs 22 = .ok (.return_, 1) := dk_177 (dk_at dksX0_runs_0 22 rfl rfl)
abbrev cX0_begins : ByteArray := prog_1_method_44_code
def yX0_begins : MethodName := ⟨RX0, "begins", "()V"⟩
def dkwX0_begins_2 : List UInt8 := [42, 2, 181, 0, 215, 42, 2, 181, 0, 218, 177]
abbrev dktX0_begins_2 : List UInt8 := dkwX0_begins_2 ++ []
def dkwX0_begins_1 : List UInt8 := [167, 255, 236, 3, 60, 27, 16, 8, 162, 0, 16, 42, 180, 0, 212, 27, 3, 79, 132, 1, 1, 167, 255, 240]
abbrev dktX0_begins_1 : List UInt8 := dkwX0_begins_1 ++ dktX0_begins_2
def dkwX0_begins_0 : List UInt8 := [3, 60, 27, 42, 180, 0, 98, 162, 0, 18, 42, 180, 0, 62, 27, 50, 182, 0, 209, 132, 1, 1]
abbrev dktX0_begins_0 : List UInt8 := dkwX0_begins_0 ++ dktX0_begins_1
theorem dksX0_begins_0 : cX0_begins.data.toList.drop 0 = dktX0_begins_0 := by decide +kernel
theorem dksX0_begins_1 : cX0_begins.data.toList.drop 22 = dktX0_begins_1 := dk_seg dksX0_begins_0 22 rfl rfl
theorem dksX0_begins_2 : cX0_begins.data.toList.drop 46 = dktX0_begins_2 := dk_seg dksX0_begins_1 24 rfl rfl
theorem dX0_begins_0 : decode cX0_begins 0 = .ok (.iconst 0, 1) := dk_3 (dk_at dksX0_begins_0 0 rfl rfl)
theorem dX0_begins_1 : decode cX0_begins 1 = .ok (.istore_n 1, 1) := dk_60 (dk_at dksX0_begins_0 1 rfl rfl)
theorem dX0_begins_2 : decode cX0_begins 2 = .ok (.iload_n 1, 1) := dk_27 (dk_at dksX0_begins_0 2 rfl rfl)
theorem dX0_begins_3 : decode cX0_begins 3 = .ok (.aload_n 0, 1) := dk_42 (dk_at dksX0_begins_0 3 rfl rfl)
theorem dX0_begins_4 : decode cX0_begins 4 = .ok (.getfield 98, 3) := dk_180 0 98 (dk_at dksX0_begins_0 4 rfl rfl)
theorem dX0_begins_7 : decode cX0_begins 7 = .ok (.if_icmp .ge 18, 3) := dk_162 0 18 (dk_at dksX0_begins_0 7 rfl rfl)
theorem dX0_begins_10 : decode cX0_begins 10 = .ok (.aload_n 0, 1) := dk_42 (dk_at dksX0_begins_0 10 rfl rfl)
theorem dX0_begins_11 : decode cX0_begins 11 = .ok (.getfield 62, 3) := dk_180 0 62 (dk_at dksX0_begins_0 11 rfl rfl)
theorem dX0_begins_14 : decode cX0_begins 14 = .ok (.iload_n 1, 1) := dk_27 (dk_at dksX0_begins_0 14 rfl rfl)
theorem dX0_begins_15 : decode cX0_begins 15 = .ok (.aaload, 1) := dk_50 (dk_at dksX0_begins_0 15 rfl rfl)
theorem dX0_begins_16 : decode cX0_begins 16 = .ok (.invokevirtual 209, 3) := dk_182 0 209 (dk_at dksX0_begins_0 16 rfl rfl)
theorem dX0_begins_19 : decode cX0_begins 19 = .ok (.iinc 1 1, 3) := dk_132 1 1 (dk_at dksX0_begins_0 19 rfl rfl)
theorem dX0_begins_22 : decode cX0_begins 22 = .ok (.goto (-20), 3) := dk_167 255 236 (dk_at dksX0_begins_1 0 rfl rfl)
theorem dX0_begins_25 : decode cX0_begins 25 = .ok (.iconst 0, 1) := dk_3 (dk_at dksX0_begins_1 3 rfl rfl)
theorem dX0_begins_26 : decode cX0_begins 26 = .ok (.istore_n 1, 1) := dk_60 (dk_at dksX0_begins_1 4 rfl rfl)
theorem dX0_begins_27 : decode cX0_begins 27 = .ok (.iload_n 1, 1) := dk_27 (dk_at dksX0_begins_1 5 rfl rfl)
theorem dX0_begins_28 : decode cX0_begins 28 = .ok (.bipush 8, 2) := dk_16 8 (dk_at dksX0_begins_1 6 rfl rfl)
theorem dX0_begins_30 : decode cX0_begins 30 = .ok (.if_icmp .ge 16, 3) := dk_162 0 16 (dk_at dksX0_begins_1 8 rfl rfl)
theorem dX0_begins_33 : decode cX0_begins 33 = .ok (.aload_n 0, 1) := dk_42 (dk_at dksX0_begins_1 11 rfl rfl)
theorem dX0_begins_34 : decode cX0_begins 34 = .ok (.getfield 212, 3) := dk_180 0 212 (dk_at dksX0_begins_1 12 rfl rfl)
theorem dX0_begins_37 : decode cX0_begins 37 = .ok (.iload_n 1, 1) := dk_27 (dk_at dksX0_begins_1 15 rfl rfl)
theorem dX0_begins_38 : decode cX0_begins 38 = .ok (.iconst 0, 1) := dk_3 (dk_at dksX0_begins_1 16 rfl rfl)
theorem dX0_begins_39 : decode cX0_begins 39 = .ok (.iastore, 1) := dk_79 (dk_at dksX0_begins_1 17 rfl rfl)
theorem dX0_begins_40 : decode cX0_begins 40 = .ok (.iinc 1 1, 3) := dk_132 1 1 (dk_at dksX0_begins_1 18 rfl rfl)
theorem dX0_begins_43 : decode cX0_begins 43 = .ok (.goto (-16), 3) := dk_167 255 240 (dk_at dksX0_begins_1 21 rfl rfl)
theorem dX0_begins_46 : decode cX0_begins 46 = .ok (.aload_n 0, 1) := dk_42 (dk_at dksX0_begins_2 0 rfl rfl)
theorem dX0_begins_47 : decode cX0_begins 47 = .ok (.iconst (-1), 1) := dk_2 (dk_at dksX0_begins_2 1 rfl rfl)
theorem dX0_begins_48 : decode cX0_begins 48 = .ok (.putfield 215, 3) := dk_181 0 215 (dk_at dksX0_begins_2 2 rfl rfl)
theorem dX0_begins_51 : decode cX0_begins 51 = .ok (.aload_n 0, 1) := dk_42 (dk_at dksX0_begins_2 5 rfl rfl)
theorem dX0_begins_52 : decode cX0_begins 52 = .ok (.iconst (-1), 1) := dk_2 (dk_at dksX0_begins_2 6 rfl rfl)
theorem dX0_begins_53 : decode cX0_begins 53 = .ok (.putfield 218, 3) := dk_181 0 218 (dk_at dksX0_begins_2 7 rfl rfl)
theorem dX0_begins_56 : decode cX0_begins 56 = .ok (.return_, 1) := dk_177 (dk_at dksX0_begins_2 10 rfl rfl)
abbrev cX0_goesBy : ByteArray := prog_1_method_48_code
def yX0_goesBy : MethodName := ⟨RX0, "goesBy", "(I)V"⟩
def dkwX0_goesBy_2 : List UInt8 := [42, 180, 0, 62, 28, 50, 180, 0, 237, 79, 132, 2, 1, 167, 255, 203, 177]
abbrev dktX0_goesBy_2 : List UInt8 := dkwX0_goesBy_2 ++ []
def dkwX0_goesBy_1 : List UInt8 := [182, 0, 230, 153, 0, 14, 42, 42, 180, 0, 62, 28, 50, 27, 182, 1, 7, 42, 180, 1, 11, 27, 50, 28]
abbrev dktX0_goesBy_1 : List UInt8 := dkwX0_goesBy_1 ++ dktX0_goesBy_2
def dkwX0_goesBy_0 : List UInt8 := [42, 27, 182, 1, 4, 3, 61, 28, 42, 180, 0, 98, 162, 0, 51, 42, 42, 180, 0, 62, 28, 50, 27]
abbrev dktX0_goesBy_0 : List UInt8 := dkwX0_goesBy_0 ++ dktX0_goesBy_1
theorem dksX0_goesBy_0 : cX0_goesBy.data.toList.drop 0 = dktX0_goesBy_0 := by decide +kernel
theorem dksX0_goesBy_1 : cX0_goesBy.data.toList.drop 23 = dktX0_goesBy_1 := dk_seg dksX0_goesBy_0 23 rfl rfl
theorem dksX0_goesBy_2 : cX0_goesBy.data.toList.drop 47 = dktX0_goesBy_2 := dk_seg dksX0_goesBy_1 24 rfl rfl
theorem dX0_goesBy_0 : decode cX0_goesBy 0 = .ok (.aload_n 0, 1) := dk_42 (dk_at dksX0_goesBy_0 0 rfl rfl)
theorem dX0_goesBy_1 : decode cX0_goesBy 1 = .ok (.iload_n 1, 1) := dk_27 (dk_at dksX0_goesBy_0 1 rfl rfl)
theorem dX0_goesBy_2 : decode cX0_goesBy 2 = .ok (.invokevirtual 260, 3) := dk_182 1 4 (dk_at dksX0_goesBy_0 2 rfl rfl)
theorem dX0_goesBy_5 : decode cX0_goesBy 5 = .ok (.iconst 0, 1) := dk_3 (dk_at dksX0_goesBy_0 5 rfl rfl)
theorem dX0_goesBy_6 : decode cX0_goesBy 6 = .ok (.istore_n 2, 1) := dk_61 (dk_at dksX0_goesBy_0 6 rfl rfl)
theorem dX0_goesBy_7 : decode cX0_goesBy 7 = .ok (.iload_n 2, 1) := dk_28 (dk_at dksX0_goesBy_0 7 rfl rfl)
theorem dX0_goesBy_8 : decode cX0_goesBy 8 = .ok (.aload_n 0, 1) := dk_42 (dk_at dksX0_goesBy_0 8 rfl rfl)
theorem dX0_goesBy_9 : decode cX0_goesBy 9 = .ok (.getfield 98, 3) := dk_180 0 98 (dk_at dksX0_goesBy_0 9 rfl rfl)
theorem dX0_goesBy_12 : decode cX0_goesBy 12 = .ok (.if_icmp .ge 51, 3) := dk_162 0 51 (dk_at dksX0_goesBy_0 12 rfl rfl)
theorem dX0_goesBy_15 : decode cX0_goesBy 15 = .ok (.aload_n 0, 1) := dk_42 (dk_at dksX0_goesBy_0 15 rfl rfl)
theorem dX0_goesBy_16 : decode cX0_goesBy 16 = .ok (.aload_n 0, 1) := dk_42 (dk_at dksX0_goesBy_0 16 rfl rfl)
theorem dX0_goesBy_17 : decode cX0_goesBy 17 = .ok (.getfield 62, 3) := dk_180 0 62 (dk_at dksX0_goesBy_0 17 rfl rfl)
theorem dX0_goesBy_20 : decode cX0_goesBy 20 = .ok (.iload_n 2, 1) := dk_28 (dk_at dksX0_goesBy_0 20 rfl rfl)
theorem dX0_goesBy_21 : decode cX0_goesBy 21 = .ok (.aaload, 1) := dk_50 (dk_at dksX0_goesBy_0 21 rfl rfl)
theorem dX0_goesBy_22 : decode cX0_goesBy 22 = .ok (.iload_n 1, 1) := dk_27 (dk_at dksX0_goesBy_0 22 rfl rfl)
theorem dX0_goesBy_23 : decode cX0_goesBy 23 = .ok (.invokevirtual 230, 3) := dk_182 0 230 (dk_at dksX0_goesBy_1 0 rfl rfl)
theorem dX0_goesBy_26 : decode cX0_goesBy 26 = .ok (.ifCond .eq 14, 3) := dk_153 0 14 (dk_at dksX0_goesBy_1 3 rfl rfl)
theorem dX0_goesBy_29 : decode cX0_goesBy 29 = .ok (.aload_n 0, 1) := dk_42 (dk_at dksX0_goesBy_1 6 rfl rfl)
theorem dX0_goesBy_30 : decode cX0_goesBy 30 = .ok (.aload_n 0, 1) := dk_42 (dk_at dksX0_goesBy_1 7 rfl rfl)
theorem dX0_goesBy_31 : decode cX0_goesBy 31 = .ok (.getfield 62, 3) := dk_180 0 62 (dk_at dksX0_goesBy_1 8 rfl rfl)
theorem dX0_goesBy_34 : decode cX0_goesBy 34 = .ok (.iload_n 2, 1) := dk_28 (dk_at dksX0_goesBy_1 11 rfl rfl)
theorem dX0_goesBy_35 : decode cX0_goesBy 35 = .ok (.aaload, 1) := dk_50 (dk_at dksX0_goesBy_1 12 rfl rfl)
theorem dX0_goesBy_36 : decode cX0_goesBy 36 = .ok (.iload_n 1, 1) := dk_27 (dk_at dksX0_goesBy_1 13 rfl rfl)
theorem dX0_goesBy_37 : decode cX0_goesBy 37 = .ok (.invokevirtual 263, 3) := dk_182 1 7 (dk_at dksX0_goesBy_1 14 rfl rfl)
theorem dX0_goesBy_40 : decode cX0_goesBy 40 = .ok (.aload_n 0, 1) := dk_42 (dk_at dksX0_goesBy_1 17 rfl rfl)
theorem dX0_goesBy_41 : decode cX0_goesBy 41 = .ok (.getfield 267, 3) := dk_180 1 11 (dk_at dksX0_goesBy_1 18 rfl rfl)
theorem dX0_goesBy_44 : decode cX0_goesBy 44 = .ok (.iload_n 1, 1) := dk_27 (dk_at dksX0_goesBy_1 21 rfl rfl)
theorem dX0_goesBy_45 : decode cX0_goesBy 45 = .ok (.aaload, 1) := dk_50 (dk_at dksX0_goesBy_1 22 rfl rfl)
theorem dX0_goesBy_46 : decode cX0_goesBy 46 = .ok (.iload_n 2, 1) := dk_28 (dk_at dksX0_goesBy_1 23 rfl rfl)
theorem dX0_goesBy_47 : decode cX0_goesBy 47 = .ok (.aload_n 0, 1) := dk_42 (dk_at dksX0_goesBy_2 0 rfl rfl)
theorem dX0_goesBy_48 : decode cX0_goesBy 48 = .ok (.getfield 62, 3) := dk_180 0 62 (dk_at dksX0_goesBy_2 1 rfl rfl)
theorem dX0_goesBy_51 : decode cX0_goesBy 51 = .ok (.iload_n 2, 1) := dk_28 (dk_at dksX0_goesBy_2 4 rfl rfl)
theorem dX0_goesBy_52 : decode cX0_goesBy 52 = .ok (.aaload, 1) := dk_50 (dk_at dksX0_goesBy_2 5 rfl rfl)
theorem dX0_goesBy_53 : decode cX0_goesBy 53 = .ok (.getfield 237, 3) := dk_180 0 237 (dk_at dksX0_goesBy_2 6 rfl rfl)
theorem dX0_goesBy_56 : decode cX0_goesBy 56 = .ok (.iastore, 1) := dk_79 (dk_at dksX0_goesBy_2 9 rfl rfl)
theorem dX0_goesBy_57 : decode cX0_goesBy 57 = .ok (.iinc 2 1, 3) := dk_132 2 1 (dk_at dksX0_goesBy_2 10 rfl rfl)
theorem dX0_goesBy_60 : decode cX0_goesBy 60 = .ok (.goto (-53), 3) := dk_167 255 203 (dk_at dksX0_goesBy_2 13 rfl rfl)
theorem dX0_goesBy_63 : decode cX0_goesBy 63 = .ok (.return_, 1) := dk_177 (dk_at dksX0_goesBy_2 16 rfl rfl)
abbrev cX0_counts : ByteArray := prog_1_method_46_code
def yX0_counts : MethodName := ⟨RX0, "counts", "(I)V"⟩
def dkwX0_counts_7 : List UInt8 := [181, 0, 215, 132, 2, 255, 167, 255, 185, 177]
abbrev dktX0_counts_7 : List UInt8 := dkwX0_counts_7 ++ []
def dkwX0_counts_6 : List UInt8 := [167, 0, 7, 42, 180, 0, 218, 181, 0, 218, 42, 29, 153, 0, 7, 27, 167, 0, 7, 42, 180, 0, 215]
abbrev dktX0_counts_6 : List UInt8 := dkwX0_counts_6 ++ dktX0_counts_7
def dkwX0_counts_5 : List UInt8 := [159, 0, 11, 42, 180, 0, 215, 27, 160, 0, 7, 4, 167, 0, 4, 3, 62, 42, 29, 153, 0, 7, 28]
abbrev dktX0_counts_5 : List UInt8 := dkwX0_counts_5 ++ dktX0_counts_6
def dkwX0_counts_4 : List UInt8 := [16, 7, 61, 28, 155, 0, 73, 42, 180, 0, 227, 28, 46, 4, 164, 0, 23, 42, 180, 0, 215, 2]
abbrev dktX0_counts_4 : List UInt8 := dkwX0_counts_4 ++ dktX0_counts_5
def dkwX0_counts_3 : List UInt8 := [2, 159, 0, 16, 42, 180, 0, 227, 45, 180, 0, 237, 92, 46, 4, 96, 79, 132, 2, 1, 167, 255, 187]
abbrev dktX0_counts_3 : List UInt8 := dkwX0_counts_3 ++ dktX0_counts_4
def dkwX0_counts_2 : List UInt8 := [45, 180, 0, 234, 181, 0, 237, 42, 180, 0, 212, 45, 180, 0, 237, 92, 46, 4, 96, 79, 45, 180, 0, 237]
abbrev dktX0_counts_2 : List UInt8 := dkwX0_counts_2 ++ dktX0_counts_3
def dkwX0_counts_1 : List UInt8 := [42, 180, 0, 98, 162, 0, 67, 42, 180, 0, 62, 28, 50, 78, 42, 45, 27, 182, 0, 230, 153, 0, 24, 45]
abbrev dktX0_counts_1 : List UInt8 := dkwX0_counts_1 ++ dktX0_counts_2
def dkwX0_counts_0 : List UInt8 := [3, 61, 28, 16, 8, 162, 0, 16, 42, 180, 0, 227, 28, 3, 79, 132, 2, 1, 167, 255, 240, 3, 61, 28]
abbrev dktX0_counts_0 : List UInt8 := dkwX0_counts_0 ++ dktX0_counts_1
theorem dksX0_counts_0 : cX0_counts.data.toList.drop 0 = dktX0_counts_0 := by decide +kernel
theorem dksX0_counts_1 : cX0_counts.data.toList.drop 24 = dktX0_counts_1 := dk_seg dksX0_counts_0 24 rfl rfl
theorem dksX0_counts_2 : cX0_counts.data.toList.drop 48 = dktX0_counts_2 := dk_seg dksX0_counts_1 24 rfl rfl
theorem dksX0_counts_3 : cX0_counts.data.toList.drop 72 = dktX0_counts_3 := dk_seg dksX0_counts_2 24 rfl rfl
theorem dksX0_counts_4 : cX0_counts.data.toList.drop 95 = dktX0_counts_4 := dk_seg dksX0_counts_3 23 rfl rfl
theorem dksX0_counts_5 : cX0_counts.data.toList.drop 117 = dktX0_counts_5 := dk_seg dksX0_counts_4 22 rfl rfl
theorem dksX0_counts_6 : cX0_counts.data.toList.drop 140 = dktX0_counts_6 := dk_seg dksX0_counts_5 23 rfl rfl
theorem dksX0_counts_7 : cX0_counts.data.toList.drop 163 = dktX0_counts_7 := dk_seg dksX0_counts_6 23 rfl rfl
theorem dX0_counts_0 : decode cX0_counts 0 = .ok (.iconst 0, 1) := dk_3 (dk_at dksX0_counts_0 0 rfl rfl)
theorem dX0_counts_1 : decode cX0_counts 1 = .ok (.istore_n 2, 1) := dk_61 (dk_at dksX0_counts_0 1 rfl rfl)
theorem dX0_counts_2 : decode cX0_counts 2 = .ok (.iload_n 2, 1) := dk_28 (dk_at dksX0_counts_0 2 rfl rfl)
theorem dX0_counts_3 : decode cX0_counts 3 = .ok (.bipush 8, 2) := dk_16 8 (dk_at dksX0_counts_0 3 rfl rfl)
theorem dX0_counts_5 : decode cX0_counts 5 = .ok (.if_icmp .ge 16, 3) := dk_162 0 16 (dk_at dksX0_counts_0 5 rfl rfl)
theorem dX0_counts_8 : decode cX0_counts 8 = .ok (.aload_n 0, 1) := dk_42 (dk_at dksX0_counts_0 8 rfl rfl)
theorem dX0_counts_9 : decode cX0_counts 9 = .ok (.getfield 227, 3) := dk_180 0 227 (dk_at dksX0_counts_0 9 rfl rfl)
theorem dX0_counts_12 : decode cX0_counts 12 = .ok (.iload_n 2, 1) := dk_28 (dk_at dksX0_counts_0 12 rfl rfl)
theorem dX0_counts_13 : decode cX0_counts 13 = .ok (.iconst 0, 1) := dk_3 (dk_at dksX0_counts_0 13 rfl rfl)
theorem dX0_counts_14 : decode cX0_counts 14 = .ok (.iastore, 1) := dk_79 (dk_at dksX0_counts_0 14 rfl rfl)
theorem dX0_counts_15 : decode cX0_counts 15 = .ok (.iinc 2 1, 3) := dk_132 2 1 (dk_at dksX0_counts_0 15 rfl rfl)
theorem dX0_counts_18 : decode cX0_counts 18 = .ok (.goto (-16), 3) := dk_167 255 240 (dk_at dksX0_counts_0 18 rfl rfl)
theorem dX0_counts_21 : decode cX0_counts 21 = .ok (.iconst 0, 1) := dk_3 (dk_at dksX0_counts_0 21 rfl rfl)
theorem dX0_counts_22 : decode cX0_counts 22 = .ok (.istore_n 2, 1) := dk_61 (dk_at dksX0_counts_0 22 rfl rfl)
theorem dX0_counts_23 : decode cX0_counts 23 = .ok (.iload_n 2, 1) := dk_28 (dk_at dksX0_counts_0 23 rfl rfl)
theorem dX0_counts_24 : decode cX0_counts 24 = .ok (.aload_n 0, 1) := dk_42 (dk_at dksX0_counts_1 0 rfl rfl)
theorem dX0_counts_25 : decode cX0_counts 25 = .ok (.getfield 98, 3) := dk_180 0 98 (dk_at dksX0_counts_1 1 rfl rfl)
theorem dX0_counts_28 : decode cX0_counts 28 = .ok (.if_icmp .ge 67, 3) := dk_162 0 67 (dk_at dksX0_counts_1 4 rfl rfl)
theorem dX0_counts_31 : decode cX0_counts 31 = .ok (.aload_n 0, 1) := dk_42 (dk_at dksX0_counts_1 7 rfl rfl)
theorem dX0_counts_32 : decode cX0_counts 32 = .ok (.getfield 62, 3) := dk_180 0 62 (dk_at dksX0_counts_1 8 rfl rfl)
theorem dX0_counts_35 : decode cX0_counts 35 = .ok (.iload_n 2, 1) := dk_28 (dk_at dksX0_counts_1 11 rfl rfl)
theorem dX0_counts_36 : decode cX0_counts 36 = .ok (.aaload, 1) := dk_50 (dk_at dksX0_counts_1 12 rfl rfl)
theorem dX0_counts_37 : decode cX0_counts 37 = .ok (.astore_n 3, 1) := dk_78 (dk_at dksX0_counts_1 13 rfl rfl)
theorem dX0_counts_38 : decode cX0_counts 38 = .ok (.aload_n 0, 1) := dk_42 (dk_at dksX0_counts_1 14 rfl rfl)
theorem dX0_counts_39 : decode cX0_counts 39 = .ok (.aload_n 3, 1) := dk_45 (dk_at dksX0_counts_1 15 rfl rfl)
theorem dX0_counts_40 : decode cX0_counts 40 = .ok (.iload_n 1, 1) := dk_27 (dk_at dksX0_counts_1 16 rfl rfl)
theorem dX0_counts_41 : decode cX0_counts 41 = .ok (.invokevirtual 230, 3) := dk_182 0 230 (dk_at dksX0_counts_1 17 rfl rfl)
theorem dX0_counts_44 : decode cX0_counts 44 = .ok (.ifCond .eq 24, 3) := dk_153 0 24 (dk_at dksX0_counts_1 20 rfl rfl)
theorem dX0_counts_47 : decode cX0_counts 47 = .ok (.aload_n 3, 1) := dk_45 (dk_at dksX0_counts_1 23 rfl rfl)
theorem dX0_counts_48 : decode cX0_counts 48 = .ok (.aload_n 3, 1) := dk_45 (dk_at dksX0_counts_2 0 rfl rfl)
theorem dX0_counts_49 : decode cX0_counts 49 = .ok (.getfield 234, 3) := dk_180 0 234 (dk_at dksX0_counts_2 1 rfl rfl)
theorem dX0_counts_52 : decode cX0_counts 52 = .ok (.putfield 237, 3) := dk_181 0 237 (dk_at dksX0_counts_2 4 rfl rfl)
theorem dX0_counts_55 : decode cX0_counts 55 = .ok (.aload_n 0, 1) := dk_42 (dk_at dksX0_counts_2 7 rfl rfl)
theorem dX0_counts_56 : decode cX0_counts 56 = .ok (.getfield 212, 3) := dk_180 0 212 (dk_at dksX0_counts_2 8 rfl rfl)
theorem dX0_counts_59 : decode cX0_counts 59 = .ok (.aload_n 3, 1) := dk_45 (dk_at dksX0_counts_2 11 rfl rfl)
theorem dX0_counts_60 : decode cX0_counts 60 = .ok (.getfield 237, 3) := dk_180 0 237 (dk_at dksX0_counts_2 12 rfl rfl)
theorem dX0_counts_63 : decode cX0_counts 63 = .ok (.dup2, 1) := dk_92 (dk_at dksX0_counts_2 15 rfl rfl)
theorem dX0_counts_64 : decode cX0_counts 64 = .ok (.iaload, 1) := dk_46 (dk_at dksX0_counts_2 16 rfl rfl)
theorem dX0_counts_65 : decode cX0_counts 65 = .ok (.iconst 1, 1) := dk_4 (dk_at dksX0_counts_2 17 rfl rfl)
theorem dX0_counts_66 : decode cX0_counts 66 = .ok (.iadd, 1) := dk_96 (dk_at dksX0_counts_2 18 rfl rfl)
theorem dX0_counts_67 : decode cX0_counts 67 = .ok (.iastore, 1) := dk_79 (dk_at dksX0_counts_2 19 rfl rfl)
theorem dX0_counts_68 : decode cX0_counts 68 = .ok (.aload_n 3, 1) := dk_45 (dk_at dksX0_counts_2 20 rfl rfl)
theorem dX0_counts_69 : decode cX0_counts 69 = .ok (.getfield 237, 3) := dk_180 0 237 (dk_at dksX0_counts_2 21 rfl rfl)
theorem dX0_counts_72 : decode cX0_counts 72 = .ok (.iconst (-1), 1) := dk_2 (dk_at dksX0_counts_3 0 rfl rfl)
theorem dX0_counts_73 : decode cX0_counts 73 = .ok (.if_icmp .eq 16, 3) := dk_159 0 16 (dk_at dksX0_counts_3 1 rfl rfl)
theorem dX0_counts_76 : decode cX0_counts 76 = .ok (.aload_n 0, 1) := dk_42 (dk_at dksX0_counts_3 4 rfl rfl)
theorem dX0_counts_77 : decode cX0_counts 77 = .ok (.getfield 227, 3) := dk_180 0 227 (dk_at dksX0_counts_3 5 rfl rfl)
theorem dX0_counts_80 : decode cX0_counts 80 = .ok (.aload_n 3, 1) := dk_45 (dk_at dksX0_counts_3 8 rfl rfl)
theorem dX0_counts_81 : decode cX0_counts 81 = .ok (.getfield 237, 3) := dk_180 0 237 (dk_at dksX0_counts_3 9 rfl rfl)
theorem dX0_counts_84 : decode cX0_counts 84 = .ok (.dup2, 1) := dk_92 (dk_at dksX0_counts_3 12 rfl rfl)
theorem dX0_counts_85 : decode cX0_counts 85 = .ok (.iaload, 1) := dk_46 (dk_at dksX0_counts_3 13 rfl rfl)
theorem dX0_counts_86 : decode cX0_counts 86 = .ok (.iconst 1, 1) := dk_4 (dk_at dksX0_counts_3 14 rfl rfl)
theorem dX0_counts_87 : decode cX0_counts 87 = .ok (.iadd, 1) := dk_96 (dk_at dksX0_counts_3 15 rfl rfl)
theorem dX0_counts_88 : decode cX0_counts 88 = .ok (.iastore, 1) := dk_79 (dk_at dksX0_counts_3 16 rfl rfl)
theorem dX0_counts_89 : decode cX0_counts 89 = .ok (.iinc 2 1, 3) := dk_132 2 1 (dk_at dksX0_counts_3 17 rfl rfl)
theorem dX0_counts_92 : decode cX0_counts 92 = .ok (.goto (-69), 3) := dk_167 255 187 (dk_at dksX0_counts_3 20 rfl rfl)
theorem dX0_counts_95 : decode cX0_counts 95 = .ok (.bipush 7, 2) := dk_16 7 (dk_at dksX0_counts_4 0 rfl rfl)
theorem dX0_counts_97 : decode cX0_counts 97 = .ok (.istore_n 2, 1) := dk_61 (dk_at dksX0_counts_4 2 rfl rfl)
theorem dX0_counts_98 : decode cX0_counts 98 = .ok (.iload_n 2, 1) := dk_28 (dk_at dksX0_counts_4 3 rfl rfl)
theorem dX0_counts_99 : decode cX0_counts 99 = .ok (.ifCond .lt 73, 3) := dk_155 0 73 (dk_at dksX0_counts_4 4 rfl rfl)
theorem dX0_counts_102 : decode cX0_counts 102 = .ok (.aload_n 0, 1) := dk_42 (dk_at dksX0_counts_4 7 rfl rfl)
theorem dX0_counts_103 : decode cX0_counts 103 = .ok (.getfield 227, 3) := dk_180 0 227 (dk_at dksX0_counts_4 8 rfl rfl)
theorem dX0_counts_106 : decode cX0_counts 106 = .ok (.iload_n 2, 1) := dk_28 (dk_at dksX0_counts_4 11 rfl rfl)
theorem dX0_counts_107 : decode cX0_counts 107 = .ok (.iaload, 1) := dk_46 (dk_at dksX0_counts_4 12 rfl rfl)
theorem dX0_counts_108 : decode cX0_counts 108 = .ok (.iconst 1, 1) := dk_4 (dk_at dksX0_counts_4 13 rfl rfl)
theorem dX0_counts_109 : decode cX0_counts 109 = .ok (.if_icmp .le 23, 3) := dk_164 0 23 (dk_at dksX0_counts_4 14 rfl rfl)
theorem dX0_counts_112 : decode cX0_counts 112 = .ok (.aload_n 0, 1) := dk_42 (dk_at dksX0_counts_4 17 rfl rfl)
theorem dX0_counts_113 : decode cX0_counts 113 = .ok (.getfield 215, 3) := dk_180 0 215 (dk_at dksX0_counts_4 18 rfl rfl)
theorem dX0_counts_116 : decode cX0_counts 116 = .ok (.iconst (-1), 1) := dk_2 (dk_at dksX0_counts_4 21 rfl rfl)
theorem dX0_counts_117 : decode cX0_counts 117 = .ok (.if_icmp .eq 11, 3) := dk_159 0 11 (dk_at dksX0_counts_5 0 rfl rfl)
theorem dX0_counts_120 : decode cX0_counts 120 = .ok (.aload_n 0, 1) := dk_42 (dk_at dksX0_counts_5 3 rfl rfl)
theorem dX0_counts_121 : decode cX0_counts 121 = .ok (.getfield 215, 3) := dk_180 0 215 (dk_at dksX0_counts_5 4 rfl rfl)
theorem dX0_counts_124 : decode cX0_counts 124 = .ok (.iload_n 1, 1) := dk_27 (dk_at dksX0_counts_5 7 rfl rfl)
theorem dX0_counts_125 : decode cX0_counts 125 = .ok (.if_icmp .ne 7, 3) := dk_160 0 7 (dk_at dksX0_counts_5 8 rfl rfl)
theorem dX0_counts_128 : decode cX0_counts 128 = .ok (.iconst 1, 1) := dk_4 (dk_at dksX0_counts_5 11 rfl rfl)
theorem dX0_counts_129 : decode cX0_counts 129 = .ok (.goto 4, 3) := dk_167 0 4 (dk_at dksX0_counts_5 12 rfl rfl)
theorem dX0_counts_132 : decode cX0_counts 132 = .ok (.iconst 0, 1) := dk_3 (dk_at dksX0_counts_5 15 rfl rfl)
theorem dX0_counts_133 : decode cX0_counts 133 = .ok (.istore_n 3, 1) := dk_62 (dk_at dksX0_counts_5 16 rfl rfl)
theorem dX0_counts_134 : decode cX0_counts 134 = .ok (.aload_n 0, 1) := dk_42 (dk_at dksX0_counts_5 17 rfl rfl)
theorem dX0_counts_135 : decode cX0_counts 135 = .ok (.iload_n 3, 1) := dk_29 (dk_at dksX0_counts_5 18 rfl rfl)
theorem dX0_counts_136 : decode cX0_counts 136 = .ok (.ifCond .eq 7, 3) := dk_153 0 7 (dk_at dksX0_counts_5 19 rfl rfl)
theorem dX0_counts_139 : decode cX0_counts 139 = .ok (.iload_n 2, 1) := dk_28 (dk_at dksX0_counts_5 22 rfl rfl)
theorem dX0_counts_140 : decode cX0_counts 140 = .ok (.goto 7, 3) := dk_167 0 7 (dk_at dksX0_counts_6 0 rfl rfl)
theorem dX0_counts_143 : decode cX0_counts 143 = .ok (.aload_n 0, 1) := dk_42 (dk_at dksX0_counts_6 3 rfl rfl)
theorem dX0_counts_144 : decode cX0_counts 144 = .ok (.getfield 218, 3) := dk_180 0 218 (dk_at dksX0_counts_6 4 rfl rfl)
theorem dX0_counts_147 : decode cX0_counts 147 = .ok (.putfield 218, 3) := dk_181 0 218 (dk_at dksX0_counts_6 7 rfl rfl)
theorem dX0_counts_150 : decode cX0_counts 150 = .ok (.aload_n 0, 1) := dk_42 (dk_at dksX0_counts_6 10 rfl rfl)
theorem dX0_counts_151 : decode cX0_counts 151 = .ok (.iload_n 3, 1) := dk_29 (dk_at dksX0_counts_6 11 rfl rfl)
theorem dX0_counts_152 : decode cX0_counts 152 = .ok (.ifCond .eq 7, 3) := dk_153 0 7 (dk_at dksX0_counts_6 12 rfl rfl)
theorem dX0_counts_155 : decode cX0_counts 155 = .ok (.iload_n 1, 1) := dk_27 (dk_at dksX0_counts_6 15 rfl rfl)
theorem dX0_counts_156 : decode cX0_counts 156 = .ok (.goto 7, 3) := dk_167 0 7 (dk_at dksX0_counts_6 16 rfl rfl)
theorem dX0_counts_159 : decode cX0_counts 159 = .ok (.aload_n 0, 1) := dk_42 (dk_at dksX0_counts_6 19 rfl rfl)
theorem dX0_counts_160 : decode cX0_counts 160 = .ok (.getfield 215, 3) := dk_180 0 215 (dk_at dksX0_counts_6 20 rfl rfl)
theorem dX0_counts_163 : decode cX0_counts 163 = .ok (.putfield 215, 3) := dk_181 0 215 (dk_at dksX0_counts_7 0 rfl rfl)
theorem dX0_counts_166 : decode cX0_counts 166 = .ok (.iinc 2 (-1), 3) := dk_132 2 255 (dk_at dksX0_counts_7 3 rfl rfl)
theorem dX0_counts_169 : decode cX0_counts 169 = .ok (.goto (-71), 3) := dk_167 255 185 (dk_at dksX0_counts_7 6 rfl rfl)
theorem dX0_counts_172 : decode cX0_counts 172 = .ok (.return_, 1) := dk_177 (dk_at dksX0_counts_7 9 rfl rfl)
abbrev cX0_doesArrive : ByteArray := prog_1_method_45_code
def yX0_doesArrive : MethodName := ⟨RX0, "doesArrive", "(LQuestionRoad$Carter;I)Z"⟩
def dkwX0_doesArrive_0 : List UInt8 := [43, 180, 0, 221, 5, 162, 0, 15, 43, 180, 0, 224, 28, 160, 0, 7, 4, 167, 0, 4, 3, 172]
abbrev dktX0_doesArrive_0 : List UInt8 := dkwX0_doesArrive_0 ++ []
theorem dksX0_doesArrive_0 : cX0_doesArrive.data.toList.drop 0 = dktX0_doesArrive_0 := by decide +kernel
theorem dX0_doesArrive_0 : decode cX0_doesArrive 0 = .ok (.aload_n 1, 1) := dk_43 (dk_at dksX0_doesArrive_0 0 rfl rfl)
theorem dX0_doesArrive_1 : decode cX0_doesArrive 1 = .ok (.getfield 221, 3) := dk_180 0 221 (dk_at dksX0_doesArrive_0 1 rfl rfl)
theorem dX0_doesArrive_4 : decode cX0_doesArrive 4 = .ok (.iconst 2, 1) := dk_5 (dk_at dksX0_doesArrive_0 4 rfl rfl)
theorem dX0_doesArrive_5 : decode cX0_doesArrive 5 = .ok (.if_icmp .ge 15, 3) := dk_162 0 15 (dk_at dksX0_doesArrive_0 5 rfl rfl)
theorem dX0_doesArrive_8 : decode cX0_doesArrive 8 = .ok (.aload_n 1, 1) := dk_43 (dk_at dksX0_doesArrive_0 8 rfl rfl)
theorem dX0_doesArrive_9 : decode cX0_doesArrive 9 = .ok (.getfield 224, 3) := dk_180 0 224 (dk_at dksX0_doesArrive_0 9 rfl rfl)
theorem dX0_doesArrive_12 : decode cX0_doesArrive 12 = .ok (.iload_n 2, 1) := dk_28 (dk_at dksX0_doesArrive_0 12 rfl rfl)
theorem dX0_doesArrive_13 : decode cX0_doesArrive 13 = .ok (.if_icmp .ne 7, 3) := dk_160 0 7 (dk_at dksX0_doesArrive_0 13 rfl rfl)
theorem dX0_doesArrive_16 : decode cX0_doesArrive 16 = .ok (.iconst 1, 1) := dk_4 (dk_at dksX0_doesArrive_0 16 rfl rfl)
theorem dX0_doesArrive_17 : decode cX0_doesArrive 17 = .ok (.goto 4, 3) := dk_167 0 4 (dk_at dksX0_doesArrive_0 17 rfl rfl)
theorem dX0_doesArrive_20 : decode cX0_doesArrive 20 = .ok (.iconst 0, 1) := dk_3 (dk_at dksX0_doesArrive_0 20 rfl rfl)
theorem dX0_doesArrive_21 : decode cX0_doesArrive 21 = .ok (.ireturn, 1) := dk_172 (dk_at dksX0_doesArrive_0 21 rfl rfl)
abbrev cX0_decides : ByteArray := prog_1_method_47_code
def yX0_decides : MethodName := ⟨RX0, "decides", "(LQuestionRoad$Carter;I)V"⟩
def dkwX0_decides_6 : List UInt8 := [21, 4, 28, 182, 1, 1, 177]
abbrev dktX0_decides_6 : List UInt8 := dkwX0_decides_6 ++ []
def dkwX0_decides_5 : List UInt8 := [162, 0, 21, 43, 29, 2, 160, 0, 7, 8, 167, 0, 4, 7, 28, 182, 0, 240, 167, 0, 11, 43, 29]
abbrev dktX0_decides_5 : List UInt8 := dkwX0_decides_5 ++ dktX0_decides_6
def dkwX0_decides_4 : List UInt8 := [180, 0, 237, 50, 29, 46, 54, 4, 29, 2, 159, 0, 17, 43, 180, 0, 254, 21, 4, 43, 180, 0, 86, 96]
abbrev dktX0_decides_4 : List UInt8 := dkwX0_decides_4 ++ dktX0_decides_5
def dkwX0_decides_3 : List UInt8 := [43, 180, 0, 72, 182, 0, 251, 62, 29, 2, 160, 0, 7, 3, 167, 0, 14, 42, 180, 0, 175, 43]
abbrev dktX0_decides_3 : List UInt8 := dkwX0_decides_3 ++ dktX0_decides_4
def dkwX0_decides_2 : List UInt8 := [167, 0, 4, 3, 182, 0, 247, 153, 0, 12, 43, 6, 28, 182, 0, 240, 167, 0, 83, 42, 43, 180, 0, 237]
abbrev dktX0_decides_2 : List UInt8 := dkwX0_decides_2 ++ dktX0_decides_3
def dkwX0_decides_1 : List UInt8 := [42, 28, 43, 180, 0, 237, 182, 0, 244, 42, 180, 0, 227, 43, 180, 0, 237, 46, 4, 164, 0, 7, 4]
abbrev dktX0_decides_1 : List UInt8 := dkwX0_decides_1 ++ dktX0_decides_2
def dkwX0_decides_0 : List UInt8 := [43, 180, 0, 237, 43, 180, 0, 72, 160, 0, 12, 43, 5, 28, 182, 0, 240, 167, 0, 129, 43, 180, 0, 79]
abbrev dktX0_decides_0 : List UInt8 := dkwX0_decides_0 ++ dktX0_decides_1
theorem dksX0_decides_0 : cX0_decides.data.toList.drop 0 = dktX0_decides_0 := by decide +kernel
theorem dksX0_decides_1 : cX0_decides.data.toList.drop 24 = dktX0_decides_1 := dk_seg dksX0_decides_0 24 rfl rfl
theorem dksX0_decides_2 : cX0_decides.data.toList.drop 47 = dktX0_decides_2 := dk_seg dksX0_decides_1 23 rfl rfl
theorem dksX0_decides_3 : cX0_decides.data.toList.drop 71 = dktX0_decides_3 := dk_seg dksX0_decides_2 24 rfl rfl
theorem dksX0_decides_4 : cX0_decides.data.toList.drop 93 = dktX0_decides_4 := dk_seg dksX0_decides_3 22 rfl rfl
theorem dksX0_decides_5 : cX0_decides.data.toList.drop 117 = dktX0_decides_5 := dk_seg dksX0_decides_4 24 rfl rfl
theorem dksX0_decides_6 : cX0_decides.data.toList.drop 140 = dktX0_decides_6 := dk_seg dksX0_decides_5 23 rfl rfl
theorem dX0_decides_0 : decode cX0_decides 0 = .ok (.aload_n 1, 1) := dk_43 (dk_at dksX0_decides_0 0 rfl rfl)
theorem dX0_decides_1 : decode cX0_decides 1 = .ok (.getfield 237, 3) := dk_180 0 237 (dk_at dksX0_decides_0 1 rfl rfl)
theorem dX0_decides_4 : decode cX0_decides 4 = .ok (.aload_n 1, 1) := dk_43 (dk_at dksX0_decides_0 4 rfl rfl)
theorem dX0_decides_5 : decode cX0_decides 5 = .ok (.getfield 72, 3) := dk_180 0 72 (dk_at dksX0_decides_0 5 rfl rfl)
theorem dX0_decides_8 : decode cX0_decides 8 = .ok (.if_icmp .ne 12, 3) := dk_160 0 12 (dk_at dksX0_decides_0 8 rfl rfl)
theorem dX0_decides_11 : decode cX0_decides 11 = .ok (.aload_n 1, 1) := dk_43 (dk_at dksX0_decides_0 11 rfl rfl)
theorem dX0_decides_12 : decode cX0_decides 12 = .ok (.iconst 2, 1) := dk_5 (dk_at dksX0_decides_0 12 rfl rfl)
theorem dX0_decides_13 : decode cX0_decides 13 = .ok (.iload_n 2, 1) := dk_28 (dk_at dksX0_decides_0 13 rfl rfl)
theorem dX0_decides_14 : decode cX0_decides 14 = .ok (.invokevirtual 240, 3) := dk_182 0 240 (dk_at dksX0_decides_0 14 rfl rfl)
theorem dX0_decides_17 : decode cX0_decides 17 = .ok (.goto 129, 3) := dk_167 0 129 (dk_at dksX0_decides_0 17 rfl rfl)
theorem dX0_decides_20 : decode cX0_decides 20 = .ok (.aload_n 1, 1) := dk_43 (dk_at dksX0_decides_0 20 rfl rfl)
theorem dX0_decides_21 : decode cX0_decides 21 = .ok (.getfield 79, 3) := dk_180 0 79 (dk_at dksX0_decides_0 21 rfl rfl)
theorem dX0_decides_24 : decode cX0_decides 24 = .ok (.aload_n 0, 1) := dk_42 (dk_at dksX0_decides_1 0 rfl rfl)
theorem dX0_decides_25 : decode cX0_decides 25 = .ok (.iload_n 2, 1) := dk_28 (dk_at dksX0_decides_1 1 rfl rfl)
theorem dX0_decides_26 : decode cX0_decides 26 = .ok (.aload_n 1, 1) := dk_43 (dk_at dksX0_decides_1 2 rfl rfl)
theorem dX0_decides_27 : decode cX0_decides 27 = .ok (.getfield 237, 3) := dk_180 0 237 (dk_at dksX0_decides_1 3 rfl rfl)
theorem dX0_decides_30 : decode cX0_decides 30 = .ok (.invokevirtual 244, 3) := dk_182 0 244 (dk_at dksX0_decides_1 6 rfl rfl)
theorem dX0_decides_33 : decode cX0_decides 33 = .ok (.aload_n 0, 1) := dk_42 (dk_at dksX0_decides_1 9 rfl rfl)
theorem dX0_decides_34 : decode cX0_decides 34 = .ok (.getfield 227, 3) := dk_180 0 227 (dk_at dksX0_decides_1 10 rfl rfl)
theorem dX0_decides_37 : decode cX0_decides 37 = .ok (.aload_n 1, 1) := dk_43 (dk_at dksX0_decides_1 13 rfl rfl)
theorem dX0_decides_38 : decode cX0_decides 38 = .ok (.getfield 237, 3) := dk_180 0 237 (dk_at dksX0_decides_1 14 rfl rfl)
theorem dX0_decides_41 : decode cX0_decides 41 = .ok (.iaload, 1) := dk_46 (dk_at dksX0_decides_1 17 rfl rfl)
theorem dX0_decides_42 : decode cX0_decides 42 = .ok (.iconst 1, 1) := dk_4 (dk_at dksX0_decides_1 18 rfl rfl)
theorem dX0_decides_43 : decode cX0_decides 43 = .ok (.if_icmp .le 7, 3) := dk_164 0 7 (dk_at dksX0_decides_1 19 rfl rfl)
theorem dX0_decides_46 : decode cX0_decides 46 = .ok (.iconst 1, 1) := dk_4 (dk_at dksX0_decides_1 22 rfl rfl)
theorem dX0_decides_47 : decode cX0_decides 47 = .ok (.goto 4, 3) := dk_167 0 4 (dk_at dksX0_decides_2 0 rfl rfl)
theorem dX0_decides_50 : decode cX0_decides 50 = .ok (.iconst 0, 1) := dk_3 (dk_at dksX0_decides_2 3 rfl rfl)
theorem dX0_decides_51 : decode cX0_decides 51 = .ok (.invokevirtual 247, 3) := dk_182 0 247 (dk_at dksX0_decides_2 4 rfl rfl)
theorem dX0_decides_54 : decode cX0_decides 54 = .ok (.ifCond .eq 12, 3) := dk_153 0 12 (dk_at dksX0_decides_2 7 rfl rfl)
theorem dX0_decides_57 : decode cX0_decides 57 = .ok (.aload_n 1, 1) := dk_43 (dk_at dksX0_decides_2 10 rfl rfl)
theorem dX0_decides_58 : decode cX0_decides 58 = .ok (.iconst 3, 1) := dk_6 (dk_at dksX0_decides_2 11 rfl rfl)
theorem dX0_decides_59 : decode cX0_decides 59 = .ok (.iload_n 2, 1) := dk_28 (dk_at dksX0_decides_2 12 rfl rfl)
theorem dX0_decides_60 : decode cX0_decides 60 = .ok (.invokevirtual 240, 3) := dk_182 0 240 (dk_at dksX0_decides_2 13 rfl rfl)
theorem dX0_decides_63 : decode cX0_decides 63 = .ok (.goto 83, 3) := dk_167 0 83 (dk_at dksX0_decides_2 16 rfl rfl)
theorem dX0_decides_66 : decode cX0_decides 66 = .ok (.aload_n 0, 1) := dk_42 (dk_at dksX0_decides_2 19 rfl rfl)
theorem dX0_decides_67 : decode cX0_decides 67 = .ok (.aload_n 1, 1) := dk_43 (dk_at dksX0_decides_2 20 rfl rfl)
theorem dX0_decides_68 : decode cX0_decides 68 = .ok (.getfield 237, 3) := dk_180 0 237 (dk_at dksX0_decides_2 21 rfl rfl)
theorem dX0_decides_71 : decode cX0_decides 71 = .ok (.aload_n 1, 1) := dk_43 (dk_at dksX0_decides_3 0 rfl rfl)
theorem dX0_decides_72 : decode cX0_decides 72 = .ok (.getfield 72, 3) := dk_180 0 72 (dk_at dksX0_decides_3 1 rfl rfl)
theorem dX0_decides_75 : decode cX0_decides 75 = .ok (.invokevirtual 251, 3) := dk_182 0 251 (dk_at dksX0_decides_3 4 rfl rfl)
theorem dX0_decides_78 : decode cX0_decides 78 = .ok (.istore_n 3, 1) := dk_62 (dk_at dksX0_decides_3 7 rfl rfl)
theorem dX0_decides_79 : decode cX0_decides 79 = .ok (.iload_n 3, 1) := dk_29 (dk_at dksX0_decides_3 8 rfl rfl)
theorem dX0_decides_80 : decode cX0_decides 80 = .ok (.iconst (-1), 1) := dk_2 (dk_at dksX0_decides_3 9 rfl rfl)
theorem dX0_decides_81 : decode cX0_decides 81 = .ok (.if_icmp .ne 7, 3) := dk_160 0 7 (dk_at dksX0_decides_3 10 rfl rfl)
theorem dX0_decides_84 : decode cX0_decides 84 = .ok (.iconst 0, 1) := dk_3 (dk_at dksX0_decides_3 13 rfl rfl)
theorem dX0_decides_85 : decode cX0_decides 85 = .ok (.goto 14, 3) := dk_167 0 14 (dk_at dksX0_decides_3 14 rfl rfl)
theorem dX0_decides_88 : decode cX0_decides 88 = .ok (.aload_n 0, 1) := dk_42 (dk_at dksX0_decides_3 17 rfl rfl)
theorem dX0_decides_89 : decode cX0_decides 89 = .ok (.getfield 175, 3) := dk_180 0 175 (dk_at dksX0_decides_3 18 rfl rfl)
theorem dX0_decides_92 : decode cX0_decides 92 = .ok (.aload_n 1, 1) := dk_43 (dk_at dksX0_decides_3 21 rfl rfl)
theorem dX0_decides_93 : decode cX0_decides 93 = .ok (.getfield 237, 3) := dk_180 0 237 (dk_at dksX0_decides_4 0 rfl rfl)
theorem dX0_decides_96 : decode cX0_decides 96 = .ok (.aaload, 1) := dk_50 (dk_at dksX0_decides_4 3 rfl rfl)
theorem dX0_decides_97 : decode cX0_decides 97 = .ok (.iload_n 3, 1) := dk_29 (dk_at dksX0_decides_4 4 rfl rfl)
theorem dX0_decides_98 : decode cX0_decides 98 = .ok (.iaload, 1) := dk_46 (dk_at dksX0_decides_4 5 rfl rfl)
theorem dX0_decides_99 : decode cX0_decides 99 = .ok (.istore 4, 2) := dk_54 4 (dk_at dksX0_decides_4 6 rfl rfl)
theorem dX0_decides_101 : decode cX0_decides 101 = .ok (.iload_n 3, 1) := dk_29 (dk_at dksX0_decides_4 8 rfl rfl)
theorem dX0_decides_102 : decode cX0_decides 102 = .ok (.iconst (-1), 1) := dk_2 (dk_at dksX0_decides_4 9 rfl rfl)
theorem dX0_decides_103 : decode cX0_decides 103 = .ok (.if_icmp .eq 17, 3) := dk_159 0 17 (dk_at dksX0_decides_4 10 rfl rfl)
theorem dX0_decides_106 : decode cX0_decides 106 = .ok (.aload_n 1, 1) := dk_43 (dk_at dksX0_decides_4 13 rfl rfl)
theorem dX0_decides_107 : decode cX0_decides 107 = .ok (.getfield 254, 3) := dk_180 0 254 (dk_at dksX0_decides_4 14 rfl rfl)
theorem dX0_decides_110 : decode cX0_decides 110 = .ok (.iload 4, 2) := dk_21 4 (dk_at dksX0_decides_4 17 rfl rfl)
theorem dX0_decides_112 : decode cX0_decides 112 = .ok (.aload_n 1, 1) := dk_43 (dk_at dksX0_decides_4 19 rfl rfl)
theorem dX0_decides_113 : decode cX0_decides 113 = .ok (.getfield 86, 3) := dk_180 0 86 (dk_at dksX0_decides_4 20 rfl rfl)
theorem dX0_decides_116 : decode cX0_decides 116 = .ok (.iadd, 1) := dk_96 (dk_at dksX0_decides_4 23 rfl rfl)
theorem dX0_decides_117 : decode cX0_decides 117 = .ok (.if_icmp .ge 21, 3) := dk_162 0 21 (dk_at dksX0_decides_5 0 rfl rfl)
theorem dX0_decides_120 : decode cX0_decides 120 = .ok (.aload_n 1, 1) := dk_43 (dk_at dksX0_decides_5 3 rfl rfl)
theorem dX0_decides_121 : decode cX0_decides 121 = .ok (.iload_n 3, 1) := dk_29 (dk_at dksX0_decides_5 4 rfl rfl)
theorem dX0_decides_122 : decode cX0_decides 122 = .ok (.iconst (-1), 1) := dk_2 (dk_at dksX0_decides_5 5 rfl rfl)
theorem dX0_decides_123 : decode cX0_decides 123 = .ok (.if_icmp .ne 7, 3) := dk_160 0 7 (dk_at dksX0_decides_5 6 rfl rfl)
theorem dX0_decides_126 : decode cX0_decides 126 = .ok (.iconst 5, 1) := dk_8 (dk_at dksX0_decides_5 9 rfl rfl)
theorem dX0_decides_127 : decode cX0_decides 127 = .ok (.goto 4, 3) := dk_167 0 4 (dk_at dksX0_decides_5 10 rfl rfl)
theorem dX0_decides_130 : decode cX0_decides 130 = .ok (.iconst 4, 1) := dk_7 (dk_at dksX0_decides_5 13 rfl rfl)
theorem dX0_decides_131 : decode cX0_decides 131 = .ok (.iload_n 2, 1) := dk_28 (dk_at dksX0_decides_5 14 rfl rfl)
theorem dX0_decides_132 : decode cX0_decides 132 = .ok (.invokevirtual 240, 3) := dk_182 0 240 (dk_at dksX0_decides_5 15 rfl rfl)
theorem dX0_decides_135 : decode cX0_decides 135 = .ok (.goto 11, 3) := dk_167 0 11 (dk_at dksX0_decides_5 18 rfl rfl)
theorem dX0_decides_138 : decode cX0_decides 138 = .ok (.aload_n 1, 1) := dk_43 (dk_at dksX0_decides_5 21 rfl rfl)
theorem dX0_decides_139 : decode cX0_decides 139 = .ok (.iload_n 3, 1) := dk_29 (dk_at dksX0_decides_5 22 rfl rfl)
theorem dX0_decides_140 : decode cX0_decides 140 = .ok (.iload 4, 2) := dk_21 4 (dk_at dksX0_decides_6 0 rfl rfl)
theorem dX0_decides_142 : decode cX0_decides 142 = .ok (.iload_n 2, 1) := dk_28 (dk_at dksX0_decides_6 2 rfl rfl)
theorem dX0_decides_143 : decode cX0_decides 143 = .ok (.invokevirtual 257, 3) := dk_182 1 1 (dk_at dksX0_decides_6 3 rfl rfl)
theorem dX0_decides_146 : decode cX0_decides 146 = .ok (.return_, 1) := dk_177 (dk_at dksX0_decides_6 6 rfl rfl)
abbrev cX0_isAnswer : ByteArray := prog_1_method_43_code
def yX0_isAnswer : MethodName := ⟨RX0, "isAnswer", "(II)Z"⟩
def dkwX0_isAnswer_2 : List UInt8 := [184, 0, 206, 154, 0, 7, 4, 167, 0, 4, 3, 62, 132, 4, 1, 167, 255, 200, 29, 172]
abbrev dktX0_isAnswer_2 : List UInt8 := dkwX0_isAnswer_2 ++ []
def dkwX0_isAnswer_1 : List UInt8 := [46, 27, 160, 0, 30, 42, 180, 0, 147, 21, 4, 46, 28, 160, 0, 19, 42, 180, 0, 203, 21, 4]
abbrev dktX0_isAnswer_1 : List UInt8 := dkwX0_isAnswer_1 ++ dktX0_isAnswer_2
def dkwX0_isAnswer_0 : List UInt8 := [3, 62, 3, 54, 4, 21, 4, 42, 180, 0, 141, 162, 0, 53, 29, 154, 0, 37, 42, 180, 0, 144, 21, 4]
abbrev dktX0_isAnswer_0 : List UInt8 := dkwX0_isAnswer_0 ++ dktX0_isAnswer_1
theorem dksX0_isAnswer_0 : cX0_isAnswer.data.toList.drop 0 = dktX0_isAnswer_0 := by decide +kernel
theorem dksX0_isAnswer_1 : cX0_isAnswer.data.toList.drop 24 = dktX0_isAnswer_1 := dk_seg dksX0_isAnswer_0 24 rfl rfl
theorem dksX0_isAnswer_2 : cX0_isAnswer.data.toList.drop 46 = dktX0_isAnswer_2 := dk_seg dksX0_isAnswer_1 22 rfl rfl
theorem dX0_isAnswer_0 : decode cX0_isAnswer 0 = .ok (.iconst 0, 1) := dk_3 (dk_at dksX0_isAnswer_0 0 rfl rfl)
theorem dX0_isAnswer_1 : decode cX0_isAnswer 1 = .ok (.istore_n 3, 1) := dk_62 (dk_at dksX0_isAnswer_0 1 rfl rfl)
theorem dX0_isAnswer_2 : decode cX0_isAnswer 2 = .ok (.iconst 0, 1) := dk_3 (dk_at dksX0_isAnswer_0 2 rfl rfl)
theorem dX0_isAnswer_3 : decode cX0_isAnswer 3 = .ok (.istore 4, 2) := dk_54 4 (dk_at dksX0_isAnswer_0 3 rfl rfl)
theorem dX0_isAnswer_5 : decode cX0_isAnswer 5 = .ok (.iload 4, 2) := dk_21 4 (dk_at dksX0_isAnswer_0 5 rfl rfl)
theorem dX0_isAnswer_7 : decode cX0_isAnswer 7 = .ok (.aload_n 0, 1) := dk_42 (dk_at dksX0_isAnswer_0 7 rfl rfl)
theorem dX0_isAnswer_8 : decode cX0_isAnswer 8 = .ok (.getfield 141, 3) := dk_180 0 141 (dk_at dksX0_isAnswer_0 8 rfl rfl)
theorem dX0_isAnswer_11 : decode cX0_isAnswer 11 = .ok (.if_icmp .ge 53, 3) := dk_162 0 53 (dk_at dksX0_isAnswer_0 11 rfl rfl)
theorem dX0_isAnswer_14 : decode cX0_isAnswer 14 = .ok (.iload_n 3, 1) := dk_29 (dk_at dksX0_isAnswer_0 14 rfl rfl)
theorem dX0_isAnswer_15 : decode cX0_isAnswer 15 = .ok (.ifCond .ne 37, 3) := dk_154 0 37 (dk_at dksX0_isAnswer_0 15 rfl rfl)
theorem dX0_isAnswer_18 : decode cX0_isAnswer 18 = .ok (.aload_n 0, 1) := dk_42 (dk_at dksX0_isAnswer_0 18 rfl rfl)
theorem dX0_isAnswer_19 : decode cX0_isAnswer 19 = .ok (.getfield 144, 3) := dk_180 0 144 (dk_at dksX0_isAnswer_0 19 rfl rfl)
theorem dX0_isAnswer_22 : decode cX0_isAnswer 22 = .ok (.iload 4, 2) := dk_21 4 (dk_at dksX0_isAnswer_0 22 rfl rfl)
theorem dX0_isAnswer_24 : decode cX0_isAnswer 24 = .ok (.iaload, 1) := dk_46 (dk_at dksX0_isAnswer_1 0 rfl rfl)
theorem dX0_isAnswer_25 : decode cX0_isAnswer 25 = .ok (.iload_n 1, 1) := dk_27 (dk_at dksX0_isAnswer_1 1 rfl rfl)
theorem dX0_isAnswer_26 : decode cX0_isAnswer 26 = .ok (.if_icmp .ne 30, 3) := dk_160 0 30 (dk_at dksX0_isAnswer_1 2 rfl rfl)
theorem dX0_isAnswer_29 : decode cX0_isAnswer 29 = .ok (.aload_n 0, 1) := dk_42 (dk_at dksX0_isAnswer_1 5 rfl rfl)
theorem dX0_isAnswer_30 : decode cX0_isAnswer 30 = .ok (.getfield 147, 3) := dk_180 0 147 (dk_at dksX0_isAnswer_1 6 rfl rfl)
theorem dX0_isAnswer_33 : decode cX0_isAnswer 33 = .ok (.iload 4, 2) := dk_21 4 (dk_at dksX0_isAnswer_1 9 rfl rfl)
theorem dX0_isAnswer_35 : decode cX0_isAnswer 35 = .ok (.iaload, 1) := dk_46 (dk_at dksX0_isAnswer_1 11 rfl rfl)
theorem dX0_isAnswer_36 : decode cX0_isAnswer 36 = .ok (.iload_n 2, 1) := dk_28 (dk_at dksX0_isAnswer_1 12 rfl rfl)
theorem dX0_isAnswer_37 : decode cX0_isAnswer 37 = .ok (.if_icmp .ne 19, 3) := dk_160 0 19 (dk_at dksX0_isAnswer_1 13 rfl rfl)
theorem dX0_isAnswer_40 : decode cX0_isAnswer 40 = .ok (.aload_n 0, 1) := dk_42 (dk_at dksX0_isAnswer_1 16 rfl rfl)
theorem dX0_isAnswer_41 : decode cX0_isAnswer 41 = .ok (.getfield 203, 3) := dk_180 0 203 (dk_at dksX0_isAnswer_1 17 rfl rfl)
theorem dX0_isAnswer_44 : decode cX0_isAnswer 44 = .ok (.iload 4, 2) := dk_21 4 (dk_at dksX0_isAnswer_1 20 rfl rfl)
theorem dX0_isAnswer_46 : decode cX0_isAnswer 46 = .ok (.invokestatic 206, 3) := dk_184 0 206 (dk_at dksX0_isAnswer_2 0 rfl rfl)
theorem dX0_isAnswer_49 : decode cX0_isAnswer 49 = .ok (.ifCond .ne 7, 3) := dk_154 0 7 (dk_at dksX0_isAnswer_2 3 rfl rfl)
theorem dX0_isAnswer_52 : decode cX0_isAnswer 52 = .ok (.iconst 1, 1) := dk_4 (dk_at dksX0_isAnswer_2 6 rfl rfl)
theorem dX0_isAnswer_53 : decode cX0_isAnswer 53 = .ok (.goto 4, 3) := dk_167 0 4 (dk_at dksX0_isAnswer_2 7 rfl rfl)
theorem dX0_isAnswer_56 : decode cX0_isAnswer 56 = .ok (.iconst 0, 1) := dk_3 (dk_at dksX0_isAnswer_2 10 rfl rfl)
theorem dX0_isAnswer_57 : decode cX0_isAnswer 57 = .ok (.istore_n 3, 1) := dk_62 (dk_at dksX0_isAnswer_2 11 rfl rfl)
theorem dX0_isAnswer_58 : decode cX0_isAnswer 58 = .ok (.iinc 4 1, 3) := dk_132 4 1 (dk_at dksX0_isAnswer_2 12 rfl rfl)
theorem dX0_isAnswer_61 : decode cX0_isAnswer 61 = .ok (.goto (-56), 3) := dk_167 255 200 (dk_at dksX0_isAnswer_2 15 rfl rfl)
theorem dX0_isAnswer_64 : decode cX0_isAnswer 64 = .ok (.iload_n 3, 1) := dk_29 (dk_at dksX0_isAnswer_2 18 rfl rfl)
theorem dX0_isAnswer_65 : decode cX0_isAnswer 65 = .ok (.ireturn, 1) := dk_172 (dk_at dksX0_isAnswer_2 19 rfl rfl)
abbrev cX0_has : ByteArray := prog_1_method_3_code
def yX0_has : MethodName := ⟨RX0, "has", "(II)Z"⟩
def dkwX0_has_0 : List UInt8 := [26, 27, 122, 4, 126, 4, 160, 0, 7, 4, 167, 0, 4, 3, 172]
abbrev dktX0_has_0 : List UInt8 := dkwX0_has_0 ++ []
theorem dksX0_has_0 : cX0_has.data.toList.drop 0 = dktX0_has_0 := by decide +kernel
theorem dX0_has_0 : decode cX0_has 0 = .ok (.iload_n 0, 1) := dk_26 (dk_at dksX0_has_0 0 rfl rfl)
theorem dX0_has_1 : decode cX0_has 1 = .ok (.iload_n 1, 1) := dk_27 (dk_at dksX0_has_0 1 rfl rfl)
theorem dX0_has_2 : decode cX0_has 2 = .ok (.ishr, 1) := dk_122 (dk_at dksX0_has_0 2 rfl rfl)
theorem dX0_has_3 : decode cX0_has 3 = .ok (.iconst 1, 1) := dk_4 (dk_at dksX0_has_0 3 rfl rfl)
theorem dX0_has_4 : decode cX0_has 4 = .ok (.iand, 1) := dk_126 (dk_at dksX0_has_0 4 rfl rfl)
theorem dX0_has_5 : decode cX0_has 5 = .ok (.iconst 1, 1) := dk_4 (dk_at dksX0_has_0 5 rfl rfl)
theorem dX0_has_6 : decode cX0_has 6 = .ok (.if_icmp .ne 7, 3) := dk_160 0 7 (dk_at dksX0_has_0 6 rfl rfl)
theorem dX0_has_9 : decode cX0_has 9 = .ok (.iconst 1, 1) := dk_4 (dk_at dksX0_has_0 9 rfl rfl)
theorem dX0_has_10 : decode cX0_has 10 = .ok (.goto 4, 3) := dk_167 0 4 (dk_at dksX0_has_0 10 rfl rfl)
theorem dX0_has_13 : decode cX0_has 13 = .ok (.iconst 0, 1) := dk_3 (dk_at dksX0_has_0 13 rfl rfl)
theorem dX0_has_14 : decode cX0_has 14 = .ok (.ireturn, 1) := dk_172 (dk_at dksX0_has_0 14 rfl rfl)
abbrev cX0_nextOf : ByteArray := prog_1_method_39_code
def yX0_nextOf : MethodName := ⟨RX0, "nextOf", "(II)I"⟩
def dkwX0_nextOf_3 : List UInt8 := [167, 0, 4, 2, 62, 132, 4, 1, 167, 255, 184, 29, 172]
abbrev dktX0_nextOf_3 : List UInt8 := dkwX0_nextOf_3 ++ []
def dkwX0_nextOf_2 : List UInt8 := [180, 0, 187, 21, 4, 50, 28, 46, 96, 42, 180, 0, 187, 27, 50, 28, 46, 160, 0, 8, 21, 4]
abbrev dktX0_nextOf_2 : List UInt8 := dkwX0_nextOf_2 ++ dktX0_nextOf_3
def dkwX0_nextOf_1 : List UInt8 := [46, 17, 39, 15, 162, 0, 52, 21, 4, 27, 159, 0, 38, 42, 180, 0, 175, 27, 50, 21, 4, 46, 42]
abbrev dktX0_nextOf_1 : List UInt8 := dkwX0_nextOf_1 ++ dktX0_nextOf_2
def dkwX0_nextOf_0 : List UInt8 := [2, 62, 3, 54, 4, 21, 4, 16, 8, 162, 0, 71, 29, 2, 160, 0, 66, 42, 180, 0, 187, 27, 50, 28]
abbrev dktX0_nextOf_0 : List UInt8 := dkwX0_nextOf_0 ++ dktX0_nextOf_1
theorem dksX0_nextOf_0 : cX0_nextOf.data.toList.drop 0 = dktX0_nextOf_0 := by decide +kernel
theorem dksX0_nextOf_1 : cX0_nextOf.data.toList.drop 24 = dktX0_nextOf_1 := dk_seg dksX0_nextOf_0 24 rfl rfl
theorem dksX0_nextOf_2 : cX0_nextOf.data.toList.drop 47 = dktX0_nextOf_2 := dk_seg dksX0_nextOf_1 23 rfl rfl
theorem dksX0_nextOf_3 : cX0_nextOf.data.toList.drop 69 = dktX0_nextOf_3 := dk_seg dksX0_nextOf_2 22 rfl rfl
theorem dX0_nextOf_0 : decode cX0_nextOf 0 = .ok (.iconst (-1), 1) := dk_2 (dk_at dksX0_nextOf_0 0 rfl rfl)
theorem dX0_nextOf_1 : decode cX0_nextOf 1 = .ok (.istore_n 3, 1) := dk_62 (dk_at dksX0_nextOf_0 1 rfl rfl)
theorem dX0_nextOf_2 : decode cX0_nextOf 2 = .ok (.iconst 0, 1) := dk_3 (dk_at dksX0_nextOf_0 2 rfl rfl)
theorem dX0_nextOf_3 : decode cX0_nextOf 3 = .ok (.istore 4, 2) := dk_54 4 (dk_at dksX0_nextOf_0 3 rfl rfl)
theorem dX0_nextOf_5 : decode cX0_nextOf 5 = .ok (.iload 4, 2) := dk_21 4 (dk_at dksX0_nextOf_0 5 rfl rfl)
theorem dX0_nextOf_7 : decode cX0_nextOf 7 = .ok (.bipush 8, 2) := dk_16 8 (dk_at dksX0_nextOf_0 7 rfl rfl)
theorem dX0_nextOf_9 : decode cX0_nextOf 9 = .ok (.if_icmp .ge 71, 3) := dk_162 0 71 (dk_at dksX0_nextOf_0 9 rfl rfl)
theorem dX0_nextOf_12 : decode cX0_nextOf 12 = .ok (.iload_n 3, 1) := dk_29 (dk_at dksX0_nextOf_0 12 rfl rfl)
theorem dX0_nextOf_13 : decode cX0_nextOf 13 = .ok (.iconst (-1), 1) := dk_2 (dk_at dksX0_nextOf_0 13 rfl rfl)
theorem dX0_nextOf_14 : decode cX0_nextOf 14 = .ok (.if_icmp .ne 66, 3) := dk_160 0 66 (dk_at dksX0_nextOf_0 14 rfl rfl)
theorem dX0_nextOf_17 : decode cX0_nextOf 17 = .ok (.aload_n 0, 1) := dk_42 (dk_at dksX0_nextOf_0 17 rfl rfl)
theorem dX0_nextOf_18 : decode cX0_nextOf 18 = .ok (.getfield 187, 3) := dk_180 0 187 (dk_at dksX0_nextOf_0 18 rfl rfl)
theorem dX0_nextOf_21 : decode cX0_nextOf 21 = .ok (.iload_n 1, 1) := dk_27 (dk_at dksX0_nextOf_0 21 rfl rfl)
theorem dX0_nextOf_22 : decode cX0_nextOf 22 = .ok (.aaload, 1) := dk_50 (dk_at dksX0_nextOf_0 22 rfl rfl)
theorem dX0_nextOf_23 : decode cX0_nextOf 23 = .ok (.iload_n 2, 1) := dk_28 (dk_at dksX0_nextOf_0 23 rfl rfl)
theorem dX0_nextOf_24 : decode cX0_nextOf 24 = .ok (.iaload, 1) := dk_46 (dk_at dksX0_nextOf_1 0 rfl rfl)
theorem dX0_nextOf_25 : decode cX0_nextOf 25 = .ok (.sipush 9999, 3) := dk_17 39 15 (dk_at dksX0_nextOf_1 1 rfl rfl)
theorem dX0_nextOf_28 : decode cX0_nextOf 28 = .ok (.if_icmp .ge 52, 3) := dk_162 0 52 (dk_at dksX0_nextOf_1 4 rfl rfl)
theorem dX0_nextOf_31 : decode cX0_nextOf 31 = .ok (.iload 4, 2) := dk_21 4 (dk_at dksX0_nextOf_1 7 rfl rfl)
theorem dX0_nextOf_33 : decode cX0_nextOf 33 = .ok (.iload_n 1, 1) := dk_27 (dk_at dksX0_nextOf_1 9 rfl rfl)
theorem dX0_nextOf_34 : decode cX0_nextOf 34 = .ok (.if_icmp .eq 38, 3) := dk_159 0 38 (dk_at dksX0_nextOf_1 10 rfl rfl)
theorem dX0_nextOf_37 : decode cX0_nextOf 37 = .ok (.aload_n 0, 1) := dk_42 (dk_at dksX0_nextOf_1 13 rfl rfl)
theorem dX0_nextOf_38 : decode cX0_nextOf 38 = .ok (.getfield 175, 3) := dk_180 0 175 (dk_at dksX0_nextOf_1 14 rfl rfl)
theorem dX0_nextOf_41 : decode cX0_nextOf 41 = .ok (.iload_n 1, 1) := dk_27 (dk_at dksX0_nextOf_1 17 rfl rfl)
theorem dX0_nextOf_42 : decode cX0_nextOf 42 = .ok (.aaload, 1) := dk_50 (dk_at dksX0_nextOf_1 18 rfl rfl)
theorem dX0_nextOf_43 : decode cX0_nextOf 43 = .ok (.iload 4, 2) := dk_21 4 (dk_at dksX0_nextOf_1 19 rfl rfl)
theorem dX0_nextOf_45 : decode cX0_nextOf 45 = .ok (.iaload, 1) := dk_46 (dk_at dksX0_nextOf_1 21 rfl rfl)
theorem dX0_nextOf_46 : decode cX0_nextOf 46 = .ok (.aload_n 0, 1) := dk_42 (dk_at dksX0_nextOf_1 22 rfl rfl)
theorem dX0_nextOf_47 : decode cX0_nextOf 47 = .ok (.getfield 187, 3) := dk_180 0 187 (dk_at dksX0_nextOf_2 0 rfl rfl)
theorem dX0_nextOf_50 : decode cX0_nextOf 50 = .ok (.iload 4, 2) := dk_21 4 (dk_at dksX0_nextOf_2 3 rfl rfl)
theorem dX0_nextOf_52 : decode cX0_nextOf 52 = .ok (.aaload, 1) := dk_50 (dk_at dksX0_nextOf_2 5 rfl rfl)
theorem dX0_nextOf_53 : decode cX0_nextOf 53 = .ok (.iload_n 2, 1) := dk_28 (dk_at dksX0_nextOf_2 6 rfl rfl)
theorem dX0_nextOf_54 : decode cX0_nextOf 54 = .ok (.iaload, 1) := dk_46 (dk_at dksX0_nextOf_2 7 rfl rfl)
theorem dX0_nextOf_55 : decode cX0_nextOf 55 = .ok (.iadd, 1) := dk_96 (dk_at dksX0_nextOf_2 8 rfl rfl)
theorem dX0_nextOf_56 : decode cX0_nextOf 56 = .ok (.aload_n 0, 1) := dk_42 (dk_at dksX0_nextOf_2 9 rfl rfl)
theorem dX0_nextOf_57 : decode cX0_nextOf 57 = .ok (.getfield 187, 3) := dk_180 0 187 (dk_at dksX0_nextOf_2 10 rfl rfl)
theorem dX0_nextOf_60 : decode cX0_nextOf 60 = .ok (.iload_n 1, 1) := dk_27 (dk_at dksX0_nextOf_2 13 rfl rfl)
theorem dX0_nextOf_61 : decode cX0_nextOf 61 = .ok (.aaload, 1) := dk_50 (dk_at dksX0_nextOf_2 14 rfl rfl)
theorem dX0_nextOf_62 : decode cX0_nextOf 62 = .ok (.iload_n 2, 1) := dk_28 (dk_at dksX0_nextOf_2 15 rfl rfl)
theorem dX0_nextOf_63 : decode cX0_nextOf 63 = .ok (.iaload, 1) := dk_46 (dk_at dksX0_nextOf_2 16 rfl rfl)
theorem dX0_nextOf_64 : decode cX0_nextOf 64 = .ok (.if_icmp .ne 8, 3) := dk_160 0 8 (dk_at dksX0_nextOf_2 17 rfl rfl)
theorem dX0_nextOf_67 : decode cX0_nextOf 67 = .ok (.iload 4, 2) := dk_21 4 (dk_at dksX0_nextOf_2 20 rfl rfl)
theorem dX0_nextOf_69 : decode cX0_nextOf 69 = .ok (.goto 4, 3) := dk_167 0 4 (dk_at dksX0_nextOf_3 0 rfl rfl)
theorem dX0_nextOf_72 : decode cX0_nextOf 72 = .ok (.iconst (-1), 1) := dk_2 (dk_at dksX0_nextOf_3 3 rfl rfl)
theorem dX0_nextOf_73 : decode cX0_nextOf 73 = .ok (.istore_n 3, 1) := dk_62 (dk_at dksX0_nextOf_3 4 rfl rfl)
theorem dX0_nextOf_74 : decode cX0_nextOf 74 = .ok (.iinc 4 1, 3) := dk_132 4 1 (dk_at dksX0_nextOf_3 5 rfl rfl)
theorem dX0_nextOf_77 : decode cX0_nextOf 77 = .ok (.goto (-72), 3) := dk_167 255 184 (dk_at dksX0_nextOf_3 8 rfl rfl)
theorem dX0_nextOf_80 : decode cX0_nextOf 80 = .ok (.iload_n 3, 1) := dk_29 (dk_at dksX0_nextOf_3 11 rfl rfl)
theorem dX0_nextOf_81 : decode cX0_nextOf 81 = .ok (.ireturn, 1) := dk_172 (dk_at dksX0_nextOf_3 12 rfl rfl)
abbrev cX0_ends : ByteArray := prog_1_method_53_code
def yX0_ends : MethodName := ⟨RX0, "ends", "(I)I"⟩
def dkwX0_ends_0 : List UInt8 := [42, 27, 182, 0, 126, 153, 0, 11, 42, 27, 182, 1, 29, 167, 0, 5, 16, 254, 172]
abbrev dktX0_ends_0 : List UInt8 := dkwX0_ends_0 ++ []
theorem dksX0_ends_0 : cX0_ends.data.toList.drop 0 = dktX0_ends_0 := by decide +kernel
theorem dX0_ends_0 : decode cX0_ends 0 = .ok (.aload_n 0, 1) := dk_42 (dk_at dksX0_ends_0 0 rfl rfl)
theorem dX0_ends_1 : decode cX0_ends 1 = .ok (.iload_n 1, 1) := dk_27 (dk_at dksX0_ends_0 1 rfl rfl)
theorem dX0_ends_2 : decode cX0_ends 2 = .ok (.invokevirtual 126, 3) := dk_182 0 126 (dk_at dksX0_ends_0 2 rfl rfl)
theorem dX0_ends_5 : decode cX0_ends 5 = .ok (.ifCond .eq 11, 3) := dk_153 0 11 (dk_at dksX0_ends_0 5 rfl rfl)
theorem dX0_ends_8 : decode cX0_ends 8 = .ok (.aload_n 0, 1) := dk_42 (dk_at dksX0_ends_0 8 rfl rfl)
theorem dX0_ends_9 : decode cX0_ends 9 = .ok (.iload_n 1, 1) := dk_27 (dk_at dksX0_ends_0 9 rfl rfl)
theorem dX0_ends_10 : decode cX0_ends 10 = .ok (.invokevirtual 285, 3) := dk_182 1 29 (dk_at dksX0_ends_0 10 rfl rfl)
theorem dX0_ends_13 : decode cX0_ends 13 = .ok (.goto 5, 3) := dk_167 0 5 (dk_at dksX0_ends_0 13 rfl rfl)
theorem dX0_ends_16 : decode cX0_ends 16 = .ok (.bipush (-2), 2) := dk_16 254 (dk_at dksX0_ends_0 16 rfl rfl)
theorem dX0_ends_18 : decode cX0_ends 18 = .ok (.ireturn, 1) := dk_172 (dk_at dksX0_ends_0 18 rfl rfl)
abbrev cX0_endsOf : ByteArray := prog_1_method_52_code
def yX0_endsOf : MethodName := ⟨RX0, "endsOf", "(I)I"⟩
def dkwX0_endsOf_0 : List UInt8 := [42, 182, 1, 17, 42, 16, 39, 182, 1, 20, 42, 180, 0, 62, 27, 50, 180, 1, 26, 172]
abbrev dktX0_endsOf_0 : List UInt8 := dkwX0_endsOf_0 ++ []
theorem dksX0_endsOf_0 : cX0_endsOf.data.toList.drop 0 = dktX0_endsOf_0 := by decide +kernel
theorem dX0_endsOf_0 : decode cX0_endsOf 0 = .ok (.aload_n 0, 1) := dk_42 (dk_at dksX0_endsOf_0 0 rfl rfl)
theorem dX0_endsOf_1 : decode cX0_endsOf 1 = .ok (.invokevirtual 273, 3) := dk_182 1 17 (dk_at dksX0_endsOf_0 1 rfl rfl)
theorem dX0_endsOf_4 : decode cX0_endsOf 4 = .ok (.aload_n 0, 1) := dk_42 (dk_at dksX0_endsOf_0 4 rfl rfl)
theorem dX0_endsOf_5 : decode cX0_endsOf 5 = .ok (.bipush 39, 2) := dk_16 39 (dk_at dksX0_endsOf_0 5 rfl rfl)
theorem dX0_endsOf_7 : decode cX0_endsOf 7 = .ok (.invokevirtual 276, 3) := dk_182 1 20 (dk_at dksX0_endsOf_0 7 rfl rfl)
theorem dX0_endsOf_10 : decode cX0_endsOf 10 = .ok (.aload_n 0, 1) := dk_42 (dk_at dksX0_endsOf_0 10 rfl rfl)
theorem dX0_endsOf_11 : decode cX0_endsOf 11 = .ok (.getfield 62, 3) := dk_180 0 62 (dk_at dksX0_endsOf_0 11 rfl rfl)
theorem dX0_endsOf_14 : decode cX0_endsOf 14 = .ok (.iload_n 1, 1) := dk_27 (dk_at dksX0_endsOf_0 14 rfl rfl)
theorem dX0_endsOf_15 : decode cX0_endsOf 15 = .ok (.aaload, 1) := dk_50 (dk_at dksX0_endsOf_0 15 rfl rfl)
theorem dX0_endsOf_16 : decode cX0_endsOf 16 = .ok (.getfield 282, 3) := dk_180 1 26 (dk_at dksX0_endsOf_0 16 rfl rfl)
theorem dX0_endsOf_19 : decode cX0_endsOf 19 = .ok (.ireturn, 1) := dk_172 (dk_at dksX0_endsOf_0 19 rfl rfl)
abbrev cX0_who : ByteArray := prog_1_method_56_code
def yX0_who : MethodName := ⟨RX0, "who", "(I)I"⟩
def dkwX0_who_0 : List UInt8 := [27, 5, 8, 184, 0, 5, 153, 0, 11, 42, 27, 182, 1, 35, 167, 0, 5, 16, 254, 172]
abbrev dktX0_who_0 : List UInt8 := dkwX0_who_0 ++ []
theorem dksX0_who_0 : cX0_who.data.toList.drop 0 = dktX0_who_0 := by decide +kernel
theorem dX0_who_0 : decode cX0_who 0 = .ok (.iload_n 1, 1) := dk_27 (dk_at dksX0_who_0 0 rfl rfl)
theorem dX0_who_1 : decode cX0_who 1 = .ok (.iconst 2, 1) := dk_5 (dk_at dksX0_who_0 1 rfl rfl)
theorem dX0_who_2 : decode cX0_who 2 = .ok (.iconst 5, 1) := dk_8 (dk_at dksX0_who_0 2 rfl rfl)
theorem dX0_who_3 : decode cX0_who 3 = .ok (.invokestatic 5, 3) := dk_184 0 5 (dk_at dksX0_who_0 3 rfl rfl)
theorem dX0_who_6 : decode cX0_who 6 = .ok (.ifCond .eq 11, 3) := dk_153 0 11 (dk_at dksX0_who_0 6 rfl rfl)
theorem dX0_who_9 : decode cX0_who 9 = .ok (.aload_n 0, 1) := dk_42 (dk_at dksX0_who_0 9 rfl rfl)
theorem dX0_who_10 : decode cX0_who 10 = .ok (.iload_n 1, 1) := dk_27 (dk_at dksX0_who_0 10 rfl rfl)
theorem dX0_who_11 : decode cX0_who 11 = .ok (.invokevirtual 291, 3) := dk_182 1 35 (dk_at dksX0_who_0 11 rfl rfl)
theorem dX0_who_14 : decode cX0_who 14 = .ok (.goto 5, 3) := dk_167 0 5 (dk_at dksX0_who_0 14 rfl rfl)
theorem dX0_who_17 : decode cX0_who 17 = .ok (.bipush (-2), 2) := dk_16 254 (dk_at dksX0_who_0 17 rfl rfl)
theorem dX0_who_19 : decode cX0_who 19 = .ok (.ireturn, 1) := dk_172 (dk_at dksX0_who_0 19 rfl rfl)
abbrev cX0_whoOf : ByteArray := prog_1_method_55_code
def yX0_whoOf : MethodName := ⟨RX0, "whoOf", "(I)I"⟩
def dkwX0_whoOf_0 : List UInt8 := [42, 182, 1, 17, 42, 16, 39, 182, 1, 20, 42, 27, 182, 1, 32, 172]
abbrev dktX0_whoOf_0 : List UInt8 := dkwX0_whoOf_0 ++ []
theorem dksX0_whoOf_0 : cX0_whoOf.data.toList.drop 0 = dktX0_whoOf_0 := by decide +kernel
theorem dX0_whoOf_0 : decode cX0_whoOf 0 = .ok (.aload_n 0, 1) := dk_42 (dk_at dksX0_whoOf_0 0 rfl rfl)
theorem dX0_whoOf_1 : decode cX0_whoOf 1 = .ok (.invokevirtual 273, 3) := dk_182 1 17 (dk_at dksX0_whoOf_0 1 rfl rfl)
theorem dX0_whoOf_4 : decode cX0_whoOf 4 = .ok (.aload_n 0, 1) := dk_42 (dk_at dksX0_whoOf_0 4 rfl rfl)
theorem dX0_whoOf_5 : decode cX0_whoOf 5 = .ok (.bipush 39, 2) := dk_16 39 (dk_at dksX0_whoOf_0 5 rfl rfl)
theorem dX0_whoOf_7 : decode cX0_whoOf 7 = .ok (.invokevirtual 276, 3) := dk_182 1 20 (dk_at dksX0_whoOf_0 7 rfl rfl)
theorem dX0_whoOf_10 : decode cX0_whoOf 10 = .ok (.aload_n 0, 1) := dk_42 (dk_at dksX0_whoOf_0 10 rfl rfl)
theorem dX0_whoOf_11 : decode cX0_whoOf 11 = .ok (.iload_n 1, 1) := dk_27 (dk_at dksX0_whoOf_0 11 rfl rfl)
theorem dX0_whoOf_12 : decode cX0_whoOf 12 = .ok (.invokevirtual 288, 3) := dk_182 1 32 (dk_at dksX0_whoOf_0 12 rfl rfl)
theorem dX0_whoOf_15 : decode cX0_whoOf 15 = .ok (.ireturn, 1) := dk_172 (dk_at dksX0_whoOf_0 15 rfl rfl)
abbrev cX0_whoNow : ByteArray := prog_1_method_54_code
def yX0_whoNow : MethodName := ⟨RX0, "whoNow", "(I)I"⟩
def dkwX0_whoNow_1 : List UInt8 := [160, 0, 9, 4, 29, 120, 167, 0, 4, 3, 128, 61, 132, 3, 1, 167, 255, 222, 28, 172]
abbrev dktX0_whoNow_1 : List UInt8 := dkwX0_whoNow_1 ++ []
def dkwX0_whoNow_0 : List UInt8 := [3, 61, 3, 62, 29, 42, 180, 0, 98, 162, 0, 32, 28, 42, 180, 0, 62, 29, 50, 180, 0, 221, 27]
abbrev dktX0_whoNow_0 : List UInt8 := dkwX0_whoNow_0 ++ dktX0_whoNow_1
theorem dksX0_whoNow_0 : cX0_whoNow.data.toList.drop 0 = dktX0_whoNow_0 := by decide +kernel
theorem dksX0_whoNow_1 : cX0_whoNow.data.toList.drop 23 = dktX0_whoNow_1 := dk_seg dksX0_whoNow_0 23 rfl rfl
theorem dX0_whoNow_0 : decode cX0_whoNow 0 = .ok (.iconst 0, 1) := dk_3 (dk_at dksX0_whoNow_0 0 rfl rfl)
theorem dX0_whoNow_1 : decode cX0_whoNow 1 = .ok (.istore_n 2, 1) := dk_61 (dk_at dksX0_whoNow_0 1 rfl rfl)
theorem dX0_whoNow_2 : decode cX0_whoNow 2 = .ok (.iconst 0, 1) := dk_3 (dk_at dksX0_whoNow_0 2 rfl rfl)
theorem dX0_whoNow_3 : decode cX0_whoNow 3 = .ok (.istore_n 3, 1) := dk_62 (dk_at dksX0_whoNow_0 3 rfl rfl)
theorem dX0_whoNow_4 : decode cX0_whoNow 4 = .ok (.iload_n 3, 1) := dk_29 (dk_at dksX0_whoNow_0 4 rfl rfl)
theorem dX0_whoNow_5 : decode cX0_whoNow 5 = .ok (.aload_n 0, 1) := dk_42 (dk_at dksX0_whoNow_0 5 rfl rfl)
theorem dX0_whoNow_6 : decode cX0_whoNow 6 = .ok (.getfield 98, 3) := dk_180 0 98 (dk_at dksX0_whoNow_0 6 rfl rfl)
theorem dX0_whoNow_9 : decode cX0_whoNow 9 = .ok (.if_icmp .ge 32, 3) := dk_162 0 32 (dk_at dksX0_whoNow_0 9 rfl rfl)
theorem dX0_whoNow_12 : decode cX0_whoNow 12 = .ok (.iload_n 2, 1) := dk_28 (dk_at dksX0_whoNow_0 12 rfl rfl)
theorem dX0_whoNow_13 : decode cX0_whoNow 13 = .ok (.aload_n 0, 1) := dk_42 (dk_at dksX0_whoNow_0 13 rfl rfl)
theorem dX0_whoNow_14 : decode cX0_whoNow 14 = .ok (.getfield 62, 3) := dk_180 0 62 (dk_at dksX0_whoNow_0 14 rfl rfl)
theorem dX0_whoNow_17 : decode cX0_whoNow 17 = .ok (.iload_n 3, 1) := dk_29 (dk_at dksX0_whoNow_0 17 rfl rfl)
theorem dX0_whoNow_18 : decode cX0_whoNow 18 = .ok (.aaload, 1) := dk_50 (dk_at dksX0_whoNow_0 18 rfl rfl)
theorem dX0_whoNow_19 : decode cX0_whoNow 19 = .ok (.getfield 221, 3) := dk_180 0 221 (dk_at dksX0_whoNow_0 19 rfl rfl)
theorem dX0_whoNow_22 : decode cX0_whoNow 22 = .ok (.iload_n 1, 1) := dk_27 (dk_at dksX0_whoNow_0 22 rfl rfl)
theorem dX0_whoNow_23 : decode cX0_whoNow 23 = .ok (.if_icmp .ne 9, 3) := dk_160 0 9 (dk_at dksX0_whoNow_1 0 rfl rfl)
theorem dX0_whoNow_26 : decode cX0_whoNow 26 = .ok (.iconst 1, 1) := dk_4 (dk_at dksX0_whoNow_1 3 rfl rfl)
theorem dX0_whoNow_27 : decode cX0_whoNow 27 = .ok (.iload_n 3, 1) := dk_29 (dk_at dksX0_whoNow_1 4 rfl rfl)
theorem dX0_whoNow_28 : decode cX0_whoNow 28 = .ok (.ishl, 1) := dk_120 (dk_at dksX0_whoNow_1 5 rfl rfl)
theorem dX0_whoNow_29 : decode cX0_whoNow 29 = .ok (.goto 4, 3) := dk_167 0 4 (dk_at dksX0_whoNow_1 6 rfl rfl)
theorem dX0_whoNow_32 : decode cX0_whoNow 32 = .ok (.iconst 0, 1) := dk_3 (dk_at dksX0_whoNow_1 9 rfl rfl)
theorem dX0_whoNow_33 : decode cX0_whoNow 33 = .ok (.ior, 1) := dk_128 (dk_at dksX0_whoNow_1 10 rfl rfl)
theorem dX0_whoNow_34 : decode cX0_whoNow 34 = .ok (.istore_n 2, 1) := dk_61 (dk_at dksX0_whoNow_1 11 rfl rfl)
theorem dX0_whoNow_35 : decode cX0_whoNow 35 = .ok (.iinc 3 1, 3) := dk_132 3 1 (dk_at dksX0_whoNow_1 12 rfl rfl)
theorem dX0_whoNow_38 : decode cX0_whoNow 38 = .ok (.goto (-34), 3) := dk_167 255 222 (dk_at dksX0_whoNow_1 15 rfl rfl)
theorem dX0_whoNow_41 : decode cX0_whoNow 41 = .ok (.iload_n 2, 1) := dk_28 (dk_at dksX0_whoNow_1 18 rfl rfl)
theorem dX0_whoNow_42 : decode cX0_whoNow 42 = .ok (.ireturn, 1) := dk_172 (dk_at dksX0_whoNow_1 19 rfl rfl)
abbrev cX0_met : ByteArray := prog_1_method_58_code
def yX0_met : MethodName := ⟨RX0, "met", "(I)I"⟩
def dkwX0_met_0 : List UInt8 := [27, 184, 1, 38, 153, 0, 11, 42, 27, 182, 1, 41, 167, 0, 5, 16, 254, 172]
abbrev dktX0_met_0 : List UInt8 := dkwX0_met_0 ++ []
theorem dksX0_met_0 : cX0_met.data.toList.drop 0 = dktX0_met_0 := by decide +kernel
theorem dX0_met_0 : decode cX0_met 0 = .ok (.iload_n 1, 1) := dk_27 (dk_at dksX0_met_0 0 rfl rfl)
theorem dX0_met_1 : decode cX0_met 1 = .ok (.invokestatic 294, 3) := dk_184 1 38 (dk_at dksX0_met_0 1 rfl rfl)
theorem dX0_met_4 : decode cX0_met 4 = .ok (.ifCond .eq 11, 3) := dk_153 0 11 (dk_at dksX0_met_0 4 rfl rfl)
theorem dX0_met_7 : decode cX0_met 7 = .ok (.aload_n 0, 1) := dk_42 (dk_at dksX0_met_0 7 rfl rfl)
theorem dX0_met_8 : decode cX0_met 8 = .ok (.iload_n 1, 1) := dk_27 (dk_at dksX0_met_0 8 rfl rfl)
theorem dX0_met_9 : decode cX0_met 9 = .ok (.invokevirtual 297, 3) := dk_182 1 41 (dk_at dksX0_met_0 9 rfl rfl)
theorem dX0_met_12 : decode cX0_met 12 = .ok (.goto 5, 3) := dk_167 0 5 (dk_at dksX0_met_0 12 rfl rfl)
theorem dX0_met_15 : decode cX0_met 15 = .ok (.bipush (-2), 2) := dk_16 254 (dk_at dksX0_met_0 15 rfl rfl)
theorem dX0_met_17 : decode cX0_met 17 = .ok (.ireturn, 1) := dk_172 (dk_at dksX0_met_0 17 rfl rfl)
abbrev cX0_isTwo : ByteArray := prog_1_method_7_code
def yX0_isTwo : MethodName := ⟨RX0, "isTwo", "(I)Z"⟩
def dkwX0_isTwo_0 : List UInt8 := [26, 3, 4, 184, 0, 5, 172]
abbrev dktX0_isTwo_0 : List UInt8 := dkwX0_isTwo_0 ++ []
theorem dksX0_isTwo_0 : cX0_isTwo.data.toList.drop 0 = dktX0_isTwo_0 := by decide +kernel
theorem dX0_isTwo_0 : decode cX0_isTwo 0 = .ok (.iload_n 0, 1) := dk_26 (dk_at dksX0_isTwo_0 0 rfl rfl)
theorem dX0_isTwo_1 : decode cX0_isTwo 1 = .ok (.iconst 0, 1) := dk_3 (dk_at dksX0_isTwo_0 1 rfl rfl)
theorem dX0_isTwo_2 : decode cX0_isTwo 2 = .ok (.iconst 1, 1) := dk_4 (dk_at dksX0_isTwo_0 2 rfl rfl)
theorem dX0_isTwo_3 : decode cX0_isTwo 3 = .ok (.invokestatic 5, 3) := dk_184 0 5 (dk_at dksX0_isTwo_0 3 rfl rfl)
theorem dX0_isTwo_6 : decode cX0_isTwo 6 = .ok (.ireturn, 1) := dk_172 (dk_at dksX0_isTwo_0 6 rfl rfl)
abbrev cX0_metOf : ByteArray := prog_1_method_57_code
def yX0_metOf : MethodName := ⟨RX0, "metOf", "(I)I"⟩
def dkwX0_metOf_1 : List UInt8 := [180, 0, 218, 172]
abbrev dktX0_metOf_1 : List UInt8 := dkwX0_metOf_1 ++ []
def dkwX0_metOf_0 : List UInt8 := [42, 182, 1, 17, 42, 16, 39, 182, 1, 20, 27, 154, 0, 10, 42, 180, 0, 215, 167, 0, 7, 42]
abbrev dktX0_metOf_0 : List UInt8 := dkwX0_metOf_0 ++ dktX0_metOf_1
theorem dksX0_metOf_0 : cX0_metOf.data.toList.drop 0 = dktX0_metOf_0 := by decide +kernel
theorem dksX0_metOf_1 : cX0_metOf.data.toList.drop 22 = dktX0_metOf_1 := dk_seg dksX0_metOf_0 22 rfl rfl
theorem dX0_metOf_0 : decode cX0_metOf 0 = .ok (.aload_n 0, 1) := dk_42 (dk_at dksX0_metOf_0 0 rfl rfl)
theorem dX0_metOf_1 : decode cX0_metOf 1 = .ok (.invokevirtual 273, 3) := dk_182 1 17 (dk_at dksX0_metOf_0 1 rfl rfl)
theorem dX0_metOf_4 : decode cX0_metOf 4 = .ok (.aload_n 0, 1) := dk_42 (dk_at dksX0_metOf_0 4 rfl rfl)
theorem dX0_metOf_5 : decode cX0_metOf 5 = .ok (.bipush 39, 2) := dk_16 39 (dk_at dksX0_metOf_0 5 rfl rfl)
theorem dX0_metOf_7 : decode cX0_metOf 7 = .ok (.invokevirtual 276, 3) := dk_182 1 20 (dk_at dksX0_metOf_0 7 rfl rfl)
theorem dX0_metOf_10 : decode cX0_metOf 10 = .ok (.iload_n 1, 1) := dk_27 (dk_at dksX0_metOf_0 10 rfl rfl)
theorem dX0_metOf_11 : decode cX0_metOf 11 = .ok (.ifCond .ne 10, 3) := dk_154 0 10 (dk_at dksX0_metOf_0 11 rfl rfl)
theorem dX0_metOf_14 : decode cX0_metOf 14 = .ok (.aload_n 0, 1) := dk_42 (dk_at dksX0_metOf_0 14 rfl rfl)
theorem dX0_metOf_15 : decode cX0_metOf 15 = .ok (.getfield 215, 3) := dk_180 0 215 (dk_at dksX0_metOf_0 15 rfl rfl)
theorem dX0_metOf_18 : decode cX0_metOf 18 = .ok (.goto 7, 3) := dk_167 0 7 (dk_at dksX0_metOf_0 18 rfl rfl)
theorem dX0_metOf_21 : decode cX0_metOf 21 = .ok (.aload_n 0, 1) := dk_42 (dk_at dksX0_metOf_0 21 rfl rfl)
theorem dX0_metOf_22 : decode cX0_metOf 22 = .ok (.getfield 218, 3) := dk_180 0 218 (dk_at dksX0_metOf_1 0 rfl rfl)
theorem dX0_metOf_25 : decode cX0_metOf 25 = .ok (.ireturn, 1) := dk_172 (dk_at dksX0_metOf_1 3 rfl rfl)
abbrev cX0_busiest : ByteArray := prog_1_method_60_code
def yX0_busiest : MethodName := ⟨RX0, "busiest", "()I"⟩
theorem dX0_busiest_0 : decode cX0_busiest 0 = .ok (.aload_n 0, 1) := by decide +kernel
theorem dX0_busiest_1 : decode cX0_busiest 1 = .ok (.invokevirtual 300, 3) := by decide +kernel
theorem dX0_busiest_4 : decode cX0_busiest 4 = .ok (.ireturn, 1) := by decide +kernel
abbrev cX0_busiestNow : ByteArray := prog_1_method_59_code
def yX0_busiestNow : MethodName := ⟨RX0, "busiestNow", "()I"⟩
def dkwX0_busiestNow_2 : List UInt8 := [27, 60, 132, 2, 1, 167, 255, 217, 27, 172]
abbrev dktX0_busiestNow_2 : List UInt8 := dkwX0_busiestNow_2 ++ []
def dkwX0_busiestNow_1 : List UInt8 := [28, 46, 27, 2, 160, 0, 7, 3, 167, 0, 9, 42, 180, 0, 212, 27, 46, 164, 0, 7, 28, 167, 0, 4]
abbrev dktX0_busiestNow_1 : List UInt8 := dkwX0_busiestNow_1 ++ dktX0_busiestNow_2
def dkwX0_busiestNow_0 : List UInt8 := [42, 182, 1, 17, 42, 16, 39, 182, 1, 20, 2, 60, 3, 61, 28, 16, 8, 162, 0, 39, 42, 180, 0, 212]
abbrev dktX0_busiestNow_0 : List UInt8 := dkwX0_busiestNow_0 ++ dktX0_busiestNow_1
theorem dksX0_busiestNow_0 : cX0_busiestNow.data.toList.drop 0 = dktX0_busiestNow_0 := by decide +kernel
theorem dksX0_busiestNow_1 : cX0_busiestNow.data.toList.drop 24 = dktX0_busiestNow_1 := dk_seg dksX0_busiestNow_0 24 rfl rfl
theorem dksX0_busiestNow_2 : cX0_busiestNow.data.toList.drop 48 = dktX0_busiestNow_2 := dk_seg dksX0_busiestNow_1 24 rfl rfl
theorem dX0_busiestNow_0 : decode cX0_busiestNow 0 = .ok (.aload_n 0, 1) := dk_42 (dk_at dksX0_busiestNow_0 0 rfl rfl)
theorem dX0_busiestNow_1 : decode cX0_busiestNow 1 = .ok (.invokevirtual 273, 3) := dk_182 1 17 (dk_at dksX0_busiestNow_0 1 rfl rfl)
theorem dX0_busiestNow_4 : decode cX0_busiestNow 4 = .ok (.aload_n 0, 1) := dk_42 (dk_at dksX0_busiestNow_0 4 rfl rfl)
theorem dX0_busiestNow_5 : decode cX0_busiestNow 5 = .ok (.bipush 39, 2) := dk_16 39 (dk_at dksX0_busiestNow_0 5 rfl rfl)
theorem dX0_busiestNow_7 : decode cX0_busiestNow 7 = .ok (.invokevirtual 276, 3) := dk_182 1 20 (dk_at dksX0_busiestNow_0 7 rfl rfl)
theorem dX0_busiestNow_10 : decode cX0_busiestNow 10 = .ok (.iconst (-1), 1) := dk_2 (dk_at dksX0_busiestNow_0 10 rfl rfl)
theorem dX0_busiestNow_11 : decode cX0_busiestNow 11 = .ok (.istore_n 1, 1) := dk_60 (dk_at dksX0_busiestNow_0 11 rfl rfl)
theorem dX0_busiestNow_12 : decode cX0_busiestNow 12 = .ok (.iconst 0, 1) := dk_3 (dk_at dksX0_busiestNow_0 12 rfl rfl)
theorem dX0_busiestNow_13 : decode cX0_busiestNow 13 = .ok (.istore_n 2, 1) := dk_61 (dk_at dksX0_busiestNow_0 13 rfl rfl)
theorem dX0_busiestNow_14 : decode cX0_busiestNow 14 = .ok (.iload_n 2, 1) := dk_28 (dk_at dksX0_busiestNow_0 14 rfl rfl)
theorem dX0_busiestNow_15 : decode cX0_busiestNow 15 = .ok (.bipush 8, 2) := dk_16 8 (dk_at dksX0_busiestNow_0 15 rfl rfl)
theorem dX0_busiestNow_17 : decode cX0_busiestNow 17 = .ok (.if_icmp .ge 39, 3) := dk_162 0 39 (dk_at dksX0_busiestNow_0 17 rfl rfl)
theorem dX0_busiestNow_20 : decode cX0_busiestNow 20 = .ok (.aload_n 0, 1) := dk_42 (dk_at dksX0_busiestNow_0 20 rfl rfl)
theorem dX0_busiestNow_21 : decode cX0_busiestNow 21 = .ok (.getfield 212, 3) := dk_180 0 212 (dk_at dksX0_busiestNow_0 21 rfl rfl)
theorem dX0_busiestNow_24 : decode cX0_busiestNow 24 = .ok (.iload_n 2, 1) := dk_28 (dk_at dksX0_busiestNow_1 0 rfl rfl)
theorem dX0_busiestNow_25 : decode cX0_busiestNow 25 = .ok (.iaload, 1) := dk_46 (dk_at dksX0_busiestNow_1 1 rfl rfl)
theorem dX0_busiestNow_26 : decode cX0_busiestNow 26 = .ok (.iload_n 1, 1) := dk_27 (dk_at dksX0_busiestNow_1 2 rfl rfl)
theorem dX0_busiestNow_27 : decode cX0_busiestNow 27 = .ok (.iconst (-1), 1) := dk_2 (dk_at dksX0_busiestNow_1 3 rfl rfl)
theorem dX0_busiestNow_28 : decode cX0_busiestNow 28 = .ok (.if_icmp .ne 7, 3) := dk_160 0 7 (dk_at dksX0_busiestNow_1 4 rfl rfl)
theorem dX0_busiestNow_31 : decode cX0_busiestNow 31 = .ok (.iconst 0, 1) := dk_3 (dk_at dksX0_busiestNow_1 7 rfl rfl)
theorem dX0_busiestNow_32 : decode cX0_busiestNow 32 = .ok (.goto 9, 3) := dk_167 0 9 (dk_at dksX0_busiestNow_1 8 rfl rfl)
theorem dX0_busiestNow_35 : decode cX0_busiestNow 35 = .ok (.aload_n 0, 1) := dk_42 (dk_at dksX0_busiestNow_1 11 rfl rfl)
theorem dX0_busiestNow_36 : decode cX0_busiestNow 36 = .ok (.getfield 212, 3) := dk_180 0 212 (dk_at dksX0_busiestNow_1 12 rfl rfl)
theorem dX0_busiestNow_39 : decode cX0_busiestNow 39 = .ok (.iload_n 1, 1) := dk_27 (dk_at dksX0_busiestNow_1 15 rfl rfl)
theorem dX0_busiestNow_40 : decode cX0_busiestNow 40 = .ok (.iaload, 1) := dk_46 (dk_at dksX0_busiestNow_1 16 rfl rfl)
theorem dX0_busiestNow_41 : decode cX0_busiestNow 41 = .ok (.if_icmp .le 7, 3) := dk_164 0 7 (dk_at dksX0_busiestNow_1 17 rfl rfl)
theorem dX0_busiestNow_44 : decode cX0_busiestNow 44 = .ok (.iload_n 2, 1) := dk_28 (dk_at dksX0_busiestNow_1 20 rfl rfl)
theorem dX0_busiestNow_45 : decode cX0_busiestNow 45 = .ok (.goto 4, 3) := dk_167 0 4 (dk_at dksX0_busiestNow_1 21 rfl rfl)
theorem dX0_busiestNow_48 : decode cX0_busiestNow 48 = .ok (.iload_n 1, 1) := dk_27 (dk_at dksX0_busiestNow_2 0 rfl rfl)
theorem dX0_busiestNow_49 : decode cX0_busiestNow 49 = .ok (.istore_n 1, 1) := dk_60 (dk_at dksX0_busiestNow_2 1 rfl rfl)
theorem dX0_busiestNow_50 : decode cX0_busiestNow 50 = .ok (.iinc 2 1, 3) := dk_132 2 1 (dk_at dksX0_busiestNow_2 2 rfl rfl)
theorem dX0_busiestNow_53 : decode cX0_busiestNow 53 = .ok (.goto (-39), 3) := dk_167 255 217 (dk_at dksX0_busiestNow_2 5 rfl rfl)
theorem dX0_busiestNow_56 : decode cX0_busiestNow 56 = .ok (.iload_n 1, 1) := dk_27 (dk_at dksX0_busiestNow_2 8 rfl rfl)
theorem dX0_busiestNow_57 : decode cX0_busiestNow 57 = .ok (.ireturn, 1) := dk_172 (dk_at dksX0_busiestNow_2 9 rfl rfl)
abbrev cX0_needs : ByteArray := prog_1_method_63_code
def yX0_needs : MethodName := ⟨RX0, "needs", "(I)I"⟩
def dkwX0_needs_0 : List UInt8 := [42, 27, 182, 0, 126, 153, 0, 11, 42, 27, 182, 1, 50, 167, 0, 5, 16, 254, 172]
abbrev dktX0_needs_0 : List UInt8 := dkwX0_needs_0 ++ []
theorem dksX0_needs_0 : cX0_needs.data.toList.drop 0 = dktX0_needs_0 := by decide +kernel
theorem dX0_needs_0 : decode cX0_needs 0 = .ok (.aload_n 0, 1) := dk_42 (dk_at dksX0_needs_0 0 rfl rfl)
theorem dX0_needs_1 : decode cX0_needs 1 = .ok (.iload_n 1, 1) := dk_27 (dk_at dksX0_needs_0 1 rfl rfl)
theorem dX0_needs_2 : decode cX0_needs 2 = .ok (.invokevirtual 126, 3) := dk_182 0 126 (dk_at dksX0_needs_0 2 rfl rfl)
theorem dX0_needs_5 : decode cX0_needs 5 = .ok (.ifCond .eq 11, 3) := dk_153 0 11 (dk_at dksX0_needs_0 5 rfl rfl)
theorem dX0_needs_8 : decode cX0_needs 8 = .ok (.aload_n 0, 1) := dk_42 (dk_at dksX0_needs_0 8 rfl rfl)
theorem dX0_needs_9 : decode cX0_needs 9 = .ok (.iload_n 1, 1) := dk_27 (dk_at dksX0_needs_0 9 rfl rfl)
theorem dX0_needs_10 : decode cX0_needs 10 = .ok (.invokevirtual 306, 3) := dk_182 1 50 (dk_at dksX0_needs_0 10 rfl rfl)
theorem dX0_needs_13 : decode cX0_needs 13 = .ok (.goto 5, 3) := dk_167 0 5 (dk_at dksX0_needs_0 13 rfl rfl)
theorem dX0_needs_16 : decode cX0_needs 16 = .ok (.bipush (-2), 2) := dk_16 254 (dk_at dksX0_needs_0 16 rfl rfl)
theorem dX0_needs_18 : decode cX0_needs 18 = .ok (.ireturn, 1) := dk_172 (dk_at dksX0_needs_0 18 rfl rfl)
abbrev cX0_needsOf : ByteArray := prog_1_method_62_code
def yX0_needsOf : MethodName := ⟨RX0, "needsOf", "(I)I"⟩
def dkwX0_needsOf_3 : List UInt8 := [132, 4, 1, 167, 255, 204, 42, 180, 0, 62, 27, 50, 28, 181, 0, 83, 29, 172]
abbrev dktX0_needsOf_3 : List UInt8 := dkwX0_needsOf_3 ++ []
def dkwX0_needsOf_2 : List UInt8 := [182, 1, 20, 42, 180, 0, 62, 27, 50, 180, 0, 221, 5, 160, 0, 8, 21, 4, 167, 0, 4, 2, 62]
abbrev dktX0_needsOf_2 : List UInt8 := dkwX0_needsOf_2 ++ dktX0_needsOf_3
def dkwX0_needsOf_1 : List UInt8 := [162, 0, 51, 29, 2, 160, 0, 46, 42, 180, 0, 62, 27, 50, 21, 4, 181, 0, 83, 42, 16, 39]
abbrev dktX0_needsOf_1 : List UInt8 := dkwX0_needsOf_1 ++ dktX0_needsOf_2
def dkwX0_needsOf_0 : List UInt8 := [42, 182, 1, 17, 42, 180, 0, 62, 27, 50, 180, 0, 83, 61, 2, 62, 3, 54, 4, 21, 4, 16, 100]
abbrev dktX0_needsOf_0 : List UInt8 := dkwX0_needsOf_0 ++ dktX0_needsOf_1
theorem dksX0_needsOf_0 : cX0_needsOf.data.toList.drop 0 = dktX0_needsOf_0 := by decide +kernel
theorem dksX0_needsOf_1 : cX0_needsOf.data.toList.drop 23 = dktX0_needsOf_1 := dk_seg dksX0_needsOf_0 23 rfl rfl
theorem dksX0_needsOf_2 : cX0_needsOf.data.toList.drop 45 = dktX0_needsOf_2 := dk_seg dksX0_needsOf_1 22 rfl rfl
theorem dksX0_needsOf_3 : cX0_needsOf.data.toList.drop 68 = dktX0_needsOf_3 := dk_seg dksX0_needsOf_2 23 rfl rfl
theorem dX0_needsOf_0 : decode cX0_needsOf 0 = .ok (.aload_n 0, 1) := dk_42 (dk_at dksX0_needsOf_0 0 rfl rfl)
theorem dX0_needsOf_1 : decode cX0_needsOf 1 = .ok (.invokevirtual 273, 3) := dk_182 1 17 (dk_at dksX0_needsOf_0 1 rfl rfl)
theorem dX0_needsOf_4 : decode cX0_needsOf 4 = .ok (.aload_n 0, 1) := dk_42 (dk_at dksX0_needsOf_0 4 rfl rfl)
theorem dX0_needsOf_5 : decode cX0_needsOf 5 = .ok (.getfield 62, 3) := dk_180 0 62 (dk_at dksX0_needsOf_0 5 rfl rfl)
theorem dX0_needsOf_8 : decode cX0_needsOf 8 = .ok (.iload_n 1, 1) := dk_27 (dk_at dksX0_needsOf_0 8 rfl rfl)
theorem dX0_needsOf_9 : decode cX0_needsOf 9 = .ok (.aaload, 1) := dk_50 (dk_at dksX0_needsOf_0 9 rfl rfl)
theorem dX0_needsOf_10 : decode cX0_needsOf 10 = .ok (.getfield 83, 3) := dk_180 0 83 (dk_at dksX0_needsOf_0 10 rfl rfl)
theorem dX0_needsOf_13 : decode cX0_needsOf 13 = .ok (.istore_n 2, 1) := dk_61 (dk_at dksX0_needsOf_0 13 rfl rfl)
theorem dX0_needsOf_14 : decode cX0_needsOf 14 = .ok (.iconst (-1), 1) := dk_2 (dk_at dksX0_needsOf_0 14 rfl rfl)
theorem dX0_needsOf_15 : decode cX0_needsOf 15 = .ok (.istore_n 3, 1) := dk_62 (dk_at dksX0_needsOf_0 15 rfl rfl)
theorem dX0_needsOf_16 : decode cX0_needsOf 16 = .ok (.iconst 0, 1) := dk_3 (dk_at dksX0_needsOf_0 16 rfl rfl)
theorem dX0_needsOf_17 : decode cX0_needsOf 17 = .ok (.istore 4, 2) := dk_54 4 (dk_at dksX0_needsOf_0 17 rfl rfl)
theorem dX0_needsOf_19 : decode cX0_needsOf 19 = .ok (.iload 4, 2) := dk_21 4 (dk_at dksX0_needsOf_0 19 rfl rfl)
theorem dX0_needsOf_21 : decode cX0_needsOf 21 = .ok (.bipush 100, 2) := dk_16 100 (dk_at dksX0_needsOf_0 21 rfl rfl)
theorem dX0_needsOf_23 : decode cX0_needsOf 23 = .ok (.if_icmp .ge 51, 3) := dk_162 0 51 (dk_at dksX0_needsOf_1 0 rfl rfl)
theorem dX0_needsOf_26 : decode cX0_needsOf 26 = .ok (.iload_n 3, 1) := dk_29 (dk_at dksX0_needsOf_1 3 rfl rfl)
theorem dX0_needsOf_27 : decode cX0_needsOf 27 = .ok (.iconst (-1), 1) := dk_2 (dk_at dksX0_needsOf_1 4 rfl rfl)
theorem dX0_needsOf_28 : decode cX0_needsOf 28 = .ok (.if_icmp .ne 46, 3) := dk_160 0 46 (dk_at dksX0_needsOf_1 5 rfl rfl)
theorem dX0_needsOf_31 : decode cX0_needsOf 31 = .ok (.aload_n 0, 1) := dk_42 (dk_at dksX0_needsOf_1 8 rfl rfl)
theorem dX0_needsOf_32 : decode cX0_needsOf 32 = .ok (.getfield 62, 3) := dk_180 0 62 (dk_at dksX0_needsOf_1 9 rfl rfl)
theorem dX0_needsOf_35 : decode cX0_needsOf 35 = .ok (.iload_n 1, 1) := dk_27 (dk_at dksX0_needsOf_1 12 rfl rfl)
theorem dX0_needsOf_36 : decode cX0_needsOf 36 = .ok (.aaload, 1) := dk_50 (dk_at dksX0_needsOf_1 13 rfl rfl)
theorem dX0_needsOf_37 : decode cX0_needsOf 37 = .ok (.iload 4, 2) := dk_21 4 (dk_at dksX0_needsOf_1 14 rfl rfl)
theorem dX0_needsOf_39 : decode cX0_needsOf 39 = .ok (.putfield 83, 3) := dk_181 0 83 (dk_at dksX0_needsOf_1 16 rfl rfl)
theorem dX0_needsOf_42 : decode cX0_needsOf 42 = .ok (.aload_n 0, 1) := dk_42 (dk_at dksX0_needsOf_1 19 rfl rfl)
theorem dX0_needsOf_43 : decode cX0_needsOf 43 = .ok (.bipush 39, 2) := dk_16 39 (dk_at dksX0_needsOf_1 20 rfl rfl)
theorem dX0_needsOf_45 : decode cX0_needsOf 45 = .ok (.invokevirtual 276, 3) := dk_182 1 20 (dk_at dksX0_needsOf_2 0 rfl rfl)
theorem dX0_needsOf_48 : decode cX0_needsOf 48 = .ok (.aload_n 0, 1) := dk_42 (dk_at dksX0_needsOf_2 3 rfl rfl)
theorem dX0_needsOf_49 : decode cX0_needsOf 49 = .ok (.getfield 62, 3) := dk_180 0 62 (dk_at dksX0_needsOf_2 4 rfl rfl)
theorem dX0_needsOf_52 : decode cX0_needsOf 52 = .ok (.iload_n 1, 1) := dk_27 (dk_at dksX0_needsOf_2 7 rfl rfl)
theorem dX0_needsOf_53 : decode cX0_needsOf 53 = .ok (.aaload, 1) := dk_50 (dk_at dksX0_needsOf_2 8 rfl rfl)
theorem dX0_needsOf_54 : decode cX0_needsOf 54 = .ok (.getfield 221, 3) := dk_180 0 221 (dk_at dksX0_needsOf_2 9 rfl rfl)
theorem dX0_needsOf_57 : decode cX0_needsOf 57 = .ok (.iconst 2, 1) := dk_5 (dk_at dksX0_needsOf_2 12 rfl rfl)
theorem dX0_needsOf_58 : decode cX0_needsOf 58 = .ok (.if_icmp .ne 8, 3) := dk_160 0 8 (dk_at dksX0_needsOf_2 13 rfl rfl)
theorem dX0_needsOf_61 : decode cX0_needsOf 61 = .ok (.iload 4, 2) := dk_21 4 (dk_at dksX0_needsOf_2 16 rfl rfl)
theorem dX0_needsOf_63 : decode cX0_needsOf 63 = .ok (.goto 4, 3) := dk_167 0 4 (dk_at dksX0_needsOf_2 18 rfl rfl)
theorem dX0_needsOf_66 : decode cX0_needsOf 66 = .ok (.iconst (-1), 1) := dk_2 (dk_at dksX0_needsOf_2 21 rfl rfl)
theorem dX0_needsOf_67 : decode cX0_needsOf 67 = .ok (.istore_n 3, 1) := dk_62 (dk_at dksX0_needsOf_2 22 rfl rfl)
theorem dX0_needsOf_68 : decode cX0_needsOf 68 = .ok (.iinc 4 1, 3) := dk_132 4 1 (dk_at dksX0_needsOf_3 0 rfl rfl)
theorem dX0_needsOf_71 : decode cX0_needsOf 71 = .ok (.goto (-52), 3) := dk_167 255 204 (dk_at dksX0_needsOf_3 3 rfl rfl)
theorem dX0_needsOf_74 : decode cX0_needsOf 74 = .ok (.aload_n 0, 1) := dk_42 (dk_at dksX0_needsOf_3 6 rfl rfl)
theorem dX0_needsOf_75 : decode cX0_needsOf 75 = .ok (.getfield 62, 3) := dk_180 0 62 (dk_at dksX0_needsOf_3 7 rfl rfl)
theorem dX0_needsOf_78 : decode cX0_needsOf 78 = .ok (.iload_n 1, 1) := dk_27 (dk_at dksX0_needsOf_3 10 rfl rfl)
theorem dX0_needsOf_79 : decode cX0_needsOf 79 = .ok (.aaload, 1) := dk_50 (dk_at dksX0_needsOf_3 11 rfl rfl)
theorem dX0_needsOf_80 : decode cX0_needsOf 80 = .ok (.iload_n 2, 1) := dk_28 (dk_at dksX0_needsOf_3 12 rfl rfl)
theorem dX0_needsOf_81 : decode cX0_needsOf 81 = .ok (.putfield 83, 3) := dk_181 0 83 (dk_at dksX0_needsOf_3 13 rfl rfl)
theorem dX0_needsOf_84 : decode cX0_needsOf 84 = .ok (.iload_n 3, 1) := dk_29 (dk_at dksX0_needsOf_3 16 rfl rfl)
theorem dX0_needsOf_85 : decode cX0_needsOf 85 = .ok (.ireturn, 1) := dk_172 (dk_at dksX0_needsOf_3 17 rfl rfl)
abbrev cX0_lend : ByteArray := prog_1_method_66_code
def yX0_lend : MethodName := ⟨RX0, "lend", "(I)I"⟩
def dkwX0_lend_0 : List UInt8 := [27, 3, 5, 184, 0, 5, 153, 0, 11, 42, 27, 182, 1, 63, 167, 0, 5, 16, 254, 172]
abbrev dktX0_lend_0 : List UInt8 := dkwX0_lend_0 ++ []
theorem dksX0_lend_0 : cX0_lend.data.toList.drop 0 = dktX0_lend_0 := by decide +kernel
theorem dX0_lend_0 : decode cX0_lend 0 = .ok (.iload_n 1, 1) := dk_27 (dk_at dksX0_lend_0 0 rfl rfl)
theorem dX0_lend_1 : decode cX0_lend 1 = .ok (.iconst 0, 1) := dk_3 (dk_at dksX0_lend_0 1 rfl rfl)
theorem dX0_lend_2 : decode cX0_lend 2 = .ok (.iconst 2, 1) := dk_5 (dk_at dksX0_lend_0 2 rfl rfl)
theorem dX0_lend_3 : decode cX0_lend 3 = .ok (.invokestatic 5, 3) := dk_184 0 5 (dk_at dksX0_lend_0 3 rfl rfl)
theorem dX0_lend_6 : decode cX0_lend 6 = .ok (.ifCond .eq 11, 3) := dk_153 0 11 (dk_at dksX0_lend_0 6 rfl rfl)
theorem dX0_lend_9 : decode cX0_lend 9 = .ok (.aload_n 0, 1) := dk_42 (dk_at dksX0_lend_0 9 rfl rfl)
theorem dX0_lend_10 : decode cX0_lend 10 = .ok (.iload_n 1, 1) := dk_27 (dk_at dksX0_lend_0 10 rfl rfl)
theorem dX0_lend_11 : decode cX0_lend 11 = .ok (.invokevirtual 319, 3) := dk_182 1 63 (dk_at dksX0_lend_0 11 rfl rfl)
theorem dX0_lend_14 : decode cX0_lend 14 = .ok (.goto 5, 3) := dk_167 0 5 (dk_at dksX0_lend_0 14 rfl rfl)
theorem dX0_lend_17 : decode cX0_lend 17 = .ok (.bipush (-2), 2) := dk_16 254 (dk_at dksX0_lend_0 17 rfl rfl)
theorem dX0_lend_19 : decode cX0_lend 19 = .ok (.ireturn, 1) := dk_172 (dk_at dksX0_lend_0 19 rfl rfl)
abbrev cX0_lendOf : ByteArray := prog_1_method_65_code
def yX0_lendOf : MethodName := ⟨RX0, "lendOf", "(I)I"⟩
def dkwX0_lendOf_5 : List UInt8 := [5, 160, 0, 7, 29, 167, 0, 18, 27, 154, 0, 10, 28, 16, 8, 108, 167, 0, 7, 28, 16, 8, 112, 172]
abbrev dktX0_lendOf_5 : List UInt8 := dkwX0_lendOf_5 ++ []
def dkwX0_lendOf_4 : List UInt8 := [21, 6, 184, 1, 60, 62, 132, 5, 1, 167, 255, 178, 132, 4, 1, 167, 255, 157, 28, 2, 159, 0, 8, 27]
abbrev dktX0_lendOf_4 : List UInt8 := dkwX0_lendOf_4 ++ dktX0_lendOf_5
def dkwX0_lendOf_3 : List UInt8 := [184, 1, 53, 21, 6, 29, 164, 0, 14, 16, 8, 21, 4, 104, 21, 5, 96, 167, 0, 4, 28, 61, 29]
abbrev dktX0_lendOf_3 : List UInt8 := dkwX0_lendOf_3 ++ dktX0_lendOf_4
def dkwX0_lendOf_2 : List UInt8 := [50, 184, 1, 53, 42, 182, 1, 57, 54, 6, 42, 180, 0, 62, 21, 4, 50, 42, 180, 0, 62, 21, 5, 50]
abbrev dktX0_lendOf_2 : List UInt8 := dkwX0_lendOf_2 ++ dktX0_lendOf_3
def dkwX0_lendOf_1 : List UInt8 := [54, 5, 21, 5, 42, 180, 0, 98, 162, 0, 75, 42, 180, 0, 62, 21, 4, 50, 42, 180, 0, 62, 21, 5]
abbrev dktX0_lendOf_1 : List UInt8 := dkwX0_lendOf_1 ++ dktX0_lendOf_2
def dkwX0_lendOf_0 : List UInt8 := [42, 182, 1, 17, 2, 61, 2, 62, 3, 54, 4, 21, 4, 42, 180, 0, 98, 162, 0, 96, 21, 4, 4, 96]
abbrev dktX0_lendOf_0 : List UInt8 := dkwX0_lendOf_0 ++ dktX0_lendOf_1
theorem dksX0_lendOf_0 : cX0_lendOf.data.toList.drop 0 = dktX0_lendOf_0 := by decide +kernel
theorem dksX0_lendOf_1 : cX0_lendOf.data.toList.drop 24 = dktX0_lendOf_1 := dk_seg dksX0_lendOf_0 24 rfl rfl
theorem dksX0_lendOf_2 : cX0_lendOf.data.toList.drop 48 = dktX0_lendOf_2 := dk_seg dksX0_lendOf_1 24 rfl rfl
theorem dksX0_lendOf_3 : cX0_lendOf.data.toList.drop 72 = dktX0_lendOf_3 := dk_seg dksX0_lendOf_2 24 rfl rfl
theorem dksX0_lendOf_4 : cX0_lendOf.data.toList.drop 95 = dktX0_lendOf_4 := dk_seg dksX0_lendOf_3 23 rfl rfl
theorem dksX0_lendOf_5 : cX0_lendOf.data.toList.drop 119 = dktX0_lendOf_5 := dk_seg dksX0_lendOf_4 24 rfl rfl
theorem dX0_lendOf_0 : decode cX0_lendOf 0 = .ok (.aload_n 0, 1) := dk_42 (dk_at dksX0_lendOf_0 0 rfl rfl)
theorem dX0_lendOf_1 : decode cX0_lendOf 1 = .ok (.invokevirtual 273, 3) := dk_182 1 17 (dk_at dksX0_lendOf_0 1 rfl rfl)
theorem dX0_lendOf_4 : decode cX0_lendOf 4 = .ok (.iconst (-1), 1) := dk_2 (dk_at dksX0_lendOf_0 4 rfl rfl)
theorem dX0_lendOf_5 : decode cX0_lendOf 5 = .ok (.istore_n 2, 1) := dk_61 (dk_at dksX0_lendOf_0 5 rfl rfl)
theorem dX0_lendOf_6 : decode cX0_lendOf 6 = .ok (.iconst (-1), 1) := dk_2 (dk_at dksX0_lendOf_0 6 rfl rfl)
theorem dX0_lendOf_7 : decode cX0_lendOf 7 = .ok (.istore_n 3, 1) := dk_62 (dk_at dksX0_lendOf_0 7 rfl rfl)
theorem dX0_lendOf_8 : decode cX0_lendOf 8 = .ok (.iconst 0, 1) := dk_3 (dk_at dksX0_lendOf_0 8 rfl rfl)
theorem dX0_lendOf_9 : decode cX0_lendOf 9 = .ok (.istore 4, 2) := dk_54 4 (dk_at dksX0_lendOf_0 9 rfl rfl)
theorem dX0_lendOf_11 : decode cX0_lendOf 11 = .ok (.iload 4, 2) := dk_21 4 (dk_at dksX0_lendOf_0 11 rfl rfl)
theorem dX0_lendOf_13 : decode cX0_lendOf 13 = .ok (.aload_n 0, 1) := dk_42 (dk_at dksX0_lendOf_0 13 rfl rfl)
theorem dX0_lendOf_14 : decode cX0_lendOf 14 = .ok (.getfield 98, 3) := dk_180 0 98 (dk_at dksX0_lendOf_0 14 rfl rfl)
theorem dX0_lendOf_17 : decode cX0_lendOf 17 = .ok (.if_icmp .ge 96, 3) := dk_162 0 96 (dk_at dksX0_lendOf_0 17 rfl rfl)
theorem dX0_lendOf_20 : decode cX0_lendOf 20 = .ok (.iload 4, 2) := dk_21 4 (dk_at dksX0_lendOf_0 20 rfl rfl)
theorem dX0_lendOf_22 : decode cX0_lendOf 22 = .ok (.iconst 1, 1) := dk_4 (dk_at dksX0_lendOf_0 22 rfl rfl)
theorem dX0_lendOf_23 : decode cX0_lendOf 23 = .ok (.iadd, 1) := dk_96 (dk_at dksX0_lendOf_0 23 rfl rfl)
theorem dX0_lendOf_24 : decode cX0_lendOf 24 = .ok (.istore 5, 2) := dk_54 5 (dk_at dksX0_lendOf_1 0 rfl rfl)
theorem dX0_lendOf_26 : decode cX0_lendOf 26 = .ok (.iload 5, 2) := dk_21 5 (dk_at dksX0_lendOf_1 2 rfl rfl)
theorem dX0_lendOf_28 : decode cX0_lendOf 28 = .ok (.aload_n 0, 1) := dk_42 (dk_at dksX0_lendOf_1 4 rfl rfl)
theorem dX0_lendOf_29 : decode cX0_lendOf 29 = .ok (.getfield 98, 3) := dk_180 0 98 (dk_at dksX0_lendOf_1 5 rfl rfl)
theorem dX0_lendOf_32 : decode cX0_lendOf 32 = .ok (.if_icmp .ge 75, 3) := dk_162 0 75 (dk_at dksX0_lendOf_1 8 rfl rfl)
theorem dX0_lendOf_35 : decode cX0_lendOf 35 = .ok (.aload_n 0, 1) := dk_42 (dk_at dksX0_lendOf_1 11 rfl rfl)
theorem dX0_lendOf_36 : decode cX0_lendOf 36 = .ok (.getfield 62, 3) := dk_180 0 62 (dk_at dksX0_lendOf_1 12 rfl rfl)
theorem dX0_lendOf_39 : decode cX0_lendOf 39 = .ok (.iload 4, 2) := dk_21 4 (dk_at dksX0_lendOf_1 15 rfl rfl)
theorem dX0_lendOf_41 : decode cX0_lendOf 41 = .ok (.aaload, 1) := dk_50 (dk_at dksX0_lendOf_1 17 rfl rfl)
theorem dX0_lendOf_42 : decode cX0_lendOf 42 = .ok (.aload_n 0, 1) := dk_42 (dk_at dksX0_lendOf_1 18 rfl rfl)
theorem dX0_lendOf_43 : decode cX0_lendOf 43 = .ok (.getfield 62, 3) := dk_180 0 62 (dk_at dksX0_lendOf_1 19 rfl rfl)
theorem dX0_lendOf_46 : decode cX0_lendOf 46 = .ok (.iload 5, 2) := dk_21 5 (dk_at dksX0_lendOf_1 22 rfl rfl)
theorem dX0_lendOf_48 : decode cX0_lendOf 48 = .ok (.aaload, 1) := dk_50 (dk_at dksX0_lendOf_2 0 rfl rfl)
theorem dX0_lendOf_49 : decode cX0_lendOf 49 = .ok (.invokestatic 309, 3) := dk_184 1 53 (dk_at dksX0_lendOf_2 1 rfl rfl)
theorem dX0_lendOf_52 : decode cX0_lendOf 52 = .ok (.aload_n 0, 1) := dk_42 (dk_at dksX0_lendOf_2 4 rfl rfl)
theorem dX0_lendOf_53 : decode cX0_lendOf 53 = .ok (.invokevirtual 313, 3) := dk_182 1 57 (dk_at dksX0_lendOf_2 5 rfl rfl)
theorem dX0_lendOf_56 : decode cX0_lendOf 56 = .ok (.istore 6, 2) := dk_54 6 (dk_at dksX0_lendOf_2 8 rfl rfl)
theorem dX0_lendOf_58 : decode cX0_lendOf 58 = .ok (.aload_n 0, 1) := dk_42 (dk_at dksX0_lendOf_2 10 rfl rfl)
theorem dX0_lendOf_59 : decode cX0_lendOf 59 = .ok (.getfield 62, 3) := dk_180 0 62 (dk_at dksX0_lendOf_2 11 rfl rfl)
theorem dX0_lendOf_62 : decode cX0_lendOf 62 = .ok (.iload 4, 2) := dk_21 4 (dk_at dksX0_lendOf_2 14 rfl rfl)
theorem dX0_lendOf_64 : decode cX0_lendOf 64 = .ok (.aaload, 1) := dk_50 (dk_at dksX0_lendOf_2 16 rfl rfl)
theorem dX0_lendOf_65 : decode cX0_lendOf 65 = .ok (.aload_n 0, 1) := dk_42 (dk_at dksX0_lendOf_2 17 rfl rfl)
theorem dX0_lendOf_66 : decode cX0_lendOf 66 = .ok (.getfield 62, 3) := dk_180 0 62 (dk_at dksX0_lendOf_2 18 rfl rfl)
theorem dX0_lendOf_69 : decode cX0_lendOf 69 = .ok (.iload 5, 2) := dk_21 5 (dk_at dksX0_lendOf_2 21 rfl rfl)
theorem dX0_lendOf_71 : decode cX0_lendOf 71 = .ok (.aaload, 1) := dk_50 (dk_at dksX0_lendOf_2 23 rfl rfl)
theorem dX0_lendOf_72 : decode cX0_lendOf 72 = .ok (.invokestatic 309, 3) := dk_184 1 53 (dk_at dksX0_lendOf_3 0 rfl rfl)
theorem dX0_lendOf_75 : decode cX0_lendOf 75 = .ok (.iload 6, 2) := dk_21 6 (dk_at dksX0_lendOf_3 3 rfl rfl)
theorem dX0_lendOf_77 : decode cX0_lendOf 77 = .ok (.iload_n 3, 1) := dk_29 (dk_at dksX0_lendOf_3 5 rfl rfl)
theorem dX0_lendOf_78 : decode cX0_lendOf 78 = .ok (.if_icmp .le 14, 3) := dk_164 0 14 (dk_at dksX0_lendOf_3 6 rfl rfl)
theorem dX0_lendOf_81 : decode cX0_lendOf 81 = .ok (.bipush 8, 2) := dk_16 8 (dk_at dksX0_lendOf_3 9 rfl rfl)
theorem dX0_lendOf_83 : decode cX0_lendOf 83 = .ok (.iload 4, 2) := dk_21 4 (dk_at dksX0_lendOf_3 11 rfl rfl)
theorem dX0_lendOf_85 : decode cX0_lendOf 85 = .ok (.imul, 1) := dk_104 (dk_at dksX0_lendOf_3 13 rfl rfl)
theorem dX0_lendOf_86 : decode cX0_lendOf 86 = .ok (.iload 5, 2) := dk_21 5 (dk_at dksX0_lendOf_3 14 rfl rfl)
theorem dX0_lendOf_88 : decode cX0_lendOf 88 = .ok (.iadd, 1) := dk_96 (dk_at dksX0_lendOf_3 16 rfl rfl)
theorem dX0_lendOf_89 : decode cX0_lendOf 89 = .ok (.goto 4, 3) := dk_167 0 4 (dk_at dksX0_lendOf_3 17 rfl rfl)
theorem dX0_lendOf_92 : decode cX0_lendOf 92 = .ok (.iload_n 2, 1) := dk_28 (dk_at dksX0_lendOf_3 20 rfl rfl)
theorem dX0_lendOf_93 : decode cX0_lendOf 93 = .ok (.istore_n 2, 1) := dk_61 (dk_at dksX0_lendOf_3 21 rfl rfl)
theorem dX0_lendOf_94 : decode cX0_lendOf 94 = .ok (.iload_n 3, 1) := dk_29 (dk_at dksX0_lendOf_3 22 rfl rfl)
theorem dX0_lendOf_95 : decode cX0_lendOf 95 = .ok (.iload 6, 2) := dk_21 6 (dk_at dksX0_lendOf_4 0 rfl rfl)
theorem dX0_lendOf_97 : decode cX0_lendOf 97 = .ok (.invokestatic 316, 3) := dk_184 1 60 (dk_at dksX0_lendOf_4 2 rfl rfl)
theorem dX0_lendOf_100 : decode cX0_lendOf 100 = .ok (.istore_n 3, 1) := dk_62 (dk_at dksX0_lendOf_4 5 rfl rfl)
theorem dX0_lendOf_101 : decode cX0_lendOf 101 = .ok (.iinc 5 1, 3) := dk_132 5 1 (dk_at dksX0_lendOf_4 6 rfl rfl)
theorem dX0_lendOf_104 : decode cX0_lendOf 104 = .ok (.goto (-78), 3) := dk_167 255 178 (dk_at dksX0_lendOf_4 9 rfl rfl)
theorem dX0_lendOf_107 : decode cX0_lendOf 107 = .ok (.iinc 4 1, 3) := dk_132 4 1 (dk_at dksX0_lendOf_4 12 rfl rfl)
theorem dX0_lendOf_110 : decode cX0_lendOf 110 = .ok (.goto (-99), 3) := dk_167 255 157 (dk_at dksX0_lendOf_4 15 rfl rfl)
theorem dX0_lendOf_113 : decode cX0_lendOf 113 = .ok (.iload_n 2, 1) := dk_28 (dk_at dksX0_lendOf_4 18 rfl rfl)
theorem dX0_lendOf_114 : decode cX0_lendOf 114 = .ok (.iconst (-1), 1) := dk_2 (dk_at dksX0_lendOf_4 19 rfl rfl)
theorem dX0_lendOf_115 : decode cX0_lendOf 115 = .ok (.if_icmp .eq 8, 3) := dk_159 0 8 (dk_at dksX0_lendOf_4 20 rfl rfl)
theorem dX0_lendOf_118 : decode cX0_lendOf 118 = .ok (.iload_n 1, 1) := dk_27 (dk_at dksX0_lendOf_4 23 rfl rfl)
theorem dX0_lendOf_119 : decode cX0_lendOf 119 = .ok (.iconst 2, 1) := dk_5 (dk_at dksX0_lendOf_5 0 rfl rfl)
theorem dX0_lendOf_120 : decode cX0_lendOf 120 = .ok (.if_icmp .ne 7, 3) := dk_160 0 7 (dk_at dksX0_lendOf_5 1 rfl rfl)
theorem dX0_lendOf_123 : decode cX0_lendOf 123 = .ok (.iload_n 3, 1) := dk_29 (dk_at dksX0_lendOf_5 4 rfl rfl)
theorem dX0_lendOf_124 : decode cX0_lendOf 124 = .ok (.goto 18, 3) := dk_167 0 18 (dk_at dksX0_lendOf_5 5 rfl rfl)
theorem dX0_lendOf_127 : decode cX0_lendOf 127 = .ok (.iload_n 1, 1) := dk_27 (dk_at dksX0_lendOf_5 8 rfl rfl)
theorem dX0_lendOf_128 : decode cX0_lendOf 128 = .ok (.ifCond .ne 10, 3) := dk_154 0 10 (dk_at dksX0_lendOf_5 9 rfl rfl)
theorem dX0_lendOf_131 : decode cX0_lendOf 131 = .ok (.iload_n 2, 1) := dk_28 (dk_at dksX0_lendOf_5 12 rfl rfl)
theorem dX0_lendOf_132 : decode cX0_lendOf 132 = .ok (.bipush 8, 2) := dk_16 8 (dk_at dksX0_lendOf_5 13 rfl rfl)
theorem dX0_lendOf_134 : decode cX0_lendOf 134 = .ok (.idiv, 1) := dk_108 (dk_at dksX0_lendOf_5 15 rfl rfl)
theorem dX0_lendOf_135 : decode cX0_lendOf 135 = .ok (.goto 7, 3) := dk_167 0 7 (dk_at dksX0_lendOf_5 16 rfl rfl)
theorem dX0_lendOf_138 : decode cX0_lendOf 138 = .ok (.iload_n 2, 1) := dk_28 (dk_at dksX0_lendOf_5 19 rfl rfl)
theorem dX0_lendOf_139 : decode cX0_lendOf 139 = .ok (.bipush 8, 2) := dk_16 8 (dk_at dksX0_lendOf_5 20 rfl rfl)
theorem dX0_lendOf_141 : decode cX0_lendOf 141 = .ok (.irem, 1) := dk_112 (dk_at dksX0_lendOf_5 22 rfl rfl)
theorem dX0_lendOf_142 : decode cX0_lendOf 142 = .ok (.ireturn, 1) := dk_172 (dk_at dksX0_lendOf_5 23 rfl rfl)
abbrev cX0_changes : ByteArray := prog_1_method_64_code
def yX0_changes : MethodName := ⟨RX0, "changes", "(LQuestionRoad$Carter;LQuestionRoad$Carter;)V"⟩
def dkwX0_changes_1 : List UInt8 := [181, 0, 83, 43, 44, 181, 0, 79, 43, 29, 181, 0, 83, 177]
abbrev dktX0_changes_1 : List UInt8 := dkwX0_changes_1 ++ []
def dkwX0_changes_0 : List UInt8 := [42, 180, 0, 79, 77, 42, 180, 0, 83, 62, 42, 43, 180, 0, 79, 181, 0, 79, 42, 43, 180, 0, 83]
abbrev dktX0_changes_0 : List UInt8 := dkwX0_changes_0 ++ dktX0_changes_1
theorem dksX0_changes_0 : cX0_changes.data.toList.drop 0 = dktX0_changes_0 := by decide +kernel
theorem dksX0_changes_1 : cX0_changes.data.toList.drop 23 = dktX0_changes_1 := dk_seg dksX0_changes_0 23 rfl rfl
theorem dX0_changes_0 : decode cX0_changes 0 = .ok (.aload_n 0, 1) := dk_42 (dk_at dksX0_changes_0 0 rfl rfl)
theorem dX0_changes_1 : decode cX0_changes 1 = .ok (.getfield 79, 3) := dk_180 0 79 (dk_at dksX0_changes_0 1 rfl rfl)
theorem dX0_changes_4 : decode cX0_changes 4 = .ok (.astore_n 2, 1) := dk_77 (dk_at dksX0_changes_0 4 rfl rfl)
theorem dX0_changes_5 : decode cX0_changes 5 = .ok (.aload_n 0, 1) := dk_42 (dk_at dksX0_changes_0 5 rfl rfl)
theorem dX0_changes_6 : decode cX0_changes 6 = .ok (.getfield 83, 3) := dk_180 0 83 (dk_at dksX0_changes_0 6 rfl rfl)
theorem dX0_changes_9 : decode cX0_changes 9 = .ok (.istore_n 3, 1) := dk_62 (dk_at dksX0_changes_0 9 rfl rfl)
theorem dX0_changes_10 : decode cX0_changes 10 = .ok (.aload_n 0, 1) := dk_42 (dk_at dksX0_changes_0 10 rfl rfl)
theorem dX0_changes_11 : decode cX0_changes 11 = .ok (.aload_n 1, 1) := dk_43 (dk_at dksX0_changes_0 11 rfl rfl)
theorem dX0_changes_12 : decode cX0_changes 12 = .ok (.getfield 79, 3) := dk_180 0 79 (dk_at dksX0_changes_0 12 rfl rfl)
theorem dX0_changes_15 : decode cX0_changes 15 = .ok (.putfield 79, 3) := dk_181 0 79 (dk_at dksX0_changes_0 15 rfl rfl)
theorem dX0_changes_18 : decode cX0_changes 18 = .ok (.aload_n 0, 1) := dk_42 (dk_at dksX0_changes_0 18 rfl rfl)
theorem dX0_changes_19 : decode cX0_changes 19 = .ok (.aload_n 1, 1) := dk_43 (dk_at dksX0_changes_0 19 rfl rfl)
theorem dX0_changes_20 : decode cX0_changes 20 = .ok (.getfield 83, 3) := dk_180 0 83 (dk_at dksX0_changes_0 20 rfl rfl)
theorem dX0_changes_23 : decode cX0_changes 23 = .ok (.putfield 83, 3) := dk_181 0 83 (dk_at dksX0_changes_1 0 rfl rfl)
theorem dX0_changes_26 : decode cX0_changes 26 = .ok (.aload_n 1, 1) := dk_43 (dk_at dksX0_changes_1 3 rfl rfl)
theorem dX0_changes_27 : decode cX0_changes 27 = .ok (.aload_n 2, 1) := dk_44 (dk_at dksX0_changes_1 4 rfl rfl)
theorem dX0_changes_28 : decode cX0_changes 28 = .ok (.putfield 79, 3) := dk_181 0 79 (dk_at dksX0_changes_1 5 rfl rfl)
theorem dX0_changes_31 : decode cX0_changes 31 = .ok (.aload_n 1, 1) := dk_43 (dk_at dksX0_changes_1 8 rfl rfl)
theorem dX0_changes_32 : decode cX0_changes 32 = .ok (.iload_n 3, 1) := dk_29 (dk_at dksX0_changes_1 9 rfl rfl)
theorem dX0_changes_33 : decode cX0_changes 33 = .ok (.putfield 83, 3) := dk_181 0 83 (dk_at dksX0_changes_1 10 rfl rfl)
theorem dX0_changes_36 : decode cX0_changes 36 = .ok (.return_, 1) := dk_177 (dk_at dksX0_changes_1 13 rfl rfl)
abbrev cX0_comeNow : ByteArray := prog_1_method_61_code
def yX0_comeNow : MethodName := ⟨RX0, "comeNow", "()I"⟩
def dkwX0_comeNow_0 : List UInt8 := [42, 16, 39, 182, 1, 20, 42, 5, 182, 1, 32, 184, 1, 47, 172]
abbrev dktX0_comeNow_0 : List UInt8 := dkwX0_comeNow_0 ++ []
theorem dksX0_comeNow_0 : cX0_comeNow.data.toList.drop 0 = dktX0_comeNow_0 := by decide +kernel
theorem dX0_comeNow_0 : decode cX0_comeNow 0 = .ok (.aload_n 0, 1) := dk_42 (dk_at dksX0_comeNow_0 0 rfl rfl)
theorem dX0_comeNow_1 : decode cX0_comeNow 1 = .ok (.bipush 39, 2) := dk_16 39 (dk_at dksX0_comeNow_0 1 rfl rfl)
theorem dX0_comeNow_3 : decode cX0_comeNow 3 = .ok (.invokevirtual 276, 3) := dk_182 1 20 (dk_at dksX0_comeNow_0 3 rfl rfl)
theorem dX0_comeNow_6 : decode cX0_comeNow 6 = .ok (.aload_n 0, 1) := dk_42 (dk_at dksX0_comeNow_0 6 rfl rfl)
theorem dX0_comeNow_7 : decode cX0_comeNow 7 = .ok (.iconst 2, 1) := dk_5 (dk_at dksX0_comeNow_0 7 rfl rfl)
theorem dX0_comeNow_8 : decode cX0_comeNow 8 = .ok (.invokevirtual 288, 3) := dk_182 1 32 (dk_at dksX0_comeNow_0 8 rfl rfl)
theorem dX0_comeNow_11 : decode cX0_comeNow 11 = .ok (.invokestatic 303, 3) := dk_184 1 47 (dk_at dksX0_comeNow_0 11 rfl rfl)
theorem dX0_comeNow_14 : decode cX0_comeNow 14 = .ok (.ireturn, 1) := dk_172 (dk_at dksX0_comeNow_0 14 rfl rfl)
abbrev cX0_many : ByteArray := prog_1_method_4_code
def yX0_many : MethodName := ⟨RX0, "many", "(I)I"⟩
def dkwX0_many_0 : List UInt8 := [3, 60, 26, 61, 28, 153, 0, 16, 27, 28, 4, 126, 96, 60, 28, 4, 124, 61, 167, 255, 242, 27, 172]
abbrev dktX0_many_0 : List UInt8 := dkwX0_many_0 ++ []
theorem dksX0_many_0 : cX0_many.data.toList.drop 0 = dktX0_many_0 := by decide +kernel
theorem dX0_many_0 : decode cX0_many 0 = .ok (.iconst 0, 1) := dk_3 (dk_at dksX0_many_0 0 rfl rfl)
theorem dX0_many_1 : decode cX0_many 1 = .ok (.istore_n 1, 1) := dk_60 (dk_at dksX0_many_0 1 rfl rfl)
theorem dX0_many_2 : decode cX0_many 2 = .ok (.iload_n 0, 1) := dk_26 (dk_at dksX0_many_0 2 rfl rfl)
theorem dX0_many_3 : decode cX0_many 3 = .ok (.istore_n 2, 1) := dk_61 (dk_at dksX0_many_0 3 rfl rfl)
theorem dX0_many_4 : decode cX0_many 4 = .ok (.iload_n 2, 1) := dk_28 (dk_at dksX0_many_0 4 rfl rfl)
theorem dX0_many_5 : decode cX0_many 5 = .ok (.ifCond .eq 16, 3) := dk_153 0 16 (dk_at dksX0_many_0 5 rfl rfl)
theorem dX0_many_8 : decode cX0_many 8 = .ok (.iload_n 1, 1) := dk_27 (dk_at dksX0_many_0 8 rfl rfl)
theorem dX0_many_9 : decode cX0_many 9 = .ok (.iload_n 2, 1) := dk_28 (dk_at dksX0_many_0 9 rfl rfl)
theorem dX0_many_10 : decode cX0_many 10 = .ok (.iconst 1, 1) := dk_4 (dk_at dksX0_many_0 10 rfl rfl)
theorem dX0_many_11 : decode cX0_many 11 = .ok (.iand, 1) := dk_126 (dk_at dksX0_many_0 11 rfl rfl)
theorem dX0_many_12 : decode cX0_many 12 = .ok (.iadd, 1) := dk_96 (dk_at dksX0_many_0 12 rfl rfl)
theorem dX0_many_13 : decode cX0_many 13 = .ok (.istore_n 1, 1) := dk_60 (dk_at dksX0_many_0 13 rfl rfl)
theorem dX0_many_14 : decode cX0_many 14 = .ok (.iload_n 2, 1) := dk_28 (dk_at dksX0_many_0 14 rfl rfl)
theorem dX0_many_15 : decode cX0_many 15 = .ok (.iconst 1, 1) := dk_4 (dk_at dksX0_many_0 15 rfl rfl)
theorem dX0_many_16 : decode cX0_many 16 = .ok (.iushr, 1) := dk_124 (dk_at dksX0_many_0 16 rfl rfl)
theorem dX0_many_17 : decode cX0_many 17 = .ok (.istore_n 2, 1) := dk_61 (dk_at dksX0_many_0 17 rfl rfl)
theorem dX0_many_18 : decode cX0_many 18 = .ok (.goto (-14), 3) := dk_167 255 242 (dk_at dksX0_many_0 18 rfl rfl)
theorem dX0_many_21 : decode cX0_many 21 = .ok (.iload_n 1, 1) := dk_27 (dk_at dksX0_many_0 21 rfl rfl)
theorem dX0_many_22 : decode cX0_many 22 = .ok (.ireturn, 1) := dk_172 (dk_at dksX0_many_0 22 rfl rfl)
abbrev cX0_delay : ByteArray := prog_1_method_68_code
def yX0_delay : MethodName := ⟨RX0, "delay", "(II)I"⟩
def dkwX0_delay_1 : List UInt8 := [16, 254, 172]
abbrev dktX0_delay_1 : List UInt8 := dkwX0_delay_1 ++ []
def dkwX0_delay_0 : List UInt8 := [42, 27, 182, 0, 126, 153, 0, 19, 28, 184, 1, 38, 153, 0, 12, 42, 27, 28, 182, 1, 66, 167, 0, 5]
abbrev dktX0_delay_0 : List UInt8 := dkwX0_delay_0 ++ dktX0_delay_1
theorem dksX0_delay_0 : cX0_delay.data.toList.drop 0 = dktX0_delay_0 := by decide +kernel
theorem dksX0_delay_1 : cX0_delay.data.toList.drop 24 = dktX0_delay_1 := dk_seg dksX0_delay_0 24 rfl rfl
theorem dX0_delay_0 : decode cX0_delay 0 = .ok (.aload_n 0, 1) := dk_42 (dk_at dksX0_delay_0 0 rfl rfl)
theorem dX0_delay_1 : decode cX0_delay 1 = .ok (.iload_n 1, 1) := dk_27 (dk_at dksX0_delay_0 1 rfl rfl)
theorem dX0_delay_2 : decode cX0_delay 2 = .ok (.invokevirtual 126, 3) := dk_182 0 126 (dk_at dksX0_delay_0 2 rfl rfl)
theorem dX0_delay_5 : decode cX0_delay 5 = .ok (.ifCond .eq 19, 3) := dk_153 0 19 (dk_at dksX0_delay_0 5 rfl rfl)
theorem dX0_delay_8 : decode cX0_delay 8 = .ok (.iload_n 2, 1) := dk_28 (dk_at dksX0_delay_0 8 rfl rfl)
theorem dX0_delay_9 : decode cX0_delay 9 = .ok (.invokestatic 294, 3) := dk_184 1 38 (dk_at dksX0_delay_0 9 rfl rfl)
theorem dX0_delay_12 : decode cX0_delay 12 = .ok (.ifCond .eq 12, 3) := dk_153 0 12 (dk_at dksX0_delay_0 12 rfl rfl)
theorem dX0_delay_15 : decode cX0_delay 15 = .ok (.aload_n 0, 1) := dk_42 (dk_at dksX0_delay_0 15 rfl rfl)
theorem dX0_delay_16 : decode cX0_delay 16 = .ok (.iload_n 1, 1) := dk_27 (dk_at dksX0_delay_0 16 rfl rfl)
theorem dX0_delay_17 : decode cX0_delay 17 = .ok (.iload_n 2, 1) := dk_28 (dk_at dksX0_delay_0 17 rfl rfl)
theorem dX0_delay_18 : decode cX0_delay 18 = .ok (.invokevirtual 322, 3) := dk_182 1 66 (dk_at dksX0_delay_0 18 rfl rfl)
theorem dX0_delay_21 : decode cX0_delay 21 = .ok (.goto 5, 3) := dk_167 0 5 (dk_at dksX0_delay_0 21 rfl rfl)
theorem dX0_delay_24 : decode cX0_delay 24 = .ok (.bipush (-2), 2) := dk_16 254 (dk_at dksX0_delay_1 0 rfl rfl)
theorem dX0_delay_26 : decode cX0_delay 26 = .ok (.ireturn, 1) := dk_172 (dk_at dksX0_delay_1 2 rfl rfl)
abbrev cX0_delayOf : ByteArray := prog_1_method_67_code
def yX0_delayOf : MethodName := ⟨RX0, "delayOf", "(II)I"⟩
def dkwX0_delayOf_4 : List UInt8 := [167, 0, 5, 21, 5, 172]
abbrev dktX0_delayOf_4 : List UInt8 := dkwX0_delayOf_4 ++ []
def dkwX0_delayOf_3 : List UInt8 := [54, 5, 132, 6, 1, 167, 255, 204, 42, 180, 0, 62, 27, 50, 29, 181, 0, 135, 28, 154, 0, 8, 21, 4]
abbrev dktX0_delayOf_3 : List UInt8 := dkwX0_delayOf_3 ++ dktX0_delayOf_4
def dkwX0_delayOf_2 : List UInt8 := [21, 7, 21, 5, 164, 0, 8, 21, 6, 167, 0, 5, 21, 4, 54, 4, 21, 5, 21, 7, 184, 1, 60]
abbrev dktX0_delayOf_2 : List UInt8 := dkwX0_delayOf_2 ++ dktX0_delayOf_3
def dkwX0_delayOf_1 : List UInt8 := [21, 6, 16, 9, 163, 0, 51, 42, 180, 0, 62, 27, 50, 21, 6, 181, 0, 135, 42, 182, 1, 57, 54, 7]
abbrev dktX0_delayOf_1 : List UInt8 := dkwX0_delayOf_1 ++ dktX0_delayOf_2
def dkwX0_delayOf_0 : List UInt8 := [42, 182, 1, 17, 42, 180, 0, 62, 27, 50, 180, 0, 135, 62, 2, 54, 4, 2, 54, 5, 3, 54, 6]
abbrev dktX0_delayOf_0 : List UInt8 := dkwX0_delayOf_0 ++ dktX0_delayOf_1
theorem dksX0_delayOf_0 : cX0_delayOf.data.toList.drop 0 = dktX0_delayOf_0 := by decide +kernel
theorem dksX0_delayOf_1 : cX0_delayOf.data.toList.drop 23 = dktX0_delayOf_1 := dk_seg dksX0_delayOf_0 23 rfl rfl
theorem dksX0_delayOf_2 : cX0_delayOf.data.toList.drop 47 = dktX0_delayOf_2 := dk_seg dksX0_delayOf_1 24 rfl rfl
theorem dksX0_delayOf_3 : cX0_delayOf.data.toList.drop 70 = dktX0_delayOf_3 := dk_seg dksX0_delayOf_2 23 rfl rfl
theorem dksX0_delayOf_4 : cX0_delayOf.data.toList.drop 94 = dktX0_delayOf_4 := dk_seg dksX0_delayOf_3 24 rfl rfl
theorem dX0_delayOf_0 : decode cX0_delayOf 0 = .ok (.aload_n 0, 1) := dk_42 (dk_at dksX0_delayOf_0 0 rfl rfl)
theorem dX0_delayOf_1 : decode cX0_delayOf 1 = .ok (.invokevirtual 273, 3) := dk_182 1 17 (dk_at dksX0_delayOf_0 1 rfl rfl)
theorem dX0_delayOf_4 : decode cX0_delayOf 4 = .ok (.aload_n 0, 1) := dk_42 (dk_at dksX0_delayOf_0 4 rfl rfl)
theorem dX0_delayOf_5 : decode cX0_delayOf 5 = .ok (.getfield 62, 3) := dk_180 0 62 (dk_at dksX0_delayOf_0 5 rfl rfl)
theorem dX0_delayOf_8 : decode cX0_delayOf 8 = .ok (.iload_n 1, 1) := dk_27 (dk_at dksX0_delayOf_0 8 rfl rfl)
theorem dX0_delayOf_9 : decode cX0_delayOf 9 = .ok (.aaload, 1) := dk_50 (dk_at dksX0_delayOf_0 9 rfl rfl)
theorem dX0_delayOf_10 : decode cX0_delayOf 10 = .ok (.getfield 135, 3) := dk_180 0 135 (dk_at dksX0_delayOf_0 10 rfl rfl)
theorem dX0_delayOf_13 : decode cX0_delayOf 13 = .ok (.istore_n 3, 1) := dk_62 (dk_at dksX0_delayOf_0 13 rfl rfl)
theorem dX0_delayOf_14 : decode cX0_delayOf 14 = .ok (.iconst (-1), 1) := dk_2 (dk_at dksX0_delayOf_0 14 rfl rfl)
theorem dX0_delayOf_15 : decode cX0_delayOf 15 = .ok (.istore 4, 2) := dk_54 4 (dk_at dksX0_delayOf_0 15 rfl rfl)
theorem dX0_delayOf_17 : decode cX0_delayOf 17 = .ok (.iconst (-1), 1) := dk_2 (dk_at dksX0_delayOf_0 17 rfl rfl)
theorem dX0_delayOf_18 : decode cX0_delayOf 18 = .ok (.istore 5, 2) := dk_54 5 (dk_at dksX0_delayOf_0 18 rfl rfl)
theorem dX0_delayOf_20 : decode cX0_delayOf 20 = .ok (.iconst 0, 1) := dk_3 (dk_at dksX0_delayOf_0 20 rfl rfl)
theorem dX0_delayOf_21 : decode cX0_delayOf 21 = .ok (.istore 6, 2) := dk_54 6 (dk_at dksX0_delayOf_0 21 rfl rfl)
theorem dX0_delayOf_23 : decode cX0_delayOf 23 = .ok (.iload 6, 2) := dk_21 6 (dk_at dksX0_delayOf_1 0 rfl rfl)
theorem dX0_delayOf_25 : decode cX0_delayOf 25 = .ok (.bipush 9, 2) := dk_16 9 (dk_at dksX0_delayOf_1 2 rfl rfl)
theorem dX0_delayOf_27 : decode cX0_delayOf 27 = .ok (.if_icmp .gt 51, 3) := dk_163 0 51 (dk_at dksX0_delayOf_1 4 rfl rfl)
theorem dX0_delayOf_30 : decode cX0_delayOf 30 = .ok (.aload_n 0, 1) := dk_42 (dk_at dksX0_delayOf_1 7 rfl rfl)
theorem dX0_delayOf_31 : decode cX0_delayOf 31 = .ok (.getfield 62, 3) := dk_180 0 62 (dk_at dksX0_delayOf_1 8 rfl rfl)
theorem dX0_delayOf_34 : decode cX0_delayOf 34 = .ok (.iload_n 1, 1) := dk_27 (dk_at dksX0_delayOf_1 11 rfl rfl)
theorem dX0_delayOf_35 : decode cX0_delayOf 35 = .ok (.aaload, 1) := dk_50 (dk_at dksX0_delayOf_1 12 rfl rfl)
theorem dX0_delayOf_36 : decode cX0_delayOf 36 = .ok (.iload 6, 2) := dk_21 6 (dk_at dksX0_delayOf_1 13 rfl rfl)
theorem dX0_delayOf_38 : decode cX0_delayOf 38 = .ok (.putfield 135, 3) := dk_181 0 135 (dk_at dksX0_delayOf_1 15 rfl rfl)
theorem dX0_delayOf_41 : decode cX0_delayOf 41 = .ok (.aload_n 0, 1) := dk_42 (dk_at dksX0_delayOf_1 18 rfl rfl)
theorem dX0_delayOf_42 : decode cX0_delayOf 42 = .ok (.invokevirtual 313, 3) := dk_182 1 57 (dk_at dksX0_delayOf_1 19 rfl rfl)
theorem dX0_delayOf_45 : decode cX0_delayOf 45 = .ok (.istore 7, 2) := dk_54 7 (dk_at dksX0_delayOf_1 22 rfl rfl)
theorem dX0_delayOf_47 : decode cX0_delayOf 47 = .ok (.iload 7, 2) := dk_21 7 (dk_at dksX0_delayOf_2 0 rfl rfl)
theorem dX0_delayOf_49 : decode cX0_delayOf 49 = .ok (.iload 5, 2) := dk_21 5 (dk_at dksX0_delayOf_2 2 rfl rfl)
theorem dX0_delayOf_51 : decode cX0_delayOf 51 = .ok (.if_icmp .le 8, 3) := dk_164 0 8 (dk_at dksX0_delayOf_2 4 rfl rfl)
theorem dX0_delayOf_54 : decode cX0_delayOf 54 = .ok (.iload 6, 2) := dk_21 6 (dk_at dksX0_delayOf_2 7 rfl rfl)
theorem dX0_delayOf_56 : decode cX0_delayOf 56 = .ok (.goto 5, 3) := dk_167 0 5 (dk_at dksX0_delayOf_2 9 rfl rfl)
theorem dX0_delayOf_59 : decode cX0_delayOf 59 = .ok (.iload 4, 2) := dk_21 4 (dk_at dksX0_delayOf_2 12 rfl rfl)
theorem dX0_delayOf_61 : decode cX0_delayOf 61 = .ok (.istore 4, 2) := dk_54 4 (dk_at dksX0_delayOf_2 14 rfl rfl)
theorem dX0_delayOf_63 : decode cX0_delayOf 63 = .ok (.iload 5, 2) := dk_21 5 (dk_at dksX0_delayOf_2 16 rfl rfl)
theorem dX0_delayOf_65 : decode cX0_delayOf 65 = .ok (.iload 7, 2) := dk_21 7 (dk_at dksX0_delayOf_2 18 rfl rfl)
theorem dX0_delayOf_67 : decode cX0_delayOf 67 = .ok (.invokestatic 316, 3) := dk_184 1 60 (dk_at dksX0_delayOf_2 20 rfl rfl)
theorem dX0_delayOf_70 : decode cX0_delayOf 70 = .ok (.istore 5, 2) := dk_54 5 (dk_at dksX0_delayOf_3 0 rfl rfl)
theorem dX0_delayOf_72 : decode cX0_delayOf 72 = .ok (.iinc 6 1, 3) := dk_132 6 1 (dk_at dksX0_delayOf_3 2 rfl rfl)
theorem dX0_delayOf_75 : decode cX0_delayOf 75 = .ok (.goto (-52), 3) := dk_167 255 204 (dk_at dksX0_delayOf_3 5 rfl rfl)
theorem dX0_delayOf_78 : decode cX0_delayOf 78 = .ok (.aload_n 0, 1) := dk_42 (dk_at dksX0_delayOf_3 8 rfl rfl)
theorem dX0_delayOf_79 : decode cX0_delayOf 79 = .ok (.getfield 62, 3) := dk_180 0 62 (dk_at dksX0_delayOf_3 9 rfl rfl)
theorem dX0_delayOf_82 : decode cX0_delayOf 82 = .ok (.iload_n 1, 1) := dk_27 (dk_at dksX0_delayOf_3 12 rfl rfl)
theorem dX0_delayOf_83 : decode cX0_delayOf 83 = .ok (.aaload, 1) := dk_50 (dk_at dksX0_delayOf_3 13 rfl rfl)
theorem dX0_delayOf_84 : decode cX0_delayOf 84 = .ok (.iload_n 3, 1) := dk_29 (dk_at dksX0_delayOf_3 14 rfl rfl)
theorem dX0_delayOf_85 : decode cX0_delayOf 85 = .ok (.putfield 135, 3) := dk_181 0 135 (dk_at dksX0_delayOf_3 15 rfl rfl)
theorem dX0_delayOf_88 : decode cX0_delayOf 88 = .ok (.iload_n 2, 1) := dk_28 (dk_at dksX0_delayOf_3 18 rfl rfl)
theorem dX0_delayOf_89 : decode cX0_delayOf 89 = .ok (.ifCond .ne 8, 3) := dk_154 0 8 (dk_at dksX0_delayOf_3 19 rfl rfl)
theorem dX0_delayOf_92 : decode cX0_delayOf 92 = .ok (.iload 4, 2) := dk_21 4 (dk_at dksX0_delayOf_3 22 rfl rfl)
theorem dX0_delayOf_94 : decode cX0_delayOf 94 = .ok (.goto 5, 3) := dk_167 0 5 (dk_at dksX0_delayOf_4 0 rfl rfl)
theorem dX0_delayOf_97 : decode cX0_delayOf 97 = .ok (.iload 5, 2) := dk_21 5 (dk_at dksX0_delayOf_4 3 rfl rfl)
theorem dX0_delayOf_99 : decode cX0_delayOf 99 = .ok (.ireturn, 1) := dk_172 (dk_at dksX0_delayOf_4 5 rfl rfl)
abbrev cX0_level : ByteArray := prog_1_method_70_code
def yX0_level : MethodName := ⟨RX0, "level", "(I)I"⟩
def dkwX0_level_0 : List UInt8 := [27, 184, 1, 38, 153, 0, 11, 42, 27, 182, 1, 69, 167, 0, 5, 16, 254, 172]
abbrev dktX0_level_0 : List UInt8 := dkwX0_level_0 ++ []
theorem dksX0_level_0 : cX0_level.data.toList.drop 0 = dktX0_level_0 := by decide +kernel
theorem dX0_level_0 : decode cX0_level 0 = .ok (.iload_n 1, 1) := dk_27 (dk_at dksX0_level_0 0 rfl rfl)
theorem dX0_level_1 : decode cX0_level 1 = .ok (.invokestatic 294, 3) := dk_184 1 38 (dk_at dksX0_level_0 1 rfl rfl)
theorem dX0_level_4 : decode cX0_level 4 = .ok (.ifCond .eq 11, 3) := dk_153 0 11 (dk_at dksX0_level_0 4 rfl rfl)
theorem dX0_level_7 : decode cX0_level 7 = .ok (.aload_n 0, 1) := dk_42 (dk_at dksX0_level_0 7 rfl rfl)
theorem dX0_level_8 : decode cX0_level 8 = .ok (.iload_n 1, 1) := dk_27 (dk_at dksX0_level_0 8 rfl rfl)
theorem dX0_level_9 : decode cX0_level 9 = .ok (.invokevirtual 325, 3) := dk_182 1 69 (dk_at dksX0_level_0 9 rfl rfl)
theorem dX0_level_12 : decode cX0_level 12 = .ok (.goto 5, 3) := dk_167 0 5 (dk_at dksX0_level_0 12 rfl rfl)
theorem dX0_level_15 : decode cX0_level 15 = .ok (.bipush (-2), 2) := dk_16 254 (dk_at dksX0_level_0 15 rfl rfl)
theorem dX0_level_17 : decode cX0_level 17 = .ok (.ireturn, 1) := dk_172 (dk_at dksX0_level_0 17 rfl rfl)
abbrev cX0_levelOf : ByteArray := prog_1_method_69_code
def yX0_levelOf : MethodName := ⟨RX0, "levelOf", "(I)I"⟩
def dkwX0_levelOf_2 : List UInt8 := [21, 5, 184, 1, 60, 62, 132, 4, 1, 167, 255, 212, 27, 154, 0, 7, 28, 167, 0, 4, 29, 172]
abbrev dktX0_levelOf_2 : List UInt8 := dkwX0_levelOf_2 ++ []
def dkwX0_levelOf_1 : List UInt8 := [182, 0, 196, 42, 182, 1, 57, 54, 5, 21, 5, 29, 164, 0, 8, 21, 4, 167, 0, 4, 28, 61, 29]
abbrev dktX0_levelOf_1 : List UInt8 := dkwX0_levelOf_1 ++ dktX0_levelOf_2
def dkwX0_levelOf_0 : List UInt8 := [42, 182, 1, 17, 2, 61, 2, 62, 3, 54, 4, 21, 4, 42, 180, 0, 95, 162, 0, 41, 42, 21, 4]
abbrev dktX0_levelOf_0 : List UInt8 := dkwX0_levelOf_0 ++ dktX0_levelOf_1
theorem dksX0_levelOf_0 : cX0_levelOf.data.toList.drop 0 = dktX0_levelOf_0 := by decide +kernel
theorem dksX0_levelOf_1 : cX0_levelOf.data.toList.drop 23 = dktX0_levelOf_1 := dk_seg dksX0_levelOf_0 23 rfl rfl
theorem dksX0_levelOf_2 : cX0_levelOf.data.toList.drop 46 = dktX0_levelOf_2 := dk_seg dksX0_levelOf_1 23 rfl rfl
theorem dX0_levelOf_0 : decode cX0_levelOf 0 = .ok (.aload_n 0, 1) := dk_42 (dk_at dksX0_levelOf_0 0 rfl rfl)
theorem dX0_levelOf_1 : decode cX0_levelOf 1 = .ok (.invokevirtual 273, 3) := dk_182 1 17 (dk_at dksX0_levelOf_0 1 rfl rfl)
theorem dX0_levelOf_4 : decode cX0_levelOf 4 = .ok (.iconst (-1), 1) := dk_2 (dk_at dksX0_levelOf_0 4 rfl rfl)
theorem dX0_levelOf_5 : decode cX0_levelOf 5 = .ok (.istore_n 2, 1) := dk_61 (dk_at dksX0_levelOf_0 5 rfl rfl)
theorem dX0_levelOf_6 : decode cX0_levelOf 6 = .ok (.iconst (-1), 1) := dk_2 (dk_at dksX0_levelOf_0 6 rfl rfl)
theorem dX0_levelOf_7 : decode cX0_levelOf 7 = .ok (.istore_n 3, 1) := dk_62 (dk_at dksX0_levelOf_0 7 rfl rfl)
theorem dX0_levelOf_8 : decode cX0_levelOf 8 = .ok (.iconst 0, 1) := dk_3 (dk_at dksX0_levelOf_0 8 rfl rfl)
theorem dX0_levelOf_9 : decode cX0_levelOf 9 = .ok (.istore 4, 2) := dk_54 4 (dk_at dksX0_levelOf_0 9 rfl rfl)
theorem dX0_levelOf_11 : decode cX0_levelOf 11 = .ok (.iload 4, 2) := dk_21 4 (dk_at dksX0_levelOf_0 11 rfl rfl)
theorem dX0_levelOf_13 : decode cX0_levelOf 13 = .ok (.aload_n 0, 1) := dk_42 (dk_at dksX0_levelOf_0 13 rfl rfl)
theorem dX0_levelOf_14 : decode cX0_levelOf 14 = .ok (.getfield 95, 3) := dk_180 0 95 (dk_at dksX0_levelOf_0 14 rfl rfl)
theorem dX0_levelOf_17 : decode cX0_levelOf 17 = .ok (.if_icmp .ge 41, 3) := dk_162 0 41 (dk_at dksX0_levelOf_0 17 rfl rfl)
theorem dX0_levelOf_20 : decode cX0_levelOf 20 = .ok (.aload_n 0, 1) := dk_42 (dk_at dksX0_levelOf_0 20 rfl rfl)
theorem dX0_levelOf_21 : decode cX0_levelOf 21 = .ok (.iload 4, 2) := dk_21 4 (dk_at dksX0_levelOf_0 21 rfl rfl)
theorem dX0_levelOf_23 : decode cX0_levelOf 23 = .ok (.invokevirtual 196, 3) := dk_182 0 196 (dk_at dksX0_levelOf_1 0 rfl rfl)
theorem dX0_levelOf_26 : decode cX0_levelOf 26 = .ok (.aload_n 0, 1) := dk_42 (dk_at dksX0_levelOf_1 3 rfl rfl)
theorem dX0_levelOf_27 : decode cX0_levelOf 27 = .ok (.invokevirtual 313, 3) := dk_182 1 57 (dk_at dksX0_levelOf_1 4 rfl rfl)
theorem dX0_levelOf_30 : decode cX0_levelOf 30 = .ok (.istore 5, 2) := dk_54 5 (dk_at dksX0_levelOf_1 7 rfl rfl)
theorem dX0_levelOf_32 : decode cX0_levelOf 32 = .ok (.iload 5, 2) := dk_21 5 (dk_at dksX0_levelOf_1 9 rfl rfl)
theorem dX0_levelOf_34 : decode cX0_levelOf 34 = .ok (.iload_n 3, 1) := dk_29 (dk_at dksX0_levelOf_1 11 rfl rfl)
theorem dX0_levelOf_35 : decode cX0_levelOf 35 = .ok (.if_icmp .le 8, 3) := dk_164 0 8 (dk_at dksX0_levelOf_1 12 rfl rfl)
theorem dX0_levelOf_38 : decode cX0_levelOf 38 = .ok (.iload 4, 2) := dk_21 4 (dk_at dksX0_levelOf_1 15 rfl rfl)
theorem dX0_levelOf_40 : decode cX0_levelOf 40 = .ok (.goto 4, 3) := dk_167 0 4 (dk_at dksX0_levelOf_1 17 rfl rfl)
theorem dX0_levelOf_43 : decode cX0_levelOf 43 = .ok (.iload_n 2, 1) := dk_28 (dk_at dksX0_levelOf_1 20 rfl rfl)
theorem dX0_levelOf_44 : decode cX0_levelOf 44 = .ok (.istore_n 2, 1) := dk_61 (dk_at dksX0_levelOf_1 21 rfl rfl)
theorem dX0_levelOf_45 : decode cX0_levelOf 45 = .ok (.iload_n 3, 1) := dk_29 (dk_at dksX0_levelOf_1 22 rfl rfl)
theorem dX0_levelOf_46 : decode cX0_levelOf 46 = .ok (.iload 5, 2) := dk_21 5 (dk_at dksX0_levelOf_2 0 rfl rfl)
theorem dX0_levelOf_48 : decode cX0_levelOf 48 = .ok (.invokestatic 316, 3) := dk_184 1 60 (dk_at dksX0_levelOf_2 2 rfl rfl)
theorem dX0_levelOf_51 : decode cX0_levelOf 51 = .ok (.istore_n 3, 1) := dk_62 (dk_at dksX0_levelOf_2 5 rfl rfl)
theorem dX0_levelOf_52 : decode cX0_levelOf 52 = .ok (.iinc 4 1, 3) := dk_132 4 1 (dk_at dksX0_levelOf_2 6 rfl rfl)
theorem dX0_levelOf_55 : decode cX0_levelOf 55 = .ok (.goto (-44), 3) := dk_167 255 212 (dk_at dksX0_levelOf_2 9 rfl rfl)
theorem dX0_levelOf_58 : decode cX0_levelOf 58 = .ok (.iload_n 1, 1) := dk_27 (dk_at dksX0_levelOf_2 12 rfl rfl)
theorem dX0_levelOf_59 : decode cX0_levelOf 59 = .ok (.ifCond .ne 7, 3) := dk_154 0 7 (dk_at dksX0_levelOf_2 13 rfl rfl)
theorem dX0_levelOf_62 : decode cX0_levelOf 62 = .ok (.iload_n 2, 1) := dk_28 (dk_at dksX0_levelOf_2 16 rfl rfl)
theorem dX0_levelOf_63 : decode cX0_levelOf 63 = .ok (.goto 4, 3) := dk_167 0 4 (dk_at dksX0_levelOf_2 17 rfl rfl)
theorem dX0_levelOf_66 : decode cX0_levelOf 66 = .ok (.iload_n 3, 1) := dk_29 (dk_at dksX0_levelOf_2 20 rfl rfl)
theorem dX0_levelOf_67 : decode cX0_levelOf 67 = .ok (.ireturn, 1) := dk_172 (dk_at dksX0_levelOf_2 21 rfl rfl)
abbrev cX0_seen : ByteArray := prog_1_method_71_code
def yX0_seen : MethodName := ⟨RX0, "seen", "(III)I"⟩
def dkwX0_seen_3 : List UInt8 := [180, 1, 72, 4, 96, 181, 1, 72, 42, 180, 1, 72, 172]
abbrev dktX0_seen_3 : List UInt8 := dkwX0_seen_3 ++ []
def dkwX0_seen_2 : List UInt8 := [79, 42, 180, 1, 78, 42, 180, 1, 72, 28, 79, 42, 180, 1, 81, 42, 180, 1, 72, 29, 79, 42, 89]
abbrev dktX0_seen_2 : List UInt8 := dkwX0_seen_2 ++ dktX0_seen_3
def dkwX0_seen_1 : List UInt8 := [16, 254, 172, 42, 180, 1, 72, 16, 8, 160, 0, 6, 16, 252, 172, 42, 180, 1, 75, 42, 180, 1, 72, 27]
abbrev dktX0_seen_1 : List UInt8 := dkwX0_seen_1 ++ dktX0_seen_2
def dkwX0_seen_0 : List UInt8 := [27, 184, 0, 138, 153, 0, 20, 28, 184, 0, 132, 153, 0, 13, 29, 3, 16, 8, 184, 0, 5, 154, 0, 6]
abbrev dktX0_seen_0 : List UInt8 := dkwX0_seen_0 ++ dktX0_seen_1
theorem dksX0_seen_0 : cX0_seen.data.toList.drop 0 = dktX0_seen_0 := by decide +kernel
theorem dksX0_seen_1 : cX0_seen.data.toList.drop 24 = dktX0_seen_1 := dk_seg dksX0_seen_0 24 rfl rfl
theorem dksX0_seen_2 : cX0_seen.data.toList.drop 48 = dktX0_seen_2 := dk_seg dksX0_seen_1 24 rfl rfl
theorem dksX0_seen_3 : cX0_seen.data.toList.drop 71 = dktX0_seen_3 := dk_seg dksX0_seen_2 23 rfl rfl
theorem dX0_seen_0 : decode cX0_seen 0 = .ok (.iload_n 1, 1) := dk_27 (dk_at dksX0_seen_0 0 rfl rfl)
theorem dX0_seen_1 : decode cX0_seen 1 = .ok (.invokestatic 138, 3) := dk_184 0 138 (dk_at dksX0_seen_0 1 rfl rfl)
theorem dX0_seen_4 : decode cX0_seen 4 = .ok (.ifCond .eq 20, 3) := dk_153 0 20 (dk_at dksX0_seen_0 4 rfl rfl)
theorem dX0_seen_7 : decode cX0_seen 7 = .ok (.iload_n 2, 1) := dk_28 (dk_at dksX0_seen_0 7 rfl rfl)
theorem dX0_seen_8 : decode cX0_seen 8 = .ok (.invokestatic 132, 3) := dk_184 0 132 (dk_at dksX0_seen_0 8 rfl rfl)
theorem dX0_seen_11 : decode cX0_seen 11 = .ok (.ifCond .eq 13, 3) := dk_153 0 13 (dk_at dksX0_seen_0 11 rfl rfl)
theorem dX0_seen_14 : decode cX0_seen 14 = .ok (.iload_n 3, 1) := dk_29 (dk_at dksX0_seen_0 14 rfl rfl)
theorem dX0_seen_15 : decode cX0_seen 15 = .ok (.iconst 0, 1) := dk_3 (dk_at dksX0_seen_0 15 rfl rfl)
theorem dX0_seen_16 : decode cX0_seen 16 = .ok (.bipush 8, 2) := dk_16 8 (dk_at dksX0_seen_0 16 rfl rfl)
theorem dX0_seen_18 : decode cX0_seen 18 = .ok (.invokestatic 5, 3) := dk_184 0 5 (dk_at dksX0_seen_0 18 rfl rfl)
theorem dX0_seen_21 : decode cX0_seen 21 = .ok (.ifCond .ne 6, 3) := dk_154 0 6 (dk_at dksX0_seen_0 21 rfl rfl)
theorem dX0_seen_24 : decode cX0_seen 24 = .ok (.bipush (-2), 2) := dk_16 254 (dk_at dksX0_seen_1 0 rfl rfl)
theorem dX0_seen_26 : decode cX0_seen 26 = .ok (.ireturn, 1) := dk_172 (dk_at dksX0_seen_1 2 rfl rfl)
theorem dX0_seen_27 : decode cX0_seen 27 = .ok (.aload_n 0, 1) := dk_42 (dk_at dksX0_seen_1 3 rfl rfl)
theorem dX0_seen_28 : decode cX0_seen 28 = .ok (.getfield 328, 3) := dk_180 1 72 (dk_at dksX0_seen_1 4 rfl rfl)
theorem dX0_seen_31 : decode cX0_seen 31 = .ok (.bipush 8, 2) := dk_16 8 (dk_at dksX0_seen_1 7 rfl rfl)
theorem dX0_seen_33 : decode cX0_seen 33 = .ok (.if_icmp .ne 6, 3) := dk_160 0 6 (dk_at dksX0_seen_1 9 rfl rfl)
theorem dX0_seen_36 : decode cX0_seen 36 = .ok (.bipush (-4), 2) := dk_16 252 (dk_at dksX0_seen_1 12 rfl rfl)
theorem dX0_seen_38 : decode cX0_seen 38 = .ok (.ireturn, 1) := dk_172 (dk_at dksX0_seen_1 14 rfl rfl)
theorem dX0_seen_39 : decode cX0_seen 39 = .ok (.aload_n 0, 1) := dk_42 (dk_at dksX0_seen_1 15 rfl rfl)
theorem dX0_seen_40 : decode cX0_seen 40 = .ok (.getfield 331, 3) := dk_180 1 75 (dk_at dksX0_seen_1 16 rfl rfl)
theorem dX0_seen_43 : decode cX0_seen 43 = .ok (.aload_n 0, 1) := dk_42 (dk_at dksX0_seen_1 19 rfl rfl)
theorem dX0_seen_44 : decode cX0_seen 44 = .ok (.getfield 328, 3) := dk_180 1 72 (dk_at dksX0_seen_1 20 rfl rfl)
theorem dX0_seen_47 : decode cX0_seen 47 = .ok (.iload_n 1, 1) := dk_27 (dk_at dksX0_seen_1 23 rfl rfl)
theorem dX0_seen_48 : decode cX0_seen 48 = .ok (.iastore, 1) := dk_79 (dk_at dksX0_seen_2 0 rfl rfl)
theorem dX0_seen_49 : decode cX0_seen 49 = .ok (.aload_n 0, 1) := dk_42 (dk_at dksX0_seen_2 1 rfl rfl)
theorem dX0_seen_50 : decode cX0_seen 50 = .ok (.getfield 334, 3) := dk_180 1 78 (dk_at dksX0_seen_2 2 rfl rfl)
theorem dX0_seen_53 : decode cX0_seen 53 = .ok (.aload_n 0, 1) := dk_42 (dk_at dksX0_seen_2 5 rfl rfl)
theorem dX0_seen_54 : decode cX0_seen 54 = .ok (.getfield 328, 3) := dk_180 1 72 (dk_at dksX0_seen_2 6 rfl rfl)
theorem dX0_seen_57 : decode cX0_seen 57 = .ok (.iload_n 2, 1) := dk_28 (dk_at dksX0_seen_2 9 rfl rfl)
theorem dX0_seen_58 : decode cX0_seen 58 = .ok (.iastore, 1) := dk_79 (dk_at dksX0_seen_2 10 rfl rfl)
theorem dX0_seen_59 : decode cX0_seen 59 = .ok (.aload_n 0, 1) := dk_42 (dk_at dksX0_seen_2 11 rfl rfl)
theorem dX0_seen_60 : decode cX0_seen 60 = .ok (.getfield 337, 3) := dk_180 1 81 (dk_at dksX0_seen_2 12 rfl rfl)
theorem dX0_seen_63 : decode cX0_seen 63 = .ok (.aload_n 0, 1) := dk_42 (dk_at dksX0_seen_2 15 rfl rfl)
theorem dX0_seen_64 : decode cX0_seen 64 = .ok (.getfield 328, 3) := dk_180 1 72 (dk_at dksX0_seen_2 16 rfl rfl)
theorem dX0_seen_67 : decode cX0_seen 67 = .ok (.iload_n 3, 1) := dk_29 (dk_at dksX0_seen_2 19 rfl rfl)
theorem dX0_seen_68 : decode cX0_seen 68 = .ok (.iastore, 1) := dk_79 (dk_at dksX0_seen_2 20 rfl rfl)
theorem dX0_seen_69 : decode cX0_seen 69 = .ok (.aload_n 0, 1) := dk_42 (dk_at dksX0_seen_2 21 rfl rfl)
theorem dX0_seen_70 : decode cX0_seen 70 = .ok (.dup, 1) := dk_89 (dk_at dksX0_seen_2 22 rfl rfl)
theorem dX0_seen_71 : decode cX0_seen 71 = .ok (.getfield 328, 3) := dk_180 1 72 (dk_at dksX0_seen_3 0 rfl rfl)
theorem dX0_seen_74 : decode cX0_seen 74 = .ok (.iconst 1, 1) := dk_4 (dk_at dksX0_seen_3 3 rfl rfl)
theorem dX0_seen_75 : decode cX0_seen 75 = .ok (.iadd, 1) := dk_96 (dk_at dksX0_seen_3 4 rfl rfl)
theorem dX0_seen_76 : decode cX0_seen 76 = .ok (.putfield 328, 3) := dk_181 1 72 (dk_at dksX0_seen_3 5 rfl rfl)
theorem dX0_seen_79 : decode cX0_seen 79 = .ok (.aload_n 0, 1) := dk_42 (dk_at dksX0_seen_3 8 rfl rfl)
theorem dX0_seen_80 : decode cX0_seen 80 = .ok (.getfield 328, 3) := dk_180 1 72 (dk_at dksX0_seen_3 9 rfl rfl)
theorem dX0_seen_83 : decode cX0_seen 83 = .ok (.ireturn, 1) := dk_172 (dk_at dksX0_seen_3 12 rfl rfl)
abbrev cX0_forget : ByteArray := prog_1_method_72_code
def yX0_forget : MethodName := ⟨RX0, "forget", "()I"⟩
def dkwX0_forget_0 : List UInt8 := [42, 180, 1, 72, 60, 42, 3, 181, 1, 72, 27, 172]
abbrev dktX0_forget_0 : List UInt8 := dkwX0_forget_0 ++ []
theorem dksX0_forget_0 : cX0_forget.data.toList.drop 0 = dktX0_forget_0 := by decide +kernel
theorem dX0_forget_0 : decode cX0_forget 0 = .ok (.aload_n 0, 1) := dk_42 (dk_at dksX0_forget_0 0 rfl rfl)
theorem dX0_forget_1 : decode cX0_forget 1 = .ok (.getfield 328, 3) := dk_180 1 72 (dk_at dksX0_forget_0 1 rfl rfl)
theorem dX0_forget_4 : decode cX0_forget 4 = .ok (.istore_n 1, 1) := dk_60 (dk_at dksX0_forget_0 4 rfl rfl)
theorem dX0_forget_5 : decode cX0_forget 5 = .ok (.aload_n 0, 1) := dk_42 (dk_at dksX0_forget_0 5 rfl rfl)
theorem dX0_forget_6 : decode cX0_forget 6 = .ok (.iconst 0, 1) := dk_3 (dk_at dksX0_forget_0 6 rfl rfl)
theorem dX0_forget_7 : decode cX0_forget 7 = .ok (.putfield 328, 3) := dk_181 1 72 (dk_at dksX0_forget_0 7 rfl rfl)
theorem dX0_forget_10 : decode cX0_forget 10 = .ok (.iload_n 1, 1) := dk_27 (dk_at dksX0_forget_0 10 rfl rfl)
theorem dX0_forget_11 : decode cX0_forget 11 = .ok (.ireturn, 1) := dk_172 (dk_at dksX0_forget_0 11 rfl rfl)
abbrev cX0_never : ByteArray := prog_1_method_75_code
def yX0_never : MethodName := ⟨RX0, "never", "()I"⟩
theorem dX0_never_0 : decode cX0_never 0 = .ok (.aload_n 0, 1) := by decide +kernel
theorem dX0_never_1 : decode cX0_never 1 = .ok (.invokevirtual 344, 3) := by decide +kernel
theorem dX0_never_4 : decode cX0_never 4 = .ok (.ireturn, 1) := by decide +kernel
abbrev cX0_neverNow : ByteArray := prog_1_method_74_code
def yX0_neverNow : MethodName := ⟨RX0, "neverNow", "()I"⟩
def dkwX0_neverNow_1 : List UInt8 := [42, 182, 1, 84, 153, 0, 9, 4, 28, 120, 167, 0, 4, 3, 128, 60, 132, 2, 1, 167, 255, 221, 27, 172]
abbrev dktX0_neverNow_1 : List UInt8 := dkwX0_neverNow_1 ++ []
def dkwX0_neverNow_0 : List UInt8 := [42, 182, 1, 17, 3, 60, 3, 61, 28, 42, 180, 0, 141, 162, 0, 33, 42, 4, 28, 120, 181, 0, 203, 27]
abbrev dktX0_neverNow_0 : List UInt8 := dkwX0_neverNow_0 ++ dktX0_neverNow_1
theorem dksX0_neverNow_0 : cX0_neverNow.data.toList.drop 0 = dktX0_neverNow_0 := by decide +kernel
theorem dksX0_neverNow_1 : cX0_neverNow.data.toList.drop 24 = dktX0_neverNow_1 := dk_seg dksX0_neverNow_0 24 rfl rfl
theorem dX0_neverNow_0 : decode cX0_neverNow 0 = .ok (.aload_n 0, 1) := dk_42 (dk_at dksX0_neverNow_0 0 rfl rfl)
theorem dX0_neverNow_1 : decode cX0_neverNow 1 = .ok (.invokevirtual 273, 3) := dk_182 1 17 (dk_at dksX0_neverNow_0 1 rfl rfl)
theorem dX0_neverNow_4 : decode cX0_neverNow 4 = .ok (.iconst 0, 1) := dk_3 (dk_at dksX0_neverNow_0 4 rfl rfl)
theorem dX0_neverNow_5 : decode cX0_neverNow 5 = .ok (.istore_n 1, 1) := dk_60 (dk_at dksX0_neverNow_0 5 rfl rfl)
theorem dX0_neverNow_6 : decode cX0_neverNow 6 = .ok (.iconst 0, 1) := dk_3 (dk_at dksX0_neverNow_0 6 rfl rfl)
theorem dX0_neverNow_7 : decode cX0_neverNow 7 = .ok (.istore_n 2, 1) := dk_61 (dk_at dksX0_neverNow_0 7 rfl rfl)
theorem dX0_neverNow_8 : decode cX0_neverNow 8 = .ok (.iload_n 2, 1) := dk_28 (dk_at dksX0_neverNow_0 8 rfl rfl)
theorem dX0_neverNow_9 : decode cX0_neverNow 9 = .ok (.aload_n 0, 1) := dk_42 (dk_at dksX0_neverNow_0 9 rfl rfl)
theorem dX0_neverNow_10 : decode cX0_neverNow 10 = .ok (.getfield 141, 3) := dk_180 0 141 (dk_at dksX0_neverNow_0 10 rfl rfl)
theorem dX0_neverNow_13 : decode cX0_neverNow 13 = .ok (.if_icmp .ge 33, 3) := dk_162 0 33 (dk_at dksX0_neverNow_0 13 rfl rfl)
theorem dX0_neverNow_16 : decode cX0_neverNow 16 = .ok (.aload_n 0, 1) := dk_42 (dk_at dksX0_neverNow_0 16 rfl rfl)
theorem dX0_neverNow_17 : decode cX0_neverNow 17 = .ok (.iconst 1, 1) := dk_4 (dk_at dksX0_neverNow_0 17 rfl rfl)
theorem dX0_neverNow_18 : decode cX0_neverNow 18 = .ok (.iload_n 2, 1) := dk_28 (dk_at dksX0_neverNow_0 18 rfl rfl)
theorem dX0_neverNow_19 : decode cX0_neverNow 19 = .ok (.ishl, 1) := dk_120 (dk_at dksX0_neverNow_0 19 rfl rfl)
theorem dX0_neverNow_20 : decode cX0_neverNow 20 = .ok (.putfield 203, 3) := dk_181 0 203 (dk_at dksX0_neverNow_0 20 rfl rfl)
theorem dX0_neverNow_23 : decode cX0_neverNow 23 = .ok (.iload_n 1, 1) := dk_27 (dk_at dksX0_neverNow_0 23 rfl rfl)
theorem dX0_neverNow_24 : decode cX0_neverNow 24 = .ok (.aload_n 0, 1) := dk_42 (dk_at dksX0_neverNow_1 0 rfl rfl)
theorem dX0_neverNow_25 : decode cX0_neverNow 25 = .ok (.invokevirtual 340, 3) := dk_182 1 84 (dk_at dksX0_neverNow_1 1 rfl rfl)
theorem dX0_neverNow_28 : decode cX0_neverNow 28 = .ok (.ifCond .eq 9, 3) := dk_153 0 9 (dk_at dksX0_neverNow_1 4 rfl rfl)
theorem dX0_neverNow_31 : decode cX0_neverNow 31 = .ok (.iconst 1, 1) := dk_4 (dk_at dksX0_neverNow_1 7 rfl rfl)
theorem dX0_neverNow_32 : decode cX0_neverNow 32 = .ok (.iload_n 2, 1) := dk_28 (dk_at dksX0_neverNow_1 8 rfl rfl)
theorem dX0_neverNow_33 : decode cX0_neverNow 33 = .ok (.ishl, 1) := dk_120 (dk_at dksX0_neverNow_1 9 rfl rfl)
theorem dX0_neverNow_34 : decode cX0_neverNow 34 = .ok (.goto 4, 3) := dk_167 0 4 (dk_at dksX0_neverNow_1 10 rfl rfl)
theorem dX0_neverNow_37 : decode cX0_neverNow 37 = .ok (.iconst 0, 1) := dk_3 (dk_at dksX0_neverNow_1 13 rfl rfl)
theorem dX0_neverNow_38 : decode cX0_neverNow 38 = .ok (.ior, 1) := dk_128 (dk_at dksX0_neverNow_1 14 rfl rfl)
theorem dX0_neverNow_39 : decode cX0_neverNow 39 = .ok (.istore_n 1, 1) := dk_60 (dk_at dksX0_neverNow_1 15 rfl rfl)
theorem dX0_neverNow_40 : decode cX0_neverNow 40 = .ok (.iinc 2 1, 3) := dk_132 2 1 (dk_at dksX0_neverNow_1 16 rfl rfl)
theorem dX0_neverNow_43 : decode cX0_neverNow 43 = .ok (.goto (-35), 3) := dk_167 255 221 (dk_at dksX0_neverNow_1 19 rfl rfl)
theorem dX0_neverNow_46 : decode cX0_neverNow 46 = .ok (.iload_n 1, 1) := dk_27 (dk_at dksX0_neverNow_1 22 rfl rfl)
theorem dX0_neverNow_47 : decode cX0_neverNow 47 = .ok (.ireturn, 1) := dk_172 (dk_at dksX0_neverNow_1 23 rfl rfl)
abbrev cX0_fits : ByteArray := prog_1_method_73_code
def yX0_fits : MethodName := ⟨RX0, "fits", "()Z"⟩
def dkwX0_fits_3 : List UInt8 := [180, 1, 78, 28, 46, 46, 29, 160, 0, 7, 4, 167, 0, 4, 3, 60, 132, 2, 1, 167, 255, 178, 27, 172]
abbrev dktX0_fits_3 : List UInt8 := dkwX0_fits_3 ++ []
def dkwX0_fits_2 : List UInt8 := [180, 1, 78, 28, 46, 42, 180, 0, 98, 162, 0, 29, 42, 180, 1, 11, 42, 180, 1, 75, 28, 46, 50, 42]
abbrev dktX0_fits_2 : List UInt8 := dkwX0_fits_2 ++ dktX0_fits_3
def dkwX0_fits_1 : List UInt8 := [180, 1, 81, 28, 46, 16, 8, 160, 0, 7, 2, 167, 0, 9, 42, 180, 1, 81, 28, 46, 62, 42]
abbrev dktX0_fits_1 : List UInt8 := dkwX0_fits_1 ++ dktX0_fits_2
def dkwX0_fits_0 : List UInt8 := [4, 60, 42, 16, 39, 182, 1, 20, 3, 61, 28, 42, 180, 1, 72, 162, 0, 76, 27, 153, 0, 72, 42]
abbrev dktX0_fits_0 : List UInt8 := dkwX0_fits_0 ++ dktX0_fits_1
theorem dksX0_fits_0 : cX0_fits.data.toList.drop 0 = dktX0_fits_0 := by decide +kernel
theorem dksX0_fits_1 : cX0_fits.data.toList.drop 23 = dktX0_fits_1 := dk_seg dksX0_fits_0 23 rfl rfl
theorem dksX0_fits_2 : cX0_fits.data.toList.drop 45 = dktX0_fits_2 := dk_seg dksX0_fits_1 22 rfl rfl
theorem dksX0_fits_3 : cX0_fits.data.toList.drop 69 = dktX0_fits_3 := dk_seg dksX0_fits_2 24 rfl rfl
theorem dX0_fits_0 : decode cX0_fits 0 = .ok (.iconst 1, 1) := dk_4 (dk_at dksX0_fits_0 0 rfl rfl)
theorem dX0_fits_1 : decode cX0_fits 1 = .ok (.istore_n 1, 1) := dk_60 (dk_at dksX0_fits_0 1 rfl rfl)
theorem dX0_fits_2 : decode cX0_fits 2 = .ok (.aload_n 0, 1) := dk_42 (dk_at dksX0_fits_0 2 rfl rfl)
theorem dX0_fits_3 : decode cX0_fits 3 = .ok (.bipush 39, 2) := dk_16 39 (dk_at dksX0_fits_0 3 rfl rfl)
theorem dX0_fits_5 : decode cX0_fits 5 = .ok (.invokevirtual 276, 3) := dk_182 1 20 (dk_at dksX0_fits_0 5 rfl rfl)
theorem dX0_fits_8 : decode cX0_fits 8 = .ok (.iconst 0, 1) := dk_3 (dk_at dksX0_fits_0 8 rfl rfl)
theorem dX0_fits_9 : decode cX0_fits 9 = .ok (.istore_n 2, 1) := dk_61 (dk_at dksX0_fits_0 9 rfl rfl)
theorem dX0_fits_10 : decode cX0_fits 10 = .ok (.iload_n 2, 1) := dk_28 (dk_at dksX0_fits_0 10 rfl rfl)
theorem dX0_fits_11 : decode cX0_fits 11 = .ok (.aload_n 0, 1) := dk_42 (dk_at dksX0_fits_0 11 rfl rfl)
theorem dX0_fits_12 : decode cX0_fits 12 = .ok (.getfield 328, 3) := dk_180 1 72 (dk_at dksX0_fits_0 12 rfl rfl)
theorem dX0_fits_15 : decode cX0_fits 15 = .ok (.if_icmp .ge 76, 3) := dk_162 0 76 (dk_at dksX0_fits_0 15 rfl rfl)
theorem dX0_fits_18 : decode cX0_fits 18 = .ok (.iload_n 1, 1) := dk_27 (dk_at dksX0_fits_0 18 rfl rfl)
theorem dX0_fits_19 : decode cX0_fits 19 = .ok (.ifCond .eq 72, 3) := dk_153 0 72 (dk_at dksX0_fits_0 19 rfl rfl)
theorem dX0_fits_22 : decode cX0_fits 22 = .ok (.aload_n 0, 1) := dk_42 (dk_at dksX0_fits_0 22 rfl rfl)
theorem dX0_fits_23 : decode cX0_fits 23 = .ok (.getfield 337, 3) := dk_180 1 81 (dk_at dksX0_fits_1 0 rfl rfl)
theorem dX0_fits_26 : decode cX0_fits 26 = .ok (.iload_n 2, 1) := dk_28 (dk_at dksX0_fits_1 3 rfl rfl)
theorem dX0_fits_27 : decode cX0_fits 27 = .ok (.iaload, 1) := dk_46 (dk_at dksX0_fits_1 4 rfl rfl)
theorem dX0_fits_28 : decode cX0_fits 28 = .ok (.bipush 8, 2) := dk_16 8 (dk_at dksX0_fits_1 5 rfl rfl)
theorem dX0_fits_30 : decode cX0_fits 30 = .ok (.if_icmp .ne 7, 3) := dk_160 0 7 (dk_at dksX0_fits_1 7 rfl rfl)
theorem dX0_fits_33 : decode cX0_fits 33 = .ok (.iconst (-1), 1) := dk_2 (dk_at dksX0_fits_1 10 rfl rfl)
theorem dX0_fits_34 : decode cX0_fits 34 = .ok (.goto 9, 3) := dk_167 0 9 (dk_at dksX0_fits_1 11 rfl rfl)
theorem dX0_fits_37 : decode cX0_fits 37 = .ok (.aload_n 0, 1) := dk_42 (dk_at dksX0_fits_1 14 rfl rfl)
theorem dX0_fits_38 : decode cX0_fits 38 = .ok (.getfield 337, 3) := dk_180 1 81 (dk_at dksX0_fits_1 15 rfl rfl)
theorem dX0_fits_41 : decode cX0_fits 41 = .ok (.iload_n 2, 1) := dk_28 (dk_at dksX0_fits_1 18 rfl rfl)
theorem dX0_fits_42 : decode cX0_fits 42 = .ok (.iaload, 1) := dk_46 (dk_at dksX0_fits_1 19 rfl rfl)
theorem dX0_fits_43 : decode cX0_fits 43 = .ok (.istore_n 3, 1) := dk_62 (dk_at dksX0_fits_1 20 rfl rfl)
theorem dX0_fits_44 : decode cX0_fits 44 = .ok (.aload_n 0, 1) := dk_42 (dk_at dksX0_fits_1 21 rfl rfl)
theorem dX0_fits_45 : decode cX0_fits 45 = .ok (.getfield 334, 3) := dk_180 1 78 (dk_at dksX0_fits_2 0 rfl rfl)
theorem dX0_fits_48 : decode cX0_fits 48 = .ok (.iload_n 2, 1) := dk_28 (dk_at dksX0_fits_2 3 rfl rfl)
theorem dX0_fits_49 : decode cX0_fits 49 = .ok (.iaload, 1) := dk_46 (dk_at dksX0_fits_2 4 rfl rfl)
theorem dX0_fits_50 : decode cX0_fits 50 = .ok (.aload_n 0, 1) := dk_42 (dk_at dksX0_fits_2 5 rfl rfl)
theorem dX0_fits_51 : decode cX0_fits 51 = .ok (.getfield 98, 3) := dk_180 0 98 (dk_at dksX0_fits_2 6 rfl rfl)
theorem dX0_fits_54 : decode cX0_fits 54 = .ok (.if_icmp .ge 29, 3) := dk_162 0 29 (dk_at dksX0_fits_2 9 rfl rfl)
theorem dX0_fits_57 : decode cX0_fits 57 = .ok (.aload_n 0, 1) := dk_42 (dk_at dksX0_fits_2 12 rfl rfl)
theorem dX0_fits_58 : decode cX0_fits 58 = .ok (.getfield 267, 3) := dk_180 1 11 (dk_at dksX0_fits_2 13 rfl rfl)
theorem dX0_fits_61 : decode cX0_fits 61 = .ok (.aload_n 0, 1) := dk_42 (dk_at dksX0_fits_2 16 rfl rfl)
theorem dX0_fits_62 : decode cX0_fits 62 = .ok (.getfield 331, 3) := dk_180 1 75 (dk_at dksX0_fits_2 17 rfl rfl)
theorem dX0_fits_65 : decode cX0_fits 65 = .ok (.iload_n 2, 1) := dk_28 (dk_at dksX0_fits_2 20 rfl rfl)
theorem dX0_fits_66 : decode cX0_fits 66 = .ok (.iaload, 1) := dk_46 (dk_at dksX0_fits_2 21 rfl rfl)
theorem dX0_fits_67 : decode cX0_fits 67 = .ok (.aaload, 1) := dk_50 (dk_at dksX0_fits_2 22 rfl rfl)
theorem dX0_fits_68 : decode cX0_fits 68 = .ok (.aload_n 0, 1) := dk_42 (dk_at dksX0_fits_2 23 rfl rfl)
theorem dX0_fits_69 : decode cX0_fits 69 = .ok (.getfield 334, 3) := dk_180 1 78 (dk_at dksX0_fits_3 0 rfl rfl)
theorem dX0_fits_72 : decode cX0_fits 72 = .ok (.iload_n 2, 1) := dk_28 (dk_at dksX0_fits_3 3 rfl rfl)
theorem dX0_fits_73 : decode cX0_fits 73 = .ok (.iaload, 1) := dk_46 (dk_at dksX0_fits_3 4 rfl rfl)
theorem dX0_fits_74 : decode cX0_fits 74 = .ok (.iaload, 1) := dk_46 (dk_at dksX0_fits_3 5 rfl rfl)
theorem dX0_fits_75 : decode cX0_fits 75 = .ok (.iload_n 3, 1) := dk_29 (dk_at dksX0_fits_3 6 rfl rfl)
theorem dX0_fits_76 : decode cX0_fits 76 = .ok (.if_icmp .ne 7, 3) := dk_160 0 7 (dk_at dksX0_fits_3 7 rfl rfl)
theorem dX0_fits_79 : decode cX0_fits 79 = .ok (.iconst 1, 1) := dk_4 (dk_at dksX0_fits_3 10 rfl rfl)
theorem dX0_fits_80 : decode cX0_fits 80 = .ok (.goto 4, 3) := dk_167 0 4 (dk_at dksX0_fits_3 11 rfl rfl)
theorem dX0_fits_83 : decode cX0_fits 83 = .ok (.iconst 0, 1) := dk_3 (dk_at dksX0_fits_3 14 rfl rfl)
theorem dX0_fits_84 : decode cX0_fits 84 = .ok (.istore_n 1, 1) := dk_60 (dk_at dksX0_fits_3 15 rfl rfl)
theorem dX0_fits_85 : decode cX0_fits 85 = .ok (.iinc 2 1, 3) := dk_132 2 1 (dk_at dksX0_fits_3 16 rfl rfl)
theorem dX0_fits_88 : decode cX0_fits 88 = .ok (.goto (-78), 3) := dk_167 255 178 (dk_at dksX0_fits_3 19 rfl rfl)
theorem dX0_fits_91 : decode cX0_fits 91 = .ok (.iload_n 1, 1) := dk_27 (dk_at dksX0_fits_3 22 rfl rfl)
theorem dX0_fits_92 : decode cX0_fits 92 = .ok (.ireturn, 1) := dk_172 (dk_at dksX0_fits_3 23 rfl rfl)
abbrev cX0_sort : ByteArray := prog_1_method_77_code
def yX0_sort : MethodName := ⟨RX0, "sort", "(I)I"⟩
def dkwX0_sort_0 : List UInt8 := [42, 27, 182, 0, 126, 153, 0, 11, 42, 27, 182, 1, 94, 167, 0, 5, 16, 254, 172]
abbrev dktX0_sort_0 : List UInt8 := dkwX0_sort_0 ++ []
theorem dksX0_sort_0 : cX0_sort.data.toList.drop 0 = dktX0_sort_0 := by decide +kernel
theorem dX0_sort_0 : decode cX0_sort 0 = .ok (.aload_n 0, 1) := dk_42 (dk_at dksX0_sort_0 0 rfl rfl)
theorem dX0_sort_1 : decode cX0_sort 1 = .ok (.iload_n 1, 1) := dk_27 (dk_at dksX0_sort_0 1 rfl rfl)
theorem dX0_sort_2 : decode cX0_sort 2 = .ok (.invokevirtual 126, 3) := dk_182 0 126 (dk_at dksX0_sort_0 2 rfl rfl)
theorem dX0_sort_5 : decode cX0_sort 5 = .ok (.ifCond .eq 11, 3) := dk_153 0 11 (dk_at dksX0_sort_0 5 rfl rfl)
theorem dX0_sort_8 : decode cX0_sort 8 = .ok (.aload_n 0, 1) := dk_42 (dk_at dksX0_sort_0 8 rfl rfl)
theorem dX0_sort_9 : decode cX0_sort 9 = .ok (.iload_n 1, 1) := dk_27 (dk_at dksX0_sort_0 9 rfl rfl)
theorem dX0_sort_10 : decode cX0_sort 10 = .ok (.invokevirtual 350, 3) := dk_182 1 94 (dk_at dksX0_sort_0 10 rfl rfl)
theorem dX0_sort_13 : decode cX0_sort 13 = .ok (.goto 5, 3) := dk_167 0 5 (dk_at dksX0_sort_0 13 rfl rfl)
theorem dX0_sort_16 : decode cX0_sort 16 = .ok (.bipush (-2), 2) := dk_16 254 (dk_at dksX0_sort_0 16 rfl rfl)
theorem dX0_sort_18 : decode cX0_sort 18 = .ok (.ireturn, 1) := dk_172 (dk_at dksX0_sort_0 18 rfl rfl)
abbrev cX0_sortOf : ByteArray := prog_1_method_76_code
def yX0_sortOf : MethodName := ⟨RX0, "sortOf", "(I)I"⟩
def dkwX0_sortOf_4 : List UInt8 := [132, 4, 1, 167, 255, 178, 42, 180, 0, 62, 27, 50, 44, 181, 0, 79, 29, 172]
abbrev dktX0_sortOf_4 : List UInt8 := dkwX0_sortOf_4 ++ []
def dkwX0_sortOf_3 : List UInt8 := [180, 1, 91, 21, 4, 50, 21, 5, 42, 180, 1, 11, 21, 5, 50, 27, 46, 79, 132, 5, 1, 167, 255, 227]
abbrev dktX0_sortOf_3 : List UInt8 := dkwX0_sortOf_3 ++ dktX0_sortOf_4
def dkwX0_sortOf_2 : List UInt8 := [153, 0, 10, 4, 21, 4, 120, 167, 0, 4, 3, 128, 62, 3, 54, 5, 21, 5, 16, 40, 162, 0, 28, 42]
abbrev dktX0_sortOf_2 : List UInt8 := dkwX0_sortOf_2 ++ dktX0_sortOf_3
def dkwX0_sortOf_1 : List UInt8 := [162, 0, 78, 42, 180, 0, 62, 27, 50, 42, 180, 0, 75, 21, 4, 50, 181, 0, 79, 29, 42, 182, 1, 84]
abbrev dktX0_sortOf_1 : List UInt8 := dkwX0_sortOf_1 ++ dktX0_sortOf_2
def dkwX0_sortOf_0 : List UInt8 := [42, 182, 1, 17, 42, 180, 0, 62, 27, 50, 180, 0, 79, 77, 3, 62, 3, 54, 4, 21, 4, 6]
abbrev dktX0_sortOf_0 : List UInt8 := dkwX0_sortOf_0 ++ dktX0_sortOf_1
theorem dksX0_sortOf_0 : cX0_sortOf.data.toList.drop 0 = dktX0_sortOf_0 := by decide +kernel
theorem dksX0_sortOf_1 : cX0_sortOf.data.toList.drop 22 = dktX0_sortOf_1 := dk_seg dksX0_sortOf_0 22 rfl rfl
theorem dksX0_sortOf_2 : cX0_sortOf.data.toList.drop 46 = dktX0_sortOf_2 := dk_seg dksX0_sortOf_1 24 rfl rfl
theorem dksX0_sortOf_3 : cX0_sortOf.data.toList.drop 70 = dktX0_sortOf_3 := dk_seg dksX0_sortOf_2 24 rfl rfl
theorem dksX0_sortOf_4 : cX0_sortOf.data.toList.drop 94 = dktX0_sortOf_4 := dk_seg dksX0_sortOf_3 24 rfl rfl
theorem dX0_sortOf_0 : decode cX0_sortOf 0 = .ok (.aload_n 0, 1) := dk_42 (dk_at dksX0_sortOf_0 0 rfl rfl)
theorem dX0_sortOf_1 : decode cX0_sortOf 1 = .ok (.invokevirtual 273, 3) := dk_182 1 17 (dk_at dksX0_sortOf_0 1 rfl rfl)
theorem dX0_sortOf_4 : decode cX0_sortOf 4 = .ok (.aload_n 0, 1) := dk_42 (dk_at dksX0_sortOf_0 4 rfl rfl)
theorem dX0_sortOf_5 : decode cX0_sortOf 5 = .ok (.getfield 62, 3) := dk_180 0 62 (dk_at dksX0_sortOf_0 5 rfl rfl)
theorem dX0_sortOf_8 : decode cX0_sortOf 8 = .ok (.iload_n 1, 1) := dk_27 (dk_at dksX0_sortOf_0 8 rfl rfl)
theorem dX0_sortOf_9 : decode cX0_sortOf 9 = .ok (.aaload, 1) := dk_50 (dk_at dksX0_sortOf_0 9 rfl rfl)
theorem dX0_sortOf_10 : decode cX0_sortOf 10 = .ok (.getfield 79, 3) := dk_180 0 79 (dk_at dksX0_sortOf_0 10 rfl rfl)
theorem dX0_sortOf_13 : decode cX0_sortOf 13 = .ok (.astore_n 2, 1) := dk_77 (dk_at dksX0_sortOf_0 13 rfl rfl)
theorem dX0_sortOf_14 : decode cX0_sortOf 14 = .ok (.iconst 0, 1) := dk_3 (dk_at dksX0_sortOf_0 14 rfl rfl)
theorem dX0_sortOf_15 : decode cX0_sortOf 15 = .ok (.istore_n 3, 1) := dk_62 (dk_at dksX0_sortOf_0 15 rfl rfl)
theorem dX0_sortOf_16 : decode cX0_sortOf 16 = .ok (.iconst 0, 1) := dk_3 (dk_at dksX0_sortOf_0 16 rfl rfl)
theorem dX0_sortOf_17 : decode cX0_sortOf 17 = .ok (.istore 4, 2) := dk_54 4 (dk_at dksX0_sortOf_0 17 rfl rfl)
theorem dX0_sortOf_19 : decode cX0_sortOf 19 = .ok (.iload 4, 2) := dk_21 4 (dk_at dksX0_sortOf_0 19 rfl rfl)
theorem dX0_sortOf_21 : decode cX0_sortOf 21 = .ok (.iconst 3, 1) := dk_6 (dk_at dksX0_sortOf_0 21 rfl rfl)
theorem dX0_sortOf_22 : decode cX0_sortOf 22 = .ok (.if_icmp .ge 78, 3) := dk_162 0 78 (dk_at dksX0_sortOf_1 0 rfl rfl)
theorem dX0_sortOf_25 : decode cX0_sortOf 25 = .ok (.aload_n 0, 1) := dk_42 (dk_at dksX0_sortOf_1 3 rfl rfl)
theorem dX0_sortOf_26 : decode cX0_sortOf 26 = .ok (.getfield 62, 3) := dk_180 0 62 (dk_at dksX0_sortOf_1 4 rfl rfl)
theorem dX0_sortOf_29 : decode cX0_sortOf 29 = .ok (.iload_n 1, 1) := dk_27 (dk_at dksX0_sortOf_1 7 rfl rfl)
theorem dX0_sortOf_30 : decode cX0_sortOf 30 = .ok (.aaload, 1) := dk_50 (dk_at dksX0_sortOf_1 8 rfl rfl)
theorem dX0_sortOf_31 : decode cX0_sortOf 31 = .ok (.aload_n 0, 1) := dk_42 (dk_at dksX0_sortOf_1 9 rfl rfl)
theorem dX0_sortOf_32 : decode cX0_sortOf 32 = .ok (.getfield 75, 3) := dk_180 0 75 (dk_at dksX0_sortOf_1 10 rfl rfl)
theorem dX0_sortOf_35 : decode cX0_sortOf 35 = .ok (.iload 4, 2) := dk_21 4 (dk_at dksX0_sortOf_1 13 rfl rfl)
theorem dX0_sortOf_37 : decode cX0_sortOf 37 = .ok (.aaload, 1) := dk_50 (dk_at dksX0_sortOf_1 15 rfl rfl)
theorem dX0_sortOf_38 : decode cX0_sortOf 38 = .ok (.putfield 79, 3) := dk_181 0 79 (dk_at dksX0_sortOf_1 16 rfl rfl)
theorem dX0_sortOf_41 : decode cX0_sortOf 41 = .ok (.iload_n 3, 1) := dk_29 (dk_at dksX0_sortOf_1 19 rfl rfl)
theorem dX0_sortOf_42 : decode cX0_sortOf 42 = .ok (.aload_n 0, 1) := dk_42 (dk_at dksX0_sortOf_1 20 rfl rfl)
theorem dX0_sortOf_43 : decode cX0_sortOf 43 = .ok (.invokevirtual 340, 3) := dk_182 1 84 (dk_at dksX0_sortOf_1 21 rfl rfl)
theorem dX0_sortOf_46 : decode cX0_sortOf 46 = .ok (.ifCond .eq 10, 3) := dk_153 0 10 (dk_at dksX0_sortOf_2 0 rfl rfl)
theorem dX0_sortOf_49 : decode cX0_sortOf 49 = .ok (.iconst 1, 1) := dk_4 (dk_at dksX0_sortOf_2 3 rfl rfl)
theorem dX0_sortOf_50 : decode cX0_sortOf 50 = .ok (.iload 4, 2) := dk_21 4 (dk_at dksX0_sortOf_2 4 rfl rfl)
theorem dX0_sortOf_52 : decode cX0_sortOf 52 = .ok (.ishl, 1) := dk_120 (dk_at dksX0_sortOf_2 6 rfl rfl)
theorem dX0_sortOf_53 : decode cX0_sortOf 53 = .ok (.goto 4, 3) := dk_167 0 4 (dk_at dksX0_sortOf_2 7 rfl rfl)
theorem dX0_sortOf_56 : decode cX0_sortOf 56 = .ok (.iconst 0, 1) := dk_3 (dk_at dksX0_sortOf_2 10 rfl rfl)
theorem dX0_sortOf_57 : decode cX0_sortOf 57 = .ok (.ior, 1) := dk_128 (dk_at dksX0_sortOf_2 11 rfl rfl)
theorem dX0_sortOf_58 : decode cX0_sortOf 58 = .ok (.istore_n 3, 1) := dk_62 (dk_at dksX0_sortOf_2 12 rfl rfl)
theorem dX0_sortOf_59 : decode cX0_sortOf 59 = .ok (.iconst 0, 1) := dk_3 (dk_at dksX0_sortOf_2 13 rfl rfl)
theorem dX0_sortOf_60 : decode cX0_sortOf 60 = .ok (.istore 5, 2) := dk_54 5 (dk_at dksX0_sortOf_2 14 rfl rfl)
theorem dX0_sortOf_62 : decode cX0_sortOf 62 = .ok (.iload 5, 2) := dk_21 5 (dk_at dksX0_sortOf_2 16 rfl rfl)
theorem dX0_sortOf_64 : decode cX0_sortOf 64 = .ok (.bipush 40, 2) := dk_16 40 (dk_at dksX0_sortOf_2 18 rfl rfl)
theorem dX0_sortOf_66 : decode cX0_sortOf 66 = .ok (.if_icmp .ge 28, 3) := dk_162 0 28 (dk_at dksX0_sortOf_2 20 rfl rfl)
theorem dX0_sortOf_69 : decode cX0_sortOf 69 = .ok (.aload_n 0, 1) := dk_42 (dk_at dksX0_sortOf_2 23 rfl rfl)
theorem dX0_sortOf_70 : decode cX0_sortOf 70 = .ok (.getfield 347, 3) := dk_180 1 91 (dk_at dksX0_sortOf_3 0 rfl rfl)
theorem dX0_sortOf_73 : decode cX0_sortOf 73 = .ok (.iload 4, 2) := dk_21 4 (dk_at dksX0_sortOf_3 3 rfl rfl)
theorem dX0_sortOf_75 : decode cX0_sortOf 75 = .ok (.aaload, 1) := dk_50 (dk_at dksX0_sortOf_3 5 rfl rfl)
theorem dX0_sortOf_76 : decode cX0_sortOf 76 = .ok (.iload 5, 2) := dk_21 5 (dk_at dksX0_sortOf_3 6 rfl rfl)
theorem dX0_sortOf_78 : decode cX0_sortOf 78 = .ok (.aload_n 0, 1) := dk_42 (dk_at dksX0_sortOf_3 8 rfl rfl)
theorem dX0_sortOf_79 : decode cX0_sortOf 79 = .ok (.getfield 267, 3) := dk_180 1 11 (dk_at dksX0_sortOf_3 9 rfl rfl)
theorem dX0_sortOf_82 : decode cX0_sortOf 82 = .ok (.iload 5, 2) := dk_21 5 (dk_at dksX0_sortOf_3 12 rfl rfl)
theorem dX0_sortOf_84 : decode cX0_sortOf 84 = .ok (.aaload, 1) := dk_50 (dk_at dksX0_sortOf_3 14 rfl rfl)
theorem dX0_sortOf_85 : decode cX0_sortOf 85 = .ok (.iload_n 1, 1) := dk_27 (dk_at dksX0_sortOf_3 15 rfl rfl)
theorem dX0_sortOf_86 : decode cX0_sortOf 86 = .ok (.iaload, 1) := dk_46 (dk_at dksX0_sortOf_3 16 rfl rfl)
theorem dX0_sortOf_87 : decode cX0_sortOf 87 = .ok (.iastore, 1) := dk_79 (dk_at dksX0_sortOf_3 17 rfl rfl)
theorem dX0_sortOf_88 : decode cX0_sortOf 88 = .ok (.iinc 5 1, 3) := dk_132 5 1 (dk_at dksX0_sortOf_3 18 rfl rfl)
theorem dX0_sortOf_91 : decode cX0_sortOf 91 = .ok (.goto (-29), 3) := dk_167 255 227 (dk_at dksX0_sortOf_3 21 rfl rfl)
theorem dX0_sortOf_94 : decode cX0_sortOf 94 = .ok (.iinc 4 1, 3) := dk_132 4 1 (dk_at dksX0_sortOf_4 0 rfl rfl)
theorem dX0_sortOf_97 : decode cX0_sortOf 97 = .ok (.goto (-78), 3) := dk_167 255 178 (dk_at dksX0_sortOf_4 3 rfl rfl)
theorem dX0_sortOf_100 : decode cX0_sortOf 100 = .ok (.aload_n 0, 1) := dk_42 (dk_at dksX0_sortOf_4 6 rfl rfl)
theorem dX0_sortOf_101 : decode cX0_sortOf 101 = .ok (.getfield 62, 3) := dk_180 0 62 (dk_at dksX0_sortOf_4 7 rfl rfl)
theorem dX0_sortOf_104 : decode cX0_sortOf 104 = .ok (.iload_n 1, 1) := dk_27 (dk_at dksX0_sortOf_4 10 rfl rfl)
theorem dX0_sortOf_105 : decode cX0_sortOf 105 = .ok (.aaload, 1) := dk_50 (dk_at dksX0_sortOf_4 11 rfl rfl)
theorem dX0_sortOf_106 : decode cX0_sortOf 106 = .ok (.aload_n 2, 1) := dk_44 (dk_at dksX0_sortOf_4 12 rfl rfl)
theorem dX0_sortOf_107 : decode cX0_sortOf 107 = .ok (.putfield 79, 3) := dk_181 0 79 (dk_at dksX0_sortOf_4 13 rfl rfl)
theorem dX0_sortOf_110 : decode cX0_sortOf 110 = .ok (.iload_n 3, 1) := dk_29 (dk_at dksX0_sortOf_4 16 rfl rfl)
theorem dX0_sortOf_111 : decode cX0_sortOf 111 = .ok (.ireturn, 1) := dk_172 (dk_at dksX0_sortOf_4 17 rfl rfl)
abbrev cX0_force : ByteArray := prog_1_method_79_code
def yX0_force : MethodName := ⟨RX0, "force", "(II)I"⟩
def dkwX0_force_1 : List UInt8 := [167, 0, 5, 16, 254, 172]
abbrev dktX0_force_1 : List UInt8 := dkwX0_force_1 ++ []
def dkwX0_force_0 : List UInt8 := [42, 27, 182, 0, 126, 153, 0, 21, 28, 3, 5, 184, 0, 5, 153, 0, 12, 42, 27, 28, 182, 1, 97]
abbrev dktX0_force_0 : List UInt8 := dkwX0_force_0 ++ dktX0_force_1
theorem dksX0_force_0 : cX0_force.data.toList.drop 0 = dktX0_force_0 := by decide +kernel
theorem dksX0_force_1 : cX0_force.data.toList.drop 23 = dktX0_force_1 := dk_seg dksX0_force_0 23 rfl rfl
theorem dX0_force_0 : decode cX0_force 0 = .ok (.aload_n 0, 1) := dk_42 (dk_at dksX0_force_0 0 rfl rfl)
theorem dX0_force_1 : decode cX0_force 1 = .ok (.iload_n 1, 1) := dk_27 (dk_at dksX0_force_0 1 rfl rfl)
theorem dX0_force_2 : decode cX0_force 2 = .ok (.invokevirtual 126, 3) := dk_182 0 126 (dk_at dksX0_force_0 2 rfl rfl)
theorem dX0_force_5 : decode cX0_force 5 = .ok (.ifCond .eq 21, 3) := dk_153 0 21 (dk_at dksX0_force_0 5 rfl rfl)
theorem dX0_force_8 : decode cX0_force 8 = .ok (.iload_n 2, 1) := dk_28 (dk_at dksX0_force_0 8 rfl rfl)
theorem dX0_force_9 : decode cX0_force 9 = .ok (.iconst 0, 1) := dk_3 (dk_at dksX0_force_0 9 rfl rfl)
theorem dX0_force_10 : decode cX0_force 10 = .ok (.iconst 2, 1) := dk_5 (dk_at dksX0_force_0 10 rfl rfl)
theorem dX0_force_11 : decode cX0_force 11 = .ok (.invokestatic 5, 3) := dk_184 0 5 (dk_at dksX0_force_0 11 rfl rfl)
theorem dX0_force_14 : decode cX0_force 14 = .ok (.ifCond .eq 12, 3) := dk_153 0 12 (dk_at dksX0_force_0 14 rfl rfl)
theorem dX0_force_17 : decode cX0_force 17 = .ok (.aload_n 0, 1) := dk_42 (dk_at dksX0_force_0 17 rfl rfl)
theorem dX0_force_18 : decode cX0_force 18 = .ok (.iload_n 1, 1) := dk_27 (dk_at dksX0_force_0 18 rfl rfl)
theorem dX0_force_19 : decode cX0_force 19 = .ok (.iload_n 2, 1) := dk_28 (dk_at dksX0_force_0 19 rfl rfl)
theorem dX0_force_20 : decode cX0_force 20 = .ok (.invokevirtual 353, 3) := dk_182 1 97 (dk_at dksX0_force_0 20 rfl rfl)
theorem dX0_force_23 : decode cX0_force 23 = .ok (.goto 5, 3) := dk_167 0 5 (dk_at dksX0_force_1 0 rfl rfl)
theorem dX0_force_26 : decode cX0_force 26 = .ok (.bipush (-2), 2) := dk_16 254 (dk_at dksX0_force_1 3 rfl rfl)
theorem dX0_force_28 : decode cX0_force 28 = .ok (.ireturn, 1) := dk_172 (dk_at dksX0_force_1 5 rfl rfl)
abbrev cX0_forceOf : ByteArray := prog_1_method_78_code
def yX0_forceOf : MethodName := ⟨RX0, "forceOf", "(II)I"⟩
def dkwX0_forceOf_5 : List UInt8 := [21, 4, 167, 0, 15, 28, 4, 160, 0, 8, 21, 5, 167, 0, 5, 21, 6, 172]
abbrev dktX0_forceOf_5 : List UInt8 := dkwX0_forceOf_5 ++ []
def dkwX0_forceOf_4 : List UInt8 := [21, 6, 54, 6, 132, 7, 1, 167, 255, 180, 42, 180, 0, 62, 27, 50, 29, 181, 0, 83, 28, 154, 0, 8]
abbrev dktX0_forceOf_4 : List UInt8 := dkwX0_forceOf_4 ++ dktX0_forceOf_5
def dkwX0_forceOf_3 : List UInt8 := [2, 160, 0, 8, 21, 7, 167, 0, 5, 21, 5, 54, 5, 21, 8, 153, 0, 8, 21, 7, 167, 0, 5]
abbrev dktX0_forceOf_3 : List UInt8 := dkwX0_forceOf_3 ++ dktX0_forceOf_4
def dkwX0_forceOf_2 : List UInt8 := [54, 8, 21, 4, 21, 8, 153, 0, 7, 4, 167, 0, 4, 3, 96, 54, 4, 21, 8, 153, 0, 14, 21, 5]
abbrev dktX0_forceOf_2 : List UInt8 := dkwX0_forceOf_2 ++ dktX0_forceOf_3
def dkwX0_forceOf_1 : List UInt8 := [54, 7, 21, 7, 16, 100, 162, 0, 75, 42, 180, 0, 62, 27, 50, 21, 7, 181, 0, 83, 42, 182, 1, 84]
abbrev dktX0_forceOf_1 : List UInt8 := dkwX0_forceOf_1 ++ dktX0_forceOf_2
def dkwX0_forceOf_0 : List UInt8 := [42, 182, 1, 17, 42, 180, 0, 62, 27, 50, 180, 0, 83, 62, 3, 54, 4, 2, 54, 5, 2, 54, 6, 3]
abbrev dktX0_forceOf_0 : List UInt8 := dkwX0_forceOf_0 ++ dktX0_forceOf_1
theorem dksX0_forceOf_0 : cX0_forceOf.data.toList.drop 0 = dktX0_forceOf_0 := by decide +kernel
theorem dksX0_forceOf_1 : cX0_forceOf.data.toList.drop 24 = dktX0_forceOf_1 := dk_seg dksX0_forceOf_0 24 rfl rfl
theorem dksX0_forceOf_2 : cX0_forceOf.data.toList.drop 48 = dktX0_forceOf_2 := dk_seg dksX0_forceOf_1 24 rfl rfl
theorem dksX0_forceOf_3 : cX0_forceOf.data.toList.drop 72 = dktX0_forceOf_3 := dk_seg dksX0_forceOf_2 24 rfl rfl
theorem dksX0_forceOf_4 : cX0_forceOf.data.toList.drop 95 = dktX0_forceOf_4 := dk_seg dksX0_forceOf_3 23 rfl rfl
theorem dksX0_forceOf_5 : cX0_forceOf.data.toList.drop 119 = dktX0_forceOf_5 := dk_seg dksX0_forceOf_4 24 rfl rfl
theorem dX0_forceOf_0 : decode cX0_forceOf 0 = .ok (.aload_n 0, 1) := dk_42 (dk_at dksX0_forceOf_0 0 rfl rfl)
theorem dX0_forceOf_1 : decode cX0_forceOf 1 = .ok (.invokevirtual 273, 3) := dk_182 1 17 (dk_at dksX0_forceOf_0 1 rfl rfl)
theorem dX0_forceOf_4 : decode cX0_forceOf 4 = .ok (.aload_n 0, 1) := dk_42 (dk_at dksX0_forceOf_0 4 rfl rfl)
theorem dX0_forceOf_5 : decode cX0_forceOf 5 = .ok (.getfield 62, 3) := dk_180 0 62 (dk_at dksX0_forceOf_0 5 rfl rfl)
theorem dX0_forceOf_8 : decode cX0_forceOf 8 = .ok (.iload_n 1, 1) := dk_27 (dk_at dksX0_forceOf_0 8 rfl rfl)
theorem dX0_forceOf_9 : decode cX0_forceOf 9 = .ok (.aaload, 1) := dk_50 (dk_at dksX0_forceOf_0 9 rfl rfl)
theorem dX0_forceOf_10 : decode cX0_forceOf 10 = .ok (.getfield 83, 3) := dk_180 0 83 (dk_at dksX0_forceOf_0 10 rfl rfl)
theorem dX0_forceOf_13 : decode cX0_forceOf 13 = .ok (.istore_n 3, 1) := dk_62 (dk_at dksX0_forceOf_0 13 rfl rfl)
theorem dX0_forceOf_14 : decode cX0_forceOf 14 = .ok (.iconst 0, 1) := dk_3 (dk_at dksX0_forceOf_0 14 rfl rfl)
theorem dX0_forceOf_15 : decode cX0_forceOf 15 = .ok (.istore 4, 2) := dk_54 4 (dk_at dksX0_forceOf_0 15 rfl rfl)
theorem dX0_forceOf_17 : decode cX0_forceOf 17 = .ok (.iconst (-1), 1) := dk_2 (dk_at dksX0_forceOf_0 17 rfl rfl)
theorem dX0_forceOf_18 : decode cX0_forceOf 18 = .ok (.istore 5, 2) := dk_54 5 (dk_at dksX0_forceOf_0 18 rfl rfl)
theorem dX0_forceOf_20 : decode cX0_forceOf 20 = .ok (.iconst (-1), 1) := dk_2 (dk_at dksX0_forceOf_0 20 rfl rfl)
theorem dX0_forceOf_21 : decode cX0_forceOf 21 = .ok (.istore 6, 2) := dk_54 6 (dk_at dksX0_forceOf_0 21 rfl rfl)
theorem dX0_forceOf_23 : decode cX0_forceOf 23 = .ok (.iconst 0, 1) := dk_3 (dk_at dksX0_forceOf_0 23 rfl rfl)
theorem dX0_forceOf_24 : decode cX0_forceOf 24 = .ok (.istore 7, 2) := dk_54 7 (dk_at dksX0_forceOf_1 0 rfl rfl)
theorem dX0_forceOf_26 : decode cX0_forceOf 26 = .ok (.iload 7, 2) := dk_21 7 (dk_at dksX0_forceOf_1 2 rfl rfl)
theorem dX0_forceOf_28 : decode cX0_forceOf 28 = .ok (.bipush 100, 2) := dk_16 100 (dk_at dksX0_forceOf_1 4 rfl rfl)
theorem dX0_forceOf_30 : decode cX0_forceOf 30 = .ok (.if_icmp .ge 75, 3) := dk_162 0 75 (dk_at dksX0_forceOf_1 6 rfl rfl)
theorem dX0_forceOf_33 : decode cX0_forceOf 33 = .ok (.aload_n 0, 1) := dk_42 (dk_at dksX0_forceOf_1 9 rfl rfl)
theorem dX0_forceOf_34 : decode cX0_forceOf 34 = .ok (.getfield 62, 3) := dk_180 0 62 (dk_at dksX0_forceOf_1 10 rfl rfl)
theorem dX0_forceOf_37 : decode cX0_forceOf 37 = .ok (.iload_n 1, 1) := dk_27 (dk_at dksX0_forceOf_1 13 rfl rfl)
theorem dX0_forceOf_38 : decode cX0_forceOf 38 = .ok (.aaload, 1) := dk_50 (dk_at dksX0_forceOf_1 14 rfl rfl)
theorem dX0_forceOf_39 : decode cX0_forceOf 39 = .ok (.iload 7, 2) := dk_21 7 (dk_at dksX0_forceOf_1 15 rfl rfl)
theorem dX0_forceOf_41 : decode cX0_forceOf 41 = .ok (.putfield 83, 3) := dk_181 0 83 (dk_at dksX0_forceOf_1 17 rfl rfl)
theorem dX0_forceOf_44 : decode cX0_forceOf 44 = .ok (.aload_n 0, 1) := dk_42 (dk_at dksX0_forceOf_1 20 rfl rfl)
theorem dX0_forceOf_45 : decode cX0_forceOf 45 = .ok (.invokevirtual 340, 3) := dk_182 1 84 (dk_at dksX0_forceOf_1 21 rfl rfl)
theorem dX0_forceOf_48 : decode cX0_forceOf 48 = .ok (.istore 8, 2) := dk_54 8 (dk_at dksX0_forceOf_2 0 rfl rfl)
theorem dX0_forceOf_50 : decode cX0_forceOf 50 = .ok (.iload 4, 2) := dk_21 4 (dk_at dksX0_forceOf_2 2 rfl rfl)
theorem dX0_forceOf_52 : decode cX0_forceOf 52 = .ok (.iload 8, 2) := dk_21 8 (dk_at dksX0_forceOf_2 4 rfl rfl)
theorem dX0_forceOf_54 : decode cX0_forceOf 54 = .ok (.ifCond .eq 7, 3) := dk_153 0 7 (dk_at dksX0_forceOf_2 6 rfl rfl)
theorem dX0_forceOf_57 : decode cX0_forceOf 57 = .ok (.iconst 1, 1) := dk_4 (dk_at dksX0_forceOf_2 9 rfl rfl)
theorem dX0_forceOf_58 : decode cX0_forceOf 58 = .ok (.goto 4, 3) := dk_167 0 4 (dk_at dksX0_forceOf_2 10 rfl rfl)
theorem dX0_forceOf_61 : decode cX0_forceOf 61 = .ok (.iconst 0, 1) := dk_3 (dk_at dksX0_forceOf_2 13 rfl rfl)
theorem dX0_forceOf_62 : decode cX0_forceOf 62 = .ok (.iadd, 1) := dk_96 (dk_at dksX0_forceOf_2 14 rfl rfl)
theorem dX0_forceOf_63 : decode cX0_forceOf 63 = .ok (.istore 4, 2) := dk_54 4 (dk_at dksX0_forceOf_2 15 rfl rfl)
theorem dX0_forceOf_65 : decode cX0_forceOf 65 = .ok (.iload 8, 2) := dk_21 8 (dk_at dksX0_forceOf_2 17 rfl rfl)
theorem dX0_forceOf_67 : decode cX0_forceOf 67 = .ok (.ifCond .eq 14, 3) := dk_153 0 14 (dk_at dksX0_forceOf_2 19 rfl rfl)
theorem dX0_forceOf_70 : decode cX0_forceOf 70 = .ok (.iload 5, 2) := dk_21 5 (dk_at dksX0_forceOf_2 22 rfl rfl)
theorem dX0_forceOf_72 : decode cX0_forceOf 72 = .ok (.iconst (-1), 1) := dk_2 (dk_at dksX0_forceOf_3 0 rfl rfl)
theorem dX0_forceOf_73 : decode cX0_forceOf 73 = .ok (.if_icmp .ne 8, 3) := dk_160 0 8 (dk_at dksX0_forceOf_3 1 rfl rfl)
theorem dX0_forceOf_76 : decode cX0_forceOf 76 = .ok (.iload 7, 2) := dk_21 7 (dk_at dksX0_forceOf_3 4 rfl rfl)
theorem dX0_forceOf_78 : decode cX0_forceOf 78 = .ok (.goto 5, 3) := dk_167 0 5 (dk_at dksX0_forceOf_3 6 rfl rfl)
theorem dX0_forceOf_81 : decode cX0_forceOf 81 = .ok (.iload 5, 2) := dk_21 5 (dk_at dksX0_forceOf_3 9 rfl rfl)
theorem dX0_forceOf_83 : decode cX0_forceOf 83 = .ok (.istore 5, 2) := dk_54 5 (dk_at dksX0_forceOf_3 11 rfl rfl)
theorem dX0_forceOf_85 : decode cX0_forceOf 85 = .ok (.iload 8, 2) := dk_21 8 (dk_at dksX0_forceOf_3 13 rfl rfl)
theorem dX0_forceOf_87 : decode cX0_forceOf 87 = .ok (.ifCond .eq 8, 3) := dk_153 0 8 (dk_at dksX0_forceOf_3 15 rfl rfl)
theorem dX0_forceOf_90 : decode cX0_forceOf 90 = .ok (.iload 7, 2) := dk_21 7 (dk_at dksX0_forceOf_3 18 rfl rfl)
theorem dX0_forceOf_92 : decode cX0_forceOf 92 = .ok (.goto 5, 3) := dk_167 0 5 (dk_at dksX0_forceOf_3 20 rfl rfl)
theorem dX0_forceOf_95 : decode cX0_forceOf 95 = .ok (.iload 6, 2) := dk_21 6 (dk_at dksX0_forceOf_4 0 rfl rfl)
theorem dX0_forceOf_97 : decode cX0_forceOf 97 = .ok (.istore 6, 2) := dk_54 6 (dk_at dksX0_forceOf_4 2 rfl rfl)
theorem dX0_forceOf_99 : decode cX0_forceOf 99 = .ok (.iinc 7 1, 3) := dk_132 7 1 (dk_at dksX0_forceOf_4 4 rfl rfl)
theorem dX0_forceOf_102 : decode cX0_forceOf 102 = .ok (.goto (-76), 3) := dk_167 255 180 (dk_at dksX0_forceOf_4 7 rfl rfl)
theorem dX0_forceOf_105 : decode cX0_forceOf 105 = .ok (.aload_n 0, 1) := dk_42 (dk_at dksX0_forceOf_4 10 rfl rfl)
theorem dX0_forceOf_106 : decode cX0_forceOf 106 = .ok (.getfield 62, 3) := dk_180 0 62 (dk_at dksX0_forceOf_4 11 rfl rfl)
theorem dX0_forceOf_109 : decode cX0_forceOf 109 = .ok (.iload_n 1, 1) := dk_27 (dk_at dksX0_forceOf_4 14 rfl rfl)
theorem dX0_forceOf_110 : decode cX0_forceOf 110 = .ok (.aaload, 1) := dk_50 (dk_at dksX0_forceOf_4 15 rfl rfl)
theorem dX0_forceOf_111 : decode cX0_forceOf 111 = .ok (.iload_n 3, 1) := dk_29 (dk_at dksX0_forceOf_4 16 rfl rfl)
theorem dX0_forceOf_112 : decode cX0_forceOf 112 = .ok (.putfield 83, 3) := dk_181 0 83 (dk_at dksX0_forceOf_4 17 rfl rfl)
theorem dX0_forceOf_115 : decode cX0_forceOf 115 = .ok (.iload_n 2, 1) := dk_28 (dk_at dksX0_forceOf_4 20 rfl rfl)
theorem dX0_forceOf_116 : decode cX0_forceOf 116 = .ok (.ifCond .ne 8, 3) := dk_154 0 8 (dk_at dksX0_forceOf_4 21 rfl rfl)
theorem dX0_forceOf_119 : decode cX0_forceOf 119 = .ok (.iload 4, 2) := dk_21 4 (dk_at dksX0_forceOf_5 0 rfl rfl)
theorem dX0_forceOf_121 : decode cX0_forceOf 121 = .ok (.goto 15, 3) := dk_167 0 15 (dk_at dksX0_forceOf_5 2 rfl rfl)
theorem dX0_forceOf_124 : decode cX0_forceOf 124 = .ok (.iload_n 2, 1) := dk_28 (dk_at dksX0_forceOf_5 5 rfl rfl)
theorem dX0_forceOf_125 : decode cX0_forceOf 125 = .ok (.iconst 1, 1) := dk_4 (dk_at dksX0_forceOf_5 6 rfl rfl)
theorem dX0_forceOf_126 : decode cX0_forceOf 126 = .ok (.if_icmp .ne 8, 3) := dk_160 0 8 (dk_at dksX0_forceOf_5 7 rfl rfl)
theorem dX0_forceOf_129 : decode cX0_forceOf 129 = .ok (.iload 5, 2) := dk_21 5 (dk_at dksX0_forceOf_5 10 rfl rfl)
theorem dX0_forceOf_131 : decode cX0_forceOf 131 = .ok (.goto 5, 3) := dk_167 0 5 (dk_at dksX0_forceOf_5 12 rfl rfl)
theorem dX0_forceOf_134 : decode cX0_forceOf 134 = .ok (.iload 6, 2) := dk_21 6 (dk_at dksX0_forceOf_5 15 rfl rfl)
theorem dX0_forceOf_136 : decode cX0_forceOf 136 = .ok (.ireturn, 1) := dk_172 (dk_at dksX0_forceOf_5 17 rfl rfl)
abbrev cX0_ask : ByteArray := prog_1_method_82_code
def yX0_ask : MethodName := ⟨RX0, "ask", "(I)I"⟩
def dkwX0_ask_0 : List UInt8 := [42, 27, 182, 0, 126, 153, 0, 11, 42, 27, 182, 1, 103, 167, 0, 5, 16, 254, 172]
abbrev dktX0_ask_0 : List UInt8 := dkwX0_ask_0 ++ []
theorem dksX0_ask_0 : cX0_ask.data.toList.drop 0 = dktX0_ask_0 := by decide +kernel
theorem dX0_ask_0 : decode cX0_ask 0 = .ok (.aload_n 0, 1) := dk_42 (dk_at dksX0_ask_0 0 rfl rfl)
theorem dX0_ask_1 : decode cX0_ask 1 = .ok (.iload_n 1, 1) := dk_27 (dk_at dksX0_ask_0 1 rfl rfl)
theorem dX0_ask_2 : decode cX0_ask 2 = .ok (.invokevirtual 126, 3) := dk_182 0 126 (dk_at dksX0_ask_0 2 rfl rfl)
theorem dX0_ask_5 : decode cX0_ask 5 = .ok (.ifCond .eq 11, 3) := dk_153 0 11 (dk_at dksX0_ask_0 5 rfl rfl)
theorem dX0_ask_8 : decode cX0_ask 8 = .ok (.aload_n 0, 1) := dk_42 (dk_at dksX0_ask_0 8 rfl rfl)
theorem dX0_ask_9 : decode cX0_ask 9 = .ok (.iload_n 1, 1) := dk_27 (dk_at dksX0_ask_0 9 rfl rfl)
theorem dX0_ask_10 : decode cX0_ask 10 = .ok (.invokevirtual 359, 3) := dk_182 1 103 (dk_at dksX0_ask_0 10 rfl rfl)
theorem dX0_ask_13 : decode cX0_ask 13 = .ok (.goto 5, 3) := dk_167 0 5 (dk_at dksX0_ask_0 13 rfl rfl)
theorem dX0_ask_16 : decode cX0_ask 16 = .ok (.bipush (-2), 2) := dk_16 254 (dk_at dksX0_ask_0 16 rfl rfl)
theorem dX0_ask_18 : decode cX0_ask 18 = .ok (.ireturn, 1) := dk_172 (dk_at dksX0_ask_0 18 rfl rfl)
abbrev cX0_askOf : ByteArray := prog_1_method_81_code
def yX0_askOf : MethodName := ⟨RX0, "askOf", "(I)I"⟩
def dkwX0_askOf_2 : List UInt8 := [167, 255, 223, 29, 172]
abbrev dktX0_askOf_2 : List UInt8 := dkwX0_askOf_2 ++ []
def dkwX0_askOf_1 : List UInt8 := [182, 1, 100, 42, 28, 29, 182, 1, 100, 162, 0, 8, 21, 4, 167, 0, 4, 29, 62, 132, 4, 1]
abbrev dktX0_askOf_1 : List UInt8 := dkwX0_askOf_1 ++ dktX0_askOf_2
def dkwX0_askOf_0 : List UInt8 := [42, 27, 182, 1, 94, 61, 3, 62, 4, 54, 4, 21, 4, 16, 40, 162, 0, 32, 42, 28, 21, 4]
abbrev dktX0_askOf_0 : List UInt8 := dkwX0_askOf_0 ++ dktX0_askOf_1
theorem dksX0_askOf_0 : cX0_askOf.data.toList.drop 0 = dktX0_askOf_0 := by decide +kernel
theorem dksX0_askOf_1 : cX0_askOf.data.toList.drop 22 = dktX0_askOf_1 := dk_seg dksX0_askOf_0 22 rfl rfl
theorem dksX0_askOf_2 : cX0_askOf.data.toList.drop 44 = dktX0_askOf_2 := dk_seg dksX0_askOf_1 22 rfl rfl
theorem dX0_askOf_0 : decode cX0_askOf 0 = .ok (.aload_n 0, 1) := dk_42 (dk_at dksX0_askOf_0 0 rfl rfl)
theorem dX0_askOf_1 : decode cX0_askOf 1 = .ok (.iload_n 1, 1) := dk_27 (dk_at dksX0_askOf_0 1 rfl rfl)
theorem dX0_askOf_2 : decode cX0_askOf 2 = .ok (.invokevirtual 350, 3) := dk_182 1 94 (dk_at dksX0_askOf_0 2 rfl rfl)
theorem dX0_askOf_5 : decode cX0_askOf 5 = .ok (.istore_n 2, 1) := dk_61 (dk_at dksX0_askOf_0 5 rfl rfl)
theorem dX0_askOf_6 : decode cX0_askOf 6 = .ok (.iconst 0, 1) := dk_3 (dk_at dksX0_askOf_0 6 rfl rfl)
theorem dX0_askOf_7 : decode cX0_askOf 7 = .ok (.istore_n 3, 1) := dk_62 (dk_at dksX0_askOf_0 7 rfl rfl)
theorem dX0_askOf_8 : decode cX0_askOf 8 = .ok (.iconst 1, 1) := dk_4 (dk_at dksX0_askOf_0 8 rfl rfl)
theorem dX0_askOf_9 : decode cX0_askOf 9 = .ok (.istore 4, 2) := dk_54 4 (dk_at dksX0_askOf_0 9 rfl rfl)
theorem dX0_askOf_11 : decode cX0_askOf 11 = .ok (.iload 4, 2) := dk_21 4 (dk_at dksX0_askOf_0 11 rfl rfl)
theorem dX0_askOf_13 : decode cX0_askOf 13 = .ok (.bipush 40, 2) := dk_16 40 (dk_at dksX0_askOf_0 13 rfl rfl)
theorem dX0_askOf_15 : decode cX0_askOf 15 = .ok (.if_icmp .ge 32, 3) := dk_162 0 32 (dk_at dksX0_askOf_0 15 rfl rfl)
theorem dX0_askOf_18 : decode cX0_askOf 18 = .ok (.aload_n 0, 1) := dk_42 (dk_at dksX0_askOf_0 18 rfl rfl)
theorem dX0_askOf_19 : decode cX0_askOf 19 = .ok (.iload_n 2, 1) := dk_28 (dk_at dksX0_askOf_0 19 rfl rfl)
theorem dX0_askOf_20 : decode cX0_askOf 20 = .ok (.iload 4, 2) := dk_21 4 (dk_at dksX0_askOf_0 20 rfl rfl)
theorem dX0_askOf_22 : decode cX0_askOf 22 = .ok (.invokevirtual 356, 3) := dk_182 1 100 (dk_at dksX0_askOf_1 0 rfl rfl)
theorem dX0_askOf_25 : decode cX0_askOf 25 = .ok (.aload_n 0, 1) := dk_42 (dk_at dksX0_askOf_1 3 rfl rfl)
theorem dX0_askOf_26 : decode cX0_askOf 26 = .ok (.iload_n 2, 1) := dk_28 (dk_at dksX0_askOf_1 4 rfl rfl)
theorem dX0_askOf_27 : decode cX0_askOf 27 = .ok (.iload_n 3, 1) := dk_29 (dk_at dksX0_askOf_1 5 rfl rfl)
theorem dX0_askOf_28 : decode cX0_askOf 28 = .ok (.invokevirtual 356, 3) := dk_182 1 100 (dk_at dksX0_askOf_1 6 rfl rfl)
theorem dX0_askOf_31 : decode cX0_askOf 31 = .ok (.if_icmp .ge 8, 3) := dk_162 0 8 (dk_at dksX0_askOf_1 9 rfl rfl)
theorem dX0_askOf_34 : decode cX0_askOf 34 = .ok (.iload 4, 2) := dk_21 4 (dk_at dksX0_askOf_1 12 rfl rfl)
theorem dX0_askOf_36 : decode cX0_askOf 36 = .ok (.goto 4, 3) := dk_167 0 4 (dk_at dksX0_askOf_1 14 rfl rfl)
theorem dX0_askOf_39 : decode cX0_askOf 39 = .ok (.iload_n 3, 1) := dk_29 (dk_at dksX0_askOf_1 17 rfl rfl)
theorem dX0_askOf_40 : decode cX0_askOf 40 = .ok (.istore_n 3, 1) := dk_62 (dk_at dksX0_askOf_1 18 rfl rfl)
theorem dX0_askOf_41 : decode cX0_askOf 41 = .ok (.iinc 4 1, 3) := dk_132 4 1 (dk_at dksX0_askOf_1 19 rfl rfl)
theorem dX0_askOf_44 : decode cX0_askOf 44 = .ok (.goto (-33), 3) := dk_167 255 223 (dk_at dksX0_askOf_2 0 rfl rfl)
theorem dX0_askOf_47 : decode cX0_askOf 47 = .ok (.iload_n 3, 1) := dk_29 (dk_at dksX0_askOf_2 3 rfl rfl)
theorem dX0_askOf_48 : decode cX0_askOf 48 = .ok (.ireturn, 1) := dk_172 (dk_at dksX0_askOf_2 4 rfl rfl)
abbrev cX0_mostAlike : ByteArray := prog_1_method_80_code
def yX0_mostAlike : MethodName := ⟨RX0, "mostAlike", "(II)I"⟩
def dkwX0_mostAlike_3 : List UInt8 := [54, 5, 132, 6, 1, 167, 255, 198, 29, 21, 5, 184, 1, 60, 62, 132, 4, 1, 167, 255, 173, 29, 172]
abbrev dktX0_mostAlike_3 : List UInt8 := dkwX0_mostAlike_3 ++ []
def dkwX0_mostAlike_2 : List UInt8 := [21, 4, 50, 28, 46, 42, 180, 1, 91, 21, 6, 50, 28, 46, 160, 0, 7, 4, 167, 0, 4, 3, 96]
abbrev dktX0_mostAlike_2 : List UInt8 := dkwX0_mostAlike_2 ++ dktX0_mostAlike_3
def dkwX0_mostAlike_1 : List UInt8 := [21, 5, 27, 21, 4, 184, 0, 206, 153, 0, 37, 27, 21, 6, 184, 0, 206, 153, 0, 28, 42, 180, 1, 91]
abbrev dktX0_mostAlike_1 : List UInt8 := dkwX0_mostAlike_1 ++ dktX0_mostAlike_2
def dkwX0_mostAlike_0 : List UInt8 := [3, 62, 3, 54, 4, 21, 4, 6, 162, 0, 83, 3, 54, 5, 3, 54, 6, 21, 6, 6, 162, 0, 58]
abbrev dktX0_mostAlike_0 : List UInt8 := dkwX0_mostAlike_0 ++ dktX0_mostAlike_1
theorem dksX0_mostAlike_0 : cX0_mostAlike.data.toList.drop 0 = dktX0_mostAlike_0 := by decide +kernel
theorem dksX0_mostAlike_1 : cX0_mostAlike.data.toList.drop 23 = dktX0_mostAlike_1 := dk_seg dksX0_mostAlike_0 23 rfl rfl
theorem dksX0_mostAlike_2 : cX0_mostAlike.data.toList.drop 47 = dktX0_mostAlike_2 := dk_seg dksX0_mostAlike_1 24 rfl rfl
theorem dksX0_mostAlike_3 : cX0_mostAlike.data.toList.drop 70 = dktX0_mostAlike_3 := dk_seg dksX0_mostAlike_2 23 rfl rfl
theorem dX0_mostAlike_0 : decode cX0_mostAlike 0 = .ok (.iconst 0, 1) := dk_3 (dk_at dksX0_mostAlike_0 0 rfl rfl)
theorem dX0_mostAlike_1 : decode cX0_mostAlike 1 = .ok (.istore_n 3, 1) := dk_62 (dk_at dksX0_mostAlike_0 1 rfl rfl)
theorem dX0_mostAlike_2 : decode cX0_mostAlike 2 = .ok (.iconst 0, 1) := dk_3 (dk_at dksX0_mostAlike_0 2 rfl rfl)
theorem dX0_mostAlike_3 : decode cX0_mostAlike 3 = .ok (.istore 4, 2) := dk_54 4 (dk_at dksX0_mostAlike_0 3 rfl rfl)
theorem dX0_mostAlike_5 : decode cX0_mostAlike 5 = .ok (.iload 4, 2) := dk_21 4 (dk_at dksX0_mostAlike_0 5 rfl rfl)
theorem dX0_mostAlike_7 : decode cX0_mostAlike 7 = .ok (.iconst 3, 1) := dk_6 (dk_at dksX0_mostAlike_0 7 rfl rfl)
theorem dX0_mostAlike_8 : decode cX0_mostAlike 8 = .ok (.if_icmp .ge 83, 3) := dk_162 0 83 (dk_at dksX0_mostAlike_0 8 rfl rfl)
theorem dX0_mostAlike_11 : decode cX0_mostAlike 11 = .ok (.iconst 0, 1) := dk_3 (dk_at dksX0_mostAlike_0 11 rfl rfl)
theorem dX0_mostAlike_12 : decode cX0_mostAlike 12 = .ok (.istore 5, 2) := dk_54 5 (dk_at dksX0_mostAlike_0 12 rfl rfl)
theorem dX0_mostAlike_14 : decode cX0_mostAlike 14 = .ok (.iconst 0, 1) := dk_3 (dk_at dksX0_mostAlike_0 14 rfl rfl)
theorem dX0_mostAlike_15 : decode cX0_mostAlike 15 = .ok (.istore 6, 2) := dk_54 6 (dk_at dksX0_mostAlike_0 15 rfl rfl)
theorem dX0_mostAlike_17 : decode cX0_mostAlike 17 = .ok (.iload 6, 2) := dk_21 6 (dk_at dksX0_mostAlike_0 17 rfl rfl)
theorem dX0_mostAlike_19 : decode cX0_mostAlike 19 = .ok (.iconst 3, 1) := dk_6 (dk_at dksX0_mostAlike_0 19 rfl rfl)
theorem dX0_mostAlike_20 : decode cX0_mostAlike 20 = .ok (.if_icmp .ge 58, 3) := dk_162 0 58 (dk_at dksX0_mostAlike_0 20 rfl rfl)
theorem dX0_mostAlike_23 : decode cX0_mostAlike 23 = .ok (.iload 5, 2) := dk_21 5 (dk_at dksX0_mostAlike_1 0 rfl rfl)
theorem dX0_mostAlike_25 : decode cX0_mostAlike 25 = .ok (.iload_n 1, 1) := dk_27 (dk_at dksX0_mostAlike_1 2 rfl rfl)
theorem dX0_mostAlike_26 : decode cX0_mostAlike 26 = .ok (.iload 4, 2) := dk_21 4 (dk_at dksX0_mostAlike_1 3 rfl rfl)
theorem dX0_mostAlike_28 : decode cX0_mostAlike 28 = .ok (.invokestatic 206, 3) := dk_184 0 206 (dk_at dksX0_mostAlike_1 5 rfl rfl)
theorem dX0_mostAlike_31 : decode cX0_mostAlike 31 = .ok (.ifCond .eq 37, 3) := dk_153 0 37 (dk_at dksX0_mostAlike_1 8 rfl rfl)
theorem dX0_mostAlike_34 : decode cX0_mostAlike 34 = .ok (.iload_n 1, 1) := dk_27 (dk_at dksX0_mostAlike_1 11 rfl rfl)
theorem dX0_mostAlike_35 : decode cX0_mostAlike 35 = .ok (.iload 6, 2) := dk_21 6 (dk_at dksX0_mostAlike_1 12 rfl rfl)
theorem dX0_mostAlike_37 : decode cX0_mostAlike 37 = .ok (.invokestatic 206, 3) := dk_184 0 206 (dk_at dksX0_mostAlike_1 14 rfl rfl)
theorem dX0_mostAlike_40 : decode cX0_mostAlike 40 = .ok (.ifCond .eq 28, 3) := dk_153 0 28 (dk_at dksX0_mostAlike_1 17 rfl rfl)
theorem dX0_mostAlike_43 : decode cX0_mostAlike 43 = .ok (.aload_n 0, 1) := dk_42 (dk_at dksX0_mostAlike_1 20 rfl rfl)
theorem dX0_mostAlike_44 : decode cX0_mostAlike 44 = .ok (.getfield 347, 3) := dk_180 1 91 (dk_at dksX0_mostAlike_1 21 rfl rfl)
theorem dX0_mostAlike_47 : decode cX0_mostAlike 47 = .ok (.iload 4, 2) := dk_21 4 (dk_at dksX0_mostAlike_2 0 rfl rfl)
theorem dX0_mostAlike_49 : decode cX0_mostAlike 49 = .ok (.aaload, 1) := dk_50 (dk_at dksX0_mostAlike_2 2 rfl rfl)
theorem dX0_mostAlike_50 : decode cX0_mostAlike 50 = .ok (.iload_n 2, 1) := dk_28 (dk_at dksX0_mostAlike_2 3 rfl rfl)
theorem dX0_mostAlike_51 : decode cX0_mostAlike 51 = .ok (.iaload, 1) := dk_46 (dk_at dksX0_mostAlike_2 4 rfl rfl)
theorem dX0_mostAlike_52 : decode cX0_mostAlike 52 = .ok (.aload_n 0, 1) := dk_42 (dk_at dksX0_mostAlike_2 5 rfl rfl)
theorem dX0_mostAlike_53 : decode cX0_mostAlike 53 = .ok (.getfield 347, 3) := dk_180 1 91 (dk_at dksX0_mostAlike_2 6 rfl rfl)
theorem dX0_mostAlike_56 : decode cX0_mostAlike 56 = .ok (.iload 6, 2) := dk_21 6 (dk_at dksX0_mostAlike_2 9 rfl rfl)
theorem dX0_mostAlike_58 : decode cX0_mostAlike 58 = .ok (.aaload, 1) := dk_50 (dk_at dksX0_mostAlike_2 11 rfl rfl)
theorem dX0_mostAlike_59 : decode cX0_mostAlike 59 = .ok (.iload_n 2, 1) := dk_28 (dk_at dksX0_mostAlike_2 12 rfl rfl)
theorem dX0_mostAlike_60 : decode cX0_mostAlike 60 = .ok (.iaload, 1) := dk_46 (dk_at dksX0_mostAlike_2 13 rfl rfl)
theorem dX0_mostAlike_61 : decode cX0_mostAlike 61 = .ok (.if_icmp .ne 7, 3) := dk_160 0 7 (dk_at dksX0_mostAlike_2 14 rfl rfl)
theorem dX0_mostAlike_64 : decode cX0_mostAlike 64 = .ok (.iconst 1, 1) := dk_4 (dk_at dksX0_mostAlike_2 17 rfl rfl)
theorem dX0_mostAlike_65 : decode cX0_mostAlike 65 = .ok (.goto 4, 3) := dk_167 0 4 (dk_at dksX0_mostAlike_2 18 rfl rfl)
theorem dX0_mostAlike_68 : decode cX0_mostAlike 68 = .ok (.iconst 0, 1) := dk_3 (dk_at dksX0_mostAlike_2 21 rfl rfl)
theorem dX0_mostAlike_69 : decode cX0_mostAlike 69 = .ok (.iadd, 1) := dk_96 (dk_at dksX0_mostAlike_2 22 rfl rfl)
theorem dX0_mostAlike_70 : decode cX0_mostAlike 70 = .ok (.istore 5, 2) := dk_54 5 (dk_at dksX0_mostAlike_3 0 rfl rfl)
theorem dX0_mostAlike_72 : decode cX0_mostAlike 72 = .ok (.iinc 6 1, 3) := dk_132 6 1 (dk_at dksX0_mostAlike_3 2 rfl rfl)
theorem dX0_mostAlike_75 : decode cX0_mostAlike 75 = .ok (.goto (-58), 3) := dk_167 255 198 (dk_at dksX0_mostAlike_3 5 rfl rfl)
theorem dX0_mostAlike_78 : decode cX0_mostAlike 78 = .ok (.iload_n 3, 1) := dk_29 (dk_at dksX0_mostAlike_3 8 rfl rfl)
theorem dX0_mostAlike_79 : decode cX0_mostAlike 79 = .ok (.iload 5, 2) := dk_21 5 (dk_at dksX0_mostAlike_3 9 rfl rfl)
theorem dX0_mostAlike_81 : decode cX0_mostAlike 81 = .ok (.invokestatic 316, 3) := dk_184 1 60 (dk_at dksX0_mostAlike_3 11 rfl rfl)
theorem dX0_mostAlike_84 : decode cX0_mostAlike 84 = .ok (.istore_n 3, 1) := dk_62 (dk_at dksX0_mostAlike_3 14 rfl rfl)
theorem dX0_mostAlike_85 : decode cX0_mostAlike 85 = .ok (.iinc 4 1, 3) := dk_132 4 1 (dk_at dksX0_mostAlike_3 15 rfl rfl)
theorem dX0_mostAlike_88 : decode cX0_mostAlike 88 = .ok (.goto (-83), 3) := dk_167 255 173 (dk_at dksX0_mostAlike_3 18 rfl rfl)
theorem dX0_mostAlike_91 : decode cX0_mostAlike 91 = .ok (.iload_n 3, 1) := dk_29 (dk_at dksX0_mostAlike_3 21 rfl rfl)
theorem dX0_mostAlike_92 : decode cX0_mostAlike 92 = .ok (.ireturn, 1) := dk_172 (dk_at dksX0_mostAlike_3 22 rfl rfl)
abbrev cX0_rumour : ByteArray := prog_1_method_84_code
def yX0_rumour : MethodName := ⟨RX0, "rumour", "(III)J"⟩
def dkwX0_rumour_1 : List UInt8 := [153, 0, 13, 42, 27, 28, 29, 182, 1, 110, 167, 0, 8, 16, 254, 184, 1, 114, 173]
abbrev dktX0_rumour_1 : List UInt8 := dkwX0_rumour_1 ++ []
def dkwX0_rumour_0 : List UInt8 := [27, 3, 16, 16, 184, 0, 5, 153, 0, 28, 42, 28, 182, 0, 126, 153, 0, 20, 29, 184, 1, 38]
abbrev dktX0_rumour_0 : List UInt8 := dkwX0_rumour_0 ++ dktX0_rumour_1
theorem dksX0_rumour_0 : cX0_rumour.data.toList.drop 0 = dktX0_rumour_0 := by decide +kernel
theorem dksX0_rumour_1 : cX0_rumour.data.toList.drop 22 = dktX0_rumour_1 := dk_seg dksX0_rumour_0 22 rfl rfl
theorem dX0_rumour_0 : decode cX0_rumour 0 = .ok (.iload_n 1, 1) := dk_27 (dk_at dksX0_rumour_0 0 rfl rfl)
theorem dX0_rumour_1 : decode cX0_rumour 1 = .ok (.iconst 0, 1) := dk_3 (dk_at dksX0_rumour_0 1 rfl rfl)
theorem dX0_rumour_2 : decode cX0_rumour 2 = .ok (.bipush 16, 2) := dk_16 16 (dk_at dksX0_rumour_0 2 rfl rfl)
theorem dX0_rumour_4 : decode cX0_rumour 4 = .ok (.invokestatic 5, 3) := dk_184 0 5 (dk_at dksX0_rumour_0 4 rfl rfl)
theorem dX0_rumour_7 : decode cX0_rumour 7 = .ok (.ifCond .eq 28, 3) := dk_153 0 28 (dk_at dksX0_rumour_0 7 rfl rfl)
theorem dX0_rumour_10 : decode cX0_rumour 10 = .ok (.aload_n 0, 1) := dk_42 (dk_at dksX0_rumour_0 10 rfl rfl)
theorem dX0_rumour_11 : decode cX0_rumour 11 = .ok (.iload_n 2, 1) := dk_28 (dk_at dksX0_rumour_0 11 rfl rfl)
theorem dX0_rumour_12 : decode cX0_rumour 12 = .ok (.invokevirtual 126, 3) := dk_182 0 126 (dk_at dksX0_rumour_0 12 rfl rfl)
theorem dX0_rumour_15 : decode cX0_rumour 15 = .ok (.ifCond .eq 20, 3) := dk_153 0 20 (dk_at dksX0_rumour_0 15 rfl rfl)
theorem dX0_rumour_18 : decode cX0_rumour 18 = .ok (.iload_n 3, 1) := dk_29 (dk_at dksX0_rumour_0 18 rfl rfl)
theorem dX0_rumour_19 : decode cX0_rumour 19 = .ok (.invokestatic 294, 3) := dk_184 1 38 (dk_at dksX0_rumour_0 19 rfl rfl)
theorem dX0_rumour_22 : decode cX0_rumour 22 = .ok (.ifCond .eq 13, 3) := dk_153 0 13 (dk_at dksX0_rumour_1 0 rfl rfl)
theorem dX0_rumour_25 : decode cX0_rumour 25 = .ok (.aload_n 0, 1) := dk_42 (dk_at dksX0_rumour_1 3 rfl rfl)
theorem dX0_rumour_26 : decode cX0_rumour 26 = .ok (.iload_n 1, 1) := dk_27 (dk_at dksX0_rumour_1 4 rfl rfl)
theorem dX0_rumour_27 : decode cX0_rumour 27 = .ok (.iload_n 2, 1) := dk_28 (dk_at dksX0_rumour_1 5 rfl rfl)
theorem dX0_rumour_28 : decode cX0_rumour 28 = .ok (.iload_n 3, 1) := dk_29 (dk_at dksX0_rumour_1 6 rfl rfl)
theorem dX0_rumour_29 : decode cX0_rumour 29 = .ok (.invokevirtual 366, 3) := dk_182 1 110 (dk_at dksX0_rumour_1 7 rfl rfl)
theorem dX0_rumour_32 : decode cX0_rumour 32 = .ok (.goto 8, 3) := dk_167 0 8 (dk_at dksX0_rumour_1 10 rfl rfl)
theorem dX0_rumour_35 : decode cX0_rumour 35 = .ok (.bipush (-2), 2) := dk_16 254 (dk_at dksX0_rumour_1 13 rfl rfl)
theorem dX0_rumour_37 : decode cX0_rumour 37 = .ok (.invokestatic 370, 3) := dk_184 1 114 (dk_at dksX0_rumour_1 15 rfl rfl)
theorem dX0_rumour_40 : decode cX0_rumour 40 = .ok (.lreturn, 1) := dk_173 (dk_at dksX0_rumour_1 18 rfl rfl)
abbrev cX0_rumourOf : ByteArray := prog_1_method_83_code
def yX0_rumourOf : MethodName := ⟨RX0, "rumourOf", "(III)J"⟩
def dkwX0_rumourOf_5 : List UInt8 := [10, 7, 42, 180, 0, 141, 104, 121, 29, 184, 1, 106, 173]
abbrev dktX0_rumourOf_5 : List UInt8 := dkwX0_rumourOf_5 ++ []
def dkwX0_rumourOf_4 : List UInt8 := [180, 0, 221, 5, 160, 0, 8, 22, 7, 167, 0, 4, 9, 97, 55, 4, 132, 6, 1, 167, 255, 153, 22, 4]
abbrev dktX0_rumourOf_4 : List UInt8 := dkwX0_rumourOf_4 ++ dktX0_rumourOf_5
def dkwX0_rumourOf_3 : List UInt8 := [158, 0, 39, 42, 21, 6, 181, 0, 203, 42, 16, 39, 182, 1, 20, 22, 4, 42, 180, 0, 62, 28, 50]
abbrev dktX0_rumourOf_3 : List UInt8 := dkwX0_rumourOf_3 ++ dktX0_rumourOf_4
def dkwX0_rumourOf_2 : List UInt8 := [16, 16, 27, 100, 133, 167, 0, 5, 27, 133, 105, 55, 7, 132, 9, 1, 167, 255, 219, 22, 7, 9, 148]
abbrev dktX0_rumourOf_2 : List UInt8 := dkwX0_rumourOf_2 ++ dktX0_rumourOf_3
def dkwX0_rumourOf_1 : List UInt8 := [3, 54, 9, 21, 9, 42, 180, 0, 141, 162, 0, 34, 22, 7, 21, 6, 21, 9, 184, 0, 206, 153, 0, 11]
abbrev dktX0_rumourOf_1 : List UInt8 := dkwX0_rumourOf_1 ++ dktX0_rumourOf_2
def dkwX0_rumourOf_0 : List UInt8 := [42, 182, 1, 17, 9, 55, 4, 3, 54, 6, 21, 6, 4, 42, 180, 0, 141, 120, 162, 0, 98, 10, 55, 7]
abbrev dktX0_rumourOf_0 : List UInt8 := dkwX0_rumourOf_0 ++ dktX0_rumourOf_1
theorem dksX0_rumourOf_0 : cX0_rumourOf.data.toList.drop 0 = dktX0_rumourOf_0 := by decide +kernel
theorem dksX0_rumourOf_1 : cX0_rumourOf.data.toList.drop 24 = dktX0_rumourOf_1 := dk_seg dksX0_rumourOf_0 24 rfl rfl
theorem dksX0_rumourOf_2 : cX0_rumourOf.data.toList.drop 48 = dktX0_rumourOf_2 := dk_seg dksX0_rumourOf_1 24 rfl rfl
theorem dksX0_rumourOf_3 : cX0_rumourOf.data.toList.drop 71 = dktX0_rumourOf_3 := dk_seg dksX0_rumourOf_2 23 rfl rfl
theorem dksX0_rumourOf_4 : cX0_rumourOf.data.toList.drop 94 = dktX0_rumourOf_4 := dk_seg dksX0_rumourOf_3 23 rfl rfl
theorem dksX0_rumourOf_5 : cX0_rumourOf.data.toList.drop 118 = dktX0_rumourOf_5 := dk_seg dksX0_rumourOf_4 24 rfl rfl
theorem dX0_rumourOf_0 : decode cX0_rumourOf 0 = .ok (.aload_n 0, 1) := dk_42 (dk_at dksX0_rumourOf_0 0 rfl rfl)
theorem dX0_rumourOf_1 : decode cX0_rumourOf 1 = .ok (.invokevirtual 273, 3) := dk_182 1 17 (dk_at dksX0_rumourOf_0 1 rfl rfl)
theorem dX0_rumourOf_4 : decode cX0_rumourOf 4 = .ok (.lconst 0, 1) := dk_9 (dk_at dksX0_rumourOf_0 4 rfl rfl)
theorem dX0_rumourOf_5 : decode cX0_rumourOf 5 = .ok (.lstore 4, 2) := dk_55 4 (dk_at dksX0_rumourOf_0 5 rfl rfl)
theorem dX0_rumourOf_7 : decode cX0_rumourOf 7 = .ok (.iconst 0, 1) := dk_3 (dk_at dksX0_rumourOf_0 7 rfl rfl)
theorem dX0_rumourOf_8 : decode cX0_rumourOf 8 = .ok (.istore 6, 2) := dk_54 6 (dk_at dksX0_rumourOf_0 8 rfl rfl)
theorem dX0_rumourOf_10 : decode cX0_rumourOf 10 = .ok (.iload 6, 2) := dk_21 6 (dk_at dksX0_rumourOf_0 10 rfl rfl)
theorem dX0_rumourOf_12 : decode cX0_rumourOf 12 = .ok (.iconst 1, 1) := dk_4 (dk_at dksX0_rumourOf_0 12 rfl rfl)
theorem dX0_rumourOf_13 : decode cX0_rumourOf 13 = .ok (.aload_n 0, 1) := dk_42 (dk_at dksX0_rumourOf_0 13 rfl rfl)
theorem dX0_rumourOf_14 : decode cX0_rumourOf 14 = .ok (.getfield 141, 3) := dk_180 0 141 (dk_at dksX0_rumourOf_0 14 rfl rfl)
theorem dX0_rumourOf_17 : decode cX0_rumourOf 17 = .ok (.ishl, 1) := dk_120 (dk_at dksX0_rumourOf_0 17 rfl rfl)
theorem dX0_rumourOf_18 : decode cX0_rumourOf 18 = .ok (.if_icmp .ge 98, 3) := dk_162 0 98 (dk_at dksX0_rumourOf_0 18 rfl rfl)
theorem dX0_rumourOf_21 : decode cX0_rumourOf 21 = .ok (.lconst 1, 1) := dk_10 (dk_at dksX0_rumourOf_0 21 rfl rfl)
theorem dX0_rumourOf_22 : decode cX0_rumourOf 22 = .ok (.lstore 7, 2) := dk_55 7 (dk_at dksX0_rumourOf_0 22 rfl rfl)
theorem dX0_rumourOf_24 : decode cX0_rumourOf 24 = .ok (.iconst 0, 1) := dk_3 (dk_at dksX0_rumourOf_1 0 rfl rfl)
theorem dX0_rumourOf_25 : decode cX0_rumourOf 25 = .ok (.istore 9, 2) := dk_54 9 (dk_at dksX0_rumourOf_1 1 rfl rfl)
theorem dX0_rumourOf_27 : decode cX0_rumourOf 27 = .ok (.iload 9, 2) := dk_21 9 (dk_at dksX0_rumourOf_1 3 rfl rfl)
theorem dX0_rumourOf_29 : decode cX0_rumourOf 29 = .ok (.aload_n 0, 1) := dk_42 (dk_at dksX0_rumourOf_1 5 rfl rfl)
theorem dX0_rumourOf_30 : decode cX0_rumourOf 30 = .ok (.getfield 141, 3) := dk_180 0 141 (dk_at dksX0_rumourOf_1 6 rfl rfl)
theorem dX0_rumourOf_33 : decode cX0_rumourOf 33 = .ok (.if_icmp .ge 34, 3) := dk_162 0 34 (dk_at dksX0_rumourOf_1 9 rfl rfl)
theorem dX0_rumourOf_36 : decode cX0_rumourOf 36 = .ok (.lload 7, 2) := dk_22 7 (dk_at dksX0_rumourOf_1 12 rfl rfl)
theorem dX0_rumourOf_38 : decode cX0_rumourOf 38 = .ok (.iload 6, 2) := dk_21 6 (dk_at dksX0_rumourOf_1 14 rfl rfl)
theorem dX0_rumourOf_40 : decode cX0_rumourOf 40 = .ok (.iload 9, 2) := dk_21 9 (dk_at dksX0_rumourOf_1 16 rfl rfl)
theorem dX0_rumourOf_42 : decode cX0_rumourOf 42 = .ok (.invokestatic 206, 3) := dk_184 0 206 (dk_at dksX0_rumourOf_1 18 rfl rfl)
theorem dX0_rumourOf_45 : decode cX0_rumourOf 45 = .ok (.ifCond .eq 11, 3) := dk_153 0 11 (dk_at dksX0_rumourOf_1 21 rfl rfl)
theorem dX0_rumourOf_48 : decode cX0_rumourOf 48 = .ok (.bipush 16, 2) := dk_16 16 (dk_at dksX0_rumourOf_2 0 rfl rfl)
theorem dX0_rumourOf_50 : decode cX0_rumourOf 50 = .ok (.iload_n 1, 1) := dk_27 (dk_at dksX0_rumourOf_2 2 rfl rfl)
theorem dX0_rumourOf_51 : decode cX0_rumourOf 51 = .ok (.isub, 1) := dk_100 (dk_at dksX0_rumourOf_2 3 rfl rfl)
theorem dX0_rumourOf_52 : decode cX0_rumourOf 52 = .ok (.i2l, 1) := dk_133 (dk_at dksX0_rumourOf_2 4 rfl rfl)
theorem dX0_rumourOf_53 : decode cX0_rumourOf 53 = .ok (.goto 5, 3) := dk_167 0 5 (dk_at dksX0_rumourOf_2 5 rfl rfl)
theorem dX0_rumourOf_56 : decode cX0_rumourOf 56 = .ok (.iload_n 1, 1) := dk_27 (dk_at dksX0_rumourOf_2 8 rfl rfl)
theorem dX0_rumourOf_57 : decode cX0_rumourOf 57 = .ok (.i2l, 1) := dk_133 (dk_at dksX0_rumourOf_2 9 rfl rfl)
theorem dX0_rumourOf_58 : decode cX0_rumourOf 58 = .ok (.lmul, 1) := dk_105 (dk_at dksX0_rumourOf_2 10 rfl rfl)
theorem dX0_rumourOf_59 : decode cX0_rumourOf 59 = .ok (.lstore 7, 2) := dk_55 7 (dk_at dksX0_rumourOf_2 11 rfl rfl)
theorem dX0_rumourOf_61 : decode cX0_rumourOf 61 = .ok (.iinc 9 1, 3) := dk_132 9 1 (dk_at dksX0_rumourOf_2 13 rfl rfl)
theorem dX0_rumourOf_64 : decode cX0_rumourOf 64 = .ok (.goto (-37), 3) := dk_167 255 219 (dk_at dksX0_rumourOf_2 16 rfl rfl)
theorem dX0_rumourOf_67 : decode cX0_rumourOf 67 = .ok (.lload 7, 2) := dk_22 7 (dk_at dksX0_rumourOf_2 19 rfl rfl)
theorem dX0_rumourOf_69 : decode cX0_rumourOf 69 = .ok (.lconst 0, 1) := dk_9 (dk_at dksX0_rumourOf_2 21 rfl rfl)
theorem dX0_rumourOf_70 : decode cX0_rumourOf 70 = .ok (.lcmp, 1) := dk_148 (dk_at dksX0_rumourOf_2 22 rfl rfl)
theorem dX0_rumourOf_71 : decode cX0_rumourOf 71 = .ok (.ifCond .le 39, 3) := dk_158 0 39 (dk_at dksX0_rumourOf_3 0 rfl rfl)
theorem dX0_rumourOf_74 : decode cX0_rumourOf 74 = .ok (.aload_n 0, 1) := dk_42 (dk_at dksX0_rumourOf_3 3 rfl rfl)
theorem dX0_rumourOf_75 : decode cX0_rumourOf 75 = .ok (.iload 6, 2) := dk_21 6 (dk_at dksX0_rumourOf_3 4 rfl rfl)
theorem dX0_rumourOf_77 : decode cX0_rumourOf 77 = .ok (.putfield 203, 3) := dk_181 0 203 (dk_at dksX0_rumourOf_3 6 rfl rfl)
theorem dX0_rumourOf_80 : decode cX0_rumourOf 80 = .ok (.aload_n 0, 1) := dk_42 (dk_at dksX0_rumourOf_3 9 rfl rfl)
theorem dX0_rumourOf_81 : decode cX0_rumourOf 81 = .ok (.bipush 39, 2) := dk_16 39 (dk_at dksX0_rumourOf_3 10 rfl rfl)
theorem dX0_rumourOf_83 : decode cX0_rumourOf 83 = .ok (.invokevirtual 276, 3) := dk_182 1 20 (dk_at dksX0_rumourOf_3 12 rfl rfl)
theorem dX0_rumourOf_86 : decode cX0_rumourOf 86 = .ok (.lload 4, 2) := dk_22 4 (dk_at dksX0_rumourOf_3 15 rfl rfl)
theorem dX0_rumourOf_88 : decode cX0_rumourOf 88 = .ok (.aload_n 0, 1) := dk_42 (dk_at dksX0_rumourOf_3 17 rfl rfl)
theorem dX0_rumourOf_89 : decode cX0_rumourOf 89 = .ok (.getfield 62, 3) := dk_180 0 62 (dk_at dksX0_rumourOf_3 18 rfl rfl)
theorem dX0_rumourOf_92 : decode cX0_rumourOf 92 = .ok (.iload_n 2, 1) := dk_28 (dk_at dksX0_rumourOf_3 21 rfl rfl)
theorem dX0_rumourOf_93 : decode cX0_rumourOf 93 = .ok (.aaload, 1) := dk_50 (dk_at dksX0_rumourOf_3 22 rfl rfl)
theorem dX0_rumourOf_94 : decode cX0_rumourOf 94 = .ok (.getfield 221, 3) := dk_180 0 221 (dk_at dksX0_rumourOf_4 0 rfl rfl)
theorem dX0_rumourOf_97 : decode cX0_rumourOf 97 = .ok (.iconst 2, 1) := dk_5 (dk_at dksX0_rumourOf_4 3 rfl rfl)
theorem dX0_rumourOf_98 : decode cX0_rumourOf 98 = .ok (.if_icmp .ne 8, 3) := dk_160 0 8 (dk_at dksX0_rumourOf_4 4 rfl rfl)
theorem dX0_rumourOf_101 : decode cX0_rumourOf 101 = .ok (.lload 7, 2) := dk_22 7 (dk_at dksX0_rumourOf_4 7 rfl rfl)
theorem dX0_rumourOf_103 : decode cX0_rumourOf 103 = .ok (.goto 4, 3) := dk_167 0 4 (dk_at dksX0_rumourOf_4 9 rfl rfl)
theorem dX0_rumourOf_106 : decode cX0_rumourOf 106 = .ok (.lconst 0, 1) := dk_9 (dk_at dksX0_rumourOf_4 12 rfl rfl)
theorem dX0_rumourOf_107 : decode cX0_rumourOf 107 = .ok (.ladd, 1) := dk_97 (dk_at dksX0_rumourOf_4 13 rfl rfl)
theorem dX0_rumourOf_108 : decode cX0_rumourOf 108 = .ok (.lstore 4, 2) := dk_55 4 (dk_at dksX0_rumourOf_4 14 rfl rfl)
theorem dX0_rumourOf_110 : decode cX0_rumourOf 110 = .ok (.iinc 6 1, 3) := dk_132 6 1 (dk_at dksX0_rumourOf_4 16 rfl rfl)
theorem dX0_rumourOf_113 : decode cX0_rumourOf 113 = .ok (.goto (-103), 3) := dk_167 255 153 (dk_at dksX0_rumourOf_4 19 rfl rfl)
theorem dX0_rumourOf_116 : decode cX0_rumourOf 116 = .ok (.lload 4, 2) := dk_22 4 (dk_at dksX0_rumourOf_4 22 rfl rfl)
theorem dX0_rumourOf_118 : decode cX0_rumourOf 118 = .ok (.lconst 1, 1) := dk_10 (dk_at dksX0_rumourOf_5 0 rfl rfl)
theorem dX0_rumourOf_119 : decode cX0_rumourOf 119 = .ok (.iconst 4, 1) := dk_7 (dk_at dksX0_rumourOf_5 1 rfl rfl)
theorem dX0_rumourOf_120 : decode cX0_rumourOf 120 = .ok (.aload_n 0, 1) := dk_42 (dk_at dksX0_rumourOf_5 2 rfl rfl)
theorem dX0_rumourOf_121 : decode cX0_rumourOf 121 = .ok (.getfield 141, 3) := dk_180 0 141 (dk_at dksX0_rumourOf_5 3 rfl rfl)
theorem dX0_rumourOf_124 : decode cX0_rumourOf 124 = .ok (.imul, 1) := dk_104 (dk_at dksX0_rumourOf_5 6 rfl rfl)
theorem dX0_rumourOf_125 : decode cX0_rumourOf 125 = .ok (.lshl, 1) := dk_121 (dk_at dksX0_rumourOf_5 7 rfl rfl)
theorem dX0_rumourOf_126 : decode cX0_rumourOf 126 = .ok (.iload_n 3, 1) := dk_29 (dk_at dksX0_rumourOf_5 8 rfl rfl)
theorem dX0_rumourOf_127 : decode cX0_rumourOf 127 = .ok (.invokestatic 362, 3) := dk_184 1 106 (dk_at dksX0_rumourOf_5 9 rfl rfl)
theorem dX0_rumourOf_130 : decode cX0_rumourOf 130 = .ok (.lreturn, 1) := dk_173 (dk_at dksX0_rumourOf_5 12 rfl rfl)
abbrev cX0_lowest : ByteArray := prog_1_method_5_code
def yX0_lowest : MethodName := ⟨RX0, "lowest", "(JJI)J"⟩
def dkwX0_lowest_1 : List UInt8 := [22, 9, 55, 7, 167, 255, 234, 21, 4, 154, 0, 10, 30, 22, 5, 109, 167, 0, 7, 32, 22, 5, 109, 173]
abbrev dktX0_lowest_1 : List UInt8 := dkwX0_lowest_1 ++ []
def dkwX0_lowest_0 : List UInt8 := [30, 55, 5, 32, 55, 7, 22, 7, 9, 148, 153, 0, 21, 22, 5, 22, 7, 113, 55, 9, 22, 7, 55, 5]
abbrev dktX0_lowest_0 : List UInt8 := dkwX0_lowest_0 ++ dktX0_lowest_1
theorem dksX0_lowest_0 : cX0_lowest.data.toList.drop 0 = dktX0_lowest_0 := by decide +kernel
theorem dksX0_lowest_1 : cX0_lowest.data.toList.drop 24 = dktX0_lowest_1 := dk_seg dksX0_lowest_0 24 rfl rfl
theorem dX0_lowest_0 : decode cX0_lowest 0 = .ok (.lload_n 0, 1) := dk_30 (dk_at dksX0_lowest_0 0 rfl rfl)
theorem dX0_lowest_1 : decode cX0_lowest 1 = .ok (.lstore 5, 2) := dk_55 5 (dk_at dksX0_lowest_0 1 rfl rfl)
theorem dX0_lowest_3 : decode cX0_lowest 3 = .ok (.lload_n 2, 1) := dk_32 (dk_at dksX0_lowest_0 3 rfl rfl)
theorem dX0_lowest_4 : decode cX0_lowest 4 = .ok (.lstore 7, 2) := dk_55 7 (dk_at dksX0_lowest_0 4 rfl rfl)
theorem dX0_lowest_6 : decode cX0_lowest 6 = .ok (.lload 7, 2) := dk_22 7 (dk_at dksX0_lowest_0 6 rfl rfl)
theorem dX0_lowest_8 : decode cX0_lowest 8 = .ok (.lconst 0, 1) := dk_9 (dk_at dksX0_lowest_0 8 rfl rfl)
theorem dX0_lowest_9 : decode cX0_lowest 9 = .ok (.lcmp, 1) := dk_148 (dk_at dksX0_lowest_0 9 rfl rfl)
theorem dX0_lowest_10 : decode cX0_lowest 10 = .ok (.ifCond .eq 21, 3) := dk_153 0 21 (dk_at dksX0_lowest_0 10 rfl rfl)
theorem dX0_lowest_13 : decode cX0_lowest 13 = .ok (.lload 5, 2) := dk_22 5 (dk_at dksX0_lowest_0 13 rfl rfl)
theorem dX0_lowest_15 : decode cX0_lowest 15 = .ok (.lload 7, 2) := dk_22 7 (dk_at dksX0_lowest_0 15 rfl rfl)
theorem dX0_lowest_17 : decode cX0_lowest 17 = .ok (.lrem, 1) := dk_113 (dk_at dksX0_lowest_0 17 rfl rfl)
theorem dX0_lowest_18 : decode cX0_lowest 18 = .ok (.lstore 9, 2) := dk_55 9 (dk_at dksX0_lowest_0 18 rfl rfl)
theorem dX0_lowest_20 : decode cX0_lowest 20 = .ok (.lload 7, 2) := dk_22 7 (dk_at dksX0_lowest_0 20 rfl rfl)
theorem dX0_lowest_22 : decode cX0_lowest 22 = .ok (.lstore 5, 2) := dk_55 5 (dk_at dksX0_lowest_0 22 rfl rfl)
theorem dX0_lowest_24 : decode cX0_lowest 24 = .ok (.lload 9, 2) := dk_22 9 (dk_at dksX0_lowest_1 0 rfl rfl)
theorem dX0_lowest_26 : decode cX0_lowest 26 = .ok (.lstore 7, 2) := dk_55 7 (dk_at dksX0_lowest_1 2 rfl rfl)
theorem dX0_lowest_28 : decode cX0_lowest 28 = .ok (.goto (-22), 3) := dk_167 255 234 (dk_at dksX0_lowest_1 4 rfl rfl)
theorem dX0_lowest_31 : decode cX0_lowest 31 = .ok (.iload 4, 2) := dk_21 4 (dk_at dksX0_lowest_1 7 rfl rfl)
theorem dX0_lowest_33 : decode cX0_lowest 33 = .ok (.ifCond .ne 10, 3) := dk_154 0 10 (dk_at dksX0_lowest_1 9 rfl rfl)
theorem dX0_lowest_36 : decode cX0_lowest 36 = .ok (.lload_n 0, 1) := dk_30 (dk_at dksX0_lowest_1 12 rfl rfl)
theorem dX0_lowest_37 : decode cX0_lowest 37 = .ok (.lload 5, 2) := dk_22 5 (dk_at dksX0_lowest_1 13 rfl rfl)
theorem dX0_lowest_39 : decode cX0_lowest 39 = .ok (.ldiv, 1) := dk_109 (dk_at dksX0_lowest_1 15 rfl rfl)
theorem dX0_lowest_40 : decode cX0_lowest 40 = .ok (.goto 7, 3) := dk_167 0 7 (dk_at dksX0_lowest_1 16 rfl rfl)
theorem dX0_lowest_43 : decode cX0_lowest 43 = .ok (.lload_n 2, 1) := dk_32 (dk_at dksX0_lowest_1 19 rfl rfl)
theorem dX0_lowest_44 : decode cX0_lowest 44 = .ok (.lload 5, 2) := dk_22 5 (dk_at dksX0_lowest_1 20 rfl rfl)
theorem dX0_lowest_46 : decode cX0_lowest 46 = .ok (.ldiv, 1) := dk_109 (dk_at dksX0_lowest_1 22 rfl rfl)
theorem dX0_lowest_47 : decode cX0_lowest 47 = .ok (.lreturn, 1) := dk_173 (dk_at dksX0_lowest_1 23 rfl rfl)
abbrev cX0_no : ByteArray := prog_1_method_2_code
def yX0_no : MethodName := ⟨RX0, "no", "(I)J"⟩
def dkwX0_no_0 : List UInt8 := [20, 0, 3, 26, 133, 101, 173]
abbrev dktX0_no_0 : List UInt8 := dkwX0_no_0 ++ []
theorem dksX0_no_0 : cX0_no.data.toList.drop 0 = dktX0_no_0 := by decide +kernel
theorem dX0_no_0 : decode cX0_no 0 = .ok (.ldc2_w 3, 3) := dk_20 0 3 (dk_at dksX0_no_0 0 rfl rfl)
theorem dX0_no_3 : decode cX0_no 3 = .ok (.iload_n 0, 1) := dk_26 (dk_at dksX0_no_0 3 rfl rfl)
theorem dX0_no_4 : decode cX0_no 4 = .ok (.i2l, 1) := dk_133 (dk_at dksX0_no_0 4 rfl rfl)
theorem dX0_no_5 : decode cX0_no 5 = .ok (.lsub, 1) := dk_101 (dk_at dksX0_no_0 5 rfl rfl)
theorem dX0_no_6 : decode cX0_no 6 = .ok (.lreturn, 1) := dk_173 (dk_at dksX0_no_0 6 rfl rfl)
abbrev cX0_market : ByteArray := prog_1_method_86_code
def yX0_market : MethodName := ⟨RX0, "market", "(II)I"⟩
def dkwX0_market_0 : List UInt8 := [28, 184, 1, 38, 153, 0, 12, 42, 27, 28, 182, 1, 122, 167, 0, 5, 16, 254, 172]
abbrev dktX0_market_0 : List UInt8 := dkwX0_market_0 ++ []
theorem dksX0_market_0 : cX0_market.data.toList.drop 0 = dktX0_market_0 := by decide +kernel
theorem dX0_market_0 : decode cX0_market 0 = .ok (.iload_n 2, 1) := dk_28 (dk_at dksX0_market_0 0 rfl rfl)
theorem dX0_market_1 : decode cX0_market 1 = .ok (.invokestatic 294, 3) := dk_184 1 38 (dk_at dksX0_market_0 1 rfl rfl)
theorem dX0_market_4 : decode cX0_market 4 = .ok (.ifCond .eq 12, 3) := dk_153 0 12 (dk_at dksX0_market_0 4 rfl rfl)
theorem dX0_market_7 : decode cX0_market 7 = .ok (.aload_n 0, 1) := dk_42 (dk_at dksX0_market_0 7 rfl rfl)
theorem dX0_market_8 : decode cX0_market 8 = .ok (.iload_n 1, 1) := dk_27 (dk_at dksX0_market_0 8 rfl rfl)
theorem dX0_market_9 : decode cX0_market 9 = .ok (.iload_n 2, 1) := dk_28 (dk_at dksX0_market_0 9 rfl rfl)
theorem dX0_market_10 : decode cX0_market 10 = .ok (.invokevirtual 378, 3) := dk_182 1 122 (dk_at dksX0_market_0 10 rfl rfl)
theorem dX0_market_13 : decode cX0_market 13 = .ok (.goto 5, 3) := dk_167 0 5 (dk_at dksX0_market_0 13 rfl rfl)
theorem dX0_market_16 : decode cX0_market 16 = .ok (.bipush (-2), 2) := dk_16 254 (dk_at dksX0_market_0 16 rfl rfl)
theorem dX0_market_18 : decode cX0_market 18 = .ok (.ireturn, 1) := dk_172 (dk_at dksX0_market_0 18 rfl rfl)
abbrev cX0_marketOf : ByteArray := prog_1_method_85_code
def yX0_marketOf : MethodName := ⟨RX0, "marketOf", "(II)I"⟩
def dkwX0_marketOf_5 : List UInt8 := [167, 0, 4, 7, 182, 1, 32, 184, 1, 47, 172]
abbrev dktX0_marketOf_5 : List UInt8 := dkwX0_marketOf_5 ++ []
def dkwX0_marketOf_4 : List UInt8 := [42, 180, 1, 118, 21, 4, 46, 181, 0, 83, 132, 4, 1, 167, 255, 227, 42, 28, 154, 0, 7, 5]
abbrev dktX0_marketOf_4 : List UInt8 := dkwX0_marketOf_4 ++ dktX0_marketOf_5
def dkwX0_marketOf_3 : List UInt8 := [16, 39, 182, 1, 20, 3, 54, 4, 21, 4, 42, 180, 0, 98, 162, 0, 26, 42, 180, 0, 62, 21, 4, 50]
abbrev dktX0_marketOf_3 : List UInt8 := dkwX0_marketOf_3 ++ dktX0_marketOf_4
def dkwX0_marketOf_2 : List UInt8 := [180, 0, 62, 21, 4, 50, 29, 16, 16, 124, 16, 100, 112, 181, 0, 83, 132, 4, 1, 167, 255, 200, 42]
abbrev dktX0_marketOf_2 : List UInt8 := dkwX0_marketOf_2 ++ dktX0_marketOf_3
def dkwX0_marketOf_1 : List UInt8 := [42, 180, 0, 62, 21, 4, 50, 180, 0, 83, 79, 19, 1, 121, 29, 104, 17, 48, 57, 96, 62, 42]
abbrev dktX0_marketOf_1 : List UInt8 := dkwX0_marketOf_1 ++ dktX0_marketOf_2
def dkwX0_marketOf_0 : List UInt8 := [42, 182, 1, 17, 27, 62, 3, 54, 4, 21, 4, 42, 180, 0, 98, 162, 0, 53, 42, 180, 1, 118, 21, 4]
abbrev dktX0_marketOf_0 : List UInt8 := dkwX0_marketOf_0 ++ dktX0_marketOf_1
theorem dksX0_marketOf_0 : cX0_marketOf.data.toList.drop 0 = dktX0_marketOf_0 := by decide +kernel
theorem dksX0_marketOf_1 : cX0_marketOf.data.toList.drop 24 = dktX0_marketOf_1 := dk_seg dksX0_marketOf_0 24 rfl rfl
theorem dksX0_marketOf_2 : cX0_marketOf.data.toList.drop 46 = dktX0_marketOf_2 := dk_seg dksX0_marketOf_1 22 rfl rfl
theorem dksX0_marketOf_3 : cX0_marketOf.data.toList.drop 69 = dktX0_marketOf_3 := dk_seg dksX0_marketOf_2 23 rfl rfl
theorem dksX0_marketOf_4 : cX0_marketOf.data.toList.drop 93 = dktX0_marketOf_4 := dk_seg dksX0_marketOf_3 24 rfl rfl
theorem dksX0_marketOf_5 : cX0_marketOf.data.toList.drop 115 = dktX0_marketOf_5 := dk_seg dksX0_marketOf_4 22 rfl rfl
theorem dX0_marketOf_0 : decode cX0_marketOf 0 = .ok (.aload_n 0, 1) := dk_42 (dk_at dksX0_marketOf_0 0 rfl rfl)
theorem dX0_marketOf_1 : decode cX0_marketOf 1 = .ok (.invokevirtual 273, 3) := dk_182 1 17 (dk_at dksX0_marketOf_0 1 rfl rfl)
theorem dX0_marketOf_4 : decode cX0_marketOf 4 = .ok (.iload_n 1, 1) := dk_27 (dk_at dksX0_marketOf_0 4 rfl rfl)
theorem dX0_marketOf_5 : decode cX0_marketOf 5 = .ok (.istore_n 3, 1) := dk_62 (dk_at dksX0_marketOf_0 5 rfl rfl)
theorem dX0_marketOf_6 : decode cX0_marketOf 6 = .ok (.iconst 0, 1) := dk_3 (dk_at dksX0_marketOf_0 6 rfl rfl)
theorem dX0_marketOf_7 : decode cX0_marketOf 7 = .ok (.istore 4, 2) := dk_54 4 (dk_at dksX0_marketOf_0 7 rfl rfl)
theorem dX0_marketOf_9 : decode cX0_marketOf 9 = .ok (.iload 4, 2) := dk_21 4 (dk_at dksX0_marketOf_0 9 rfl rfl)
theorem dX0_marketOf_11 : decode cX0_marketOf 11 = .ok (.aload_n 0, 1) := dk_42 (dk_at dksX0_marketOf_0 11 rfl rfl)
theorem dX0_marketOf_12 : decode cX0_marketOf 12 = .ok (.getfield 98, 3) := dk_180 0 98 (dk_at dksX0_marketOf_0 12 rfl rfl)
theorem dX0_marketOf_15 : decode cX0_marketOf 15 = .ok (.if_icmp .ge 53, 3) := dk_162 0 53 (dk_at dksX0_marketOf_0 15 rfl rfl)
theorem dX0_marketOf_18 : decode cX0_marketOf 18 = .ok (.aload_n 0, 1) := dk_42 (dk_at dksX0_marketOf_0 18 rfl rfl)
theorem dX0_marketOf_19 : decode cX0_marketOf 19 = .ok (.getfield 374, 3) := dk_180 1 118 (dk_at dksX0_marketOf_0 19 rfl rfl)
theorem dX0_marketOf_22 : decode cX0_marketOf 22 = .ok (.iload 4, 2) := dk_21 4 (dk_at dksX0_marketOf_0 22 rfl rfl)
theorem dX0_marketOf_24 : decode cX0_marketOf 24 = .ok (.aload_n 0, 1) := dk_42 (dk_at dksX0_marketOf_1 0 rfl rfl)
theorem dX0_marketOf_25 : decode cX0_marketOf 25 = .ok (.getfield 62, 3) := dk_180 0 62 (dk_at dksX0_marketOf_1 1 rfl rfl)
theorem dX0_marketOf_28 : decode cX0_marketOf 28 = .ok (.iload 4, 2) := dk_21 4 (dk_at dksX0_marketOf_1 4 rfl rfl)
theorem dX0_marketOf_30 : decode cX0_marketOf 30 = .ok (.aaload, 1) := dk_50 (dk_at dksX0_marketOf_1 6 rfl rfl)
theorem dX0_marketOf_31 : decode cX0_marketOf 31 = .ok (.getfield 83, 3) := dk_180 0 83 (dk_at dksX0_marketOf_1 7 rfl rfl)
theorem dX0_marketOf_34 : decode cX0_marketOf 34 = .ok (.iastore, 1) := dk_79 (dk_at dksX0_marketOf_1 10 rfl rfl)
theorem dX0_marketOf_35 : decode cX0_marketOf 35 = .ok (.ldc_w 377, 3) := dk_19 1 121 (dk_at dksX0_marketOf_1 11 rfl rfl)
theorem dX0_marketOf_38 : decode cX0_marketOf 38 = .ok (.iload_n 3, 1) := dk_29 (dk_at dksX0_marketOf_1 14 rfl rfl)
theorem dX0_marketOf_39 : decode cX0_marketOf 39 = .ok (.imul, 1) := dk_104 (dk_at dksX0_marketOf_1 15 rfl rfl)
theorem dX0_marketOf_40 : decode cX0_marketOf 40 = .ok (.sipush 12345, 3) := dk_17 48 57 (dk_at dksX0_marketOf_1 16 rfl rfl)
theorem dX0_marketOf_43 : decode cX0_marketOf 43 = .ok (.iadd, 1) := dk_96 (dk_at dksX0_marketOf_1 19 rfl rfl)
theorem dX0_marketOf_44 : decode cX0_marketOf 44 = .ok (.istore_n 3, 1) := dk_62 (dk_at dksX0_marketOf_1 20 rfl rfl)
theorem dX0_marketOf_45 : decode cX0_marketOf 45 = .ok (.aload_n 0, 1) := dk_42 (dk_at dksX0_marketOf_1 21 rfl rfl)
theorem dX0_marketOf_46 : decode cX0_marketOf 46 = .ok (.getfield 62, 3) := dk_180 0 62 (dk_at dksX0_marketOf_2 0 rfl rfl)
theorem dX0_marketOf_49 : decode cX0_marketOf 49 = .ok (.iload 4, 2) := dk_21 4 (dk_at dksX0_marketOf_2 3 rfl rfl)
theorem dX0_marketOf_51 : decode cX0_marketOf 51 = .ok (.aaload, 1) := dk_50 (dk_at dksX0_marketOf_2 5 rfl rfl)
theorem dX0_marketOf_52 : decode cX0_marketOf 52 = .ok (.iload_n 3, 1) := dk_29 (dk_at dksX0_marketOf_2 6 rfl rfl)
theorem dX0_marketOf_53 : decode cX0_marketOf 53 = .ok (.bipush 16, 2) := dk_16 16 (dk_at dksX0_marketOf_2 7 rfl rfl)
theorem dX0_marketOf_55 : decode cX0_marketOf 55 = .ok (.iushr, 1) := dk_124 (dk_at dksX0_marketOf_2 9 rfl rfl)
theorem dX0_marketOf_56 : decode cX0_marketOf 56 = .ok (.bipush 100, 2) := dk_16 100 (dk_at dksX0_marketOf_2 10 rfl rfl)
theorem dX0_marketOf_58 : decode cX0_marketOf 58 = .ok (.irem, 1) := dk_112 (dk_at dksX0_marketOf_2 12 rfl rfl)
theorem dX0_marketOf_59 : decode cX0_marketOf 59 = .ok (.putfield 83, 3) := dk_181 0 83 (dk_at dksX0_marketOf_2 13 rfl rfl)
theorem dX0_marketOf_62 : decode cX0_marketOf 62 = .ok (.iinc 4 1, 3) := dk_132 4 1 (dk_at dksX0_marketOf_2 16 rfl rfl)
theorem dX0_marketOf_65 : decode cX0_marketOf 65 = .ok (.goto (-56), 3) := dk_167 255 200 (dk_at dksX0_marketOf_2 19 rfl rfl)
theorem dX0_marketOf_68 : decode cX0_marketOf 68 = .ok (.aload_n 0, 1) := dk_42 (dk_at dksX0_marketOf_2 22 rfl rfl)
theorem dX0_marketOf_69 : decode cX0_marketOf 69 = .ok (.bipush 39, 2) := dk_16 39 (dk_at dksX0_marketOf_3 0 rfl rfl)
theorem dX0_marketOf_71 : decode cX0_marketOf 71 = .ok (.invokevirtual 276, 3) := dk_182 1 20 (dk_at dksX0_marketOf_3 2 rfl rfl)
theorem dX0_marketOf_74 : decode cX0_marketOf 74 = .ok (.iconst 0, 1) := dk_3 (dk_at dksX0_marketOf_3 5 rfl rfl)
theorem dX0_marketOf_75 : decode cX0_marketOf 75 = .ok (.istore 4, 2) := dk_54 4 (dk_at dksX0_marketOf_3 6 rfl rfl)
theorem dX0_marketOf_77 : decode cX0_marketOf 77 = .ok (.iload 4, 2) := dk_21 4 (dk_at dksX0_marketOf_3 8 rfl rfl)
theorem dX0_marketOf_79 : decode cX0_marketOf 79 = .ok (.aload_n 0, 1) := dk_42 (dk_at dksX0_marketOf_3 10 rfl rfl)
theorem dX0_marketOf_80 : decode cX0_marketOf 80 = .ok (.getfield 98, 3) := dk_180 0 98 (dk_at dksX0_marketOf_3 11 rfl rfl)
theorem dX0_marketOf_83 : decode cX0_marketOf 83 = .ok (.if_icmp .ge 26, 3) := dk_162 0 26 (dk_at dksX0_marketOf_3 14 rfl rfl)
theorem dX0_marketOf_86 : decode cX0_marketOf 86 = .ok (.aload_n 0, 1) := dk_42 (dk_at dksX0_marketOf_3 17 rfl rfl)
theorem dX0_marketOf_87 : decode cX0_marketOf 87 = .ok (.getfield 62, 3) := dk_180 0 62 (dk_at dksX0_marketOf_3 18 rfl rfl)
theorem dX0_marketOf_90 : decode cX0_marketOf 90 = .ok (.iload 4, 2) := dk_21 4 (dk_at dksX0_marketOf_3 21 rfl rfl)
theorem dX0_marketOf_92 : decode cX0_marketOf 92 = .ok (.aaload, 1) := dk_50 (dk_at dksX0_marketOf_3 23 rfl rfl)
theorem dX0_marketOf_93 : decode cX0_marketOf 93 = .ok (.aload_n 0, 1) := dk_42 (dk_at dksX0_marketOf_4 0 rfl rfl)
theorem dX0_marketOf_94 : decode cX0_marketOf 94 = .ok (.getfield 374, 3) := dk_180 1 118 (dk_at dksX0_marketOf_4 1 rfl rfl)
theorem dX0_marketOf_97 : decode cX0_marketOf 97 = .ok (.iload 4, 2) := dk_21 4 (dk_at dksX0_marketOf_4 4 rfl rfl)
theorem dX0_marketOf_99 : decode cX0_marketOf 99 = .ok (.iaload, 1) := dk_46 (dk_at dksX0_marketOf_4 6 rfl rfl)
theorem dX0_marketOf_100 : decode cX0_marketOf 100 = .ok (.putfield 83, 3) := dk_181 0 83 (dk_at dksX0_marketOf_4 7 rfl rfl)
theorem dX0_marketOf_103 : decode cX0_marketOf 103 = .ok (.iinc 4 1, 3) := dk_132 4 1 (dk_at dksX0_marketOf_4 10 rfl rfl)
theorem dX0_marketOf_106 : decode cX0_marketOf 106 = .ok (.goto (-29), 3) := dk_167 255 227 (dk_at dksX0_marketOf_4 13 rfl rfl)
theorem dX0_marketOf_109 : decode cX0_marketOf 109 = .ok (.aload_n 0, 1) := dk_42 (dk_at dksX0_marketOf_4 16 rfl rfl)
theorem dX0_marketOf_110 : decode cX0_marketOf 110 = .ok (.iload_n 2, 1) := dk_28 (dk_at dksX0_marketOf_4 17 rfl rfl)
theorem dX0_marketOf_111 : decode cX0_marketOf 111 = .ok (.ifCond .ne 7, 3) := dk_154 0 7 (dk_at dksX0_marketOf_4 18 rfl rfl)
theorem dX0_marketOf_114 : decode cX0_marketOf 114 = .ok (.iconst 2, 1) := dk_5 (dk_at dksX0_marketOf_4 21 rfl rfl)
theorem dX0_marketOf_115 : decode cX0_marketOf 115 = .ok (.goto 4, 3) := dk_167 0 4 (dk_at dksX0_marketOf_5 0 rfl rfl)
theorem dX0_marketOf_118 : decode cX0_marketOf 118 = .ok (.iconst 4, 1) := dk_7 (dk_at dksX0_marketOf_5 3 rfl rfl)
theorem dX0_marketOf_119 : decode cX0_marketOf 119 = .ok (.invokevirtual 288, 3) := dk_182 1 32 (dk_at dksX0_marketOf_5 4 rfl rfl)
theorem dX0_marketOf_122 : decode cX0_marketOf 122 = .ok (.invokestatic 303, 3) := dk_184 1 47 (dk_at dksX0_marketOf_5 7 rfl rfl)
theorem dX0_marketOf_125 : decode cX0_marketOf 125 = .ok (.ireturn, 1) := dk_172 (dk_at dksX0_marketOf_5 10 rfl rfl)
abbrev cX0_init : ByteArray := prog_1_method_87_code
def yX0_init : MethodName := ⟨RX0, "<init>", "()V"⟩
def dkwX0_init_13 : List UInt8 := [183, 1, 140, 83, 132, 1, 1, 167, 255, 234, 177]
abbrev dktX0_init_13 : List UInt8 := dkwX0_init_13 ++ []
def dkwX0_init_12 : List UInt8 := [183, 1, 139, 83, 181, 0, 156, 3, 60, 27, 16, 8, 162, 0, 22, 42, 180, 0, 62, 27, 187, 0, 67, 89]
abbrev dktX0_init_12 : List UInt8 := dkwX0_init_12 ++ dktX0_init_13
def dkwX0_init_11 : List UInt8 := [187, 0, 161, 89, 183, 1, 139, 83, 89, 5, 187, 0, 161, 89, 183, 1, 139, 83, 89, 6, 187, 0, 161, 89]
abbrev dktX0_init_11 : List UInt8 := dkwX0_init_11 ++ dktX0_init_12
def dkwX0_init_10 : List UInt8 := [16, 8, 188, 10, 181, 1, 118, 42, 7, 189, 0, 161, 89, 3, 187, 0, 161, 89, 183, 1, 139, 83, 89, 4]
abbrev dktX0_init_10 : List UInt8 := dkwX0_init_10 ++ dktX0_init_11
def dkwX0_init_9 : List UInt8 := [181, 1, 78, 42, 16, 8, 188, 10, 181, 1, 81, 42, 6, 16, 40, 197, 1, 138, 2, 181, 1, 91, 42]
abbrev dktX0_init_9 : List UInt8 := dkwX0_init_9 ++ dktX0_init_10
def dkwX0_init_8 : List UInt8 := [16, 40, 16, 8, 197, 1, 138, 2, 181, 1, 11, 42, 16, 8, 188, 10, 181, 1, 75, 42, 16, 8, 188, 10]
abbrev dktX0_init_8 : List UInt8 := dkwX0_init_8 ++ dktX0_init_9
def dkwX0_init_7 : List UInt8 := [197, 1, 138, 2, 181, 0, 187, 42, 16, 8, 188, 10, 181, 0, 227, 42, 16, 8, 188, 10, 181, 0, 212, 42]
abbrev dktX0_init_7 : List UInt8 := dkwX0_init_7 ++ dktX0_init_8
def dkwX0_init_6 : List UInt8 := [16, 8, 188, 10, 181, 0, 147, 42, 16, 8, 16, 8, 197, 1, 138, 2, 181, 0, 175, 42, 16, 8, 16, 8]
abbrev dktX0_init_6 : List UInt8 := dkwX0_init_6 ++ dktX0_init_7
def dkwX0_init_5 : List UInt8 := [83, 89, 5, 187, 0, 121, 89, 183, 1, 137, 83, 181, 0, 75, 42, 16, 8, 188, 10, 181, 0, 144, 42]
abbrev dktX0_init_5 : List UInt8 := dkwX0_init_5 ++ dktX0_init_6
def dkwX0_init_4 : List UInt8 := [42, 6, 189, 0, 121, 89, 3, 187, 1, 131, 89, 183, 1, 133, 83, 89, 4, 187, 1, 134, 89, 183, 1, 136]
abbrev dktX0_init_4 : List UInt8 := dkwX0_init_4 ++ dktX0_init_5
def dkwX0_init_3 : List UInt8 := [16, 10, 188, 10, 181, 0, 49, 42, 16, 10, 188, 10, 181, 0, 52, 42, 16, 8, 189, 0, 67, 181, 0, 62]
abbrev dktX0_init_3 : List UInt8 := dkwX0_init_3 ++ dktX0_init_4
def dkwX0_init_2 : List UInt8 := [4, 2, 79, 181, 0, 101, 42, 16, 10, 188, 10, 181, 0, 43, 42, 16, 10, 188, 10, 181, 0, 46, 42]
abbrev dktX0_init_2 : List UInt8 := dkwX0_init_2 ++ dktX0_init_3
def dkwX0_init_1 : List UInt8 := [181, 0, 17, 42, 5, 188, 10, 181, 0, 13, 42, 4, 181, 0, 21, 42, 5, 188, 10, 89, 3, 2, 79, 89]
abbrev dktX0_init_1 : List UInt8 := dkwX0_init_1 ++ dktX0_init_2
def dkwX0_init_0 : List UInt8 := [42, 183, 1, 125, 42, 5, 189, 1, 130, 89, 3, 16, 49, 188, 10, 83, 89, 4, 16, 55, 188, 10, 83]
abbrev dktX0_init_0 : List UInt8 := dkwX0_init_0 ++ dktX0_init_1
theorem dksX0_init_0 : cX0_init.data.toList.drop 0 = dktX0_init_0 := by decide +kernel
theorem dksX0_init_1 : cX0_init.data.toList.drop 23 = dktX0_init_1 := dk_seg dksX0_init_0 23 rfl rfl
theorem dksX0_init_2 : cX0_init.data.toList.drop 47 = dktX0_init_2 := dk_seg dksX0_init_1 24 rfl rfl
theorem dksX0_init_3 : cX0_init.data.toList.drop 70 = dktX0_init_3 := dk_seg dksX0_init_2 23 rfl rfl
theorem dksX0_init_4 : cX0_init.data.toList.drop 94 = dktX0_init_4 := dk_seg dksX0_init_3 24 rfl rfl
theorem dksX0_init_5 : cX0_init.data.toList.drop 118 = dktX0_init_5 := dk_seg dksX0_init_4 24 rfl rfl
theorem dksX0_init_6 : cX0_init.data.toList.drop 141 = dktX0_init_6 := dk_seg dksX0_init_5 23 rfl rfl
theorem dksX0_init_7 : cX0_init.data.toList.drop 165 = dktX0_init_7 := dk_seg dksX0_init_6 24 rfl rfl
theorem dksX0_init_8 : cX0_init.data.toList.drop 189 = dktX0_init_8 := dk_seg dksX0_init_7 24 rfl rfl
theorem dksX0_init_9 : cX0_init.data.toList.drop 213 = dktX0_init_9 := dk_seg dksX0_init_8 24 rfl rfl
theorem dksX0_init_10 : cX0_init.data.toList.drop 236 = dktX0_init_10 := dk_seg dksX0_init_9 23 rfl rfl
theorem dksX0_init_11 : cX0_init.data.toList.drop 260 = dktX0_init_11 := dk_seg dksX0_init_10 24 rfl rfl
theorem dksX0_init_12 : cX0_init.data.toList.drop 284 = dktX0_init_12 := dk_seg dksX0_init_11 24 rfl rfl
theorem dksX0_init_13 : cX0_init.data.toList.drop 308 = dktX0_init_13 := dk_seg dksX0_init_12 24 rfl rfl
theorem dX0_init_0 : decode cX0_init 0 = .ok (.aload_n 0, 1) := dk_42 (dk_at dksX0_init_0 0 rfl rfl)
theorem dX0_init_1 : decode cX0_init 1 = .ok (.invokespecial 381, 3) := dk_183 1 125 (dk_at dksX0_init_0 1 rfl rfl)
theorem dX0_init_4 : decode cX0_init 4 = .ok (.aload_n 0, 1) := dk_42 (dk_at dksX0_init_0 4 rfl rfl)
theorem dX0_init_5 : decode cX0_init 5 = .ok (.iconst 2, 1) := dk_5 (dk_at dksX0_init_0 5 rfl rfl)
theorem dX0_init_6 : decode cX0_init 6 = .ok (.anewarray 386, 3) := dk_189 1 130 (dk_at dksX0_init_0 6 rfl rfl)
theorem dX0_init_9 : decode cX0_init 9 = .ok (.dup, 1) := dk_89 (dk_at dksX0_init_0 9 rfl rfl)
theorem dX0_init_10 : decode cX0_init 10 = .ok (.iconst 0, 1) := dk_3 (dk_at dksX0_init_0 10 rfl rfl)
theorem dX0_init_11 : decode cX0_init 11 = .ok (.bipush 49, 2) := dk_16 49 (dk_at dksX0_init_0 11 rfl rfl)
theorem dX0_init_13 : decode cX0_init 13 = .ok (.newarray .int, 2) := dk_188_10 (dk_at dksX0_init_0 13 rfl rfl)
theorem dX0_init_15 : decode cX0_init 15 = .ok (.aastore, 1) := dk_83 (dk_at dksX0_init_0 15 rfl rfl)
theorem dX0_init_16 : decode cX0_init 16 = .ok (.dup, 1) := dk_89 (dk_at dksX0_init_0 16 rfl rfl)
theorem dX0_init_17 : decode cX0_init 17 = .ok (.iconst 1, 1) := dk_4 (dk_at dksX0_init_0 17 rfl rfl)
theorem dX0_init_18 : decode cX0_init 18 = .ok (.bipush 55, 2) := dk_16 55 (dk_at dksX0_init_0 18 rfl rfl)
theorem dX0_init_20 : decode cX0_init 20 = .ok (.newarray .int, 2) := dk_188_10 (dk_at dksX0_init_0 20 rfl rfl)
theorem dX0_init_22 : decode cX0_init 22 = .ok (.aastore, 1) := dk_83 (dk_at dksX0_init_0 22 rfl rfl)
theorem dX0_init_23 : decode cX0_init 23 = .ok (.putfield 17, 3) := dk_181 0 17 (dk_at dksX0_init_1 0 rfl rfl)
theorem dX0_init_26 : decode cX0_init 26 = .ok (.aload_n 0, 1) := dk_42 (dk_at dksX0_init_1 3 rfl rfl)
theorem dX0_init_27 : decode cX0_init 27 = .ok (.iconst 2, 1) := dk_5 (dk_at dksX0_init_1 4 rfl rfl)
theorem dX0_init_28 : decode cX0_init 28 = .ok (.newarray .int, 2) := dk_188_10 (dk_at dksX0_init_1 5 rfl rfl)
theorem dX0_init_30 : decode cX0_init 30 = .ok (.putfield 13, 3) := dk_181 0 13 (dk_at dksX0_init_1 7 rfl rfl)
theorem dX0_init_33 : decode cX0_init 33 = .ok (.aload_n 0, 1) := dk_42 (dk_at dksX0_init_1 10 rfl rfl)
theorem dX0_init_34 : decode cX0_init 34 = .ok (.iconst 1, 1) := dk_4 (dk_at dksX0_init_1 11 rfl rfl)
theorem dX0_init_35 : decode cX0_init 35 = .ok (.putfield 21, 3) := dk_181 0 21 (dk_at dksX0_init_1 12 rfl rfl)
theorem dX0_init_38 : decode cX0_init 38 = .ok (.aload_n 0, 1) := dk_42 (dk_at dksX0_init_1 15 rfl rfl)
theorem dX0_init_39 : decode cX0_init 39 = .ok (.iconst 2, 1) := dk_5 (dk_at dksX0_init_1 16 rfl rfl)
theorem dX0_init_40 : decode cX0_init 40 = .ok (.newarray .int, 2) := dk_188_10 (dk_at dksX0_init_1 17 rfl rfl)
theorem dX0_init_42 : decode cX0_init 42 = .ok (.dup, 1) := dk_89 (dk_at dksX0_init_1 19 rfl rfl)
theorem dX0_init_43 : decode cX0_init 43 = .ok (.iconst 0, 1) := dk_3 (dk_at dksX0_init_1 20 rfl rfl)
theorem dX0_init_44 : decode cX0_init 44 = .ok (.iconst (-1), 1) := dk_2 (dk_at dksX0_init_1 21 rfl rfl)
theorem dX0_init_45 : decode cX0_init 45 = .ok (.iastore, 1) := dk_79 (dk_at dksX0_init_1 22 rfl rfl)
theorem dX0_init_46 : decode cX0_init 46 = .ok (.dup, 1) := dk_89 (dk_at dksX0_init_1 23 rfl rfl)
theorem dX0_init_47 : decode cX0_init 47 = .ok (.iconst 1, 1) := dk_4 (dk_at dksX0_init_2 0 rfl rfl)
theorem dX0_init_48 : decode cX0_init 48 = .ok (.iconst (-1), 1) := dk_2 (dk_at dksX0_init_2 1 rfl rfl)
theorem dX0_init_49 : decode cX0_init 49 = .ok (.iastore, 1) := dk_79 (dk_at dksX0_init_2 2 rfl rfl)
theorem dX0_init_50 : decode cX0_init 50 = .ok (.putfield 101, 3) := dk_181 0 101 (dk_at dksX0_init_2 3 rfl rfl)
theorem dX0_init_53 : decode cX0_init 53 = .ok (.aload_n 0, 1) := dk_42 (dk_at dksX0_init_2 6 rfl rfl)
theorem dX0_init_54 : decode cX0_init 54 = .ok (.bipush 10, 2) := dk_16 10 (dk_at dksX0_init_2 7 rfl rfl)
theorem dX0_init_56 : decode cX0_init 56 = .ok (.newarray .int, 2) := dk_188_10 (dk_at dksX0_init_2 9 rfl rfl)
theorem dX0_init_58 : decode cX0_init 58 = .ok (.putfield 43, 3) := dk_181 0 43 (dk_at dksX0_init_2 11 rfl rfl)
theorem dX0_init_61 : decode cX0_init 61 = .ok (.aload_n 0, 1) := dk_42 (dk_at dksX0_init_2 14 rfl rfl)
theorem dX0_init_62 : decode cX0_init 62 = .ok (.bipush 10, 2) := dk_16 10 (dk_at dksX0_init_2 15 rfl rfl)
theorem dX0_init_64 : decode cX0_init 64 = .ok (.newarray .int, 2) := dk_188_10 (dk_at dksX0_init_2 17 rfl rfl)
theorem dX0_init_66 : decode cX0_init 66 = .ok (.putfield 46, 3) := dk_181 0 46 (dk_at dksX0_init_2 19 rfl rfl)
theorem dX0_init_69 : decode cX0_init 69 = .ok (.aload_n 0, 1) := dk_42 (dk_at dksX0_init_2 22 rfl rfl)
theorem dX0_init_70 : decode cX0_init 70 = .ok (.bipush 10, 2) := dk_16 10 (dk_at dksX0_init_3 0 rfl rfl)
theorem dX0_init_72 : decode cX0_init 72 = .ok (.newarray .int, 2) := dk_188_10 (dk_at dksX0_init_3 2 rfl rfl)
theorem dX0_init_74 : decode cX0_init 74 = .ok (.putfield 49, 3) := dk_181 0 49 (dk_at dksX0_init_3 4 rfl rfl)
theorem dX0_init_77 : decode cX0_init 77 = .ok (.aload_n 0, 1) := dk_42 (dk_at dksX0_init_3 7 rfl rfl)
theorem dX0_init_78 : decode cX0_init 78 = .ok (.bipush 10, 2) := dk_16 10 (dk_at dksX0_init_3 8 rfl rfl)
theorem dX0_init_80 : decode cX0_init 80 = .ok (.newarray .int, 2) := dk_188_10 (dk_at dksX0_init_3 10 rfl rfl)
theorem dX0_init_82 : decode cX0_init 82 = .ok (.putfield 52, 3) := dk_181 0 52 (dk_at dksX0_init_3 12 rfl rfl)
theorem dX0_init_85 : decode cX0_init 85 = .ok (.aload_n 0, 1) := dk_42 (dk_at dksX0_init_3 15 rfl rfl)
theorem dX0_init_86 : decode cX0_init 86 = .ok (.bipush 8, 2) := dk_16 8 (dk_at dksX0_init_3 16 rfl rfl)
theorem dX0_init_88 : decode cX0_init 88 = .ok (.anewarray 67, 3) := dk_189 0 67 (dk_at dksX0_init_3 18 rfl rfl)
theorem dX0_init_91 : decode cX0_init 91 = .ok (.putfield 62, 3) := dk_181 0 62 (dk_at dksX0_init_3 21 rfl rfl)
theorem dX0_init_94 : decode cX0_init 94 = .ok (.aload_n 0, 1) := dk_42 (dk_at dksX0_init_4 0 rfl rfl)
theorem dX0_init_95 : decode cX0_init 95 = .ok (.iconst 3, 1) := dk_6 (dk_at dksX0_init_4 1 rfl rfl)
theorem dX0_init_96 : decode cX0_init 96 = .ok (.anewarray 121, 3) := dk_189 0 121 (dk_at dksX0_init_4 2 rfl rfl)
theorem dX0_init_99 : decode cX0_init 99 = .ok (.dup, 1) := dk_89 (dk_at dksX0_init_4 5 rfl rfl)
theorem dX0_init_100 : decode cX0_init 100 = .ok (.iconst 0, 1) := dk_3 (dk_at dksX0_init_4 6 rfl rfl)
theorem dX0_init_101 : decode cX0_init 101 = .ok (.new 387, 3) := dk_187 1 131 (dk_at dksX0_init_4 7 rfl rfl)
theorem dX0_init_104 : decode cX0_init 104 = .ok (.dup, 1) := dk_89 (dk_at dksX0_init_4 10 rfl rfl)
theorem dX0_init_105 : decode cX0_init 105 = .ok (.invokespecial 389, 3) := dk_183 1 133 (dk_at dksX0_init_4 11 rfl rfl)
theorem dX0_init_108 : decode cX0_init 108 = .ok (.aastore, 1) := dk_83 (dk_at dksX0_init_4 14 rfl rfl)
theorem dX0_init_109 : decode cX0_init 109 = .ok (.dup, 1) := dk_89 (dk_at dksX0_init_4 15 rfl rfl)
theorem dX0_init_110 : decode cX0_init 110 = .ok (.iconst 1, 1) := dk_4 (dk_at dksX0_init_4 16 rfl rfl)
theorem dX0_init_111 : decode cX0_init 111 = .ok (.new 390, 3) := dk_187 1 134 (dk_at dksX0_init_4 17 rfl rfl)
theorem dX0_init_114 : decode cX0_init 114 = .ok (.dup, 1) := dk_89 (dk_at dksX0_init_4 20 rfl rfl)
theorem dX0_init_115 : decode cX0_init 115 = .ok (.invokespecial 392, 3) := dk_183 1 136 (dk_at dksX0_init_4 21 rfl rfl)
theorem dX0_init_118 : decode cX0_init 118 = .ok (.aastore, 1) := dk_83 (dk_at dksX0_init_5 0 rfl rfl)
theorem dX0_init_119 : decode cX0_init 119 = .ok (.dup, 1) := dk_89 (dk_at dksX0_init_5 1 rfl rfl)
theorem dX0_init_120 : decode cX0_init 120 = .ok (.iconst 2, 1) := dk_5 (dk_at dksX0_init_5 2 rfl rfl)
theorem dX0_init_121 : decode cX0_init 121 = .ok (.new 121, 3) := dk_187 0 121 (dk_at dksX0_init_5 3 rfl rfl)
theorem dX0_init_124 : decode cX0_init 124 = .ok (.dup, 1) := dk_89 (dk_at dksX0_init_5 6 rfl rfl)
theorem dX0_init_125 : decode cX0_init 125 = .ok (.invokespecial 393, 3) := dk_183 1 137 (dk_at dksX0_init_5 7 rfl rfl)
theorem dX0_init_128 : decode cX0_init 128 = .ok (.aastore, 1) := dk_83 (dk_at dksX0_init_5 10 rfl rfl)
theorem dX0_init_129 : decode cX0_init 129 = .ok (.putfield 75, 3) := dk_181 0 75 (dk_at dksX0_init_5 11 rfl rfl)
theorem dX0_init_132 : decode cX0_init 132 = .ok (.aload_n 0, 1) := dk_42 (dk_at dksX0_init_5 14 rfl rfl)
theorem dX0_init_133 : decode cX0_init 133 = .ok (.bipush 8, 2) := dk_16 8 (dk_at dksX0_init_5 15 rfl rfl)
theorem dX0_init_135 : decode cX0_init 135 = .ok (.newarray .int, 2) := dk_188_10 (dk_at dksX0_init_5 17 rfl rfl)
theorem dX0_init_137 : decode cX0_init 137 = .ok (.putfield 144, 3) := dk_181 0 144 (dk_at dksX0_init_5 19 rfl rfl)
theorem dX0_init_140 : decode cX0_init 140 = .ok (.aload_n 0, 1) := dk_42 (dk_at dksX0_init_5 22 rfl rfl)
theorem dX0_init_141 : decode cX0_init 141 = .ok (.bipush 8, 2) := dk_16 8 (dk_at dksX0_init_6 0 rfl rfl)
theorem dX0_init_143 : decode cX0_init 143 = .ok (.newarray .int, 2) := dk_188_10 (dk_at dksX0_init_6 2 rfl rfl)
theorem dX0_init_145 : decode cX0_init 145 = .ok (.putfield 147, 3) := dk_181 0 147 (dk_at dksX0_init_6 4 rfl rfl)
theorem dX0_init_148 : decode cX0_init 148 = .ok (.aload_n 0, 1) := dk_42 (dk_at dksX0_init_6 7 rfl rfl)
theorem dX0_init_149 : decode cX0_init 149 = .ok (.bipush 8, 2) := dk_16 8 (dk_at dksX0_init_6 8 rfl rfl)
theorem dX0_init_151 : decode cX0_init 151 = .ok (.bipush 8, 2) := dk_16 8 (dk_at dksX0_init_6 10 rfl rfl)
theorem dX0_init_153 : decode cX0_init 153 = .ok (.multianewarray 394 2, 4) := by decide +kernel
theorem dX0_init_157 : decode cX0_init 157 = .ok (.putfield 175, 3) := dk_181 0 175 (dk_at dksX0_init_6 16 rfl rfl)
theorem dX0_init_160 : decode cX0_init 160 = .ok (.aload_n 0, 1) := dk_42 (dk_at dksX0_init_6 19 rfl rfl)
theorem dX0_init_161 : decode cX0_init 161 = .ok (.bipush 8, 2) := dk_16 8 (dk_at dksX0_init_6 20 rfl rfl)
theorem dX0_init_163 : decode cX0_init 163 = .ok (.bipush 8, 2) := dk_16 8 (dk_at dksX0_init_6 22 rfl rfl)
theorem dX0_init_165 : decode cX0_init 165 = .ok (.multianewarray 394 2, 4) := by decide +kernel
theorem dX0_init_169 : decode cX0_init 169 = .ok (.putfield 187, 3) := dk_181 0 187 (dk_at dksX0_init_7 4 rfl rfl)
theorem dX0_init_172 : decode cX0_init 172 = .ok (.aload_n 0, 1) := dk_42 (dk_at dksX0_init_7 7 rfl rfl)
theorem dX0_init_173 : decode cX0_init 173 = .ok (.bipush 8, 2) := dk_16 8 (dk_at dksX0_init_7 8 rfl rfl)
theorem dX0_init_175 : decode cX0_init 175 = .ok (.newarray .int, 2) := dk_188_10 (dk_at dksX0_init_7 10 rfl rfl)
theorem dX0_init_177 : decode cX0_init 177 = .ok (.putfield 227, 3) := dk_181 0 227 (dk_at dksX0_init_7 12 rfl rfl)
theorem dX0_init_180 : decode cX0_init 180 = .ok (.aload_n 0, 1) := dk_42 (dk_at dksX0_init_7 15 rfl rfl)
theorem dX0_init_181 : decode cX0_init 181 = .ok (.bipush 8, 2) := dk_16 8 (dk_at dksX0_init_7 16 rfl rfl)
theorem dX0_init_183 : decode cX0_init 183 = .ok (.newarray .int, 2) := dk_188_10 (dk_at dksX0_init_7 18 rfl rfl)
theorem dX0_init_185 : decode cX0_init 185 = .ok (.putfield 212, 3) := dk_181 0 212 (dk_at dksX0_init_7 20 rfl rfl)
theorem dX0_init_188 : decode cX0_init 188 = .ok (.aload_n 0, 1) := dk_42 (dk_at dksX0_init_7 23 rfl rfl)
theorem dX0_init_189 : decode cX0_init 189 = .ok (.bipush 40, 2) := dk_16 40 (dk_at dksX0_init_8 0 rfl rfl)
theorem dX0_init_191 : decode cX0_init 191 = .ok (.bipush 8, 2) := dk_16 8 (dk_at dksX0_init_8 2 rfl rfl)
theorem dX0_init_193 : decode cX0_init 193 = .ok (.multianewarray 394 2, 4) := by decide +kernel
theorem dX0_init_197 : decode cX0_init 197 = .ok (.putfield 267, 3) := dk_181 1 11 (dk_at dksX0_init_8 8 rfl rfl)
theorem dX0_init_200 : decode cX0_init 200 = .ok (.aload_n 0, 1) := dk_42 (dk_at dksX0_init_8 11 rfl rfl)
theorem dX0_init_201 : decode cX0_init 201 = .ok (.bipush 8, 2) := dk_16 8 (dk_at dksX0_init_8 12 rfl rfl)
theorem dX0_init_203 : decode cX0_init 203 = .ok (.newarray .int, 2) := dk_188_10 (dk_at dksX0_init_8 14 rfl rfl)
theorem dX0_init_205 : decode cX0_init 205 = .ok (.putfield 331, 3) := dk_181 1 75 (dk_at dksX0_init_8 16 rfl rfl)
theorem dX0_init_208 : decode cX0_init 208 = .ok (.aload_n 0, 1) := dk_42 (dk_at dksX0_init_8 19 rfl rfl)
theorem dX0_init_209 : decode cX0_init 209 = .ok (.bipush 8, 2) := dk_16 8 (dk_at dksX0_init_8 20 rfl rfl)
theorem dX0_init_211 : decode cX0_init 211 = .ok (.newarray .int, 2) := dk_188_10 (dk_at dksX0_init_8 22 rfl rfl)
theorem dX0_init_213 : decode cX0_init 213 = .ok (.putfield 334, 3) := dk_181 1 78 (dk_at dksX0_init_9 0 rfl rfl)
theorem dX0_init_216 : decode cX0_init 216 = .ok (.aload_n 0, 1) := dk_42 (dk_at dksX0_init_9 3 rfl rfl)
theorem dX0_init_217 : decode cX0_init 217 = .ok (.bipush 8, 2) := dk_16 8 (dk_at dksX0_init_9 4 rfl rfl)
theorem dX0_init_219 : decode cX0_init 219 = .ok (.newarray .int, 2) := dk_188_10 (dk_at dksX0_init_9 6 rfl rfl)
theorem dX0_init_221 : decode cX0_init 221 = .ok (.putfield 337, 3) := dk_181 1 81 (dk_at dksX0_init_9 8 rfl rfl)
theorem dX0_init_224 : decode cX0_init 224 = .ok (.aload_n 0, 1) := dk_42 (dk_at dksX0_init_9 11 rfl rfl)
theorem dX0_init_225 : decode cX0_init 225 = .ok (.iconst 3, 1) := dk_6 (dk_at dksX0_init_9 12 rfl rfl)
theorem dX0_init_226 : decode cX0_init 226 = .ok (.bipush 40, 2) := dk_16 40 (dk_at dksX0_init_9 13 rfl rfl)
theorem dX0_init_228 : decode cX0_init 228 = .ok (.multianewarray 394 2, 4) := by decide +kernel
theorem dX0_init_232 : decode cX0_init 232 = .ok (.putfield 347, 3) := dk_181 1 91 (dk_at dksX0_init_9 19 rfl rfl)
theorem dX0_init_235 : decode cX0_init 235 = .ok (.aload_n 0, 1) := dk_42 (dk_at dksX0_init_9 22 rfl rfl)
theorem dX0_init_236 : decode cX0_init 236 = .ok (.bipush 8, 2) := dk_16 8 (dk_at dksX0_init_10 0 rfl rfl)
theorem dX0_init_238 : decode cX0_init 238 = .ok (.newarray .int, 2) := dk_188_10 (dk_at dksX0_init_10 2 rfl rfl)
theorem dX0_init_240 : decode cX0_init 240 = .ok (.putfield 374, 3) := dk_181 1 118 (dk_at dksX0_init_10 4 rfl rfl)
theorem dX0_init_243 : decode cX0_init 243 = .ok (.aload_n 0, 1) := dk_42 (dk_at dksX0_init_10 7 rfl rfl)
theorem dX0_init_244 : decode cX0_init 244 = .ok (.iconst 4, 1) := dk_7 (dk_at dksX0_init_10 8 rfl rfl)
theorem dX0_init_245 : decode cX0_init 245 = .ok (.anewarray 161, 3) := dk_189 0 161 (dk_at dksX0_init_10 9 rfl rfl)
theorem dX0_init_248 : decode cX0_init 248 = .ok (.dup, 1) := dk_89 (dk_at dksX0_init_10 12 rfl rfl)
theorem dX0_init_249 : decode cX0_init 249 = .ok (.iconst 0, 1) := dk_3 (dk_at dksX0_init_10 13 rfl rfl)
theorem dX0_init_250 : decode cX0_init 250 = .ok (.new 161, 3) := dk_187 0 161 (dk_at dksX0_init_10 14 rfl rfl)
theorem dX0_init_253 : decode cX0_init 253 = .ok (.dup, 1) := dk_89 (dk_at dksX0_init_10 17 rfl rfl)
theorem dX0_init_254 : decode cX0_init 254 = .ok (.invokespecial 395, 3) := dk_183 1 139 (dk_at dksX0_init_10 18 rfl rfl)
theorem dX0_init_257 : decode cX0_init 257 = .ok (.aastore, 1) := dk_83 (dk_at dksX0_init_10 21 rfl rfl)
theorem dX0_init_258 : decode cX0_init 258 = .ok (.dup, 1) := dk_89 (dk_at dksX0_init_10 22 rfl rfl)
theorem dX0_init_259 : decode cX0_init 259 = .ok (.iconst 1, 1) := dk_4 (dk_at dksX0_init_10 23 rfl rfl)
theorem dX0_init_260 : decode cX0_init 260 = .ok (.new 161, 3) := dk_187 0 161 (dk_at dksX0_init_11 0 rfl rfl)
theorem dX0_init_263 : decode cX0_init 263 = .ok (.dup, 1) := dk_89 (dk_at dksX0_init_11 3 rfl rfl)
theorem dX0_init_264 : decode cX0_init 264 = .ok (.invokespecial 395, 3) := dk_183 1 139 (dk_at dksX0_init_11 4 rfl rfl)
theorem dX0_init_267 : decode cX0_init 267 = .ok (.aastore, 1) := dk_83 (dk_at dksX0_init_11 7 rfl rfl)
theorem dX0_init_268 : decode cX0_init 268 = .ok (.dup, 1) := dk_89 (dk_at dksX0_init_11 8 rfl rfl)
theorem dX0_init_269 : decode cX0_init 269 = .ok (.iconst 2, 1) := dk_5 (dk_at dksX0_init_11 9 rfl rfl)
theorem dX0_init_270 : decode cX0_init 270 = .ok (.new 161, 3) := dk_187 0 161 (dk_at dksX0_init_11 10 rfl rfl)
theorem dX0_init_273 : decode cX0_init 273 = .ok (.dup, 1) := dk_89 (dk_at dksX0_init_11 13 rfl rfl)
theorem dX0_init_274 : decode cX0_init 274 = .ok (.invokespecial 395, 3) := dk_183 1 139 (dk_at dksX0_init_11 14 rfl rfl)
theorem dX0_init_277 : decode cX0_init 277 = .ok (.aastore, 1) := dk_83 (dk_at dksX0_init_11 17 rfl rfl)
theorem dX0_init_278 : decode cX0_init 278 = .ok (.dup, 1) := dk_89 (dk_at dksX0_init_11 18 rfl rfl)
theorem dX0_init_279 : decode cX0_init 279 = .ok (.iconst 3, 1) := dk_6 (dk_at dksX0_init_11 19 rfl rfl)
theorem dX0_init_280 : decode cX0_init 280 = .ok (.new 161, 3) := dk_187 0 161 (dk_at dksX0_init_11 20 rfl rfl)
theorem dX0_init_283 : decode cX0_init 283 = .ok (.dup, 1) := dk_89 (dk_at dksX0_init_11 23 rfl rfl)
theorem dX0_init_284 : decode cX0_init 284 = .ok (.invokespecial 395, 3) := dk_183 1 139 (dk_at dksX0_init_12 0 rfl rfl)
theorem dX0_init_287 : decode cX0_init 287 = .ok (.aastore, 1) := dk_83 (dk_at dksX0_init_12 3 rfl rfl)
theorem dX0_init_288 : decode cX0_init 288 = .ok (.putfield 156, 3) := dk_181 0 156 (dk_at dksX0_init_12 4 rfl rfl)
theorem dX0_init_291 : decode cX0_init 291 = .ok (.iconst 0, 1) := dk_3 (dk_at dksX0_init_12 7 rfl rfl)
theorem dX0_init_292 : decode cX0_init 292 = .ok (.istore_n 1, 1) := dk_60 (dk_at dksX0_init_12 8 rfl rfl)
theorem dX0_init_293 : decode cX0_init 293 = .ok (.iload_n 1, 1) := dk_27 (dk_at dksX0_init_12 9 rfl rfl)
theorem dX0_init_294 : decode cX0_init 294 = .ok (.bipush 8, 2) := dk_16 8 (dk_at dksX0_init_12 10 rfl rfl)
theorem dX0_init_296 : decode cX0_init 296 = .ok (.if_icmp .ge 22, 3) := dk_162 0 22 (dk_at dksX0_init_12 12 rfl rfl)
theorem dX0_init_299 : decode cX0_init 299 = .ok (.aload_n 0, 1) := dk_42 (dk_at dksX0_init_12 15 rfl rfl)
theorem dX0_init_300 : decode cX0_init 300 = .ok (.getfield 62, 3) := dk_180 0 62 (dk_at dksX0_init_12 16 rfl rfl)
theorem dX0_init_303 : decode cX0_init 303 = .ok (.iload_n 1, 1) := dk_27 (dk_at dksX0_init_12 19 rfl rfl)
theorem dX0_init_304 : decode cX0_init 304 = .ok (.new 67, 3) := dk_187 0 67 (dk_at dksX0_init_12 20 rfl rfl)
theorem dX0_init_307 : decode cX0_init 307 = .ok (.dup, 1) := dk_89 (dk_at dksX0_init_12 23 rfl rfl)
theorem dX0_init_308 : decode cX0_init 308 = .ok (.invokespecial 396, 3) := dk_183 1 140 (dk_at dksX0_init_13 0 rfl rfl)
theorem dX0_init_311 : decode cX0_init 311 = .ok (.aastore, 1) := dk_83 (dk_at dksX0_init_13 3 rfl rfl)
theorem dX0_init_312 : decode cX0_init 312 = .ok (.iinc 1 1, 3) := dk_132 1 1 (dk_at dksX0_init_13 4 rfl rfl)
theorem dX0_init_315 : decode cX0_init 315 = .ok (.goto (-22), 3) := dk_167 255 234 (dk_at dksX0_init_13 7 rfl rfl)
theorem dX0_init_318 : decode cX0_init 318 = .ok (.return_, 1) := dk_177 (dk_at dksX0_init_13 10 rfl rfl)
abbrev cX0_sheet : ByteArray := prog_1_method_91_code
def yX0_sheet : MethodName := ⟨RX0, "sheet", "(III)I"⟩
def dkwX0_sheet_2 : List UInt8 := [182, 0, 166, 172, 42, 180, 0, 156, 27, 50, 28, 181, 1, 150, 29, 172]
abbrev dktX0_sheet_2 : List UInt8 := dkwX0_sheet_2 ++ []
def dkwX0_sheet_1 : List UInt8 := [172, 42, 180, 0, 156, 27, 50, 28, 29, 184, 1, 144, 181, 0, 160, 167, 0, 11, 58, 4, 42, 8]
abbrev dktX0_sheet_1 : List UInt8 := dkwX0_sheet_1 ++ dktX0_sheet_2
def dkwX0_sheet_0 : List UInt8 := [27, 184, 0, 153, 153, 0, 18, 28, 3, 5, 184, 0, 5, 153, 0, 9, 29, 16, 60, 164, 0, 6, 16, 254]
abbrev dktX0_sheet_0 : List UInt8 := dkwX0_sheet_0 ++ dktX0_sheet_1
theorem dksX0_sheet_0 : cX0_sheet.data.toList.drop 0 = dktX0_sheet_0 := by decide +kernel
theorem dksX0_sheet_1 : cX0_sheet.data.toList.drop 24 = dktX0_sheet_1 := dk_seg dksX0_sheet_0 24 rfl rfl
theorem dksX0_sheet_2 : cX0_sheet.data.toList.drop 46 = dktX0_sheet_2 := dk_seg dksX0_sheet_1 22 rfl rfl
theorem dX0_sheet_0 : decode cX0_sheet 0 = .ok (.iload_n 1, 1) := dk_27 (dk_at dksX0_sheet_0 0 rfl rfl)
theorem dX0_sheet_1 : decode cX0_sheet 1 = .ok (.invokestatic 153, 3) := dk_184 0 153 (dk_at dksX0_sheet_0 1 rfl rfl)
theorem dX0_sheet_4 : decode cX0_sheet 4 = .ok (.ifCond .eq 18, 3) := dk_153 0 18 (dk_at dksX0_sheet_0 4 rfl rfl)
theorem dX0_sheet_7 : decode cX0_sheet 7 = .ok (.iload_n 2, 1) := dk_28 (dk_at dksX0_sheet_0 7 rfl rfl)
theorem dX0_sheet_8 : decode cX0_sheet 8 = .ok (.iconst 0, 1) := dk_3 (dk_at dksX0_sheet_0 8 rfl rfl)
theorem dX0_sheet_9 : decode cX0_sheet 9 = .ok (.iconst 2, 1) := dk_5 (dk_at dksX0_sheet_0 9 rfl rfl)
theorem dX0_sheet_10 : decode cX0_sheet 10 = .ok (.invokestatic 5, 3) := dk_184 0 5 (dk_at dksX0_sheet_0 10 rfl rfl)
theorem dX0_sheet_13 : decode cX0_sheet 13 = .ok (.ifCond .eq 9, 3) := dk_153 0 9 (dk_at dksX0_sheet_0 13 rfl rfl)
theorem dX0_sheet_16 : decode cX0_sheet 16 = .ok (.iload_n 3, 1) := dk_29 (dk_at dksX0_sheet_0 16 rfl rfl)
theorem dX0_sheet_17 : decode cX0_sheet 17 = .ok (.bipush 60, 2) := dk_16 60 (dk_at dksX0_sheet_0 17 rfl rfl)
theorem dX0_sheet_19 : decode cX0_sheet 19 = .ok (.if_icmp .le 6, 3) := dk_164 0 6 (dk_at dksX0_sheet_0 19 rfl rfl)
theorem dX0_sheet_22 : decode cX0_sheet 22 = .ok (.bipush (-2), 2) := dk_16 254 (dk_at dksX0_sheet_0 22 rfl rfl)
theorem dX0_sheet_24 : decode cX0_sheet 24 = .ok (.ireturn, 1) := dk_172 (dk_at dksX0_sheet_1 0 rfl rfl)
theorem dX0_sheet_25 : decode cX0_sheet 25 = .ok (.aload_n 0, 1) := dk_42 (dk_at dksX0_sheet_1 1 rfl rfl)
theorem dX0_sheet_26 : decode cX0_sheet 26 = .ok (.getfield 156, 3) := dk_180 0 156 (dk_at dksX0_sheet_1 2 rfl rfl)
theorem dX0_sheet_29 : decode cX0_sheet 29 = .ok (.iload_n 1, 1) := dk_27 (dk_at dksX0_sheet_1 5 rfl rfl)
theorem dX0_sheet_30 : decode cX0_sheet 30 = .ok (.aaload, 1) := dk_50 (dk_at dksX0_sheet_1 6 rfl rfl)
theorem dX0_sheet_31 : decode cX0_sheet 31 = .ok (.iload_n 2, 1) := dk_28 (dk_at dksX0_sheet_1 7 rfl rfl)
theorem dX0_sheet_32 : decode cX0_sheet 32 = .ok (.iload_n 3, 1) := dk_29 (dk_at dksX0_sheet_1 8 rfl rfl)
theorem dX0_sheet_33 : decode cX0_sheet 33 = .ok (.invokestatic 400, 3) := dk_184 1 144 (dk_at dksX0_sheet_1 9 rfl rfl)
theorem dX0_sheet_36 : decode cX0_sheet 36 = .ok (.putfield 160, 3) := dk_181 0 160 (dk_at dksX0_sheet_1 12 rfl rfl)
theorem dX0_sheet_39 : decode cX0_sheet 39 = .ok (.goto 11, 3) := dk_167 0 11 (dk_at dksX0_sheet_1 15 rfl rfl)
theorem dX0_sheet_42 : decode cX0_sheet 42 = .ok (.astore 4, 2) := dk_58 4 (dk_at dksX0_sheet_1 18 rfl rfl)
theorem dX0_sheet_44 : decode cX0_sheet 44 = .ok (.aload_n 0, 1) := dk_42 (dk_at dksX0_sheet_1 20 rfl rfl)
theorem dX0_sheet_45 : decode cX0_sheet 45 = .ok (.iconst 5, 1) := dk_8 (dk_at dksX0_sheet_1 21 rfl rfl)
theorem dX0_sheet_46 : decode cX0_sheet 46 = .ok (.invokevirtual 166, 3) := dk_182 0 166 (dk_at dksX0_sheet_2 0 rfl rfl)
theorem dX0_sheet_49 : decode cX0_sheet 49 = .ok (.ireturn, 1) := dk_172 (dk_at dksX0_sheet_2 3 rfl rfl)
theorem dX0_sheet_50 : decode cX0_sheet 50 = .ok (.aload_n 0, 1) := dk_42 (dk_at dksX0_sheet_2 4 rfl rfl)
theorem dX0_sheet_51 : decode cX0_sheet 51 = .ok (.getfield 156, 3) := dk_180 0 156 (dk_at dksX0_sheet_2 5 rfl rfl)
theorem dX0_sheet_54 : decode cX0_sheet 54 = .ok (.iload_n 1, 1) := dk_27 (dk_at dksX0_sheet_2 8 rfl rfl)
theorem dX0_sheet_55 : decode cX0_sheet 55 = .ok (.aaload, 1) := dk_50 (dk_at dksX0_sheet_2 9 rfl rfl)
theorem dX0_sheet_56 : decode cX0_sheet 56 = .ok (.iload_n 2, 1) := dk_28 (dk_at dksX0_sheet_2 10 rfl rfl)
theorem dX0_sheet_57 : decode cX0_sheet 57 = .ok (.putfield 406, 3) := dk_181 1 150 (dk_at dksX0_sheet_2 11 rfl rfl)
theorem dX0_sheet_60 : decode cX0_sheet 60 = .ok (.iload_n 3, 1) := dk_29 (dk_at dksX0_sheet_2 14 rfl rfl)
theorem dX0_sheet_61 : decode cX0_sheet 61 = .ok (.ireturn, 1) := dk_172 (dk_at dksX0_sheet_2 15 rfl rfl)
abbrev cX0_rowOf : ByteArray := prog_1_method_90_code
def yX0_rowOf : MethodName := ⟨RX0, "rowOf", "(II)Ljava/lang/Object;"⟩
def dkwX0_rowOf_2 : List UInt8 := [27, 188, 8, 176, 27, 188, 9, 176, 27, 188, 10, 176]
abbrev dktX0_rowOf_2 : List UInt8 := dkwX0_rowOf_2 ++ []
def dkwX0_rowOf_1 : List UInt8 := [171, 0, 0, 0, 0, 0, 35, 0, 0, 0, 2, 0, 0, 0, 0, 0, 0, 0, 27, 0, 0, 0, 1, 0, 0, 0, 31]
abbrev dktX0_rowOf_1 : List UInt8 := dkwX0_rowOf_1 ++ dktX0_rowOf_2
def dkwX0_rowOf_0 : List UInt8 := [26]
abbrev dktX0_rowOf_0 : List UInt8 := dkwX0_rowOf_0 ++ dktX0_rowOf_1
theorem dksX0_rowOf_0 : cX0_rowOf.data.toList.drop 0 = dktX0_rowOf_0 := by decide +kernel
theorem dksX0_rowOf_1 : cX0_rowOf.data.toList.drop 1 = dktX0_rowOf_1 := dk_seg dksX0_rowOf_0 1 rfl rfl
theorem dksX0_rowOf_2 : cX0_rowOf.data.toList.drop 28 = dktX0_rowOf_2 := dk_seg dksX0_rowOf_1 27 rfl rfl
theorem dX0_rowOf_0 : decode cX0_rowOf 0 = .ok (.iload_n 0, 1) := dk_26 (dk_at dksX0_rowOf_0 0 rfl rfl)
theorem dX0_rowOf_1 : decode cX0_rowOf 1 = .ok (.lookupswitch 35 #[(0, 27), (1, 31)], 27) := by decide +kernel
theorem dX0_rowOf_28 : decode cX0_rowOf 28 = .ok (.iload_n 1, 1) := dk_27 (dk_at dksX0_rowOf_2 0 rfl rfl)
theorem dX0_rowOf_29 : decode cX0_rowOf 29 = .ok (.newarray .byte, 2) := dk_188_8 (dk_at dksX0_rowOf_2 1 rfl rfl)
theorem dX0_rowOf_31 : decode cX0_rowOf 31 = .ok (.areturn, 1) := dk_176 (dk_at dksX0_rowOf_2 3 rfl rfl)
theorem dX0_rowOf_32 : decode cX0_rowOf 32 = .ok (.iload_n 1, 1) := dk_27 (dk_at dksX0_rowOf_2 4 rfl rfl)
theorem dX0_rowOf_33 : decode cX0_rowOf 33 = .ok (.newarray .short, 2) := dk_188_9 (dk_at dksX0_rowOf_2 5 rfl rfl)
theorem dX0_rowOf_35 : decode cX0_rowOf 35 = .ok (.areturn, 1) := dk_176 (dk_at dksX0_rowOf_2 7 rfl rfl)
theorem dX0_rowOf_36 : decode cX0_rowOf 36 = .ok (.iload_n 1, 1) := dk_27 (dk_at dksX0_rowOf_2 8 rfl rfl)
theorem dX0_rowOf_37 : decode cX0_rowOf 37 = .ok (.newarray .int, 2) := dk_188_10 (dk_at dksX0_rowOf_2 9 rfl rfl)
theorem dX0_rowOf_39 : decode cX0_rowOf 39 = .ok (.areturn, 1) := dk_176 (dk_at dksX0_rowOf_2 11 rfl rfl)
abbrev cX0_lose : ByteArray := prog_1_method_92_code
def yX0_lose : MethodName := ⟨RX0, "lose", "(I)I"⟩
def dkwX0_lose_2 : List UInt8 := [28, 172]
abbrev dktX0_lose_2 : List UInt8 := dkwX0_lose_2 ++ []
def dkwX0_lose_1 : List UInt8 := [182, 0, 166, 172, 42, 180, 0, 156, 27, 50, 182, 0, 169, 61, 42, 180, 0, 156, 27, 50, 1, 181, 0, 160]
abbrev dktX0_lose_1 : List UInt8 := dkwX0_lose_1 ++ dktX0_lose_2
def dkwX0_lose_0 : List UInt8 := [27, 184, 0, 153, 154, 0, 6, 16, 254, 172, 42, 180, 0, 156, 27, 50, 180, 0, 160, 199, 0, 9, 42, 4]
abbrev dktX0_lose_0 : List UInt8 := dkwX0_lose_0 ++ dktX0_lose_1
theorem dksX0_lose_0 : cX0_lose.data.toList.drop 0 = dktX0_lose_0 := by decide +kernel
theorem dksX0_lose_1 : cX0_lose.data.toList.drop 24 = dktX0_lose_1 := dk_seg dksX0_lose_0 24 rfl rfl
theorem dksX0_lose_2 : cX0_lose.data.toList.drop 48 = dktX0_lose_2 := dk_seg dksX0_lose_1 24 rfl rfl
theorem dX0_lose_0 : decode cX0_lose 0 = .ok (.iload_n 1, 1) := dk_27 (dk_at dksX0_lose_0 0 rfl rfl)
theorem dX0_lose_1 : decode cX0_lose 1 = .ok (.invokestatic 153, 3) := dk_184 0 153 (dk_at dksX0_lose_0 1 rfl rfl)
theorem dX0_lose_4 : decode cX0_lose 4 = .ok (.ifCond .ne 6, 3) := dk_154 0 6 (dk_at dksX0_lose_0 4 rfl rfl)
theorem dX0_lose_7 : decode cX0_lose 7 = .ok (.bipush (-2), 2) := dk_16 254 (dk_at dksX0_lose_0 7 rfl rfl)
theorem dX0_lose_9 : decode cX0_lose 9 = .ok (.ireturn, 1) := dk_172 (dk_at dksX0_lose_0 9 rfl rfl)
theorem dX0_lose_10 : decode cX0_lose 10 = .ok (.aload_n 0, 1) := dk_42 (dk_at dksX0_lose_0 10 rfl rfl)
theorem dX0_lose_11 : decode cX0_lose 11 = .ok (.getfield 156, 3) := dk_180 0 156 (dk_at dksX0_lose_0 11 rfl rfl)
theorem dX0_lose_14 : decode cX0_lose 14 = .ok (.iload_n 1, 1) := dk_27 (dk_at dksX0_lose_0 14 rfl rfl)
theorem dX0_lose_15 : decode cX0_lose 15 = .ok (.aaload, 1) := dk_50 (dk_at dksX0_lose_0 15 rfl rfl)
theorem dX0_lose_16 : decode cX0_lose 16 = .ok (.getfield 160, 3) := dk_180 0 160 (dk_at dksX0_lose_0 16 rfl rfl)
theorem dX0_lose_19 : decode cX0_lose 19 = .ok (.ifnonnull 9, 3) := dk_199 0 9 (dk_at dksX0_lose_0 19 rfl rfl)
theorem dX0_lose_22 : decode cX0_lose 22 = .ok (.aload_n 0, 1) := dk_42 (dk_at dksX0_lose_0 22 rfl rfl)
theorem dX0_lose_23 : decode cX0_lose 23 = .ok (.iconst 1, 1) := dk_4 (dk_at dksX0_lose_0 23 rfl rfl)
theorem dX0_lose_24 : decode cX0_lose 24 = .ok (.invokevirtual 166, 3) := dk_182 0 166 (dk_at dksX0_lose_1 0 rfl rfl)
theorem dX0_lose_27 : decode cX0_lose 27 = .ok (.ireturn, 1) := dk_172 (dk_at dksX0_lose_1 3 rfl rfl)
theorem dX0_lose_28 : decode cX0_lose 28 = .ok (.aload_n 0, 1) := dk_42 (dk_at dksX0_lose_1 4 rfl rfl)
theorem dX0_lose_29 : decode cX0_lose 29 = .ok (.getfield 156, 3) := dk_180 0 156 (dk_at dksX0_lose_1 5 rfl rfl)
theorem dX0_lose_32 : decode cX0_lose 32 = .ok (.iload_n 1, 1) := dk_27 (dk_at dksX0_lose_1 8 rfl rfl)
theorem dX0_lose_33 : decode cX0_lose 33 = .ok (.aaload, 1) := dk_50 (dk_at dksX0_lose_1 9 rfl rfl)
theorem dX0_lose_34 : decode cX0_lose 34 = .ok (.invokevirtual 169, 3) := dk_182 0 169 (dk_at dksX0_lose_1 10 rfl rfl)
theorem dX0_lose_37 : decode cX0_lose 37 = .ok (.istore_n 2, 1) := dk_61 (dk_at dksX0_lose_1 13 rfl rfl)
theorem dX0_lose_38 : decode cX0_lose 38 = .ok (.aload_n 0, 1) := dk_42 (dk_at dksX0_lose_1 14 rfl rfl)
theorem dX0_lose_39 : decode cX0_lose 39 = .ok (.getfield 156, 3) := dk_180 0 156 (dk_at dksX0_lose_1 15 rfl rfl)
theorem dX0_lose_42 : decode cX0_lose 42 = .ok (.iload_n 1, 1) := dk_27 (dk_at dksX0_lose_1 18 rfl rfl)
theorem dX0_lose_43 : decode cX0_lose 43 = .ok (.aaload, 1) := dk_50 (dk_at dksX0_lose_1 19 rfl rfl)
theorem dX0_lose_44 : decode cX0_lose 44 = .ok (.aconst_null, 1) := dk_1 (dk_at dksX0_lose_1 20 rfl rfl)
theorem dX0_lose_45 : decode cX0_lose 45 = .ok (.putfield 160, 3) := dk_181 0 160 (dk_at dksX0_lose_1 21 rfl rfl)
theorem dX0_lose_48 : decode cX0_lose 48 = .ok (.iload_n 2, 1) := dk_28 (dk_at dksX0_lose_2 0 rfl rfl)
theorem dX0_lose_49 : decode cX0_lose 49 = .ok (.ireturn, 1) := dk_172 (dk_at dksX0_lose_2 1 rfl rfl)
abbrev cX0_lay : ByteArray := prog_1_method_95_code
def yX0_lay : MethodName := ⟨RX0, "lay", "(IIII)I"⟩
def dkwX0_lay_2 : List UInt8 := [6, 182, 0, 166, 172, 58, 5, 42, 5, 182, 0, 166, 172]
abbrev dktX0_lay_2 : List UInt8 := dkwX0_lay_2 ++ []
def dkwX0_lay_1 : List UInt8 := [50, 180, 0, 160, 28, 29, 21, 4, 184, 1, 157, 4, 172, 58, 5, 42, 4, 182, 0, 166, 172, 58, 5, 42]
abbrev dktX0_lay_1 : List UInt8 := dkwX0_lay_1 ++ dktX0_lay_2
def dkwX0_lay_0 : List UInt8 := [27, 184, 0, 153, 153, 0, 12, 28, 3, 5, 184, 0, 5, 154, 0, 6, 16, 254, 172, 42, 180, 0, 156, 27]
abbrev dktX0_lay_0 : List UInt8 := dkwX0_lay_0 ++ dktX0_lay_1
theorem dksX0_lay_0 : cX0_lay.data.toList.drop 0 = dktX0_lay_0 := by decide +kernel
theorem dksX0_lay_1 : cX0_lay.data.toList.drop 24 = dktX0_lay_1 := dk_seg dksX0_lay_0 24 rfl rfl
theorem dksX0_lay_2 : cX0_lay.data.toList.drop 48 = dktX0_lay_2 := dk_seg dksX0_lay_1 24 rfl rfl
theorem dX0_lay_0 : decode cX0_lay 0 = .ok (.iload_n 1, 1) := dk_27 (dk_at dksX0_lay_0 0 rfl rfl)
theorem dX0_lay_1 : decode cX0_lay 1 = .ok (.invokestatic 153, 3) := dk_184 0 153 (dk_at dksX0_lay_0 1 rfl rfl)
theorem dX0_lay_4 : decode cX0_lay 4 = .ok (.ifCond .eq 12, 3) := dk_153 0 12 (dk_at dksX0_lay_0 4 rfl rfl)
theorem dX0_lay_7 : decode cX0_lay 7 = .ok (.iload_n 2, 1) := dk_28 (dk_at dksX0_lay_0 7 rfl rfl)
theorem dX0_lay_8 : decode cX0_lay 8 = .ok (.iconst 0, 1) := dk_3 (dk_at dksX0_lay_0 8 rfl rfl)
theorem dX0_lay_9 : decode cX0_lay 9 = .ok (.iconst 2, 1) := dk_5 (dk_at dksX0_lay_0 9 rfl rfl)
theorem dX0_lay_10 : decode cX0_lay 10 = .ok (.invokestatic 5, 3) := dk_184 0 5 (dk_at dksX0_lay_0 10 rfl rfl)
theorem dX0_lay_13 : decode cX0_lay 13 = .ok (.ifCond .ne 6, 3) := dk_154 0 6 (dk_at dksX0_lay_0 13 rfl rfl)
theorem dX0_lay_16 : decode cX0_lay 16 = .ok (.bipush (-2), 2) := dk_16 254 (dk_at dksX0_lay_0 16 rfl rfl)
theorem dX0_lay_18 : decode cX0_lay 18 = .ok (.ireturn, 1) := dk_172 (dk_at dksX0_lay_0 18 rfl rfl)
theorem dX0_lay_19 : decode cX0_lay 19 = .ok (.aload_n 0, 1) := dk_42 (dk_at dksX0_lay_0 19 rfl rfl)
theorem dX0_lay_20 : decode cX0_lay 20 = .ok (.getfield 156, 3) := dk_180 0 156 (dk_at dksX0_lay_0 20 rfl rfl)
theorem dX0_lay_23 : decode cX0_lay 23 = .ok (.iload_n 1, 1) := dk_27 (dk_at dksX0_lay_0 23 rfl rfl)
theorem dX0_lay_24 : decode cX0_lay 24 = .ok (.aaload, 1) := dk_50 (dk_at dksX0_lay_1 0 rfl rfl)
theorem dX0_lay_25 : decode cX0_lay 25 = .ok (.getfield 160, 3) := dk_180 0 160 (dk_at dksX0_lay_1 1 rfl rfl)
theorem dX0_lay_28 : decode cX0_lay 28 = .ok (.iload_n 2, 1) := dk_28 (dk_at dksX0_lay_1 4 rfl rfl)
theorem dX0_lay_29 : decode cX0_lay 29 = .ok (.iload_n 3, 1) := dk_29 (dk_at dksX0_lay_1 5 rfl rfl)
theorem dX0_lay_30 : decode cX0_lay 30 = .ok (.iload 4, 2) := dk_21 4 (dk_at dksX0_lay_1 6 rfl rfl)
theorem dX0_lay_32 : decode cX0_lay 32 = .ok (.invokestatic 413, 3) := dk_184 1 157 (dk_at dksX0_lay_1 8 rfl rfl)
theorem dX0_lay_35 : decode cX0_lay 35 = .ok (.iconst 1, 1) := dk_4 (dk_at dksX0_lay_1 11 rfl rfl)
theorem dX0_lay_36 : decode cX0_lay 36 = .ok (.ireturn, 1) := dk_172 (dk_at dksX0_lay_1 12 rfl rfl)
theorem dX0_lay_37 : decode cX0_lay 37 = .ok (.astore 5, 2) := dk_58 5 (dk_at dksX0_lay_1 13 rfl rfl)
theorem dX0_lay_39 : decode cX0_lay 39 = .ok (.aload_n 0, 1) := dk_42 (dk_at dksX0_lay_1 15 rfl rfl)
theorem dX0_lay_40 : decode cX0_lay 40 = .ok (.iconst 1, 1) := dk_4 (dk_at dksX0_lay_1 16 rfl rfl)
theorem dX0_lay_41 : decode cX0_lay 41 = .ok (.invokevirtual 166, 3) := dk_182 0 166 (dk_at dksX0_lay_1 17 rfl rfl)
theorem dX0_lay_44 : decode cX0_lay 44 = .ok (.ireturn, 1) := dk_172 (dk_at dksX0_lay_1 20 rfl rfl)
theorem dX0_lay_45 : decode cX0_lay 45 = .ok (.astore 5, 2) := dk_58 5 (dk_at dksX0_lay_1 21 rfl rfl)
theorem dX0_lay_47 : decode cX0_lay 47 = .ok (.aload_n 0, 1) := dk_42 (dk_at dksX0_lay_1 23 rfl rfl)
theorem dX0_lay_48 : decode cX0_lay 48 = .ok (.iconst 3, 1) := dk_6 (dk_at dksX0_lay_2 0 rfl rfl)
theorem dX0_lay_49 : decode cX0_lay 49 = .ok (.invokevirtual 166, 3) := dk_182 0 166 (dk_at dksX0_lay_2 1 rfl rfl)
theorem dX0_lay_52 : decode cX0_lay 52 = .ok (.ireturn, 1) := dk_172 (dk_at dksX0_lay_2 4 rfl rfl)
theorem dX0_lay_53 : decode cX0_lay 53 = .ok (.astore 5, 2) := dk_58 5 (dk_at dksX0_lay_2 5 rfl rfl)
theorem dX0_lay_55 : decode cX0_lay 55 = .ok (.aload_n 0, 1) := dk_42 (dk_at dksX0_lay_2 7 rfl rfl)
theorem dX0_lay_56 : decode cX0_lay 56 = .ok (.iconst 2, 1) := dk_5 (dk_at dksX0_lay_2 8 rfl rfl)
theorem dX0_lay_57 : decode cX0_lay 57 = .ok (.invokevirtual 166, 3) := dk_182 0 166 (dk_at dksX0_lay_2 9 rfl rfl)
theorem dX0_lay_60 : decode cX0_lay 60 = .ok (.ireturn, 1) := dk_172 (dk_at dksX0_lay_2 12 rfl rfl)
abbrev cX0_laid : ByteArray := prog_1_method_93_code
def yX0_laid : MethodName := ⟨RX0, "laid", "(Ljava/lang/Object;III)V"⟩
def dkwX0_laid_3 : List UInt8 := [192, 1, 130, 28, 29, 79, 177]
abbrev dktX0_laid_3 : List UInt8 := dkwX0_laid_3 ++ []
def dkwX0_laid_2 : List UInt8 := [42, 192, 1, 153, 28, 29, 145, 84, 167, 0, 21, 42, 192, 1, 155, 28, 29, 147, 86, 167, 0, 10, 42]
abbrev dktX0_laid_2 : List UInt8 := dkwX0_laid_2 ++ dktX0_laid_3
def dkwX0_laid_1 : List UInt8 := [171, 0, 0, 0, 0, 0, 49, 0, 0, 0, 2, 0, 0, 0, 0, 0, 0, 0, 27, 0, 0, 0, 1, 0, 0, 0, 38]
abbrev dktX0_laid_1 : List UInt8 := dkwX0_laid_1 ++ dktX0_laid_2
def dkwX0_laid_0 : List UInt8 := [27]
abbrev dktX0_laid_0 : List UInt8 := dkwX0_laid_0 ++ dktX0_laid_1
theorem dksX0_laid_0 : cX0_laid.data.toList.drop 0 = dktX0_laid_0 := by decide +kernel
theorem dksX0_laid_1 : cX0_laid.data.toList.drop 1 = dktX0_laid_1 := dk_seg dksX0_laid_0 1 rfl rfl
theorem dksX0_laid_2 : cX0_laid.data.toList.drop 28 = dktX0_laid_2 := dk_seg dksX0_laid_1 27 rfl rfl
theorem dksX0_laid_3 : cX0_laid.data.toList.drop 51 = dktX0_laid_3 := dk_seg dksX0_laid_2 23 rfl rfl
theorem dX0_laid_0 : decode cX0_laid 0 = .ok (.iload_n 1, 1) := dk_27 (dk_at dksX0_laid_0 0 rfl rfl)
theorem dX0_laid_1 : decode cX0_laid 1 = .ok (.lookupswitch 49 #[(0, 27), (1, 38)], 27) := by decide +kernel
theorem dX0_laid_28 : decode cX0_laid 28 = .ok (.aload_n 0, 1) := dk_42 (dk_at dksX0_laid_2 0 rfl rfl)
theorem dX0_laid_29 : decode cX0_laid 29 = .ok (.checkcast 409, 3) := dk_192 1 153 (dk_at dksX0_laid_2 1 rfl rfl)
theorem dX0_laid_32 : decode cX0_laid 32 = .ok (.iload_n 2, 1) := dk_28 (dk_at dksX0_laid_2 4 rfl rfl)
theorem dX0_laid_33 : decode cX0_laid 33 = .ok (.iload_n 3, 1) := dk_29 (dk_at dksX0_laid_2 5 rfl rfl)
theorem dX0_laid_34 : decode cX0_laid 34 = .ok (.i2b, 1) := dk_145 (dk_at dksX0_laid_2 6 rfl rfl)
theorem dX0_laid_35 : decode cX0_laid 35 = .ok (.bastore, 1) := dk_84 (dk_at dksX0_laid_2 7 rfl rfl)
theorem dX0_laid_36 : decode cX0_laid 36 = .ok (.goto 21, 3) := dk_167 0 21 (dk_at dksX0_laid_2 8 rfl rfl)
theorem dX0_laid_39 : decode cX0_laid 39 = .ok (.aload_n 0, 1) := dk_42 (dk_at dksX0_laid_2 11 rfl rfl)
theorem dX0_laid_40 : decode cX0_laid 40 = .ok (.checkcast 411, 3) := dk_192 1 155 (dk_at dksX0_laid_2 12 rfl rfl)
theorem dX0_laid_43 : decode cX0_laid 43 = .ok (.iload_n 2, 1) := dk_28 (dk_at dksX0_laid_2 15 rfl rfl)
theorem dX0_laid_44 : decode cX0_laid 44 = .ok (.iload_n 3, 1) := dk_29 (dk_at dksX0_laid_2 16 rfl rfl)
theorem dX0_laid_45 : decode cX0_laid 45 = .ok (.i2s, 1) := dk_147 (dk_at dksX0_laid_2 17 rfl rfl)
theorem dX0_laid_46 : decode cX0_laid 46 = .ok (.sastore, 1) := dk_86 (dk_at dksX0_laid_2 18 rfl rfl)
theorem dX0_laid_47 : decode cX0_laid 47 = .ok (.goto 10, 3) := dk_167 0 10 (dk_at dksX0_laid_2 19 rfl rfl)
theorem dX0_laid_50 : decode cX0_laid 50 = .ok (.aload_n 0, 1) := dk_42 (dk_at dksX0_laid_2 22 rfl rfl)
theorem dX0_laid_51 : decode cX0_laid 51 = .ok (.checkcast 386, 3) := dk_192 1 130 (dk_at dksX0_laid_3 0 rfl rfl)
theorem dX0_laid_54 : decode cX0_laid 54 = .ok (.iload_n 2, 1) := dk_28 (dk_at dksX0_laid_3 3 rfl rfl)
theorem dX0_laid_55 : decode cX0_laid 55 = .ok (.iload_n 3, 1) := dk_29 (dk_at dksX0_laid_3 4 rfl rfl)
theorem dX0_laid_56 : decode cX0_laid 56 = .ok (.iastore, 1) := dk_79 (dk_at dksX0_laid_3 5 rfl rfl)
theorem dX0_laid_57 : decode cX0_laid 57 = .ok (.return_, 1) := dk_177 (dk_at dksX0_laid_3 6 rfl rfl)
abbrev cX0_get : ByteArray := prog_1_method_96_code
def yX0_get : MethodName := ⟨RX0, "get", "(III)I"⟩
def dkwX0_get_2 : List UInt8 := [6, 54, 4, 167, 0, 8, 58, 5, 5, 54, 4, 42, 21, 4, 181, 1, 141, 19, 1, 167, 172]
abbrev dktX0_get_2 : List UInt8 := dkwX0_get_2 ++ []
def dkwX0_get_1 : List UInt8 := [180, 0, 156, 27, 50, 180, 0, 160, 28, 29, 184, 1, 168, 172, 58, 5, 4, 54, 4, 167, 0, 16, 58, 5]
abbrev dktX0_get_1 : List UInt8 := dkwX0_get_1 ++ dktX0_get_2
def dkwX0_get_0 : List UInt8 := [27, 184, 0, 153, 153, 0, 12, 28, 3, 5, 184, 0, 5, 154, 0, 7, 19, 1, 167, 172, 3, 54, 4, 42]
abbrev dktX0_get_0 : List UInt8 := dkwX0_get_0 ++ dktX0_get_1
theorem dksX0_get_0 : cX0_get.data.toList.drop 0 = dktX0_get_0 := by decide +kernel
theorem dksX0_get_1 : cX0_get.data.toList.drop 24 = dktX0_get_1 := dk_seg dksX0_get_0 24 rfl rfl
theorem dksX0_get_2 : cX0_get.data.toList.drop 48 = dktX0_get_2 := dk_seg dksX0_get_1 24 rfl rfl
theorem dX0_get_0 : decode cX0_get 0 = .ok (.iload_n 1, 1) := dk_27 (dk_at dksX0_get_0 0 rfl rfl)
theorem dX0_get_1 : decode cX0_get 1 = .ok (.invokestatic 153, 3) := dk_184 0 153 (dk_at dksX0_get_0 1 rfl rfl)
theorem dX0_get_4 : decode cX0_get 4 = .ok (.ifCond .eq 12, 3) := dk_153 0 12 (dk_at dksX0_get_0 4 rfl rfl)
theorem dX0_get_7 : decode cX0_get 7 = .ok (.iload_n 2, 1) := dk_28 (dk_at dksX0_get_0 7 rfl rfl)
theorem dX0_get_8 : decode cX0_get 8 = .ok (.iconst 0, 1) := dk_3 (dk_at dksX0_get_0 8 rfl rfl)
theorem dX0_get_9 : decode cX0_get 9 = .ok (.iconst 2, 1) := dk_5 (dk_at dksX0_get_0 9 rfl rfl)
theorem dX0_get_10 : decode cX0_get 10 = .ok (.invokestatic 5, 3) := dk_184 0 5 (dk_at dksX0_get_0 10 rfl rfl)
theorem dX0_get_13 : decode cX0_get 13 = .ok (.ifCond .ne 7, 3) := dk_154 0 7 (dk_at dksX0_get_0 13 rfl rfl)
theorem dX0_get_16 : decode cX0_get 16 = .ok (.ldc_w 423, 3) := dk_19 1 167 (dk_at dksX0_get_0 16 rfl rfl)
theorem dX0_get_19 : decode cX0_get 19 = .ok (.ireturn, 1) := dk_172 (dk_at dksX0_get_0 19 rfl rfl)
theorem dX0_get_20 : decode cX0_get 20 = .ok (.iconst 0, 1) := dk_3 (dk_at dksX0_get_0 20 rfl rfl)
theorem dX0_get_21 : decode cX0_get 21 = .ok (.istore 4, 2) := dk_54 4 (dk_at dksX0_get_0 21 rfl rfl)
theorem dX0_get_23 : decode cX0_get 23 = .ok (.aload_n 0, 1) := dk_42 (dk_at dksX0_get_0 23 rfl rfl)
theorem dX0_get_24 : decode cX0_get 24 = .ok (.getfield 156, 3) := dk_180 0 156 (dk_at dksX0_get_1 0 rfl rfl)
theorem dX0_get_27 : decode cX0_get 27 = .ok (.iload_n 1, 1) := dk_27 (dk_at dksX0_get_1 3 rfl rfl)
theorem dX0_get_28 : decode cX0_get 28 = .ok (.aaload, 1) := dk_50 (dk_at dksX0_get_1 4 rfl rfl)
theorem dX0_get_29 : decode cX0_get 29 = .ok (.getfield 160, 3) := dk_180 0 160 (dk_at dksX0_get_1 5 rfl rfl)
theorem dX0_get_32 : decode cX0_get 32 = .ok (.iload_n 2, 1) := dk_28 (dk_at dksX0_get_1 8 rfl rfl)
theorem dX0_get_33 : decode cX0_get 33 = .ok (.iload_n 3, 1) := dk_29 (dk_at dksX0_get_1 9 rfl rfl)
theorem dX0_get_34 : decode cX0_get 34 = .ok (.invokestatic 424, 3) := dk_184 1 168 (dk_at dksX0_get_1 10 rfl rfl)
theorem dX0_get_37 : decode cX0_get 37 = .ok (.ireturn, 1) := dk_172 (dk_at dksX0_get_1 13 rfl rfl)
theorem dX0_get_38 : decode cX0_get 38 = .ok (.astore 5, 2) := dk_58 5 (dk_at dksX0_get_1 14 rfl rfl)
theorem dX0_get_40 : decode cX0_get 40 = .ok (.iconst 1, 1) := dk_4 (dk_at dksX0_get_1 16 rfl rfl)
theorem dX0_get_41 : decode cX0_get 41 = .ok (.istore 4, 2) := dk_54 4 (dk_at dksX0_get_1 17 rfl rfl)
theorem dX0_get_43 : decode cX0_get 43 = .ok (.goto 16, 3) := dk_167 0 16 (dk_at dksX0_get_1 19 rfl rfl)
theorem dX0_get_46 : decode cX0_get 46 = .ok (.astore 5, 2) := dk_58 5 (dk_at dksX0_get_1 22 rfl rfl)
theorem dX0_get_48 : decode cX0_get 48 = .ok (.iconst 3, 1) := dk_6 (dk_at dksX0_get_2 0 rfl rfl)
theorem dX0_get_49 : decode cX0_get 49 = .ok (.istore 4, 2) := dk_54 4 (dk_at dksX0_get_2 1 rfl rfl)
theorem dX0_get_51 : decode cX0_get 51 = .ok (.goto 8, 3) := dk_167 0 8 (dk_at dksX0_get_2 3 rfl rfl)
theorem dX0_get_54 : decode cX0_get 54 = .ok (.astore 5, 2) := dk_58 5 (dk_at dksX0_get_2 6 rfl rfl)
theorem dX0_get_56 : decode cX0_get 56 = .ok (.iconst 2, 1) := dk_5 (dk_at dksX0_get_2 8 rfl rfl)
theorem dX0_get_57 : decode cX0_get 57 = .ok (.istore 4, 2) := dk_54 4 (dk_at dksX0_get_2 9 rfl rfl)
theorem dX0_get_59 : decode cX0_get 59 = .ok (.aload_n 0, 1) := dk_42 (dk_at dksX0_get_2 11 rfl rfl)
theorem dX0_get_60 : decode cX0_get 60 = .ok (.iload 4, 2) := dk_21 4 (dk_at dksX0_get_2 12 rfl rfl)
theorem dX0_get_62 : decode cX0_get 62 = .ok (.putfield 397, 3) := dk_181 1 141 (dk_at dksX0_get_2 14 rfl rfl)
theorem dX0_get_65 : decode cX0_get 65 = .ok (.ldc_w 423, 3) := dk_19 1 167 (dk_at dksX0_get_2 17 rfl rfl)
theorem dX0_get_68 : decode cX0_get 68 = .ok (.ireturn, 1) := dk_172 (dk_at dksX0_get_2 20 rfl rfl)
abbrev cX0_copy : ByteArray := prog_1_method_97_code
def yX0_copy : MethodName := ⟨RX0, "copy", "(IIIII)I"⟩
def dkwX0_copy_4 : List UInt8 := [182, 0, 166, 172, 58, 8, 42, 5, 182, 0, 166, 172]
abbrev dktX0_copy_4 : List UInt8 := dkwX0_copy_4 ++ []
def dkwX0_copy_3 : List UInt8 := [180, 0, 160, 28, 25, 7, 180, 0, 160, 21, 4, 21, 5, 184, 0, 190, 4, 172, 58, 8, 42, 4]
abbrev dktX0_copy_3 : List UInt8 := dkwX0_copy_3 ++ dktX0_copy_4
def dkwX0_copy_2 : List UInt8 := [198, 0, 22, 25, 6, 180, 1, 150, 25, 7, 180, 1, 150, 159, 0, 9, 42, 7, 182, 0, 166, 172, 25, 6]
abbrev dktX0_copy_2 : List UInt8 := dkwX0_copy_2 ++ dktX0_copy_3
def dkwX0_copy_1 : List UInt8 := [58, 6, 42, 180, 0, 156, 29, 50, 58, 7, 25, 6, 180, 0, 160, 198, 0, 30, 25, 7, 180, 0, 160]
abbrev dktX0_copy_1 : List UInt8 := dkwX0_copy_1 ++ dktX0_copy_2
def dkwX0_copy_0 : List UInt8 := [27, 184, 0, 153, 153, 0, 10, 29, 184, 0, 153, 154, 0, 6, 16, 254, 172, 42, 180, 0, 156, 27, 50]
abbrev dktX0_copy_0 : List UInt8 := dkwX0_copy_0 ++ dktX0_copy_1
theorem dksX0_copy_0 : cX0_copy.data.toList.drop 0 = dktX0_copy_0 := by decide +kernel
theorem dksX0_copy_1 : cX0_copy.data.toList.drop 23 = dktX0_copy_1 := dk_seg dksX0_copy_0 23 rfl rfl
theorem dksX0_copy_2 : cX0_copy.data.toList.drop 46 = dktX0_copy_2 := dk_seg dksX0_copy_1 23 rfl rfl
theorem dksX0_copy_3 : cX0_copy.data.toList.drop 70 = dktX0_copy_3 := dk_seg dksX0_copy_2 24 rfl rfl
theorem dksX0_copy_4 : cX0_copy.data.toList.drop 92 = dktX0_copy_4 := dk_seg dksX0_copy_3 22 rfl rfl
theorem dX0_copy_0 : decode cX0_copy 0 = .ok (.iload_n 1, 1) := dk_27 (dk_at dksX0_copy_0 0 rfl rfl)
theorem dX0_copy_1 : decode cX0_copy 1 = .ok (.invokestatic 153, 3) := dk_184 0 153 (dk_at dksX0_copy_0 1 rfl rfl)
theorem dX0_copy_4 : decode cX0_copy 4 = .ok (.ifCond .eq 10, 3) := dk_153 0 10 (dk_at dksX0_copy_0 4 rfl rfl)
theorem dX0_copy_7 : decode cX0_copy 7 = .ok (.iload_n 3, 1) := dk_29 (dk_at dksX0_copy_0 7 rfl rfl)
theorem dX0_copy_8 : decode cX0_copy 8 = .ok (.invokestatic 153, 3) := dk_184 0 153 (dk_at dksX0_copy_0 8 rfl rfl)
theorem dX0_copy_11 : decode cX0_copy 11 = .ok (.ifCond .ne 6, 3) := dk_154 0 6 (dk_at dksX0_copy_0 11 rfl rfl)
theorem dX0_copy_14 : decode cX0_copy 14 = .ok (.bipush (-2), 2) := dk_16 254 (dk_at dksX0_copy_0 14 rfl rfl)
theorem dX0_copy_16 : decode cX0_copy 16 = .ok (.ireturn, 1) := dk_172 (dk_at dksX0_copy_0 16 rfl rfl)
theorem dX0_copy_17 : decode cX0_copy 17 = .ok (.aload_n 0, 1) := dk_42 (dk_at dksX0_copy_0 17 rfl rfl)
theorem dX0_copy_18 : decode cX0_copy 18 = .ok (.getfield 156, 3) := dk_180 0 156 (dk_at dksX0_copy_0 18 rfl rfl)
theorem dX0_copy_21 : decode cX0_copy 21 = .ok (.iload_n 1, 1) := dk_27 (dk_at dksX0_copy_0 21 rfl rfl)
theorem dX0_copy_22 : decode cX0_copy 22 = .ok (.aaload, 1) := dk_50 (dk_at dksX0_copy_0 22 rfl rfl)
theorem dX0_copy_23 : decode cX0_copy 23 = .ok (.astore 6, 2) := dk_58 6 (dk_at dksX0_copy_1 0 rfl rfl)
theorem dX0_copy_25 : decode cX0_copy 25 = .ok (.aload_n 0, 1) := dk_42 (dk_at dksX0_copy_1 2 rfl rfl)
theorem dX0_copy_26 : decode cX0_copy 26 = .ok (.getfield 156, 3) := dk_180 0 156 (dk_at dksX0_copy_1 3 rfl rfl)
theorem dX0_copy_29 : decode cX0_copy 29 = .ok (.iload_n 3, 1) := dk_29 (dk_at dksX0_copy_1 6 rfl rfl)
theorem dX0_copy_30 : decode cX0_copy 30 = .ok (.aaload, 1) := dk_50 (dk_at dksX0_copy_1 7 rfl rfl)
theorem dX0_copy_31 : decode cX0_copy 31 = .ok (.astore 7, 2) := dk_58 7 (dk_at dksX0_copy_1 8 rfl rfl)
theorem dX0_copy_33 : decode cX0_copy 33 = .ok (.aload 6, 2) := dk_25 6 (dk_at dksX0_copy_1 10 rfl rfl)
theorem dX0_copy_35 : decode cX0_copy 35 = .ok (.getfield 160, 3) := dk_180 0 160 (dk_at dksX0_copy_1 12 rfl rfl)
theorem dX0_copy_38 : decode cX0_copy 38 = .ok (.ifnull 30, 3) := dk_198 0 30 (dk_at dksX0_copy_1 15 rfl rfl)
theorem dX0_copy_41 : decode cX0_copy 41 = .ok (.aload 7, 2) := dk_25 7 (dk_at dksX0_copy_1 18 rfl rfl)
theorem dX0_copy_43 : decode cX0_copy 43 = .ok (.getfield 160, 3) := dk_180 0 160 (dk_at dksX0_copy_1 20 rfl rfl)
theorem dX0_copy_46 : decode cX0_copy 46 = .ok (.ifnull 22, 3) := dk_198 0 22 (dk_at dksX0_copy_2 0 rfl rfl)
theorem dX0_copy_49 : decode cX0_copy 49 = .ok (.aload 6, 2) := dk_25 6 (dk_at dksX0_copy_2 3 rfl rfl)
theorem dX0_copy_51 : decode cX0_copy 51 = .ok (.getfield 406, 3) := dk_180 1 150 (dk_at dksX0_copy_2 5 rfl rfl)
theorem dX0_copy_54 : decode cX0_copy 54 = .ok (.aload 7, 2) := dk_25 7 (dk_at dksX0_copy_2 8 rfl rfl)
theorem dX0_copy_56 : decode cX0_copy 56 = .ok (.getfield 406, 3) := dk_180 1 150 (dk_at dksX0_copy_2 10 rfl rfl)
theorem dX0_copy_59 : decode cX0_copy 59 = .ok (.if_icmp .eq 9, 3) := dk_159 0 9 (dk_at dksX0_copy_2 13 rfl rfl)
theorem dX0_copy_62 : decode cX0_copy 62 = .ok (.aload_n 0, 1) := dk_42 (dk_at dksX0_copy_2 16 rfl rfl)
theorem dX0_copy_63 : decode cX0_copy 63 = .ok (.iconst 4, 1) := dk_7 (dk_at dksX0_copy_2 17 rfl rfl)
theorem dX0_copy_64 : decode cX0_copy 64 = .ok (.invokevirtual 166, 3) := dk_182 0 166 (dk_at dksX0_copy_2 18 rfl rfl)
theorem dX0_copy_67 : decode cX0_copy 67 = .ok (.ireturn, 1) := dk_172 (dk_at dksX0_copy_2 21 rfl rfl)
theorem dX0_copy_68 : decode cX0_copy 68 = .ok (.aload 6, 2) := dk_25 6 (dk_at dksX0_copy_2 22 rfl rfl)
theorem dX0_copy_70 : decode cX0_copy 70 = .ok (.getfield 160, 3) := dk_180 0 160 (dk_at dksX0_copy_3 0 rfl rfl)
theorem dX0_copy_73 : decode cX0_copy 73 = .ok (.iload_n 2, 1) := dk_28 (dk_at dksX0_copy_3 3 rfl rfl)
theorem dX0_copy_74 : decode cX0_copy 74 = .ok (.aload 7, 2) := dk_25 7 (dk_at dksX0_copy_3 4 rfl rfl)
theorem dX0_copy_76 : decode cX0_copy 76 = .ok (.getfield 160, 3) := dk_180 0 160 (dk_at dksX0_copy_3 6 rfl rfl)
theorem dX0_copy_79 : decode cX0_copy 79 = .ok (.iload 4, 2) := dk_21 4 (dk_at dksX0_copy_3 9 rfl rfl)
theorem dX0_copy_81 : decode cX0_copy 81 = .ok (.iload 5, 2) := dk_21 5 (dk_at dksX0_copy_3 11 rfl rfl)
theorem dX0_copy_83 : decode cX0_copy 83 = .ok (.invokestatic 190, 3) := dk_184 0 190 (dk_at dksX0_copy_3 13 rfl rfl)
theorem dX0_copy_86 : decode cX0_copy 86 = .ok (.iconst 1, 1) := dk_4 (dk_at dksX0_copy_3 16 rfl rfl)
theorem dX0_copy_87 : decode cX0_copy 87 = .ok (.ireturn, 1) := dk_172 (dk_at dksX0_copy_3 17 rfl rfl)
theorem dX0_copy_88 : decode cX0_copy 88 = .ok (.astore 8, 2) := dk_58 8 (dk_at dksX0_copy_3 18 rfl rfl)
theorem dX0_copy_90 : decode cX0_copy 90 = .ok (.aload_n 0, 1) := dk_42 (dk_at dksX0_copy_3 20 rfl rfl)
theorem dX0_copy_91 : decode cX0_copy 91 = .ok (.iconst 1, 1) := dk_4 (dk_at dksX0_copy_3 21 rfl rfl)
theorem dX0_copy_92 : decode cX0_copy 92 = .ok (.invokevirtual 166, 3) := dk_182 0 166 (dk_at dksX0_copy_4 0 rfl rfl)
theorem dX0_copy_95 : decode cX0_copy 95 = .ok (.ireturn, 1) := dk_172 (dk_at dksX0_copy_4 3 rfl rfl)
theorem dX0_copy_96 : decode cX0_copy 96 = .ok (.astore 8, 2) := dk_58 8 (dk_at dksX0_copy_4 4 rfl rfl)
theorem dX0_copy_98 : decode cX0_copy 98 = .ok (.aload_n 0, 1) := dk_42 (dk_at dksX0_copy_4 6 rfl rfl)
theorem dX0_copy_99 : decode cX0_copy 99 = .ok (.iconst 2, 1) := dk_5 (dk_at dksX0_copy_4 7 rfl rfl)
theorem dX0_copy_100 : decode cX0_copy 100 = .ok (.invokevirtual 166, 3) := dk_182 0 166 (dk_at dksX0_copy_4 8 rfl rfl)
theorem dX0_copy_103 : decode cX0_copy 103 = .ok (.ireturn, 1) := dk_172 (dk_at dksX0_copy_4 11 rfl rfl)
abbrev cX0_write : ByteArray := prog_1_method_98_code
def yX0_write : MethodName := ⟨RX0, "write", "(II)I"⟩
def dkwX0_write_4 : List UInt8 := [167, 255, 224, 21, 4, 172]
abbrev dktX0_write_4 : List UInt8 := dkwX0_write_4 ++ []
def dkwX0_write_3 : List UInt8 := [180, 0, 160, 45, 180, 1, 150, 21, 5, 42, 180, 1, 11, 21, 5, 50, 27, 46, 184, 1, 157, 132, 5, 1]
abbrev dktX0_write_3 : List UInt8 := dkwX0_write_3 ++ dktX0_write_4
def dkwX0_write_2 : List UInt8 := [16, 40, 45, 182, 0, 169, 184, 0, 178, 54, 4, 3, 54, 5, 21, 5, 21, 4, 162, 0, 31, 45]
abbrev dktX0_write_2 : List UInt8 := dkwX0_write_2 ++ dktX0_write_3
def dkwX0_write_1 : List UInt8 := [78, 45, 180, 0, 160, 199, 0, 9, 42, 4, 182, 0, 166, 172, 42, 182, 1, 17, 42, 16, 39, 182, 1, 20]
abbrev dktX0_write_1 : List UInt8 := dkwX0_write_1 ++ dktX0_write_2
def dkwX0_write_0 : List UInt8 := [42, 27, 182, 0, 126, 153, 0, 10, 28, 184, 0, 153, 154, 0, 6, 16, 254, 172, 42, 180, 0, 156, 28, 50]
abbrev dktX0_write_0 : List UInt8 := dkwX0_write_0 ++ dktX0_write_1
theorem dksX0_write_0 : cX0_write.data.toList.drop 0 = dktX0_write_0 := by decide +kernel
theorem dksX0_write_1 : cX0_write.data.toList.drop 24 = dktX0_write_1 := dk_seg dksX0_write_0 24 rfl rfl
theorem dksX0_write_2 : cX0_write.data.toList.drop 48 = dktX0_write_2 := dk_seg dksX0_write_1 24 rfl rfl
theorem dksX0_write_3 : cX0_write.data.toList.drop 70 = dktX0_write_3 := dk_seg dksX0_write_2 22 rfl rfl
theorem dksX0_write_4 : cX0_write.data.toList.drop 94 = dktX0_write_4 := dk_seg dksX0_write_3 24 rfl rfl
theorem dX0_write_0 : decode cX0_write 0 = .ok (.aload_n 0, 1) := dk_42 (dk_at dksX0_write_0 0 rfl rfl)
theorem dX0_write_1 : decode cX0_write 1 = .ok (.iload_n 1, 1) := dk_27 (dk_at dksX0_write_0 1 rfl rfl)
theorem dX0_write_2 : decode cX0_write 2 = .ok (.invokevirtual 126, 3) := dk_182 0 126 (dk_at dksX0_write_0 2 rfl rfl)
theorem dX0_write_5 : decode cX0_write 5 = .ok (.ifCond .eq 10, 3) := dk_153 0 10 (dk_at dksX0_write_0 5 rfl rfl)
theorem dX0_write_8 : decode cX0_write 8 = .ok (.iload_n 2, 1) := dk_28 (dk_at dksX0_write_0 8 rfl rfl)
theorem dX0_write_9 : decode cX0_write 9 = .ok (.invokestatic 153, 3) := dk_184 0 153 (dk_at dksX0_write_0 9 rfl rfl)
theorem dX0_write_12 : decode cX0_write 12 = .ok (.ifCond .ne 6, 3) := dk_154 0 6 (dk_at dksX0_write_0 12 rfl rfl)
theorem dX0_write_15 : decode cX0_write 15 = .ok (.bipush (-2), 2) := dk_16 254 (dk_at dksX0_write_0 15 rfl rfl)
theorem dX0_write_17 : decode cX0_write 17 = .ok (.ireturn, 1) := dk_172 (dk_at dksX0_write_0 17 rfl rfl)
theorem dX0_write_18 : decode cX0_write 18 = .ok (.aload_n 0, 1) := dk_42 (dk_at dksX0_write_0 18 rfl rfl)
theorem dX0_write_19 : decode cX0_write 19 = .ok (.getfield 156, 3) := dk_180 0 156 (dk_at dksX0_write_0 19 rfl rfl)
theorem dX0_write_22 : decode cX0_write 22 = .ok (.iload_n 2, 1) := dk_28 (dk_at dksX0_write_0 22 rfl rfl)
theorem dX0_write_23 : decode cX0_write 23 = .ok (.aaload, 1) := dk_50 (dk_at dksX0_write_0 23 rfl rfl)
theorem dX0_write_24 : decode cX0_write 24 = .ok (.astore_n 3, 1) := dk_78 (dk_at dksX0_write_1 0 rfl rfl)
theorem dX0_write_25 : decode cX0_write 25 = .ok (.aload_n 3, 1) := dk_45 (dk_at dksX0_write_1 1 rfl rfl)
theorem dX0_write_26 : decode cX0_write 26 = .ok (.getfield 160, 3) := dk_180 0 160 (dk_at dksX0_write_1 2 rfl rfl)
theorem dX0_write_29 : decode cX0_write 29 = .ok (.ifnonnull 9, 3) := dk_199 0 9 (dk_at dksX0_write_1 5 rfl rfl)
theorem dX0_write_32 : decode cX0_write 32 = .ok (.aload_n 0, 1) := dk_42 (dk_at dksX0_write_1 8 rfl rfl)
theorem dX0_write_33 : decode cX0_write 33 = .ok (.iconst 1, 1) := dk_4 (dk_at dksX0_write_1 9 rfl rfl)
theorem dX0_write_34 : decode cX0_write 34 = .ok (.invokevirtual 166, 3) := dk_182 0 166 (dk_at dksX0_write_1 10 rfl rfl)
theorem dX0_write_37 : decode cX0_write 37 = .ok (.ireturn, 1) := dk_172 (dk_at dksX0_write_1 13 rfl rfl)
theorem dX0_write_38 : decode cX0_write 38 = .ok (.aload_n 0, 1) := dk_42 (dk_at dksX0_write_1 14 rfl rfl)
theorem dX0_write_39 : decode cX0_write 39 = .ok (.invokevirtual 273, 3) := dk_182 1 17 (dk_at dksX0_write_1 15 rfl rfl)
theorem dX0_write_42 : decode cX0_write 42 = .ok (.aload_n 0, 1) := dk_42 (dk_at dksX0_write_1 18 rfl rfl)
theorem dX0_write_43 : decode cX0_write 43 = .ok (.bipush 39, 2) := dk_16 39 (dk_at dksX0_write_1 19 rfl rfl)
theorem dX0_write_45 : decode cX0_write 45 = .ok (.invokevirtual 276, 3) := dk_182 1 20 (dk_at dksX0_write_1 21 rfl rfl)
theorem dX0_write_48 : decode cX0_write 48 = .ok (.bipush 40, 2) := dk_16 40 (dk_at dksX0_write_2 0 rfl rfl)
theorem dX0_write_50 : decode cX0_write 50 = .ok (.aload_n 3, 1) := dk_45 (dk_at dksX0_write_2 2 rfl rfl)
theorem dX0_write_51 : decode cX0_write 51 = .ok (.invokevirtual 169, 3) := dk_182 0 169 (dk_at dksX0_write_2 3 rfl rfl)
theorem dX0_write_54 : decode cX0_write 54 = .ok (.invokestatic 178, 3) := dk_184 0 178 (dk_at dksX0_write_2 6 rfl rfl)
theorem dX0_write_57 : decode cX0_write 57 = .ok (.istore 4, 2) := dk_54 4 (dk_at dksX0_write_2 9 rfl rfl)
theorem dX0_write_59 : decode cX0_write 59 = .ok (.iconst 0, 1) := dk_3 (dk_at dksX0_write_2 11 rfl rfl)
theorem dX0_write_60 : decode cX0_write 60 = .ok (.istore 5, 2) := dk_54 5 (dk_at dksX0_write_2 12 rfl rfl)
theorem dX0_write_62 : decode cX0_write 62 = .ok (.iload 5, 2) := dk_21 5 (dk_at dksX0_write_2 14 rfl rfl)
theorem dX0_write_64 : decode cX0_write 64 = .ok (.iload 4, 2) := dk_21 4 (dk_at dksX0_write_2 16 rfl rfl)
theorem dX0_write_66 : decode cX0_write 66 = .ok (.if_icmp .ge 31, 3) := dk_162 0 31 (dk_at dksX0_write_2 18 rfl rfl)
theorem dX0_write_69 : decode cX0_write 69 = .ok (.aload_n 3, 1) := dk_45 (dk_at dksX0_write_2 21 rfl rfl)
theorem dX0_write_70 : decode cX0_write 70 = .ok (.getfield 160, 3) := dk_180 0 160 (dk_at dksX0_write_3 0 rfl rfl)
theorem dX0_write_73 : decode cX0_write 73 = .ok (.aload_n 3, 1) := dk_45 (dk_at dksX0_write_3 3 rfl rfl)
theorem dX0_write_74 : decode cX0_write 74 = .ok (.getfield 406, 3) := dk_180 1 150 (dk_at dksX0_write_3 4 rfl rfl)
theorem dX0_write_77 : decode cX0_write 77 = .ok (.iload 5, 2) := dk_21 5 (dk_at dksX0_write_3 7 rfl rfl)
theorem dX0_write_79 : decode cX0_write 79 = .ok (.aload_n 0, 1) := dk_42 (dk_at dksX0_write_3 9 rfl rfl)
theorem dX0_write_80 : decode cX0_write 80 = .ok (.getfield 267, 3) := dk_180 1 11 (dk_at dksX0_write_3 10 rfl rfl)
theorem dX0_write_83 : decode cX0_write 83 = .ok (.iload 5, 2) := dk_21 5 (dk_at dksX0_write_3 13 rfl rfl)
theorem dX0_write_85 : decode cX0_write 85 = .ok (.aaload, 1) := dk_50 (dk_at dksX0_write_3 15 rfl rfl)
theorem dX0_write_86 : decode cX0_write 86 = .ok (.iload_n 1, 1) := dk_27 (dk_at dksX0_write_3 16 rfl rfl)
theorem dX0_write_87 : decode cX0_write 87 = .ok (.iaload, 1) := dk_46 (dk_at dksX0_write_3 17 rfl rfl)
theorem dX0_write_88 : decode cX0_write 88 = .ok (.invokestatic 413, 3) := dk_184 1 157 (dk_at dksX0_write_3 18 rfl rfl)
theorem dX0_write_91 : decode cX0_write 91 = .ok (.iinc 5 1, 3) := dk_132 5 1 (dk_at dksX0_write_3 21 rfl rfl)
theorem dX0_write_94 : decode cX0_write 94 = .ok (.goto (-32), 3) := dk_167 255 224 (dk_at dksX0_write_4 0 rfl rfl)
theorem dX0_write_97 : decode cX0_write 97 = .ok (.iload 4, 2) := dk_21 4 (dk_at dksX0_write_4 3 rfl rfl)
theorem dX0_write_99 : decode cX0_write 99 = .ok (.ireturn, 1) := dk_172 (dk_at dksX0_write_4 5 rfl rfl)
abbrev cX0_count : ByteArray := prog_1_method_100_code
def yX0_count : MethodName := ⟨RX0, "count", "(I)I"⟩
def dkwX0_count_3 : List UInt8 := [172, 42, 180, 1, 141, 172, 16, 254, 172]
abbrev dktX0_count_3 : List UInt8 := dkwX0_count_3 ++ []
def dkwX0_count_2 : List UInt8 := [42, 27, 182, 1, 174, 172, 42, 180, 0, 13, 27, 5, 100, 46, 172, 42, 180, 0, 141, 172, 42, 180, 1, 72]
abbrev dktX0_count_2 : List UInt8 := dkwX0_count_2 ++ dktX0_count_3
def dkwX0_count_1 : List UInt8 := [170, 0, 0, 0, 0, 0, 81, 0, 0, 0, 0, 0, 0, 0, 8, 0, 0, 0, 51, 0, 0, 0, 51, 0, 0, 0, 57, 0, 0, 0, 57, 0, 0, 0, 66, 0, 0, 0, 51, 0, 0, 0, 51, 0, 0, 0, 71, 0, 0, 0, 76]
abbrev dktX0_count_1 : List UInt8 := dkwX0_count_1 ++ dktX0_count_2
def dkwX0_count_0 : List UInt8 := [27]
abbrev dktX0_count_0 : List UInt8 := dkwX0_count_0 ++ dktX0_count_1
theorem dksX0_count_0 : cX0_count.data.toList.drop 0 = dktX0_count_0 := by decide +kernel
theorem dksX0_count_1 : cX0_count.data.toList.drop 1 = dktX0_count_1 := dk_seg dksX0_count_0 1 rfl rfl
theorem dksX0_count_2 : cX0_count.data.toList.drop 52 = dktX0_count_2 := dk_seg dksX0_count_1 51 rfl rfl
theorem dksX0_count_3 : cX0_count.data.toList.drop 76 = dktX0_count_3 := dk_seg dksX0_count_2 24 rfl rfl
theorem dX0_count_0 : decode cX0_count 0 = .ok (.iload_n 1, 1) := dk_27 (dk_at dksX0_count_0 0 rfl rfl)
theorem dX0_count_1 : decode cX0_count 1 = .ok (.tableswitch 81 0 8 #[51, 51, 57, 57, 66, 51, 51, 71, 76], 51) := by decide +kernel
theorem dX0_count_52 : decode cX0_count 52 = .ok (.aload_n 0, 1) := dk_42 (dk_at dksX0_count_2 0 rfl rfl)
theorem dX0_count_53 : decode cX0_count 53 = .ok (.iload_n 1, 1) := dk_27 (dk_at dksX0_count_2 1 rfl rfl)
theorem dX0_count_54 : decode cX0_count 54 = .ok (.invokevirtual 430, 3) := dk_182 1 174 (dk_at dksX0_count_2 2 rfl rfl)
theorem dX0_count_57 : decode cX0_count 57 = .ok (.ireturn, 1) := dk_172 (dk_at dksX0_count_2 5 rfl rfl)
theorem dX0_count_58 : decode cX0_count 58 = .ok (.aload_n 0, 1) := dk_42 (dk_at dksX0_count_2 6 rfl rfl)
theorem dX0_count_59 : decode cX0_count 59 = .ok (.getfield 13, 3) := dk_180 0 13 (dk_at dksX0_count_2 7 rfl rfl)
theorem dX0_count_62 : decode cX0_count 62 = .ok (.iload_n 1, 1) := dk_27 (dk_at dksX0_count_2 10 rfl rfl)
theorem dX0_count_63 : decode cX0_count 63 = .ok (.iconst 2, 1) := dk_5 (dk_at dksX0_count_2 11 rfl rfl)
theorem dX0_count_64 : decode cX0_count 64 = .ok (.isub, 1) := dk_100 (dk_at dksX0_count_2 12 rfl rfl)
theorem dX0_count_65 : decode cX0_count 65 = .ok (.iaload, 1) := dk_46 (dk_at dksX0_count_2 13 rfl rfl)
theorem dX0_count_66 : decode cX0_count 66 = .ok (.ireturn, 1) := dk_172 (dk_at dksX0_count_2 14 rfl rfl)
theorem dX0_count_67 : decode cX0_count 67 = .ok (.aload_n 0, 1) := dk_42 (dk_at dksX0_count_2 15 rfl rfl)
theorem dX0_count_68 : decode cX0_count 68 = .ok (.getfield 141, 3) := dk_180 0 141 (dk_at dksX0_count_2 16 rfl rfl)
theorem dX0_count_71 : decode cX0_count 71 = .ok (.ireturn, 1) := dk_172 (dk_at dksX0_count_2 19 rfl rfl)
theorem dX0_count_72 : decode cX0_count 72 = .ok (.aload_n 0, 1) := dk_42 (dk_at dksX0_count_2 20 rfl rfl)
theorem dX0_count_73 : decode cX0_count 73 = .ok (.getfield 328, 3) := dk_180 1 72 (dk_at dksX0_count_2 21 rfl rfl)
theorem dX0_count_76 : decode cX0_count 76 = .ok (.ireturn, 1) := dk_172 (dk_at dksX0_count_3 0 rfl rfl)
theorem dX0_count_77 : decode cX0_count 77 = .ok (.aload_n 0, 1) := dk_42 (dk_at dksX0_count_3 1 rfl rfl)
theorem dX0_count_78 : decode cX0_count 78 = .ok (.getfield 397, 3) := dk_180 1 141 (dk_at dksX0_count_3 2 rfl rfl)
theorem dX0_count_81 : decode cX0_count 81 = .ok (.ireturn, 1) := dk_172 (dk_at dksX0_count_3 5 rfl rfl)
theorem dX0_count_82 : decode cX0_count 82 = .ok (.bipush (-2), 2) := dk_16 254 (dk_at dksX0_count_3 6 rfl rfl)
theorem dX0_count_84 : decode cX0_count 84 = .ok (.ireturn, 1) := dk_172 (dk_at dksX0_count_3 8 rfl rfl)
abbrev cX0_sumOf : ByteArray := prog_1_method_99_code
def yX0_sumOf : MethodName := ⟨RX0, "sumOf", "(I)I"⟩
def dkwX0_sumOf_3 : List UInt8 := [184, 1, 47, 167, 0, 4, 28, 172]
abbrev dktX0_sumOf_3 : List UInt8 := dkwX0_sumOf_3 ++ []
def dkwX0_sumOf_2 : List UInt8 := [27, 4, 160, 0, 10, 42, 180, 0, 98, 167, 0, 20, 27, 8, 160, 0, 14, 42, 5, 182, 1, 32]
abbrev dktX0_sumOf_2 : List UInt8 := dkwX0_sumOf_2 ++ dktX0_sumOf_3
def dkwX0_sumOf_1 : List UInt8 := [180, 0, 212, 29, 46, 96, 61, 132, 3, 1, 167, 255, 238, 27, 154, 0, 10, 42, 180, 0, 95, 167, 0, 32]
abbrev dktX0_sumOf_1 : List UInt8 := dkwX0_sumOf_1 ++ dktX0_sumOf_2
def dkwX0_sumOf_0 : List UInt8 := [42, 182, 1, 17, 42, 16, 39, 182, 1, 20, 3, 61, 3, 62, 29, 16, 8, 162, 0, 18, 28, 42]
abbrev dktX0_sumOf_0 : List UInt8 := dkwX0_sumOf_0 ++ dktX0_sumOf_1
theorem dksX0_sumOf_0 : cX0_sumOf.data.toList.drop 0 = dktX0_sumOf_0 := by decide +kernel
theorem dksX0_sumOf_1 : cX0_sumOf.data.toList.drop 22 = dktX0_sumOf_1 := dk_seg dksX0_sumOf_0 22 rfl rfl
theorem dksX0_sumOf_2 : cX0_sumOf.data.toList.drop 46 = dktX0_sumOf_2 := dk_seg dksX0_sumOf_1 24 rfl rfl
theorem dksX0_sumOf_3 : cX0_sumOf.data.toList.drop 68 = dktX0_sumOf_3 := dk_seg dksX0_sumOf_2 22 rfl rfl
theorem dX0_sumOf_0 : decode cX0_sumOf 0 = .ok (.aload_n 0, 1) := dk_42 (dk_at dksX0_sumOf_0 0 rfl rfl)
theorem dX0_sumOf_1 : decode cX0_sumOf 1 = .ok (.invokevirtual 273, 3) := dk_182 1 17 (dk_at dksX0_sumOf_0 1 rfl rfl)
theorem dX0_sumOf_4 : decode cX0_sumOf 4 = .ok (.aload_n 0, 1) := dk_42 (dk_at dksX0_sumOf_0 4 rfl rfl)
theorem dX0_sumOf_5 : decode cX0_sumOf 5 = .ok (.bipush 39, 2) := dk_16 39 (dk_at dksX0_sumOf_0 5 rfl rfl)
theorem dX0_sumOf_7 : decode cX0_sumOf 7 = .ok (.invokevirtual 276, 3) := dk_182 1 20 (dk_at dksX0_sumOf_0 7 rfl rfl)
theorem dX0_sumOf_10 : decode cX0_sumOf 10 = .ok (.iconst 0, 1) := dk_3 (dk_at dksX0_sumOf_0 10 rfl rfl)
theorem dX0_sumOf_11 : decode cX0_sumOf 11 = .ok (.istore_n 2, 1) := dk_61 (dk_at dksX0_sumOf_0 11 rfl rfl)
theorem dX0_sumOf_12 : decode cX0_sumOf 12 = .ok (.iconst 0, 1) := dk_3 (dk_at dksX0_sumOf_0 12 rfl rfl)
theorem dX0_sumOf_13 : decode cX0_sumOf 13 = .ok (.istore_n 3, 1) := dk_62 (dk_at dksX0_sumOf_0 13 rfl rfl)
theorem dX0_sumOf_14 : decode cX0_sumOf 14 = .ok (.iload_n 3, 1) := dk_29 (dk_at dksX0_sumOf_0 14 rfl rfl)
theorem dX0_sumOf_15 : decode cX0_sumOf 15 = .ok (.bipush 8, 2) := dk_16 8 (dk_at dksX0_sumOf_0 15 rfl rfl)
theorem dX0_sumOf_17 : decode cX0_sumOf 17 = .ok (.if_icmp .ge 18, 3) := dk_162 0 18 (dk_at dksX0_sumOf_0 17 rfl rfl)
theorem dX0_sumOf_20 : decode cX0_sumOf 20 = .ok (.iload_n 2, 1) := dk_28 (dk_at dksX0_sumOf_0 20 rfl rfl)
theorem dX0_sumOf_21 : decode cX0_sumOf 21 = .ok (.aload_n 0, 1) := dk_42 (dk_at dksX0_sumOf_0 21 rfl rfl)
theorem dX0_sumOf_22 : decode cX0_sumOf 22 = .ok (.getfield 212, 3) := dk_180 0 212 (dk_at dksX0_sumOf_1 0 rfl rfl)
theorem dX0_sumOf_25 : decode cX0_sumOf 25 = .ok (.iload_n 3, 1) := dk_29 (dk_at dksX0_sumOf_1 3 rfl rfl)
theorem dX0_sumOf_26 : decode cX0_sumOf 26 = .ok (.iaload, 1) := dk_46 (dk_at dksX0_sumOf_1 4 rfl rfl)
theorem dX0_sumOf_27 : decode cX0_sumOf 27 = .ok (.iadd, 1) := dk_96 (dk_at dksX0_sumOf_1 5 rfl rfl)
theorem dX0_sumOf_28 : decode cX0_sumOf 28 = .ok (.istore_n 2, 1) := dk_61 (dk_at dksX0_sumOf_1 6 rfl rfl)
theorem dX0_sumOf_29 : decode cX0_sumOf 29 = .ok (.iinc 3 1, 3) := dk_132 3 1 (dk_at dksX0_sumOf_1 7 rfl rfl)
theorem dX0_sumOf_32 : decode cX0_sumOf 32 = .ok (.goto (-18), 3) := dk_167 255 238 (dk_at dksX0_sumOf_1 10 rfl rfl)
theorem dX0_sumOf_35 : decode cX0_sumOf 35 = .ok (.iload_n 1, 1) := dk_27 (dk_at dksX0_sumOf_1 13 rfl rfl)
theorem dX0_sumOf_36 : decode cX0_sumOf 36 = .ok (.ifCond .ne 10, 3) := dk_154 0 10 (dk_at dksX0_sumOf_1 14 rfl rfl)
theorem dX0_sumOf_39 : decode cX0_sumOf 39 = .ok (.aload_n 0, 1) := dk_42 (dk_at dksX0_sumOf_1 17 rfl rfl)
theorem dX0_sumOf_40 : decode cX0_sumOf 40 = .ok (.getfield 95, 3) := dk_180 0 95 (dk_at dksX0_sumOf_1 18 rfl rfl)
theorem dX0_sumOf_43 : decode cX0_sumOf 43 = .ok (.goto 32, 3) := dk_167 0 32 (dk_at dksX0_sumOf_1 21 rfl rfl)
theorem dX0_sumOf_46 : decode cX0_sumOf 46 = .ok (.iload_n 1, 1) := dk_27 (dk_at dksX0_sumOf_2 0 rfl rfl)
theorem dX0_sumOf_47 : decode cX0_sumOf 47 = .ok (.iconst 1, 1) := dk_4 (dk_at dksX0_sumOf_2 1 rfl rfl)
theorem dX0_sumOf_48 : decode cX0_sumOf 48 = .ok (.if_icmp .ne 10, 3) := dk_160 0 10 (dk_at dksX0_sumOf_2 2 rfl rfl)
theorem dX0_sumOf_51 : decode cX0_sumOf 51 = .ok (.aload_n 0, 1) := dk_42 (dk_at dksX0_sumOf_2 5 rfl rfl)
theorem dX0_sumOf_52 : decode cX0_sumOf 52 = .ok (.getfield 98, 3) := dk_180 0 98 (dk_at dksX0_sumOf_2 6 rfl rfl)
theorem dX0_sumOf_55 : decode cX0_sumOf 55 = .ok (.goto 20, 3) := dk_167 0 20 (dk_at dksX0_sumOf_2 9 rfl rfl)
theorem dX0_sumOf_58 : decode cX0_sumOf 58 = .ok (.iload_n 1, 1) := dk_27 (dk_at dksX0_sumOf_2 12 rfl rfl)
theorem dX0_sumOf_59 : decode cX0_sumOf 59 = .ok (.iconst 5, 1) := dk_8 (dk_at dksX0_sumOf_2 13 rfl rfl)
theorem dX0_sumOf_60 : decode cX0_sumOf 60 = .ok (.if_icmp .ne 14, 3) := dk_160 0 14 (dk_at dksX0_sumOf_2 14 rfl rfl)
theorem dX0_sumOf_63 : decode cX0_sumOf 63 = .ok (.aload_n 0, 1) := dk_42 (dk_at dksX0_sumOf_2 17 rfl rfl)
theorem dX0_sumOf_64 : decode cX0_sumOf 64 = .ok (.iconst 2, 1) := dk_5 (dk_at dksX0_sumOf_2 18 rfl rfl)
theorem dX0_sumOf_65 : decode cX0_sumOf 65 = .ok (.invokevirtual 288, 3) := dk_182 1 32 (dk_at dksX0_sumOf_2 19 rfl rfl)
theorem dX0_sumOf_68 : decode cX0_sumOf 68 = .ok (.invokestatic 303, 3) := dk_184 1 47 (dk_at dksX0_sumOf_3 0 rfl rfl)
theorem dX0_sumOf_71 : decode cX0_sumOf 71 = .ok (.goto 4, 3) := dk_167 0 4 (dk_at dksX0_sumOf_3 3 rfl rfl)
theorem dX0_sumOf_74 : decode cX0_sumOf 74 = .ok (.iload_n 2, 1) := dk_28 (dk_at dksX0_sumOf_3 6 rfl rfl)
theorem dX0_sumOf_75 : decode cX0_sumOf 75 = .ok (.ireturn, 1) := dk_172 (dk_at dksX0_sumOf_3 7 rfl rfl)
abbrev cX0_digest : ByteArray := prog_1_method_103_code
def yX0_digest : MethodName := ⟨RX0, "digest", "()J"⟩
def dkwX0_digest_13 : List UInt8 := [182, 1, 122, 133, 97, 64, 20, 1, 177, 31, 105, 42, 16, 7, 4, 182, 1, 122, 133, 97, 173]
abbrev dktX0_digest_13 : List UInt8 := dkwX0_digest_13 ++ []
def dkwX0_digest_12 : List UInt8 := [97, 64, 20, 1, 177, 31, 105, 42, 182, 1, 88, 133, 97, 64, 20, 1, 177, 31, 105, 42, 16, 7, 3]
abbrev dktX0_digest_12 : List UInt8 := dkwX0_digest_12 ++ dktX0_digest_13
def dkwX0_digest_11 : List UInt8 := [20, 1, 177, 31, 105, 42, 3, 182, 1, 69, 133, 97, 64, 20, 1, 177, 31, 105, 42, 4, 182, 1, 69, 133]
abbrev dktX0_digest_11 : List UInt8 := dkwX0_digest_11 ++ dktX0_digest_12
def dkwX0_digest_10 : List UInt8 := [162, 0, 22, 20, 1, 177, 31, 105, 42, 29, 182, 1, 63, 133, 97, 64, 132, 3, 1, 167, 255, 235]
abbrev dktX0_digest_10 : List UInt8 := dkwX0_digest_10 ++ dktX0_digest_11
def dkwX0_digest_9 : List UInt8 := [42, 4, 182, 1, 41, 133, 97, 64, 20, 1, 177, 31, 105, 42, 182, 1, 44, 133, 97, 64, 3, 62, 29, 6]
abbrev dktX0_digest_9 : List UInt8 := dkwX0_digest_9 ++ dktX0_digest_10
def dkwX0_digest_8 : List UInt8 := [132, 3, 1, 167, 255, 235, 20, 1, 177, 31, 105, 42, 3, 182, 1, 41, 133, 97, 64, 20, 1, 177, 31, 105]
abbrev dktX0_digest_8 : List UInt8 := dkwX0_digest_8 ++ dktX0_digest_9
def dkwX0_digest_7 : List UInt8 := [167, 255, 238, 5, 62, 29, 8, 163, 0, 22, 20, 1, 177, 31, 105, 42, 29, 182, 1, 35, 133, 97, 64]
abbrev dktX0_digest_7 : List UInt8 := dkwX0_digest_7 ++ dktX0_digest_8
def dkwX0_digest_6 : List UInt8 := [167, 255, 219, 3, 62, 29, 42, 180, 0, 98, 162, 0, 16, 42, 31, 29, 182, 1, 188, 64, 132, 3, 1]
abbrev dktX0_digest_6 : List UInt8 := dkwX0_digest_6 ++ dktX0_digest_7
def dkwX0_digest_5 : List UInt8 := [29, 182, 0, 200, 133, 97, 64, 20, 1, 177, 31, 105, 42, 29, 6, 182, 0, 200, 133, 97, 64, 132, 3, 1]
abbrev dktX0_digest_5 : List UInt8 := dkwX0_digest_5 ++ dktX0_digest_6
def dkwX0_digest_4 : List UInt8 := [167, 255, 232, 132, 3, 1, 167, 255, 215, 3, 62, 29, 16, 8, 162, 0, 37, 20, 1, 177, 31, 105, 42, 3]
abbrev dktX0_digest_4 : List UInt8 := dkwX0_digest_4 ++ dktX0_digest_5
def dkwX0_digest_3 : List UInt8 := [7, 162, 0, 24, 20, 1, 177, 31, 105, 42, 29, 21, 4, 182, 0, 117, 133, 97, 64, 132, 4, 1]
abbrev dktX0_digest_3 : List UInt8 := dkwX0_digest_3 ++ dktX0_digest_4
def dkwX0_digest_2 : List UInt8 := [105, 42, 4, 182, 0, 111, 133, 97, 64, 3, 62, 29, 42, 180, 0, 95, 162, 0, 39, 3, 54, 4, 21, 4]
abbrev dktX0_digest_2 : List UInt8 := dkwX0_digest_2 ++ dktX0_digest_3
def dkwX0_digest_1 : List UInt8 := [64, 132, 3, 1, 167, 255, 234, 20, 1, 177, 31, 105, 42, 3, 182, 0, 111, 133, 97, 64, 20, 1, 177, 31]
abbrev dktX0_digest_1 : List UInt8 := dkwX0_digest_1 ++ dktX0_digest_2
def dkwX0_digest_0 : List UInt8 := [20, 1, 183, 64, 3, 62, 29, 16, 8, 162, 0, 22, 20, 1, 177, 31, 105, 42, 29, 182, 1, 185, 133, 97]
abbrev dktX0_digest_0 : List UInt8 := dkwX0_digest_0 ++ dktX0_digest_1
theorem dksX0_digest_0 : cX0_digest.data.toList.drop 0 = dktX0_digest_0 := by decide +kernel
theorem dksX0_digest_1 : cX0_digest.data.toList.drop 24 = dktX0_digest_1 := dk_seg dksX0_digest_0 24 rfl rfl
theorem dksX0_digest_2 : cX0_digest.data.toList.drop 48 = dktX0_digest_2 := dk_seg dksX0_digest_1 24 rfl rfl
theorem dksX0_digest_3 : cX0_digest.data.toList.drop 72 = dktX0_digest_3 := dk_seg dksX0_digest_2 24 rfl rfl
theorem dksX0_digest_4 : cX0_digest.data.toList.drop 94 = dktX0_digest_4 := dk_seg dksX0_digest_3 22 rfl rfl
theorem dksX0_digest_5 : cX0_digest.data.toList.drop 118 = dktX0_digest_5 := dk_seg dksX0_digest_4 24 rfl rfl
theorem dksX0_digest_6 : cX0_digest.data.toList.drop 142 = dktX0_digest_6 := dk_seg dksX0_digest_5 24 rfl rfl
theorem dksX0_digest_7 : cX0_digest.data.toList.drop 165 = dktX0_digest_7 := dk_seg dksX0_digest_6 23 rfl rfl
theorem dksX0_digest_8 : cX0_digest.data.toList.drop 188 = dktX0_digest_8 := dk_seg dksX0_digest_7 23 rfl rfl
theorem dksX0_digest_9 : cX0_digest.data.toList.drop 212 = dktX0_digest_9 := dk_seg dksX0_digest_8 24 rfl rfl
theorem dksX0_digest_10 : cX0_digest.data.toList.drop 236 = dktX0_digest_10 := dk_seg dksX0_digest_9 24 rfl rfl
theorem dksX0_digest_11 : cX0_digest.data.toList.drop 258 = dktX0_digest_11 := dk_seg dksX0_digest_10 22 rfl rfl
theorem dksX0_digest_12 : cX0_digest.data.toList.drop 282 = dktX0_digest_12 := dk_seg dksX0_digest_11 24 rfl rfl
theorem dksX0_digest_13 : cX0_digest.data.toList.drop 305 = dktX0_digest_13 := dk_seg dksX0_digest_12 23 rfl rfl
theorem dX0_digest_0 : decode cX0_digest 0 = .ok (.ldc2_w 439, 3) := dk_20 1 183 (dk_at dksX0_digest_0 0 rfl rfl)
theorem dX0_digest_3 : decode cX0_digest 3 = .ok (.lstore_n 1, 1) := dk_64 (dk_at dksX0_digest_0 3 rfl rfl)
theorem dX0_digest_4 : decode cX0_digest 4 = .ok (.iconst 0, 1) := dk_3 (dk_at dksX0_digest_0 4 rfl rfl)
theorem dX0_digest_5 : decode cX0_digest 5 = .ok (.istore_n 3, 1) := dk_62 (dk_at dksX0_digest_0 5 rfl rfl)
theorem dX0_digest_6 : decode cX0_digest 6 = .ok (.iload_n 3, 1) := dk_29 (dk_at dksX0_digest_0 6 rfl rfl)
theorem dX0_digest_7 : decode cX0_digest 7 = .ok (.bipush 8, 2) := dk_16 8 (dk_at dksX0_digest_0 7 rfl rfl)
theorem dX0_digest_9 : decode cX0_digest 9 = .ok (.if_icmp .ge 22, 3) := dk_162 0 22 (dk_at dksX0_digest_0 9 rfl rfl)
theorem dX0_digest_12 : decode cX0_digest 12 = .ok (.ldc2_w 433, 3) := dk_20 1 177 (dk_at dksX0_digest_0 12 rfl rfl)
theorem dX0_digest_15 : decode cX0_digest 15 = .ok (.lload_n 1, 1) := dk_31 (dk_at dksX0_digest_0 15 rfl rfl)
theorem dX0_digest_16 : decode cX0_digest 16 = .ok (.lmul, 1) := dk_105 (dk_at dksX0_digest_0 16 rfl rfl)
theorem dX0_digest_17 : decode cX0_digest 17 = .ok (.aload_n 0, 1) := dk_42 (dk_at dksX0_digest_0 17 rfl rfl)
theorem dX0_digest_18 : decode cX0_digest 18 = .ok (.iload_n 3, 1) := dk_29 (dk_at dksX0_digest_0 18 rfl rfl)
theorem dX0_digest_19 : decode cX0_digest 19 = .ok (.invokevirtual 441, 3) := dk_182 1 185 (dk_at dksX0_digest_0 19 rfl rfl)
theorem dX0_digest_22 : decode cX0_digest 22 = .ok (.i2l, 1) := dk_133 (dk_at dksX0_digest_0 22 rfl rfl)
theorem dX0_digest_23 : decode cX0_digest 23 = .ok (.ladd, 1) := dk_97 (dk_at dksX0_digest_0 23 rfl rfl)
theorem dX0_digest_24 : decode cX0_digest 24 = .ok (.lstore_n 1, 1) := dk_64 (dk_at dksX0_digest_1 0 rfl rfl)
theorem dX0_digest_25 : decode cX0_digest 25 = .ok (.iinc 3 1, 3) := dk_132 3 1 (dk_at dksX0_digest_1 1 rfl rfl)
theorem dX0_digest_28 : decode cX0_digest 28 = .ok (.goto (-22), 3) := dk_167 255 234 (dk_at dksX0_digest_1 4 rfl rfl)
theorem dX0_digest_31 : decode cX0_digest 31 = .ok (.ldc2_w 433, 3) := dk_20 1 177 (dk_at dksX0_digest_1 7 rfl rfl)
theorem dX0_digest_34 : decode cX0_digest 34 = .ok (.lload_n 1, 1) := dk_31 (dk_at dksX0_digest_1 10 rfl rfl)
theorem dX0_digest_35 : decode cX0_digest 35 = .ok (.lmul, 1) := dk_105 (dk_at dksX0_digest_1 11 rfl rfl)
theorem dX0_digest_36 : decode cX0_digest 36 = .ok (.aload_n 0, 1) := dk_42 (dk_at dksX0_digest_1 12 rfl rfl)
theorem dX0_digest_37 : decode cX0_digest 37 = .ok (.iconst 0, 1) := dk_3 (dk_at dksX0_digest_1 13 rfl rfl)
theorem dX0_digest_38 : decode cX0_digest 38 = .ok (.invokevirtual 111, 3) := dk_182 0 111 (dk_at dksX0_digest_1 14 rfl rfl)
theorem dX0_digest_41 : decode cX0_digest 41 = .ok (.i2l, 1) := dk_133 (dk_at dksX0_digest_1 17 rfl rfl)
theorem dX0_digest_42 : decode cX0_digest 42 = .ok (.ladd, 1) := dk_97 (dk_at dksX0_digest_1 18 rfl rfl)
theorem dX0_digest_43 : decode cX0_digest 43 = .ok (.lstore_n 1, 1) := dk_64 (dk_at dksX0_digest_1 19 rfl rfl)
theorem dX0_digest_44 : decode cX0_digest 44 = .ok (.ldc2_w 433, 3) := dk_20 1 177 (dk_at dksX0_digest_1 20 rfl rfl)
theorem dX0_digest_47 : decode cX0_digest 47 = .ok (.lload_n 1, 1) := dk_31 (dk_at dksX0_digest_1 23 rfl rfl)
theorem dX0_digest_48 : decode cX0_digest 48 = .ok (.lmul, 1) := dk_105 (dk_at dksX0_digest_2 0 rfl rfl)
theorem dX0_digest_49 : decode cX0_digest 49 = .ok (.aload_n 0, 1) := dk_42 (dk_at dksX0_digest_2 1 rfl rfl)
theorem dX0_digest_50 : decode cX0_digest 50 = .ok (.iconst 1, 1) := dk_4 (dk_at dksX0_digest_2 2 rfl rfl)
theorem dX0_digest_51 : decode cX0_digest 51 = .ok (.invokevirtual 111, 3) := dk_182 0 111 (dk_at dksX0_digest_2 3 rfl rfl)
theorem dX0_digest_54 : decode cX0_digest 54 = .ok (.i2l, 1) := dk_133 (dk_at dksX0_digest_2 6 rfl rfl)
theorem dX0_digest_55 : decode cX0_digest 55 = .ok (.ladd, 1) := dk_97 (dk_at dksX0_digest_2 7 rfl rfl)
theorem dX0_digest_56 : decode cX0_digest 56 = .ok (.lstore_n 1, 1) := dk_64 (dk_at dksX0_digest_2 8 rfl rfl)
theorem dX0_digest_57 : decode cX0_digest 57 = .ok (.iconst 0, 1) := dk_3 (dk_at dksX0_digest_2 9 rfl rfl)
theorem dX0_digest_58 : decode cX0_digest 58 = .ok (.istore_n 3, 1) := dk_62 (dk_at dksX0_digest_2 10 rfl rfl)
theorem dX0_digest_59 : decode cX0_digest 59 = .ok (.iload_n 3, 1) := dk_29 (dk_at dksX0_digest_2 11 rfl rfl)
theorem dX0_digest_60 : decode cX0_digest 60 = .ok (.aload_n 0, 1) := dk_42 (dk_at dksX0_digest_2 12 rfl rfl)
theorem dX0_digest_61 : decode cX0_digest 61 = .ok (.getfield 95, 3) := dk_180 0 95 (dk_at dksX0_digest_2 13 rfl rfl)
theorem dX0_digest_64 : decode cX0_digest 64 = .ok (.if_icmp .ge 39, 3) := dk_162 0 39 (dk_at dksX0_digest_2 16 rfl rfl)
theorem dX0_digest_67 : decode cX0_digest 67 = .ok (.iconst 0, 1) := dk_3 (dk_at dksX0_digest_2 19 rfl rfl)
theorem dX0_digest_68 : decode cX0_digest 68 = .ok (.istore 4, 2) := dk_54 4 (dk_at dksX0_digest_2 20 rfl rfl)
theorem dX0_digest_70 : decode cX0_digest 70 = .ok (.iload 4, 2) := dk_21 4 (dk_at dksX0_digest_2 22 rfl rfl)
theorem dX0_digest_72 : decode cX0_digest 72 = .ok (.iconst 4, 1) := dk_7 (dk_at dksX0_digest_3 0 rfl rfl)
theorem dX0_digest_73 : decode cX0_digest 73 = .ok (.if_icmp .ge 24, 3) := dk_162 0 24 (dk_at dksX0_digest_3 1 rfl rfl)
theorem dX0_digest_76 : decode cX0_digest 76 = .ok (.ldc2_w 433, 3) := dk_20 1 177 (dk_at dksX0_digest_3 4 rfl rfl)
theorem dX0_digest_79 : decode cX0_digest 79 = .ok (.lload_n 1, 1) := dk_31 (dk_at dksX0_digest_3 7 rfl rfl)
theorem dX0_digest_80 : decode cX0_digest 80 = .ok (.lmul, 1) := dk_105 (dk_at dksX0_digest_3 8 rfl rfl)
theorem dX0_digest_81 : decode cX0_digest 81 = .ok (.aload_n 0, 1) := dk_42 (dk_at dksX0_digest_3 9 rfl rfl)
theorem dX0_digest_82 : decode cX0_digest 82 = .ok (.iload_n 3, 1) := dk_29 (dk_at dksX0_digest_3 10 rfl rfl)
theorem dX0_digest_83 : decode cX0_digest 83 = .ok (.iload 4, 2) := dk_21 4 (dk_at dksX0_digest_3 11 rfl rfl)
theorem dX0_digest_85 : decode cX0_digest 85 = .ok (.invokevirtual 117, 3) := dk_182 0 117 (dk_at dksX0_digest_3 13 rfl rfl)
theorem dX0_digest_88 : decode cX0_digest 88 = .ok (.i2l, 1) := dk_133 (dk_at dksX0_digest_3 16 rfl rfl)
theorem dX0_digest_89 : decode cX0_digest 89 = .ok (.ladd, 1) := dk_97 (dk_at dksX0_digest_3 17 rfl rfl)
theorem dX0_digest_90 : decode cX0_digest 90 = .ok (.lstore_n 1, 1) := dk_64 (dk_at dksX0_digest_3 18 rfl rfl)
theorem dX0_digest_91 : decode cX0_digest 91 = .ok (.iinc 4 1, 3) := dk_132 4 1 (dk_at dksX0_digest_3 19 rfl rfl)
theorem dX0_digest_94 : decode cX0_digest 94 = .ok (.goto (-24), 3) := dk_167 255 232 (dk_at dksX0_digest_4 0 rfl rfl)
theorem dX0_digest_97 : decode cX0_digest 97 = .ok (.iinc 3 1, 3) := dk_132 3 1 (dk_at dksX0_digest_4 3 rfl rfl)
theorem dX0_digest_100 : decode cX0_digest 100 = .ok (.goto (-41), 3) := dk_167 255 215 (dk_at dksX0_digest_4 6 rfl rfl)
theorem dX0_digest_103 : decode cX0_digest 103 = .ok (.iconst 0, 1) := dk_3 (dk_at dksX0_digest_4 9 rfl rfl)
theorem dX0_digest_104 : decode cX0_digest 104 = .ok (.istore_n 3, 1) := dk_62 (dk_at dksX0_digest_4 10 rfl rfl)
theorem dX0_digest_105 : decode cX0_digest 105 = .ok (.iload_n 3, 1) := dk_29 (dk_at dksX0_digest_4 11 rfl rfl)
theorem dX0_digest_106 : decode cX0_digest 106 = .ok (.bipush 8, 2) := dk_16 8 (dk_at dksX0_digest_4 12 rfl rfl)
theorem dX0_digest_108 : decode cX0_digest 108 = .ok (.if_icmp .ge 37, 3) := dk_162 0 37 (dk_at dksX0_digest_4 14 rfl rfl)
theorem dX0_digest_111 : decode cX0_digest 111 = .ok (.ldc2_w 433, 3) := dk_20 1 177 (dk_at dksX0_digest_4 17 rfl rfl)
theorem dX0_digest_114 : decode cX0_digest 114 = .ok (.lload_n 1, 1) := dk_31 (dk_at dksX0_digest_4 20 rfl rfl)
theorem dX0_digest_115 : decode cX0_digest 115 = .ok (.lmul, 1) := dk_105 (dk_at dksX0_digest_4 21 rfl rfl)
theorem dX0_digest_116 : decode cX0_digest 116 = .ok (.aload_n 0, 1) := dk_42 (dk_at dksX0_digest_4 22 rfl rfl)
theorem dX0_digest_117 : decode cX0_digest 117 = .ok (.iconst 0, 1) := dk_3 (dk_at dksX0_digest_4 23 rfl rfl)
theorem dX0_digest_118 : decode cX0_digest 118 = .ok (.iload_n 3, 1) := dk_29 (dk_at dksX0_digest_5 0 rfl rfl)
theorem dX0_digest_119 : decode cX0_digest 119 = .ok (.invokevirtual 200, 3) := dk_182 0 200 (dk_at dksX0_digest_5 1 rfl rfl)
theorem dX0_digest_122 : decode cX0_digest 122 = .ok (.i2l, 1) := dk_133 (dk_at dksX0_digest_5 4 rfl rfl)
theorem dX0_digest_123 : decode cX0_digest 123 = .ok (.ladd, 1) := dk_97 (dk_at dksX0_digest_5 5 rfl rfl)
theorem dX0_digest_124 : decode cX0_digest 124 = .ok (.lstore_n 1, 1) := dk_64 (dk_at dksX0_digest_5 6 rfl rfl)
theorem dX0_digest_125 : decode cX0_digest 125 = .ok (.ldc2_w 433, 3) := dk_20 1 177 (dk_at dksX0_digest_5 7 rfl rfl)
theorem dX0_digest_128 : decode cX0_digest 128 = .ok (.lload_n 1, 1) := dk_31 (dk_at dksX0_digest_5 10 rfl rfl)
theorem dX0_digest_129 : decode cX0_digest 129 = .ok (.lmul, 1) := dk_105 (dk_at dksX0_digest_5 11 rfl rfl)
theorem dX0_digest_130 : decode cX0_digest 130 = .ok (.aload_n 0, 1) := dk_42 (dk_at dksX0_digest_5 12 rfl rfl)
theorem dX0_digest_131 : decode cX0_digest 131 = .ok (.iload_n 3, 1) := dk_29 (dk_at dksX0_digest_5 13 rfl rfl)
theorem dX0_digest_132 : decode cX0_digest 132 = .ok (.iconst 3, 1) := dk_6 (dk_at dksX0_digest_5 14 rfl rfl)
theorem dX0_digest_133 : decode cX0_digest 133 = .ok (.invokevirtual 200, 3) := dk_182 0 200 (dk_at dksX0_digest_5 15 rfl rfl)
theorem dX0_digest_136 : decode cX0_digest 136 = .ok (.i2l, 1) := dk_133 (dk_at dksX0_digest_5 18 rfl rfl)
theorem dX0_digest_137 : decode cX0_digest 137 = .ok (.ladd, 1) := dk_97 (dk_at dksX0_digest_5 19 rfl rfl)
theorem dX0_digest_138 : decode cX0_digest 138 = .ok (.lstore_n 1, 1) := dk_64 (dk_at dksX0_digest_5 20 rfl rfl)
theorem dX0_digest_139 : decode cX0_digest 139 = .ok (.iinc 3 1, 3) := dk_132 3 1 (dk_at dksX0_digest_5 21 rfl rfl)
theorem dX0_digest_142 : decode cX0_digest 142 = .ok (.goto (-37), 3) := dk_167 255 219 (dk_at dksX0_digest_6 0 rfl rfl)
theorem dX0_digest_145 : decode cX0_digest 145 = .ok (.iconst 0, 1) := dk_3 (dk_at dksX0_digest_6 3 rfl rfl)
theorem dX0_digest_146 : decode cX0_digest 146 = .ok (.istore_n 3, 1) := dk_62 (dk_at dksX0_digest_6 4 rfl rfl)
theorem dX0_digest_147 : decode cX0_digest 147 = .ok (.iload_n 3, 1) := dk_29 (dk_at dksX0_digest_6 5 rfl rfl)
theorem dX0_digest_148 : decode cX0_digest 148 = .ok (.aload_n 0, 1) := dk_42 (dk_at dksX0_digest_6 6 rfl rfl)
theorem dX0_digest_149 : decode cX0_digest 149 = .ok (.getfield 98, 3) := dk_180 0 98 (dk_at dksX0_digest_6 7 rfl rfl)
theorem dX0_digest_152 : decode cX0_digest 152 = .ok (.if_icmp .ge 16, 3) := dk_162 0 16 (dk_at dksX0_digest_6 10 rfl rfl)
theorem dX0_digest_155 : decode cX0_digest 155 = .ok (.aload_n 0, 1) := dk_42 (dk_at dksX0_digest_6 13 rfl rfl)
theorem dX0_digest_156 : decode cX0_digest 156 = .ok (.lload_n 1, 1) := dk_31 (dk_at dksX0_digest_6 14 rfl rfl)
theorem dX0_digest_157 : decode cX0_digest 157 = .ok (.iload_n 3, 1) := dk_29 (dk_at dksX0_digest_6 15 rfl rfl)
theorem dX0_digest_158 : decode cX0_digest 158 = .ok (.invokevirtual 444, 3) := dk_182 1 188 (dk_at dksX0_digest_6 16 rfl rfl)
theorem dX0_digest_161 : decode cX0_digest 161 = .ok (.lstore_n 1, 1) := dk_64 (dk_at dksX0_digest_6 19 rfl rfl)
theorem dX0_digest_162 : decode cX0_digest 162 = .ok (.iinc 3 1, 3) := dk_132 3 1 (dk_at dksX0_digest_6 20 rfl rfl)
theorem dX0_digest_165 : decode cX0_digest 165 = .ok (.goto (-18), 3) := dk_167 255 238 (dk_at dksX0_digest_7 0 rfl rfl)
theorem dX0_digest_168 : decode cX0_digest 168 = .ok (.iconst 2, 1) := dk_5 (dk_at dksX0_digest_7 3 rfl rfl)
theorem dX0_digest_169 : decode cX0_digest 169 = .ok (.istore_n 3, 1) := dk_62 (dk_at dksX0_digest_7 4 rfl rfl)
theorem dX0_digest_170 : decode cX0_digest 170 = .ok (.iload_n 3, 1) := dk_29 (dk_at dksX0_digest_7 5 rfl rfl)
theorem dX0_digest_171 : decode cX0_digest 171 = .ok (.iconst 5, 1) := dk_8 (dk_at dksX0_digest_7 6 rfl rfl)
theorem dX0_digest_172 : decode cX0_digest 172 = .ok (.if_icmp .gt 22, 3) := dk_163 0 22 (dk_at dksX0_digest_7 7 rfl rfl)
theorem dX0_digest_175 : decode cX0_digest 175 = .ok (.ldc2_w 433, 3) := dk_20 1 177 (dk_at dksX0_digest_7 10 rfl rfl)
theorem dX0_digest_178 : decode cX0_digest 178 = .ok (.lload_n 1, 1) := dk_31 (dk_at dksX0_digest_7 13 rfl rfl)
theorem dX0_digest_179 : decode cX0_digest 179 = .ok (.lmul, 1) := dk_105 (dk_at dksX0_digest_7 14 rfl rfl)
theorem dX0_digest_180 : decode cX0_digest 180 = .ok (.aload_n 0, 1) := dk_42 (dk_at dksX0_digest_7 15 rfl rfl)
theorem dX0_digest_181 : decode cX0_digest 181 = .ok (.iload_n 3, 1) := dk_29 (dk_at dksX0_digest_7 16 rfl rfl)
theorem dX0_digest_182 : decode cX0_digest 182 = .ok (.invokevirtual 291, 3) := dk_182 1 35 (dk_at dksX0_digest_7 17 rfl rfl)
theorem dX0_digest_185 : decode cX0_digest 185 = .ok (.i2l, 1) := dk_133 (dk_at dksX0_digest_7 20 rfl rfl)
theorem dX0_digest_186 : decode cX0_digest 186 = .ok (.ladd, 1) := dk_97 (dk_at dksX0_digest_7 21 rfl rfl)
theorem dX0_digest_187 : decode cX0_digest 187 = .ok (.lstore_n 1, 1) := dk_64 (dk_at dksX0_digest_7 22 rfl rfl)
theorem dX0_digest_188 : decode cX0_digest 188 = .ok (.iinc 3 1, 3) := dk_132 3 1 (dk_at dksX0_digest_8 0 rfl rfl)
theorem dX0_digest_191 : decode cX0_digest 191 = .ok (.goto (-21), 3) := dk_167 255 235 (dk_at dksX0_digest_8 3 rfl rfl)
theorem dX0_digest_194 : decode cX0_digest 194 = .ok (.ldc2_w 433, 3) := dk_20 1 177 (dk_at dksX0_digest_8 6 rfl rfl)
theorem dX0_digest_197 : decode cX0_digest 197 = .ok (.lload_n 1, 1) := dk_31 (dk_at dksX0_digest_8 9 rfl rfl)
theorem dX0_digest_198 : decode cX0_digest 198 = .ok (.lmul, 1) := dk_105 (dk_at dksX0_digest_8 10 rfl rfl)
theorem dX0_digest_199 : decode cX0_digest 199 = .ok (.aload_n 0, 1) := dk_42 (dk_at dksX0_digest_8 11 rfl rfl)
theorem dX0_digest_200 : decode cX0_digest 200 = .ok (.iconst 0, 1) := dk_3 (dk_at dksX0_digest_8 12 rfl rfl)
theorem dX0_digest_201 : decode cX0_digest 201 = .ok (.invokevirtual 297, 3) := dk_182 1 41 (dk_at dksX0_digest_8 13 rfl rfl)
theorem dX0_digest_204 : decode cX0_digest 204 = .ok (.i2l, 1) := dk_133 (dk_at dksX0_digest_8 16 rfl rfl)
theorem dX0_digest_205 : decode cX0_digest 205 = .ok (.ladd, 1) := dk_97 (dk_at dksX0_digest_8 17 rfl rfl)
theorem dX0_digest_206 : decode cX0_digest 206 = .ok (.lstore_n 1, 1) := dk_64 (dk_at dksX0_digest_8 18 rfl rfl)
theorem dX0_digest_207 : decode cX0_digest 207 = .ok (.ldc2_w 433, 3) := dk_20 1 177 (dk_at dksX0_digest_8 19 rfl rfl)
theorem dX0_digest_210 : decode cX0_digest 210 = .ok (.lload_n 1, 1) := dk_31 (dk_at dksX0_digest_8 22 rfl rfl)
theorem dX0_digest_211 : decode cX0_digest 211 = .ok (.lmul, 1) := dk_105 (dk_at dksX0_digest_8 23 rfl rfl)
theorem dX0_digest_212 : decode cX0_digest 212 = .ok (.aload_n 0, 1) := dk_42 (dk_at dksX0_digest_9 0 rfl rfl)
theorem dX0_digest_213 : decode cX0_digest 213 = .ok (.iconst 1, 1) := dk_4 (dk_at dksX0_digest_9 1 rfl rfl)
theorem dX0_digest_214 : decode cX0_digest 214 = .ok (.invokevirtual 297, 3) := dk_182 1 41 (dk_at dksX0_digest_9 2 rfl rfl)
theorem dX0_digest_217 : decode cX0_digest 217 = .ok (.i2l, 1) := dk_133 (dk_at dksX0_digest_9 5 rfl rfl)
theorem dX0_digest_218 : decode cX0_digest 218 = .ok (.ladd, 1) := dk_97 (dk_at dksX0_digest_9 6 rfl rfl)
theorem dX0_digest_219 : decode cX0_digest 219 = .ok (.lstore_n 1, 1) := dk_64 (dk_at dksX0_digest_9 7 rfl rfl)
theorem dX0_digest_220 : decode cX0_digest 220 = .ok (.ldc2_w 433, 3) := dk_20 1 177 (dk_at dksX0_digest_9 8 rfl rfl)
theorem dX0_digest_223 : decode cX0_digest 223 = .ok (.lload_n 1, 1) := dk_31 (dk_at dksX0_digest_9 11 rfl rfl)
theorem dX0_digest_224 : decode cX0_digest 224 = .ok (.lmul, 1) := dk_105 (dk_at dksX0_digest_9 12 rfl rfl)
theorem dX0_digest_225 : decode cX0_digest 225 = .ok (.aload_n 0, 1) := dk_42 (dk_at dksX0_digest_9 13 rfl rfl)
theorem dX0_digest_226 : decode cX0_digest 226 = .ok (.invokevirtual 300, 3) := dk_182 1 44 (dk_at dksX0_digest_9 14 rfl rfl)
theorem dX0_digest_229 : decode cX0_digest 229 = .ok (.i2l, 1) := dk_133 (dk_at dksX0_digest_9 17 rfl rfl)
theorem dX0_digest_230 : decode cX0_digest 230 = .ok (.ladd, 1) := dk_97 (dk_at dksX0_digest_9 18 rfl rfl)
theorem dX0_digest_231 : decode cX0_digest 231 = .ok (.lstore_n 1, 1) := dk_64 (dk_at dksX0_digest_9 19 rfl rfl)
theorem dX0_digest_232 : decode cX0_digest 232 = .ok (.iconst 0, 1) := dk_3 (dk_at dksX0_digest_9 20 rfl rfl)
theorem dX0_digest_233 : decode cX0_digest 233 = .ok (.istore_n 3, 1) := dk_62 (dk_at dksX0_digest_9 21 rfl rfl)
theorem dX0_digest_234 : decode cX0_digest 234 = .ok (.iload_n 3, 1) := dk_29 (dk_at dksX0_digest_9 22 rfl rfl)
theorem dX0_digest_235 : decode cX0_digest 235 = .ok (.iconst 3, 1) := dk_6 (dk_at dksX0_digest_9 23 rfl rfl)
theorem dX0_digest_236 : decode cX0_digest 236 = .ok (.if_icmp .ge 22, 3) := dk_162 0 22 (dk_at dksX0_digest_10 0 rfl rfl)
theorem dX0_digest_239 : decode cX0_digest 239 = .ok (.ldc2_w 433, 3) := dk_20 1 177 (dk_at dksX0_digest_10 3 rfl rfl)
theorem dX0_digest_242 : decode cX0_digest 242 = .ok (.lload_n 1, 1) := dk_31 (dk_at dksX0_digest_10 6 rfl rfl)
theorem dX0_digest_243 : decode cX0_digest 243 = .ok (.lmul, 1) := dk_105 (dk_at dksX0_digest_10 7 rfl rfl)
theorem dX0_digest_244 : decode cX0_digest 244 = .ok (.aload_n 0, 1) := dk_42 (dk_at dksX0_digest_10 8 rfl rfl)
theorem dX0_digest_245 : decode cX0_digest 245 = .ok (.iload_n 3, 1) := dk_29 (dk_at dksX0_digest_10 9 rfl rfl)
theorem dX0_digest_246 : decode cX0_digest 246 = .ok (.invokevirtual 319, 3) := dk_182 1 63 (dk_at dksX0_digest_10 10 rfl rfl)
theorem dX0_digest_249 : decode cX0_digest 249 = .ok (.i2l, 1) := dk_133 (dk_at dksX0_digest_10 13 rfl rfl)
theorem dX0_digest_250 : decode cX0_digest 250 = .ok (.ladd, 1) := dk_97 (dk_at dksX0_digest_10 14 rfl rfl)
theorem dX0_digest_251 : decode cX0_digest 251 = .ok (.lstore_n 1, 1) := dk_64 (dk_at dksX0_digest_10 15 rfl rfl)
theorem dX0_digest_252 : decode cX0_digest 252 = .ok (.iinc 3 1, 3) := dk_132 3 1 (dk_at dksX0_digest_10 16 rfl rfl)
theorem dX0_digest_255 : decode cX0_digest 255 = .ok (.goto (-21), 3) := dk_167 255 235 (dk_at dksX0_digest_10 19 rfl rfl)
theorem dX0_digest_258 : decode cX0_digest 258 = .ok (.ldc2_w 433, 3) := dk_20 1 177 (dk_at dksX0_digest_11 0 rfl rfl)
theorem dX0_digest_261 : decode cX0_digest 261 = .ok (.lload_n 1, 1) := dk_31 (dk_at dksX0_digest_11 3 rfl rfl)
theorem dX0_digest_262 : decode cX0_digest 262 = .ok (.lmul, 1) := dk_105 (dk_at dksX0_digest_11 4 rfl rfl)
theorem dX0_digest_263 : decode cX0_digest 263 = .ok (.aload_n 0, 1) := dk_42 (dk_at dksX0_digest_11 5 rfl rfl)
theorem dX0_digest_264 : decode cX0_digest 264 = .ok (.iconst 0, 1) := dk_3 (dk_at dksX0_digest_11 6 rfl rfl)
theorem dX0_digest_265 : decode cX0_digest 265 = .ok (.invokevirtual 325, 3) := dk_182 1 69 (dk_at dksX0_digest_11 7 rfl rfl)
theorem dX0_digest_268 : decode cX0_digest 268 = .ok (.i2l, 1) := dk_133 (dk_at dksX0_digest_11 10 rfl rfl)
theorem dX0_digest_269 : decode cX0_digest 269 = .ok (.ladd, 1) := dk_97 (dk_at dksX0_digest_11 11 rfl rfl)
theorem dX0_digest_270 : decode cX0_digest 270 = .ok (.lstore_n 1, 1) := dk_64 (dk_at dksX0_digest_11 12 rfl rfl)
theorem dX0_digest_271 : decode cX0_digest 271 = .ok (.ldc2_w 433, 3) := dk_20 1 177 (dk_at dksX0_digest_11 13 rfl rfl)
theorem dX0_digest_274 : decode cX0_digest 274 = .ok (.lload_n 1, 1) := dk_31 (dk_at dksX0_digest_11 16 rfl rfl)
theorem dX0_digest_275 : decode cX0_digest 275 = .ok (.lmul, 1) := dk_105 (dk_at dksX0_digest_11 17 rfl rfl)
theorem dX0_digest_276 : decode cX0_digest 276 = .ok (.aload_n 0, 1) := dk_42 (dk_at dksX0_digest_11 18 rfl rfl)
theorem dX0_digest_277 : decode cX0_digest 277 = .ok (.iconst 1, 1) := dk_4 (dk_at dksX0_digest_11 19 rfl rfl)
theorem dX0_digest_278 : decode cX0_digest 278 = .ok (.invokevirtual 325, 3) := dk_182 1 69 (dk_at dksX0_digest_11 20 rfl rfl)
theorem dX0_digest_281 : decode cX0_digest 281 = .ok (.i2l, 1) := dk_133 (dk_at dksX0_digest_11 23 rfl rfl)
theorem dX0_digest_282 : decode cX0_digest 282 = .ok (.ladd, 1) := dk_97 (dk_at dksX0_digest_12 0 rfl rfl)
theorem dX0_digest_283 : decode cX0_digest 283 = .ok (.lstore_n 1, 1) := dk_64 (dk_at dksX0_digest_12 1 rfl rfl)
theorem dX0_digest_284 : decode cX0_digest 284 = .ok (.ldc2_w 433, 3) := dk_20 1 177 (dk_at dksX0_digest_12 2 rfl rfl)
theorem dX0_digest_287 : decode cX0_digest 287 = .ok (.lload_n 1, 1) := dk_31 (dk_at dksX0_digest_12 5 rfl rfl)
theorem dX0_digest_288 : decode cX0_digest 288 = .ok (.lmul, 1) := dk_105 (dk_at dksX0_digest_12 6 rfl rfl)
theorem dX0_digest_289 : decode cX0_digest 289 = .ok (.aload_n 0, 1) := dk_42 (dk_at dksX0_digest_12 7 rfl rfl)
theorem dX0_digest_290 : decode cX0_digest 290 = .ok (.invokevirtual 344, 3) := dk_182 1 88 (dk_at dksX0_digest_12 8 rfl rfl)
theorem dX0_digest_293 : decode cX0_digest 293 = .ok (.i2l, 1) := dk_133 (dk_at dksX0_digest_12 11 rfl rfl)
theorem dX0_digest_294 : decode cX0_digest 294 = .ok (.ladd, 1) := dk_97 (dk_at dksX0_digest_12 12 rfl rfl)
theorem dX0_digest_295 : decode cX0_digest 295 = .ok (.lstore_n 1, 1) := dk_64 (dk_at dksX0_digest_12 13 rfl rfl)
theorem dX0_digest_296 : decode cX0_digest 296 = .ok (.ldc2_w 433, 3) := dk_20 1 177 (dk_at dksX0_digest_12 14 rfl rfl)
theorem dX0_digest_299 : decode cX0_digest 299 = .ok (.lload_n 1, 1) := dk_31 (dk_at dksX0_digest_12 17 rfl rfl)
theorem dX0_digest_300 : decode cX0_digest 300 = .ok (.lmul, 1) := dk_105 (dk_at dksX0_digest_12 18 rfl rfl)
theorem dX0_digest_301 : decode cX0_digest 301 = .ok (.aload_n 0, 1) := dk_42 (dk_at dksX0_digest_12 19 rfl rfl)
theorem dX0_digest_302 : decode cX0_digest 302 = .ok (.bipush 7, 2) := dk_16 7 (dk_at dksX0_digest_12 20 rfl rfl)
theorem dX0_digest_304 : decode cX0_digest 304 = .ok (.iconst 0, 1) := dk_3 (dk_at dksX0_digest_12 22 rfl rfl)
theorem dX0_digest_305 : decode cX0_digest 305 = .ok (.invokevirtual 378, 3) := dk_182 1 122 (dk_at dksX0_digest_13 0 rfl rfl)
theorem dX0_digest_308 : decode cX0_digest 308 = .ok (.i2l, 1) := dk_133 (dk_at dksX0_digest_13 3 rfl rfl)
theorem dX0_digest_309 : decode cX0_digest 309 = .ok (.ladd, 1) := dk_97 (dk_at dksX0_digest_13 4 rfl rfl)
theorem dX0_digest_310 : decode cX0_digest 310 = .ok (.lstore_n 1, 1) := dk_64 (dk_at dksX0_digest_13 5 rfl rfl)
theorem dX0_digest_311 : decode cX0_digest 311 = .ok (.ldc2_w 433, 3) := dk_20 1 177 (dk_at dksX0_digest_13 6 rfl rfl)
theorem dX0_digest_314 : decode cX0_digest 314 = .ok (.lload_n 1, 1) := dk_31 (dk_at dksX0_digest_13 9 rfl rfl)
theorem dX0_digest_315 : decode cX0_digest 315 = .ok (.lmul, 1) := dk_105 (dk_at dksX0_digest_13 10 rfl rfl)
theorem dX0_digest_316 : decode cX0_digest 316 = .ok (.aload_n 0, 1) := dk_42 (dk_at dksX0_digest_13 11 rfl rfl)
theorem dX0_digest_317 : decode cX0_digest 317 = .ok (.bipush 7, 2) := dk_16 7 (dk_at dksX0_digest_13 12 rfl rfl)
theorem dX0_digest_319 : decode cX0_digest 319 = .ok (.iconst 1, 1) := dk_4 (dk_at dksX0_digest_13 14 rfl rfl)
theorem dX0_digest_320 : decode cX0_digest 320 = .ok (.invokevirtual 378, 3) := dk_182 1 122 (dk_at dksX0_digest_13 15 rfl rfl)
theorem dX0_digest_323 : decode cX0_digest 323 = .ok (.i2l, 1) := dk_133 (dk_at dksX0_digest_13 18 rfl rfl)
theorem dX0_digest_324 : decode cX0_digest 324 = .ok (.ladd, 1) := dk_97 (dk_at dksX0_digest_13 19 rfl rfl)
theorem dX0_digest_325 : decode cX0_digest 325 = .ok (.lreturn, 1) := dk_173 (dk_at dksX0_digest_13 20 rfl rfl)
abbrev cX0_carterDigest : ByteArray := prog_1_method_102_code
def yX0_carterDigest : MethodName := ⟨RX0, "carterDigest", "(JI)J"⟩
def dkwX0_carterDigest_9 : List UInt8 := [3, 182, 1, 110, 97, 55, 4, 20, 1, 177, 22, 4, 105, 42, 8, 29, 4, 182, 1, 110, 97, 173]
abbrev dktX0_carterDigest_9 : List UInt8 := dkwX0_carterDigest_9 ++ []
def dkwX0_carterDigest_8 : List UInt8 := [20, 1, 177, 22, 4, 105, 42, 29, 182, 1, 103, 133, 97, 55, 4, 20, 1, 177, 22, 4, 105, 42, 8, 29]
abbrev dktX0_carterDigest_8 : List UInt8 := dkwX0_carterDigest_8 ++ dktX0_carterDigest_9
def dkwX0_carterDigest_7 : List UInt8 := [20, 1, 177, 22, 4, 105, 42, 29, 21, 6, 182, 1, 97, 133, 97, 55, 4, 132, 6, 1, 167, 255, 230]
abbrev dktX0_carterDigest_7 : List UInt8 := dkwX0_carterDigest_7 ++ dktX0_carterDigest_8
def dkwX0_carterDigest_6 : List UInt8 := [20, 1, 177, 22, 4, 105, 42, 29, 182, 1, 94, 133, 97, 55, 4, 3, 54, 6, 21, 6, 6, 162, 0, 26]
abbrev dktX0_carterDigest_6 : List UInt8 := dkwX0_carterDigest_6 ++ dktX0_carterDigest_7
def dkwX0_carterDigest_5 : List UInt8 := [182, 1, 66, 133, 97, 55, 4, 20, 1, 177, 22, 4, 105, 42, 29, 4, 182, 1, 66, 133, 97, 55, 4]
abbrev dktX0_carterDigest_5 : List UInt8 := dkwX0_carterDigest_5 ++ dktX0_carterDigest_6
def dkwX0_carterDigest_4 : List UInt8 := [20, 1, 177, 22, 4, 105, 42, 29, 182, 1, 50, 133, 97, 55, 4, 20, 1, 177, 22, 4, 105, 42, 29, 3]
abbrev dktX0_carterDigest_4 : List UInt8 := dkwX0_carterDigest_4 ++ dktX0_carterDigest_5
def dkwX0_carterDigest_3 : List UInt8 := [16, 39, 29, 182, 1, 179, 55, 4, 20, 1, 177, 22, 4, 105, 42, 29, 182, 1, 29, 133, 97, 55, 4]
abbrev dktX0_carterDigest_3 : List UInt8 := dkwX0_carterDigest_3 ++ dktX0_carterDigest_4
def dkwX0_carterDigest_2 : List UInt8 := [22, 4, 8, 29, 182, 1, 179, 55, 4, 42, 22, 4, 16, 15, 29, 182, 1, 179, 55, 4, 42, 22, 4]
abbrev dktX0_carterDigest_2 : List UInt8 := dkwX0_carterDigest_2 ++ dktX0_carterDigest_3
def dkwX0_carterDigest_1 : List UInt8 := [182, 0, 129, 133, 97, 55, 4, 132, 6, 1, 167, 255, 230, 42, 22, 4, 3, 29, 182, 1, 179, 55, 4, 42]
abbrev dktX0_carterDigest_1 : List UInt8 := dkwX0_carterDigest_1 ++ dktX0_carterDigest_2
def dkwX0_carterDigest_0 : List UInt8 := [31, 55, 4, 3, 54, 6, 21, 6, 8, 162, 0, 26, 20, 1, 177, 22, 4, 105, 42, 29, 21, 6]
abbrev dktX0_carterDigest_0 : List UInt8 := dkwX0_carterDigest_0 ++ dktX0_carterDigest_1
theorem dksX0_carterDigest_0 : cX0_carterDigest.data.toList.drop 0 = dktX0_carterDigest_0 := by decide +kernel
theorem dksX0_carterDigest_1 : cX0_carterDigest.data.toList.drop 22 = dktX0_carterDigest_1 := dk_seg dksX0_carterDigest_0 22 rfl rfl
theorem dksX0_carterDigest_2 : cX0_carterDigest.data.toList.drop 46 = dktX0_carterDigest_2 := dk_seg dksX0_carterDigest_1 24 rfl rfl
theorem dksX0_carterDigest_3 : cX0_carterDigest.data.toList.drop 69 = dktX0_carterDigest_3 := dk_seg dksX0_carterDigest_2 23 rfl rfl
theorem dksX0_carterDigest_4 : cX0_carterDigest.data.toList.drop 92 = dktX0_carterDigest_4 := dk_seg dksX0_carterDigest_3 23 rfl rfl
theorem dksX0_carterDigest_5 : cX0_carterDigest.data.toList.drop 116 = dktX0_carterDigest_5 := dk_seg dksX0_carterDigest_4 24 rfl rfl
theorem dksX0_carterDigest_6 : cX0_carterDigest.data.toList.drop 139 = dktX0_carterDigest_6 := dk_seg dksX0_carterDigest_5 23 rfl rfl
theorem dksX0_carterDigest_7 : cX0_carterDigest.data.toList.drop 163 = dktX0_carterDigest_7 := dk_seg dksX0_carterDigest_6 24 rfl rfl
theorem dksX0_carterDigest_8 : cX0_carterDigest.data.toList.drop 186 = dktX0_carterDigest_8 := dk_seg dksX0_carterDigest_7 23 rfl rfl
theorem dksX0_carterDigest_9 : cX0_carterDigest.data.toList.drop 210 = dktX0_carterDigest_9 := dk_seg dksX0_carterDigest_8 24 rfl rfl
theorem dX0_carterDigest_0 : decode cX0_carterDigest 0 = .ok (.lload_n 1, 1) := dk_31 (dk_at dksX0_carterDigest_0 0 rfl rfl)
theorem dX0_carterDigest_1 : decode cX0_carterDigest 1 = .ok (.lstore 4, 2) := dk_55 4 (dk_at dksX0_carterDigest_0 1 rfl rfl)
theorem dX0_carterDigest_3 : decode cX0_carterDigest 3 = .ok (.iconst 0, 1) := dk_3 (dk_at dksX0_carterDigest_0 3 rfl rfl)
theorem dX0_carterDigest_4 : decode cX0_carterDigest 4 = .ok (.istore 6, 2) := dk_54 6 (dk_at dksX0_carterDigest_0 4 rfl rfl)
theorem dX0_carterDigest_6 : decode cX0_carterDigest 6 = .ok (.iload 6, 2) := dk_21 6 (dk_at dksX0_carterDigest_0 6 rfl rfl)
theorem dX0_carterDigest_8 : decode cX0_carterDigest 8 = .ok (.iconst 5, 1) := dk_8 (dk_at dksX0_carterDigest_0 8 rfl rfl)
theorem dX0_carterDigest_9 : decode cX0_carterDigest 9 = .ok (.if_icmp .ge 26, 3) := dk_162 0 26 (dk_at dksX0_carterDigest_0 9 rfl rfl)
theorem dX0_carterDigest_12 : decode cX0_carterDigest 12 = .ok (.ldc2_w 433, 3) := dk_20 1 177 (dk_at dksX0_carterDigest_0 12 rfl rfl)
theorem dX0_carterDigest_15 : decode cX0_carterDigest 15 = .ok (.lload 4, 2) := dk_22 4 (dk_at dksX0_carterDigest_0 15 rfl rfl)
theorem dX0_carterDigest_17 : decode cX0_carterDigest 17 = .ok (.lmul, 1) := dk_105 (dk_at dksX0_carterDigest_0 17 rfl rfl)
theorem dX0_carterDigest_18 : decode cX0_carterDigest 18 = .ok (.aload_n 0, 1) := dk_42 (dk_at dksX0_carterDigest_0 18 rfl rfl)
theorem dX0_carterDigest_19 : decode cX0_carterDigest 19 = .ok (.iload_n 3, 1) := dk_29 (dk_at dksX0_carterDigest_0 19 rfl rfl)
theorem dX0_carterDigest_20 : decode cX0_carterDigest 20 = .ok (.iload 6, 2) := dk_21 6 (dk_at dksX0_carterDigest_0 20 rfl rfl)
theorem dX0_carterDigest_22 : decode cX0_carterDigest 22 = .ok (.invokevirtual 129, 3) := dk_182 0 129 (dk_at dksX0_carterDigest_1 0 rfl rfl)
theorem dX0_carterDigest_25 : decode cX0_carterDigest 25 = .ok (.i2l, 1) := dk_133 (dk_at dksX0_carterDigest_1 3 rfl rfl)
theorem dX0_carterDigest_26 : decode cX0_carterDigest 26 = .ok (.ladd, 1) := dk_97 (dk_at dksX0_carterDigest_1 4 rfl rfl)
theorem dX0_carterDigest_27 : decode cX0_carterDigest 27 = .ok (.lstore 4, 2) := dk_55 4 (dk_at dksX0_carterDigest_1 5 rfl rfl)
theorem dX0_carterDigest_29 : decode cX0_carterDigest 29 = .ok (.iinc 6 1, 3) := dk_132 6 1 (dk_at dksX0_carterDigest_1 7 rfl rfl)
theorem dX0_carterDigest_32 : decode cX0_carterDigest 32 = .ok (.goto (-26), 3) := dk_167 255 230 (dk_at dksX0_carterDigest_1 10 rfl rfl)
theorem dX0_carterDigest_35 : decode cX0_carterDigest 35 = .ok (.aload_n 0, 1) := dk_42 (dk_at dksX0_carterDigest_1 13 rfl rfl)
theorem dX0_carterDigest_36 : decode cX0_carterDigest 36 = .ok (.lload 4, 2) := dk_22 4 (dk_at dksX0_carterDigest_1 14 rfl rfl)
theorem dX0_carterDigest_38 : decode cX0_carterDigest 38 = .ok (.iconst 0, 1) := dk_3 (dk_at dksX0_carterDigest_1 16 rfl rfl)
theorem dX0_carterDigest_39 : decode cX0_carterDigest 39 = .ok (.iload_n 3, 1) := dk_29 (dk_at dksX0_carterDigest_1 17 rfl rfl)
theorem dX0_carterDigest_40 : decode cX0_carterDigest 40 = .ok (.invokevirtual 435, 3) := dk_182 1 179 (dk_at dksX0_carterDigest_1 18 rfl rfl)
theorem dX0_carterDigest_43 : decode cX0_carterDigest 43 = .ok (.lstore 4, 2) := dk_55 4 (dk_at dksX0_carterDigest_1 21 rfl rfl)
theorem dX0_carterDigest_45 : decode cX0_carterDigest 45 = .ok (.aload_n 0, 1) := dk_42 (dk_at dksX0_carterDigest_1 23 rfl rfl)
theorem dX0_carterDigest_46 : decode cX0_carterDigest 46 = .ok (.lload 4, 2) := dk_22 4 (dk_at dksX0_carterDigest_2 0 rfl rfl)
theorem dX0_carterDigest_48 : decode cX0_carterDigest 48 = .ok (.iconst 5, 1) := dk_8 (dk_at dksX0_carterDigest_2 2 rfl rfl)
theorem dX0_carterDigest_49 : decode cX0_carterDigest 49 = .ok (.iload_n 3, 1) := dk_29 (dk_at dksX0_carterDigest_2 3 rfl rfl)
theorem dX0_carterDigest_50 : decode cX0_carterDigest 50 = .ok (.invokevirtual 435, 3) := dk_182 1 179 (dk_at dksX0_carterDigest_2 4 rfl rfl)
theorem dX0_carterDigest_53 : decode cX0_carterDigest 53 = .ok (.lstore 4, 2) := dk_55 4 (dk_at dksX0_carterDigest_2 7 rfl rfl)
theorem dX0_carterDigest_55 : decode cX0_carterDigest 55 = .ok (.aload_n 0, 1) := dk_42 (dk_at dksX0_carterDigest_2 9 rfl rfl)
theorem dX0_carterDigest_56 : decode cX0_carterDigest 56 = .ok (.lload 4, 2) := dk_22 4 (dk_at dksX0_carterDigest_2 10 rfl rfl)
theorem dX0_carterDigest_58 : decode cX0_carterDigest 58 = .ok (.bipush 15, 2) := dk_16 15 (dk_at dksX0_carterDigest_2 12 rfl rfl)
theorem dX0_carterDigest_60 : decode cX0_carterDigest 60 = .ok (.iload_n 3, 1) := dk_29 (dk_at dksX0_carterDigest_2 14 rfl rfl)
theorem dX0_carterDigest_61 : decode cX0_carterDigest 61 = .ok (.invokevirtual 435, 3) := dk_182 1 179 (dk_at dksX0_carterDigest_2 15 rfl rfl)
theorem dX0_carterDigest_64 : decode cX0_carterDigest 64 = .ok (.lstore 4, 2) := dk_55 4 (dk_at dksX0_carterDigest_2 18 rfl rfl)
theorem dX0_carterDigest_66 : decode cX0_carterDigest 66 = .ok (.aload_n 0, 1) := dk_42 (dk_at dksX0_carterDigest_2 20 rfl rfl)
theorem dX0_carterDigest_67 : decode cX0_carterDigest 67 = .ok (.lload 4, 2) := dk_22 4 (dk_at dksX0_carterDigest_2 21 rfl rfl)
theorem dX0_carterDigest_69 : decode cX0_carterDigest 69 = .ok (.bipush 39, 2) := dk_16 39 (dk_at dksX0_carterDigest_3 0 rfl rfl)
theorem dX0_carterDigest_71 : decode cX0_carterDigest 71 = .ok (.iload_n 3, 1) := dk_29 (dk_at dksX0_carterDigest_3 2 rfl rfl)
theorem dX0_carterDigest_72 : decode cX0_carterDigest 72 = .ok (.invokevirtual 435, 3) := dk_182 1 179 (dk_at dksX0_carterDigest_3 3 rfl rfl)
theorem dX0_carterDigest_75 : decode cX0_carterDigest 75 = .ok (.lstore 4, 2) := dk_55 4 (dk_at dksX0_carterDigest_3 6 rfl rfl)
theorem dX0_carterDigest_77 : decode cX0_carterDigest 77 = .ok (.ldc2_w 433, 3) := dk_20 1 177 (dk_at dksX0_carterDigest_3 8 rfl rfl)
theorem dX0_carterDigest_80 : decode cX0_carterDigest 80 = .ok (.lload 4, 2) := dk_22 4 (dk_at dksX0_carterDigest_3 11 rfl rfl)
theorem dX0_carterDigest_82 : decode cX0_carterDigest 82 = .ok (.lmul, 1) := dk_105 (dk_at dksX0_carterDigest_3 13 rfl rfl)
theorem dX0_carterDigest_83 : decode cX0_carterDigest 83 = .ok (.aload_n 0, 1) := dk_42 (dk_at dksX0_carterDigest_3 14 rfl rfl)
theorem dX0_carterDigest_84 : decode cX0_carterDigest 84 = .ok (.iload_n 3, 1) := dk_29 (dk_at dksX0_carterDigest_3 15 rfl rfl)
theorem dX0_carterDigest_85 : decode cX0_carterDigest 85 = .ok (.invokevirtual 285, 3) := dk_182 1 29 (dk_at dksX0_carterDigest_3 16 rfl rfl)
theorem dX0_carterDigest_88 : decode cX0_carterDigest 88 = .ok (.i2l, 1) := dk_133 (dk_at dksX0_carterDigest_3 19 rfl rfl)
theorem dX0_carterDigest_89 : decode cX0_carterDigest 89 = .ok (.ladd, 1) := dk_97 (dk_at dksX0_carterDigest_3 20 rfl rfl)
theorem dX0_carterDigest_90 : decode cX0_carterDigest 90 = .ok (.lstore 4, 2) := dk_55 4 (dk_at dksX0_carterDigest_3 21 rfl rfl)
theorem dX0_carterDigest_92 : decode cX0_carterDigest 92 = .ok (.ldc2_w 433, 3) := dk_20 1 177 (dk_at dksX0_carterDigest_4 0 rfl rfl)
theorem dX0_carterDigest_95 : decode cX0_carterDigest 95 = .ok (.lload 4, 2) := dk_22 4 (dk_at dksX0_carterDigest_4 3 rfl rfl)
theorem dX0_carterDigest_97 : decode cX0_carterDigest 97 = .ok (.lmul, 1) := dk_105 (dk_at dksX0_carterDigest_4 5 rfl rfl)
theorem dX0_carterDigest_98 : decode cX0_carterDigest 98 = .ok (.aload_n 0, 1) := dk_42 (dk_at dksX0_carterDigest_4 6 rfl rfl)
theorem dX0_carterDigest_99 : decode cX0_carterDigest 99 = .ok (.iload_n 3, 1) := dk_29 (dk_at dksX0_carterDigest_4 7 rfl rfl)
theorem dX0_carterDigest_100 : decode cX0_carterDigest 100 = .ok (.invokevirtual 306, 3) := dk_182 1 50 (dk_at dksX0_carterDigest_4 8 rfl rfl)
theorem dX0_carterDigest_103 : decode cX0_carterDigest 103 = .ok (.i2l, 1) := dk_133 (dk_at dksX0_carterDigest_4 11 rfl rfl)
theorem dX0_carterDigest_104 : decode cX0_carterDigest 104 = .ok (.ladd, 1) := dk_97 (dk_at dksX0_carterDigest_4 12 rfl rfl)
theorem dX0_carterDigest_105 : decode cX0_carterDigest 105 = .ok (.lstore 4, 2) := dk_55 4 (dk_at dksX0_carterDigest_4 13 rfl rfl)
theorem dX0_carterDigest_107 : decode cX0_carterDigest 107 = .ok (.ldc2_w 433, 3) := dk_20 1 177 (dk_at dksX0_carterDigest_4 15 rfl rfl)
theorem dX0_carterDigest_110 : decode cX0_carterDigest 110 = .ok (.lload 4, 2) := dk_22 4 (dk_at dksX0_carterDigest_4 18 rfl rfl)
theorem dX0_carterDigest_112 : decode cX0_carterDigest 112 = .ok (.lmul, 1) := dk_105 (dk_at dksX0_carterDigest_4 20 rfl rfl)
theorem dX0_carterDigest_113 : decode cX0_carterDigest 113 = .ok (.aload_n 0, 1) := dk_42 (dk_at dksX0_carterDigest_4 21 rfl rfl)
theorem dX0_carterDigest_114 : decode cX0_carterDigest 114 = .ok (.iload_n 3, 1) := dk_29 (dk_at dksX0_carterDigest_4 22 rfl rfl)
theorem dX0_carterDigest_115 : decode cX0_carterDigest 115 = .ok (.iconst 0, 1) := dk_3 (dk_at dksX0_carterDigest_4 23 rfl rfl)
theorem dX0_carterDigest_116 : decode cX0_carterDigest 116 = .ok (.invokevirtual 322, 3) := dk_182 1 66 (dk_at dksX0_carterDigest_5 0 rfl rfl)
theorem dX0_carterDigest_119 : decode cX0_carterDigest 119 = .ok (.i2l, 1) := dk_133 (dk_at dksX0_carterDigest_5 3 rfl rfl)
theorem dX0_carterDigest_120 : decode cX0_carterDigest 120 = .ok (.ladd, 1) := dk_97 (dk_at dksX0_carterDigest_5 4 rfl rfl)
theorem dX0_carterDigest_121 : decode cX0_carterDigest 121 = .ok (.lstore 4, 2) := dk_55 4 (dk_at dksX0_carterDigest_5 5 rfl rfl)
theorem dX0_carterDigest_123 : decode cX0_carterDigest 123 = .ok (.ldc2_w 433, 3) := dk_20 1 177 (dk_at dksX0_carterDigest_5 7 rfl rfl)
theorem dX0_carterDigest_126 : decode cX0_carterDigest 126 = .ok (.lload 4, 2) := dk_22 4 (dk_at dksX0_carterDigest_5 10 rfl rfl)
theorem dX0_carterDigest_128 : decode cX0_carterDigest 128 = .ok (.lmul, 1) := dk_105 (dk_at dksX0_carterDigest_5 12 rfl rfl)
theorem dX0_carterDigest_129 : decode cX0_carterDigest 129 = .ok (.aload_n 0, 1) := dk_42 (dk_at dksX0_carterDigest_5 13 rfl rfl)
theorem dX0_carterDigest_130 : decode cX0_carterDigest 130 = .ok (.iload_n 3, 1) := dk_29 (dk_at dksX0_carterDigest_5 14 rfl rfl)
theorem dX0_carterDigest_131 : decode cX0_carterDigest 131 = .ok (.iconst 1, 1) := dk_4 (dk_at dksX0_carterDigest_5 15 rfl rfl)
theorem dX0_carterDigest_132 : decode cX0_carterDigest 132 = .ok (.invokevirtual 322, 3) := dk_182 1 66 (dk_at dksX0_carterDigest_5 16 rfl rfl)
theorem dX0_carterDigest_135 : decode cX0_carterDigest 135 = .ok (.i2l, 1) := dk_133 (dk_at dksX0_carterDigest_5 19 rfl rfl)
theorem dX0_carterDigest_136 : decode cX0_carterDigest 136 = .ok (.ladd, 1) := dk_97 (dk_at dksX0_carterDigest_5 20 rfl rfl)
theorem dX0_carterDigest_137 : decode cX0_carterDigest 137 = .ok (.lstore 4, 2) := dk_55 4 (dk_at dksX0_carterDigest_5 21 rfl rfl)
theorem dX0_carterDigest_139 : decode cX0_carterDigest 139 = .ok (.ldc2_w 433, 3) := dk_20 1 177 (dk_at dksX0_carterDigest_6 0 rfl rfl)
theorem dX0_carterDigest_142 : decode cX0_carterDigest 142 = .ok (.lload 4, 2) := dk_22 4 (dk_at dksX0_carterDigest_6 3 rfl rfl)
theorem dX0_carterDigest_144 : decode cX0_carterDigest 144 = .ok (.lmul, 1) := dk_105 (dk_at dksX0_carterDigest_6 5 rfl rfl)
theorem dX0_carterDigest_145 : decode cX0_carterDigest 145 = .ok (.aload_n 0, 1) := dk_42 (dk_at dksX0_carterDigest_6 6 rfl rfl)
theorem dX0_carterDigest_146 : decode cX0_carterDigest 146 = .ok (.iload_n 3, 1) := dk_29 (dk_at dksX0_carterDigest_6 7 rfl rfl)
theorem dX0_carterDigest_147 : decode cX0_carterDigest 147 = .ok (.invokevirtual 350, 3) := dk_182 1 94 (dk_at dksX0_carterDigest_6 8 rfl rfl)
theorem dX0_carterDigest_150 : decode cX0_carterDigest 150 = .ok (.i2l, 1) := dk_133 (dk_at dksX0_carterDigest_6 11 rfl rfl)
theorem dX0_carterDigest_151 : decode cX0_carterDigest 151 = .ok (.ladd, 1) := dk_97 (dk_at dksX0_carterDigest_6 12 rfl rfl)
theorem dX0_carterDigest_152 : decode cX0_carterDigest 152 = .ok (.lstore 4, 2) := dk_55 4 (dk_at dksX0_carterDigest_6 13 rfl rfl)
theorem dX0_carterDigest_154 : decode cX0_carterDigest 154 = .ok (.iconst 0, 1) := dk_3 (dk_at dksX0_carterDigest_6 15 rfl rfl)
theorem dX0_carterDigest_155 : decode cX0_carterDigest 155 = .ok (.istore 6, 2) := dk_54 6 (dk_at dksX0_carterDigest_6 16 rfl rfl)
theorem dX0_carterDigest_157 : decode cX0_carterDigest 157 = .ok (.iload 6, 2) := dk_21 6 (dk_at dksX0_carterDigest_6 18 rfl rfl)
theorem dX0_carterDigest_159 : decode cX0_carterDigest 159 = .ok (.iconst 3, 1) := dk_6 (dk_at dksX0_carterDigest_6 20 rfl rfl)
theorem dX0_carterDigest_160 : decode cX0_carterDigest 160 = .ok (.if_icmp .ge 26, 3) := dk_162 0 26 (dk_at dksX0_carterDigest_6 21 rfl rfl)
theorem dX0_carterDigest_163 : decode cX0_carterDigest 163 = .ok (.ldc2_w 433, 3) := dk_20 1 177 (dk_at dksX0_carterDigest_7 0 rfl rfl)
theorem dX0_carterDigest_166 : decode cX0_carterDigest 166 = .ok (.lload 4, 2) := dk_22 4 (dk_at dksX0_carterDigest_7 3 rfl rfl)
theorem dX0_carterDigest_168 : decode cX0_carterDigest 168 = .ok (.lmul, 1) := dk_105 (dk_at dksX0_carterDigest_7 5 rfl rfl)
theorem dX0_carterDigest_169 : decode cX0_carterDigest 169 = .ok (.aload_n 0, 1) := dk_42 (dk_at dksX0_carterDigest_7 6 rfl rfl)
theorem dX0_carterDigest_170 : decode cX0_carterDigest 170 = .ok (.iload_n 3, 1) := dk_29 (dk_at dksX0_carterDigest_7 7 rfl rfl)
theorem dX0_carterDigest_171 : decode cX0_carterDigest 171 = .ok (.iload 6, 2) := dk_21 6 (dk_at dksX0_carterDigest_7 8 rfl rfl)
theorem dX0_carterDigest_173 : decode cX0_carterDigest 173 = .ok (.invokevirtual 353, 3) := dk_182 1 97 (dk_at dksX0_carterDigest_7 10 rfl rfl)
theorem dX0_carterDigest_176 : decode cX0_carterDigest 176 = .ok (.i2l, 1) := dk_133 (dk_at dksX0_carterDigest_7 13 rfl rfl)
theorem dX0_carterDigest_177 : decode cX0_carterDigest 177 = .ok (.ladd, 1) := dk_97 (dk_at dksX0_carterDigest_7 14 rfl rfl)
theorem dX0_carterDigest_178 : decode cX0_carterDigest 178 = .ok (.lstore 4, 2) := dk_55 4 (dk_at dksX0_carterDigest_7 15 rfl rfl)
theorem dX0_carterDigest_180 : decode cX0_carterDigest 180 = .ok (.iinc 6 1, 3) := dk_132 6 1 (dk_at dksX0_carterDigest_7 17 rfl rfl)
theorem dX0_carterDigest_183 : decode cX0_carterDigest 183 = .ok (.goto (-26), 3) := dk_167 255 230 (dk_at dksX0_carterDigest_7 20 rfl rfl)
theorem dX0_carterDigest_186 : decode cX0_carterDigest 186 = .ok (.ldc2_w 433, 3) := dk_20 1 177 (dk_at dksX0_carterDigest_8 0 rfl rfl)
theorem dX0_carterDigest_189 : decode cX0_carterDigest 189 = .ok (.lload 4, 2) := dk_22 4 (dk_at dksX0_carterDigest_8 3 rfl rfl)
theorem dX0_carterDigest_191 : decode cX0_carterDigest 191 = .ok (.lmul, 1) := dk_105 (dk_at dksX0_carterDigest_8 5 rfl rfl)
theorem dX0_carterDigest_192 : decode cX0_carterDigest 192 = .ok (.aload_n 0, 1) := dk_42 (dk_at dksX0_carterDigest_8 6 rfl rfl)
theorem dX0_carterDigest_193 : decode cX0_carterDigest 193 = .ok (.iload_n 3, 1) := dk_29 (dk_at dksX0_carterDigest_8 7 rfl rfl)
theorem dX0_carterDigest_194 : decode cX0_carterDigest 194 = .ok (.invokevirtual 359, 3) := dk_182 1 103 (dk_at dksX0_carterDigest_8 8 rfl rfl)
theorem dX0_carterDigest_197 : decode cX0_carterDigest 197 = .ok (.i2l, 1) := dk_133 (dk_at dksX0_carterDigest_8 11 rfl rfl)
theorem dX0_carterDigest_198 : decode cX0_carterDigest 198 = .ok (.ladd, 1) := dk_97 (dk_at dksX0_carterDigest_8 12 rfl rfl)
theorem dX0_carterDigest_199 : decode cX0_carterDigest 199 = .ok (.lstore 4, 2) := dk_55 4 (dk_at dksX0_carterDigest_8 13 rfl rfl)
theorem dX0_carterDigest_201 : decode cX0_carterDigest 201 = .ok (.ldc2_w 433, 3) := dk_20 1 177 (dk_at dksX0_carterDigest_8 15 rfl rfl)
theorem dX0_carterDigest_204 : decode cX0_carterDigest 204 = .ok (.lload 4, 2) := dk_22 4 (dk_at dksX0_carterDigest_8 18 rfl rfl)
theorem dX0_carterDigest_206 : decode cX0_carterDigest 206 = .ok (.lmul, 1) := dk_105 (dk_at dksX0_carterDigest_8 20 rfl rfl)
theorem dX0_carterDigest_207 : decode cX0_carterDigest 207 = .ok (.aload_n 0, 1) := dk_42 (dk_at dksX0_carterDigest_8 21 rfl rfl)
theorem dX0_carterDigest_208 : decode cX0_carterDigest 208 = .ok (.iconst 5, 1) := dk_8 (dk_at dksX0_carterDigest_8 22 rfl rfl)
theorem dX0_carterDigest_209 : decode cX0_carterDigest 209 = .ok (.iload_n 3, 1) := dk_29 (dk_at dksX0_carterDigest_8 23 rfl rfl)
theorem dX0_carterDigest_210 : decode cX0_carterDigest 210 = .ok (.iconst 0, 1) := dk_3 (dk_at dksX0_carterDigest_9 0 rfl rfl)
theorem dX0_carterDigest_211 : decode cX0_carterDigest 211 = .ok (.invokevirtual 366, 3) := dk_182 1 110 (dk_at dksX0_carterDigest_9 1 rfl rfl)
theorem dX0_carterDigest_214 : decode cX0_carterDigest 214 = .ok (.ladd, 1) := dk_97 (dk_at dksX0_carterDigest_9 4 rfl rfl)
theorem dX0_carterDigest_215 : decode cX0_carterDigest 215 = .ok (.lstore 4, 2) := dk_55 4 (dk_at dksX0_carterDigest_9 5 rfl rfl)
theorem dX0_carterDigest_217 : decode cX0_carterDigest 217 = .ok (.ldc2_w 433, 3) := dk_20 1 177 (dk_at dksX0_carterDigest_9 7 rfl rfl)
theorem dX0_carterDigest_220 : decode cX0_carterDigest 220 = .ok (.lload 4, 2) := dk_22 4 (dk_at dksX0_carterDigest_9 10 rfl rfl)
theorem dX0_carterDigest_222 : decode cX0_carterDigest 222 = .ok (.lmul, 1) := dk_105 (dk_at dksX0_carterDigest_9 12 rfl rfl)
theorem dX0_carterDigest_223 : decode cX0_carterDigest 223 = .ok (.aload_n 0, 1) := dk_42 (dk_at dksX0_carterDigest_9 13 rfl rfl)
theorem dX0_carterDigest_224 : decode cX0_carterDigest 224 = .ok (.iconst 5, 1) := dk_8 (dk_at dksX0_carterDigest_9 14 rfl rfl)
theorem dX0_carterDigest_225 : decode cX0_carterDigest 225 = .ok (.iload_n 3, 1) := dk_29 (dk_at dksX0_carterDigest_9 15 rfl rfl)
theorem dX0_carterDigest_226 : decode cX0_carterDigest 226 = .ok (.iconst 1, 1) := dk_4 (dk_at dksX0_carterDigest_9 16 rfl rfl)
theorem dX0_carterDigest_227 : decode cX0_carterDigest 227 = .ok (.invokevirtual 366, 3) := dk_182 1 110 (dk_at dksX0_carterDigest_9 17 rfl rfl)
theorem dX0_carterDigest_230 : decode cX0_carterDigest 230 = .ok (.ladd, 1) := dk_97 (dk_at dksX0_carterDigest_9 20 rfl rfl)
theorem dX0_carterDigest_231 : decode cX0_carterDigest 231 = .ok (.lreturn, 1) := dk_173 (dk_at dksX0_carterDigest_9 21 rfl rfl)
abbrev cX0_hourDigest : ByteArray := prog_1_method_101_code
def yX0_hourDigest : MethodName := ⟨RX0, "hourDigest", "(JII)J"⟩
def dkwX0_hourDigest_1 : List UInt8 := [182, 1, 23, 133, 97, 55, 5, 132, 7, 1, 167, 255, 228, 22, 5, 173]
abbrev dktX0_hourDigest_1 : List UInt8 := dkwX0_hourDigest_1 ++ []
def dkwX0_hourDigest_0 : List UInt8 := [31, 55, 5, 3, 54, 7, 21, 7, 7, 162, 0, 28, 20, 1, 177, 22, 5, 105, 42, 29, 21, 4, 21, 7]
abbrev dktX0_hourDigest_0 : List UInt8 := dkwX0_hourDigest_0 ++ dktX0_hourDigest_1
theorem dksX0_hourDigest_0 : cX0_hourDigest.data.toList.drop 0 = dktX0_hourDigest_0 := by decide +kernel
theorem dksX0_hourDigest_1 : cX0_hourDigest.data.toList.drop 24 = dktX0_hourDigest_1 := dk_seg dksX0_hourDigest_0 24 rfl rfl
theorem dX0_hourDigest_0 : decode cX0_hourDigest 0 = .ok (.lload_n 1, 1) := dk_31 (dk_at dksX0_hourDigest_0 0 rfl rfl)
theorem dX0_hourDigest_1 : decode cX0_hourDigest 1 = .ok (.lstore 5, 2) := dk_55 5 (dk_at dksX0_hourDigest_0 1 rfl rfl)
theorem dX0_hourDigest_3 : decode cX0_hourDigest 3 = .ok (.iconst 0, 1) := dk_3 (dk_at dksX0_hourDigest_0 3 rfl rfl)
theorem dX0_hourDigest_4 : decode cX0_hourDigest 4 = .ok (.istore 7, 2) := dk_54 7 (dk_at dksX0_hourDigest_0 4 rfl rfl)
theorem dX0_hourDigest_6 : decode cX0_hourDigest 6 = .ok (.iload 7, 2) := dk_21 7 (dk_at dksX0_hourDigest_0 6 rfl rfl)
theorem dX0_hourDigest_8 : decode cX0_hourDigest 8 = .ok (.iconst 4, 1) := dk_7 (dk_at dksX0_hourDigest_0 8 rfl rfl)
theorem dX0_hourDigest_9 : decode cX0_hourDigest 9 = .ok (.if_icmp .ge 28, 3) := dk_162 0 28 (dk_at dksX0_hourDigest_0 9 rfl rfl)
theorem dX0_hourDigest_12 : decode cX0_hourDigest 12 = .ok (.ldc2_w 433, 3) := dk_20 1 177 (dk_at dksX0_hourDigest_0 12 rfl rfl)
theorem dX0_hourDigest_15 : decode cX0_hourDigest 15 = .ok (.lload 5, 2) := dk_22 5 (dk_at dksX0_hourDigest_0 15 rfl rfl)
theorem dX0_hourDigest_17 : decode cX0_hourDigest 17 = .ok (.lmul, 1) := dk_105 (dk_at dksX0_hourDigest_0 17 rfl rfl)
theorem dX0_hourDigest_18 : decode cX0_hourDigest 18 = .ok (.aload_n 0, 1) := dk_42 (dk_at dksX0_hourDigest_0 18 rfl rfl)
theorem dX0_hourDigest_19 : decode cX0_hourDigest 19 = .ok (.iload_n 3, 1) := dk_29 (dk_at dksX0_hourDigest_0 19 rfl rfl)
theorem dX0_hourDigest_20 : decode cX0_hourDigest 20 = .ok (.iload 4, 2) := dk_21 4 (dk_at dksX0_hourDigest_0 20 rfl rfl)
theorem dX0_hourDigest_22 : decode cX0_hourDigest 22 = .ok (.iload 7, 2) := dk_21 7 (dk_at dksX0_hourDigest_0 22 rfl rfl)
theorem dX0_hourDigest_24 : decode cX0_hourDigest 24 = .ok (.invokevirtual 279, 3) := dk_182 1 23 (dk_at dksX0_hourDigest_1 0 rfl rfl)
theorem dX0_hourDigest_27 : decode cX0_hourDigest 27 = .ok (.i2l, 1) := dk_133 (dk_at dksX0_hourDigest_1 3 rfl rfl)
theorem dX0_hourDigest_28 : decode cX0_hourDigest 28 = .ok (.ladd, 1) := dk_97 (dk_at dksX0_hourDigest_1 4 rfl rfl)
theorem dX0_hourDigest_29 : decode cX0_hourDigest 29 = .ok (.lstore 5, 2) := dk_55 5 (dk_at dksX0_hourDigest_1 5 rfl rfl)
theorem dX0_hourDigest_31 : decode cX0_hourDigest 31 = .ok (.iinc 7 1, 3) := dk_132 7 1 (dk_at dksX0_hourDigest_1 7 rfl rfl)
theorem dX0_hourDigest_34 : decode cX0_hourDigest 34 = .ok (.goto (-28), 3) := dk_167 255 228 (dk_at dksX0_hourDigest_1 10 rfl rfl)
theorem dX0_hourDigest_37 : decode cX0_hourDigest 37 = .ok (.lload 5, 2) := dk_22 5 (dk_at dksX0_hourDigest_1 13 rfl rfl)
theorem dX0_hourDigest_39 : decode cX0_hourDigest 39 = .ok (.lreturn, 1) := dk_173 (dk_at dksX0_hourDigest_1 15 rfl rfl)
theorem q89 : (Jvm.Cond.initialized "QuestionRoad") ∈ lw_all := lw_g (lw_at lw_m1 1 rfl) rfl
theorem q108 : (Jvm.Cond.instanceMethod ({ cls := "QuestionRoad", name := "type", desc := "(II)I" } : Jvm.MethodName)) ∈ lw_all := lw_g (lw_at lw_m1 20 rfl) rfl
theorem q109 : (Jvm.Cond.selects "QuestionRoad" ({ cls := "QuestionRoad", name := "type", desc := "(II)I" } : Jvm.MethodName) ({ cls := "QuestionRoad", name := "type", desc := "(II)I" } : Jvm.MethodName)) ∈ lw_all := lw_g (lw_at lw_m1 21 rfl) rfl
theorem q110 : (Jvm.Cond.code ({ cls := "QuestionRoad", name := "type", desc := "(II)I" } : Jvm.MethodName) prog_1_method_11_code (3 : Nat) (Option.some Jvm.ClassFile.FieldType.int)) ∈ lw_all := lw_g (lw_at lw_m1 22 rfl) rfl
theorem q111 : (Jvm.Cond.methodLink "QuestionRoad" (9 : Nat) ({ cls := "QuestionRoad", name := "isText", desc := "(I)Z" } : Jvm.MethodName)) ∈ lw_all := lw_g (lw_at lw_m1 23 rfl) rfl
theorem q112 : (Jvm.Cond.static ({ cls := "QuestionRoad", name := "isText", desc := "(I)Z" } : Jvm.MethodName)) ∈ lw_all := lw_g (lw_at lw_m1 24 rfl) rfl
theorem q113 : (Jvm.Cond.code ({ cls := "QuestionRoad", name := "isText", desc := "(I)Z" } : Jvm.MethodName) prog_1_method_6_code (1 : Nat) (Option.some Jvm.ClassFile.FieldType.boolean)) ∈ lw_all := lw_g (lw_at lw_m1 25 rfl) rfl
theorem q114 : (Jvm.Cond.methodLink "QuestionRoad" (5 : Nat) ({ cls := "QuestionRoad", name := "in", desc := "(III)Z" } : Jvm.MethodName)) ∈ lw_all := lw_g (lw_at lw_m1 26 rfl) rfl
theorem q115 : (Jvm.Cond.static ({ cls := "QuestionRoad", name := "in", desc := "(III)Z" } : Jvm.MethodName)) ∈ lw_all := lw_g (lw_at lw_m1 27 rfl) rfl
theorem q116 : (Jvm.Cond.code ({ cls := "QuestionRoad", name := "in", desc := "(III)Z" } : Jvm.MethodName) prog_1_method_1_code (3 : Nat) (Option.some Jvm.ClassFile.FieldType.boolean)) ∈ lw_all := lw_g (lw_at lw_m1 28 rfl) rfl
theorem q118 : (Jvm.Cond.instanceMethod ({ cls := "QuestionRoad", name := "wipe", desc := "(I)I" } : Jvm.MethodName)) ∈ lw_all := lw_g (lw_at lw_m1 30 rfl) rfl
theorem q119 : (Jvm.Cond.selects "QuestionRoad" ({ cls := "QuestionRoad", name := "wipe", desc := "(I)I" } : Jvm.MethodName) ({ cls := "QuestionRoad", name := "wipe", desc := "(I)I" } : Jvm.MethodName)) ∈ lw_all := lw_g (lw_at lw_m1 31 rfl) rfl
theorem q120 : (Jvm.Cond.code ({ cls := "QuestionRoad", name := "wipe", desc := "(I)I" } : Jvm.MethodName) prog_1_method_12_code (3 : Nat) (Option.some Jvm.ClassFile.FieldType.int)) ∈ lw_all := lw_g (lw_at lw_m1 32 rfl) rfl
theorem q122 : (Jvm.Cond.instanceMethod ({ cls := "QuestionRoad", name := "undo", desc := "(I)I" } : Jvm.MethodName)) ∈ lw_all := lw_g (lw_at lw_m1 34 rfl) rfl
theorem q123 : (Jvm.Cond.selects "QuestionRoad" ({ cls := "QuestionRoad", name := "undo", desc := "(I)I" } : Jvm.MethodName) ({ cls := "QuestionRoad", name := "undo", desc := "(I)I" } : Jvm.MethodName)) ∈ lw_all := lw_g (lw_at lw_m1 35 rfl) rfl
theorem q124 : (Jvm.Cond.code ({ cls := "QuestionRoad", name := "undo", desc := "(I)I" } : Jvm.MethodName) prog_1_method_13_code (2 : Nat) (Option.some Jvm.ClassFile.FieldType.int)) ∈ lw_all := lw_g (lw_at lw_m1 36 rfl) rfl
theorem q126 : (Jvm.Cond.instanceMethod ({ cls := "QuestionRoad", name := "fault", desc := "(I)I" } : Jvm.MethodName)) ∈ lw_all := lw_g (lw_at lw_m1 38 rfl) rfl
theorem q127 : (Jvm.Cond.selects "QuestionRoad" ({ cls := "QuestionRoad", name := "fault", desc := "(I)I" } : Jvm.MethodName) ({ cls := "QuestionRoad", name := "fault", desc := "(I)I" } : Jvm.MethodName)) ∈ lw_all := lw_g (lw_at lw_m1 39 rfl) rfl
theorem q128 : (Jvm.Cond.code ({ cls := "QuestionRoad", name := "fault", desc := "(I)I" } : Jvm.MethodName) prog_1_method_25_code (2 : Nat) (Option.some Jvm.ClassFile.FieldType.int)) ∈ lw_all := lw_g (lw_at lw_m1 40 rfl) rfl
theorem q129 : (Jvm.Cond.methodLink "QuestionRoad" (111 : Nat) ({ cls := "QuestionRoad", name := "faultOf", desc := "(I)I" } : Jvm.MethodName)) ∈ lw_all := lw_g (lw_at lw_m1 41 rfl) rfl
theorem q130 : (Jvm.Cond.privateMethod ({ cls := "QuestionRoad", name := "faultOf", desc := "(I)I" } : Jvm.MethodName)) ∈ lw_tbl := lw_at lw_m1 42 rfl
theorem q131 : (Jvm.Cond.instanceMethod ({ cls := "QuestionRoad", name := "faultOf", desc := "(I)I" } : Jvm.MethodName)) ∈ lw_all := lw_g (lw_at lw_m1 43 rfl) rfl
theorem q132 : (Jvm.Cond.instantiable "QuestionRoad" (31 : Nat)) ∈ lw_all := lw_g (lw_at lw_m1 44 rfl) rfl
theorem q133 : (Jvm.Cond.code ({ cls := "QuestionRoad", name := "faultOf", desc := "(I)I" } : Jvm.MethodName) prog_1_method_24_code (2 : Nat) (Option.some Jvm.ClassFile.FieldType.int)) ∈ lw_all := lw_g (lw_at lw_m1 45 rfl) rfl
theorem q134 : (Jvm.Cond.methodLink "QuestionRoad" (107 : Nat) ({ cls := "QuestionRoad", name := "reads", desc := "()V" } : Jvm.MethodName)) ∈ lw_all := lw_g (lw_at lw_m1 46 rfl) rfl
theorem q135 : (Jvm.Cond.privateMethod ({ cls := "QuestionRoad", name := "reads", desc := "()V" } : Jvm.MethodName)) ∈ lw_tbl := lw_at lw_m1 47 rfl
theorem q136 : (Jvm.Cond.instanceMethod ({ cls := "QuestionRoad", name := "reads", desc := "()V" } : Jvm.MethodName)) ∈ lw_all := lw_g (lw_at lw_m1 48 rfl) rfl
theorem q137 : (Jvm.Cond.code ({ cls := "QuestionRoad", name := "reads", desc := "()V" } : Jvm.MethodName) prog_1_method_23_code (1 : Nat) (Option.none : Option Jvm.ClassFile.FieldType)) ∈ lw_all := lw_g (lw_at lw_m1 49 rfl) rfl
theorem q138 : (Jvm.Cond.methodLink "QuestionRoad" (104 : Nat) ({ cls := "QuestionRoad", name := "readsParts", desc := "(I)I" } : Jvm.MethodName)) ∈ lw_all := lw_g (lw_at lw_m1 50 rfl) rfl
theorem q139 : (Jvm.Cond.privateMethod ({ cls := "QuestionRoad", name := "readsParts", desc := "(I)I" } : Jvm.MethodName)) ∈ lw_tbl := lw_at lw_m1 51 rfl
theorem q140 : (Jvm.Cond.instanceMethod ({ cls := "QuestionRoad", name := "readsParts", desc := "(I)I" } : Jvm.MethodName)) ∈ lw_all := lw_g (lw_at lw_m1 52 rfl) rfl
theorem q141 : (Jvm.Cond.code ({ cls := "QuestionRoad", name := "readsParts", desc := "(I)I" } : Jvm.MethodName) prog_1_method_22_code (7 : Nat) (Option.some Jvm.ClassFile.FieldType.int)) ∈ lw_all := lw_g (lw_at lw_m1 53 rfl) rfl
theorem q142 : (Jvm.Cond.methodLink "QuestionRoad" (89 : Nat) ({ cls := "QuestionRoad", name := "readsWay", desc := "(II)I" } : Jvm.MethodName)) ∈ lw_all := lw_g (lw_at lw_m1 54 rfl) rfl
theorem q143 : (Jvm.Cond.privateMethod ({ cls := "QuestionRoad", name := "readsWay", desc := "(II)I" } : Jvm.MethodName)) ∈ lw_tbl := lw_at lw_m1 55 rfl
theorem q144 : (Jvm.Cond.instanceMethod ({ cls := "QuestionRoad", name := "readsWay", desc := "(II)I" } : Jvm.MethodName)) ∈ lw_all := lw_g (lw_at lw_m1 56 rfl) rfl
theorem q145 : (Jvm.Cond.code ({ cls := "QuestionRoad", name := "readsWay", desc := "(II)I" } : Jvm.MethodName) prog_1_method_19_code (8 : Nat) (Option.some Jvm.ClassFile.FieldType.int)) ∈ lw_all := lw_g (lw_at lw_m1 57 rfl) rfl
theorem q146 : (Jvm.Cond.methodLink "QuestionRoad" (32 : Nat) ({ cls := "QuestionRoad", name := "placeAt", desc := "(II)I" } : Jvm.MethodName)) ∈ lw_all := lw_g (lw_at lw_m1 58 rfl) rfl
theorem q147 : (Jvm.Cond.privateMethod ({ cls := "QuestionRoad", name := "placeAt", desc := "(II)I" } : Jvm.MethodName)) ∈ lw_tbl := lw_at lw_m1 59 rfl
theorem q148 : (Jvm.Cond.instanceMethod ({ cls := "QuestionRoad", name := "placeAt", desc := "(II)I" } : Jvm.MethodName)) ∈ lw_all := lw_g (lw_at lw_m1 60 rfl) rfl
theorem q149 : (Jvm.Cond.code ({ cls := "QuestionRoad", name := "placeAt", desc := "(II)I" } : Jvm.MethodName) prog_1_method_16_code (4 : Nat) (Option.some Jvm.ClassFile.FieldType.int)) ∈ lw_all := lw_g (lw_at lw_m1 61 rfl) rfl
theorem q150 : (Jvm.Cond.methodLink "QuestionRoad" (25 : Nat) ({ cls := "QuestionRoad", name := "byteAt", desc := "(II)I" } : Jvm.MethodName)) ∈ lw_all := lw_g (lw_at lw_m1 62 rfl) rfl
theorem q151 : (Jvm.Cond.privateMethod ({ cls := "QuestionRoad", name := "byteAt", desc := "(II)I" } : Jvm.MethodName)) ∈ lw_tbl := lw_at lw_m1 63 rfl
theorem q152 : (Jvm.Cond.instanceMethod ({ cls := "QuestionRoad", name := "byteAt", desc := "(II)I" } : Jvm.MethodName)) ∈ lw_all := lw_g (lw_at lw_m1 64 rfl) rfl
theorem q153 : (Jvm.Cond.code ({ cls := "QuestionRoad", name := "byteAt", desc := "(II)I" } : Jvm.MethodName) prog_1_method_14_code (3 : Nat) (Option.some Jvm.ClassFile.FieldType.int)) ∈ lw_all := lw_g (lw_at lw_m1 65 rfl) rfl
theorem q154 : (Jvm.Cond.methodLink "QuestionRoad" (29 : Nat) ({ cls := "QuestionRoad", name := "isPlace", desc := "(I)Z" } : Jvm.MethodName)) ∈ lw_all := lw_g (lw_at lw_m1 66 rfl) rfl
theorem q155 : (Jvm.Cond.static ({ cls := "QuestionRoad", name := "isPlace", desc := "(I)Z" } : Jvm.MethodName)) ∈ lw_all := lw_g (lw_at lw_m1 67 rfl) rfl
theorem q156 : (Jvm.Cond.code ({ cls := "QuestionRoad", name := "isPlace", desc := "(I)Z" } : Jvm.MethodName) prog_1_method_8_code (1 : Nat) (Option.some Jvm.ClassFile.FieldType.boolean)) ∈ lw_all := lw_g (lw_at lw_m1 68 rfl) rfl
theorem q157 : (Jvm.Cond.methodLink "QuestionRoad" (35 : Nat) ({ cls := "QuestionRoad", name := "figureAt", desc := "(III)I" } : Jvm.MethodName)) ∈ lw_all := lw_g (lw_at lw_m1 69 rfl) rfl
theorem q158 : (Jvm.Cond.privateMethod ({ cls := "QuestionRoad", name := "figureAt", desc := "(III)I" } : Jvm.MethodName)) ∈ lw_tbl := lw_at lw_m1 70 rfl
theorem q159 : (Jvm.Cond.instanceMethod ({ cls := "QuestionRoad", name := "figureAt", desc := "(III)I" } : Jvm.MethodName)) ∈ lw_all := lw_g (lw_at lw_m1 71 rfl) rfl
theorem q160 : (Jvm.Cond.code ({ cls := "QuestionRoad", name := "figureAt", desc := "(III)I" } : Jvm.MethodName) prog_1_method_15_code (5 : Nat) (Option.some Jvm.ClassFile.FieldType.int)) ∈ lw_all := lw_g (lw_at lw_m1 72 rfl) rfl
theorem q161 : (Jvm.Cond.methodLink "QuestionRoad" (39 : Nat) ({ cls := "QuestionRoad", name := "slopeOf", desc := "(I)I" } : Jvm.MethodName)) ∈ lw_all := lw_g (lw_at lw_m1 73 rfl) rfl
theorem q162 : (Jvm.Cond.static ({ cls := "QuestionRoad", name := "slopeOf", desc := "(I)I" } : Jvm.MethodName)) ∈ lw_all := lw_g (lw_at lw_m1 74 rfl) rfl
theorem q163 : (Jvm.Cond.code ({ cls := "QuestionRoad", name := "slopeOf", desc := "(I)I" } : Jvm.MethodName) prog_1_method_17_code (1 : Nat) (Option.some Jvm.ClassFile.FieldType.int)) ∈ lw_all := lw_g (lw_at lw_m1 75 rfl) rfl
theorem q164 : (Jvm.Cond.methodLink "QuestionRoad" (92 : Nat) ({ cls := "QuestionRoad", name := "readsCarter", desc := "(II)I" } : Jvm.MethodName)) ∈ lw_all := lw_g (lw_at lw_m1 76 rfl) rfl
theorem q165 : (Jvm.Cond.privateMethod ({ cls := "QuestionRoad", name := "readsCarter", desc := "(II)I" } : Jvm.MethodName)) ∈ lw_tbl := lw_at lw_m1 77 rfl
theorem q166 : (Jvm.Cond.instanceMethod ({ cls := "QuestionRoad", name := "readsCarter", desc := "(II)I" } : Jvm.MethodName)) ∈ lw_all := lw_g (lw_at lw_m1 78 rfl) rfl
theorem q167 : (Jvm.Cond.code ({ cls := "QuestionRoad", name := "readsCarter", desc := "(II)I" } : Jvm.MethodName) prog_1_method_21_code (5 : Nat) (Option.some Jvm.ClassFile.FieldType.int)) ∈ lw_all := lw_g (lw_at lw_m1 79 rfl) rfl
theorem q168 : (Jvm.Cond.methodLink "QuestionRoad" (58 : Nat) ({ cls := "QuestionRoad", name := "isCarterByte", desc := "(II)Z" } : Jvm.MethodName)) ∈ lw_all := lw_g (lw_at lw_m1 80 rfl) rfl
theorem q169 : (Jvm.Cond.privateMethod ({ cls := "QuestionRoad", name := "isCarterByte", desc := "(II)Z" } : Jvm.MethodName)) ∈ lw_tbl := lw_at lw_m1 81 rfl
theorem q170 : (Jvm.Cond.instanceMethod ({ cls := "QuestionRoad", name := "isCarterByte", desc := "(II)Z" } : Jvm.MethodName)) ∈ lw_all := lw_g (lw_at lw_m1 82 rfl) rfl
theorem q171 : (Jvm.Cond.code ({ cls := "QuestionRoad", name := "isCarterByte", desc := "(II)Z" } : Jvm.MethodName) prog_1_method_20_code (3 : Nat) (Option.some Jvm.ClassFile.FieldType.boolean)) ∈ lw_all := lw_g (lw_at lw_m1 83 rfl) rfl
theorem q172 : (Jvm.Cond.methodLink "QuestionRoad" (55 : Nat) ({ cls := "QuestionRoad", name := "kindOf", desc := "(I)I" } : Jvm.MethodName)) ∈ lw_all := lw_g (lw_at lw_m1 84 rfl) rfl
theorem q173 : (Jvm.Cond.static ({ cls := "QuestionRoad", name := "kindOf", desc := "(I)I" } : Jvm.MethodName)) ∈ lw_all := lw_g (lw_at lw_m1 85 rfl) rfl
theorem q174 : (Jvm.Cond.code ({ cls := "QuestionRoad", name := "kindOf", desc := "(I)I" } : Jvm.MethodName) prog_1_method_18_code (1 : Nat) (Option.some Jvm.ClassFile.FieldType.int)) ∈ lw_all := lw_g (lw_at lw_m1 86 rfl) rfl
theorem q176 : (Jvm.Cond.instanceMethod ({ cls := "QuestionRoad", name := "way", desc := "(II)I" } : Jvm.MethodName)) ∈ lw_all := lw_g (lw_at lw_m1 88 rfl) rfl
theorem q177 : (Jvm.Cond.selects "QuestionRoad" ({ cls := "QuestionRoad", name := "way", desc := "(II)I" } : Jvm.MethodName) ({ cls := "QuestionRoad", name := "way", desc := "(II)I" } : Jvm.MethodName)) ∈ lw_all := lw_g (lw_at lw_m1 89 rfl) rfl
theorem q178 : (Jvm.Cond.code ({ cls := "QuestionRoad", name := "way", desc := "(II)I" } : Jvm.MethodName) prog_1_method_29_code (3 : Nat) (Option.some Jvm.ClassFile.FieldType.int)) ∈ lw_all := lw_g (lw_at lw_m1 90 rfl) rfl
theorem q179 : (Jvm.Cond.methodLink "QuestionRoad" (114 : Nat) ({ cls := "QuestionRoad", name := "isWay", desc := "(I)Z" } : Jvm.MethodName)) ∈ lw_all := lw_g (lw_at lw_m1 91 rfl) rfl
theorem q180 : (Jvm.Cond.privateMethod ({ cls := "QuestionRoad", name := "isWay", desc := "(I)Z" } : Jvm.MethodName)) ∈ lw_tbl := lw_at lw_m1 92 rfl
theorem q181 : (Jvm.Cond.instanceMethod ({ cls := "QuestionRoad", name := "isWay", desc := "(I)Z" } : Jvm.MethodName)) ∈ lw_all := lw_g (lw_at lw_m1 93 rfl) rfl
theorem q182 : (Jvm.Cond.code ({ cls := "QuestionRoad", name := "isWay", desc := "(I)Z" } : Jvm.MethodName) prog_1_method_26_code (2 : Nat) (Option.some Jvm.ClassFile.FieldType.boolean)) ∈ lw_all := lw_g (lw_at lw_m1 94 rfl) rfl
theorem q183 : (Jvm.Cond.methodLink "QuestionRoad" (117 : Nat) ({ cls := "QuestionRoad", name := "wayOf", desc := "(II)I" } : Jvm.MethodName)) ∈ lw_all := lw_g (lw_at lw_m1 95 rfl) rfl
theorem q184 : (Jvm.Cond.privateMethod ({ cls := "QuestionRoad", name := "wayOf", desc := "(II)I" } : Jvm.MethodName)) ∈ lw_tbl := lw_at lw_m1 96 rfl
theorem q185 : (Jvm.Cond.instanceMethod ({ cls := "QuestionRoad", name := "wayOf", desc := "(II)I" } : Jvm.MethodName)) ∈ lw_all := lw_g (lw_at lw_m1 97 rfl) rfl
theorem q186 : (Jvm.Cond.code ({ cls := "QuestionRoad", name := "wayOf", desc := "(II)I" } : Jvm.MethodName) prog_1_method_28_code (3 : Nat) (Option.some Jvm.ClassFile.FieldType.int)) ∈ lw_all := lw_g (lw_at lw_m1 98 rfl) rfl
theorem q188 : (Jvm.Cond.instanceMethod ({ cls := "QuestionRoad", name := "carter", desc := "(II)I" } : Jvm.MethodName)) ∈ lw_all := lw_g (lw_at lw_m1 100 rfl) rfl
theorem q189 : (Jvm.Cond.selects "QuestionRoad" ({ cls := "QuestionRoad", name := "carter", desc := "(II)I" } : Jvm.MethodName) ({ cls := "QuestionRoad", name := "carter", desc := "(II)I" } : Jvm.MethodName)) ∈ lw_all := lw_g (lw_at lw_m1 101 rfl) rfl
theorem q190 : (Jvm.Cond.code ({ cls := "QuestionRoad", name := "carter", desc := "(II)I" } : Jvm.MethodName) prog_1_method_31_code (3 : Nat) (Option.some Jvm.ClassFile.FieldType.int)) ∈ lw_all := lw_g (lw_at lw_m1 102 rfl) rfl
theorem q191 : (Jvm.Cond.methodLink "QuestionRoad" (126 : Nat) ({ cls := "QuestionRoad", name := "isCarter", desc := "(I)Z" } : Jvm.MethodName)) ∈ lw_all := lw_g (lw_at lw_m1 103 rfl) rfl
theorem q192 : (Jvm.Cond.privateMethod ({ cls := "QuestionRoad", name := "isCarter", desc := "(I)Z" } : Jvm.MethodName)) ∈ lw_tbl := lw_at lw_m1 104 rfl
theorem q193 : (Jvm.Cond.instanceMethod ({ cls := "QuestionRoad", name := "isCarter", desc := "(I)Z" } : Jvm.MethodName)) ∈ lw_all := lw_g (lw_at lw_m1 105 rfl) rfl
theorem q194 : (Jvm.Cond.code ({ cls := "QuestionRoad", name := "isCarter", desc := "(I)Z" } : Jvm.MethodName) prog_1_method_27_code (2 : Nat) (Option.some Jvm.ClassFile.FieldType.boolean)) ∈ lw_all := lw_g (lw_at lw_m1 106 rfl) rfl
theorem q195 : (Jvm.Cond.methodLink "QuestionRoad" (129 : Nat) ({ cls := "QuestionRoad", name := "carterOf", desc := "(II)I" } : Jvm.MethodName)) ∈ lw_all := lw_g (lw_at lw_m1 107 rfl) rfl
theorem q196 : (Jvm.Cond.privateMethod ({ cls := "QuestionRoad", name := "carterOf", desc := "(II)I" } : Jvm.MethodName)) ∈ lw_tbl := lw_at lw_m1 108 rfl
theorem q197 : (Jvm.Cond.instanceMethod ({ cls := "QuestionRoad", name := "carterOf", desc := "(II)I" } : Jvm.MethodName)) ∈ lw_all := lw_g (lw_at lw_m1 109 rfl) rfl
theorem q198 : (Jvm.Cond.code ({ cls := "QuestionRoad", name := "carterOf", desc := "(II)I" } : Jvm.MethodName) prog_1_method_30_code (4 : Nat) (Option.some Jvm.ClassFile.FieldType.int)) ∈ lw_all := lw_g (lw_at lw_m1 110 rfl) rfl
theorem q199 : (Jvm.Cond.methodLink "QuestionRoad" (120 : Nat) ({ cls := "QuestionRoad$Question", name := "kind", desc := "()I" } : Jvm.MethodName)) ∈ lw_all := lw_g (lw_at lw_m1 111 rfl) rfl
theorem q211 : (Jvm.Cond.instanceMethod ({ cls := "QuestionRoad", name := "late", desc := "(II)I" } : Jvm.MethodName)) ∈ lw_all := lw_g (lw_at lw_m1 123 rfl) rfl
theorem q212 : (Jvm.Cond.selects "QuestionRoad" ({ cls := "QuestionRoad", name := "late", desc := "(II)I" } : Jvm.MethodName) ({ cls := "QuestionRoad", name := "late", desc := "(II)I" } : Jvm.MethodName)) ∈ lw_all := lw_g (lw_at lw_m1 124 rfl) rfl
theorem q213 : (Jvm.Cond.code ({ cls := "QuestionRoad", name := "late", desc := "(II)I" } : Jvm.MethodName) prog_1_method_32_code (4 : Nat) (Option.some Jvm.ClassFile.FieldType.int)) ∈ lw_all := lw_g (lw_at lw_m1 125 rfl) rfl
theorem q214 : (Jvm.Cond.methodLink "QuestionRoad" (132 : Nat) ({ cls := "QuestionRoad", name := "isEight", desc := "(I)Z" } : Jvm.MethodName)) ∈ lw_all := lw_g (lw_at lw_m1 126 rfl) rfl
theorem q215 : (Jvm.Cond.static ({ cls := "QuestionRoad", name := "isEight", desc := "(I)Z" } : Jvm.MethodName)) ∈ lw_all := lw_g (lw_at lw_m1 127 rfl) rfl
theorem q216 : (Jvm.Cond.code ({ cls := "QuestionRoad", name := "isEight", desc := "(I)Z" } : Jvm.MethodName) prog_1_method_9_code (1 : Nat) (Option.some Jvm.ClassFile.FieldType.boolean)) ∈ lw_all := lw_g (lw_at lw_m1 128 rfl) rfl
theorem q218 : (Jvm.Cond.instanceMethod ({ cls := "QuestionRoad", name := "answer", desc := "(II)I" } : Jvm.MethodName)) ∈ lw_all := lw_g (lw_at lw_m1 130 rfl) rfl
theorem q219 : (Jvm.Cond.selects "QuestionRoad" ({ cls := "QuestionRoad", name := "answer", desc := "(II)I" } : Jvm.MethodName) ({ cls := "QuestionRoad", name := "answer", desc := "(II)I" } : Jvm.MethodName)) ∈ lw_all := lw_g (lw_at lw_m1 131 rfl) rfl
theorem q220 : (Jvm.Cond.code ({ cls := "QuestionRoad", name := "answer", desc := "(II)I" } : Jvm.MethodName) prog_1_method_34_code (3 : Nat) (Option.some Jvm.ClassFile.FieldType.int)) ∈ lw_all := lw_g (lw_at lw_m1 132 rfl) rfl
theorem q221 : (Jvm.Cond.methodLink "QuestionRoad" (150 : Nat) ({ cls := "QuestionRoad", name := "more", desc := "(II)I" } : Jvm.MethodName)) ∈ lw_all := lw_g (lw_at lw_m1 133 rfl) rfl
theorem q222 : (Jvm.Cond.privateMethod ({ cls := "QuestionRoad", name := "more", desc := "(II)I" } : Jvm.MethodName)) ∈ lw_tbl := lw_at lw_m1 134 rfl
theorem q223 : (Jvm.Cond.instanceMethod ({ cls := "QuestionRoad", name := "more", desc := "(II)I" } : Jvm.MethodName)) ∈ lw_all := lw_g (lw_at lw_m1 135 rfl) rfl
theorem q224 : (Jvm.Cond.code ({ cls := "QuestionRoad", name := "more", desc := "(II)I" } : Jvm.MethodName) prog_1_method_33_code (3 : Nat) (Option.some Jvm.ClassFile.FieldType.int)) ∈ lw_all := lw_g (lw_at lw_m1 136 rfl) rfl
theorem q225 : (Jvm.Cond.methodLink "QuestionRoad" (138 : Nat) ({ cls := "QuestionRoad", name := "isHour", desc := "(I)Z" } : Jvm.MethodName)) ∈ lw_all := lw_g (lw_at lw_m1 137 rfl) rfl
theorem q226 : (Jvm.Cond.static ({ cls := "QuestionRoad", name := "isHour", desc := "(I)Z" } : Jvm.MethodName)) ∈ lw_all := lw_g (lw_at lw_m1 138 rfl) rfl
theorem q227 : (Jvm.Cond.code ({ cls := "QuestionRoad", name := "isHour", desc := "(I)Z" } : Jvm.MethodName) prog_1_method_10_code (1 : Nat) (Option.some Jvm.ClassFile.FieldType.boolean)) ∈ lw_all := lw_g (lw_at lw_m1 139 rfl) rfl
theorem q229 : (Jvm.Cond.instanceMethod ({ cls := "QuestionRoad", name := "back", desc := "()I" } : Jvm.MethodName)) ∈ lw_all := lw_g (lw_at lw_m1 141 rfl) rfl
theorem q230 : (Jvm.Cond.selects "QuestionRoad" ({ cls := "QuestionRoad", name := "back", desc := "()I" } : Jvm.MethodName) ({ cls := "QuestionRoad", name := "back", desc := "()I" } : Jvm.MethodName)) ∈ lw_all := lw_g (lw_at lw_m1 142 rfl) rfl
theorem q231 : (Jvm.Cond.code ({ cls := "QuestionRoad", name := "back", desc := "()I" } : Jvm.MethodName) prog_1_method_35_code (1 : Nat) (Option.some Jvm.ClassFile.FieldType.int)) ∈ lw_all := lw_g (lw_at lw_m1 143 rfl) rfl
theorem q233 : (Jvm.Cond.instanceMethod ({ cls := "QuestionRoad", name := "read", desc := "(I)I" } : Jvm.MethodName)) ∈ lw_all := lw_g (lw_at lw_m1 145 rfl) rfl
theorem q234 : (Jvm.Cond.selects "QuestionRoad" ({ cls := "QuestionRoad", name := "read", desc := "(I)I" } : Jvm.MethodName) ({ cls := "QuestionRoad", name := "read", desc := "(I)I" } : Jvm.MethodName)) ∈ lw_all := lw_g (lw_at lw_m1 146 rfl) rfl
theorem q235 : (Jvm.Cond.code ({ cls := "QuestionRoad", name := "read", desc := "(I)I" } : Jvm.MethodName) prog_1_method_36_code (4 : Nat) (Option.some Jvm.ClassFile.FieldType.int)) ∈ lw_all := lw_g (lw_at lw_m1 147 rfl) rfl
theorem q236 : (Jvm.Cond.methodLink "QuestionRoad" (153 : Nat) ({ cls := "QuestionRoad", name := "isSheet", desc := "(I)Z" } : Jvm.MethodName)) ∈ lw_all := lw_g (lw_at lw_m1 148 rfl) rfl
theorem q237 : (Jvm.Cond.static ({ cls := "QuestionRoad", name := "isSheet", desc := "(I)Z" } : Jvm.MethodName)) ∈ lw_all := lw_g (lw_at lw_m1 149 rfl) rfl
theorem q238 : (Jvm.Cond.code ({ cls := "QuestionRoad", name := "isSheet", desc := "(I)Z" } : Jvm.MethodName) prog_1_method_89_code (1 : Nat) (Option.some Jvm.ClassFile.FieldType.boolean)) ∈ lw_all := lw_g (lw_at lw_m1 150 rfl) rfl
theorem q239 : (Jvm.Cond.methodLink "QuestionRoad" (166 : Nat) ({ cls := "QuestionRoad", name := "meets", desc := "(I)I" } : Jvm.MethodName)) ∈ lw_all := lw_g (lw_at lw_m1 151 rfl) rfl
theorem q240 : (Jvm.Cond.privateMethod ({ cls := "QuestionRoad", name := "meets", desc := "(I)I" } : Jvm.MethodName)) ∈ lw_tbl := lw_at lw_m1 152 rfl
theorem q241 : (Jvm.Cond.instanceMethod ({ cls := "QuestionRoad", name := "meets", desc := "(I)I" } : Jvm.MethodName)) ∈ lw_all := lw_g (lw_at lw_m1 153 rfl) rfl
theorem q242 : (Jvm.Cond.code ({ cls := "QuestionRoad", name := "meets", desc := "(I)I" } : Jvm.MethodName) prog_1_method_88_code (2 : Nat) (Option.some Jvm.ClassFile.FieldType.int)) ∈ lw_all := lw_g (lw_at lw_m1 154 rfl) rfl
theorem q243 : (Jvm.Cond.methodLink "QuestionRoad" (169 : Nat) ({ cls := "QuestionRoad$Sheet", name := "size", desc := "()I" } : Jvm.MethodName)) ∈ lw_all := lw_g (lw_at lw_m1 155 rfl) rfl
theorem q250 : (Jvm.Cond.methodLink "QuestionRoad" (172 : Nat) ({ cls := "QuestionRoad$Sheet", name := "item", desc := "(I)I" } : Jvm.MethodName)) ∈ lw_all := lw_g (lw_at lw_m1 162 rfl) rfl
theorem q255 : (Jvm.Cond.static ({ cls := "QuestionRoad", name := "taken", desc := "(Ljava/lang/Object;II)I" } : Jvm.MethodName)) ∈ lw_all := lw_g (lw_at lw_m1 167 rfl) rfl
theorem q256 : (Jvm.Cond.code ({ cls := "QuestionRoad", name := "taken", desc := "(Ljava/lang/Object;II)I" } : Jvm.MethodName) prog_1_method_94_code (3 : Nat) (Option.some Jvm.ClassFile.FieldType.int)) ∈ lw_all := lw_g (lw_at lw_m1 168 rfl) rfl
theorem q257 : (Jvm.Cond.classLink "QuestionRoad" (409 : Nat) "[B") ∈ lw_all := lw_g (lw_at lw_m1 169 rfl) rfl
theorem q258 : (Jvm.Cond.classLink "QuestionRoad" (411 : Nat) "[S") ∈ lw_all := lw_g (lw_at lw_m1 170 rfl) rfl
theorem q259 : (Jvm.Cond.classLink "QuestionRoad" (386 : Nat) "[I") ∈ lw_all := lw_g (lw_at lw_m1 171 rfl) rfl
theorem q261 : (Jvm.Cond.instanceMethod ({ cls := "QuestionRoad", name := "far", desc := "(II)I" } : Jvm.MethodName)) ∈ lw_all := lw_g (lw_at lw_m1 173 rfl) rfl
theorem q262 : (Jvm.Cond.selects "QuestionRoad" ({ cls := "QuestionRoad", name := "far", desc := "(II)I" } : Jvm.MethodName) ({ cls := "QuestionRoad", name := "far", desc := "(II)I" } : Jvm.MethodName)) ∈ lw_all := lw_g (lw_at lw_m1 174 rfl) rfl
theorem q263 : (Jvm.Cond.code ({ cls := "QuestionRoad", name := "far", desc := "(II)I" } : Jvm.MethodName) prog_1_method_41_code (3 : Nat) (Option.some Jvm.ClassFile.FieldType.int)) ∈ lw_all := lw_g (lw_at lw_m1 175 rfl) rfl
theorem q264 : (Jvm.Cond.methodLink "QuestionRoad" (200 : Nat) ({ cls := "QuestionRoad", name := "farOf", desc := "(II)I" } : Jvm.MethodName)) ∈ lw_all := lw_g (lw_at lw_m1 176 rfl) rfl
theorem q265 : (Jvm.Cond.privateMethod ({ cls := "QuestionRoad", name := "farOf", desc := "(II)I" } : Jvm.MethodName)) ∈ lw_tbl := lw_at lw_m1 177 rfl
theorem q266 : (Jvm.Cond.instanceMethod ({ cls := "QuestionRoad", name := "farOf", desc := "(II)I" } : Jvm.MethodName)) ∈ lw_all := lw_g (lw_at lw_m1 178 rfl) rfl
theorem q267 : (Jvm.Cond.code ({ cls := "QuestionRoad", name := "farOf", desc := "(II)I" } : Jvm.MethodName) prog_1_method_40_code (3 : Nat) (Option.some Jvm.ClassFile.FieldType.int)) ∈ lw_all := lw_g (lw_at lw_m1 179 rfl) rfl
theorem q268 : (Jvm.Cond.methodLink "QuestionRoad" (196 : Nat) ({ cls := "QuestionRoad", name := "measures", desc := "(I)V" } : Jvm.MethodName)) ∈ lw_all := lw_g (lw_at lw_m1 180 rfl) rfl
theorem q269 : (Jvm.Cond.privateMethod ({ cls := "QuestionRoad", name := "measures", desc := "(I)V" } : Jvm.MethodName)) ∈ lw_tbl := lw_at lw_m1 181 rfl
theorem q270 : (Jvm.Cond.instanceMethod ({ cls := "QuestionRoad", name := "measures", desc := "(I)V" } : Jvm.MethodName)) ∈ lw_all := lw_g (lw_at lw_m1 182 rfl) rfl
theorem q271 : (Jvm.Cond.code ({ cls := "QuestionRoad", name := "measures", desc := "(I)V" } : Jvm.MethodName) prog_1_method_38_code (5 : Nat) (Option.none : Option Jvm.ClassFile.FieldType)) ∈ lw_all := lw_g (lw_at lw_m1 183 rfl) rfl
theorem q272 : (Jvm.Cond.methodLink "QuestionRoad" (183 : Nat) ({ cls := "QuestionRoad", name := "joins", desc := "(III)V" } : Jvm.MethodName)) ∈ lw_all := lw_g (lw_at lw_m1 184 rfl) rfl
theorem q273 : (Jvm.Cond.privateMethod ({ cls := "QuestionRoad", name := "joins", desc := "(III)V" } : Jvm.MethodName)) ∈ lw_tbl := lw_at lw_m1 185 rfl
theorem q274 : (Jvm.Cond.instanceMethod ({ cls := "QuestionRoad", name := "joins", desc := "(III)V" } : Jvm.MethodName)) ∈ lw_all := lw_g (lw_at lw_m1 186 rfl) rfl
theorem q275 : (Jvm.Cond.code ({ cls := "QuestionRoad", name := "joins", desc := "(III)V" } : Jvm.MethodName) prog_1_method_37_code (4 : Nat) (Option.none : Option Jvm.ClassFile.FieldType)) ∈ lw_all := lw_g (lw_at lw_m1 187 rfl) rfl
theorem q276 : (Jvm.Cond.methodLink "QuestionRoad" (178 : Nat) ({ cls := "java/lang/Math", name := "min", desc := "(II)I" } : Jvm.MethodName)) ∈ lw_all := lw_g (lw_at lw_m1 188 rfl) rfl
theorem q279 : (Jvm.Cond.methodLink "QuestionRoad" (190 : Nat) ({ cls := "java/lang/System", name := "arraycopy", desc := "(Ljava/lang/Object;ILjava/lang/Object;II)V" } : Jvm.MethodName)) ∈ lw_all := lw_g (lw_at lw_m1 191 rfl) rfl
theorem q283 : (Jvm.Cond.instanceMethod ({ cls := "QuestionRoad", name := "at", desc := "(III)I" } : Jvm.MethodName)) ∈ lw_all := lw_g (lw_at lw_m1 195 rfl) rfl
theorem q284 : (Jvm.Cond.selects "QuestionRoad" ({ cls := "QuestionRoad", name := "at", desc := "(III)I" } : Jvm.MethodName) ({ cls := "QuestionRoad", name := "at", desc := "(III)I" } : Jvm.MethodName)) ∈ lw_all := lw_g (lw_at lw_m1 196 rfl) rfl
theorem q285 : (Jvm.Cond.code ({ cls := "QuestionRoad", name := "at", desc := "(III)I" } : Jvm.MethodName) prog_1_method_51_code (4 : Nat) (Option.some Jvm.ClassFile.FieldType.int)) ∈ lw_all := lw_g (lw_at lw_m1 197 rfl) rfl
theorem q286 : (Jvm.Cond.methodLink "QuestionRoad" (279 : Nat) ({ cls := "QuestionRoad", name := "atOf", desc := "(III)I" } : Jvm.MethodName)) ∈ lw_all := lw_g (lw_at lw_m1 198 rfl) rfl
theorem q287 : (Jvm.Cond.privateMethod ({ cls := "QuestionRoad", name := "atOf", desc := "(III)I" } : Jvm.MethodName)) ∈ lw_tbl := lw_at lw_m1 199 rfl
theorem q288 : (Jvm.Cond.instanceMethod ({ cls := "QuestionRoad", name := "atOf", desc := "(III)I" } : Jvm.MethodName)) ∈ lw_all := lw_g (lw_at lw_m1 200 rfl) rfl
theorem q289 : (Jvm.Cond.code ({ cls := "QuestionRoad", name := "atOf", desc := "(III)I" } : Jvm.MethodName) prog_1_method_50_code (5 : Nat) (Option.some Jvm.ClassFile.FieldType.int)) ∈ lw_all := lw_g (lw_at lw_m1 201 rfl) rfl
theorem q290 : (Jvm.Cond.methodLink "QuestionRoad" (273 : Nat) ({ cls := "QuestionRoad", name := "asTold", desc := "()V" } : Jvm.MethodName)) ∈ lw_all := lw_g (lw_at lw_m1 202 rfl) rfl
theorem q291 : (Jvm.Cond.privateMethod ({ cls := "QuestionRoad", name := "asTold", desc := "()V" } : Jvm.MethodName)) ∈ lw_tbl := lw_at lw_m1 203 rfl
theorem q292 : (Jvm.Cond.instanceMethod ({ cls := "QuestionRoad", name := "asTold", desc := "()V" } : Jvm.MethodName)) ∈ lw_all := lw_g (lw_at lw_m1 204 rfl) rfl
theorem q293 : (Jvm.Cond.code ({ cls := "QuestionRoad", name := "asTold", desc := "()V" } : Jvm.MethodName) prog_1_method_42_code (1 : Nat) (Option.none : Option Jvm.ClassFile.FieldType)) ∈ lw_all := lw_g (lw_at lw_m1 205 rfl) rfl
theorem q294 : (Jvm.Cond.methodLink "QuestionRoad" (276 : Nat) ({ cls := "QuestionRoad", name := "runs", desc := "(I)V" } : Jvm.MethodName)) ∈ lw_all := lw_g (lw_at lw_m1 206 rfl) rfl
theorem q295 : (Jvm.Cond.privateMethod ({ cls := "QuestionRoad", name := "runs", desc := "(I)V" } : Jvm.MethodName)) ∈ lw_tbl := lw_at lw_m1 207 rfl
theorem q296 : (Jvm.Cond.instanceMethod ({ cls := "QuestionRoad", name := "runs", desc := "(I)V" } : Jvm.MethodName)) ∈ lw_all := lw_g (lw_at lw_m1 208 rfl) rfl
theorem q297 : (Jvm.Cond.code ({ cls := "QuestionRoad", name := "runs", desc := "(I)V" } : Jvm.MethodName) prog_1_method_49_code (3 : Nat) (Option.none : Option Jvm.ClassFile.FieldType)) ∈ lw_all := lw_g (lw_at lw_m1 209 rfl) rfl
theorem q298 : (Jvm.Cond.methodLink "QuestionRoad" (269 : Nat) ({ cls := "QuestionRoad", name := "begins", desc := "()V" } : Jvm.MethodName)) ∈ lw_all := lw_g (lw_at lw_m1 210 rfl) rfl
theorem q299 : (Jvm.Cond.privateMethod ({ cls := "QuestionRoad", name := "begins", desc := "()V" } : Jvm.MethodName)) ∈ lw_tbl := lw_at lw_m1 211 rfl
theorem q300 : (Jvm.Cond.instanceMethod ({ cls := "QuestionRoad", name := "begins", desc := "()V" } : Jvm.MethodName)) ∈ lw_all := lw_g (lw_at lw_m1 212 rfl) rfl
theorem q301 : (Jvm.Cond.code ({ cls := "QuestionRoad", name := "begins", desc := "()V" } : Jvm.MethodName) prog_1_method_44_code (2 : Nat) (Option.none : Option Jvm.ClassFile.FieldType)) ∈ lw_all := lw_g (lw_at lw_m1 213 rfl) rfl
theorem q302 : (Jvm.Cond.methodLink "QuestionRoad" (209 : Nat) ({ cls := "QuestionRoad$Carter", name := "begins", desc := "()V" } : Jvm.MethodName)) ∈ lw_all := lw_g (lw_at lw_m1 214 rfl) rfl
theorem q306 : (Jvm.Cond.methodLink "QuestionRoad" (270 : Nat) ({ cls := "QuestionRoad", name := "goesBy", desc := "(I)V" } : Jvm.MethodName)) ∈ lw_all := lw_g (lw_at lw_m1 218 rfl) rfl
theorem q307 : (Jvm.Cond.privateMethod ({ cls := "QuestionRoad", name := "goesBy", desc := "(I)V" } : Jvm.MethodName)) ∈ lw_tbl := lw_at lw_m1 219 rfl
theorem q308 : (Jvm.Cond.instanceMethod ({ cls := "QuestionRoad", name := "goesBy", desc := "(I)V" } : Jvm.MethodName)) ∈ lw_all := lw_g (lw_at lw_m1 220 rfl) rfl
theorem q309 : (Jvm.Cond.code ({ cls := "QuestionRoad", name := "goesBy", desc := "(I)V" } : Jvm.MethodName) prog_1_method_48_code (3 : Nat) (Option.none : Option Jvm.ClassFile.FieldType)) ∈ lw_all := lw_g (lw_at lw_m1 221 rfl) rfl
theorem q310 : (Jvm.Cond.methodLink "QuestionRoad" (260 : Nat) ({ cls := "QuestionRoad", name := "counts", desc := "(I)V" } : Jvm.MethodName)) ∈ lw_all := lw_g (lw_at lw_m1 222 rfl) rfl
theorem q311 : (Jvm.Cond.privateMethod ({ cls := "QuestionRoad", name := "counts", desc := "(I)V" } : Jvm.MethodName)) ∈ lw_tbl := lw_at lw_m1 223 rfl
theorem q312 : (Jvm.Cond.instanceMethod ({ cls := "QuestionRoad", name := "counts", desc := "(I)V" } : Jvm.MethodName)) ∈ lw_all := lw_g (lw_at lw_m1 224 rfl) rfl
theorem q313 : (Jvm.Cond.code ({ cls := "QuestionRoad", name := "counts", desc := "(I)V" } : Jvm.MethodName) prog_1_method_46_code (4 : Nat) (Option.none : Option Jvm.ClassFile.FieldType)) ∈ lw_all := lw_g (lw_at lw_m1 225 rfl) rfl
theorem q314 : (Jvm.Cond.methodLink "QuestionRoad" (230 : Nat) ({ cls := "QuestionRoad", name := "doesArrive", desc := "(LQuestionRoad$Carter;I)Z" } : Jvm.MethodName)) ∈ lw_all := lw_g (lw_at lw_m1 226 rfl) rfl
theorem q315 : (Jvm.Cond.privateMethod ({ cls := "QuestionRoad", name := "doesArrive", desc := "(LQuestionRoad$Carter;I)Z" } : Jvm.MethodName)) ∈ lw_tbl := lw_at lw_m1 227 rfl
theorem q316 : (Jvm.Cond.instanceMethod ({ cls := "QuestionRoad", name := "doesArrive", desc := "(LQuestionRoad$Carter;I)Z" } : Jvm.MethodName)) ∈ lw_all := lw_g (lw_at lw_m1 228 rfl) rfl
theorem q317 : (Jvm.Cond.code ({ cls := "QuestionRoad", name := "doesArrive", desc := "(LQuestionRoad$Carter;I)Z" } : Jvm.MethodName) prog_1_method_45_code (3 : Nat) (Option.some Jvm.ClassFile.FieldType.boolean)) ∈ lw_all := lw_g (lw_at lw_m1 229 rfl) rfl
theorem q318 : (Jvm.Cond.methodLink "QuestionRoad" (263 : Nat) ({ cls := "QuestionRoad", name := "decides", desc := "(LQuestionRoad$Carter;I)V" } : Jvm.MethodName)) ∈ lw_all := lw_g (lw_at lw_m1 230 rfl) rfl
theorem q319 : (Jvm.Cond.privateMethod ({ cls := "QuestionRoad", name := "decides", desc := "(LQuestionRoad$Carter;I)V" } : Jvm.MethodName)) ∈ lw_tbl := lw_at lw_m1 231 rfl
theorem q320 : (Jvm.Cond.instanceMethod ({ cls := "QuestionRoad", name := "decides", desc := "(LQuestionRoad$Carter;I)V" } : Jvm.MethodName)) ∈ lw_all := lw_g (lw_at lw_m1 232 rfl) rfl
theorem q321 : (Jvm.Cond.code ({ cls := "QuestionRoad", name := "decides", desc := "(LQuestionRoad$Carter;I)V" } : Jvm.MethodName) prog_1_method_47_code (5 : Nat) (Option.none : Option Jvm.ClassFile.FieldType)) ∈ lw_all := lw_g (lw_at lw_m1 233 rfl) rfl
theorem q322 : (Jvm.Cond.methodLink "QuestionRoad" (240 : Nat) ({ cls := "QuestionRoad$Carter", name := "ends", desc := "(II)V" } : Jvm.MethodName)) ∈ lw_all := lw_g (lw_at lw_m1 234 rfl) rfl
theorem q326 : (Jvm.Cond.methodLink "QuestionRoad" (244 : Nat) ({ cls := "QuestionRoad", name := "isAnswer", desc := "(II)Z" } : Jvm.MethodName)) ∈ lw_all := lw_g (lw_at lw_m1 238 rfl) rfl
theorem q327 : (Jvm.Cond.privateMethod ({ cls := "QuestionRoad", name := "isAnswer", desc := "(II)Z" } : Jvm.MethodName)) ∈ lw_tbl := lw_at lw_m1 239 rfl
theorem q328 : (Jvm.Cond.instanceMethod ({ cls := "QuestionRoad", name := "isAnswer", desc := "(II)Z" } : Jvm.MethodName)) ∈ lw_all := lw_g (lw_at lw_m2 0 rfl) rfl
theorem q329 : (Jvm.Cond.code ({ cls := "QuestionRoad", name := "isAnswer", desc := "(II)Z" } : Jvm.MethodName) prog_1_method_43_code (5 : Nat) (Option.some Jvm.ClassFile.FieldType.boolean)) ∈ lw_all := lw_g (lw_at lw_m2 1 rfl) rfl
theorem q330 : (Jvm.Cond.methodLink "QuestionRoad" (206 : Nat) ({ cls := "QuestionRoad", name := "has", desc := "(II)Z" } : Jvm.MethodName)) ∈ lw_all := lw_g (lw_at lw_m2 2 rfl) rfl
theorem q331 : (Jvm.Cond.static ({ cls := "QuestionRoad", name := "has", desc := "(II)Z" } : Jvm.MethodName)) ∈ lw_all := lw_g (lw_at lw_m2 3 rfl) rfl
theorem q332 : (Jvm.Cond.code ({ cls := "QuestionRoad", name := "has", desc := "(II)Z" } : Jvm.MethodName) prog_1_method_3_code (2 : Nat) (Option.some Jvm.ClassFile.FieldType.boolean)) ∈ lw_all := lw_g (lw_at lw_m2 4 rfl) rfl
theorem q333 : (Jvm.Cond.methodLink "QuestionRoad" (247 : Nat) ({ cls := "QuestionRoad$Question", name := "isAnswered", desc := "(ZZ)Z" } : Jvm.MethodName)) ∈ lw_all := lw_g (lw_at lw_m2 5 rfl) rfl
theorem q348 : (Jvm.Cond.methodLink "QuestionRoad" (251 : Nat) ({ cls := "QuestionRoad", name := "nextOf", desc := "(II)I" } : Jvm.MethodName)) ∈ lw_all := lw_g (lw_at lw_m2 20 rfl) rfl
theorem q349 : (Jvm.Cond.privateMethod ({ cls := "QuestionRoad", name := "nextOf", desc := "(II)I" } : Jvm.MethodName)) ∈ lw_tbl := lw_at lw_m2 21 rfl
theorem q350 : (Jvm.Cond.instanceMethod ({ cls := "QuestionRoad", name := "nextOf", desc := "(II)I" } : Jvm.MethodName)) ∈ lw_all := lw_g (lw_at lw_m2 22 rfl) rfl
theorem q351 : (Jvm.Cond.code ({ cls := "QuestionRoad", name := "nextOf", desc := "(II)I" } : Jvm.MethodName) prog_1_method_39_code (5 : Nat) (Option.some Jvm.ClassFile.FieldType.int)) ∈ lw_all := lw_g (lw_at lw_m2 23 rfl) rfl
theorem q352 : (Jvm.Cond.methodLink "QuestionRoad" (257 : Nat) ({ cls := "QuestionRoad$Carter", name := "setsOut", desc := "(III)V" } : Jvm.MethodName)) ∈ lw_all := lw_g (lw_at lw_m2 24 rfl) rfl
theorem q357 : (Jvm.Cond.instanceMethod ({ cls := "QuestionRoad", name := "ends", desc := "(I)I" } : Jvm.MethodName)) ∈ lw_all := lw_g (lw_at lw_m2 29 rfl) rfl
theorem q358 : (Jvm.Cond.selects "QuestionRoad" ({ cls := "QuestionRoad", name := "ends", desc := "(I)I" } : Jvm.MethodName) ({ cls := "QuestionRoad", name := "ends", desc := "(I)I" } : Jvm.MethodName)) ∈ lw_all := lw_g (lw_at lw_m2 30 rfl) rfl
theorem q359 : (Jvm.Cond.code ({ cls := "QuestionRoad", name := "ends", desc := "(I)I" } : Jvm.MethodName) prog_1_method_53_code (2 : Nat) (Option.some Jvm.ClassFile.FieldType.int)) ∈ lw_all := lw_g (lw_at lw_m2 31 rfl) rfl
theorem q360 : (Jvm.Cond.methodLink "QuestionRoad" (285 : Nat) ({ cls := "QuestionRoad", name := "endsOf", desc := "(I)I" } : Jvm.MethodName)) ∈ lw_all := lw_g (lw_at lw_m2 32 rfl) rfl
theorem q361 : (Jvm.Cond.privateMethod ({ cls := "QuestionRoad", name := "endsOf", desc := "(I)I" } : Jvm.MethodName)) ∈ lw_tbl := lw_at lw_m2 33 rfl
theorem q362 : (Jvm.Cond.instanceMethod ({ cls := "QuestionRoad", name := "endsOf", desc := "(I)I" } : Jvm.MethodName)) ∈ lw_all := lw_g (lw_at lw_m2 34 rfl) rfl
theorem q363 : (Jvm.Cond.code ({ cls := "QuestionRoad", name := "endsOf", desc := "(I)I" } : Jvm.MethodName) prog_1_method_52_code (2 : Nat) (Option.some Jvm.ClassFile.FieldType.int)) ∈ lw_all := lw_g (lw_at lw_m2 35 rfl) rfl
theorem q365 : (Jvm.Cond.instanceMethod ({ cls := "QuestionRoad", name := "who", desc := "(I)I" } : Jvm.MethodName)) ∈ lw_all := lw_g (lw_at lw_m2 37 rfl) rfl
theorem q366 : (Jvm.Cond.selects "QuestionRoad" ({ cls := "QuestionRoad", name := "who", desc := "(I)I" } : Jvm.MethodName) ({ cls := "QuestionRoad", name := "who", desc := "(I)I" } : Jvm.MethodName)) ∈ lw_all := lw_g (lw_at lw_m2 38 rfl) rfl
theorem q367 : (Jvm.Cond.code ({ cls := "QuestionRoad", name := "who", desc := "(I)I" } : Jvm.MethodName) prog_1_method_56_code (2 : Nat) (Option.some Jvm.ClassFile.FieldType.int)) ∈ lw_all := lw_g (lw_at lw_m2 39 rfl) rfl
theorem q368 : (Jvm.Cond.methodLink "QuestionRoad" (291 : Nat) ({ cls := "QuestionRoad", name := "whoOf", desc := "(I)I" } : Jvm.MethodName)) ∈ lw_all := lw_g (lw_at lw_m2 40 rfl) rfl
theorem q369 : (Jvm.Cond.privateMethod ({ cls := "QuestionRoad", name := "whoOf", desc := "(I)I" } : Jvm.MethodName)) ∈ lw_tbl := lw_at lw_m2 41 rfl
theorem q370 : (Jvm.Cond.instanceMethod ({ cls := "QuestionRoad", name := "whoOf", desc := "(I)I" } : Jvm.MethodName)) ∈ lw_all := lw_g (lw_at lw_m2 42 rfl) rfl
theorem q371 : (Jvm.Cond.code ({ cls := "QuestionRoad", name := "whoOf", desc := "(I)I" } : Jvm.MethodName) prog_1_method_55_code (2 : Nat) (Option.some Jvm.ClassFile.FieldType.int)) ∈ lw_all := lw_g (lw_at lw_m2 43 rfl) rfl
theorem q372 : (Jvm.Cond.methodLink "QuestionRoad" (288 : Nat) ({ cls := "QuestionRoad", name := "whoNow", desc := "(I)I" } : Jvm.MethodName)) ∈ lw_all := lw_g (lw_at lw_m2 44 rfl) rfl
theorem q373 : (Jvm.Cond.privateMethod ({ cls := "QuestionRoad", name := "whoNow", desc := "(I)I" } : Jvm.MethodName)) ∈ lw_tbl := lw_at lw_m2 45 rfl
theorem q374 : (Jvm.Cond.instanceMethod ({ cls := "QuestionRoad", name := "whoNow", desc := "(I)I" } : Jvm.MethodName)) ∈ lw_all := lw_g (lw_at lw_m2 46 rfl) rfl
theorem q375 : (Jvm.Cond.code ({ cls := "QuestionRoad", name := "whoNow", desc := "(I)I" } : Jvm.MethodName) prog_1_method_54_code (4 : Nat) (Option.some Jvm.ClassFile.FieldType.int)) ∈ lw_all := lw_g (lw_at lw_m2 47 rfl) rfl
theorem q377 : (Jvm.Cond.instanceMethod ({ cls := "QuestionRoad", name := "met", desc := "(I)I" } : Jvm.MethodName)) ∈ lw_all := lw_g (lw_at lw_m2 49 rfl) rfl
theorem q378 : (Jvm.Cond.selects "QuestionRoad" ({ cls := "QuestionRoad", name := "met", desc := "(I)I" } : Jvm.MethodName) ({ cls := "QuestionRoad", name := "met", desc := "(I)I" } : Jvm.MethodName)) ∈ lw_all := lw_g (lw_at lw_m2 50 rfl) rfl
theorem q379 : (Jvm.Cond.code ({ cls := "QuestionRoad", name := "met", desc := "(I)I" } : Jvm.MethodName) prog_1_method_58_code (2 : Nat) (Option.some Jvm.ClassFile.FieldType.int)) ∈ lw_all := lw_g (lw_at lw_m2 51 rfl) rfl
theorem q380 : (Jvm.Cond.methodLink "QuestionRoad" (294 : Nat) ({ cls := "QuestionRoad", name := "isTwo", desc := "(I)Z" } : Jvm.MethodName)) ∈ lw_all := lw_g (lw_at lw_m2 52 rfl) rfl
theorem q381 : (Jvm.Cond.static ({ cls := "QuestionRoad", name := "isTwo", desc := "(I)Z" } : Jvm.MethodName)) ∈ lw_all := lw_g (lw_at lw_m2 53 rfl) rfl
theorem q382 : (Jvm.Cond.code ({ cls := "QuestionRoad", name := "isTwo", desc := "(I)Z" } : Jvm.MethodName) prog_1_method_7_code (1 : Nat) (Option.some Jvm.ClassFile.FieldType.boolean)) ∈ lw_all := lw_g (lw_at lw_m2 54 rfl) rfl
theorem q383 : (Jvm.Cond.methodLink "QuestionRoad" (297 : Nat) ({ cls := "QuestionRoad", name := "metOf", desc := "(I)I" } : Jvm.MethodName)) ∈ lw_all := lw_g (lw_at lw_m2 55 rfl) rfl
theorem q384 : (Jvm.Cond.privateMethod ({ cls := "QuestionRoad", name := "metOf", desc := "(I)I" } : Jvm.MethodName)) ∈ lw_tbl := lw_at lw_m2 56 rfl
theorem q385 : (Jvm.Cond.instanceMethod ({ cls := "QuestionRoad", name := "metOf", desc := "(I)I" } : Jvm.MethodName)) ∈ lw_all := lw_g (lw_at lw_m2 57 rfl) rfl
theorem q386 : (Jvm.Cond.code ({ cls := "QuestionRoad", name := "metOf", desc := "(I)I" } : Jvm.MethodName) prog_1_method_57_code (2 : Nat) (Option.some Jvm.ClassFile.FieldType.int)) ∈ lw_all := lw_g (lw_at lw_m2 58 rfl) rfl
theorem q388 : (Jvm.Cond.instanceMethod ({ cls := "QuestionRoad", name := "busiest", desc := "()I" } : Jvm.MethodName)) ∈ lw_all := lw_g (lw_at lw_m2 60 rfl) rfl
theorem q389 : (Jvm.Cond.selects "QuestionRoad" ({ cls := "QuestionRoad", name := "busiest", desc := "()I" } : Jvm.MethodName) ({ cls := "QuestionRoad", name := "busiest", desc := "()I" } : Jvm.MethodName)) ∈ lw_all := lw_g (lw_at lw_m2 61 rfl) rfl
theorem q390 : (Jvm.Cond.code ({ cls := "QuestionRoad", name := "busiest", desc := "()I" } : Jvm.MethodName) prog_1_method_60_code (1 : Nat) (Option.some Jvm.ClassFile.FieldType.int)) ∈ lw_all := lw_g (lw_at lw_m2 62 rfl) rfl
theorem q391 : (Jvm.Cond.methodLink "QuestionRoad" (300 : Nat) ({ cls := "QuestionRoad", name := "busiestNow", desc := "()I" } : Jvm.MethodName)) ∈ lw_all := lw_g (lw_at lw_m2 63 rfl) rfl
theorem q392 : (Jvm.Cond.privateMethod ({ cls := "QuestionRoad", name := "busiestNow", desc := "()I" } : Jvm.MethodName)) ∈ lw_tbl := lw_at lw_m2 64 rfl
theorem q393 : (Jvm.Cond.instanceMethod ({ cls := "QuestionRoad", name := "busiestNow", desc := "()I" } : Jvm.MethodName)) ∈ lw_all := lw_g (lw_at lw_m2 65 rfl) rfl
theorem q394 : (Jvm.Cond.code ({ cls := "QuestionRoad", name := "busiestNow", desc := "()I" } : Jvm.MethodName) prog_1_method_59_code (3 : Nat) (Option.some Jvm.ClassFile.FieldType.int)) ∈ lw_all := lw_g (lw_at lw_m2 66 rfl) rfl
theorem q396 : (Jvm.Cond.instanceMethod ({ cls := "QuestionRoad", name := "needs", desc := "(I)I" } : Jvm.MethodName)) ∈ lw_all := lw_g (lw_at lw_m2 68 rfl) rfl
theorem q397 : (Jvm.Cond.selects "QuestionRoad" ({ cls := "QuestionRoad", name := "needs", desc := "(I)I" } : Jvm.MethodName) ({ cls := "QuestionRoad", name := "needs", desc := "(I)I" } : Jvm.MethodName)) ∈ lw_all := lw_g (lw_at lw_m2 69 rfl) rfl
theorem q398 : (Jvm.Cond.code ({ cls := "QuestionRoad", name := "needs", desc := "(I)I" } : Jvm.MethodName) prog_1_method_63_code (2 : Nat) (Option.some Jvm.ClassFile.FieldType.int)) ∈ lw_all := lw_g (lw_at lw_m2 70 rfl) rfl
theorem q399 : (Jvm.Cond.methodLink "QuestionRoad" (306 : Nat) ({ cls := "QuestionRoad", name := "needsOf", desc := "(I)I" } : Jvm.MethodName)) ∈ lw_all := lw_g (lw_at lw_m2 71 rfl) rfl
theorem q400 : (Jvm.Cond.privateMethod ({ cls := "QuestionRoad", name := "needsOf", desc := "(I)I" } : Jvm.MethodName)) ∈ lw_tbl := lw_at lw_m2 72 rfl
theorem q401 : (Jvm.Cond.instanceMethod ({ cls := "QuestionRoad", name := "needsOf", desc := "(I)I" } : Jvm.MethodName)) ∈ lw_all := lw_g (lw_at lw_m2 73 rfl) rfl
theorem q402 : (Jvm.Cond.code ({ cls := "QuestionRoad", name := "needsOf", desc := "(I)I" } : Jvm.MethodName) prog_1_method_62_code (5 : Nat) (Option.some Jvm.ClassFile.FieldType.int)) ∈ lw_all := lw_g (lw_at lw_m2 74 rfl) rfl
theorem q404 : (Jvm.Cond.instanceMethod ({ cls := "QuestionRoad", name := "lend", desc := "(I)I" } : Jvm.MethodName)) ∈ lw_all := lw_g (lw_at lw_m2 76 rfl) rfl
theorem q405 : (Jvm.Cond.selects "QuestionRoad" ({ cls := "QuestionRoad", name := "lend", desc := "(I)I" } : Jvm.MethodName) ({ cls := "QuestionRoad", name := "lend", desc := "(I)I" } : Jvm.MethodName)) ∈ lw_all := lw_g (lw_at lw_m2 77 rfl) rfl
theorem q406 : (Jvm.Cond.code ({ cls := "QuestionRoad", name := "lend", desc := "(I)I" } : Jvm.MethodName) prog_1_method_66_code (2 : Nat) (Option.some Jvm.ClassFile.FieldType.int)) ∈ lw_all := lw_g (lw_at lw_m2 78 rfl) rfl
theorem q407 : (Jvm.Cond.methodLink "QuestionRoad" (319 : Nat) ({ cls := "QuestionRoad", name := "lendOf", desc := "(I)I" } : Jvm.MethodName)) ∈ lw_all := lw_g (lw_at lw_m2 79 rfl) rfl
theorem q408 : (Jvm.Cond.privateMethod ({ cls := "QuestionRoad", name := "lendOf", desc := "(I)I" } : Jvm.MethodName)) ∈ lw_tbl := lw_at lw_m2 80 rfl
theorem q409 : (Jvm.Cond.instanceMethod ({ cls := "QuestionRoad", name := "lendOf", desc := "(I)I" } : Jvm.MethodName)) ∈ lw_all := lw_g (lw_at lw_m2 81 rfl) rfl
theorem q410 : (Jvm.Cond.code ({ cls := "QuestionRoad", name := "lendOf", desc := "(I)I" } : Jvm.MethodName) prog_1_method_65_code (7 : Nat) (Option.some Jvm.ClassFile.FieldType.int)) ∈ lw_all := lw_g (lw_at lw_m2 82 rfl) rfl
theorem q411 : (Jvm.Cond.methodLink "QuestionRoad" (309 : Nat) ({ cls := "QuestionRoad", name := "changes", desc := "(LQuestionRoad$Carter;LQuestionRoad$Carter;)V" } : Jvm.MethodName)) ∈ lw_all := lw_g (lw_at lw_m2 83 rfl) rfl
theorem q412 : (Jvm.Cond.static ({ cls := "QuestionRoad", name := "changes", desc := "(LQuestionRoad$Carter;LQuestionRoad$Carter;)V" } : Jvm.MethodName)) ∈ lw_all := lw_g (lw_at lw_m2 84 rfl) rfl
theorem q413 : (Jvm.Cond.code ({ cls := "QuestionRoad", name := "changes", desc := "(LQuestionRoad$Carter;LQuestionRoad$Carter;)V" } : Jvm.MethodName) prog_1_method_64_code (4 : Nat) (Option.none : Option Jvm.ClassFile.FieldType)) ∈ lw_all := lw_g (lw_at lw_m2 85 rfl) rfl
theorem q414 : (Jvm.Cond.methodLink "QuestionRoad" (313 : Nat) ({ cls := "QuestionRoad", name := "comeNow", desc := "()I" } : Jvm.MethodName)) ∈ lw_all := lw_g (lw_at lw_m2 86 rfl) rfl
theorem q415 : (Jvm.Cond.privateMethod ({ cls := "QuestionRoad", name := "comeNow", desc := "()I" } : Jvm.MethodName)) ∈ lw_tbl := lw_at lw_m2 87 rfl
theorem q416 : (Jvm.Cond.instanceMethod ({ cls := "QuestionRoad", name := "comeNow", desc := "()I" } : Jvm.MethodName)) ∈ lw_all := lw_g (lw_at lw_m2 88 rfl) rfl
theorem q417 : (Jvm.Cond.code ({ cls := "QuestionRoad", name := "comeNow", desc := "()I" } : Jvm.MethodName) prog_1_method_61_code (1 : Nat) (Option.some Jvm.ClassFile.FieldType.int)) ∈ lw_all := lw_g (lw_at lw_m2 89 rfl) rfl
theorem q418 : (Jvm.Cond.methodLink "QuestionRoad" (303 : Nat) ({ cls := "QuestionRoad", name := "many", desc := "(I)I" } : Jvm.MethodName)) ∈ lw_all := lw_g (lw_at lw_m2 90 rfl) rfl
theorem q419 : (Jvm.Cond.static ({ cls := "QuestionRoad", name := "many", desc := "(I)I" } : Jvm.MethodName)) ∈ lw_all := lw_g (lw_at lw_m2 91 rfl) rfl
theorem q420 : (Jvm.Cond.code ({ cls := "QuestionRoad", name := "many", desc := "(I)I" } : Jvm.MethodName) prog_1_method_4_code (3 : Nat) (Option.some Jvm.ClassFile.FieldType.int)) ∈ lw_all := lw_g (lw_at lw_m2 92 rfl) rfl
theorem q421 : (Jvm.Cond.methodLink "QuestionRoad" (316 : Nat) ({ cls := "java/lang/Math", name := "max", desc := "(II)I" } : Jvm.MethodName)) ∈ lw_all := lw_g (lw_at lw_m2 93 rfl) rfl
theorem q425 : (Jvm.Cond.instanceMethod ({ cls := "QuestionRoad", name := "delay", desc := "(II)I" } : Jvm.MethodName)) ∈ lw_all := lw_g (lw_at lw_m2 97 rfl) rfl
theorem q426 : (Jvm.Cond.selects "QuestionRoad" ({ cls := "QuestionRoad", name := "delay", desc := "(II)I" } : Jvm.MethodName) ({ cls := "QuestionRoad", name := "delay", desc := "(II)I" } : Jvm.MethodName)) ∈ lw_all := lw_g (lw_at lw_m2 98 rfl) rfl
theorem q427 : (Jvm.Cond.code ({ cls := "QuestionRoad", name := "delay", desc := "(II)I" } : Jvm.MethodName) prog_1_method_68_code (3 : Nat) (Option.some Jvm.ClassFile.FieldType.int)) ∈ lw_all := lw_g (lw_at lw_m2 99 rfl) rfl
theorem q428 : (Jvm.Cond.methodLink "QuestionRoad" (322 : Nat) ({ cls := "QuestionRoad", name := "delayOf", desc := "(II)I" } : Jvm.MethodName)) ∈ lw_all := lw_g (lw_at lw_m2 100 rfl) rfl
theorem q429 : (Jvm.Cond.privateMethod ({ cls := "QuestionRoad", name := "delayOf", desc := "(II)I" } : Jvm.MethodName)) ∈ lw_tbl := lw_at lw_m2 101 rfl
theorem q430 : (Jvm.Cond.instanceMethod ({ cls := "QuestionRoad", name := "delayOf", desc := "(II)I" } : Jvm.MethodName)) ∈ lw_all := lw_g (lw_at lw_m2 102 rfl) rfl
theorem q431 : (Jvm.Cond.code ({ cls := "QuestionRoad", name := "delayOf", desc := "(II)I" } : Jvm.MethodName) prog_1_method_67_code (8 : Nat) (Option.some Jvm.ClassFile.FieldType.int)) ∈ lw_all := lw_g (lw_at lw_m2 103 rfl) rfl
theorem q433 : (Jvm.Cond.instanceMethod ({ cls := "QuestionRoad", name := "level", desc := "(I)I" } : Jvm.MethodName)) ∈ lw_all := lw_g (lw_at lw_m2 105 rfl) rfl
theorem q434 : (Jvm.Cond.selects "QuestionRoad" ({ cls := "QuestionRoad", name := "level", desc := "(I)I" } : Jvm.MethodName) ({ cls := "QuestionRoad", name := "level", desc := "(I)I" } : Jvm.MethodName)) ∈ lw_all := lw_g (lw_at lw_m2 106 rfl) rfl
theorem q435 : (Jvm.Cond.code ({ cls := "QuestionRoad", name := "level", desc := "(I)I" } : Jvm.MethodName) prog_1_method_70_code (2 : Nat) (Option.some Jvm.ClassFile.FieldType.int)) ∈ lw_all := lw_g (lw_at lw_m2 107 rfl) rfl
theorem q436 : (Jvm.Cond.methodLink "QuestionRoad" (325 : Nat) ({ cls := "QuestionRoad", name := "levelOf", desc := "(I)I" } : Jvm.MethodName)) ∈ lw_all := lw_g (lw_at lw_m2 108 rfl) rfl
theorem q437 : (Jvm.Cond.privateMethod ({ cls := "QuestionRoad", name := "levelOf", desc := "(I)I" } : Jvm.MethodName)) ∈ lw_tbl := lw_at lw_m2 109 rfl
theorem q438 : (Jvm.Cond.instanceMethod ({ cls := "QuestionRoad", name := "levelOf", desc := "(I)I" } : Jvm.MethodName)) ∈ lw_all := lw_g (lw_at lw_m2 110 rfl) rfl
theorem q439 : (Jvm.Cond.code ({ cls := "QuestionRoad", name := "levelOf", desc := "(I)I" } : Jvm.MethodName) prog_1_method_69_code (6 : Nat) (Option.some Jvm.ClassFile.FieldType.int)) ∈ lw_all := lw_g (lw_at lw_m2 111 rfl) rfl
theorem q441 : (Jvm.Cond.instanceMethod ({ cls := "QuestionRoad", name := "seen", desc := "(III)I" } : Jvm.MethodName)) ∈ lw_all := lw_g (lw_at lw_m2 113 rfl) rfl
theorem q442 : (Jvm.Cond.selects "QuestionRoad" ({ cls := "QuestionRoad", name := "seen", desc := "(III)I" } : Jvm.MethodName) ({ cls := "QuestionRoad", name := "seen", desc := "(III)I" } : Jvm.MethodName)) ∈ lw_all := lw_g (lw_at lw_m2 114 rfl) rfl
theorem q443 : (Jvm.Cond.code ({ cls := "QuestionRoad", name := "seen", desc := "(III)I" } : Jvm.MethodName) prog_1_method_71_code (4 : Nat) (Option.some Jvm.ClassFile.FieldType.int)) ∈ lw_all := lw_g (lw_at lw_m2 115 rfl) rfl
theorem q445 : (Jvm.Cond.instanceMethod ({ cls := "QuestionRoad", name := "forget", desc := "()I" } : Jvm.MethodName)) ∈ lw_all := lw_g (lw_at lw_m2 117 rfl) rfl
theorem q446 : (Jvm.Cond.selects "QuestionRoad" ({ cls := "QuestionRoad", name := "forget", desc := "()I" } : Jvm.MethodName) ({ cls := "QuestionRoad", name := "forget", desc := "()I" } : Jvm.MethodName)) ∈ lw_all := lw_g (lw_at lw_m2 118 rfl) rfl
theorem q447 : (Jvm.Cond.code ({ cls := "QuestionRoad", name := "forget", desc := "()I" } : Jvm.MethodName) prog_1_method_72_code (2 : Nat) (Option.some Jvm.ClassFile.FieldType.int)) ∈ lw_all := lw_g (lw_at lw_m2 119 rfl) rfl
theorem q449 : (Jvm.Cond.instanceMethod ({ cls := "QuestionRoad", name := "never", desc := "()I" } : Jvm.MethodName)) ∈ lw_all := lw_g (lw_at lw_m2 121 rfl) rfl
theorem q450 : (Jvm.Cond.selects "QuestionRoad" ({ cls := "QuestionRoad", name := "never", desc := "()I" } : Jvm.MethodName) ({ cls := "QuestionRoad", name := "never", desc := "()I" } : Jvm.MethodName)) ∈ lw_all := lw_g (lw_at lw_m2 122 rfl) rfl
theorem q451 : (Jvm.Cond.code ({ cls := "QuestionRoad", name := "never", desc := "()I" } : Jvm.MethodName) prog_1_method_75_code (1 : Nat) (Option.some Jvm.ClassFile.FieldType.int)) ∈ lw_all := lw_g (lw_at lw_m2 123 rfl) rfl
theorem q452 : (Jvm.Cond.methodLink "QuestionRoad" (344 : Nat) ({ cls := "QuestionRoad", name := "neverNow", desc := "()I" } : Jvm.MethodName)) ∈ lw_all := lw_g (lw_at lw_m2 124 rfl) rfl
theorem q453 : (Jvm.Cond.privateMethod ({ cls := "QuestionRoad", name := "neverNow", desc := "()I" } : Jvm.MethodName)) ∈ lw_tbl := lw_at lw_m2 125 rfl
theorem q454 : (Jvm.Cond.instanceMethod ({ cls := "QuestionRoad", name := "neverNow", desc := "()I" } : Jvm.MethodName)) ∈ lw_all := lw_g (lw_at lw_m2 126 rfl) rfl
theorem q455 : (Jvm.Cond.code ({ cls := "QuestionRoad", name := "neverNow", desc := "()I" } : Jvm.MethodName) prog_1_method_74_code (3 : Nat) (Option.some Jvm.ClassFile.FieldType.int)) ∈ lw_all := lw_g (lw_at lw_m2 127 rfl) rfl
theorem q456 : (Jvm.Cond.methodLink "QuestionRoad" (340 : Nat) ({ cls := "QuestionRoad", name := "fits", desc := "()Z" } : Jvm.MethodName)) ∈ lw_all := lw_g (lw_at lw_m2 128 rfl) rfl
theorem q457 : (Jvm.Cond.privateMethod ({ cls := "QuestionRoad", name := "fits", desc := "()Z" } : Jvm.MethodName)) ∈ lw_tbl := lw_at lw_m2 129 rfl
theorem q458 : (Jvm.Cond.instanceMethod ({ cls := "QuestionRoad", name := "fits", desc := "()Z" } : Jvm.MethodName)) ∈ lw_all := lw_g (lw_at lw_m2 130 rfl) rfl
theorem q459 : (Jvm.Cond.code ({ cls := "QuestionRoad", name := "fits", desc := "()Z" } : Jvm.MethodName) prog_1_method_73_code (4 : Nat) (Option.some Jvm.ClassFile.FieldType.boolean)) ∈ lw_all := lw_g (lw_at lw_m2 131 rfl) rfl
theorem q461 : (Jvm.Cond.instanceMethod ({ cls := "QuestionRoad", name := "sort", desc := "(I)I" } : Jvm.MethodName)) ∈ lw_all := lw_g (lw_at lw_m2 133 rfl) rfl
theorem q462 : (Jvm.Cond.selects "QuestionRoad" ({ cls := "QuestionRoad", name := "sort", desc := "(I)I" } : Jvm.MethodName) ({ cls := "QuestionRoad", name := "sort", desc := "(I)I" } : Jvm.MethodName)) ∈ lw_all := lw_g (lw_at lw_m2 134 rfl) rfl
theorem q463 : (Jvm.Cond.code ({ cls := "QuestionRoad", name := "sort", desc := "(I)I" } : Jvm.MethodName) prog_1_method_77_code (2 : Nat) (Option.some Jvm.ClassFile.FieldType.int)) ∈ lw_all := lw_g (lw_at lw_m2 135 rfl) rfl
theorem q464 : (Jvm.Cond.methodLink "QuestionRoad" (350 : Nat) ({ cls := "QuestionRoad", name := "sortOf", desc := "(I)I" } : Jvm.MethodName)) ∈ lw_all := lw_g (lw_at lw_m2 136 rfl) rfl
theorem q465 : (Jvm.Cond.privateMethod ({ cls := "QuestionRoad", name := "sortOf", desc := "(I)I" } : Jvm.MethodName)) ∈ lw_tbl := lw_at lw_m2 137 rfl
theorem q466 : (Jvm.Cond.instanceMethod ({ cls := "QuestionRoad", name := "sortOf", desc := "(I)I" } : Jvm.MethodName)) ∈ lw_all := lw_g (lw_at lw_m2 138 rfl) rfl
theorem q467 : (Jvm.Cond.code ({ cls := "QuestionRoad", name := "sortOf", desc := "(I)I" } : Jvm.MethodName) prog_1_method_76_code (6 : Nat) (Option.some Jvm.ClassFile.FieldType.int)) ∈ lw_all := lw_g (lw_at lw_m2 139 rfl) rfl
theorem q469 : (Jvm.Cond.instanceMethod ({ cls := "QuestionRoad", name := "force", desc := "(II)I" } : Jvm.MethodName)) ∈ lw_all := lw_g (lw_at lw_m2 141 rfl) rfl
theorem q470 : (Jvm.Cond.selects "QuestionRoad" ({ cls := "QuestionRoad", name := "force", desc := "(II)I" } : Jvm.MethodName) ({ cls := "QuestionRoad", name := "force", desc := "(II)I" } : Jvm.MethodName)) ∈ lw_all := lw_g (lw_at lw_m2 142 rfl) rfl
theorem q471 : (Jvm.Cond.code ({ cls := "QuestionRoad", name := "force", desc := "(II)I" } : Jvm.MethodName) prog_1_method_79_code (3 : Nat) (Option.some Jvm.ClassFile.FieldType.int)) ∈ lw_all := lw_g (lw_at lw_m2 143 rfl) rfl
theorem q472 : (Jvm.Cond.methodLink "QuestionRoad" (353 : Nat) ({ cls := "QuestionRoad", name := "forceOf", desc := "(II)I" } : Jvm.MethodName)) ∈ lw_all := lw_g (lw_at lw_m2 144 rfl) rfl
theorem q473 : (Jvm.Cond.privateMethod ({ cls := "QuestionRoad", name := "forceOf", desc := "(II)I" } : Jvm.MethodName)) ∈ lw_tbl := lw_at lw_m2 145 rfl
theorem q474 : (Jvm.Cond.instanceMethod ({ cls := "QuestionRoad", name := "forceOf", desc := "(II)I" } : Jvm.MethodName)) ∈ lw_all := lw_g (lw_at lw_m2 146 rfl) rfl
theorem q475 : (Jvm.Cond.code ({ cls := "QuestionRoad", name := "forceOf", desc := "(II)I" } : Jvm.MethodName) prog_1_method_78_code (9 : Nat) (Option.some Jvm.ClassFile.FieldType.int)) ∈ lw_all := lw_g (lw_at lw_m2 147 rfl) rfl
theorem q477 : (Jvm.Cond.instanceMethod ({ cls := "QuestionRoad", name := "ask", desc := "(I)I" } : Jvm.MethodName)) ∈ lw_all := lw_g (lw_at lw_m2 149 rfl) rfl
theorem q478 : (Jvm.Cond.selects "QuestionRoad" ({ cls := "QuestionRoad", name := "ask", desc := "(I)I" } : Jvm.MethodName) ({ cls := "QuestionRoad", name := "ask", desc := "(I)I" } : Jvm.MethodName)) ∈ lw_all := lw_g (lw_at lw_m2 150 rfl) rfl
theorem q479 : (Jvm.Cond.code ({ cls := "QuestionRoad", name := "ask", desc := "(I)I" } : Jvm.MethodName) prog_1_method_82_code (2 : Nat) (Option.some Jvm.ClassFile.FieldType.int)) ∈ lw_all := lw_g (lw_at lw_m2 151 rfl) rfl
theorem q480 : (Jvm.Cond.methodLink "QuestionRoad" (359 : Nat) ({ cls := "QuestionRoad", name := "askOf", desc := "(I)I" } : Jvm.MethodName)) ∈ lw_all := lw_g (lw_at lw_m2 152 rfl) rfl
theorem q481 : (Jvm.Cond.privateMethod ({ cls := "QuestionRoad", name := "askOf", desc := "(I)I" } : Jvm.MethodName)) ∈ lw_tbl := lw_at lw_m2 153 rfl
theorem q482 : (Jvm.Cond.instanceMethod ({ cls := "QuestionRoad", name := "askOf", desc := "(I)I" } : Jvm.MethodName)) ∈ lw_all := lw_g (lw_at lw_m2 154 rfl) rfl
theorem q483 : (Jvm.Cond.code ({ cls := "QuestionRoad", name := "askOf", desc := "(I)I" } : Jvm.MethodName) prog_1_method_81_code (5 : Nat) (Option.some Jvm.ClassFile.FieldType.int)) ∈ lw_all := lw_g (lw_at lw_m2 155 rfl) rfl
theorem q484 : (Jvm.Cond.methodLink "QuestionRoad" (356 : Nat) ({ cls := "QuestionRoad", name := "mostAlike", desc := "(II)I" } : Jvm.MethodName)) ∈ lw_all := lw_g (lw_at lw_m2 156 rfl) rfl
theorem q485 : (Jvm.Cond.privateMethod ({ cls := "QuestionRoad", name := "mostAlike", desc := "(II)I" } : Jvm.MethodName)) ∈ lw_tbl := lw_at lw_m2 157 rfl
theorem q486 : (Jvm.Cond.instanceMethod ({ cls := "QuestionRoad", name := "mostAlike", desc := "(II)I" } : Jvm.MethodName)) ∈ lw_all := lw_g (lw_at lw_m2 158 rfl) rfl
theorem q487 : (Jvm.Cond.code ({ cls := "QuestionRoad", name := "mostAlike", desc := "(II)I" } : Jvm.MethodName) prog_1_method_80_code (7 : Nat) (Option.some Jvm.ClassFile.FieldType.int)) ∈ lw_all := lw_g (lw_at lw_m2 159 rfl) rfl
theorem q489 : (Jvm.Cond.instanceMethod ({ cls := "QuestionRoad", name := "rumour", desc := "(III)J" } : Jvm.MethodName)) ∈ lw_all := lw_g (lw_at lw_m2 161 rfl) rfl
theorem q490 : (Jvm.Cond.selects "QuestionRoad" ({ cls := "QuestionRoad", name := "rumour", desc := "(III)J" } : Jvm.MethodName) ({ cls := "QuestionRoad", name := "rumour", desc := "(III)J" } : Jvm.MethodName)) ∈ lw_all := lw_g (lw_at lw_m2 162 rfl) rfl
theorem q491 : (Jvm.Cond.code ({ cls := "QuestionRoad", name := "rumour", desc := "(III)J" } : Jvm.MethodName) prog_1_method_84_code (4 : Nat) (Option.some Jvm.ClassFile.FieldType.long)) ∈ lw_all := lw_g (lw_at lw_m2 163 rfl) rfl
theorem q492 : (Jvm.Cond.methodLink "QuestionRoad" (366 : Nat) ({ cls := "QuestionRoad", name := "rumourOf", desc := "(III)J" } : Jvm.MethodName)) ∈ lw_all := lw_g (lw_at lw_m2 164 rfl) rfl
theorem q493 : (Jvm.Cond.privateMethod ({ cls := "QuestionRoad", name := "rumourOf", desc := "(III)J" } : Jvm.MethodName)) ∈ lw_tbl := lw_at lw_m2 165 rfl
theorem q494 : (Jvm.Cond.instanceMethod ({ cls := "QuestionRoad", name := "rumourOf", desc := "(III)J" } : Jvm.MethodName)) ∈ lw_all := lw_g (lw_at lw_m2 166 rfl) rfl
theorem q495 : (Jvm.Cond.code ({ cls := "QuestionRoad", name := "rumourOf", desc := "(III)J" } : Jvm.MethodName) prog_1_method_83_code (10 : Nat) (Option.some Jvm.ClassFile.FieldType.long)) ∈ lw_all := lw_g (lw_at lw_m2 167 rfl) rfl
theorem q496 : (Jvm.Cond.methodLink "QuestionRoad" (362 : Nat) ({ cls := "QuestionRoad", name := "lowest", desc := "(JJI)J" } : Jvm.MethodName)) ∈ lw_all := lw_g (lw_at lw_m2 168 rfl) rfl
theorem q497 : (Jvm.Cond.static ({ cls := "QuestionRoad", name := "lowest", desc := "(JJI)J" } : Jvm.MethodName)) ∈ lw_all := lw_g (lw_at lw_m2 169 rfl) rfl
theorem q498 : (Jvm.Cond.code ({ cls := "QuestionRoad", name := "lowest", desc := "(JJI)J" } : Jvm.MethodName) prog_1_method_5_code (11 : Nat) (Option.some Jvm.ClassFile.FieldType.long)) ∈ lw_all := lw_g (lw_at lw_m2 170 rfl) rfl
theorem q499 : (Jvm.Cond.methodLink "QuestionRoad" (370 : Nat) ({ cls := "QuestionRoad", name := "no", desc := "(I)J" } : Jvm.MethodName)) ∈ lw_all := lw_g (lw_at lw_m2 171 rfl) rfl
theorem q500 : (Jvm.Cond.static ({ cls := "QuestionRoad", name := "no", desc := "(I)J" } : Jvm.MethodName)) ∈ lw_all := lw_g (lw_at lw_m2 172 rfl) rfl
theorem q501 : (Jvm.Cond.code ({ cls := "QuestionRoad", name := "no", desc := "(I)J" } : Jvm.MethodName) prog_1_method_2_code (1 : Nat) (Option.some Jvm.ClassFile.FieldType.long)) ∈ lw_all := lw_g (lw_at lw_m2 173 rfl) rfl
theorem q502 : (Jvm.Cond.constantLong "QuestionRoad" (3 : Nat) (-9223372036854775808 : Int64)) ∈ lw_all := lw_g (lw_at lw_m2 174 rfl) rfl
theorem q504 : (Jvm.Cond.instanceMethod ({ cls := "QuestionRoad", name := "market", desc := "(II)I" } : Jvm.MethodName)) ∈ lw_all := lw_g (lw_at lw_m2 176 rfl) rfl
theorem q505 : (Jvm.Cond.selects "QuestionRoad" ({ cls := "QuestionRoad", name := "market", desc := "(II)I" } : Jvm.MethodName) ({ cls := "QuestionRoad", name := "market", desc := "(II)I" } : Jvm.MethodName)) ∈ lw_all := lw_g (lw_at lw_m2 177 rfl) rfl
theorem q506 : (Jvm.Cond.code ({ cls := "QuestionRoad", name := "market", desc := "(II)I" } : Jvm.MethodName) prog_1_method_86_code (3 : Nat) (Option.some Jvm.ClassFile.FieldType.int)) ∈ lw_all := lw_g (lw_at lw_m2 178 rfl) rfl
theorem q507 : (Jvm.Cond.methodLink "QuestionRoad" (378 : Nat) ({ cls := "QuestionRoad", name := "marketOf", desc := "(II)I" } : Jvm.MethodName)) ∈ lw_all := lw_g (lw_at lw_m2 179 rfl) rfl
theorem q508 : (Jvm.Cond.privateMethod ({ cls := "QuestionRoad", name := "marketOf", desc := "(II)I" } : Jvm.MethodName)) ∈ lw_tbl := lw_at lw_m2 180 rfl
theorem q509 : (Jvm.Cond.instanceMethod ({ cls := "QuestionRoad", name := "marketOf", desc := "(II)I" } : Jvm.MethodName)) ∈ lw_all := lw_g (lw_at lw_m2 181 rfl) rfl
theorem q510 : (Jvm.Cond.code ({ cls := "QuestionRoad", name := "marketOf", desc := "(II)I" } : Jvm.MethodName) prog_1_method_85_code (5 : Nat) (Option.some Jvm.ClassFile.FieldType.int)) ∈ lw_all := lw_g (lw_at lw_m2 182 rfl) rfl
theorem q511 : (Jvm.Cond.constant "QuestionRoad" (377 : Nat) (1103515245 : Int32)) ∈ lw_all := lw_g (lw_at lw_m2 183 rfl) rfl
theorem q514 : (Jvm.Cond.instanceMethod ({ cls := "QuestionRoad", name := "<init>", desc := "()V" } : Jvm.MethodName)) ∈ lw_all := lw_g (lw_at lw_m2 186 rfl) rfl
theorem q515 : (Jvm.Cond.code ({ cls := "QuestionRoad", name := "<init>", desc := "()V" } : Jvm.MethodName) prog_1_method_87_code (2 : Nat) (Option.none : Option Jvm.ClassFile.FieldType)) ∈ lw_all := lw_g (lw_at lw_m2 187 rfl) rfl
theorem q516 : (Jvm.Cond.methodLink "QuestionRoad" (381 : Nat) ({ cls := "java/lang/Object", name := "<init>", desc := "()V" } : Jvm.MethodName)) ∈ lw_all := lw_g (lw_at lw_m2 188 rfl) rfl
theorem q520 : (Jvm.Cond.classLink "QuestionRoad" (67 : Nat) "QuestionRoad$Carter") ∈ lw_all := lw_g (lw_at lw_m2 192 rfl) rfl
theorem q522 : (Jvm.Cond.classLink "QuestionRoad" (121 : Nat) "QuestionRoad$Question") ∈ lw_all := lw_g (lw_at lw_m2 194 rfl) rfl
theorem q524 : (Jvm.Cond.classLink "QuestionRoad" (387 : Nat) "QuestionRoad$Open") ∈ lw_all := lw_g (lw_at lw_m2 196 rfl) rfl
theorem q526 : (Jvm.Cond.methodLinkNest "QuestionRoad" (389 : Nat) ({ cls := "QuestionRoad$Open", name := "<init>", desc := "()V" } : Jvm.MethodName) "QuestionRoad") ∈ lw_tbl := lw_at lw_m2 198 rfl
theorem q534 : (Jvm.Cond.classLink "QuestionRoad" (390 : Nat) "QuestionRoad$Common") ∈ lw_all := lw_g (lw_at lw_m2 206 rfl) rfl
theorem q536 : (Jvm.Cond.methodLinkNest "QuestionRoad" (392 : Nat) ({ cls := "QuestionRoad$Common", name := "<init>", desc := "()V" } : Jvm.MethodName) "QuestionRoad") ∈ lw_tbl := lw_at lw_m2 208 rfl
theorem q541 : (Jvm.Cond.methodLinkNest "QuestionRoad" (393 : Nat) ({ cls := "QuestionRoad$Question", name := "<init>", desc := "()V" } : Jvm.MethodName) "QuestionRoad") ∈ lw_tbl := lw_at lw_m2 213 rfl
theorem q543 : (Jvm.Cond.classLink "QuestionRoad" (394 : Nat) "[[I") ∈ lw_all := lw_g (lw_at lw_m2 215 rfl) rfl
theorem q544 : (Jvm.Cond.classLink "QuestionRoad" (161 : Nat) "QuestionRoad$Sheet") ∈ lw_all := lw_g (lw_at lw_m2 216 rfl) rfl
theorem q547 : (Jvm.Cond.methodLinkNest "QuestionRoad" (395 : Nat) ({ cls := "QuestionRoad$Sheet", name := "<init>", desc := "()V" } : Jvm.MethodName) "QuestionRoad") ∈ lw_tbl := lw_at lw_m2 219 rfl
theorem q552 : (Jvm.Cond.fieldLinkNest "QuestionRoad" (406 : Nat) "QuestionRoad$Sheet" "form" "I" "QuestionRoad") ∈ lw_tbl := lw_at lw_m2 224 rfl
theorem q554 : (Jvm.Cond.fieldLinkNest "QuestionRoad" (160 : Nat) "QuestionRoad$Sheet" "row" "Ljava/lang/Object;" "QuestionRoad") ∈ lw_tbl := lw_at lw_m2 226 rfl
theorem q561 : (Jvm.Cond.methodLinkNest "QuestionRoad" (396 : Nat) ({ cls := "QuestionRoad$Carter", name := "<init>", desc := "()V" } : Jvm.MethodName) "QuestionRoad") ∈ lw_tbl := lw_at lw_m2 233 rfl
theorem q566 : (Jvm.Cond.fieldLink "QuestionRoad" (66 : Nat) "QuestionRoad$Carter" "from" "I") ∈ lw_all := lw_g (lw_at lw_m2 238 rfl) rfl
theorem q567 : (Jvm.Cond.fieldLink "QuestionRoad" (72 : Nat) "QuestionRoad$Carter" "goal" "I") ∈ lw_all := lw_g (lw_at lw_m2 239 rfl) rfl
theorem q568 : (Jvm.Cond.fieldLink "QuestionRoad" (79 : Nat) "QuestionRoad$Carter" "question" "LQuestionRoad$Question;") ∈ lw_all := lw_g (lw_at lw_m3 0 rfl) rfl
theorem q570 : (Jvm.Cond.fieldLink "QuestionRoad" (83 : Nat) "QuestionRoad$Carter" "strength" "I") ∈ lw_all := lw_g (lw_at lw_m3 2 rfl) rfl
theorem q572 : (Jvm.Cond.fieldLink "QuestionRoad" (86 : Nat) "QuestionRoad$Carter" "load" "I") ∈ lw_all := lw_g (lw_at lw_m3 4 rfl) rfl
theorem q574 : (Jvm.Cond.fieldLink "QuestionRoad" (135 : Nat) "QuestionRoad$Carter" "late" "I") ∈ lw_all := lw_g (lw_at lw_m3 6 rfl) rfl
theorem q576 : (Jvm.Cond.fieldLink "QuestionRoad" (221 : Nat) "QuestionRoad$Carter" "is" "I") ∈ lw_all := lw_g (lw_at lw_m3 8 rfl) rfl
theorem q578 : (Jvm.Cond.fieldLink "QuestionRoad" (237 : Nat) "QuestionRoad$Carter" "place" "I") ∈ lw_all := lw_g (lw_at lw_m3 10 rfl) rfl
theorem q580 : (Jvm.Cond.fieldLink "QuestionRoad" (254 : Nat) "QuestionRoad$Carter" "left" "I") ∈ lw_all := lw_g (lw_at lw_m3 12 rfl) rfl
theorem q582 : (Jvm.Cond.fieldLink "QuestionRoad" (234 : Nat) "QuestionRoad$Carter" "whither" "I") ∈ lw_all := lw_g (lw_at lw_m3 14 rfl) rfl
theorem q584 : (Jvm.Cond.fieldLink "QuestionRoad" (224 : Nat) "QuestionRoad$Carter" "arrives" "I") ∈ lw_all := lw_g (lw_at lw_m3 16 rfl) rfl
theorem q586 : (Jvm.Cond.fieldLink "QuestionRoad" (282 : Nat) "QuestionRoad$Carter" "ended" "I") ∈ lw_all := lw_g (lw_at lw_m3 18 rfl) rfl
theorem q612 : (Jvm.Cond.fieldLink "QuestionRoad" (17 : Nat) "QuestionRoad" "texts" "[[I") ∈ lw_all := lw_g (lw_at lw_m3 44 rfl) rfl
theorem q613 : (Jvm.Cond.fieldLink "QuestionRoad" (13 : Nat) "QuestionRoad" "typed" "[I") ∈ lw_all := lw_g (lw_at lw_m3 45 rfl) rfl
theorem q614 : (Jvm.Cond.fieldLink "QuestionRoad" (21 : Nat) "QuestionRoad" "isRead" "Z") ∈ lw_all := lw_g (lw_at lw_m3 46 rfl) rfl
theorem q615 : (Jvm.Cond.fieldLink "QuestionRoad" (101 : Nat) "QuestionRoad" "faults" "[I") ∈ lw_all := lw_g (lw_at lw_m3 47 rfl) rfl
theorem q616 : (Jvm.Cond.fieldLink "QuestionRoad" (95 : Nat) "QuestionRoad" "ways" "I") ∈ lw_all := lw_g (lw_at lw_m3 48 rfl) rfl
theorem q617 : (Jvm.Cond.fieldLink "QuestionRoad" (43 : Nat) "QuestionRoad" "wayFrom" "[I") ∈ lw_all := lw_g (lw_at lw_m3 49 rfl) rfl
theorem q618 : (Jvm.Cond.fieldLink "QuestionRoad" (46 : Nat) "QuestionRoad" "wayTo" "[I") ∈ lw_all := lw_g (lw_at lw_m3 50 rfl) rfl
theorem q619 : (Jvm.Cond.fieldLink "QuestionRoad" (49 : Nat) "QuestionRoad" "wayLong" "[I") ∈ lw_all := lw_g (lw_at lw_m3 51 rfl) rfl
theorem q620 : (Jvm.Cond.fieldLink "QuestionRoad" (52 : Nat) "QuestionRoad" "waySlope" "[I") ∈ lw_all := lw_g (lw_at lw_m3 52 rfl) rfl
theorem q621 : (Jvm.Cond.fieldLink "QuestionRoad" (98 : Nat) "QuestionRoad" "carters" "I") ∈ lw_all := lw_g (lw_at lw_m3 53 rfl) rfl
theorem q622 : (Jvm.Cond.fieldLink "QuestionRoad" (62 : Nat) "QuestionRoad" "all" "[LQuestionRoad$Carter;") ∈ lw_all := lw_g (lw_at lw_m3 54 rfl) rfl
theorem q623 : (Jvm.Cond.fieldLink "QuestionRoad" (75 : Nat) "QuestionRoad" "kinds" "[LQuestionRoad$Question;") ∈ lw_all := lw_g (lw_at lw_m3 55 rfl) rfl
theorem q624 : (Jvm.Cond.fieldLink "QuestionRoad" (141 : Nat) "QuestionRoad" "answers" "I") ∈ lw_all := lw_g (lw_at lw_m3 56 rfl) rfl
theorem q625 : (Jvm.Cond.fieldLink "QuestionRoad" (144 : Nat) "QuestionRoad" "answerHour" "[I") ∈ lw_all := lw_g (lw_at lw_m3 57 rfl) rfl
theorem q626 : (Jvm.Cond.fieldLink "QuestionRoad" (147 : Nat) "QuestionRoad" "answerPlace" "[I") ∈ lw_all := lw_g (lw_at lw_m3 58 rfl) rfl
theorem q627 : (Jvm.Cond.fieldLink "QuestionRoad" (175 : Nat) "QuestionRoad" "beside" "[[I") ∈ lw_all := lw_g (lw_at lw_m3 59 rfl) rfl
theorem q628 : (Jvm.Cond.fieldLink "QuestionRoad" (187 : Nat) "QuestionRoad" "farNow" "[[I") ∈ lw_all := lw_g (lw_at lw_m3 60 rfl) rfl
theorem q629 : (Jvm.Cond.fieldLink "QuestionRoad" (203 : Nat) "QuestionRoad" "notAnswers" "I") ∈ lw_all := lw_g (lw_at lw_m3 61 rfl) rfl
theorem q630 : (Jvm.Cond.fieldLink "QuestionRoad" (227 : Nat) "QuestionRoad" "present" "[I") ∈ lw_all := lw_g (lw_at lw_m3 62 rfl) rfl
theorem q631 : (Jvm.Cond.fieldLink "QuestionRoad" (212 : Nat) "QuestionRoad" "arrivals" "[I") ∈ lw_all := lw_g (lw_at lw_m3 63 rfl) rfl
theorem q632 : (Jvm.Cond.fieldLink "QuestionRoad" (215 : Nat) "QuestionRoad" "metHour" "I") ∈ lw_all := lw_g (lw_at lw_m3 64 rfl) rfl
theorem q633 : (Jvm.Cond.fieldLink "QuestionRoad" (218 : Nat) "QuestionRoad" "metPlace" "I") ∈ lw_all := lw_g (lw_at lw_m3 65 rfl) rfl
theorem q634 : (Jvm.Cond.fieldLink "QuestionRoad" (267 : Nat) "QuestionRoad" "placeAt" "[[I") ∈ lw_all := lw_g (lw_at lw_m3 66 rfl) rfl
theorem q635 : (Jvm.Cond.fieldLink "QuestionRoad" (328 : Nat) "QuestionRoad" "sights" "I") ∈ lw_all := lw_g (lw_at lw_m3 67 rfl) rfl
theorem q636 : (Jvm.Cond.fieldLink "QuestionRoad" (331 : Nat) "QuestionRoad" "seenHour" "[I") ∈ lw_all := lw_g (lw_at lw_m3 68 rfl) rfl
theorem q637 : (Jvm.Cond.fieldLink "QuestionRoad" (334 : Nat) "QuestionRoad" "seenWho" "[I") ∈ lw_all := lw_g (lw_at lw_m3 69 rfl) rfl
theorem q638 : (Jvm.Cond.fieldLink "QuestionRoad" (337 : Nat) "QuestionRoad" "seenPlace" "[I") ∈ lw_all := lw_g (lw_at lw_m3 70 rfl) rfl
theorem q639 : (Jvm.Cond.fieldLink "QuestionRoad" (347 : Nat) "QuestionRoad" "placeBy" "[[I") ∈ lw_all := lw_g (lw_at lw_m3 71 rfl) rfl
theorem q640 : (Jvm.Cond.fieldLink "QuestionRoad" (374 : Nat) "QuestionRoad" "ownStrengths" "[I") ∈ lw_all := lw_g (lw_at lw_m3 72 rfl) rfl
theorem q641 : (Jvm.Cond.fieldLink "QuestionRoad" (156 : Nat) "QuestionRoad" "sheets" "[LQuestionRoad$Sheet;") ∈ lw_all := lw_g (lw_at lw_m3 73 rfl) rfl
theorem q642 : (Jvm.Cond.fieldLink "QuestionRoad" (397 : Nat) "QuestionRoad" "finding" "I") ∈ lw_all := lw_g (lw_at lw_m3 74 rfl) rfl
theorem q643 : (Jvm.Cond.laysFinal "QuestionRoad" "QuestionRoad" "texts" "[[I") ∈ lw_all := lw_g (lw_at lw_m3 75 rfl) rfl
theorem q644 : (Jvm.Cond.soleField "QuestionRoad" "texts") ∈ lw_all := lw_g (lw_at lw_m3 76 rfl) rfl
theorem q645 : (Jvm.Cond.laysFinal "QuestionRoad" "QuestionRoad" "typed" "[I") ∈ lw_all := lw_g (lw_at lw_m3 77 rfl) rfl
theorem q646 : (Jvm.Cond.soleField "QuestionRoad" "typed") ∈ lw_all := lw_g (lw_at lw_m3 78 rfl) rfl
theorem q647 : (Jvm.Cond.lays "QuestionRoad" "QuestionRoad" "isRead" "Z") ∈ lw_all := lw_g (lw_at lw_m3 79 rfl) rfl
theorem q648 : (Jvm.Cond.soleField "QuestionRoad" "isRead") ∈ lw_all := lw_g (lw_at lw_m3 80 rfl) rfl
theorem q649 : (Jvm.Cond.laysFinal "QuestionRoad" "QuestionRoad" "faults" "[I") ∈ lw_all := lw_g (lw_at lw_m3 81 rfl) rfl
theorem q650 : (Jvm.Cond.soleField "QuestionRoad" "faults") ∈ lw_all := lw_g (lw_at lw_m3 82 rfl) rfl
theorem q651 : (Jvm.Cond.lays "QuestionRoad" "QuestionRoad" "ways" "I") ∈ lw_all := lw_g (lw_at lw_m3 83 rfl) rfl
theorem q652 : (Jvm.Cond.soleField "QuestionRoad" "ways") ∈ lw_all := lw_g (lw_at lw_m3 84 rfl) rfl
theorem q653 : (Jvm.Cond.laysFinal "QuestionRoad" "QuestionRoad" "wayFrom" "[I") ∈ lw_all := lw_g (lw_at lw_m3 85 rfl) rfl
theorem q654 : (Jvm.Cond.soleField "QuestionRoad" "wayFrom") ∈ lw_all := lw_g (lw_at lw_m3 86 rfl) rfl
theorem q655 : (Jvm.Cond.laysFinal "QuestionRoad" "QuestionRoad" "wayTo" "[I") ∈ lw_all := lw_g (lw_at lw_m3 87 rfl) rfl
theorem q656 : (Jvm.Cond.soleField "QuestionRoad" "wayTo") ∈ lw_all := lw_g (lw_at lw_m3 88 rfl) rfl
theorem q657 : (Jvm.Cond.laysFinal "QuestionRoad" "QuestionRoad" "wayLong" "[I") ∈ lw_all := lw_g (lw_at lw_m3 89 rfl) rfl
theorem q658 : (Jvm.Cond.soleField "QuestionRoad" "wayLong") ∈ lw_all := lw_g (lw_at lw_m3 90 rfl) rfl
theorem q659 : (Jvm.Cond.laysFinal "QuestionRoad" "QuestionRoad" "waySlope" "[I") ∈ lw_all := lw_g (lw_at lw_m3 91 rfl) rfl
theorem q660 : (Jvm.Cond.soleField "QuestionRoad" "waySlope") ∈ lw_all := lw_g (lw_at lw_m3 92 rfl) rfl
theorem q661 : (Jvm.Cond.lays "QuestionRoad" "QuestionRoad" "carters" "I") ∈ lw_all := lw_g (lw_at lw_m3 93 rfl) rfl
theorem q662 : (Jvm.Cond.soleField "QuestionRoad" "carters") ∈ lw_all := lw_g (lw_at lw_m3 94 rfl) rfl
theorem q663 : (Jvm.Cond.laysFinal "QuestionRoad" "QuestionRoad" "all" "[LQuestionRoad$Carter;") ∈ lw_all := lw_g (lw_at lw_m3 95 rfl) rfl
theorem q664 : (Jvm.Cond.soleField "QuestionRoad" "all") ∈ lw_all := lw_g (lw_at lw_m3 96 rfl) rfl
theorem q665 : (Jvm.Cond.laysFinal "QuestionRoad" "QuestionRoad" "kinds" "[LQuestionRoad$Question;") ∈ lw_all := lw_g (lw_at lw_m3 97 rfl) rfl
theorem q666 : (Jvm.Cond.soleField "QuestionRoad" "kinds") ∈ lw_all := lw_g (lw_at lw_m3 98 rfl) rfl
theorem q667 : (Jvm.Cond.lays "QuestionRoad" "QuestionRoad" "answers" "I") ∈ lw_all := lw_g (lw_at lw_m3 99 rfl) rfl
theorem q668 : (Jvm.Cond.soleField "QuestionRoad" "answers") ∈ lw_all := lw_g (lw_at lw_m3 100 rfl) rfl
theorem q669 : (Jvm.Cond.laysFinal "QuestionRoad" "QuestionRoad" "answerHour" "[I") ∈ lw_all := lw_g (lw_at lw_m3 101 rfl) rfl
theorem q670 : (Jvm.Cond.soleField "QuestionRoad" "answerHour") ∈ lw_all := lw_g (lw_at lw_m3 102 rfl) rfl
theorem q671 : (Jvm.Cond.laysFinal "QuestionRoad" "QuestionRoad" "answerPlace" "[I") ∈ lw_all := lw_g (lw_at lw_m3 103 rfl) rfl
theorem q672 : (Jvm.Cond.soleField "QuestionRoad" "answerPlace") ∈ lw_all := lw_g (lw_at lw_m3 104 rfl) rfl
theorem q673 : (Jvm.Cond.laysFinal "QuestionRoad" "QuestionRoad" "beside" "[[I") ∈ lw_all := lw_g (lw_at lw_m3 105 rfl) rfl
theorem q674 : (Jvm.Cond.soleField "QuestionRoad" "beside") ∈ lw_all := lw_g (lw_at lw_m3 106 rfl) rfl
theorem q675 : (Jvm.Cond.laysFinal "QuestionRoad" "QuestionRoad" "farNow" "[[I") ∈ lw_all := lw_g (lw_at lw_m3 107 rfl) rfl
theorem q676 : (Jvm.Cond.soleField "QuestionRoad" "farNow") ∈ lw_all := lw_g (lw_at lw_m3 108 rfl) rfl
theorem q677 : (Jvm.Cond.lays "QuestionRoad" "QuestionRoad" "notAnswers" "I") ∈ lw_all := lw_g (lw_at lw_m3 109 rfl) rfl
theorem q678 : (Jvm.Cond.soleField "QuestionRoad" "notAnswers") ∈ lw_all := lw_g (lw_at lw_m3 110 rfl) rfl
theorem q679 : (Jvm.Cond.laysFinal "QuestionRoad" "QuestionRoad" "present" "[I") ∈ lw_all := lw_g (lw_at lw_m3 111 rfl) rfl
theorem q680 : (Jvm.Cond.soleField "QuestionRoad" "present") ∈ lw_all := lw_g (lw_at lw_m3 112 rfl) rfl
theorem q681 : (Jvm.Cond.laysFinal "QuestionRoad" "QuestionRoad" "arrivals" "[I") ∈ lw_all := lw_g (lw_at lw_m3 113 rfl) rfl
theorem q682 : (Jvm.Cond.soleField "QuestionRoad" "arrivals") ∈ lw_all := lw_g (lw_at lw_m3 114 rfl) rfl
theorem q683 : (Jvm.Cond.lays "QuestionRoad" "QuestionRoad" "metHour" "I") ∈ lw_all := lw_g (lw_at lw_m3 115 rfl) rfl
theorem q684 : (Jvm.Cond.soleField "QuestionRoad" "metHour") ∈ lw_all := lw_g (lw_at lw_m3 116 rfl) rfl
theorem q685 : (Jvm.Cond.lays "QuestionRoad" "QuestionRoad" "metPlace" "I") ∈ lw_all := lw_g (lw_at lw_m3 117 rfl) rfl
theorem q686 : (Jvm.Cond.soleField "QuestionRoad" "metPlace") ∈ lw_all := lw_g (lw_at lw_m3 118 rfl) rfl
theorem q687 : (Jvm.Cond.laysFinal "QuestionRoad" "QuestionRoad" "placeAt" "[[I") ∈ lw_all := lw_g (lw_at lw_m3 119 rfl) rfl
theorem q688 : (Jvm.Cond.soleField "QuestionRoad" "placeAt") ∈ lw_all := lw_g (lw_at lw_m3 120 rfl) rfl
theorem q689 : (Jvm.Cond.lays "QuestionRoad" "QuestionRoad" "sights" "I") ∈ lw_all := lw_g (lw_at lw_m3 121 rfl) rfl
theorem q690 : (Jvm.Cond.soleField "QuestionRoad" "sights") ∈ lw_all := lw_g (lw_at lw_m3 122 rfl) rfl
theorem q691 : (Jvm.Cond.laysFinal "QuestionRoad" "QuestionRoad" "seenHour" "[I") ∈ lw_all := lw_g (lw_at lw_m3 123 rfl) rfl
theorem q692 : (Jvm.Cond.soleField "QuestionRoad" "seenHour") ∈ lw_all := lw_g (lw_at lw_m3 124 rfl) rfl
theorem q693 : (Jvm.Cond.laysFinal "QuestionRoad" "QuestionRoad" "seenWho" "[I") ∈ lw_all := lw_g (lw_at lw_m3 125 rfl) rfl
theorem q694 : (Jvm.Cond.soleField "QuestionRoad" "seenWho") ∈ lw_all := lw_g (lw_at lw_m3 126 rfl) rfl
theorem q695 : (Jvm.Cond.laysFinal "QuestionRoad" "QuestionRoad" "seenPlace" "[I") ∈ lw_all := lw_g (lw_at lw_m3 127 rfl) rfl
theorem q696 : (Jvm.Cond.soleField "QuestionRoad" "seenPlace") ∈ lw_all := lw_g (lw_at lw_m3 128 rfl) rfl
theorem q697 : (Jvm.Cond.laysFinal "QuestionRoad" "QuestionRoad" "placeBy" "[[I") ∈ lw_all := lw_g (lw_at lw_m3 129 rfl) rfl
theorem q698 : (Jvm.Cond.soleField "QuestionRoad" "placeBy") ∈ lw_all := lw_g (lw_at lw_m3 130 rfl) rfl
theorem q699 : (Jvm.Cond.laysFinal "QuestionRoad" "QuestionRoad" "ownStrengths" "[I") ∈ lw_all := lw_g (lw_at lw_m3 131 rfl) rfl
theorem q700 : (Jvm.Cond.soleField "QuestionRoad" "ownStrengths") ∈ lw_all := lw_g (lw_at lw_m3 132 rfl) rfl
theorem q701 : (Jvm.Cond.laysFinal "QuestionRoad" "QuestionRoad" "sheets" "[LQuestionRoad$Sheet;") ∈ lw_all := lw_g (lw_at lw_m3 133 rfl) rfl
theorem q702 : (Jvm.Cond.soleField "QuestionRoad" "sheets") ∈ lw_all := lw_g (lw_at lw_m3 134 rfl) rfl
theorem q703 : (Jvm.Cond.lays "QuestionRoad" "QuestionRoad" "finding" "I") ∈ lw_all := lw_g (lw_at lw_m3 135 rfl) rfl
theorem q704 : (Jvm.Cond.soleField "QuestionRoad" "finding") ∈ lw_all := lw_g (lw_at lw_m3 136 rfl) rfl
theorem q705 : (Jvm.Cond.superclass "QuestionRoad" "java/lang/Object") ∈ lw_all := lw_g (lw_at lw_m3 137 rfl) rfl
theorem q707 : (Jvm.Cond.instanceMethod ({ cls := "QuestionRoad", name := "sheet", desc := "(III)I" } : Jvm.MethodName)) ∈ lw_all := lw_g (lw_at lw_m3 139 rfl) rfl
theorem q708 : (Jvm.Cond.selects "QuestionRoad" ({ cls := "QuestionRoad", name := "sheet", desc := "(III)I" } : Jvm.MethodName) ({ cls := "QuestionRoad", name := "sheet", desc := "(III)I" } : Jvm.MethodName)) ∈ lw_all := lw_g (lw_at lw_m3 140 rfl) rfl
theorem q709 : (Jvm.Cond.codeWith ({ cls := "QuestionRoad", name := "sheet", desc := "(III)I" } : Jvm.MethodName) prog_1_method_91_code (5 : Nat) (Option.some Jvm.ClassFile.FieldType.int) [((25 : Nat), (39 : Nat), (42 : Nat), (404 : Nat))]) ∈ lw_all := lw_g (lw_at lw_m3 141 rfl) rfl
theorem q710 : (Jvm.Cond.classLink "QuestionRoad" (404 : Nat) "java/lang/NegativeArraySizeException") ∈ lw_all := lw_g (lw_at lw_m3 142 rfl) rfl
theorem q795 : (Jvm.Cond.methodLink "QuestionRoad" (400 : Nat) ({ cls := "QuestionRoad", name := "rowOf", desc := "(II)Ljava/lang/Object;" } : Jvm.MethodName)) ∈ lw_all := lw_g (lw_at lw_m3 227 rfl) rfl
theorem q796 : (Jvm.Cond.static ({ cls := "QuestionRoad", name := "rowOf", desc := "(II)Ljava/lang/Object;" } : Jvm.MethodName)) ∈ lw_all := lw_g (lw_at lw_m3 228 rfl) rfl
theorem q797 : (Jvm.Cond.code ({ cls := "QuestionRoad", name := "rowOf", desc := "(II)Ljava/lang/Object;" } : Jvm.MethodName) prog_1_method_90_code (2 : Nat) (Option.some (Jvm.ClassFile.FieldType.object "java/lang/Object"))) ∈ lw_all := lw_g (lw_at lw_m3 229 rfl) rfl
theorem q800 : (Jvm.Cond.instanceMethod ({ cls := "QuestionRoad", name := "lose", desc := "(I)I" } : Jvm.MethodName)) ∈ lw_all := lw_g (lw_at lw_m3 232 rfl) rfl
theorem q801 : (Jvm.Cond.selects "QuestionRoad" ({ cls := "QuestionRoad", name := "lose", desc := "(I)I" } : Jvm.MethodName) ({ cls := "QuestionRoad", name := "lose", desc := "(I)I" } : Jvm.MethodName)) ∈ lw_all := lw_g (lw_at lw_m3 233 rfl) rfl
theorem q802 : (Jvm.Cond.code ({ cls := "QuestionRoad", name := "lose", desc := "(I)I" } : Jvm.MethodName) prog_1_method_92_code (3 : Nat) (Option.some Jvm.ClassFile.FieldType.int)) ∈ lw_all := lw_g (lw_at lw_m3 234 rfl) rfl
theorem q804 : (Jvm.Cond.instanceMethod ({ cls := "QuestionRoad", name := "lay", desc := "(IIII)I" } : Jvm.MethodName)) ∈ lw_all := lw_g (lw_at lw_m3 236 rfl) rfl
theorem q805 : (Jvm.Cond.selects "QuestionRoad" ({ cls := "QuestionRoad", name := "lay", desc := "(IIII)I" } : Jvm.MethodName) ({ cls := "QuestionRoad", name := "lay", desc := "(IIII)I" } : Jvm.MethodName)) ∈ lw_all := lw_g (lw_at lw_m3 237 rfl) rfl
theorem q806 : (Jvm.Cond.codeWith ({ cls := "QuestionRoad", name := "lay", desc := "(IIII)I" } : Jvm.MethodName) prog_1_method_95_code (6 : Nat) (Option.some Jvm.ClassFile.FieldType.int) [((19 : Nat), (36 : Nat), (37 : Nat), (417 : Nat)), ((19 : Nat), (36 : Nat), (45 : Nat), (419 : Nat)), ((19 : Nat), (36 : Nat), (53 : Nat), (421 : Nat))]) ∈ lw_all := lw_g (lw_at lw_m3 238 rfl) rfl
theorem q807 : (Jvm.Cond.classLink "QuestionRoad" (417 : Nat) "java/lang/NullPointerException") ∈ lw_all := lw_g (lw_at lw_m3 239 rfl) rfl
theorem q832 : (Jvm.Cond.classLink "QuestionRoad" (419 : Nat) "java/lang/ClassCastException") ∈ lw_all := lw_g (lw_at lw_m4 24 rfl) rfl
theorem q846 : (Jvm.Cond.classLink "QuestionRoad" (421 : Nat) "java/lang/ArrayIndexOutOfBoundsException") ∈ lw_all := lw_g (lw_at lw_m4 38 rfl) rfl
theorem q865 : (Jvm.Cond.methodLink "QuestionRoad" (413 : Nat) ({ cls := "QuestionRoad", name := "laid", desc := "(Ljava/lang/Object;III)V" } : Jvm.MethodName)) ∈ lw_all := lw_g (lw_at lw_m4 57 rfl) rfl
theorem q866 : (Jvm.Cond.static ({ cls := "QuestionRoad", name := "laid", desc := "(Ljava/lang/Object;III)V" } : Jvm.MethodName)) ∈ lw_all := lw_g (lw_at lw_m4 58 rfl) rfl
theorem q867 : (Jvm.Cond.code ({ cls := "QuestionRoad", name := "laid", desc := "(Ljava/lang/Object;III)V" } : Jvm.MethodName) prog_1_method_93_code (4 : Nat) (Option.none : Option Jvm.ClassFile.FieldType)) ∈ lw_all := lw_g (lw_at lw_m4 59 rfl) rfl
theorem q869 : (Jvm.Cond.instanceMethod ({ cls := "QuestionRoad", name := "get", desc := "(III)I" } : Jvm.MethodName)) ∈ lw_all := lw_g (lw_at lw_m4 61 rfl) rfl
theorem q870 : (Jvm.Cond.selects "QuestionRoad" ({ cls := "QuestionRoad", name := "get", desc := "(III)I" } : Jvm.MethodName) ({ cls := "QuestionRoad", name := "get", desc := "(III)I" } : Jvm.MethodName)) ∈ lw_all := lw_g (lw_at lw_m4 62 rfl) rfl
theorem q871 : (Jvm.Cond.codeWith ({ cls := "QuestionRoad", name := "get", desc := "(III)I" } : Jvm.MethodName) prog_1_method_96_code (6 : Nat) (Option.some Jvm.ClassFile.FieldType.int) [((23 : Nat), (37 : Nat), (38 : Nat), (417 : Nat)), ((23 : Nat), (37 : Nat), (46 : Nat), (419 : Nat)), ((23 : Nat), (37 : Nat), (54 : Nat), (421 : Nat))]) ∈ lw_all := lw_g (lw_at lw_m4 63 rfl) rfl
theorem q872 : (Jvm.Cond.constant "QuestionRoad" (423 : Nat) (-2147483648 : Int32)) ∈ lw_all := lw_g (lw_at lw_m4 64 rfl) rfl
theorem q873 : (Jvm.Cond.methodLink "QuestionRoad" (424 : Nat) ({ cls := "QuestionRoad", name := "taken", desc := "(Ljava/lang/Object;II)I" } : Jvm.MethodName)) ∈ lw_all := lw_g (lw_at lw_m4 65 rfl) rfl
theorem q875 : (Jvm.Cond.instanceMethod ({ cls := "QuestionRoad", name := "copy", desc := "(IIIII)I" } : Jvm.MethodName)) ∈ lw_all := lw_g (lw_at lw_m4 67 rfl) rfl
theorem q876 : (Jvm.Cond.selects "QuestionRoad" ({ cls := "QuestionRoad", name := "copy", desc := "(IIIII)I" } : Jvm.MethodName) ({ cls := "QuestionRoad", name := "copy", desc := "(IIIII)I" } : Jvm.MethodName)) ∈ lw_all := lw_g (lw_at lw_m4 68 rfl) rfl
theorem q877 : (Jvm.Cond.codeWith ({ cls := "QuestionRoad", name := "copy", desc := "(IIIII)I" } : Jvm.MethodName) prog_1_method_97_code (9 : Nat) (Option.some Jvm.ClassFile.FieldType.int) [((68 : Nat), (87 : Nat), (88 : Nat), (417 : Nat)), ((68 : Nat), (87 : Nat), (96 : Nat), (428 : Nat))]) ∈ lw_all := lw_g (lw_at lw_m4 69 rfl) rfl
theorem q878 : (Jvm.Cond.classLink "QuestionRoad" (428 : Nat) "java/lang/IndexOutOfBoundsException") ∈ lw_all := lw_g (lw_at lw_m4 70 rfl) rfl
theorem q880 : (Jvm.Cond.instanceMethod ({ cls := "QuestionRoad", name := "write", desc := "(II)I" } : Jvm.MethodName)) ∈ lw_all := lw_g (lw_at lw_m4 72 rfl) rfl
theorem q881 : (Jvm.Cond.selects "QuestionRoad" ({ cls := "QuestionRoad", name := "write", desc := "(II)I" } : Jvm.MethodName) ({ cls := "QuestionRoad", name := "write", desc := "(II)I" } : Jvm.MethodName)) ∈ lw_all := lw_g (lw_at lw_m4 73 rfl) rfl
theorem q882 : (Jvm.Cond.code ({ cls := "QuestionRoad", name := "write", desc := "(II)I" } : Jvm.MethodName) prog_1_method_98_code (6 : Nat) (Option.some Jvm.ClassFile.FieldType.int)) ∈ lw_all := lw_g (lw_at lw_m4 74 rfl) rfl
theorem q884 : (Jvm.Cond.instanceMethod ({ cls := "QuestionRoad", name := "count", desc := "(I)I" } : Jvm.MethodName)) ∈ lw_all := lw_g (lw_at lw_m4 76 rfl) rfl
theorem q885 : (Jvm.Cond.selects "QuestionRoad" ({ cls := "QuestionRoad", name := "count", desc := "(I)I" } : Jvm.MethodName) ({ cls := "QuestionRoad", name := "count", desc := "(I)I" } : Jvm.MethodName)) ∈ lw_all := lw_g (lw_at lw_m4 77 rfl) rfl
theorem q886 : (Jvm.Cond.code ({ cls := "QuestionRoad", name := "count", desc := "(I)I" } : Jvm.MethodName) prog_1_method_100_code (2 : Nat) (Option.some Jvm.ClassFile.FieldType.int)) ∈ lw_all := lw_g (lw_at lw_m4 78 rfl) rfl
theorem q887 : (Jvm.Cond.methodLink "QuestionRoad" (430 : Nat) ({ cls := "QuestionRoad", name := "sumOf", desc := "(I)I" } : Jvm.MethodName)) ∈ lw_all := lw_g (lw_at lw_m4 79 rfl) rfl
theorem q888 : (Jvm.Cond.privateMethod ({ cls := "QuestionRoad", name := "sumOf", desc := "(I)I" } : Jvm.MethodName)) ∈ lw_tbl := lw_at lw_m4 80 rfl
theorem q889 : (Jvm.Cond.instanceMethod ({ cls := "QuestionRoad", name := "sumOf", desc := "(I)I" } : Jvm.MethodName)) ∈ lw_all := lw_g (lw_at lw_m4 81 rfl) rfl
theorem q890 : (Jvm.Cond.code ({ cls := "QuestionRoad", name := "sumOf", desc := "(I)I" } : Jvm.MethodName) prog_1_method_99_code (4 : Nat) (Option.some Jvm.ClassFile.FieldType.int)) ∈ lw_all := lw_g (lw_at lw_m4 82 rfl) rfl
theorem q892 : (Jvm.Cond.instanceMethod ({ cls := "QuestionRoad", name := "digest", desc := "()J" } : Jvm.MethodName)) ∈ lw_all := lw_g (lw_at lw_m4 84 rfl) rfl
theorem q893 : (Jvm.Cond.selects "QuestionRoad" ({ cls := "QuestionRoad", name := "digest", desc := "()J" } : Jvm.MethodName) ({ cls := "QuestionRoad", name := "digest", desc := "()J" } : Jvm.MethodName)) ∈ lw_all := lw_g (lw_at lw_m4 85 rfl) rfl
theorem q894 : (Jvm.Cond.code ({ cls := "QuestionRoad", name := "digest", desc := "()J" } : Jvm.MethodName) prog_1_method_103_code (5 : Nat) (Option.some Jvm.ClassFile.FieldType.long)) ∈ lw_all := lw_g (lw_at lw_m4 86 rfl) rfl
theorem q895 : (Jvm.Cond.constantLong "QuestionRoad" (439 : Nat) (17 : Int64)) ∈ lw_all := lw_g (lw_at lw_m4 87 rfl) rfl
theorem q896 : (Jvm.Cond.constantLong "QuestionRoad" (433 : Nat) (31 : Int64)) ∈ lw_all := lw_g (lw_at lw_m4 88 rfl) rfl
theorem q897 : (Jvm.Cond.methodLink "QuestionRoad" (441 : Nat) ({ cls := "QuestionRoad", name := "count", desc := "(I)I" } : Jvm.MethodName)) ∈ lw_all := lw_g (lw_at lw_m4 89 rfl) rfl
theorem q898 : (Jvm.Cond.methodLink "QuestionRoad" (444 : Nat) ({ cls := "QuestionRoad", name := "carterDigest", desc := "(JI)J" } : Jvm.MethodName)) ∈ lw_all := lw_g (lw_at lw_m4 90 rfl) rfl
theorem q899 : (Jvm.Cond.privateMethod ({ cls := "QuestionRoad", name := "carterDigest", desc := "(JI)J" } : Jvm.MethodName)) ∈ lw_tbl := lw_at lw_m4 91 rfl
theorem q900 : (Jvm.Cond.instanceMethod ({ cls := "QuestionRoad", name := "carterDigest", desc := "(JI)J" } : Jvm.MethodName)) ∈ lw_all := lw_g (lw_at lw_m4 92 rfl) rfl
theorem q901 : (Jvm.Cond.code ({ cls := "QuestionRoad", name := "carterDigest", desc := "(JI)J" } : Jvm.MethodName) prog_1_method_102_code (7 : Nat) (Option.some Jvm.ClassFile.FieldType.long)) ∈ lw_all := lw_g (lw_at lw_m4 93 rfl) rfl
theorem q902 : (Jvm.Cond.methodLink "QuestionRoad" (435 : Nat) ({ cls := "QuestionRoad", name := "hourDigest", desc := "(JII)J" } : Jvm.MethodName)) ∈ lw_all := lw_g (lw_at lw_m4 94 rfl) rfl
theorem q903 : (Jvm.Cond.privateMethod ({ cls := "QuestionRoad", name := "hourDigest", desc := "(JII)J" } : Jvm.MethodName)) ∈ lw_tbl := lw_at lw_m4 95 rfl
theorem q904 : (Jvm.Cond.instanceMethod ({ cls := "QuestionRoad", name := "hourDigest", desc := "(JII)J" } : Jvm.MethodName)) ∈ lw_all := lw_g (lw_at lw_m4 96 rfl) rfl
theorem q905 : (Jvm.Cond.code ({ cls := "QuestionRoad", name := "hourDigest", desc := "(JII)J" } : Jvm.MethodName) prog_1_method_101_code (8 : Nat) (Option.some Jvm.ClassFile.FieldType.long)) ∈ lw_all := lw_g (lw_at lw_m4 97 rfl) rfl
theorem in_X0 : ∀ w ∈ wsX00, w ∈ lw_all := lw_in wsX00 [643, 645, 647, 649, 651, 653, 655, 657, 659, 661, 663, 665, 667, 669, 671, 673, 675, 677, 679, 681, 683, 685, 687, 689, 691, 693, 695, 697, 699, 701, 703] (by decide +kernel) (by decide +kernel)
/-! QuestionRoad$Question -/
set_option maxRecDepth 100000
def RX1 : String := "QuestionRoad$Question"
abbrev cX1_kind : ByteArray := prog_5_method_2_code
def yX1_kind : MethodName := ⟨RX1, "kind", "()I"⟩
theorem dX1_kind_0 : decode cX1_kind 0 = .ok (.iconst 2, 1) := by decide +kernel
theorem dX1_kind_1 : decode cX1_kind 1 = .ok (.ireturn, 1) := by decide +kernel
abbrev cX1_isAnswered : ByteArray := prog_5_method_3_code
def yX1_isAnswered : MethodName := ⟨RX1, "isAnswered", "(ZZ)Z"⟩
theorem dX1_isAnswered_0 : decode cX1_isAnswered 0 = .ok (.iconst 0, 1) := by decide +kernel
theorem dX1_isAnswered_1 : decode cX1_isAnswered 1 = .ok (.ireturn, 1) := by decide +kernel
abbrev cX1_init : ByteArray := prog_5_method_1_code
def yX1_init : MethodName := ⟨RX1, "<init>", "()V"⟩
theorem dX1_init_0 : decode cX1_init 0 = .ok (.aload_n 0, 1) := by decide +kernel
theorem dX1_init_1 : decode cX1_init 1 = .ok (.invokespecial 1, 3) := by decide +kernel
theorem dX1_init_4 : decode cX1_init 4 = .ok (.return_, 1) := by decide +kernel
theorem q90 : (Jvm.Cond.initialized "QuestionRoad$Question") ∈ lw_all := lw_g (lw_at lw_m1 2 rfl) rfl
theorem q200 : (Jvm.Cond.instanceMethod ({ cls := "QuestionRoad$Question", name := "kind", desc := "()I" } : Jvm.MethodName)) ∈ lw_all := lw_g (lw_at lw_m1 112 rfl) rfl
theorem q201 : (Jvm.Cond.selects "QuestionRoad$Question" ({ cls := "QuestionRoad$Question", name := "kind", desc := "()I" } : Jvm.MethodName) ({ cls := "QuestionRoad$Question", name := "kind", desc := "()I" } : Jvm.MethodName)) ∈ lw_all := lw_g (lw_at lw_m1 113 rfl) rfl
theorem q202 : (Jvm.Cond.sameMethod "QuestionRoad$Question" "QuestionRoad$Question" "kind" "()I") ∈ lw_all := lw_g (lw_at lw_m1 114 rfl) rfl
theorem q209 : (Jvm.Cond.code ({ cls := "QuestionRoad$Question", name := "kind", desc := "()I" } : Jvm.MethodName) prog_5_method_2_code (1 : Nat) (Option.some Jvm.ClassFile.FieldType.int)) ∈ lw_all := lw_g (lw_at lw_m1 121 rfl) rfl
theorem q334 : (Jvm.Cond.instanceMethod ({ cls := "QuestionRoad$Question", name := "isAnswered", desc := "(ZZ)Z" } : Jvm.MethodName)) ∈ lw_all := lw_g (lw_at lw_m2 6 rfl) rfl
theorem q335 : (Jvm.Cond.selects "QuestionRoad$Question" ({ cls := "QuestionRoad$Question", name := "isAnswered", desc := "(ZZ)Z" } : Jvm.MethodName) ({ cls := "QuestionRoad$Question", name := "isAnswered", desc := "(ZZ)Z" } : Jvm.MethodName)) ∈ lw_all := lw_g (lw_at lw_m2 7 rfl) rfl
theorem q336 : (Jvm.Cond.sameMethod "QuestionRoad$Question" "QuestionRoad$Question" "isAnswered" "(ZZ)Z") ∈ lw_all := lw_g (lw_at lw_m2 8 rfl) rfl
theorem q346 : (Jvm.Cond.code ({ cls := "QuestionRoad$Question", name := "isAnswered", desc := "(ZZ)Z" } : Jvm.MethodName) prog_5_method_3_code (3 : Nat) (Option.some Jvm.ClassFile.FieldType.boolean)) ∈ lw_all := lw_g (lw_at lw_m2 18 rfl) rfl
theorem q530 : (Jvm.Cond.instanceMethod ({ cls := "QuestionRoad$Question", name := "<init>", desc := "()V" } : Jvm.MethodName)) ∈ lw_all := lw_g (lw_at lw_m2 202 rfl) rfl
theorem q531 : (Jvm.Cond.code ({ cls := "QuestionRoad$Question", name := "<init>", desc := "()V" } : Jvm.MethodName) prog_5_method_1_code (1 : Nat) (Option.none : Option Jvm.ClassFile.FieldType)) ∈ lw_all := lw_g (lw_at lw_m2 203 rfl) rfl
theorem q532 : (Jvm.Cond.methodLink "QuestionRoad$Question" (1 : Nat) ({ cls := "java/lang/Object", name := "<init>", desc := "()V" } : Jvm.MethodName)) ∈ lw_all := lw_g (lw_at lw_m2 204 rfl) rfl
theorem q540 : (Jvm.Cond.instantiable "QuestionRoad$Question" (0 : Nat)) ∈ lw_all := lw_g (lw_at lw_m2 212 rfl) rfl
theorem q542 : (Jvm.Cond.superclass "QuestionRoad$Question" "java/lang/Object") ∈ lw_all := lw_g (lw_at lw_m2 214 rfl) rfl
/-! QuestionRoad$Open -/
set_option maxRecDepth 100000
def RX2 : String := "QuestionRoad$Open"
abbrev cX2_kind : ByteArray := prog_4_method_2_code
def yX2_kind : MethodName := ⟨RX2, "kind", "()I"⟩
theorem dX2_kind_0 : decode cX2_kind 0 = .ok (.iconst 0, 1) := by decide +kernel
theorem dX2_kind_1 : decode cX2_kind 1 = .ok (.ireturn, 1) := by decide +kernel
abbrev cX2_isAnswered : ByteArray := prog_4_method_3_code
def yX2_isAnswered : MethodName := ⟨RX2, "isAnswered", "(ZZ)Z"⟩
def dkwX2_isAnswered_0 : List UInt8 := [27, 154, 0, 12, 42, 27, 28, 183, 0, 7, 153, 0, 7, 4, 167, 0, 4, 3, 172]
abbrev dktX2_isAnswered_0 : List UInt8 := dkwX2_isAnswered_0 ++ []
theorem dksX2_isAnswered_0 : cX2_isAnswered.data.toList.drop 0 = dktX2_isAnswered_0 := by decide +kernel
theorem dX2_isAnswered_0 : decode cX2_isAnswered 0 = .ok (.iload_n 1, 1) := dk_27 (dk_at dksX2_isAnswered_0 0 rfl rfl)
theorem dX2_isAnswered_1 : decode cX2_isAnswered 1 = .ok (.ifCond .ne 12, 3) := dk_154 0 12 (dk_at dksX2_isAnswered_0 1 rfl rfl)
theorem dX2_isAnswered_4 : decode cX2_isAnswered 4 = .ok (.aload_n 0, 1) := dk_42 (dk_at dksX2_isAnswered_0 4 rfl rfl)
theorem dX2_isAnswered_5 : decode cX2_isAnswered 5 = .ok (.iload_n 1, 1) := dk_27 (dk_at dksX2_isAnswered_0 5 rfl rfl)
theorem dX2_isAnswered_6 : decode cX2_isAnswered 6 = .ok (.iload_n 2, 1) := dk_28 (dk_at dksX2_isAnswered_0 6 rfl rfl)
theorem dX2_isAnswered_7 : decode cX2_isAnswered 7 = .ok (.invokespecial 7, 3) := dk_183 0 7 (dk_at dksX2_isAnswered_0 7 rfl rfl)
theorem dX2_isAnswered_10 : decode cX2_isAnswered 10 = .ok (.ifCond .eq 7, 3) := dk_153 0 7 (dk_at dksX2_isAnswered_0 10 rfl rfl)
theorem dX2_isAnswered_13 : decode cX2_isAnswered 13 = .ok (.iconst 1, 1) := dk_4 (dk_at dksX2_isAnswered_0 13 rfl rfl)
theorem dX2_isAnswered_14 : decode cX2_isAnswered 14 = .ok (.goto 4, 3) := dk_167 0 4 (dk_at dksX2_isAnswered_0 14 rfl rfl)
theorem dX2_isAnswered_17 : decode cX2_isAnswered 17 = .ok (.iconst 0, 1) := dk_3 (dk_at dksX2_isAnswered_0 17 rfl rfl)
theorem dX2_isAnswered_18 : decode cX2_isAnswered 18 = .ok (.ireturn, 1) := dk_172 (dk_at dksX2_isAnswered_0 18 rfl rfl)
abbrev cX2_init : ByteArray := prog_4_method_1_code
def yX2_init : MethodName := ⟨RX2, "<init>", "()V"⟩
theorem dX2_init_0 : decode cX2_init 0 = .ok (.aload_n 0, 1) := by decide +kernel
theorem dX2_init_1 : decode cX2_init 1 = .ok (.invokespecial 1, 3) := by decide +kernel
theorem dX2_init_4 : decode cX2_init 4 = .ok (.return_, 1) := by decide +kernel
theorem q91 : (Jvm.Cond.initialized "QuestionRoad$Open") ∈ lw_all := lw_g (lw_at lw_m1 3 rfl) rfl
theorem q206 : (Jvm.Cond.selects "QuestionRoad$Open" ({ cls := "QuestionRoad$Question", name := "kind", desc := "()I" } : Jvm.MethodName) ({ cls := "QuestionRoad$Open", name := "kind", desc := "()I" } : Jvm.MethodName)) ∈ lw_all := lw_g (lw_at lw_m1 118 rfl) rfl
theorem q207 : (Jvm.Cond.instanceMethod ({ cls := "QuestionRoad$Open", name := "kind", desc := "()I" } : Jvm.MethodName)) ∈ lw_all := lw_g (lw_at lw_m1 119 rfl) rfl
theorem q208 : (Jvm.Cond.code ({ cls := "QuestionRoad$Open", name := "kind", desc := "()I" } : Jvm.MethodName) prog_4_method_2_code (1 : Nat) (Option.some Jvm.ClassFile.FieldType.int)) ∈ lw_all := lw_g (lw_at lw_m1 120 rfl) rfl
theorem q342 : (Jvm.Cond.instanceMethod ({ cls := "QuestionRoad$Open", name := "isAnswered", desc := "(ZZ)Z" } : Jvm.MethodName)) ∈ lw_all := lw_g (lw_at lw_m2 14 rfl) rfl
theorem q343 : (Jvm.Cond.code ({ cls := "QuestionRoad$Open", name := "isAnswered", desc := "(ZZ)Z" } : Jvm.MethodName) prog_4_method_3_code (3 : Nat) (Option.some Jvm.ClassFile.FieldType.boolean)) ∈ lw_all := lw_g (lw_at lw_m2 15 rfl) rfl
theorem q344 : (Jvm.Cond.methodLink "QuestionRoad$Open" (7 : Nat) ({ cls := "QuestionRoad$Question", name := "isAnswered", desc := "(ZZ)Z" } : Jvm.MethodName)) ∈ lw_all := lw_g (lw_at lw_m2 16 rfl) rfl
theorem q345 : (Jvm.Cond.superclass "QuestionRoad$Open" "QuestionRoad$Question") ∈ lw_all := lw_g (lw_at lw_m2 17 rfl) rfl
theorem q347 : (Jvm.Cond.selects "QuestionRoad$Open" ({ cls := "QuestionRoad$Question", name := "isAnswered", desc := "(ZZ)Z" } : Jvm.MethodName) ({ cls := "QuestionRoad$Open", name := "isAnswered", desc := "(ZZ)Z" } : Jvm.MethodName)) ∈ lw_all := lw_g (lw_at lw_m2 19 rfl) rfl
theorem q525 : (Jvm.Cond.instantiable "QuestionRoad$Open" (0 : Nat)) ∈ lw_all := lw_g (lw_at lw_m2 197 rfl) rfl
theorem q527 : (Jvm.Cond.instanceMethod ({ cls := "QuestionRoad$Open", name := "<init>", desc := "()V" } : Jvm.MethodName)) ∈ lw_all := lw_g (lw_at lw_m2 199 rfl) rfl
theorem q528 : (Jvm.Cond.code ({ cls := "QuestionRoad$Open", name := "<init>", desc := "()V" } : Jvm.MethodName) prog_4_method_1_code (1 : Nat) (Option.none : Option Jvm.ClassFile.FieldType)) ∈ lw_all := lw_g (lw_at lw_m2 200 rfl) rfl
theorem q529 : (Jvm.Cond.methodLinkNest "QuestionRoad$Open" (1 : Nat) ({ cls := "QuestionRoad$Question", name := "<init>", desc := "()V" } : Jvm.MethodName) "QuestionRoad") ∈ lw_tbl := lw_at lw_m2 201 rfl
theorem q1369 : (Jvm.Cond.sameMethod "QuestionRoad$Open" "QuestionRoad$Open" "isAnswered" "(ZZ)Z") ∈ lw_all := lw_g (lw_at lw_m6 81 rfl) rfl
theorem q1372 : (Jvm.Cond.castable "QuestionRoad$Open" "QuestionRoad$Question") ∈ lw_tbl := lw_at lw_m6 84 rfl
/-! QuestionRoad$Common -/
set_option maxRecDepth 100000
def RX3 : String := "QuestionRoad$Common"
abbrev cX3_kind : ByteArray := prog_3_method_2_code
def yX3_kind : MethodName := ⟨RX3, "kind", "()I"⟩
theorem dX3_kind_0 : decode cX3_kind 0 = .ok (.iconst 1, 1) := by decide +kernel
theorem dX3_kind_1 : decode cX3_kind 1 = .ok (.ireturn, 1) := by decide +kernel
abbrev cX3_isAnswered : ByteArray := prog_3_method_3_code
def yX3_isAnswered : MethodName := ⟨RX3, "isAnswered", "(ZZ)Z"⟩
def dkwX3_isAnswered_0 : List UInt8 := [28, 154, 0, 12, 42, 27, 28, 183, 0, 7, 153, 0, 7, 4, 167, 0, 4, 3, 172]
abbrev dktX3_isAnswered_0 : List UInt8 := dkwX3_isAnswered_0 ++ []
theorem dksX3_isAnswered_0 : cX3_isAnswered.data.toList.drop 0 = dktX3_isAnswered_0 := by decide +kernel
theorem dX3_isAnswered_0 : decode cX3_isAnswered 0 = .ok (.iload_n 2, 1) := dk_28 (dk_at dksX3_isAnswered_0 0 rfl rfl)
theorem dX3_isAnswered_1 : decode cX3_isAnswered 1 = .ok (.ifCond .ne 12, 3) := dk_154 0 12 (dk_at dksX3_isAnswered_0 1 rfl rfl)
theorem dX3_isAnswered_4 : decode cX3_isAnswered 4 = .ok (.aload_n 0, 1) := dk_42 (dk_at dksX3_isAnswered_0 4 rfl rfl)
theorem dX3_isAnswered_5 : decode cX3_isAnswered 5 = .ok (.iload_n 1, 1) := dk_27 (dk_at dksX3_isAnswered_0 5 rfl rfl)
theorem dX3_isAnswered_6 : decode cX3_isAnswered 6 = .ok (.iload_n 2, 1) := dk_28 (dk_at dksX3_isAnswered_0 6 rfl rfl)
theorem dX3_isAnswered_7 : decode cX3_isAnswered 7 = .ok (.invokespecial 7, 3) := dk_183 0 7 (dk_at dksX3_isAnswered_0 7 rfl rfl)
theorem dX3_isAnswered_10 : decode cX3_isAnswered 10 = .ok (.ifCond .eq 7, 3) := dk_153 0 7 (dk_at dksX3_isAnswered_0 10 rfl rfl)
theorem dX3_isAnswered_13 : decode cX3_isAnswered 13 = .ok (.iconst 1, 1) := dk_4 (dk_at dksX3_isAnswered_0 13 rfl rfl)
theorem dX3_isAnswered_14 : decode cX3_isAnswered 14 = .ok (.goto 4, 3) := dk_167 0 4 (dk_at dksX3_isAnswered_0 14 rfl rfl)
theorem dX3_isAnswered_17 : decode cX3_isAnswered 17 = .ok (.iconst 0, 1) := dk_3 (dk_at dksX3_isAnswered_0 17 rfl rfl)
theorem dX3_isAnswered_18 : decode cX3_isAnswered 18 = .ok (.ireturn, 1) := dk_172 (dk_at dksX3_isAnswered_0 18 rfl rfl)
abbrev cX3_init : ByteArray := prog_3_method_1_code
def yX3_init : MethodName := ⟨RX3, "<init>", "()V"⟩
theorem dX3_init_0 : decode cX3_init 0 = .ok (.aload_n 0, 1) := by decide +kernel
theorem dX3_init_1 : decode cX3_init 1 = .ok (.invokespecial 1, 3) := by decide +kernel
theorem dX3_init_4 : decode cX3_init 4 = .ok (.return_, 1) := by decide +kernel
theorem q92 : (Jvm.Cond.initialized "QuestionRoad$Common") ∈ lw_all := lw_g (lw_at lw_m1 4 rfl) rfl
theorem q203 : (Jvm.Cond.selects "QuestionRoad$Common" ({ cls := "QuestionRoad$Question", name := "kind", desc := "()I" } : Jvm.MethodName) ({ cls := "QuestionRoad$Common", name := "kind", desc := "()I" } : Jvm.MethodName)) ∈ lw_all := lw_g (lw_at lw_m1 115 rfl) rfl
theorem q204 : (Jvm.Cond.instanceMethod ({ cls := "QuestionRoad$Common", name := "kind", desc := "()I" } : Jvm.MethodName)) ∈ lw_all := lw_g (lw_at lw_m1 116 rfl) rfl
theorem q205 : (Jvm.Cond.code ({ cls := "QuestionRoad$Common", name := "kind", desc := "()I" } : Jvm.MethodName) prog_3_method_2_code (1 : Nat) (Option.some Jvm.ClassFile.FieldType.int)) ∈ lw_all := lw_g (lw_at lw_m1 117 rfl) rfl
theorem q337 : (Jvm.Cond.selects "QuestionRoad$Common" ({ cls := "QuestionRoad$Question", name := "isAnswered", desc := "(ZZ)Z" } : Jvm.MethodName) ({ cls := "QuestionRoad$Common", name := "isAnswered", desc := "(ZZ)Z" } : Jvm.MethodName)) ∈ lw_all := lw_g (lw_at lw_m2 9 rfl) rfl
theorem q338 : (Jvm.Cond.instanceMethod ({ cls := "QuestionRoad$Common", name := "isAnswered", desc := "(ZZ)Z" } : Jvm.MethodName)) ∈ lw_all := lw_g (lw_at lw_m2 10 rfl) rfl
theorem q339 : (Jvm.Cond.code ({ cls := "QuestionRoad$Common", name := "isAnswered", desc := "(ZZ)Z" } : Jvm.MethodName) prog_3_method_3_code (3 : Nat) (Option.some Jvm.ClassFile.FieldType.boolean)) ∈ lw_all := lw_g (lw_at lw_m2 11 rfl) rfl
theorem q340 : (Jvm.Cond.methodLink "QuestionRoad$Common" (7 : Nat) ({ cls := "QuestionRoad$Open", name := "isAnswered", desc := "(ZZ)Z" } : Jvm.MethodName)) ∈ lw_all := lw_g (lw_at lw_m2 12 rfl) rfl
theorem q341 : (Jvm.Cond.superclass "QuestionRoad$Common" "QuestionRoad$Open") ∈ lw_all := lw_g (lw_at lw_m2 13 rfl) rfl
theorem q535 : (Jvm.Cond.instantiable "QuestionRoad$Common" (0 : Nat)) ∈ lw_all := lw_g (lw_at lw_m2 207 rfl) rfl
theorem q537 : (Jvm.Cond.instanceMethod ({ cls := "QuestionRoad$Common", name := "<init>", desc := "()V" } : Jvm.MethodName)) ∈ lw_all := lw_g (lw_at lw_m2 209 rfl) rfl
theorem q538 : (Jvm.Cond.code ({ cls := "QuestionRoad$Common", name := "<init>", desc := "()V" } : Jvm.MethodName) prog_3_method_1_code (1 : Nat) (Option.none : Option Jvm.ClassFile.FieldType)) ∈ lw_all := lw_g (lw_at lw_m2 210 rfl) rfl
theorem q539 : (Jvm.Cond.methodLinkNest "QuestionRoad$Common" (1 : Nat) ({ cls := "QuestionRoad$Open", name := "<init>", desc := "()V" } : Jvm.MethodName) "QuestionRoad") ∈ lw_tbl := lw_at lw_m2 211 rfl
theorem q1373 : (Jvm.Cond.castable "QuestionRoad$Common" "QuestionRoad$Question") ∈ lw_tbl := lw_at lw_m6 85 rfl
/-! QuestionRoad$Sheet -/
set_option maxRecDepth 100000
def RX4 : String := "QuestionRoad$Sheet"
def TX4 : u_T := fun k => match k with
  | 0 => ("QuestionRoad$Sheet", "form", "I", false)
  | _ => ("QuestionRoad$Sheet", "row", "Ljava/lang/Object;", false)
def tyX4 : Nat → FieldType := fun k => match k with
  | 0 => .int
  | _ => .object "java/lang/Object"
abbrev wsX40 : List Cond := u_ws RX4 TX4 2
theorem nmX4 : ∀ a, a < 2 → ∀ b, b < 2 → a ≠ b → (TX4 a).2.1 ≠ (TX4 b).2.1 := by decide +kernel
theorem tyX4_ok : ∀ k, k < 2 → parseFieldDescriptor (TX4 k).2.2.1 = some (tyX4 k) := by decide +kernel
abbrev cX4_size : ByteArray := prog_6_method_2_code
def yX4_size : MethodName := ⟨RX4, "size", "()I"⟩
def dkwX4_size_1 : List UInt8 := [160, 0, 14, 42, 180, 0, 13, 192, 0, 19, 190, 167, 0, 11, 42, 180, 0, 13, 192, 0, 21, 190, 172]
abbrev dktX4_size_1 : List UInt8 := dkwX4_size_1 ++ []
def dkwX4_size_0 : List UInt8 := [42, 180, 0, 7, 154, 0, 14, 42, 180, 0, 13, 192, 0, 17, 190, 167, 0, 30, 42, 180, 0, 7, 4]
abbrev dktX4_size_0 : List UInt8 := dkwX4_size_0 ++ dktX4_size_1
theorem dksX4_size_0 : cX4_size.data.toList.drop 0 = dktX4_size_0 := by decide +kernel
theorem dksX4_size_1 : cX4_size.data.toList.drop 23 = dktX4_size_1 := dk_seg dksX4_size_0 23 rfl rfl
theorem dX4_size_0 : decode cX4_size 0 = .ok (.aload_n 0, 1) := dk_42 (dk_at dksX4_size_0 0 rfl rfl)
theorem dX4_size_1 : decode cX4_size 1 = .ok (.getfield 7, 3) := dk_180 0 7 (dk_at dksX4_size_0 1 rfl rfl)
theorem dX4_size_4 : decode cX4_size 4 = .ok (.ifCond .ne 14, 3) := dk_154 0 14 (dk_at dksX4_size_0 4 rfl rfl)
theorem dX4_size_7 : decode cX4_size 7 = .ok (.aload_n 0, 1) := dk_42 (dk_at dksX4_size_0 7 rfl rfl)
theorem dX4_size_8 : decode cX4_size 8 = .ok (.getfield 13, 3) := dk_180 0 13 (dk_at dksX4_size_0 8 rfl rfl)
theorem dX4_size_11 : decode cX4_size 11 = .ok (.checkcast 17, 3) := dk_192 0 17 (dk_at dksX4_size_0 11 rfl rfl)
theorem dX4_size_14 : decode cX4_size 14 = .ok (.arraylength, 1) := dk_190 (dk_at dksX4_size_0 14 rfl rfl)
theorem dX4_size_15 : decode cX4_size 15 = .ok (.goto 30, 3) := dk_167 0 30 (dk_at dksX4_size_0 15 rfl rfl)
theorem dX4_size_18 : decode cX4_size 18 = .ok (.aload_n 0, 1) := dk_42 (dk_at dksX4_size_0 18 rfl rfl)
theorem dX4_size_19 : decode cX4_size 19 = .ok (.getfield 7, 3) := dk_180 0 7 (dk_at dksX4_size_0 19 rfl rfl)
theorem dX4_size_22 : decode cX4_size 22 = .ok (.iconst 1, 1) := dk_4 (dk_at dksX4_size_0 22 rfl rfl)
theorem dX4_size_23 : decode cX4_size 23 = .ok (.if_icmp .ne 14, 3) := dk_160 0 14 (dk_at dksX4_size_1 0 rfl rfl)
theorem dX4_size_26 : decode cX4_size 26 = .ok (.aload_n 0, 1) := dk_42 (dk_at dksX4_size_1 3 rfl rfl)
theorem dX4_size_27 : decode cX4_size 27 = .ok (.getfield 13, 3) := dk_180 0 13 (dk_at dksX4_size_1 4 rfl rfl)
theorem dX4_size_30 : decode cX4_size 30 = .ok (.checkcast 19, 3) := dk_192 0 19 (dk_at dksX4_size_1 7 rfl rfl)
theorem dX4_size_33 : decode cX4_size 33 = .ok (.arraylength, 1) := dk_190 (dk_at dksX4_size_1 10 rfl rfl)
theorem dX4_size_34 : decode cX4_size 34 = .ok (.goto 11, 3) := dk_167 0 11 (dk_at dksX4_size_1 11 rfl rfl)
theorem dX4_size_37 : decode cX4_size 37 = .ok (.aload_n 0, 1) := dk_42 (dk_at dksX4_size_1 14 rfl rfl)
theorem dX4_size_38 : decode cX4_size 38 = .ok (.getfield 13, 3) := dk_180 0 13 (dk_at dksX4_size_1 15 rfl rfl)
theorem dX4_size_41 : decode cX4_size 41 = .ok (.checkcast 21, 3) := dk_192 0 21 (dk_at dksX4_size_1 18 rfl rfl)
theorem dX4_size_44 : decode cX4_size 44 = .ok (.arraylength, 1) := dk_190 (dk_at dksX4_size_1 21 rfl rfl)
theorem dX4_size_45 : decode cX4_size 45 = .ok (.ireturn, 1) := dk_172 (dk_at dksX4_size_1 22 rfl rfl)
abbrev cX4_item : ByteArray := prog_6_method_3_code
def yX4_item : MethodName := ⟨RX4, "item", "(I)I"⟩
def dkwX4_item_0 : List UInt8 := [42, 180, 0, 13, 42, 180, 0, 7, 27, 184, 0, 23, 172]
abbrev dktX4_item_0 : List UInt8 := dkwX4_item_0 ++ []
theorem dksX4_item_0 : cX4_item.data.toList.drop 0 = dktX4_item_0 := by decide +kernel
theorem dX4_item_0 : decode cX4_item 0 = .ok (.aload_n 0, 1) := dk_42 (dk_at dksX4_item_0 0 rfl rfl)
theorem dX4_item_1 : decode cX4_item 1 = .ok (.getfield 13, 3) := dk_180 0 13 (dk_at dksX4_item_0 1 rfl rfl)
theorem dX4_item_4 : decode cX4_item 4 = .ok (.aload_n 0, 1) := dk_42 (dk_at dksX4_item_0 4 rfl rfl)
theorem dX4_item_5 : decode cX4_item 5 = .ok (.getfield 7, 3) := dk_180 0 7 (dk_at dksX4_item_0 5 rfl rfl)
theorem dX4_item_8 : decode cX4_item 8 = .ok (.iload_n 1, 1) := dk_27 (dk_at dksX4_item_0 8 rfl rfl)
theorem dX4_item_9 : decode cX4_item 9 = .ok (.invokestatic 23, 3) := dk_184 0 23 (dk_at dksX4_item_0 9 rfl rfl)
theorem dX4_item_12 : decode cX4_item 12 = .ok (.ireturn, 1) := dk_172 (dk_at dksX4_item_0 12 rfl rfl)
abbrev cX4_init : ByteArray := prog_6_method_1_code
def yX4_init : MethodName := ⟨RX4, "<init>", "()V"⟩
theorem dX4_init_0 : decode cX4_init 0 = .ok (.aload_n 0, 1) := by decide +kernel
theorem dX4_init_1 : decode cX4_init 1 = .ok (.invokespecial 1, 3) := by decide +kernel
theorem dX4_init_4 : decode cX4_init 4 = .ok (.return_, 1) := by decide +kernel
theorem q93 : (Jvm.Cond.initialized "QuestionRoad$Sheet") ∈ lw_all := lw_g (lw_at lw_m1 5 rfl) rfl
theorem q244 : (Jvm.Cond.instanceMethod ({ cls := "QuestionRoad$Sheet", name := "size", desc := "()I" } : Jvm.MethodName)) ∈ lw_all := lw_g (lw_at lw_m1 156 rfl) rfl
theorem q245 : (Jvm.Cond.selects "QuestionRoad$Sheet" ({ cls := "QuestionRoad$Sheet", name := "size", desc := "()I" } : Jvm.MethodName) ({ cls := "QuestionRoad$Sheet", name := "size", desc := "()I" } : Jvm.MethodName)) ∈ lw_all := lw_g (lw_at lw_m1 157 rfl) rfl
theorem q246 : (Jvm.Cond.code ({ cls := "QuestionRoad$Sheet", name := "size", desc := "()I" } : Jvm.MethodName) prog_6_method_2_code (1 : Nat) (Option.some Jvm.ClassFile.FieldType.int)) ∈ lw_all := lw_g (lw_at lw_m1 158 rfl) rfl
theorem q247 : (Jvm.Cond.classLink "QuestionRoad$Sheet" (17 : Nat) "[B") ∈ lw_all := lw_g (lw_at lw_m1 159 rfl) rfl
theorem q248 : (Jvm.Cond.classLink "QuestionRoad$Sheet" (19 : Nat) "[S") ∈ lw_all := lw_g (lw_at lw_m1 160 rfl) rfl
theorem q249 : (Jvm.Cond.classLink "QuestionRoad$Sheet" (21 : Nat) "[I") ∈ lw_all := lw_g (lw_at lw_m1 161 rfl) rfl
theorem q251 : (Jvm.Cond.instanceMethod ({ cls := "QuestionRoad$Sheet", name := "item", desc := "(I)I" } : Jvm.MethodName)) ∈ lw_all := lw_g (lw_at lw_m1 163 rfl) rfl
theorem q252 : (Jvm.Cond.selects "QuestionRoad$Sheet" ({ cls := "QuestionRoad$Sheet", name := "item", desc := "(I)I" } : Jvm.MethodName) ({ cls := "QuestionRoad$Sheet", name := "item", desc := "(I)I" } : Jvm.MethodName)) ∈ lw_all := lw_g (lw_at lw_m1 164 rfl) rfl
theorem q253 : (Jvm.Cond.code ({ cls := "QuestionRoad$Sheet", name := "item", desc := "(I)I" } : Jvm.MethodName) prog_6_method_3_code (2 : Nat) (Option.some Jvm.ClassFile.FieldType.int)) ∈ lw_all := lw_g (lw_at lw_m1 165 rfl) rfl
theorem q254 : (Jvm.Cond.methodLinkNest "QuestionRoad$Sheet" (23 : Nat) ({ cls := "QuestionRoad", name := "taken", desc := "(Ljava/lang/Object;II)I" } : Jvm.MethodName) "QuestionRoad") ∈ lw_tbl := lw_at lw_m1 166 rfl
theorem q546 : (Jvm.Cond.instantiable "QuestionRoad$Sheet" (2 : Nat)) ∈ lw_all := lw_g (lw_at lw_m2 218 rfl) rfl
theorem q548 : (Jvm.Cond.instanceMethod ({ cls := "QuestionRoad$Sheet", name := "<init>", desc := "()V" } : Jvm.MethodName)) ∈ lw_all := lw_g (lw_at lw_m2 220 rfl) rfl
theorem q549 : (Jvm.Cond.code ({ cls := "QuestionRoad$Sheet", name := "<init>", desc := "()V" } : Jvm.MethodName) prog_6_method_1_code (1 : Nat) (Option.none : Option Jvm.ClassFile.FieldType)) ∈ lw_all := lw_g (lw_at lw_m2 221 rfl) rfl
theorem q550 : (Jvm.Cond.methodLink "QuestionRoad$Sheet" (1 : Nat) ({ cls := "java/lang/Object", name := "<init>", desc := "()V" } : Jvm.MethodName)) ∈ lw_all := lw_g (lw_at lw_m2 222 rfl) rfl
theorem q551 : (Jvm.Cond.fieldLink "QuestionRoad$Sheet" (7 : Nat) "QuestionRoad$Sheet" "form" "I") ∈ lw_all := lw_g (lw_at lw_m2 223 rfl) rfl
theorem q553 : (Jvm.Cond.fieldLink "QuestionRoad$Sheet" (13 : Nat) "QuestionRoad$Sheet" "row" "Ljava/lang/Object;") ∈ lw_all := lw_g (lw_at lw_m2 225 rfl) rfl
theorem q555 : (Jvm.Cond.lays "QuestionRoad$Sheet" "QuestionRoad$Sheet" "form" "I") ∈ lw_all := lw_g (lw_at lw_m2 227 rfl) rfl
theorem q556 : (Jvm.Cond.soleField "QuestionRoad$Sheet" "form") ∈ lw_all := lw_g (lw_at lw_m2 228 rfl) rfl
theorem q557 : (Jvm.Cond.lays "QuestionRoad$Sheet" "QuestionRoad$Sheet" "row" "Ljava/lang/Object;") ∈ lw_all := lw_g (lw_at lw_m2 229 rfl) rfl
theorem q558 : (Jvm.Cond.soleField "QuestionRoad$Sheet" "row") ∈ lw_all := lw_g (lw_at lw_m2 230 rfl) rfl
theorem q559 : (Jvm.Cond.superclass "QuestionRoad$Sheet" "java/lang/Object") ∈ lw_all := lw_g (lw_at lw_m2 231 rfl) rfl
theorem in_X4 : ∀ w ∈ wsX40, w ∈ lw_all := lw_in wsX40 [555, 557] (by decide +kernel) (by decide +kernel)
/-! QuestionRoad$Carter -/
set_option maxRecDepth 100000
def RX5 : String := "QuestionRoad$Carter"
def TX5 : u_T := fun k => match k with
  | 0 => ("QuestionRoad$Carter", "from", "I", false)
  | 1 => ("QuestionRoad$Carter", "goal", "I", false)
  | 2 => ("QuestionRoad$Carter", "question", "LQuestionRoad$Question;", false)
  | 3 => ("QuestionRoad$Carter", "strength", "I", false)
  | 4 => ("QuestionRoad$Carter", "load", "I", false)
  | 5 => ("QuestionRoad$Carter", "late", "I", false)
  | 6 => ("QuestionRoad$Carter", "is", "I", false)
  | 7 => ("QuestionRoad$Carter", "place", "I", false)
  | 8 => ("QuestionRoad$Carter", "left", "I", false)
  | 9 => ("QuestionRoad$Carter", "whither", "I", false)
  | 10 => ("QuestionRoad$Carter", "arrives", "I", false)
  | _ => ("QuestionRoad$Carter", "ended", "I", false)
def tyX5 : Nat → FieldType := fun k => match k with
  | 0 => .int
  | 1 => .int
  | 2 => .object "QuestionRoad$Question"
  | 3 => .int
  | 4 => .int
  | 5 => .int
  | 6 => .int
  | 7 => .int
  | 8 => .int
  | 9 => .int
  | 10 => .int
  | _ => .int
abbrev wsX50 : List Cond := u_ws RX5 TX5 12
theorem nmX5 : ∀ a, a < 12 → ∀ b, b < 12 → a ≠ b → (TX5 a).2.1 ≠ (TX5 b).2.1 := by decide +kernel
theorem tyX5_ok : ∀ k, k < 12 → parseFieldDescriptor (TX5 k).2.2.1 = some (tyX5 k) := by decide +kernel
abbrev cX5_begins : ByteArray := prog_2_method_2_code
def yX5_begins : MethodName := ⟨RX5, "begins", "()V"⟩
def dkwX5_begins_1 : List UInt8 := [181, 0, 27, 42, 42, 180, 0, 30, 181, 0, 33, 42, 2, 181, 0, 36, 177]
abbrev dktX5_begins_1 : List UInt8 := dkwX5_begins_1 ++ []
def dkwX5_begins_0 : List UInt8 := [42, 3, 181, 0, 9, 42, 2, 181, 0, 15, 42, 42, 180, 0, 18, 181, 0, 21, 42, 42, 180, 0, 24]
abbrev dktX5_begins_0 : List UInt8 := dkwX5_begins_0 ++ dktX5_begins_1
theorem dksX5_begins_0 : cX5_begins.data.toList.drop 0 = dktX5_begins_0 := by decide +kernel
theorem dksX5_begins_1 : cX5_begins.data.toList.drop 23 = dktX5_begins_1 := dk_seg dksX5_begins_0 23 rfl rfl
theorem dX5_begins_0 : decode cX5_begins 0 = .ok (.aload_n 0, 1) := dk_42 (dk_at dksX5_begins_0 0 rfl rfl)
theorem dX5_begins_1 : decode cX5_begins 1 = .ok (.iconst 0, 1) := dk_3 (dk_at dksX5_begins_0 1 rfl rfl)
theorem dX5_begins_2 : decode cX5_begins 2 = .ok (.putfield 9, 3) := dk_181 0 9 (dk_at dksX5_begins_0 2 rfl rfl)
theorem dX5_begins_5 : decode cX5_begins 5 = .ok (.aload_n 0, 1) := dk_42 (dk_at dksX5_begins_0 5 rfl rfl)
theorem dX5_begins_6 : decode cX5_begins 6 = .ok (.iconst (-1), 1) := dk_2 (dk_at dksX5_begins_0 6 rfl rfl)
theorem dX5_begins_7 : decode cX5_begins 7 = .ok (.putfield 15, 3) := dk_181 0 15 (dk_at dksX5_begins_0 7 rfl rfl)
theorem dX5_begins_10 : decode cX5_begins 10 = .ok (.aload_n 0, 1) := dk_42 (dk_at dksX5_begins_0 10 rfl rfl)
theorem dX5_begins_11 : decode cX5_begins 11 = .ok (.aload_n 0, 1) := dk_42 (dk_at dksX5_begins_0 11 rfl rfl)
theorem dX5_begins_12 : decode cX5_begins 12 = .ok (.getfield 18, 3) := dk_180 0 18 (dk_at dksX5_begins_0 12 rfl rfl)
theorem dX5_begins_15 : decode cX5_begins 15 = .ok (.putfield 21, 3) := dk_181 0 21 (dk_at dksX5_begins_0 15 rfl rfl)
theorem dX5_begins_18 : decode cX5_begins 18 = .ok (.aload_n 0, 1) := dk_42 (dk_at dksX5_begins_0 18 rfl rfl)
theorem dX5_begins_19 : decode cX5_begins 19 = .ok (.aload_n 0, 1) := dk_42 (dk_at dksX5_begins_0 19 rfl rfl)
theorem dX5_begins_20 : decode cX5_begins 20 = .ok (.getfield 24, 3) := dk_180 0 24 (dk_at dksX5_begins_0 20 rfl rfl)
theorem dX5_begins_23 : decode cX5_begins 23 = .ok (.putfield 27, 3) := dk_181 0 27 (dk_at dksX5_begins_1 0 rfl rfl)
theorem dX5_begins_26 : decode cX5_begins 26 = .ok (.aload_n 0, 1) := dk_42 (dk_at dksX5_begins_1 3 rfl rfl)
theorem dX5_begins_27 : decode cX5_begins 27 = .ok (.aload_n 0, 1) := dk_42 (dk_at dksX5_begins_1 4 rfl rfl)
theorem dX5_begins_28 : decode cX5_begins 28 = .ok (.getfield 30, 3) := dk_180 0 30 (dk_at dksX5_begins_1 5 rfl rfl)
theorem dX5_begins_31 : decode cX5_begins 31 = .ok (.putfield 33, 3) := dk_181 0 33 (dk_at dksX5_begins_1 8 rfl rfl)
theorem dX5_begins_34 : decode cX5_begins 34 = .ok (.aload_n 0, 1) := dk_42 (dk_at dksX5_begins_1 11 rfl rfl)
theorem dX5_begins_35 : decode cX5_begins 35 = .ok (.iconst (-1), 1) := dk_2 (dk_at dksX5_begins_1 12 rfl rfl)
theorem dX5_begins_36 : decode cX5_begins 36 = .ok (.putfield 36, 3) := dk_181 0 36 (dk_at dksX5_begins_1 13 rfl rfl)
theorem dX5_begins_39 : decode cX5_begins 39 = .ok (.return_, 1) := dk_177 (dk_at dksX5_begins_1 16 rfl rfl)
abbrev cX5_ends : ByteArray := prog_2_method_3_code
def yX5_ends : MethodName := ⟨RX5, "ends", "(II)V"⟩
def dkwX5_ends_0 : List UInt8 := [42, 27, 181, 0, 9, 42, 28, 181, 0, 36, 42, 2, 181, 0, 27, 177]
abbrev dktX5_ends_0 : List UInt8 := dkwX5_ends_0 ++ []
theorem dksX5_ends_0 : cX5_ends.data.toList.drop 0 = dktX5_ends_0 := by decide +kernel
theorem dX5_ends_0 : decode cX5_ends 0 = .ok (.aload_n 0, 1) := dk_42 (dk_at dksX5_ends_0 0 rfl rfl)
theorem dX5_ends_1 : decode cX5_ends 1 = .ok (.iload_n 1, 1) := dk_27 (dk_at dksX5_ends_0 1 rfl rfl)
theorem dX5_ends_2 : decode cX5_ends 2 = .ok (.putfield 9, 3) := dk_181 0 9 (dk_at dksX5_ends_0 2 rfl rfl)
theorem dX5_ends_5 : decode cX5_ends 5 = .ok (.aload_n 0, 1) := dk_42 (dk_at dksX5_ends_0 5 rfl rfl)
theorem dX5_ends_6 : decode cX5_ends 6 = .ok (.iload_n 2, 1) := dk_28 (dk_at dksX5_ends_0 6 rfl rfl)
theorem dX5_ends_7 : decode cX5_ends 7 = .ok (.putfield 36, 3) := dk_181 0 36 (dk_at dksX5_ends_0 7 rfl rfl)
theorem dX5_ends_10 : decode cX5_ends 10 = .ok (.aload_n 0, 1) := dk_42 (dk_at dksX5_ends_0 10 rfl rfl)
theorem dX5_ends_11 : decode cX5_ends 11 = .ok (.iconst (-1), 1) := dk_2 (dk_at dksX5_ends_0 11 rfl rfl)
theorem dX5_ends_12 : decode cX5_ends 12 = .ok (.putfield 27, 3) := dk_181 0 27 (dk_at dksX5_ends_0 12 rfl rfl)
theorem dX5_ends_15 : decode cX5_ends 15 = .ok (.return_, 1) := dk_177 (dk_at dksX5_ends_0 15 rfl rfl)
abbrev cX5_setsOut : ByteArray := prog_2_method_4_code
def yX5_setsOut : MethodName := ⟨RX5, "setsOut", "(III)V"⟩
def dkwX5_setsOut_1 : List UInt8 := [181, 0, 15, 42, 27, 181, 0, 27, 42, 29, 28, 96, 181, 0, 33, 177]
abbrev dktX5_setsOut_1 : List UInt8 := dkwX5_setsOut_1 ++ []
def dkwX5_setsOut_0 : List UInt8 := [42, 89, 180, 0, 21, 28, 42, 180, 0, 39, 96, 100, 181, 0, 21, 42, 4, 181, 0, 9, 42, 2]
abbrev dktX5_setsOut_0 : List UInt8 := dkwX5_setsOut_0 ++ dktX5_setsOut_1
theorem dksX5_setsOut_0 : cX5_setsOut.data.toList.drop 0 = dktX5_setsOut_0 := by decide +kernel
theorem dksX5_setsOut_1 : cX5_setsOut.data.toList.drop 22 = dktX5_setsOut_1 := dk_seg dksX5_setsOut_0 22 rfl rfl
theorem dX5_setsOut_0 : decode cX5_setsOut 0 = .ok (.aload_n 0, 1) := dk_42 (dk_at dksX5_setsOut_0 0 rfl rfl)
theorem dX5_setsOut_1 : decode cX5_setsOut 1 = .ok (.dup, 1) := dk_89 (dk_at dksX5_setsOut_0 1 rfl rfl)
theorem dX5_setsOut_2 : decode cX5_setsOut 2 = .ok (.getfield 21, 3) := dk_180 0 21 (dk_at dksX5_setsOut_0 2 rfl rfl)
theorem dX5_setsOut_5 : decode cX5_setsOut 5 = .ok (.iload_n 2, 1) := dk_28 (dk_at dksX5_setsOut_0 5 rfl rfl)
theorem dX5_setsOut_6 : decode cX5_setsOut 6 = .ok (.aload_n 0, 1) := dk_42 (dk_at dksX5_setsOut_0 6 rfl rfl)
theorem dX5_setsOut_7 : decode cX5_setsOut 7 = .ok (.getfield 39, 3) := dk_180 0 39 (dk_at dksX5_setsOut_0 7 rfl rfl)
theorem dX5_setsOut_10 : decode cX5_setsOut 10 = .ok (.iadd, 1) := dk_96 (dk_at dksX5_setsOut_0 10 rfl rfl)
theorem dX5_setsOut_11 : decode cX5_setsOut 11 = .ok (.isub, 1) := dk_100 (dk_at dksX5_setsOut_0 11 rfl rfl)
theorem dX5_setsOut_12 : decode cX5_setsOut 12 = .ok (.putfield 21, 3) := dk_181 0 21 (dk_at dksX5_setsOut_0 12 rfl rfl)
theorem dX5_setsOut_15 : decode cX5_setsOut 15 = .ok (.aload_n 0, 1) := dk_42 (dk_at dksX5_setsOut_0 15 rfl rfl)
theorem dX5_setsOut_16 : decode cX5_setsOut 16 = .ok (.iconst 1, 1) := dk_4 (dk_at dksX5_setsOut_0 16 rfl rfl)
theorem dX5_setsOut_17 : decode cX5_setsOut 17 = .ok (.putfield 9, 3) := dk_181 0 9 (dk_at dksX5_setsOut_0 17 rfl rfl)
theorem dX5_setsOut_20 : decode cX5_setsOut 20 = .ok (.aload_n 0, 1) := dk_42 (dk_at dksX5_setsOut_0 20 rfl rfl)
theorem dX5_setsOut_21 : decode cX5_setsOut 21 = .ok (.iconst (-1), 1) := dk_2 (dk_at dksX5_setsOut_0 21 rfl rfl)
theorem dX5_setsOut_22 : decode cX5_setsOut 22 = .ok (.putfield 15, 3) := dk_181 0 15 (dk_at dksX5_setsOut_1 0 rfl rfl)
theorem dX5_setsOut_25 : decode cX5_setsOut 25 = .ok (.aload_n 0, 1) := dk_42 (dk_at dksX5_setsOut_1 3 rfl rfl)
theorem dX5_setsOut_26 : decode cX5_setsOut 26 = .ok (.iload_n 1, 1) := dk_27 (dk_at dksX5_setsOut_1 4 rfl rfl)
theorem dX5_setsOut_27 : decode cX5_setsOut 27 = .ok (.putfield 27, 3) := dk_181 0 27 (dk_at dksX5_setsOut_1 5 rfl rfl)
theorem dX5_setsOut_30 : decode cX5_setsOut 30 = .ok (.aload_n 0, 1) := dk_42 (dk_at dksX5_setsOut_1 8 rfl rfl)
theorem dX5_setsOut_31 : decode cX5_setsOut 31 = .ok (.iload_n 3, 1) := dk_29 (dk_at dksX5_setsOut_1 9 rfl rfl)
theorem dX5_setsOut_32 : decode cX5_setsOut 32 = .ok (.iload_n 2, 1) := dk_28 (dk_at dksX5_setsOut_1 10 rfl rfl)
theorem dX5_setsOut_33 : decode cX5_setsOut 33 = .ok (.iadd, 1) := dk_96 (dk_at dksX5_setsOut_1 11 rfl rfl)
theorem dX5_setsOut_34 : decode cX5_setsOut 34 = .ok (.putfield 33, 3) := dk_181 0 33 (dk_at dksX5_setsOut_1 12 rfl rfl)
theorem dX5_setsOut_37 : decode cX5_setsOut 37 = .ok (.return_, 1) := dk_177 (dk_at dksX5_setsOut_1 15 rfl rfl)
abbrev cX5_init : ByteArray := prog_2_method_1_code
def yX5_init : MethodName := ⟨RX5, "<init>", "()V"⟩
theorem dX5_init_0 : decode cX5_init 0 = .ok (.aload_n 0, 1) := by decide +kernel
theorem dX5_init_1 : decode cX5_init 1 = .ok (.invokespecial 3, 3) := by decide +kernel
theorem dX5_init_4 : decode cX5_init 4 = .ok (.return_, 1) := by decide +kernel
theorem q94 : (Jvm.Cond.initialized "QuestionRoad$Carter") ∈ lw_all := lw_g (lw_at lw_m1 6 rfl) rfl
theorem q303 : (Jvm.Cond.instanceMethod ({ cls := "QuestionRoad$Carter", name := "begins", desc := "()V" } : Jvm.MethodName)) ∈ lw_all := lw_g (lw_at lw_m1 215 rfl) rfl
theorem q304 : (Jvm.Cond.selects "QuestionRoad$Carter" ({ cls := "QuestionRoad$Carter", name := "begins", desc := "()V" } : Jvm.MethodName) ({ cls := "QuestionRoad$Carter", name := "begins", desc := "()V" } : Jvm.MethodName)) ∈ lw_all := lw_g (lw_at lw_m1 216 rfl) rfl
theorem q305 : (Jvm.Cond.code ({ cls := "QuestionRoad$Carter", name := "begins", desc := "()V" } : Jvm.MethodName) prog_2_method_2_code (1 : Nat) (Option.none : Option Jvm.ClassFile.FieldType)) ∈ lw_all := lw_g (lw_at lw_m1 217 rfl) rfl
theorem q323 : (Jvm.Cond.instanceMethod ({ cls := "QuestionRoad$Carter", name := "ends", desc := "(II)V" } : Jvm.MethodName)) ∈ lw_all := lw_g (lw_at lw_m1 235 rfl) rfl
theorem q324 : (Jvm.Cond.selects "QuestionRoad$Carter" ({ cls := "QuestionRoad$Carter", name := "ends", desc := "(II)V" } : Jvm.MethodName) ({ cls := "QuestionRoad$Carter", name := "ends", desc := "(II)V" } : Jvm.MethodName)) ∈ lw_all := lw_g (lw_at lw_m1 236 rfl) rfl
theorem q325 : (Jvm.Cond.code ({ cls := "QuestionRoad$Carter", name := "ends", desc := "(II)V" } : Jvm.MethodName) prog_2_method_3_code (3 : Nat) (Option.none : Option Jvm.ClassFile.FieldType)) ∈ lw_all := lw_g (lw_at lw_m1 237 rfl) rfl
theorem q353 : (Jvm.Cond.instanceMethod ({ cls := "QuestionRoad$Carter", name := "setsOut", desc := "(III)V" } : Jvm.MethodName)) ∈ lw_all := lw_g (lw_at lw_m2 25 rfl) rfl
theorem q354 : (Jvm.Cond.selects "QuestionRoad$Carter" ({ cls := "QuestionRoad$Carter", name := "setsOut", desc := "(III)V" } : Jvm.MethodName) ({ cls := "QuestionRoad$Carter", name := "setsOut", desc := "(III)V" } : Jvm.MethodName)) ∈ lw_all := lw_g (lw_at lw_m2 26 rfl) rfl
theorem q355 : (Jvm.Cond.code ({ cls := "QuestionRoad$Carter", name := "setsOut", desc := "(III)V" } : Jvm.MethodName) prog_2_method_4_code (4 : Nat) (Option.none : Option Jvm.ClassFile.FieldType)) ∈ lw_all := lw_g (lw_at lw_m2 27 rfl) rfl
theorem q560 : (Jvm.Cond.instantiable "QuestionRoad$Carter" (12 : Nat)) ∈ lw_all := lw_g (lw_at lw_m2 232 rfl) rfl
theorem q562 : (Jvm.Cond.instanceMethod ({ cls := "QuestionRoad$Carter", name := "<init>", desc := "()V" } : Jvm.MethodName)) ∈ lw_all := lw_g (lw_at lw_m2 234 rfl) rfl
theorem q563 : (Jvm.Cond.code ({ cls := "QuestionRoad$Carter", name := "<init>", desc := "()V" } : Jvm.MethodName) prog_2_method_1_code (1 : Nat) (Option.none : Option Jvm.ClassFile.FieldType)) ∈ lw_all := lw_g (lw_at lw_m2 235 rfl) rfl
theorem q564 : (Jvm.Cond.methodLink "QuestionRoad$Carter" (3 : Nat) ({ cls := "java/lang/Object", name := "<init>", desc := "()V" } : Jvm.MethodName)) ∈ lw_all := lw_g (lw_at lw_m2 236 rfl) rfl
theorem q565 : (Jvm.Cond.fieldLink "QuestionRoad$Carter" (24 : Nat) "QuestionRoad$Carter" "from" "I") ∈ lw_all := lw_g (lw_at lw_m2 237 rfl) rfl
theorem q569 : (Jvm.Cond.fieldLink "QuestionRoad$Carter" (18 : Nat) "QuestionRoad$Carter" "strength" "I") ∈ lw_all := lw_g (lw_at lw_m3 1 rfl) rfl
theorem q571 : (Jvm.Cond.fieldLink "QuestionRoad$Carter" (39 : Nat) "QuestionRoad$Carter" "load" "I") ∈ lw_all := lw_g (lw_at lw_m3 3 rfl) rfl
theorem q573 : (Jvm.Cond.fieldLink "QuestionRoad$Carter" (30 : Nat) "QuestionRoad$Carter" "late" "I") ∈ lw_all := lw_g (lw_at lw_m3 5 rfl) rfl
theorem q575 : (Jvm.Cond.fieldLink "QuestionRoad$Carter" (9 : Nat) "QuestionRoad$Carter" "is" "I") ∈ lw_all := lw_g (lw_at lw_m3 7 rfl) rfl
theorem q577 : (Jvm.Cond.fieldLink "QuestionRoad$Carter" (15 : Nat) "QuestionRoad$Carter" "place" "I") ∈ lw_all := lw_g (lw_at lw_m3 9 rfl) rfl
theorem q579 : (Jvm.Cond.fieldLink "QuestionRoad$Carter" (21 : Nat) "QuestionRoad$Carter" "left" "I") ∈ lw_all := lw_g (lw_at lw_m3 11 rfl) rfl
theorem q581 : (Jvm.Cond.fieldLink "QuestionRoad$Carter" (27 : Nat) "QuestionRoad$Carter" "whither" "I") ∈ lw_all := lw_g (lw_at lw_m3 13 rfl) rfl
theorem q583 : (Jvm.Cond.fieldLink "QuestionRoad$Carter" (33 : Nat) "QuestionRoad$Carter" "arrives" "I") ∈ lw_all := lw_g (lw_at lw_m3 15 rfl) rfl
theorem q585 : (Jvm.Cond.fieldLink "QuestionRoad$Carter" (36 : Nat) "QuestionRoad$Carter" "ended" "I") ∈ lw_all := lw_g (lw_at lw_m3 17 rfl) rfl
theorem q587 : (Jvm.Cond.lays "QuestionRoad$Carter" "QuestionRoad$Carter" "from" "I") ∈ lw_all := lw_g (lw_at lw_m3 19 rfl) rfl
theorem q588 : (Jvm.Cond.soleField "QuestionRoad$Carter" "from") ∈ lw_all := lw_g (lw_at lw_m3 20 rfl) rfl
theorem q589 : (Jvm.Cond.lays "QuestionRoad$Carter" "QuestionRoad$Carter" "goal" "I") ∈ lw_all := lw_g (lw_at lw_m3 21 rfl) rfl
theorem q590 : (Jvm.Cond.soleField "QuestionRoad$Carter" "goal") ∈ lw_all := lw_g (lw_at lw_m3 22 rfl) rfl
theorem q591 : (Jvm.Cond.lays "QuestionRoad$Carter" "QuestionRoad$Carter" "question" "LQuestionRoad$Question;") ∈ lw_all := lw_g (lw_at lw_m3 23 rfl) rfl
theorem q592 : (Jvm.Cond.soleField "QuestionRoad$Carter" "question") ∈ lw_all := lw_g (lw_at lw_m3 24 rfl) rfl
theorem q593 : (Jvm.Cond.lays "QuestionRoad$Carter" "QuestionRoad$Carter" "strength" "I") ∈ lw_all := lw_g (lw_at lw_m3 25 rfl) rfl
theorem q594 : (Jvm.Cond.soleField "QuestionRoad$Carter" "strength") ∈ lw_all := lw_g (lw_at lw_m3 26 rfl) rfl
theorem q595 : (Jvm.Cond.lays "QuestionRoad$Carter" "QuestionRoad$Carter" "load" "I") ∈ lw_all := lw_g (lw_at lw_m3 27 rfl) rfl
theorem q596 : (Jvm.Cond.soleField "QuestionRoad$Carter" "load") ∈ lw_all := lw_g (lw_at lw_m3 28 rfl) rfl
theorem q597 : (Jvm.Cond.lays "QuestionRoad$Carter" "QuestionRoad$Carter" "late" "I") ∈ lw_all := lw_g (lw_at lw_m3 29 rfl) rfl
theorem q598 : (Jvm.Cond.soleField "QuestionRoad$Carter" "late") ∈ lw_all := lw_g (lw_at lw_m3 30 rfl) rfl
theorem q599 : (Jvm.Cond.lays "QuestionRoad$Carter" "QuestionRoad$Carter" "is" "I") ∈ lw_all := lw_g (lw_at lw_m3 31 rfl) rfl
theorem q600 : (Jvm.Cond.soleField "QuestionRoad$Carter" "is") ∈ lw_all := lw_g (lw_at lw_m3 32 rfl) rfl
theorem q601 : (Jvm.Cond.lays "QuestionRoad$Carter" "QuestionRoad$Carter" "place" "I") ∈ lw_all := lw_g (lw_at lw_m3 33 rfl) rfl
theorem q602 : (Jvm.Cond.soleField "QuestionRoad$Carter" "place") ∈ lw_all := lw_g (lw_at lw_m3 34 rfl) rfl
theorem q603 : (Jvm.Cond.lays "QuestionRoad$Carter" "QuestionRoad$Carter" "left" "I") ∈ lw_all := lw_g (lw_at lw_m3 35 rfl) rfl
theorem q604 : (Jvm.Cond.soleField "QuestionRoad$Carter" "left") ∈ lw_all := lw_g (lw_at lw_m3 36 rfl) rfl
theorem q605 : (Jvm.Cond.lays "QuestionRoad$Carter" "QuestionRoad$Carter" "whither" "I") ∈ lw_all := lw_g (lw_at lw_m3 37 rfl) rfl
theorem q606 : (Jvm.Cond.soleField "QuestionRoad$Carter" "whither") ∈ lw_all := lw_g (lw_at lw_m3 38 rfl) rfl
theorem q607 : (Jvm.Cond.lays "QuestionRoad$Carter" "QuestionRoad$Carter" "arrives" "I") ∈ lw_all := lw_g (lw_at lw_m3 39 rfl) rfl
theorem q608 : (Jvm.Cond.soleField "QuestionRoad$Carter" "arrives") ∈ lw_all := lw_g (lw_at lw_m3 40 rfl) rfl
theorem q609 : (Jvm.Cond.lays "QuestionRoad$Carter" "QuestionRoad$Carter" "ended" "I") ∈ lw_all := lw_g (lw_at lw_m3 41 rfl) rfl
theorem q610 : (Jvm.Cond.soleField "QuestionRoad$Carter" "ended") ∈ lw_all := lw_g (lw_at lw_m3 42 rfl) rfl
theorem q611 : (Jvm.Cond.superclass "QuestionRoad$Carter" "java/lang/Object") ∈ lw_all := lw_g (lw_at lw_m3 43 rfl) rfl
theorem in_X5 : ∀ w ∈ wsX50, w ∈ lw_all := lw_in wsX50 [587, 589, 591, 593, 595, 597, 599, 601, 603, 605, 607, 609] (by decide +kernel) (by decide +kernel)
/-! java/lang/Object -/
set_option maxRecDepth 100000
def RJ10 : String := "java/lang/Object"
abbrev cJ10_init : ByteArray := object_method_1_code
def yJ10_init : MethodName := ⟨RJ10, "<init>", "()V"⟩
theorem dJ10_init_0 : decode cJ10_init 0 = .ok (.return_, 1) := by decide +kernel
theorem q517 : (Jvm.Cond.instanceMethod ({ cls := "java/lang/Object", name := "<init>", desc := "()V" } : Jvm.MethodName)) ∈ lw_all := lw_g (lw_at lw_m2 189 rfl) rfl
theorem q518 : (Jvm.Cond.code ({ cls := "java/lang/Object", name := "<init>", desc := "()V" } : Jvm.MethodName) object_method_1_code (1 : Nat) (Option.none : Option Jvm.ClassFile.FieldType)) ∈ lw_all := lw_g (lw_at lw_m2 190 rfl) rfl
/-! java/lang/Math -/
set_option maxRecDepth 100000
def RJ0 : String := "java/lang/Math"
abbrev cJ0_min : ByteArray := prog_13_method_69_code
def yJ0_min : MethodName := ⟨RJ0, "min", "(II)I"⟩
def dkwJ0_min_0 : List UInt8 := [26, 27, 163, 0, 7, 26, 167, 0, 4, 27, 172]
abbrev dktJ0_min_0 : List UInt8 := dkwJ0_min_0 ++ []
theorem dksJ0_min_0 : cJ0_min.data.toList.drop 0 = dktJ0_min_0 := by decide +kernel
theorem dJ0_min_0 : decode cJ0_min 0 = .ok (.iload_n 0, 1) := dk_26 (dk_at dksJ0_min_0 0 rfl rfl)
theorem dJ0_min_1 : decode cJ0_min 1 = .ok (.iload_n 1, 1) := dk_27 (dk_at dksJ0_min_0 1 rfl rfl)
theorem dJ0_min_2 : decode cJ0_min 2 = .ok (.if_icmp .gt 7, 3) := dk_163 0 7 (dk_at dksJ0_min_0 2 rfl rfl)
theorem dJ0_min_5 : decode cJ0_min 5 = .ok (.iload_n 0, 1) := dk_26 (dk_at dksJ0_min_0 5 rfl rfl)
theorem dJ0_min_6 : decode cJ0_min 6 = .ok (.goto 4, 3) := dk_167 0 4 (dk_at dksJ0_min_0 6 rfl rfl)
theorem dJ0_min_9 : decode cJ0_min 9 = .ok (.iload_n 1, 1) := dk_27 (dk_at dksJ0_min_0 9 rfl rfl)
theorem dJ0_min_10 : decode cJ0_min 10 = .ok (.ireturn, 1) := dk_172 (dk_at dksJ0_min_0 10 rfl rfl)
abbrev cJ0_max : ByteArray := prog_13_method_65_code
def yJ0_max : MethodName := ⟨RJ0, "max", "(II)I"⟩
def dkwJ0_max_0 : List UInt8 := [26, 27, 161, 0, 7, 26, 167, 0, 4, 27, 172]
abbrev dktJ0_max_0 : List UInt8 := dkwJ0_max_0 ++ []
theorem dksJ0_max_0 : cJ0_max.data.toList.drop 0 = dktJ0_max_0 := by decide +kernel
theorem dJ0_max_0 : decode cJ0_max 0 = .ok (.iload_n 0, 1) := dk_26 (dk_at dksJ0_max_0 0 rfl rfl)
theorem dJ0_max_1 : decode cJ0_max 1 = .ok (.iload_n 1, 1) := dk_27 (dk_at dksJ0_max_0 1 rfl rfl)
theorem dJ0_max_2 : decode cJ0_max 2 = .ok (.if_icmp .lt 7, 3) := dk_161 0 7 (dk_at dksJ0_max_0 2 rfl rfl)
theorem dJ0_max_5 : decode cJ0_max 5 = .ok (.iload_n 0, 1) := dk_26 (dk_at dksJ0_max_0 5 rfl rfl)
theorem dJ0_max_6 : decode cJ0_max 6 = .ok (.goto 4, 3) := dk_167 0 4 (dk_at dksJ0_max_0 6 rfl rfl)
theorem dJ0_max_9 : decode cJ0_max 9 = .ok (.iload_n 1, 1) := dk_27 (dk_at dksJ0_max_0 9 rfl rfl)
theorem dJ0_max_10 : decode cJ0_max 10 = .ok (.ireturn, 1) := dk_172 (dk_at dksJ0_max_0 10 rfl rfl)
theorem q96 : (Jvm.Cond.initialized "java/lang/Math") ∈ lw_all := lw_g (lw_at lw_m1 8 rfl) rfl
theorem q277 : (Jvm.Cond.static ({ cls := "java/lang/Math", name := "min", desc := "(II)I" } : Jvm.MethodName)) ∈ lw_all := lw_g (lw_at lw_m1 189 rfl) rfl
theorem q278 : (Jvm.Cond.code ({ cls := "java/lang/Math", name := "min", desc := "(II)I" } : Jvm.MethodName) prog_13_method_69_code (2 : Nat) (Option.some Jvm.ClassFile.FieldType.int)) ∈ lw_all := lw_g (lw_at lw_m1 190 rfl) rfl
theorem q422 : (Jvm.Cond.static ({ cls := "java/lang/Math", name := "max", desc := "(II)I" } : Jvm.MethodName)) ∈ lw_all := lw_g (lw_at lw_m2 94 rfl) rfl
theorem q423 : (Jvm.Cond.code ({ cls := "java/lang/Math", name := "max", desc := "(II)I" } : Jvm.MethodName) prog_13_method_65_code (2 : Nat) (Option.some Jvm.ClassFile.FieldType.int)) ∈ lw_all := lw_g (lw_at lw_m2 95 rfl) rfl
