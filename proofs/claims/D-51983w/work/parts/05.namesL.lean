/-! RooftopCatsLaw -/
set_option maxRecDepth 100000
def RX0 : String := "RooftopCatsLaw"
abbrev cX0_truncateInput : ByteArray := method_3_code
def yX0_truncateInput : MethodName := ⟨RX0, "truncateInput", "(LRooftopCats;I[J)I"⟩
def dkwX0_truncateInput_0 : List UInt8 := [44, 3, 42, 27, 182, 0, 7, 133, 80, 167, 0, 6, 78, 4, 172, 3, 172]
abbrev dktX0_truncateInput_0 : List UInt8 := dkwX0_truncateInput_0 ++ []
theorem dksX0_truncateInput_0 : cX0_truncateInput.data.toList.drop 0 = dktX0_truncateInput_0 := by decide +kernel
theorem dX0_truncateInput_0 : decode cX0_truncateInput 0 = .ok (.aload_n 2, 1) := dk_44 (dk_at dksX0_truncateInput_0 0 rfl rfl)
theorem dX0_truncateInput_1 : decode cX0_truncateInput 1 = .ok (.iconst 0, 1) := dk_3 (dk_at dksX0_truncateInput_0 1 rfl rfl)
theorem dX0_truncateInput_2 : decode cX0_truncateInput 2 = .ok (.aload_n 0, 1) := dk_42 (dk_at dksX0_truncateInput_0 2 rfl rfl)
theorem dX0_truncateInput_3 : decode cX0_truncateInput 3 = .ok (.iload_n 1, 1) := dk_27 (dk_at dksX0_truncateInput_0 3 rfl rfl)
theorem dX0_truncateInput_4 : decode cX0_truncateInput 4 = .ok (.invokevirtual 7, 3) := dk_182 0 7 (dk_at dksX0_truncateInput_0 4 rfl rfl)
theorem dX0_truncateInput_7 : decode cX0_truncateInput 7 = .ok (.i2l, 1) := dk_133 (dk_at dksX0_truncateInput_0 7 rfl rfl)
theorem dX0_truncateInput_8 : decode cX0_truncateInput 8 = .ok (.lastore, 1) := dk_80 (dk_at dksX0_truncateInput_0 8 rfl rfl)
theorem dX0_truncateInput_9 : decode cX0_truncateInput 9 = .ok (.goto 6, 3) := dk_167 0 6 (dk_at dksX0_truncateInput_0 9 rfl rfl)
theorem dX0_truncateInput_12 : decode cX0_truncateInput 12 = .ok (.astore_n 3, 1) := dk_78 (dk_at dksX0_truncateInput_0 12 rfl rfl)
theorem dX0_truncateInput_13 : decode cX0_truncateInput 13 = .ok (.iconst 1, 1) := dk_4 (dk_at dksX0_truncateInput_0 13 rfl rfl)
theorem dX0_truncateInput_14 : decode cX0_truncateInput 14 = .ok (.ireturn, 1) := dk_172 (dk_at dksX0_truncateInput_0 14 rfl rfl)
theorem dX0_truncateInput_15 : decode cX0_truncateInput 15 = .ok (.iconst 0, 1) := dk_3 (dk_at dksX0_truncateInput_0 15 rfl rfl)
theorem dX0_truncateInput_16 : decode cX0_truncateInput 16 = .ok (.ireturn, 1) := dk_172 (dk_at dksX0_truncateInput_0 16 rfl rfl)
abbrev cX0_addChimney : ByteArray := method_4_code
def yX0_addChimney : MethodName := ⟨RX0, "addChimney", "(LRooftopCats;I[J)I"⟩
def dkwX0_addChimney_0 : List UInt8 := [44, 3, 42, 27, 182, 0, 15, 133, 80, 167, 0, 9, 78, 4, 172, 78, 5, 172, 3, 172]
abbrev dktX0_addChimney_0 : List UInt8 := dkwX0_addChimney_0 ++ []
theorem dksX0_addChimney_0 : cX0_addChimney.data.toList.drop 0 = dktX0_addChimney_0 := by decide +kernel
theorem dX0_addChimney_0 : decode cX0_addChimney 0 = .ok (.aload_n 2, 1) := dk_44 (dk_at dksX0_addChimney_0 0 rfl rfl)
theorem dX0_addChimney_1 : decode cX0_addChimney 1 = .ok (.iconst 0, 1) := dk_3 (dk_at dksX0_addChimney_0 1 rfl rfl)
theorem dX0_addChimney_2 : decode cX0_addChimney 2 = .ok (.aload_n 0, 1) := dk_42 (dk_at dksX0_addChimney_0 2 rfl rfl)
theorem dX0_addChimney_3 : decode cX0_addChimney 3 = .ok (.iload_n 1, 1) := dk_27 (dk_at dksX0_addChimney_0 3 rfl rfl)
theorem dX0_addChimney_4 : decode cX0_addChimney 4 = .ok (.invokevirtual 15, 3) := dk_182 0 15 (dk_at dksX0_addChimney_0 4 rfl rfl)
theorem dX0_addChimney_7 : decode cX0_addChimney 7 = .ok (.i2l, 1) := dk_133 (dk_at dksX0_addChimney_0 7 rfl rfl)
theorem dX0_addChimney_8 : decode cX0_addChimney 8 = .ok (.lastore, 1) := dk_80 (dk_at dksX0_addChimney_0 8 rfl rfl)
theorem dX0_addChimney_9 : decode cX0_addChimney 9 = .ok (.goto 9, 3) := dk_167 0 9 (dk_at dksX0_addChimney_0 9 rfl rfl)
theorem dX0_addChimney_12 : decode cX0_addChimney 12 = .ok (.astore_n 3, 1) := dk_78 (dk_at dksX0_addChimney_0 12 rfl rfl)
theorem dX0_addChimney_13 : decode cX0_addChimney 13 = .ok (.iconst 1, 1) := dk_4 (dk_at dksX0_addChimney_0 13 rfl rfl)
theorem dX0_addChimney_14 : decode cX0_addChimney 14 = .ok (.ireturn, 1) := dk_172 (dk_at dksX0_addChimney_0 14 rfl rfl)
theorem dX0_addChimney_15 : decode cX0_addChimney 15 = .ok (.astore_n 3, 1) := dk_78 (dk_at dksX0_addChimney_0 15 rfl rfl)
theorem dX0_addChimney_16 : decode cX0_addChimney 16 = .ok (.iconst 2, 1) := dk_5 (dk_at dksX0_addChimney_0 16 rfl rfl)
theorem dX0_addChimney_17 : decode cX0_addChimney 17 = .ok (.ireturn, 1) := dk_172 (dk_at dksX0_addChimney_0 17 rfl rfl)
theorem dX0_addChimney_18 : decode cX0_addChimney 18 = .ok (.iconst 0, 1) := dk_3 (dk_at dksX0_addChimney_0 18 rfl rfl)
theorem dX0_addChimney_19 : decode cX0_addChimney 19 = .ok (.ireturn, 1) := dk_172 (dk_at dksX0_addChimney_0 19 rfl rfl)
abbrev cX0_addGutter : ByteArray := method_5_code
def yX0_addGutter : MethodName := ⟨RX0, "addGutter", "(LRooftopCats;III[J)I"⟩
def dkwX0_addGutter_1 : List UInt8 := [58, 5, 6, 172, 3, 172]
abbrev dktX0_addGutter_1 : List UInt8 := dkwX0_addGutter_1 ++ []
def dkwX0_addGutter_0 : List UInt8 := [25, 4, 3, 42, 27, 28, 29, 182, 0, 20, 133, 80, 167, 0, 15, 58, 5, 4, 172, 58, 5, 5, 172]
abbrev dktX0_addGutter_0 : List UInt8 := dkwX0_addGutter_0 ++ dktX0_addGutter_1
theorem dksX0_addGutter_0 : cX0_addGutter.data.toList.drop 0 = dktX0_addGutter_0 := by decide +kernel
theorem dksX0_addGutter_1 : cX0_addGutter.data.toList.drop 23 = dktX0_addGutter_1 := dk_seg dksX0_addGutter_0 23 rfl rfl
theorem dX0_addGutter_0 : decode cX0_addGutter 0 = .ok (.aload 4, 2) := dk_25 4 (dk_at dksX0_addGutter_0 0 rfl rfl)
theorem dX0_addGutter_2 : decode cX0_addGutter 2 = .ok (.iconst 0, 1) := dk_3 (dk_at dksX0_addGutter_0 2 rfl rfl)
theorem dX0_addGutter_3 : decode cX0_addGutter 3 = .ok (.aload_n 0, 1) := dk_42 (dk_at dksX0_addGutter_0 3 rfl rfl)
theorem dX0_addGutter_4 : decode cX0_addGutter 4 = .ok (.iload_n 1, 1) := dk_27 (dk_at dksX0_addGutter_0 4 rfl rfl)
theorem dX0_addGutter_5 : decode cX0_addGutter 5 = .ok (.iload_n 2, 1) := dk_28 (dk_at dksX0_addGutter_0 5 rfl rfl)
theorem dX0_addGutter_6 : decode cX0_addGutter 6 = .ok (.iload_n 3, 1) := dk_29 (dk_at dksX0_addGutter_0 6 rfl rfl)
theorem dX0_addGutter_7 : decode cX0_addGutter 7 = .ok (.invokevirtual 20, 3) := dk_182 0 20 (dk_at dksX0_addGutter_0 7 rfl rfl)
theorem dX0_addGutter_10 : decode cX0_addGutter 10 = .ok (.i2l, 1) := dk_133 (dk_at dksX0_addGutter_0 10 rfl rfl)
theorem dX0_addGutter_11 : decode cX0_addGutter 11 = .ok (.lastore, 1) := dk_80 (dk_at dksX0_addGutter_0 11 rfl rfl)
theorem dX0_addGutter_12 : decode cX0_addGutter 12 = .ok (.goto 15, 3) := dk_167 0 15 (dk_at dksX0_addGutter_0 12 rfl rfl)
theorem dX0_addGutter_15 : decode cX0_addGutter 15 = .ok (.astore 5, 2) := dk_58 5 (dk_at dksX0_addGutter_0 15 rfl rfl)
theorem dX0_addGutter_17 : decode cX0_addGutter 17 = .ok (.iconst 1, 1) := dk_4 (dk_at dksX0_addGutter_0 17 rfl rfl)
theorem dX0_addGutter_18 : decode cX0_addGutter 18 = .ok (.ireturn, 1) := dk_172 (dk_at dksX0_addGutter_0 18 rfl rfl)
theorem dX0_addGutter_19 : decode cX0_addGutter 19 = .ok (.astore 5, 2) := dk_58 5 (dk_at dksX0_addGutter_0 19 rfl rfl)
theorem dX0_addGutter_21 : decode cX0_addGutter 21 = .ok (.iconst 2, 1) := dk_5 (dk_at dksX0_addGutter_0 21 rfl rfl)
theorem dX0_addGutter_22 : decode cX0_addGutter 22 = .ok (.ireturn, 1) := dk_172 (dk_at dksX0_addGutter_0 22 rfl rfl)
theorem dX0_addGutter_23 : decode cX0_addGutter 23 = .ok (.astore 5, 2) := dk_58 5 (dk_at dksX0_addGutter_1 0 rfl rfl)
theorem dX0_addGutter_25 : decode cX0_addGutter 25 = .ok (.iconst 3, 1) := dk_6 (dk_at dksX0_addGutter_1 2 rfl rfl)
theorem dX0_addGutter_26 : decode cX0_addGutter 26 = .ok (.ireturn, 1) := dk_172 (dk_at dksX0_addGutter_1 3 rfl rfl)
theorem dX0_addGutter_27 : decode cX0_addGutter 27 = .ok (.iconst 0, 1) := dk_3 (dk_at dksX0_addGutter_1 4 rfl rfl)
theorem dX0_addGutter_28 : decode cX0_addGutter 28 = .ok (.ireturn, 1) := dk_172 (dk_at dksX0_addGutter_1 5 rfl rfl)
abbrev cX0_addCat : ByteArray := method_6_code
def yX0_addCat : MethodName := ⟨RX0, "addCat", "(LRooftopCats;III[J)I"⟩
def dkwX0_addCat_1 : List UInt8 := [58, 5, 6, 172, 3, 172]
abbrev dktX0_addCat_1 : List UInt8 := dkwX0_addCat_1 ++ []
def dkwX0_addCat_0 : List UInt8 := [25, 4, 3, 42, 27, 28, 29, 182, 0, 26, 133, 80, 167, 0, 15, 58, 5, 4, 172, 58, 5, 5, 172]
abbrev dktX0_addCat_0 : List UInt8 := dkwX0_addCat_0 ++ dktX0_addCat_1
theorem dksX0_addCat_0 : cX0_addCat.data.toList.drop 0 = dktX0_addCat_0 := by decide +kernel
theorem dksX0_addCat_1 : cX0_addCat.data.toList.drop 23 = dktX0_addCat_1 := dk_seg dksX0_addCat_0 23 rfl rfl
theorem dX0_addCat_0 : decode cX0_addCat 0 = .ok (.aload 4, 2) := dk_25 4 (dk_at dksX0_addCat_0 0 rfl rfl)
theorem dX0_addCat_2 : decode cX0_addCat 2 = .ok (.iconst 0, 1) := dk_3 (dk_at dksX0_addCat_0 2 rfl rfl)
theorem dX0_addCat_3 : decode cX0_addCat 3 = .ok (.aload_n 0, 1) := dk_42 (dk_at dksX0_addCat_0 3 rfl rfl)
theorem dX0_addCat_4 : decode cX0_addCat 4 = .ok (.iload_n 1, 1) := dk_27 (dk_at dksX0_addCat_0 4 rfl rfl)
theorem dX0_addCat_5 : decode cX0_addCat 5 = .ok (.iload_n 2, 1) := dk_28 (dk_at dksX0_addCat_0 5 rfl rfl)
theorem dX0_addCat_6 : decode cX0_addCat 6 = .ok (.iload_n 3, 1) := dk_29 (dk_at dksX0_addCat_0 6 rfl rfl)
theorem dX0_addCat_7 : decode cX0_addCat 7 = .ok (.invokevirtual 26, 3) := dk_182 0 26 (dk_at dksX0_addCat_0 7 rfl rfl)
theorem dX0_addCat_10 : decode cX0_addCat 10 = .ok (.i2l, 1) := dk_133 (dk_at dksX0_addCat_0 10 rfl rfl)
theorem dX0_addCat_11 : decode cX0_addCat 11 = .ok (.lastore, 1) := dk_80 (dk_at dksX0_addCat_0 11 rfl rfl)
theorem dX0_addCat_12 : decode cX0_addCat 12 = .ok (.goto 15, 3) := dk_167 0 15 (dk_at dksX0_addCat_0 12 rfl rfl)
theorem dX0_addCat_15 : decode cX0_addCat 15 = .ok (.astore 5, 2) := dk_58 5 (dk_at dksX0_addCat_0 15 rfl rfl)
theorem dX0_addCat_17 : decode cX0_addCat 17 = .ok (.iconst 1, 1) := dk_4 (dk_at dksX0_addCat_0 17 rfl rfl)
theorem dX0_addCat_18 : decode cX0_addCat 18 = .ok (.ireturn, 1) := dk_172 (dk_at dksX0_addCat_0 18 rfl rfl)
theorem dX0_addCat_19 : decode cX0_addCat 19 = .ok (.astore 5, 2) := dk_58 5 (dk_at dksX0_addCat_0 19 rfl rfl)
theorem dX0_addCat_21 : decode cX0_addCat 21 = .ok (.iconst 2, 1) := dk_5 (dk_at dksX0_addCat_0 21 rfl rfl)
theorem dX0_addCat_22 : decode cX0_addCat 22 = .ok (.ireturn, 1) := dk_172 (dk_at dksX0_addCat_0 22 rfl rfl)
theorem dX0_addCat_23 : decode cX0_addCat 23 = .ok (.astore 5, 2) := dk_58 5 (dk_at dksX0_addCat_1 0 rfl rfl)
theorem dX0_addCat_25 : decode cX0_addCat 25 = .ok (.iconst 3, 1) := dk_6 (dk_at dksX0_addCat_1 2 rfl rfl)
theorem dX0_addCat_26 : decode cX0_addCat 26 = .ok (.ireturn, 1) := dk_172 (dk_at dksX0_addCat_1 3 rfl rfl)
theorem dX0_addCat_27 : decode cX0_addCat 27 = .ok (.iconst 0, 1) := dk_3 (dk_at dksX0_addCat_1 4 rfl rfl)
theorem dX0_addCat_28 : decode cX0_addCat 28 = .ok (.ireturn, 1) := dk_172 (dk_at dksX0_addCat_1 5 rfl rfl)
abbrev cX0_step : ByteArray := method_7_code
def yX0_step : MethodName := ⟨RX0, "step", "(LRooftopCats;II[J)I"⟩
def dkwX0_step_0 : List UInt8 := [45, 3, 42, 27, 28, 182, 0, 29, 133, 80, 167, 0, 11, 58, 4, 4, 172, 58, 4, 5, 172, 3, 172]
abbrev dktX0_step_0 : List UInt8 := dkwX0_step_0 ++ []
theorem dksX0_step_0 : cX0_step.data.toList.drop 0 = dktX0_step_0 := by decide +kernel
theorem dX0_step_0 : decode cX0_step 0 = .ok (.aload_n 3, 1) := dk_45 (dk_at dksX0_step_0 0 rfl rfl)
theorem dX0_step_1 : decode cX0_step 1 = .ok (.iconst 0, 1) := dk_3 (dk_at dksX0_step_0 1 rfl rfl)
theorem dX0_step_2 : decode cX0_step 2 = .ok (.aload_n 0, 1) := dk_42 (dk_at dksX0_step_0 2 rfl rfl)
theorem dX0_step_3 : decode cX0_step 3 = .ok (.iload_n 1, 1) := dk_27 (dk_at dksX0_step_0 3 rfl rfl)
theorem dX0_step_4 : decode cX0_step 4 = .ok (.iload_n 2, 1) := dk_28 (dk_at dksX0_step_0 4 rfl rfl)
theorem dX0_step_5 : decode cX0_step 5 = .ok (.invokevirtual 29, 3) := dk_182 0 29 (dk_at dksX0_step_0 5 rfl rfl)
theorem dX0_step_8 : decode cX0_step 8 = .ok (.i2l, 1) := dk_133 (dk_at dksX0_step_0 8 rfl rfl)
theorem dX0_step_9 : decode cX0_step 9 = .ok (.lastore, 1) := dk_80 (dk_at dksX0_step_0 9 rfl rfl)
theorem dX0_step_10 : decode cX0_step 10 = .ok (.goto 11, 3) := dk_167 0 11 (dk_at dksX0_step_0 10 rfl rfl)
theorem dX0_step_13 : decode cX0_step 13 = .ok (.astore 4, 2) := dk_58 4 (dk_at dksX0_step_0 13 rfl rfl)
theorem dX0_step_15 : decode cX0_step 15 = .ok (.iconst 1, 1) := dk_4 (dk_at dksX0_step_0 15 rfl rfl)
theorem dX0_step_16 : decode cX0_step 16 = .ok (.ireturn, 1) := dk_172 (dk_at dksX0_step_0 16 rfl rfl)
theorem dX0_step_17 : decode cX0_step 17 = .ok (.astore 4, 2) := dk_58 4 (dk_at dksX0_step_0 17 rfl rfl)
theorem dX0_step_19 : decode cX0_step 19 = .ok (.iconst 2, 1) := dk_5 (dk_at dksX0_step_0 19 rfl rfl)
theorem dX0_step_20 : decode cX0_step 20 = .ok (.ireturn, 1) := dk_172 (dk_at dksX0_step_0 20 rfl rfl)
theorem dX0_step_21 : decode cX0_step 21 = .ok (.iconst 0, 1) := dk_3 (dk_at dksX0_step_0 21 rfl rfl)
theorem dX0_step_22 : decode cX0_step 22 = .ok (.ireturn, 1) := dk_172 (dk_at dksX0_step_0 22 rfl rfl)
abbrev cX0_claim : ByteArray := method_8_code
def yX0_claim : MethodName := ⟨RX0, "claim", "(LRooftopCats;I[J)I"⟩
def dkwX0_claim_0 : List UInt8 := [44, 3, 42, 27, 182, 0, 33, 133, 80, 167, 0, 9, 78, 4, 172, 78, 5, 172, 3, 172]
abbrev dktX0_claim_0 : List UInt8 := dkwX0_claim_0 ++ []
theorem dksX0_claim_0 : cX0_claim.data.toList.drop 0 = dktX0_claim_0 := by decide +kernel
theorem dX0_claim_0 : decode cX0_claim 0 = .ok (.aload_n 2, 1) := dk_44 (dk_at dksX0_claim_0 0 rfl rfl)
theorem dX0_claim_1 : decode cX0_claim 1 = .ok (.iconst 0, 1) := dk_3 (dk_at dksX0_claim_0 1 rfl rfl)
theorem dX0_claim_2 : decode cX0_claim 2 = .ok (.aload_n 0, 1) := dk_42 (dk_at dksX0_claim_0 2 rfl rfl)
theorem dX0_claim_3 : decode cX0_claim 3 = .ok (.iload_n 1, 1) := dk_27 (dk_at dksX0_claim_0 3 rfl rfl)
theorem dX0_claim_4 : decode cX0_claim 4 = .ok (.invokevirtual 33, 3) := dk_182 0 33 (dk_at dksX0_claim_0 4 rfl rfl)
theorem dX0_claim_7 : decode cX0_claim 7 = .ok (.i2l, 1) := dk_133 (dk_at dksX0_claim_0 7 rfl rfl)
theorem dX0_claim_8 : decode cX0_claim 8 = .ok (.lastore, 1) := dk_80 (dk_at dksX0_claim_0 8 rfl rfl)
theorem dX0_claim_9 : decode cX0_claim 9 = .ok (.goto 9, 3) := dk_167 0 9 (dk_at dksX0_claim_0 9 rfl rfl)
theorem dX0_claim_12 : decode cX0_claim 12 = .ok (.astore_n 3, 1) := dk_78 (dk_at dksX0_claim_0 12 rfl rfl)
theorem dX0_claim_13 : decode cX0_claim 13 = .ok (.iconst 1, 1) := dk_4 (dk_at dksX0_claim_0 13 rfl rfl)
theorem dX0_claim_14 : decode cX0_claim 14 = .ok (.ireturn, 1) := dk_172 (dk_at dksX0_claim_0 14 rfl rfl)
theorem dX0_claim_15 : decode cX0_claim 15 = .ok (.astore_n 3, 1) := dk_78 (dk_at dksX0_claim_0 15 rfl rfl)
theorem dX0_claim_16 : decode cX0_claim 16 = .ok (.iconst 2, 1) := dk_5 (dk_at dksX0_claim_0 16 rfl rfl)
theorem dX0_claim_17 : decode cX0_claim 17 = .ok (.ireturn, 1) := dk_172 (dk_at dksX0_claim_0 17 rfl rfl)
theorem dX0_claim_18 : decode cX0_claim 18 = .ok (.iconst 0, 1) := dk_3 (dk_at dksX0_claim_0 18 rfl rfl)
theorem dX0_claim_19 : decode cX0_claim 19 = .ok (.ireturn, 1) := dk_172 (dk_at dksX0_claim_0 19 rfl rfl)
abbrev cX0_abandon : ByteArray := method_9_code
def yX0_abandon : MethodName := ⟨RX0, "abandon", "(LRooftopCats;I[J)I"⟩
def dkwX0_abandon_0 : List UInt8 := [44, 3, 42, 27, 182, 0, 36, 133, 80, 167, 0, 9, 78, 4, 172, 78, 5, 172, 3, 172]
abbrev dktX0_abandon_0 : List UInt8 := dkwX0_abandon_0 ++ []
theorem dksX0_abandon_0 : cX0_abandon.data.toList.drop 0 = dktX0_abandon_0 := by decide +kernel
theorem dX0_abandon_0 : decode cX0_abandon 0 = .ok (.aload_n 2, 1) := dk_44 (dk_at dksX0_abandon_0 0 rfl rfl)
theorem dX0_abandon_1 : decode cX0_abandon 1 = .ok (.iconst 0, 1) := dk_3 (dk_at dksX0_abandon_0 1 rfl rfl)
theorem dX0_abandon_2 : decode cX0_abandon 2 = .ok (.aload_n 0, 1) := dk_42 (dk_at dksX0_abandon_0 2 rfl rfl)
theorem dX0_abandon_3 : decode cX0_abandon 3 = .ok (.iload_n 1, 1) := dk_27 (dk_at dksX0_abandon_0 3 rfl rfl)
theorem dX0_abandon_4 : decode cX0_abandon 4 = .ok (.invokevirtual 36, 3) := dk_182 0 36 (dk_at dksX0_abandon_0 4 rfl rfl)
theorem dX0_abandon_7 : decode cX0_abandon 7 = .ok (.i2l, 1) := dk_133 (dk_at dksX0_abandon_0 7 rfl rfl)
theorem dX0_abandon_8 : decode cX0_abandon 8 = .ok (.lastore, 1) := dk_80 (dk_at dksX0_abandon_0 8 rfl rfl)
theorem dX0_abandon_9 : decode cX0_abandon 9 = .ok (.goto 9, 3) := dk_167 0 9 (dk_at dksX0_abandon_0 9 rfl rfl)
theorem dX0_abandon_12 : decode cX0_abandon 12 = .ok (.astore_n 3, 1) := dk_78 (dk_at dksX0_abandon_0 12 rfl rfl)
theorem dX0_abandon_13 : decode cX0_abandon 13 = .ok (.iconst 1, 1) := dk_4 (dk_at dksX0_abandon_0 13 rfl rfl)
theorem dX0_abandon_14 : decode cX0_abandon 14 = .ok (.ireturn, 1) := dk_172 (dk_at dksX0_abandon_0 14 rfl rfl)
theorem dX0_abandon_15 : decode cX0_abandon 15 = .ok (.astore_n 3, 1) := dk_78 (dk_at dksX0_abandon_0 15 rfl rfl)
theorem dX0_abandon_16 : decode cX0_abandon 16 = .ok (.iconst 2, 1) := dk_5 (dk_at dksX0_abandon_0 16 rfl rfl)
theorem dX0_abandon_17 : decode cX0_abandon 17 = .ok (.ireturn, 1) := dk_172 (dk_at dksX0_abandon_0 17 rfl rfl)
theorem dX0_abandon_18 : decode cX0_abandon 18 = .ok (.iconst 0, 1) := dk_3 (dk_at dksX0_abandon_0 18 rfl rfl)
theorem dX0_abandon_19 : decode cX0_abandon 19 = .ok (.ireturn, 1) := dk_172 (dk_at dksX0_abandon_0 19 rfl rfl)
abbrev cX0_chase : ByteArray := method_10_code
def yX0_chase : MethodName := ⟨RX0, "chase", "(LRooftopCats;II[J)I"⟩
def dkwX0_chase_1 : List UInt8 := [58, 4, 5, 172, 58, 4, 6, 172, 3, 172]
abbrev dktX0_chase_1 : List UInt8 := dkwX0_chase_1 ++ []
def dkwX0_chase_0 : List UInt8 := [45, 3, 42, 27, 28, 182, 0, 39, 153, 0, 7, 10, 167, 0, 4, 9, 80, 167, 0, 15, 58, 4, 4, 172]
abbrev dktX0_chase_0 : List UInt8 := dkwX0_chase_0 ++ dktX0_chase_1
theorem dksX0_chase_0 : cX0_chase.data.toList.drop 0 = dktX0_chase_0 := by decide +kernel
theorem dksX0_chase_1 : cX0_chase.data.toList.drop 24 = dktX0_chase_1 := dk_seg dksX0_chase_0 24 rfl rfl
theorem dX0_chase_0 : decode cX0_chase 0 = .ok (.aload_n 3, 1) := dk_45 (dk_at dksX0_chase_0 0 rfl rfl)
theorem dX0_chase_1 : decode cX0_chase 1 = .ok (.iconst 0, 1) := dk_3 (dk_at dksX0_chase_0 1 rfl rfl)
theorem dX0_chase_2 : decode cX0_chase 2 = .ok (.aload_n 0, 1) := dk_42 (dk_at dksX0_chase_0 2 rfl rfl)
theorem dX0_chase_3 : decode cX0_chase 3 = .ok (.iload_n 1, 1) := dk_27 (dk_at dksX0_chase_0 3 rfl rfl)
theorem dX0_chase_4 : decode cX0_chase 4 = .ok (.iload_n 2, 1) := dk_28 (dk_at dksX0_chase_0 4 rfl rfl)
theorem dX0_chase_5 : decode cX0_chase 5 = .ok (.invokevirtual 39, 3) := dk_182 0 39 (dk_at dksX0_chase_0 5 rfl rfl)
theorem dX0_chase_8 : decode cX0_chase 8 = .ok (.ifCond .eq 7, 3) := dk_153 0 7 (dk_at dksX0_chase_0 8 rfl rfl)
theorem dX0_chase_11 : decode cX0_chase 11 = .ok (.lconst 1, 1) := dk_10 (dk_at dksX0_chase_0 11 rfl rfl)
theorem dX0_chase_12 : decode cX0_chase 12 = .ok (.goto 4, 3) := dk_167 0 4 (dk_at dksX0_chase_0 12 rfl rfl)
theorem dX0_chase_15 : decode cX0_chase 15 = .ok (.lconst 0, 1) := dk_9 (dk_at dksX0_chase_0 15 rfl rfl)
theorem dX0_chase_16 : decode cX0_chase 16 = .ok (.lastore, 1) := dk_80 (dk_at dksX0_chase_0 16 rfl rfl)
theorem dX0_chase_17 : decode cX0_chase 17 = .ok (.goto 15, 3) := dk_167 0 15 (dk_at dksX0_chase_0 17 rfl rfl)
theorem dX0_chase_20 : decode cX0_chase 20 = .ok (.astore 4, 2) := dk_58 4 (dk_at dksX0_chase_0 20 rfl rfl)
theorem dX0_chase_22 : decode cX0_chase 22 = .ok (.iconst 1, 1) := dk_4 (dk_at dksX0_chase_0 22 rfl rfl)
theorem dX0_chase_23 : decode cX0_chase 23 = .ok (.ireturn, 1) := dk_172 (dk_at dksX0_chase_0 23 rfl rfl)
theorem dX0_chase_24 : decode cX0_chase 24 = .ok (.astore 4, 2) := dk_58 4 (dk_at dksX0_chase_1 0 rfl rfl)
theorem dX0_chase_26 : decode cX0_chase 26 = .ok (.iconst 2, 1) := dk_5 (dk_at dksX0_chase_1 2 rfl rfl)
theorem dX0_chase_27 : decode cX0_chase 27 = .ok (.ireturn, 1) := dk_172 (dk_at dksX0_chase_1 3 rfl rfl)
theorem dX0_chase_28 : decode cX0_chase 28 = .ok (.astore 4, 2) := dk_58 4 (dk_at dksX0_chase_1 4 rfl rfl)
theorem dX0_chase_30 : decode cX0_chase 30 = .ok (.iconst 3, 1) := dk_6 (dk_at dksX0_chase_1 6 rfl rfl)
theorem dX0_chase_31 : decode cX0_chase 31 = .ok (.ireturn, 1) := dk_172 (dk_at dksX0_chase_1 7 rfl rfl)
theorem dX0_chase_32 : decode cX0_chase 32 = .ok (.iconst 0, 1) := dk_3 (dk_at dksX0_chase_1 8 rfl rfl)
theorem dX0_chase_33 : decode cX0_chase 33 = .ok (.ireturn, 1) := dk_172 (dk_at dksX0_chase_1 9 rfl rfl)
abbrev cX0_buyTruce : ByteArray := method_11_code
def yX0_buyTruce : MethodName := ⟨RX0, "buyTruce", "(LRooftopCats;IIII[J)I"⟩
def dkwX0_buyTruce_1 : List UInt8 := [172, 58, 6, 6, 172, 3, 172]
abbrev dktX0_buyTruce_1 : List UInt8 := dkwX0_buyTruce_1 ++ []
def dkwX0_buyTruce_0 : List UInt8 := [25, 5, 3, 42, 27, 28, 29, 21, 4, 182, 0, 43, 133, 80, 167, 0, 15, 58, 6, 4, 172, 58, 6, 5]
abbrev dktX0_buyTruce_0 : List UInt8 := dkwX0_buyTruce_0 ++ dktX0_buyTruce_1
theorem dksX0_buyTruce_0 : cX0_buyTruce.data.toList.drop 0 = dktX0_buyTruce_0 := by decide +kernel
theorem dksX0_buyTruce_1 : cX0_buyTruce.data.toList.drop 24 = dktX0_buyTruce_1 := dk_seg dksX0_buyTruce_0 24 rfl rfl
theorem dX0_buyTruce_0 : decode cX0_buyTruce 0 = .ok (.aload 5, 2) := dk_25 5 (dk_at dksX0_buyTruce_0 0 rfl rfl)
theorem dX0_buyTruce_2 : decode cX0_buyTruce 2 = .ok (.iconst 0, 1) := dk_3 (dk_at dksX0_buyTruce_0 2 rfl rfl)
theorem dX0_buyTruce_3 : decode cX0_buyTruce 3 = .ok (.aload_n 0, 1) := dk_42 (dk_at dksX0_buyTruce_0 3 rfl rfl)
theorem dX0_buyTruce_4 : decode cX0_buyTruce 4 = .ok (.iload_n 1, 1) := dk_27 (dk_at dksX0_buyTruce_0 4 rfl rfl)
theorem dX0_buyTruce_5 : decode cX0_buyTruce 5 = .ok (.iload_n 2, 1) := dk_28 (dk_at dksX0_buyTruce_0 5 rfl rfl)
theorem dX0_buyTruce_6 : decode cX0_buyTruce 6 = .ok (.iload_n 3, 1) := dk_29 (dk_at dksX0_buyTruce_0 6 rfl rfl)
theorem dX0_buyTruce_7 : decode cX0_buyTruce 7 = .ok (.iload 4, 2) := dk_21 4 (dk_at dksX0_buyTruce_0 7 rfl rfl)
theorem dX0_buyTruce_9 : decode cX0_buyTruce 9 = .ok (.invokevirtual 43, 3) := dk_182 0 43 (dk_at dksX0_buyTruce_0 9 rfl rfl)
theorem dX0_buyTruce_12 : decode cX0_buyTruce 12 = .ok (.i2l, 1) := dk_133 (dk_at dksX0_buyTruce_0 12 rfl rfl)
theorem dX0_buyTruce_13 : decode cX0_buyTruce 13 = .ok (.lastore, 1) := dk_80 (dk_at dksX0_buyTruce_0 13 rfl rfl)
theorem dX0_buyTruce_14 : decode cX0_buyTruce 14 = .ok (.goto 15, 3) := dk_167 0 15 (dk_at dksX0_buyTruce_0 14 rfl rfl)
theorem dX0_buyTruce_17 : decode cX0_buyTruce 17 = .ok (.astore 6, 2) := dk_58 6 (dk_at dksX0_buyTruce_0 17 rfl rfl)
theorem dX0_buyTruce_19 : decode cX0_buyTruce 19 = .ok (.iconst 1, 1) := dk_4 (dk_at dksX0_buyTruce_0 19 rfl rfl)
theorem dX0_buyTruce_20 : decode cX0_buyTruce 20 = .ok (.ireturn, 1) := dk_172 (dk_at dksX0_buyTruce_0 20 rfl rfl)
theorem dX0_buyTruce_21 : decode cX0_buyTruce 21 = .ok (.astore 6, 2) := dk_58 6 (dk_at dksX0_buyTruce_0 21 rfl rfl)
theorem dX0_buyTruce_23 : decode cX0_buyTruce 23 = .ok (.iconst 2, 1) := dk_5 (dk_at dksX0_buyTruce_0 23 rfl rfl)
theorem dX0_buyTruce_24 : decode cX0_buyTruce 24 = .ok (.ireturn, 1) := dk_172 (dk_at dksX0_buyTruce_1 0 rfl rfl)
theorem dX0_buyTruce_25 : decode cX0_buyTruce 25 = .ok (.astore 6, 2) := dk_58 6 (dk_at dksX0_buyTruce_1 1 rfl rfl)
theorem dX0_buyTruce_27 : decode cX0_buyTruce 27 = .ok (.iconst 3, 1) := dk_6 (dk_at dksX0_buyTruce_1 3 rfl rfl)
theorem dX0_buyTruce_28 : decode cX0_buyTruce 28 = .ok (.ireturn, 1) := dk_172 (dk_at dksX0_buyTruce_1 4 rfl rfl)
theorem dX0_buyTruce_29 : decode cX0_buyTruce 29 = .ok (.iconst 0, 1) := dk_3 (dk_at dksX0_buyTruce_1 5 rfl rfl)
theorem dX0_buyTruce_30 : decode cX0_buyTruce 30 = .ok (.ireturn, 1) := dk_172 (dk_at dksX0_buyTruce_1 6 rfl rfl)
abbrev cX0_nominate : ByteArray := method_12_code
def yX0_nominate : MethodName := ⟨RX0, "nominate", "(LRooftopCats;II[J)I"⟩
def dkwX0_nominate_0 : List UInt8 := [45, 3, 42, 27, 28, 182, 0, 47, 133, 80, 167, 0, 11, 58, 4, 4, 172, 58, 4, 5, 172, 3, 172]
abbrev dktX0_nominate_0 : List UInt8 := dkwX0_nominate_0 ++ []
theorem dksX0_nominate_0 : cX0_nominate.data.toList.drop 0 = dktX0_nominate_0 := by decide +kernel
theorem dX0_nominate_0 : decode cX0_nominate 0 = .ok (.aload_n 3, 1) := dk_45 (dk_at dksX0_nominate_0 0 rfl rfl)
theorem dX0_nominate_1 : decode cX0_nominate 1 = .ok (.iconst 0, 1) := dk_3 (dk_at dksX0_nominate_0 1 rfl rfl)
theorem dX0_nominate_2 : decode cX0_nominate 2 = .ok (.aload_n 0, 1) := dk_42 (dk_at dksX0_nominate_0 2 rfl rfl)
theorem dX0_nominate_3 : decode cX0_nominate 3 = .ok (.iload_n 1, 1) := dk_27 (dk_at dksX0_nominate_0 3 rfl rfl)
theorem dX0_nominate_4 : decode cX0_nominate 4 = .ok (.iload_n 2, 1) := dk_28 (dk_at dksX0_nominate_0 4 rfl rfl)
theorem dX0_nominate_5 : decode cX0_nominate 5 = .ok (.invokevirtual 47, 3) := dk_182 0 47 (dk_at dksX0_nominate_0 5 rfl rfl)
theorem dX0_nominate_8 : decode cX0_nominate 8 = .ok (.i2l, 1) := dk_133 (dk_at dksX0_nominate_0 8 rfl rfl)
theorem dX0_nominate_9 : decode cX0_nominate 9 = .ok (.lastore, 1) := dk_80 (dk_at dksX0_nominate_0 9 rfl rfl)
theorem dX0_nominate_10 : decode cX0_nominate 10 = .ok (.goto 11, 3) := dk_167 0 11 (dk_at dksX0_nominate_0 10 rfl rfl)
theorem dX0_nominate_13 : decode cX0_nominate 13 = .ok (.astore 4, 2) := dk_58 4 (dk_at dksX0_nominate_0 13 rfl rfl)
theorem dX0_nominate_15 : decode cX0_nominate 15 = .ok (.iconst 1, 1) := dk_4 (dk_at dksX0_nominate_0 15 rfl rfl)
theorem dX0_nominate_16 : decode cX0_nominate 16 = .ok (.ireturn, 1) := dk_172 (dk_at dksX0_nominate_0 16 rfl rfl)
theorem dX0_nominate_17 : decode cX0_nominate 17 = .ok (.astore 4, 2) := dk_58 4 (dk_at dksX0_nominate_0 17 rfl rfl)
theorem dX0_nominate_19 : decode cX0_nominate 19 = .ok (.iconst 2, 1) := dk_5 (dk_at dksX0_nominate_0 19 rfl rfl)
theorem dX0_nominate_20 : decode cX0_nominate 20 = .ok (.ireturn, 1) := dk_172 (dk_at dksX0_nominate_0 20 rfl rfl)
theorem dX0_nominate_21 : decode cX0_nominate 21 = .ok (.iconst 0, 1) := dk_3 (dk_at dksX0_nominate_0 21 rfl rfl)
theorem dX0_nominate_22 : decode cX0_nominate 22 = .ok (.ireturn, 1) := dk_172 (dk_at dksX0_nominate_0 22 rfl rfl)
abbrev cX0_vote : ByteArray := method_13_code
def yX0_vote : MethodName := ⟨RX0, "vote", "(LRooftopCats;IZ[J)I"⟩
def dkwX0_vote_1 : List UInt8 := [58, 4, 5, 172, 3, 172]
abbrev dktX0_vote_1 : List UInt8 := dkwX0_vote_1 ++ []
def dkwX0_vote_0 : List UInt8 := [45, 3, 42, 27, 28, 182, 0, 50, 153, 0, 7, 10, 167, 0, 4, 9, 80, 167, 0, 11, 58, 4, 4, 172]
abbrev dktX0_vote_0 : List UInt8 := dkwX0_vote_0 ++ dktX0_vote_1
theorem dksX0_vote_0 : cX0_vote.data.toList.drop 0 = dktX0_vote_0 := by decide +kernel
theorem dksX0_vote_1 : cX0_vote.data.toList.drop 24 = dktX0_vote_1 := dk_seg dksX0_vote_0 24 rfl rfl
theorem dX0_vote_0 : decode cX0_vote 0 = .ok (.aload_n 3, 1) := dk_45 (dk_at dksX0_vote_0 0 rfl rfl)
theorem dX0_vote_1 : decode cX0_vote 1 = .ok (.iconst 0, 1) := dk_3 (dk_at dksX0_vote_0 1 rfl rfl)
theorem dX0_vote_2 : decode cX0_vote 2 = .ok (.aload_n 0, 1) := dk_42 (dk_at dksX0_vote_0 2 rfl rfl)
theorem dX0_vote_3 : decode cX0_vote 3 = .ok (.iload_n 1, 1) := dk_27 (dk_at dksX0_vote_0 3 rfl rfl)
theorem dX0_vote_4 : decode cX0_vote 4 = .ok (.iload_n 2, 1) := dk_28 (dk_at dksX0_vote_0 4 rfl rfl)
theorem dX0_vote_5 : decode cX0_vote 5 = .ok (.invokevirtual 50, 3) := dk_182 0 50 (dk_at dksX0_vote_0 5 rfl rfl)
theorem dX0_vote_8 : decode cX0_vote 8 = .ok (.ifCond .eq 7, 3) := dk_153 0 7 (dk_at dksX0_vote_0 8 rfl rfl)
theorem dX0_vote_11 : decode cX0_vote 11 = .ok (.lconst 1, 1) := dk_10 (dk_at dksX0_vote_0 11 rfl rfl)
theorem dX0_vote_12 : decode cX0_vote 12 = .ok (.goto 4, 3) := dk_167 0 4 (dk_at dksX0_vote_0 12 rfl rfl)
theorem dX0_vote_15 : decode cX0_vote 15 = .ok (.lconst 0, 1) := dk_9 (dk_at dksX0_vote_0 15 rfl rfl)
theorem dX0_vote_16 : decode cX0_vote 16 = .ok (.lastore, 1) := dk_80 (dk_at dksX0_vote_0 16 rfl rfl)
theorem dX0_vote_17 : decode cX0_vote 17 = .ok (.goto 11, 3) := dk_167 0 11 (dk_at dksX0_vote_0 17 rfl rfl)
theorem dX0_vote_20 : decode cX0_vote 20 = .ok (.astore 4, 2) := dk_58 4 (dk_at dksX0_vote_0 20 rfl rfl)
theorem dX0_vote_22 : decode cX0_vote 22 = .ok (.iconst 1, 1) := dk_4 (dk_at dksX0_vote_0 22 rfl rfl)
theorem dX0_vote_23 : decode cX0_vote 23 = .ok (.ireturn, 1) := dk_172 (dk_at dksX0_vote_0 23 rfl rfl)
theorem dX0_vote_24 : decode cX0_vote 24 = .ok (.astore 4, 2) := dk_58 4 (dk_at dksX0_vote_1 0 rfl rfl)
theorem dX0_vote_26 : decode cX0_vote 26 = .ok (.iconst 2, 1) := dk_5 (dk_at dksX0_vote_1 2 rfl rfl)
theorem dX0_vote_27 : decode cX0_vote 27 = .ok (.ireturn, 1) := dk_172 (dk_at dksX0_vote_1 3 rfl rfl)
theorem dX0_vote_28 : decode cX0_vote 28 = .ok (.iconst 0, 1) := dk_3 (dk_at dksX0_vote_1 4 rfl rfl)
theorem dX0_vote_29 : decode cX0_vote 29 = .ok (.ireturn, 1) := dk_172 (dk_at dksX0_vote_1 5 rfl rfl)
abbrev cX0_passNights : ByteArray := method_14_code
def yX0_passNights : MethodName := ⟨RX0, "passNights", "(LRooftopCats;I[J)I"⟩
def dkwX0_passNights_0 : List UInt8 := [44, 3, 42, 27, 182, 0, 54, 133, 80, 167, 0, 9, 78, 4, 172, 78, 5, 172, 3, 172]
abbrev dktX0_passNights_0 : List UInt8 := dkwX0_passNights_0 ++ []
theorem dksX0_passNights_0 : cX0_passNights.data.toList.drop 0 = dktX0_passNights_0 := by decide +kernel
theorem dX0_passNights_0 : decode cX0_passNights 0 = .ok (.aload_n 2, 1) := dk_44 (dk_at dksX0_passNights_0 0 rfl rfl)
theorem dX0_passNights_1 : decode cX0_passNights 1 = .ok (.iconst 0, 1) := dk_3 (dk_at dksX0_passNights_0 1 rfl rfl)
theorem dX0_passNights_2 : decode cX0_passNights 2 = .ok (.aload_n 0, 1) := dk_42 (dk_at dksX0_passNights_0 2 rfl rfl)
theorem dX0_passNights_3 : decode cX0_passNights 3 = .ok (.iload_n 1, 1) := dk_27 (dk_at dksX0_passNights_0 3 rfl rfl)
theorem dX0_passNights_4 : decode cX0_passNights 4 = .ok (.invokevirtual 54, 3) := dk_182 0 54 (dk_at dksX0_passNights_0 4 rfl rfl)
theorem dX0_passNights_7 : decode cX0_passNights 7 = .ok (.i2l, 1) := dk_133 (dk_at dksX0_passNights_0 7 rfl rfl)
theorem dX0_passNights_8 : decode cX0_passNights 8 = .ok (.lastore, 1) := dk_80 (dk_at dksX0_passNights_0 8 rfl rfl)
theorem dX0_passNights_9 : decode cX0_passNights 9 = .ok (.goto 9, 3) := dk_167 0 9 (dk_at dksX0_passNights_0 9 rfl rfl)
theorem dX0_passNights_12 : decode cX0_passNights 12 = .ok (.astore_n 3, 1) := dk_78 (dk_at dksX0_passNights_0 12 rfl rfl)
theorem dX0_passNights_13 : decode cX0_passNights 13 = .ok (.iconst 1, 1) := dk_4 (dk_at dksX0_passNights_0 13 rfl rfl)
theorem dX0_passNights_14 : decode cX0_passNights 14 = .ok (.ireturn, 1) := dk_172 (dk_at dksX0_passNights_0 14 rfl rfl)
theorem dX0_passNights_15 : decode cX0_passNights 15 = .ok (.astore_n 3, 1) := dk_78 (dk_at dksX0_passNights_0 15 rfl rfl)
theorem dX0_passNights_16 : decode cX0_passNights 16 = .ok (.iconst 2, 1) := dk_5 (dk_at dksX0_passNights_0 16 rfl rfl)
theorem dX0_passNights_17 : decode cX0_passNights 17 = .ok (.ireturn, 1) := dk_172 (dk_at dksX0_passNights_0 17 rfl rfl)
theorem dX0_passNights_18 : decode cX0_passNights 18 = .ok (.iconst 0, 1) := dk_3 (dk_at dksX0_passNights_0 18 rfl rfl)
theorem dX0_passNights_19 : decode cX0_passNights 19 = .ok (.ireturn, 1) := dk_172 (dk_at dksX0_passNights_0 19 rfl rfl)
abbrev cX0_restoreSnapshot : ByteArray := method_15_code
def yX0_restoreSnapshot : MethodName := ⟨RX0, "restoreSnapshot", "(LRooftopCats;[J)I"⟩
def dkwX0_restoreSnapshot_0 : List UInt8 := [43, 3, 42, 182, 0, 57, 133, 80, 167, 0, 6, 77, 4, 172, 3, 172]
abbrev dktX0_restoreSnapshot_0 : List UInt8 := dkwX0_restoreSnapshot_0 ++ []
theorem dksX0_restoreSnapshot_0 : cX0_restoreSnapshot.data.toList.drop 0 = dktX0_restoreSnapshot_0 := by decide +kernel
theorem dX0_restoreSnapshot_0 : decode cX0_restoreSnapshot 0 = .ok (.aload_n 1, 1) := dk_43 (dk_at dksX0_restoreSnapshot_0 0 rfl rfl)
theorem dX0_restoreSnapshot_1 : decode cX0_restoreSnapshot 1 = .ok (.iconst 0, 1) := dk_3 (dk_at dksX0_restoreSnapshot_0 1 rfl rfl)
theorem dX0_restoreSnapshot_2 : decode cX0_restoreSnapshot 2 = .ok (.aload_n 0, 1) := dk_42 (dk_at dksX0_restoreSnapshot_0 2 rfl rfl)
theorem dX0_restoreSnapshot_3 : decode cX0_restoreSnapshot 3 = .ok (.invokevirtual 57, 3) := dk_182 0 57 (dk_at dksX0_restoreSnapshot_0 3 rfl rfl)
theorem dX0_restoreSnapshot_6 : decode cX0_restoreSnapshot 6 = .ok (.i2l, 1) := dk_133 (dk_at dksX0_restoreSnapshot_0 6 rfl rfl)
theorem dX0_restoreSnapshot_7 : decode cX0_restoreSnapshot 7 = .ok (.lastore, 1) := dk_80 (dk_at dksX0_restoreSnapshot_0 7 rfl rfl)
theorem dX0_restoreSnapshot_8 : decode cX0_restoreSnapshot 8 = .ok (.goto 6, 3) := dk_167 0 6 (dk_at dksX0_restoreSnapshot_0 8 rfl rfl)
theorem dX0_restoreSnapshot_11 : decode cX0_restoreSnapshot 11 = .ok (.astore_n 2, 1) := dk_77 (dk_at dksX0_restoreSnapshot_0 11 rfl rfl)
theorem dX0_restoreSnapshot_12 : decode cX0_restoreSnapshot 12 = .ok (.iconst 1, 1) := dk_4 (dk_at dksX0_restoreSnapshot_0 12 rfl rfl)
theorem dX0_restoreSnapshot_13 : decode cX0_restoreSnapshot 13 = .ok (.ireturn, 1) := dk_172 (dk_at dksX0_restoreSnapshot_0 13 rfl rfl)
theorem dX0_restoreSnapshot_14 : decode cX0_restoreSnapshot 14 = .ok (.iconst 0, 1) := dk_3 (dk_at dksX0_restoreSnapshot_0 14 rfl rfl)
theorem dX0_restoreSnapshot_15 : decode cX0_restoreSnapshot 15 = .ok (.ireturn, 1) := dk_172 (dk_at dksX0_restoreSnapshot_0 15 rfl rfl)
abbrev cX0_warmth : ByteArray := method_16_code
def yX0_warmth : MethodName := ⟨RX0, "warmth", "(LRooftopCats;I[J)I"⟩
def dkwX0_warmth_0 : List UInt8 := [44, 3, 42, 27, 182, 0, 63, 133, 80, 167, 0, 6, 78, 4, 172, 3, 172]
abbrev dktX0_warmth_0 : List UInt8 := dkwX0_warmth_0 ++ []
theorem dksX0_warmth_0 : cX0_warmth.data.toList.drop 0 = dktX0_warmth_0 := by decide +kernel
theorem dX0_warmth_0 : decode cX0_warmth 0 = .ok (.aload_n 2, 1) := dk_44 (dk_at dksX0_warmth_0 0 rfl rfl)
theorem dX0_warmth_1 : decode cX0_warmth 1 = .ok (.iconst 0, 1) := dk_3 (dk_at dksX0_warmth_0 1 rfl rfl)
theorem dX0_warmth_2 : decode cX0_warmth 2 = .ok (.aload_n 0, 1) := dk_42 (dk_at dksX0_warmth_0 2 rfl rfl)
theorem dX0_warmth_3 : decode cX0_warmth 3 = .ok (.iload_n 1, 1) := dk_27 (dk_at dksX0_warmth_0 3 rfl rfl)
theorem dX0_warmth_4 : decode cX0_warmth 4 = .ok (.invokevirtual 63, 3) := dk_182 0 63 (dk_at dksX0_warmth_0 4 rfl rfl)
theorem dX0_warmth_7 : decode cX0_warmth 7 = .ok (.i2l, 1) := dk_133 (dk_at dksX0_warmth_0 7 rfl rfl)
theorem dX0_warmth_8 : decode cX0_warmth 8 = .ok (.lastore, 1) := dk_80 (dk_at dksX0_warmth_0 8 rfl rfl)
theorem dX0_warmth_9 : decode cX0_warmth 9 = .ok (.goto 6, 3) := dk_167 0 6 (dk_at dksX0_warmth_0 9 rfl rfl)
theorem dX0_warmth_12 : decode cX0_warmth 12 = .ok (.astore_n 3, 1) := dk_78 (dk_at dksX0_warmth_0 12 rfl rfl)
theorem dX0_warmth_13 : decode cX0_warmth 13 = .ok (.iconst 1, 1) := dk_4 (dk_at dksX0_warmth_0 13 rfl rfl)
theorem dX0_warmth_14 : decode cX0_warmth 14 = .ok (.ireturn, 1) := dk_172 (dk_at dksX0_warmth_0 14 rfl rfl)
theorem dX0_warmth_15 : decode cX0_warmth 15 = .ok (.iconst 0, 1) := dk_3 (dk_at dksX0_warmth_0 15 rfl rfl)
theorem dX0_warmth_16 : decode cX0_warmth 16 = .ok (.ireturn, 1) := dk_172 (dk_at dksX0_warmth_0 16 rfl rfl)
abbrev cX0_ownerOf : ByteArray := method_17_code
def yX0_ownerOf : MethodName := ⟨RX0, "ownerOf", "(LRooftopCats;I[J)I"⟩
def dkwX0_ownerOf_0 : List UInt8 := [44, 3, 42, 27, 182, 0, 66, 133, 80, 167, 0, 6, 78, 4, 172, 3, 172]
abbrev dktX0_ownerOf_0 : List UInt8 := dkwX0_ownerOf_0 ++ []
theorem dksX0_ownerOf_0 : cX0_ownerOf.data.toList.drop 0 = dktX0_ownerOf_0 := by decide +kernel
theorem dX0_ownerOf_0 : decode cX0_ownerOf 0 = .ok (.aload_n 2, 1) := dk_44 (dk_at dksX0_ownerOf_0 0 rfl rfl)
theorem dX0_ownerOf_1 : decode cX0_ownerOf 1 = .ok (.iconst 0, 1) := dk_3 (dk_at dksX0_ownerOf_0 1 rfl rfl)
theorem dX0_ownerOf_2 : decode cX0_ownerOf 2 = .ok (.aload_n 0, 1) := dk_42 (dk_at dksX0_ownerOf_0 2 rfl rfl)
theorem dX0_ownerOf_3 : decode cX0_ownerOf 3 = .ok (.iload_n 1, 1) := dk_27 (dk_at dksX0_ownerOf_0 3 rfl rfl)
theorem dX0_ownerOf_4 : decode cX0_ownerOf 4 = .ok (.invokevirtual 66, 3) := dk_182 0 66 (dk_at dksX0_ownerOf_0 4 rfl rfl)
theorem dX0_ownerOf_7 : decode cX0_ownerOf 7 = .ok (.i2l, 1) := dk_133 (dk_at dksX0_ownerOf_0 7 rfl rfl)
theorem dX0_ownerOf_8 : decode cX0_ownerOf 8 = .ok (.lastore, 1) := dk_80 (dk_at dksX0_ownerOf_0 8 rfl rfl)
theorem dX0_ownerOf_9 : decode cX0_ownerOf 9 = .ok (.goto 6, 3) := dk_167 0 6 (dk_at dksX0_ownerOf_0 9 rfl rfl)
theorem dX0_ownerOf_12 : decode cX0_ownerOf 12 = .ok (.astore_n 3, 1) := dk_78 (dk_at dksX0_ownerOf_0 12 rfl rfl)
theorem dX0_ownerOf_13 : decode cX0_ownerOf 13 = .ok (.iconst 1, 1) := dk_4 (dk_at dksX0_ownerOf_0 13 rfl rfl)
theorem dX0_ownerOf_14 : decode cX0_ownerOf 14 = .ok (.ireturn, 1) := dk_172 (dk_at dksX0_ownerOf_0 14 rfl rfl)
theorem dX0_ownerOf_15 : decode cX0_ownerOf 15 = .ok (.iconst 0, 1) := dk_3 (dk_at dksX0_ownerOf_0 15 rfl rfl)
theorem dX0_ownerOf_16 : decode cX0_ownerOf 16 = .ok (.ireturn, 1) := dk_172 (dk_at dksX0_ownerOf_0 16 rfl rfl)
abbrev cX0_catOn : ByteArray := method_18_code
def yX0_catOn : MethodName := ⟨RX0, "catOn", "(LRooftopCats;I[J)I"⟩
def dkwX0_catOn_0 : List UInt8 := [44, 3, 42, 27, 182, 0, 69, 133, 80, 167, 0, 6, 78, 4, 172, 3, 172]
abbrev dktX0_catOn_0 : List UInt8 := dkwX0_catOn_0 ++ []
theorem dksX0_catOn_0 : cX0_catOn.data.toList.drop 0 = dktX0_catOn_0 := by decide +kernel
theorem dX0_catOn_0 : decode cX0_catOn 0 = .ok (.aload_n 2, 1) := dk_44 (dk_at dksX0_catOn_0 0 rfl rfl)
theorem dX0_catOn_1 : decode cX0_catOn 1 = .ok (.iconst 0, 1) := dk_3 (dk_at dksX0_catOn_0 1 rfl rfl)
theorem dX0_catOn_2 : decode cX0_catOn 2 = .ok (.aload_n 0, 1) := dk_42 (dk_at dksX0_catOn_0 2 rfl rfl)
theorem dX0_catOn_3 : decode cX0_catOn 3 = .ok (.iload_n 1, 1) := dk_27 (dk_at dksX0_catOn_0 3 rfl rfl)
theorem dX0_catOn_4 : decode cX0_catOn 4 = .ok (.invokevirtual 69, 3) := dk_182 0 69 (dk_at dksX0_catOn_0 4 rfl rfl)
theorem dX0_catOn_7 : decode cX0_catOn 7 = .ok (.i2l, 1) := dk_133 (dk_at dksX0_catOn_0 7 rfl rfl)
theorem dX0_catOn_8 : decode cX0_catOn 8 = .ok (.lastore, 1) := dk_80 (dk_at dksX0_catOn_0 8 rfl rfl)
theorem dX0_catOn_9 : decode cX0_catOn 9 = .ok (.goto 6, 3) := dk_167 0 6 (dk_at dksX0_catOn_0 9 rfl rfl)
theorem dX0_catOn_12 : decode cX0_catOn 12 = .ok (.astore_n 3, 1) := dk_78 (dk_at dksX0_catOn_0 12 rfl rfl)
theorem dX0_catOn_13 : decode cX0_catOn 13 = .ok (.iconst 1, 1) := dk_4 (dk_at dksX0_catOn_0 13 rfl rfl)
theorem dX0_catOn_14 : decode cX0_catOn 14 = .ok (.ireturn, 1) := dk_172 (dk_at dksX0_catOn_0 14 rfl rfl)
theorem dX0_catOn_15 : decode cX0_catOn 15 = .ok (.iconst 0, 1) := dk_3 (dk_at dksX0_catOn_0 15 rfl rfl)
theorem dX0_catOn_16 : decode cX0_catOn 16 = .ok (.ireturn, 1) := dk_172 (dk_at dksX0_catOn_0 16 rfl rfl)
abbrev cX0_gutterEnds : ByteArray := method_19_code
def yX0_gutterEnds : MethodName := ⟨RX0, "gutterEnds", "(LRooftopCats;I[J)I"⟩
def dkwX0_gutterEnds_0 : List UInt8 := [44, 3, 42, 27, 182, 0, 72, 133, 80, 167, 0, 6, 78, 4, 172, 3, 172]
abbrev dktX0_gutterEnds_0 : List UInt8 := dkwX0_gutterEnds_0 ++ []
theorem dksX0_gutterEnds_0 : cX0_gutterEnds.data.toList.drop 0 = dktX0_gutterEnds_0 := by decide +kernel
theorem dX0_gutterEnds_0 : decode cX0_gutterEnds 0 = .ok (.aload_n 2, 1) := dk_44 (dk_at dksX0_gutterEnds_0 0 rfl rfl)
theorem dX0_gutterEnds_1 : decode cX0_gutterEnds 1 = .ok (.iconst 0, 1) := dk_3 (dk_at dksX0_gutterEnds_0 1 rfl rfl)
theorem dX0_gutterEnds_2 : decode cX0_gutterEnds 2 = .ok (.aload_n 0, 1) := dk_42 (dk_at dksX0_gutterEnds_0 2 rfl rfl)
theorem dX0_gutterEnds_3 : decode cX0_gutterEnds 3 = .ok (.iload_n 1, 1) := dk_27 (dk_at dksX0_gutterEnds_0 3 rfl rfl)
theorem dX0_gutterEnds_4 : decode cX0_gutterEnds 4 = .ok (.invokevirtual 72, 3) := dk_182 0 72 (dk_at dksX0_gutterEnds_0 4 rfl rfl)
theorem dX0_gutterEnds_7 : decode cX0_gutterEnds 7 = .ok (.i2l, 1) := dk_133 (dk_at dksX0_gutterEnds_0 7 rfl rfl)
theorem dX0_gutterEnds_8 : decode cX0_gutterEnds 8 = .ok (.lastore, 1) := dk_80 (dk_at dksX0_gutterEnds_0 8 rfl rfl)
theorem dX0_gutterEnds_9 : decode cX0_gutterEnds 9 = .ok (.goto 6, 3) := dk_167 0 6 (dk_at dksX0_gutterEnds_0 9 rfl rfl)
theorem dX0_gutterEnds_12 : decode cX0_gutterEnds 12 = .ok (.astore_n 3, 1) := dk_78 (dk_at dksX0_gutterEnds_0 12 rfl rfl)
theorem dX0_gutterEnds_13 : decode cX0_gutterEnds 13 = .ok (.iconst 1, 1) := dk_4 (dk_at dksX0_gutterEnds_0 13 rfl rfl)
theorem dX0_gutterEnds_14 : decode cX0_gutterEnds 14 = .ok (.ireturn, 1) := dk_172 (dk_at dksX0_gutterEnds_0 14 rfl rfl)
theorem dX0_gutterEnds_15 : decode cX0_gutterEnds 15 = .ok (.iconst 0, 1) := dk_3 (dk_at dksX0_gutterEnds_0 15 rfl rfl)
theorem dX0_gutterEnds_16 : decode cX0_gutterEnds 16 = .ok (.ireturn, 1) := dk_172 (dk_at dksX0_gutterEnds_0 16 rfl rfl)
abbrev cX0_width : ByteArray := method_20_code
def yX0_width : MethodName := ⟨RX0, "width", "(LRooftopCats;I[J)I"⟩
def dkwX0_width_0 : List UInt8 := [44, 3, 42, 27, 182, 0, 75, 133, 80, 167, 0, 6, 78, 4, 172, 3, 172]
abbrev dktX0_width_0 : List UInt8 := dkwX0_width_0 ++ []
theorem dksX0_width_0 : cX0_width.data.toList.drop 0 = dktX0_width_0 := by decide +kernel
theorem dX0_width_0 : decode cX0_width 0 = .ok (.aload_n 2, 1) := dk_44 (dk_at dksX0_width_0 0 rfl rfl)
theorem dX0_width_1 : decode cX0_width 1 = .ok (.iconst 0, 1) := dk_3 (dk_at dksX0_width_0 1 rfl rfl)
theorem dX0_width_2 : decode cX0_width 2 = .ok (.aload_n 0, 1) := dk_42 (dk_at dksX0_width_0 2 rfl rfl)
theorem dX0_width_3 : decode cX0_width 3 = .ok (.iload_n 1, 1) := dk_27 (dk_at dksX0_width_0 3 rfl rfl)
theorem dX0_width_4 : decode cX0_width 4 = .ok (.invokevirtual 75, 3) := dk_182 0 75 (dk_at dksX0_width_0 4 rfl rfl)
theorem dX0_width_7 : decode cX0_width 7 = .ok (.i2l, 1) := dk_133 (dk_at dksX0_width_0 7 rfl rfl)
theorem dX0_width_8 : decode cX0_width 8 = .ok (.lastore, 1) := dk_80 (dk_at dksX0_width_0 8 rfl rfl)
theorem dX0_width_9 : decode cX0_width 9 = .ok (.goto 6, 3) := dk_167 0 6 (dk_at dksX0_width_0 9 rfl rfl)
theorem dX0_width_12 : decode cX0_width 12 = .ok (.astore_n 3, 1) := dk_78 (dk_at dksX0_width_0 12 rfl rfl)
theorem dX0_width_13 : decode cX0_width 13 = .ok (.iconst 1, 1) := dk_4 (dk_at dksX0_width_0 13 rfl rfl)
theorem dX0_width_14 : decode cX0_width 14 = .ok (.ireturn, 1) := dk_172 (dk_at dksX0_width_0 14 rfl rfl)
theorem dX0_width_15 : decode cX0_width 15 = .ok (.iconst 0, 1) := dk_3 (dk_at dksX0_width_0 15 rfl rfl)
theorem dX0_width_16 : decode cX0_width 16 = .ok (.ireturn, 1) := dk_172 (dk_at dksX0_width_0 16 rfl rfl)
abbrev cX0_widestWay : ByteArray := method_21_code
def yX0_widestWay : MethodName := ⟨RX0, "widestWay", "(LRooftopCats;II[J)I"⟩
def dkwX0_widestWay_0 : List UInt8 := [45, 3, 42, 27, 28, 182, 0, 78, 133, 80, 167, 0, 7, 58, 4, 4, 172, 3, 172]
abbrev dktX0_widestWay_0 : List UInt8 := dkwX0_widestWay_0 ++ []
theorem dksX0_widestWay_0 : cX0_widestWay.data.toList.drop 0 = dktX0_widestWay_0 := by decide +kernel
theorem dX0_widestWay_0 : decode cX0_widestWay 0 = .ok (.aload_n 3, 1) := dk_45 (dk_at dksX0_widestWay_0 0 rfl rfl)
theorem dX0_widestWay_1 : decode cX0_widestWay 1 = .ok (.iconst 0, 1) := dk_3 (dk_at dksX0_widestWay_0 1 rfl rfl)
theorem dX0_widestWay_2 : decode cX0_widestWay 2 = .ok (.aload_n 0, 1) := dk_42 (dk_at dksX0_widestWay_0 2 rfl rfl)
theorem dX0_widestWay_3 : decode cX0_widestWay 3 = .ok (.iload_n 1, 1) := dk_27 (dk_at dksX0_widestWay_0 3 rfl rfl)
theorem dX0_widestWay_4 : decode cX0_widestWay 4 = .ok (.iload_n 2, 1) := dk_28 (dk_at dksX0_widestWay_0 4 rfl rfl)
theorem dX0_widestWay_5 : decode cX0_widestWay 5 = .ok (.invokevirtual 78, 3) := dk_182 0 78 (dk_at dksX0_widestWay_0 5 rfl rfl)
theorem dX0_widestWay_8 : decode cX0_widestWay 8 = .ok (.i2l, 1) := dk_133 (dk_at dksX0_widestWay_0 8 rfl rfl)
theorem dX0_widestWay_9 : decode cX0_widestWay 9 = .ok (.lastore, 1) := dk_80 (dk_at dksX0_widestWay_0 9 rfl rfl)
theorem dX0_widestWay_10 : decode cX0_widestWay 10 = .ok (.goto 7, 3) := dk_167 0 7 (dk_at dksX0_widestWay_0 10 rfl rfl)
theorem dX0_widestWay_13 : decode cX0_widestWay 13 = .ok (.astore 4, 2) := dk_58 4 (dk_at dksX0_widestWay_0 13 rfl rfl)
theorem dX0_widestWay_15 : decode cX0_widestWay 15 = .ok (.iconst 1, 1) := dk_4 (dk_at dksX0_widestWay_0 15 rfl rfl)
theorem dX0_widestWay_16 : decode cX0_widestWay 16 = .ok (.ireturn, 1) := dk_172 (dk_at dksX0_widestWay_0 16 rfl rfl)
theorem dX0_widestWay_17 : decode cX0_widestWay 17 = .ok (.iconst 0, 1) := dk_3 (dk_at dksX0_widestWay_0 17 rfl rfl)
theorem dX0_widestWay_18 : decode cX0_widestWay 18 = .ok (.ireturn, 1) := dk_172 (dk_at dksX0_widestWay_0 18 rfl rfl)
abbrev cX0_girth : ByteArray := method_22_code
def yX0_girth : MethodName := ⟨RX0, "girth", "(LRooftopCats;I[J)I"⟩
def dkwX0_girth_0 : List UInt8 := [44, 3, 42, 27, 182, 0, 81, 133, 80, 167, 0, 6, 78, 4, 172, 3, 172]
abbrev dktX0_girth_0 : List UInt8 := dkwX0_girth_0 ++ []
theorem dksX0_girth_0 : cX0_girth.data.toList.drop 0 = dktX0_girth_0 := by decide +kernel
theorem dX0_girth_0 : decode cX0_girth 0 = .ok (.aload_n 2, 1) := dk_44 (dk_at dksX0_girth_0 0 rfl rfl)
theorem dX0_girth_1 : decode cX0_girth 1 = .ok (.iconst 0, 1) := dk_3 (dk_at dksX0_girth_0 1 rfl rfl)
theorem dX0_girth_2 : decode cX0_girth 2 = .ok (.aload_n 0, 1) := dk_42 (dk_at dksX0_girth_0 2 rfl rfl)
theorem dX0_girth_3 : decode cX0_girth 3 = .ok (.iload_n 1, 1) := dk_27 (dk_at dksX0_girth_0 3 rfl rfl)
theorem dX0_girth_4 : decode cX0_girth 4 = .ok (.invokevirtual 81, 3) := dk_182 0 81 (dk_at dksX0_girth_0 4 rfl rfl)
theorem dX0_girth_7 : decode cX0_girth 7 = .ok (.i2l, 1) := dk_133 (dk_at dksX0_girth_0 7 rfl rfl)
theorem dX0_girth_8 : decode cX0_girth 8 = .ok (.lastore, 1) := dk_80 (dk_at dksX0_girth_0 8 rfl rfl)
theorem dX0_girth_9 : decode cX0_girth 9 = .ok (.goto 6, 3) := dk_167 0 6 (dk_at dksX0_girth_0 9 rfl rfl)
theorem dX0_girth_12 : decode cX0_girth 12 = .ok (.astore_n 3, 1) := dk_78 (dk_at dksX0_girth_0 12 rfl rfl)
theorem dX0_girth_13 : decode cX0_girth 13 = .ok (.iconst 1, 1) := dk_4 (dk_at dksX0_girth_0 13 rfl rfl)
theorem dX0_girth_14 : decode cX0_girth 14 = .ok (.ireturn, 1) := dk_172 (dk_at dksX0_girth_0 14 rfl rfl)
theorem dX0_girth_15 : decode cX0_girth 15 = .ok (.iconst 0, 1) := dk_3 (dk_at dksX0_girth_0 15 rfl rfl)
theorem dX0_girth_16 : decode cX0_girth 16 = .ok (.ireturn, 1) := dk_172 (dk_at dksX0_girth_0 16 rfl rfl)
abbrev cX0_power : ByteArray := method_23_code
def yX0_power : MethodName := ⟨RX0, "power", "(LRooftopCats;I[J)I"⟩
def dkwX0_power_0 : List UInt8 := [44, 3, 42, 27, 182, 0, 84, 133, 80, 167, 0, 6, 78, 4, 172, 3, 172]
abbrev dktX0_power_0 : List UInt8 := dkwX0_power_0 ++ []
theorem dksX0_power_0 : cX0_power.data.toList.drop 0 = dktX0_power_0 := by decide +kernel
theorem dX0_power_0 : decode cX0_power 0 = .ok (.aload_n 2, 1) := dk_44 (dk_at dksX0_power_0 0 rfl rfl)
theorem dX0_power_1 : decode cX0_power 1 = .ok (.iconst 0, 1) := dk_3 (dk_at dksX0_power_0 1 rfl rfl)
theorem dX0_power_2 : decode cX0_power 2 = .ok (.aload_n 0, 1) := dk_42 (dk_at dksX0_power_0 2 rfl rfl)
theorem dX0_power_3 : decode cX0_power 3 = .ok (.iload_n 1, 1) := dk_27 (dk_at dksX0_power_0 3 rfl rfl)
theorem dX0_power_4 : decode cX0_power 4 = .ok (.invokevirtual 84, 3) := dk_182 0 84 (dk_at dksX0_power_0 4 rfl rfl)
theorem dX0_power_7 : decode cX0_power 7 = .ok (.i2l, 1) := dk_133 (dk_at dksX0_power_0 7 rfl rfl)
theorem dX0_power_8 : decode cX0_power 8 = .ok (.lastore, 1) := dk_80 (dk_at dksX0_power_0 8 rfl rfl)
theorem dX0_power_9 : decode cX0_power 9 = .ok (.goto 6, 3) := dk_167 0 6 (dk_at dksX0_power_0 9 rfl rfl)
theorem dX0_power_12 : decode cX0_power 12 = .ok (.astore_n 3, 1) := dk_78 (dk_at dksX0_power_0 12 rfl rfl)
theorem dX0_power_13 : decode cX0_power 13 = .ok (.iconst 1, 1) := dk_4 (dk_at dksX0_power_0 13 rfl rfl)
theorem dX0_power_14 : decode cX0_power 14 = .ok (.ireturn, 1) := dk_172 (dk_at dksX0_power_0 14 rfl rfl)
theorem dX0_power_15 : decode cX0_power 15 = .ok (.iconst 0, 1) := dk_3 (dk_at dksX0_power_0 15 rfl rfl)
theorem dX0_power_16 : decode cX0_power 16 = .ok (.ireturn, 1) := dk_172 (dk_at dksX0_power_0 16 rfl rfl)
abbrev cX0_fish : ByteArray := method_24_code
def yX0_fish : MethodName := ⟨RX0, "fish", "(LRooftopCats;I[J)I"⟩
def dkwX0_fish_0 : List UInt8 := [44, 3, 42, 27, 182, 0, 87, 133, 80, 167, 0, 6, 78, 4, 172, 3, 172]
abbrev dktX0_fish_0 : List UInt8 := dkwX0_fish_0 ++ []
theorem dksX0_fish_0 : cX0_fish.data.toList.drop 0 = dktX0_fish_0 := by decide +kernel
theorem dX0_fish_0 : decode cX0_fish 0 = .ok (.aload_n 2, 1) := dk_44 (dk_at dksX0_fish_0 0 rfl rfl)
theorem dX0_fish_1 : decode cX0_fish 1 = .ok (.iconst 0, 1) := dk_3 (dk_at dksX0_fish_0 1 rfl rfl)
theorem dX0_fish_2 : decode cX0_fish 2 = .ok (.aload_n 0, 1) := dk_42 (dk_at dksX0_fish_0 2 rfl rfl)
theorem dX0_fish_3 : decode cX0_fish 3 = .ok (.iload_n 1, 1) := dk_27 (dk_at dksX0_fish_0 3 rfl rfl)
theorem dX0_fish_4 : decode cX0_fish 4 = .ok (.invokevirtual 87, 3) := dk_182 0 87 (dk_at dksX0_fish_0 4 rfl rfl)
theorem dX0_fish_7 : decode cX0_fish 7 = .ok (.i2l, 1) := dk_133 (dk_at dksX0_fish_0 7 rfl rfl)
theorem dX0_fish_8 : decode cX0_fish 8 = .ok (.lastore, 1) := dk_80 (dk_at dksX0_fish_0 8 rfl rfl)
theorem dX0_fish_9 : decode cX0_fish 9 = .ok (.goto 6, 3) := dk_167 0 6 (dk_at dksX0_fish_0 9 rfl rfl)
theorem dX0_fish_12 : decode cX0_fish 12 = .ok (.astore_n 3, 1) := dk_78 (dk_at dksX0_fish_0 12 rfl rfl)
theorem dX0_fish_13 : decode cX0_fish 13 = .ok (.iconst 1, 1) := dk_4 (dk_at dksX0_fish_0 13 rfl rfl)
theorem dX0_fish_14 : decode cX0_fish 14 = .ok (.ireturn, 1) := dk_172 (dk_at dksX0_fish_0 14 rfl rfl)
theorem dX0_fish_15 : decode cX0_fish 15 = .ok (.iconst 0, 1) := dk_3 (dk_at dksX0_fish_0 15 rfl rfl)
theorem dX0_fish_16 : decode cX0_fish 16 = .ok (.ireturn, 1) := dk_172 (dk_at dksX0_fish_0 16 rfl rfl)
abbrev cX0_chimneyOf : ByteArray := method_25_code
def yX0_chimneyOf : MethodName := ⟨RX0, "chimneyOf", "(LRooftopCats;I[J)I"⟩
def dkwX0_chimneyOf_0 : List UInt8 := [44, 3, 42, 27, 182, 0, 90, 133, 80, 167, 0, 6, 78, 4, 172, 3, 172]
abbrev dktX0_chimneyOf_0 : List UInt8 := dkwX0_chimneyOf_0 ++ []
theorem dksX0_chimneyOf_0 : cX0_chimneyOf.data.toList.drop 0 = dktX0_chimneyOf_0 := by decide +kernel
theorem dX0_chimneyOf_0 : decode cX0_chimneyOf 0 = .ok (.aload_n 2, 1) := dk_44 (dk_at dksX0_chimneyOf_0 0 rfl rfl)
theorem dX0_chimneyOf_1 : decode cX0_chimneyOf 1 = .ok (.iconst 0, 1) := dk_3 (dk_at dksX0_chimneyOf_0 1 rfl rfl)
theorem dX0_chimneyOf_2 : decode cX0_chimneyOf 2 = .ok (.aload_n 0, 1) := dk_42 (dk_at dksX0_chimneyOf_0 2 rfl rfl)
theorem dX0_chimneyOf_3 : decode cX0_chimneyOf 3 = .ok (.iload_n 1, 1) := dk_27 (dk_at dksX0_chimneyOf_0 3 rfl rfl)
theorem dX0_chimneyOf_4 : decode cX0_chimneyOf 4 = .ok (.invokevirtual 90, 3) := dk_182 0 90 (dk_at dksX0_chimneyOf_0 4 rfl rfl)
theorem dX0_chimneyOf_7 : decode cX0_chimneyOf 7 = .ok (.i2l, 1) := dk_133 (dk_at dksX0_chimneyOf_0 7 rfl rfl)
theorem dX0_chimneyOf_8 : decode cX0_chimneyOf 8 = .ok (.lastore, 1) := dk_80 (dk_at dksX0_chimneyOf_0 8 rfl rfl)
theorem dX0_chimneyOf_9 : decode cX0_chimneyOf 9 = .ok (.goto 6, 3) := dk_167 0 6 (dk_at dksX0_chimneyOf_0 9 rfl rfl)
theorem dX0_chimneyOf_12 : decode cX0_chimneyOf 12 = .ok (.astore_n 3, 1) := dk_78 (dk_at dksX0_chimneyOf_0 12 rfl rfl)
theorem dX0_chimneyOf_13 : decode cX0_chimneyOf 13 = .ok (.iconst 1, 1) := dk_4 (dk_at dksX0_chimneyOf_0 13 rfl rfl)
theorem dX0_chimneyOf_14 : decode cX0_chimneyOf 14 = .ok (.ireturn, 1) := dk_172 (dk_at dksX0_chimneyOf_0 14 rfl rfl)
theorem dX0_chimneyOf_15 : decode cX0_chimneyOf 15 = .ok (.iconst 0, 1) := dk_3 (dk_at dksX0_chimneyOf_0 15 rfl rfl)
theorem dX0_chimneyOf_16 : decode cX0_chimneyOf 16 = .ok (.ireturn, 1) := dk_172 (dk_at dksX0_chimneyOf_0 16 rfl rfl)
abbrev cX0_ownedChimneys : ByteArray := method_26_code
def yX0_ownedChimneys : MethodName := ⟨RX0, "ownedChimneys", "(LRooftopCats;I[J)I"⟩
def dkwX0_ownedChimneys_0 : List UInt8 := [44, 3, 42, 27, 182, 0, 93, 133, 80, 167, 0, 6, 78, 4, 172, 3, 172]
abbrev dktX0_ownedChimneys_0 : List UInt8 := dkwX0_ownedChimneys_0 ++ []
theorem dksX0_ownedChimneys_0 : cX0_ownedChimneys.data.toList.drop 0 = dktX0_ownedChimneys_0 := by decide +kernel
theorem dX0_ownedChimneys_0 : decode cX0_ownedChimneys 0 = .ok (.aload_n 2, 1) := dk_44 (dk_at dksX0_ownedChimneys_0 0 rfl rfl)
theorem dX0_ownedChimneys_1 : decode cX0_ownedChimneys 1 = .ok (.iconst 0, 1) := dk_3 (dk_at dksX0_ownedChimneys_0 1 rfl rfl)
theorem dX0_ownedChimneys_2 : decode cX0_ownedChimneys 2 = .ok (.aload_n 0, 1) := dk_42 (dk_at dksX0_ownedChimneys_0 2 rfl rfl)
theorem dX0_ownedChimneys_3 : decode cX0_ownedChimneys 3 = .ok (.iload_n 1, 1) := dk_27 (dk_at dksX0_ownedChimneys_0 3 rfl rfl)
theorem dX0_ownedChimneys_4 : decode cX0_ownedChimneys 4 = .ok (.invokevirtual 93, 3) := dk_182 0 93 (dk_at dksX0_ownedChimneys_0 4 rfl rfl)
theorem dX0_ownedChimneys_7 : decode cX0_ownedChimneys 7 = .ok (.i2l, 1) := dk_133 (dk_at dksX0_ownedChimneys_0 7 rfl rfl)
theorem dX0_ownedChimneys_8 : decode cX0_ownedChimneys 8 = .ok (.lastore, 1) := dk_80 (dk_at dksX0_ownedChimneys_0 8 rfl rfl)
theorem dX0_ownedChimneys_9 : decode cX0_ownedChimneys 9 = .ok (.goto 6, 3) := dk_167 0 6 (dk_at dksX0_ownedChimneys_0 9 rfl rfl)
theorem dX0_ownedChimneys_12 : decode cX0_ownedChimneys 12 = .ok (.astore_n 3, 1) := dk_78 (dk_at dksX0_ownedChimneys_0 12 rfl rfl)
theorem dX0_ownedChimneys_13 : decode cX0_ownedChimneys 13 = .ok (.iconst 1, 1) := dk_4 (dk_at dksX0_ownedChimneys_0 13 rfl rfl)
theorem dX0_ownedChimneys_14 : decode cX0_ownedChimneys 14 = .ok (.ireturn, 1) := dk_172 (dk_at dksX0_ownedChimneys_0 14 rfl rfl)
theorem dX0_ownedChimneys_15 : decode cX0_ownedChimneys 15 = .ok (.iconst 0, 1) := dk_3 (dk_at dksX0_ownedChimneys_0 15 rfl rfl)
theorem dX0_ownedChimneys_16 : decode cX0_ownedChimneys 16 = .ok (.ireturn, 1) := dk_172 (dk_at dksX0_ownedChimneys_0 16 rfl rfl)
abbrev cX0_truceNights : ByteArray := method_27_code
def yX0_truceNights : MethodName := ⟨RX0, "truceNights", "(LRooftopCats;II[J)I"⟩
def dkwX0_truceNights_0 : List UInt8 := [45, 3, 42, 27, 28, 182, 0, 96, 133, 80, 167, 0, 11, 58, 4, 4, 172, 58, 4, 5, 172, 3, 172]
abbrev dktX0_truceNights_0 : List UInt8 := dkwX0_truceNights_0 ++ []
theorem dksX0_truceNights_0 : cX0_truceNights.data.toList.drop 0 = dktX0_truceNights_0 := by decide +kernel
theorem dX0_truceNights_0 : decode cX0_truceNights 0 = .ok (.aload_n 3, 1) := dk_45 (dk_at dksX0_truceNights_0 0 rfl rfl)
theorem dX0_truceNights_1 : decode cX0_truceNights 1 = .ok (.iconst 0, 1) := dk_3 (dk_at dksX0_truceNights_0 1 rfl rfl)
theorem dX0_truceNights_2 : decode cX0_truceNights 2 = .ok (.aload_n 0, 1) := dk_42 (dk_at dksX0_truceNights_0 2 rfl rfl)
theorem dX0_truceNights_3 : decode cX0_truceNights 3 = .ok (.iload_n 1, 1) := dk_27 (dk_at dksX0_truceNights_0 3 rfl rfl)
theorem dX0_truceNights_4 : decode cX0_truceNights 4 = .ok (.iload_n 2, 1) := dk_28 (dk_at dksX0_truceNights_0 4 rfl rfl)
theorem dX0_truceNights_5 : decode cX0_truceNights 5 = .ok (.invokevirtual 96, 3) := dk_182 0 96 (dk_at dksX0_truceNights_0 5 rfl rfl)
theorem dX0_truceNights_8 : decode cX0_truceNights 8 = .ok (.i2l, 1) := dk_133 (dk_at dksX0_truceNights_0 8 rfl rfl)
theorem dX0_truceNights_9 : decode cX0_truceNights 9 = .ok (.lastore, 1) := dk_80 (dk_at dksX0_truceNights_0 9 rfl rfl)
theorem dX0_truceNights_10 : decode cX0_truceNights 10 = .ok (.goto 11, 3) := dk_167 0 11 (dk_at dksX0_truceNights_0 10 rfl rfl)
theorem dX0_truceNights_13 : decode cX0_truceNights 13 = .ok (.astore 4, 2) := dk_58 4 (dk_at dksX0_truceNights_0 13 rfl rfl)
theorem dX0_truceNights_15 : decode cX0_truceNights 15 = .ok (.iconst 1, 1) := dk_4 (dk_at dksX0_truceNights_0 15 rfl rfl)
theorem dX0_truceNights_16 : decode cX0_truceNights 16 = .ok (.ireturn, 1) := dk_172 (dk_at dksX0_truceNights_0 16 rfl rfl)
theorem dX0_truceNights_17 : decode cX0_truceNights 17 = .ok (.astore 4, 2) := dk_58 4 (dk_at dksX0_truceNights_0 17 rfl rfl)
theorem dX0_truceNights_19 : decode cX0_truceNights 19 = .ok (.iconst 2, 1) := dk_5 (dk_at dksX0_truceNights_0 19 rfl rfl)
theorem dX0_truceNights_20 : decode cX0_truceNights 20 = .ok (.ireturn, 1) := dk_172 (dk_at dksX0_truceNights_0 20 rfl rfl)
theorem dX0_truceNights_21 : decode cX0_truceNights 21 = .ok (.iconst 0, 1) := dk_3 (dk_at dksX0_truceNights_0 21 rfl rfl)
theorem dX0_truceNights_22 : decode cX0_truceNights 22 = .ok (.ireturn, 1) := dk_172 (dk_at dksX0_truceNights_0 22 rfl rfl)
abbrev cX0_reachable : ByteArray := method_28_code
def yX0_reachable : MethodName := ⟨RX0, "reachable", "(LRooftopCats;I[J)I"⟩
def dkwX0_reachable_0 : List UInt8 := [44, 3, 42, 27, 182, 0, 99, 133, 80, 167, 0, 6, 78, 4, 172, 3, 172]
abbrev dktX0_reachable_0 : List UInt8 := dkwX0_reachable_0 ++ []
theorem dksX0_reachable_0 : cX0_reachable.data.toList.drop 0 = dktX0_reachable_0 := by decide +kernel
theorem dX0_reachable_0 : decode cX0_reachable 0 = .ok (.aload_n 2, 1) := dk_44 (dk_at dksX0_reachable_0 0 rfl rfl)
theorem dX0_reachable_1 : decode cX0_reachable 1 = .ok (.iconst 0, 1) := dk_3 (dk_at dksX0_reachable_0 1 rfl rfl)
theorem dX0_reachable_2 : decode cX0_reachable 2 = .ok (.aload_n 0, 1) := dk_42 (dk_at dksX0_reachable_0 2 rfl rfl)
theorem dX0_reachable_3 : decode cX0_reachable 3 = .ok (.iload_n 1, 1) := dk_27 (dk_at dksX0_reachable_0 3 rfl rfl)
theorem dX0_reachable_4 : decode cX0_reachable 4 = .ok (.invokevirtual 99, 3) := dk_182 0 99 (dk_at dksX0_reachable_0 4 rfl rfl)
theorem dX0_reachable_7 : decode cX0_reachable 7 = .ok (.i2l, 1) := dk_133 (dk_at dksX0_reachable_0 7 rfl rfl)
theorem dX0_reachable_8 : decode cX0_reachable 8 = .ok (.lastore, 1) := dk_80 (dk_at dksX0_reachable_0 8 rfl rfl)
theorem dX0_reachable_9 : decode cX0_reachable 9 = .ok (.goto 6, 3) := dk_167 0 6 (dk_at dksX0_reachable_0 9 rfl rfl)
theorem dX0_reachable_12 : decode cX0_reachable 12 = .ok (.astore_n 3, 1) := dk_78 (dk_at dksX0_reachable_0 12 rfl rfl)
theorem dX0_reachable_13 : decode cX0_reachable 13 = .ok (.iconst 1, 1) := dk_4 (dk_at dksX0_reachable_0 13 rfl rfl)
theorem dX0_reachable_14 : decode cX0_reachable 14 = .ok (.ireturn, 1) := dk_172 (dk_at dksX0_reachable_0 14 rfl rfl)
theorem dX0_reachable_15 : decode cX0_reachable 15 = .ok (.iconst 0, 1) := dk_3 (dk_at dksX0_reachable_0 15 rfl rfl)
theorem dX0_reachable_16 : decode cX0_reachable 16 = .ok (.ireturn, 1) := dk_172 (dk_at dksX0_reachable_0 16 rfl rfl)
abbrev cX0_stepsTo : ByteArray := method_29_code
def yX0_stepsTo : MethodName := ⟨RX0, "stepsTo", "(LRooftopCats;II[J)I"⟩
def dkwX0_stepsTo_0 : List UInt8 := [45, 3, 42, 27, 28, 182, 0, 102, 133, 80, 167, 0, 7, 58, 4, 4, 172, 3, 172]
abbrev dktX0_stepsTo_0 : List UInt8 := dkwX0_stepsTo_0 ++ []
theorem dksX0_stepsTo_0 : cX0_stepsTo.data.toList.drop 0 = dktX0_stepsTo_0 := by decide +kernel
theorem dX0_stepsTo_0 : decode cX0_stepsTo 0 = .ok (.aload_n 3, 1) := dk_45 (dk_at dksX0_stepsTo_0 0 rfl rfl)
theorem dX0_stepsTo_1 : decode cX0_stepsTo 1 = .ok (.iconst 0, 1) := dk_3 (dk_at dksX0_stepsTo_0 1 rfl rfl)
theorem dX0_stepsTo_2 : decode cX0_stepsTo 2 = .ok (.aload_n 0, 1) := dk_42 (dk_at dksX0_stepsTo_0 2 rfl rfl)
theorem dX0_stepsTo_3 : decode cX0_stepsTo 3 = .ok (.iload_n 1, 1) := dk_27 (dk_at dksX0_stepsTo_0 3 rfl rfl)
theorem dX0_stepsTo_4 : decode cX0_stepsTo 4 = .ok (.iload_n 2, 1) := dk_28 (dk_at dksX0_stepsTo_0 4 rfl rfl)
theorem dX0_stepsTo_5 : decode cX0_stepsTo 5 = .ok (.invokevirtual 102, 3) := dk_182 0 102 (dk_at dksX0_stepsTo_0 5 rfl rfl)
theorem dX0_stepsTo_8 : decode cX0_stepsTo 8 = .ok (.i2l, 1) := dk_133 (dk_at dksX0_stepsTo_0 8 rfl rfl)
theorem dX0_stepsTo_9 : decode cX0_stepsTo 9 = .ok (.lastore, 1) := dk_80 (dk_at dksX0_stepsTo_0 9 rfl rfl)
theorem dX0_stepsTo_10 : decode cX0_stepsTo 10 = .ok (.goto 7, 3) := dk_167 0 7 (dk_at dksX0_stepsTo_0 10 rfl rfl)
theorem dX0_stepsTo_13 : decode cX0_stepsTo 13 = .ok (.astore 4, 2) := dk_58 4 (dk_at dksX0_stepsTo_0 13 rfl rfl)
theorem dX0_stepsTo_15 : decode cX0_stepsTo 15 = .ok (.iconst 1, 1) := dk_4 (dk_at dksX0_stepsTo_0 15 rfl rfl)
theorem dX0_stepsTo_16 : decode cX0_stepsTo 16 = .ok (.ireturn, 1) := dk_172 (dk_at dksX0_stepsTo_0 16 rfl rfl)
theorem dX0_stepsTo_17 : decode cX0_stepsTo 17 = .ok (.iconst 0, 1) := dk_3 (dk_at dksX0_stepsTo_0 17 rfl rfl)
theorem dX0_stepsTo_18 : decode cX0_stepsTo 18 = .ok (.ireturn, 1) := dk_172 (dk_at dksX0_stepsTo_0 18 rfl rfl)
abbrev cX0_openGutters : ByteArray := method_30_code
def yX0_openGutters : MethodName := ⟨RX0, "openGutters", "(LRooftopCats;I[J)I"⟩
def dkwX0_openGutters_0 : List UInt8 := [44, 3, 42, 27, 182, 0, 105, 133, 80, 167, 0, 6, 78, 4, 172, 3, 172]
abbrev dktX0_openGutters_0 : List UInt8 := dkwX0_openGutters_0 ++ []
theorem dksX0_openGutters_0 : cX0_openGutters.data.toList.drop 0 = dktX0_openGutters_0 := by decide +kernel
theorem dX0_openGutters_0 : decode cX0_openGutters 0 = .ok (.aload_n 2, 1) := dk_44 (dk_at dksX0_openGutters_0 0 rfl rfl)
theorem dX0_openGutters_1 : decode cX0_openGutters 1 = .ok (.iconst 0, 1) := dk_3 (dk_at dksX0_openGutters_0 1 rfl rfl)
theorem dX0_openGutters_2 : decode cX0_openGutters 2 = .ok (.aload_n 0, 1) := dk_42 (dk_at dksX0_openGutters_0 2 rfl rfl)
theorem dX0_openGutters_3 : decode cX0_openGutters 3 = .ok (.iload_n 1, 1) := dk_27 (dk_at dksX0_openGutters_0 3 rfl rfl)
theorem dX0_openGutters_4 : decode cX0_openGutters 4 = .ok (.invokevirtual 105, 3) := dk_182 0 105 (dk_at dksX0_openGutters_0 4 rfl rfl)
theorem dX0_openGutters_7 : decode cX0_openGutters 7 = .ok (.i2l, 1) := dk_133 (dk_at dksX0_openGutters_0 7 rfl rfl)
theorem dX0_openGutters_8 : decode cX0_openGutters 8 = .ok (.lastore, 1) := dk_80 (dk_at dksX0_openGutters_0 8 rfl rfl)
theorem dX0_openGutters_9 : decode cX0_openGutters 9 = .ok (.goto 6, 3) := dk_167 0 6 (dk_at dksX0_openGutters_0 9 rfl rfl)
theorem dX0_openGutters_12 : decode cX0_openGutters 12 = .ok (.astore_n 3, 1) := dk_78 (dk_at dksX0_openGutters_0 12 rfl rfl)
theorem dX0_openGutters_13 : decode cX0_openGutters 13 = .ok (.iconst 1, 1) := dk_4 (dk_at dksX0_openGutters_0 13 rfl rfl)
theorem dX0_openGutters_14 : decode cX0_openGutters 14 = .ok (.ireturn, 1) := dk_172 (dk_at dksX0_openGutters_0 14 rfl rfl)
theorem dX0_openGutters_15 : decode cX0_openGutters 15 = .ok (.iconst 0, 1) := dk_3 (dk_at dksX0_openGutters_0 15 rfl rfl)
theorem dX0_openGutters_16 : decode cX0_openGutters 16 = .ok (.ireturn, 1) := dk_172 (dk_at dksX0_openGutters_0 16 rfl rfl)
abbrev cX0_whyNoStep : ByteArray := method_31_code
def yX0_whyNoStep : MethodName := ⟨RX0, "whyNoStep", "(LRooftopCats;II[J)I"⟩
def dkwX0_whyNoStep_0 : List UInt8 := [45, 3, 42, 27, 28, 182, 0, 108, 133, 80, 167, 0, 7, 58, 4, 4, 172, 3, 172]
abbrev dktX0_whyNoStep_0 : List UInt8 := dkwX0_whyNoStep_0 ++ []
theorem dksX0_whyNoStep_0 : cX0_whyNoStep.data.toList.drop 0 = dktX0_whyNoStep_0 := by decide +kernel
theorem dX0_whyNoStep_0 : decode cX0_whyNoStep 0 = .ok (.aload_n 3, 1) := dk_45 (dk_at dksX0_whyNoStep_0 0 rfl rfl)
theorem dX0_whyNoStep_1 : decode cX0_whyNoStep 1 = .ok (.iconst 0, 1) := dk_3 (dk_at dksX0_whyNoStep_0 1 rfl rfl)
theorem dX0_whyNoStep_2 : decode cX0_whyNoStep 2 = .ok (.aload_n 0, 1) := dk_42 (dk_at dksX0_whyNoStep_0 2 rfl rfl)
theorem dX0_whyNoStep_3 : decode cX0_whyNoStep 3 = .ok (.iload_n 1, 1) := dk_27 (dk_at dksX0_whyNoStep_0 3 rfl rfl)
theorem dX0_whyNoStep_4 : decode cX0_whyNoStep 4 = .ok (.iload_n 2, 1) := dk_28 (dk_at dksX0_whyNoStep_0 4 rfl rfl)
theorem dX0_whyNoStep_5 : decode cX0_whyNoStep 5 = .ok (.invokevirtual 108, 3) := dk_182 0 108 (dk_at dksX0_whyNoStep_0 5 rfl rfl)
theorem dX0_whyNoStep_8 : decode cX0_whyNoStep 8 = .ok (.i2l, 1) := dk_133 (dk_at dksX0_whyNoStep_0 8 rfl rfl)
theorem dX0_whyNoStep_9 : decode cX0_whyNoStep 9 = .ok (.lastore, 1) := dk_80 (dk_at dksX0_whyNoStep_0 9 rfl rfl)
theorem dX0_whyNoStep_10 : decode cX0_whyNoStep 10 = .ok (.goto 7, 3) := dk_167 0 7 (dk_at dksX0_whyNoStep_0 10 rfl rfl)
theorem dX0_whyNoStep_13 : decode cX0_whyNoStep 13 = .ok (.astore 4, 2) := dk_58 4 (dk_at dksX0_whyNoStep_0 13 rfl rfl)
theorem dX0_whyNoStep_15 : decode cX0_whyNoStep 15 = .ok (.iconst 1, 1) := dk_4 (dk_at dksX0_whyNoStep_0 15 rfl rfl)
theorem dX0_whyNoStep_16 : decode cX0_whyNoStep 16 = .ok (.ireturn, 1) := dk_172 (dk_at dksX0_whyNoStep_0 16 rfl rfl)
theorem dX0_whyNoStep_17 : decode cX0_whyNoStep 17 = .ok (.iconst 0, 1) := dk_3 (dk_at dksX0_whyNoStep_0 17 rfl rfl)
theorem dX0_whyNoStep_18 : decode cX0_whyNoStep 18 = .ok (.ireturn, 1) := dk_172 (dk_at dksX0_whyNoStep_0 18 rfl rfl)
abbrev cX0_whyNoClaim : ByteArray := method_32_code
def yX0_whyNoClaim : MethodName := ⟨RX0, "whyNoClaim", "(LRooftopCats;I[J)I"⟩
def dkwX0_whyNoClaim_0 : List UInt8 := [44, 3, 42, 27, 182, 0, 111, 133, 80, 167, 0, 6, 78, 4, 172, 3, 172]
abbrev dktX0_whyNoClaim_0 : List UInt8 := dkwX0_whyNoClaim_0 ++ []
theorem dksX0_whyNoClaim_0 : cX0_whyNoClaim.data.toList.drop 0 = dktX0_whyNoClaim_0 := by decide +kernel
theorem dX0_whyNoClaim_0 : decode cX0_whyNoClaim 0 = .ok (.aload_n 2, 1) := dk_44 (dk_at dksX0_whyNoClaim_0 0 rfl rfl)
theorem dX0_whyNoClaim_1 : decode cX0_whyNoClaim 1 = .ok (.iconst 0, 1) := dk_3 (dk_at dksX0_whyNoClaim_0 1 rfl rfl)
theorem dX0_whyNoClaim_2 : decode cX0_whyNoClaim 2 = .ok (.aload_n 0, 1) := dk_42 (dk_at dksX0_whyNoClaim_0 2 rfl rfl)
theorem dX0_whyNoClaim_3 : decode cX0_whyNoClaim 3 = .ok (.iload_n 1, 1) := dk_27 (dk_at dksX0_whyNoClaim_0 3 rfl rfl)
theorem dX0_whyNoClaim_4 : decode cX0_whyNoClaim 4 = .ok (.invokevirtual 111, 3) := dk_182 0 111 (dk_at dksX0_whyNoClaim_0 4 rfl rfl)
theorem dX0_whyNoClaim_7 : decode cX0_whyNoClaim 7 = .ok (.i2l, 1) := dk_133 (dk_at dksX0_whyNoClaim_0 7 rfl rfl)
theorem dX0_whyNoClaim_8 : decode cX0_whyNoClaim 8 = .ok (.lastore, 1) := dk_80 (dk_at dksX0_whyNoClaim_0 8 rfl rfl)
theorem dX0_whyNoClaim_9 : decode cX0_whyNoClaim 9 = .ok (.goto 6, 3) := dk_167 0 6 (dk_at dksX0_whyNoClaim_0 9 rfl rfl)
theorem dX0_whyNoClaim_12 : decode cX0_whyNoClaim 12 = .ok (.astore_n 3, 1) := dk_78 (dk_at dksX0_whyNoClaim_0 12 rfl rfl)
theorem dX0_whyNoClaim_13 : decode cX0_whyNoClaim 13 = .ok (.iconst 1, 1) := dk_4 (dk_at dksX0_whyNoClaim_0 13 rfl rfl)
theorem dX0_whyNoClaim_14 : decode cX0_whyNoClaim 14 = .ok (.ireturn, 1) := dk_172 (dk_at dksX0_whyNoClaim_0 14 rfl rfl)
theorem dX0_whyNoClaim_15 : decode cX0_whyNoClaim 15 = .ok (.iconst 0, 1) := dk_3 (dk_at dksX0_whyNoClaim_0 15 rfl rfl)
theorem dX0_whyNoClaim_16 : decode cX0_whyNoClaim 16 = .ok (.ireturn, 1) := dk_172 (dk_at dksX0_whyNoClaim_0 16 rfl rfl)
abbrev cX0_whyNoChase : ByteArray := method_33_code
def yX0_whyNoChase : MethodName := ⟨RX0, "whyNoChase", "(LRooftopCats;II[J)I"⟩
def dkwX0_whyNoChase_0 : List UInt8 := [45, 3, 42, 27, 28, 182, 0, 114, 133, 80, 167, 0, 11, 58, 4, 4, 172, 58, 4, 5, 172, 3, 172]
abbrev dktX0_whyNoChase_0 : List UInt8 := dkwX0_whyNoChase_0 ++ []
theorem dksX0_whyNoChase_0 : cX0_whyNoChase.data.toList.drop 0 = dktX0_whyNoChase_0 := by decide +kernel
theorem dX0_whyNoChase_0 : decode cX0_whyNoChase 0 = .ok (.aload_n 3, 1) := dk_45 (dk_at dksX0_whyNoChase_0 0 rfl rfl)
theorem dX0_whyNoChase_1 : decode cX0_whyNoChase 1 = .ok (.iconst 0, 1) := dk_3 (dk_at dksX0_whyNoChase_0 1 rfl rfl)
theorem dX0_whyNoChase_2 : decode cX0_whyNoChase 2 = .ok (.aload_n 0, 1) := dk_42 (dk_at dksX0_whyNoChase_0 2 rfl rfl)
theorem dX0_whyNoChase_3 : decode cX0_whyNoChase 3 = .ok (.iload_n 1, 1) := dk_27 (dk_at dksX0_whyNoChase_0 3 rfl rfl)
theorem dX0_whyNoChase_4 : decode cX0_whyNoChase 4 = .ok (.iload_n 2, 1) := dk_28 (dk_at dksX0_whyNoChase_0 4 rfl rfl)
theorem dX0_whyNoChase_5 : decode cX0_whyNoChase 5 = .ok (.invokevirtual 114, 3) := dk_182 0 114 (dk_at dksX0_whyNoChase_0 5 rfl rfl)
theorem dX0_whyNoChase_8 : decode cX0_whyNoChase 8 = .ok (.i2l, 1) := dk_133 (dk_at dksX0_whyNoChase_0 8 rfl rfl)
theorem dX0_whyNoChase_9 : decode cX0_whyNoChase 9 = .ok (.lastore, 1) := dk_80 (dk_at dksX0_whyNoChase_0 9 rfl rfl)
theorem dX0_whyNoChase_10 : decode cX0_whyNoChase 10 = .ok (.goto 11, 3) := dk_167 0 11 (dk_at dksX0_whyNoChase_0 10 rfl rfl)
theorem dX0_whyNoChase_13 : decode cX0_whyNoChase 13 = .ok (.astore 4, 2) := dk_58 4 (dk_at dksX0_whyNoChase_0 13 rfl rfl)
theorem dX0_whyNoChase_15 : decode cX0_whyNoChase 15 = .ok (.iconst 1, 1) := dk_4 (dk_at dksX0_whyNoChase_0 15 rfl rfl)
theorem dX0_whyNoChase_16 : decode cX0_whyNoChase 16 = .ok (.ireturn, 1) := dk_172 (dk_at dksX0_whyNoChase_0 16 rfl rfl)
theorem dX0_whyNoChase_17 : decode cX0_whyNoChase 17 = .ok (.astore 4, 2) := dk_58 4 (dk_at dksX0_whyNoChase_0 17 rfl rfl)
theorem dX0_whyNoChase_19 : decode cX0_whyNoChase 19 = .ok (.iconst 2, 1) := dk_5 (dk_at dksX0_whyNoChase_0 19 rfl rfl)
theorem dX0_whyNoChase_20 : decode cX0_whyNoChase 20 = .ok (.ireturn, 1) := dk_172 (dk_at dksX0_whyNoChase_0 20 rfl rfl)
theorem dX0_whyNoChase_21 : decode cX0_whyNoChase 21 = .ok (.iconst 0, 1) := dk_3 (dk_at dksX0_whyNoChase_0 21 rfl rfl)
theorem dX0_whyNoChase_22 : decode cX0_whyNoChase 22 = .ok (.ireturn, 1) := dk_172 (dk_at dksX0_whyNoChase_0 22 rfl rfl)
abbrev cX0_preyOf : ByteArray := method_34_code
def yX0_preyOf : MethodName := ⟨RX0, "preyOf", "(LRooftopCats;I[J)I"⟩
def dkwX0_preyOf_0 : List UInt8 := [44, 3, 42, 27, 182, 0, 117, 133, 80, 167, 0, 6, 78, 4, 172, 3, 172]
abbrev dktX0_preyOf_0 : List UInt8 := dkwX0_preyOf_0 ++ []
theorem dksX0_preyOf_0 : cX0_preyOf.data.toList.drop 0 = dktX0_preyOf_0 := by decide +kernel
theorem dX0_preyOf_0 : decode cX0_preyOf 0 = .ok (.aload_n 2, 1) := dk_44 (dk_at dksX0_preyOf_0 0 rfl rfl)
theorem dX0_preyOf_1 : decode cX0_preyOf 1 = .ok (.iconst 0, 1) := dk_3 (dk_at dksX0_preyOf_0 1 rfl rfl)
theorem dX0_preyOf_2 : decode cX0_preyOf 2 = .ok (.aload_n 0, 1) := dk_42 (dk_at dksX0_preyOf_0 2 rfl rfl)
theorem dX0_preyOf_3 : decode cX0_preyOf 3 = .ok (.iload_n 1, 1) := dk_27 (dk_at dksX0_preyOf_0 3 rfl rfl)
theorem dX0_preyOf_4 : decode cX0_preyOf 4 = .ok (.invokevirtual 117, 3) := dk_182 0 117 (dk_at dksX0_preyOf_0 4 rfl rfl)
theorem dX0_preyOf_7 : decode cX0_preyOf 7 = .ok (.i2l, 1) := dk_133 (dk_at dksX0_preyOf_0 7 rfl rfl)
theorem dX0_preyOf_8 : decode cX0_preyOf 8 = .ok (.lastore, 1) := dk_80 (dk_at dksX0_preyOf_0 8 rfl rfl)
theorem dX0_preyOf_9 : decode cX0_preyOf 9 = .ok (.goto 6, 3) := dk_167 0 6 (dk_at dksX0_preyOf_0 9 rfl rfl)
theorem dX0_preyOf_12 : decode cX0_preyOf 12 = .ok (.astore_n 3, 1) := dk_78 (dk_at dksX0_preyOf_0 12 rfl rfl)
theorem dX0_preyOf_13 : decode cX0_preyOf 13 = .ok (.iconst 1, 1) := dk_4 (dk_at dksX0_preyOf_0 13 rfl rfl)
theorem dX0_preyOf_14 : decode cX0_preyOf 14 = .ok (.ireturn, 1) := dk_172 (dk_at dksX0_preyOf_0 14 rfl rfl)
theorem dX0_preyOf_15 : decode cX0_preyOf 15 = .ok (.iconst 0, 1) := dk_3 (dk_at dksX0_preyOf_0 15 rfl rfl)
theorem dX0_preyOf_16 : decode cX0_preyOf 16 = .ok (.ireturn, 1) := dk_172 (dk_at dksX0_preyOf_0 16 rfl rfl)
abbrev cX0_hasVoted : ByteArray := method_35_code
def yX0_hasVoted : MethodName := ⟨RX0, "hasVoted", "(LRooftopCats;I[J)I"⟩
def dkwX0_hasVoted_0 : List UInt8 := [44, 3, 42, 27, 182, 0, 120, 153, 0, 7, 10, 167, 0, 4, 9, 80, 167, 0, 6, 78, 4, 172, 3, 172]
abbrev dktX0_hasVoted_0 : List UInt8 := dkwX0_hasVoted_0 ++ []
theorem dksX0_hasVoted_0 : cX0_hasVoted.data.toList.drop 0 = dktX0_hasVoted_0 := by decide +kernel
theorem dX0_hasVoted_0 : decode cX0_hasVoted 0 = .ok (.aload_n 2, 1) := dk_44 (dk_at dksX0_hasVoted_0 0 rfl rfl)
theorem dX0_hasVoted_1 : decode cX0_hasVoted 1 = .ok (.iconst 0, 1) := dk_3 (dk_at dksX0_hasVoted_0 1 rfl rfl)
theorem dX0_hasVoted_2 : decode cX0_hasVoted 2 = .ok (.aload_n 0, 1) := dk_42 (dk_at dksX0_hasVoted_0 2 rfl rfl)
theorem dX0_hasVoted_3 : decode cX0_hasVoted 3 = .ok (.iload_n 1, 1) := dk_27 (dk_at dksX0_hasVoted_0 3 rfl rfl)
theorem dX0_hasVoted_4 : decode cX0_hasVoted 4 = .ok (.invokevirtual 120, 3) := dk_182 0 120 (dk_at dksX0_hasVoted_0 4 rfl rfl)
theorem dX0_hasVoted_7 : decode cX0_hasVoted 7 = .ok (.ifCond .eq 7, 3) := dk_153 0 7 (dk_at dksX0_hasVoted_0 7 rfl rfl)
theorem dX0_hasVoted_10 : decode cX0_hasVoted 10 = .ok (.lconst 1, 1) := dk_10 (dk_at dksX0_hasVoted_0 10 rfl rfl)
theorem dX0_hasVoted_11 : decode cX0_hasVoted 11 = .ok (.goto 4, 3) := dk_167 0 4 (dk_at dksX0_hasVoted_0 11 rfl rfl)
theorem dX0_hasVoted_14 : decode cX0_hasVoted 14 = .ok (.lconst 0, 1) := dk_9 (dk_at dksX0_hasVoted_0 14 rfl rfl)
theorem dX0_hasVoted_15 : decode cX0_hasVoted 15 = .ok (.lastore, 1) := dk_80 (dk_at dksX0_hasVoted_0 15 rfl rfl)
theorem dX0_hasVoted_16 : decode cX0_hasVoted 16 = .ok (.goto 6, 3) := dk_167 0 6 (dk_at dksX0_hasVoted_0 16 rfl rfl)
theorem dX0_hasVoted_19 : decode cX0_hasVoted 19 = .ok (.astore_n 3, 1) := dk_78 (dk_at dksX0_hasVoted_0 19 rfl rfl)
theorem dX0_hasVoted_20 : decode cX0_hasVoted 20 = .ok (.iconst 1, 1) := dk_4 (dk_at dksX0_hasVoted_0 20 rfl rfl)
theorem dX0_hasVoted_21 : decode cX0_hasVoted 21 = .ok (.ireturn, 1) := dk_172 (dk_at dksX0_hasVoted_0 21 rfl rfl)
theorem dX0_hasVoted_22 : decode cX0_hasVoted 22 = .ok (.iconst 0, 1) := dk_3 (dk_at dksX0_hasVoted_0 22 rfl rfl)
theorem dX0_hasVoted_23 : decode cX0_hasVoted 23 = .ok (.ireturn, 1) := dk_172 (dk_at dksX0_hasVoted_0 23 rfl rfl)
abbrev cX0_choirOf : ByteArray := method_36_code
def yX0_choirOf : MethodName := ⟨RX0, "choirOf", "(LRooftopCats;I[J)I"⟩
def dkwX0_choirOf_0 : List UInt8 := [44, 3, 42, 27, 182, 0, 124, 133, 80, 167, 0, 6, 78, 4, 172, 3, 172]
abbrev dktX0_choirOf_0 : List UInt8 := dkwX0_choirOf_0 ++ []
theorem dksX0_choirOf_0 : cX0_choirOf.data.toList.drop 0 = dktX0_choirOf_0 := by decide +kernel
theorem dX0_choirOf_0 : decode cX0_choirOf 0 = .ok (.aload_n 2, 1) := dk_44 (dk_at dksX0_choirOf_0 0 rfl rfl)
theorem dX0_choirOf_1 : decode cX0_choirOf 1 = .ok (.iconst 0, 1) := dk_3 (dk_at dksX0_choirOf_0 1 rfl rfl)
theorem dX0_choirOf_2 : decode cX0_choirOf 2 = .ok (.aload_n 0, 1) := dk_42 (dk_at dksX0_choirOf_0 2 rfl rfl)
theorem dX0_choirOf_3 : decode cX0_choirOf 3 = .ok (.iload_n 1, 1) := dk_27 (dk_at dksX0_choirOf_0 3 rfl rfl)
theorem dX0_choirOf_4 : decode cX0_choirOf 4 = .ok (.invokevirtual 124, 3) := dk_182 0 124 (dk_at dksX0_choirOf_0 4 rfl rfl)
theorem dX0_choirOf_7 : decode cX0_choirOf 7 = .ok (.i2l, 1) := dk_133 (dk_at dksX0_choirOf_0 7 rfl rfl)
theorem dX0_choirOf_8 : decode cX0_choirOf 8 = .ok (.lastore, 1) := dk_80 (dk_at dksX0_choirOf_0 8 rfl rfl)
theorem dX0_choirOf_9 : decode cX0_choirOf 9 = .ok (.goto 6, 3) := dk_167 0 6 (dk_at dksX0_choirOf_0 9 rfl rfl)
theorem dX0_choirOf_12 : decode cX0_choirOf 12 = .ok (.astore_n 3, 1) := dk_78 (dk_at dksX0_choirOf_0 12 rfl rfl)
theorem dX0_choirOf_13 : decode cX0_choirOf 13 = .ok (.iconst 1, 1) := dk_4 (dk_at dksX0_choirOf_0 13 rfl rfl)
theorem dX0_choirOf_14 : decode cX0_choirOf 14 = .ok (.ireturn, 1) := dk_172 (dk_at dksX0_choirOf_0 14 rfl rfl)
theorem dX0_choirOf_15 : decode cX0_choirOf 15 = .ok (.iconst 0, 1) := dk_3 (dk_at dksX0_choirOf_0 15 rfl rfl)
theorem dX0_choirOf_16 : decode cX0_choirOf 16 = .ok (.ireturn, 1) := dk_172 (dk_at dksX0_choirOf_0 16 rfl rfl)
abbrev cX0_fishAfter : ByteArray := method_37_code
def yX0_fishAfter : MethodName := ⟨RX0, "fishAfter", "(LRooftopCats;II[J)I"⟩
def dkwX0_fishAfter_0 : List UInt8 := [45, 3, 42, 27, 28, 182, 0, 127, 133, 80, 167, 0, 11, 58, 4, 4, 172, 58, 4, 5, 172, 3, 172]
abbrev dktX0_fishAfter_0 : List UInt8 := dkwX0_fishAfter_0 ++ []
theorem dksX0_fishAfter_0 : cX0_fishAfter.data.toList.drop 0 = dktX0_fishAfter_0 := by decide +kernel
theorem dX0_fishAfter_0 : decode cX0_fishAfter 0 = .ok (.aload_n 3, 1) := dk_45 (dk_at dksX0_fishAfter_0 0 rfl rfl)
theorem dX0_fishAfter_1 : decode cX0_fishAfter 1 = .ok (.iconst 0, 1) := dk_3 (dk_at dksX0_fishAfter_0 1 rfl rfl)
theorem dX0_fishAfter_2 : decode cX0_fishAfter 2 = .ok (.aload_n 0, 1) := dk_42 (dk_at dksX0_fishAfter_0 2 rfl rfl)
theorem dX0_fishAfter_3 : decode cX0_fishAfter 3 = .ok (.iload_n 1, 1) := dk_27 (dk_at dksX0_fishAfter_0 3 rfl rfl)
theorem dX0_fishAfter_4 : decode cX0_fishAfter 4 = .ok (.iload_n 2, 1) := dk_28 (dk_at dksX0_fishAfter_0 4 rfl rfl)
theorem dX0_fishAfter_5 : decode cX0_fishAfter 5 = .ok (.invokevirtual 127, 3) := dk_182 0 127 (dk_at dksX0_fishAfter_0 5 rfl rfl)
theorem dX0_fishAfter_8 : decode cX0_fishAfter 8 = .ok (.i2l, 1) := dk_133 (dk_at dksX0_fishAfter_0 8 rfl rfl)
theorem dX0_fishAfter_9 : decode cX0_fishAfter 9 = .ok (.lastore, 1) := dk_80 (dk_at dksX0_fishAfter_0 9 rfl rfl)
theorem dX0_fishAfter_10 : decode cX0_fishAfter 10 = .ok (.goto 11, 3) := dk_167 0 11 (dk_at dksX0_fishAfter_0 10 rfl rfl)
theorem dX0_fishAfter_13 : decode cX0_fishAfter 13 = .ok (.astore 4, 2) := dk_58 4 (dk_at dksX0_fishAfter_0 13 rfl rfl)
theorem dX0_fishAfter_15 : decode cX0_fishAfter 15 = .ok (.iconst 1, 1) := dk_4 (dk_at dksX0_fishAfter_0 15 rfl rfl)
theorem dX0_fishAfter_16 : decode cX0_fishAfter 16 = .ok (.ireturn, 1) := dk_172 (dk_at dksX0_fishAfter_0 16 rfl rfl)
theorem dX0_fishAfter_17 : decode cX0_fishAfter 17 = .ok (.astore 4, 2) := dk_58 4 (dk_at dksX0_fishAfter_0 17 rfl rfl)
theorem dX0_fishAfter_19 : decode cX0_fishAfter 19 = .ok (.iconst 2, 1) := dk_5 (dk_at dksX0_fishAfter_0 19 rfl rfl)
theorem dX0_fishAfter_20 : decode cX0_fishAfter 20 = .ok (.ireturn, 1) := dk_172 (dk_at dksX0_fishAfter_0 20 rfl rfl)
theorem dX0_fishAfter_21 : decode cX0_fishAfter 21 = .ok (.iconst 0, 1) := dk_3 (dk_at dksX0_fishAfter_0 21 rfl rfl)
theorem dX0_fishAfter_22 : decode cX0_fishAfter 22 = .ok (.ireturn, 1) := dk_172 (dk_at dksX0_fishAfter_0 22 rfl rfl)
theorem q115 : (Jvm.Cond.initialized "RooftopCatsLaw") ∈ lw_all := lw_g (lw_at lw_m1 0 rfl) rfl
theorem q155 : (Jvm.Cond.classLink "RooftopCatsLaw" (8 : Nat) "RooftopCats") ∈ lw_all := lw_g (lw_at lw_m1 40 rfl) rfl
theorem q157 : (Jvm.Cond.methodLink "RooftopCatsLaw" (130 : Nat) ({ cls := "RooftopCats", name := "<init>", desc := "()V" } : Jvm.MethodName)) ∈ lw_all := lw_g (lw_at lw_m1 42 rfl) rfl
theorem q1241 : (Jvm.Cond.methodLink "RooftopCatsLaw" (134 : Nat) ({ cls := "RooftopCats", name := "append", desc := "(IIIII)I" } : Jvm.MethodName)) ∈ lw_all := lw_g (lw_at lw_m5 166 rfl) rfl
theorem q1263 : (Jvm.Cond.methodLink "RooftopCatsLaw" (148 : Nat) ({ cls := "RooftopCats", name := "runScript", desc := "()I" } : Jvm.MethodName)) ∈ lw_all := lw_g (lw_at lw_m5 188 rfl) rfl
theorem q1472 : (Jvm.Cond.methodLink "RooftopCatsLaw" (189 : Nat) ({ cls := "RooftopCats", name := "undo", desc := "()I" } : Jvm.MethodName)) ∈ lw_all := lw_g (lw_at lw_m6 157 rfl) rfl
theorem q1492 : (Jvm.Cond.methodLink "RooftopCatsLaw" (193 : Nat) ({ cls := "RooftopCats", name := "undoCount", desc := "()I" } : Jvm.MethodName)) ∈ lw_all := lw_g (lw_at lw_m6 177 rfl) rfl
theorem q1496 : (Jvm.Cond.methodLink "RooftopCatsLaw" (197 : Nat) ({ cls := "RooftopCats", name := "saveSnapshot", desc := "()I" } : Jvm.MethodName)) ∈ lw_all := lw_g (lw_at lw_m6 181 rfl) rfl
theorem q1500 : (Jvm.Cond.methodLink "RooftopCatsLaw" (205 : Nat) ({ cls := "RooftopCats", name := "scriptErrorKind", desc := "()I" } : Jvm.MethodName)) ∈ lw_all := lw_g (lw_at lw_m6 185 rfl) rfl
theorem q1504 : (Jvm.Cond.methodLink "RooftopCatsLaw" (209 : Nat) ({ cls := "RooftopCats", name := "scriptErrorOffset", desc := "()I" } : Jvm.MethodName)) ∈ lw_all := lw_g (lw_at lw_m6 189 rfl) rfl
theorem q1508 : (Jvm.Cond.methodLink "RooftopCatsLaw" (213 : Nat) ({ cls := "RooftopCats", name := "chimneyCount", desc := "()I" } : Jvm.MethodName)) ∈ lw_all := lw_g (lw_at lw_m6 193 rfl) rfl
theorem q1512 : (Jvm.Cond.methodLink "RooftopCatsLaw" (217 : Nat) ({ cls := "RooftopCats", name := "gutterCount", desc := "()I" } : Jvm.MethodName)) ∈ lw_all := lw_g (lw_at lw_m6 197 rfl) rfl
theorem q1516 : (Jvm.Cond.methodLink "RooftopCatsLaw" (221 : Nat) ({ cls := "RooftopCats", name := "catCount", desc := "()I" } : Jvm.MethodName)) ∈ lw_all := lw_g (lw_at lw_m6 201 rfl) rfl
theorem q1520 : (Jvm.Cond.methodLink "RooftopCatsLaw" (225 : Nat) ({ cls := "RooftopCats", name := "night", desc := "()I" } : Jvm.MethodName)) ∈ lw_all := lw_g (lw_at lw_m6 205 rfl) rfl
theorem q1524 : (Jvm.Cond.methodLink "RooftopCatsLaw" (229 : Nat) ({ cls := "RooftopCats", name := "moonPhase", desc := "()I" } : Jvm.MethodName)) ∈ lw_all := lw_g (lw_at lw_m6 209 rfl) rfl
theorem q1528 : (Jvm.Cond.methodLink "RooftopCatsLaw" (251 : Nat) ({ cls := "RooftopCats", name := "warmestFree", desc := "()I" } : Jvm.MethodName)) ∈ lw_all := lw_g (lw_at lw_m6 213 rfl) rfl
theorem q1533 : (Jvm.Cond.methodLink "RooftopCatsLaw" (294 : Nat) ({ cls := "RooftopCats", name := "isKittenWaiting", desc := "()Z" } : Jvm.MethodName)) ∈ lw_all := lw_g (lw_at lw_m6 218 rfl) rfl
theorem q1537 : (Jvm.Cond.methodLink "RooftopCatsLaw" (299 : Nat) ({ cls := "RooftopCats", name := "votesFor", desc := "()I" } : Jvm.MethodName)) ∈ lw_all := lw_g (lw_at lw_m6 222 rfl) rfl
theorem q1543 : (Jvm.Cond.methodLink "RooftopCatsLaw" (303 : Nat) ({ cls := "RooftopCats", name := "votesAgainst", desc := "()I" } : Jvm.MethodName)) ∈ lw_all := lw_g (lw_at lw_m6 228 rfl) rfl
theorem q1548 : (Jvm.Cond.methodLink "RooftopCatsLaw" (313 : Nat) ({ cls := "RooftopCats", name := "choirCount", desc := "()I" } : Jvm.MethodName)) ∈ lw_all := lw_g (lw_at lw_m6 233 rfl) rfl
theorem q1560 : (Jvm.Cond.methodLink "RooftopCatsLaw" (317 : Nat) ({ cls := "RooftopCats", name := "largestChoir", desc := "()I" } : Jvm.MethodName)) ∈ lw_all := lw_g (lw_at lw_m7 5 rfl) rfl
theorem q1565 : (Jvm.Cond.methodLink "RooftopCatsLaw" (321 : Nat) ({ cls := "RooftopCats", name := "nightsToFullMoon", desc := "()I" } : Jvm.MethodName)) ∈ lw_all := lw_g (lw_at lw_m7 10 rfl) rfl
theorem q1569 : (Jvm.Cond.methodLink "RooftopCatsLaw" (328 : Nat) ({ cls := "RooftopCats", name := "richestCat", desc := "()I" } : Jvm.MethodName)) ∈ lw_all := lw_g (lw_at lw_m7 14 rfl) rfl
theorem q1576 : (Jvm.Cond.methodLink "RooftopCatsLaw" (332 : Nat) ({ cls := "RooftopCats", name := "totalFish", desc := "()I" } : Jvm.MethodName)) ∈ lw_all := lw_g (lw_at lw_m7 21 rfl) rfl
theorem q1584 : (Jvm.Cond.methodLink "RooftopCatsLaw" (336 : Nat) ({ cls := "RooftopCats", name := "meanFish", desc := "()D" } : Jvm.MethodName)) ∈ lw_all := lw_g (lw_at lw_m7 29 rfl) rfl
theorem q1590 : (Jvm.Cond.methodLink "RooftopCatsLaw" (341 : Nat) ({ cls := "RooftopCats", name := "ownedShare", desc := "()F" } : Jvm.MethodName)) ∈ lw_all := lw_g (lw_at lw_m7 35 rfl) rfl
theorem q1601 : (Jvm.Cond.methodLink "RooftopCatsLaw" (346 : Nat) ({ cls := "RooftopCats", name := "violations", desc := "()I" } : Jvm.MethodName)) ∈ lw_all := lw_g (lw_at lw_m7 46 rfl) rfl
theorem q1613 : (Jvm.Cond.methodLink "RooftopCatsLaw" (350 : Nat) ({ cls := "RooftopCats", name := "writeRoof", desc := "()I" } : Jvm.MethodName)) ∈ lw_all := lw_g (lw_at lw_m7 58 rfl) rfl
theorem q1623 : (Jvm.Cond.methodLink "RooftopCatsLaw" (354 : Nat) ({ cls := "RooftopCats", name := "reportByte", desc := "(I)I" } : Jvm.MethodName)) ∈ lw_all := lw_g (lw_at lw_m7 68 rfl) rfl
theorem q1628 : (Jvm.Cond.methodLink "RooftopCatsLaw" (139 : Nat) ({ cls := "RooftopCatsLaw", name := "truncateInput", desc := "(LRooftopCats;I[J)I" } : Jvm.MethodName)) ∈ lw_all := lw_g (lw_at lw_m7 73 rfl) rfl
theorem q1629 : (Jvm.Cond.static ({ cls := "RooftopCatsLaw", name := "truncateInput", desc := "(LRooftopCats;I[J)I" } : Jvm.MethodName)) ∈ lw_all := lw_g (lw_at lw_m7 74 rfl) rfl
theorem q1630 : (Jvm.Cond.codeWith ({ cls := "RooftopCatsLaw", name := "truncateInput", desc := "(LRooftopCats;I[J)I" } : Jvm.MethodName) method_3_code (4 : Nat) (Option.some Jvm.ClassFile.FieldType.int) [((0 : Nat), (9 : Nat), (12 : Nat), (13 : Nat))]) ∈ lw_all := lw_g (lw_at lw_m7 75 rfl) rfl
theorem q1631 : (Jvm.Cond.classLink "RooftopCatsLaw" (13 : Nat) "java/lang/IllegalArgumentException") ∈ lw_all := lw_g (lw_at lw_m7 76 rfl) rfl
theorem q1632 : (Jvm.Cond.methodLink "RooftopCatsLaw" (7 : Nat) ({ cls := "RooftopCats", name := "truncateInput", desc := "(I)I" } : Jvm.MethodName)) ∈ lw_all := lw_g (lw_at lw_m7 77 rfl) rfl
theorem q1647 : (Jvm.Cond.methodLink "RooftopCatsLaw" (152 : Nat) ({ cls := "RooftopCatsLaw", name := "addChimney", desc := "(LRooftopCats;I[J)I" } : Jvm.MethodName)) ∈ lw_all := lw_g (lw_at lw_m7 92 rfl) rfl
theorem q1648 : (Jvm.Cond.static ({ cls := "RooftopCatsLaw", name := "addChimney", desc := "(LRooftopCats;I[J)I" } : Jvm.MethodName)) ∈ lw_all := lw_g (lw_at lw_m7 93 rfl) rfl
theorem q1649 : (Jvm.Cond.codeWith ({ cls := "RooftopCatsLaw", name := "addChimney", desc := "(LRooftopCats;I[J)I" } : Jvm.MethodName) method_4_code (4 : Nat) (Option.some Jvm.ClassFile.FieldType.int) [((0 : Nat), (9 : Nat), (12 : Nat), (13 : Nat)), ((0 : Nat), (9 : Nat), (15 : Nat), (18 : Nat))]) ∈ lw_all := lw_g (lw_at lw_m7 94 rfl) rfl
theorem q1650 : (Jvm.Cond.classLink "RooftopCatsLaw" (18 : Nat) "java/lang/IllegalStateException") ∈ lw_all := lw_g (lw_at lw_m7 95 rfl) rfl
theorem q1651 : (Jvm.Cond.methodLink "RooftopCatsLaw" (15 : Nat) ({ cls := "RooftopCats", name := "addChimney", desc := "(I)I" } : Jvm.MethodName)) ∈ lw_all := lw_g (lw_at lw_m7 96 rfl) rfl
theorem q1661 : (Jvm.Cond.methodLink "RooftopCatsLaw" (155 : Nat) ({ cls := "RooftopCatsLaw", name := "addGutter", desc := "(LRooftopCats;III[J)I" } : Jvm.MethodName)) ∈ lw_all := lw_g (lw_at lw_m7 106 rfl) rfl
theorem q1662 : (Jvm.Cond.static ({ cls := "RooftopCatsLaw", name := "addGutter", desc := "(LRooftopCats;III[J)I" } : Jvm.MethodName)) ∈ lw_all := lw_g (lw_at lw_m7 107 rfl) rfl
theorem q1663 : (Jvm.Cond.codeWith ({ cls := "RooftopCatsLaw", name := "addGutter", desc := "(LRooftopCats;III[J)I" } : Jvm.MethodName) method_5_code (6 : Nat) (Option.some Jvm.ClassFile.FieldType.int) [((0 : Nat), (12 : Nat), (15 : Nat), (24 : Nat)), ((0 : Nat), (12 : Nat), (19 : Nat), (13 : Nat)), ((0 : Nat), (12 : Nat), (23 : Nat), (18 : Nat))]) ∈ lw_all := lw_g (lw_at lw_m7 108 rfl) rfl
theorem q1664 : (Jvm.Cond.classLink "RooftopCatsLaw" (24 : Nat) "java/lang/IndexOutOfBoundsException") ∈ lw_all := lw_g (lw_at lw_m7 109 rfl) rfl
theorem q1667 : (Jvm.Cond.methodLink "RooftopCatsLaw" (20 : Nat) ({ cls := "RooftopCats", name := "addGutter", desc := "(III)I" } : Jvm.MethodName)) ∈ lw_all := lw_g (lw_at lw_m7 112 rfl) rfl
theorem q1695 : (Jvm.Cond.methodLink "RooftopCatsLaw" (159 : Nat) ({ cls := "RooftopCatsLaw", name := "addCat", desc := "(LRooftopCats;III[J)I" } : Jvm.MethodName)) ∈ lw_all := lw_g (lw_at lw_m7 140 rfl) rfl
theorem q1696 : (Jvm.Cond.static ({ cls := "RooftopCatsLaw", name := "addCat", desc := "(LRooftopCats;III[J)I" } : Jvm.MethodName)) ∈ lw_all := lw_g (lw_at lw_m7 141 rfl) rfl
theorem q1697 : (Jvm.Cond.codeWith ({ cls := "RooftopCatsLaw", name := "addCat", desc := "(LRooftopCats;III[J)I" } : Jvm.MethodName) method_6_code (6 : Nat) (Option.some Jvm.ClassFile.FieldType.int) [((0 : Nat), (12 : Nat), (15 : Nat), (24 : Nat)), ((0 : Nat), (12 : Nat), (19 : Nat), (13 : Nat)), ((0 : Nat), (12 : Nat), (23 : Nat), (18 : Nat))]) ∈ lw_all := lw_g (lw_at lw_m7 142 rfl) rfl
theorem q1698 : (Jvm.Cond.methodLink "RooftopCatsLaw" (26 : Nat) ({ cls := "RooftopCats", name := "addCat", desc := "(III)I" } : Jvm.MethodName)) ∈ lw_all := lw_g (lw_at lw_m7 143 rfl) rfl
theorem q1706 : (Jvm.Cond.methodLink "RooftopCatsLaw" (162 : Nat) ({ cls := "RooftopCatsLaw", name := "step", desc := "(LRooftopCats;II[J)I" } : Jvm.MethodName)) ∈ lw_all := lw_g (lw_at lw_m7 151 rfl) rfl
theorem q1707 : (Jvm.Cond.static ({ cls := "RooftopCatsLaw", name := "step", desc := "(LRooftopCats;II[J)I" } : Jvm.MethodName)) ∈ lw_all := lw_g (lw_at lw_m7 152 rfl) rfl
theorem q1708 : (Jvm.Cond.codeWith ({ cls := "RooftopCatsLaw", name := "step", desc := "(LRooftopCats;II[J)I" } : Jvm.MethodName) method_7_code (5 : Nat) (Option.some Jvm.ClassFile.FieldType.int) [((0 : Nat), (10 : Nat), (13 : Nat), (24 : Nat)), ((0 : Nat), (10 : Nat), (17 : Nat), (18 : Nat))]) ∈ lw_all := lw_g (lw_at lw_m7 153 rfl) rfl
theorem q1709 : (Jvm.Cond.methodLink "RooftopCatsLaw" (29 : Nat) ({ cls := "RooftopCats", name := "step", desc := "(II)I" } : Jvm.MethodName)) ∈ lw_all := lw_g (lw_at lw_m7 154 rfl) rfl
theorem q1723 : (Jvm.Cond.methodLink "RooftopCatsLaw" (166 : Nat) ({ cls := "RooftopCatsLaw", name := "claim", desc := "(LRooftopCats;I[J)I" } : Jvm.MethodName)) ∈ lw_all := lw_g (lw_at lw_m7 168 rfl) rfl
theorem q1724 : (Jvm.Cond.static ({ cls := "RooftopCatsLaw", name := "claim", desc := "(LRooftopCats;I[J)I" } : Jvm.MethodName)) ∈ lw_all := lw_g (lw_at lw_m7 169 rfl) rfl
theorem q1725 : (Jvm.Cond.codeWith ({ cls := "RooftopCatsLaw", name := "claim", desc := "(LRooftopCats;I[J)I" } : Jvm.MethodName) method_8_code (4 : Nat) (Option.some Jvm.ClassFile.FieldType.int) [((0 : Nat), (9 : Nat), (12 : Nat), (24 : Nat)), ((0 : Nat), (9 : Nat), (15 : Nat), (18 : Nat))]) ∈ lw_all := lw_g (lw_at lw_m7 170 rfl) rfl
theorem q1726 : (Jvm.Cond.methodLink "RooftopCatsLaw" (33 : Nat) ({ cls := "RooftopCats", name := "claim", desc := "(I)I" } : Jvm.MethodName)) ∈ lw_all := lw_g (lw_at lw_m7 171 rfl) rfl
theorem q1736 : (Jvm.Cond.methodLink "RooftopCatsLaw" (169 : Nat) ({ cls := "RooftopCatsLaw", name := "abandon", desc := "(LRooftopCats;I[J)I" } : Jvm.MethodName)) ∈ lw_all := lw_g (lw_at lw_m7 181 rfl) rfl
theorem q1737 : (Jvm.Cond.static ({ cls := "RooftopCatsLaw", name := "abandon", desc := "(LRooftopCats;I[J)I" } : Jvm.MethodName)) ∈ lw_all := lw_g (lw_at lw_m7 182 rfl) rfl
theorem q1738 : (Jvm.Cond.codeWith ({ cls := "RooftopCatsLaw", name := "abandon", desc := "(LRooftopCats;I[J)I" } : Jvm.MethodName) method_9_code (4 : Nat) (Option.some Jvm.ClassFile.FieldType.int) [((0 : Nat), (9 : Nat), (12 : Nat), (24 : Nat)), ((0 : Nat), (9 : Nat), (15 : Nat), (18 : Nat))]) ∈ lw_all := lw_g (lw_at lw_m7 183 rfl) rfl
theorem q1739 : (Jvm.Cond.methodLink "RooftopCatsLaw" (36 : Nat) ({ cls := "RooftopCats", name := "abandon", desc := "(I)I" } : Jvm.MethodName)) ∈ lw_all := lw_g (lw_at lw_m7 184 rfl) rfl
theorem q1747 : (Jvm.Cond.methodLink "RooftopCatsLaw" (172 : Nat) ({ cls := "RooftopCatsLaw", name := "chase", desc := "(LRooftopCats;II[J)I" } : Jvm.MethodName)) ∈ lw_all := lw_g (lw_at lw_m7 192 rfl) rfl
theorem q1748 : (Jvm.Cond.static ({ cls := "RooftopCatsLaw", name := "chase", desc := "(LRooftopCats;II[J)I" } : Jvm.MethodName)) ∈ lw_all := lw_g (lw_at lw_m7 193 rfl) rfl
theorem q1749 : (Jvm.Cond.codeWith ({ cls := "RooftopCatsLaw", name := "chase", desc := "(LRooftopCats;II[J)I" } : Jvm.MethodName) method_10_code (5 : Nat) (Option.some Jvm.ClassFile.FieldType.int) [((0 : Nat), (17 : Nat), (20 : Nat), (24 : Nat)), ((0 : Nat), (17 : Nat), (24 : Nat), (13 : Nat)), ((0 : Nat), (17 : Nat), (28 : Nat), (18 : Nat))]) ∈ lw_all := lw_g (lw_at lw_m7 194 rfl) rfl
theorem q1750 : (Jvm.Cond.methodLink "RooftopCatsLaw" (39 : Nat) ({ cls := "RooftopCats", name := "chase", desc := "(II)Z" } : Jvm.MethodName)) ∈ lw_all := lw_g (lw_at lw_m7 195 rfl) rfl
theorem q1764 : (Jvm.Cond.methodLink "RooftopCatsLaw" (175 : Nat) ({ cls := "RooftopCatsLaw", name := "buyTruce", desc := "(LRooftopCats;IIII[J)I" } : Jvm.MethodName)) ∈ lw_all := lw_g (lw_at lw_m7 209 rfl) rfl
theorem q1765 : (Jvm.Cond.static ({ cls := "RooftopCatsLaw", name := "buyTruce", desc := "(LRooftopCats;IIII[J)I" } : Jvm.MethodName)) ∈ lw_all := lw_g (lw_at lw_m7 210 rfl) rfl
theorem q1766 : (Jvm.Cond.codeWith ({ cls := "RooftopCatsLaw", name := "buyTruce", desc := "(LRooftopCats;IIII[J)I" } : Jvm.MethodName) method_11_code (7 : Nat) (Option.some Jvm.ClassFile.FieldType.int) [((0 : Nat), (14 : Nat), (17 : Nat), (24 : Nat)), ((0 : Nat), (14 : Nat), (21 : Nat), (13 : Nat)), ((0 : Nat), (14 : Nat), (25 : Nat), (18 : Nat))]) ∈ lw_all := lw_g (lw_at lw_m7 211 rfl) rfl
theorem q1767 : (Jvm.Cond.methodLink "RooftopCatsLaw" (43 : Nat) ({ cls := "RooftopCats", name := "buyTruce", desc := "(IIII)I" } : Jvm.MethodName)) ∈ lw_all := lw_g (lw_at lw_m7 212 rfl) rfl
theorem q1773 : (Jvm.Cond.methodLink "RooftopCatsLaw" (179 : Nat) ({ cls := "RooftopCatsLaw", name := "nominate", desc := "(LRooftopCats;II[J)I" } : Jvm.MethodName)) ∈ lw_all := lw_g (lw_at lw_m7 218 rfl) rfl
theorem q1774 : (Jvm.Cond.static ({ cls := "RooftopCatsLaw", name := "nominate", desc := "(LRooftopCats;II[J)I" } : Jvm.MethodName)) ∈ lw_all := lw_g (lw_at lw_m7 219 rfl) rfl
theorem q1775 : (Jvm.Cond.codeWith ({ cls := "RooftopCatsLaw", name := "nominate", desc := "(LRooftopCats;II[J)I" } : Jvm.MethodName) method_12_code (5 : Nat) (Option.some Jvm.ClassFile.FieldType.int) [((0 : Nat), (10 : Nat), (13 : Nat), (13 : Nat)), ((0 : Nat), (10 : Nat), (17 : Nat), (18 : Nat))]) ∈ lw_all := lw_g (lw_at lw_m7 220 rfl) rfl
theorem q1776 : (Jvm.Cond.methodLink "RooftopCatsLaw" (47 : Nat) ({ cls := "RooftopCats", name := "nominate", desc := "(II)I" } : Jvm.MethodName)) ∈ lw_all := lw_g (lw_at lw_m7 221 rfl) rfl
theorem q1782 : (Jvm.Cond.methodLink "RooftopCatsLaw" (182 : Nat) ({ cls := "RooftopCatsLaw", name := "vote", desc := "(LRooftopCats;IZ[J)I" } : Jvm.MethodName)) ∈ lw_all := lw_g (lw_at lw_m7 227 rfl) rfl
theorem q1783 : (Jvm.Cond.static ({ cls := "RooftopCatsLaw", name := "vote", desc := "(LRooftopCats;IZ[J)I" } : Jvm.MethodName)) ∈ lw_all := lw_g (lw_at lw_m7 228 rfl) rfl
theorem q1784 : (Jvm.Cond.codeWith ({ cls := "RooftopCatsLaw", name := "vote", desc := "(LRooftopCats;IZ[J)I" } : Jvm.MethodName) method_13_code (5 : Nat) (Option.some Jvm.ClassFile.FieldType.int) [((0 : Nat), (17 : Nat), (20 : Nat), (24 : Nat)), ((0 : Nat), (17 : Nat), (24 : Nat), (18 : Nat))]) ∈ lw_all := lw_g (lw_at lw_m7 229 rfl) rfl
theorem q1785 : (Jvm.Cond.methodLink "RooftopCatsLaw" (50 : Nat) ({ cls := "RooftopCats", name := "vote", desc := "(IZ)Z" } : Jvm.MethodName)) ∈ lw_all := lw_g (lw_at lw_m7 230 rfl) rfl
theorem q1791 : (Jvm.Cond.methodLink "RooftopCatsLaw" (186 : Nat) ({ cls := "RooftopCatsLaw", name := "passNights", desc := "(LRooftopCats;I[J)I" } : Jvm.MethodName)) ∈ lw_all := lw_g (lw_at lw_m7 236 rfl) rfl
theorem q1792 : (Jvm.Cond.static ({ cls := "RooftopCatsLaw", name := "passNights", desc := "(LRooftopCats;I[J)I" } : Jvm.MethodName)) ∈ lw_all := lw_g (lw_at lw_m7 237 rfl) rfl
theorem q1793 : (Jvm.Cond.codeWith ({ cls := "RooftopCatsLaw", name := "passNights", desc := "(LRooftopCats;I[J)I" } : Jvm.MethodName) method_14_code (4 : Nat) (Option.some Jvm.ClassFile.FieldType.int) [((0 : Nat), (9 : Nat), (12 : Nat), (13 : Nat)), ((0 : Nat), (9 : Nat), (15 : Nat), (18 : Nat))]) ∈ lw_all := lw_g (lw_at lw_m7 238 rfl) rfl
theorem q1794 : (Jvm.Cond.methodLink "RooftopCatsLaw" (54 : Nat) ({ cls := "RooftopCats", name := "passNights", desc := "(I)I" } : Jvm.MethodName)) ∈ lw_all := lw_g (lw_at lw_m7 239 rfl) rfl
theorem q1799 : (Jvm.Cond.methodLink "RooftopCatsLaw" (201 : Nat) ({ cls := "RooftopCatsLaw", name := "restoreSnapshot", desc := "(LRooftopCats;[J)I" } : Jvm.MethodName)) ∈ lw_all := lw_g (lw_at lw_m8 4 rfl) rfl
theorem q1800 : (Jvm.Cond.static ({ cls := "RooftopCatsLaw", name := "restoreSnapshot", desc := "(LRooftopCats;[J)I" } : Jvm.MethodName)) ∈ lw_all := lw_g (lw_at lw_m8 5 rfl) rfl
theorem q1801 : (Jvm.Cond.codeWith ({ cls := "RooftopCatsLaw", name := "restoreSnapshot", desc := "(LRooftopCats;[J)I" } : Jvm.MethodName) method_15_code (3 : Nat) (Option.some Jvm.ClassFile.FieldType.int) [((0 : Nat), (8 : Nat), (11 : Nat), (61 : Nat))]) ∈ lw_all := lw_g (lw_at lw_m8 6 rfl) rfl
theorem q1802 : (Jvm.Cond.classLink "RooftopCatsLaw" (61 : Nat) "java/util/NoSuchElementException") ∈ lw_all := lw_g (lw_at lw_m8 7 rfl) rfl
theorem q1803 : (Jvm.Cond.methodLink "RooftopCatsLaw" (57 : Nat) ({ cls := "RooftopCats", name := "restoreSnapshot", desc := "()I" } : Jvm.MethodName)) ∈ lw_all := lw_g (lw_at lw_m8 8 rfl) rfl
theorem q1816 : (Jvm.Cond.methodLink "RooftopCatsLaw" (233 : Nat) ({ cls := "RooftopCatsLaw", name := "warmth", desc := "(LRooftopCats;I[J)I" } : Jvm.MethodName)) ∈ lw_all := lw_g (lw_at lw_m8 21 rfl) rfl
theorem q1817 : (Jvm.Cond.static ({ cls := "RooftopCatsLaw", name := "warmth", desc := "(LRooftopCats;I[J)I" } : Jvm.MethodName)) ∈ lw_all := lw_g (lw_at lw_m8 22 rfl) rfl
theorem q1818 : (Jvm.Cond.codeWith ({ cls := "RooftopCatsLaw", name := "warmth", desc := "(LRooftopCats;I[J)I" } : Jvm.MethodName) method_16_code (4 : Nat) (Option.some Jvm.ClassFile.FieldType.int) [((0 : Nat), (9 : Nat), (12 : Nat), (24 : Nat))]) ∈ lw_all := lw_g (lw_at lw_m8 23 rfl) rfl
theorem q1819 : (Jvm.Cond.methodLink "RooftopCatsLaw" (63 : Nat) ({ cls := "RooftopCats", name := "warmth", desc := "(I)I" } : Jvm.MethodName)) ∈ lw_all := lw_g (lw_at lw_m8 24 rfl) rfl
theorem q1823 : (Jvm.Cond.methodLink "RooftopCatsLaw" (236 : Nat) ({ cls := "RooftopCatsLaw", name := "ownerOf", desc := "(LRooftopCats;I[J)I" } : Jvm.MethodName)) ∈ lw_all := lw_g (lw_at lw_m8 28 rfl) rfl
theorem q1824 : (Jvm.Cond.static ({ cls := "RooftopCatsLaw", name := "ownerOf", desc := "(LRooftopCats;I[J)I" } : Jvm.MethodName)) ∈ lw_all := lw_g (lw_at lw_m8 29 rfl) rfl
theorem q1825 : (Jvm.Cond.codeWith ({ cls := "RooftopCatsLaw", name := "ownerOf", desc := "(LRooftopCats;I[J)I" } : Jvm.MethodName) method_17_code (4 : Nat) (Option.some Jvm.ClassFile.FieldType.int) [((0 : Nat), (9 : Nat), (12 : Nat), (24 : Nat))]) ∈ lw_all := lw_g (lw_at lw_m8 30 rfl) rfl
theorem q1826 : (Jvm.Cond.methodLink "RooftopCatsLaw" (66 : Nat) ({ cls := "RooftopCats", name := "ownerOf", desc := "(I)I" } : Jvm.MethodName)) ∈ lw_all := lw_g (lw_at lw_m8 31 rfl) rfl
theorem q1827 : (Jvm.Cond.methodLink "RooftopCatsLaw" (239 : Nat) ({ cls := "RooftopCatsLaw", name := "catOn", desc := "(LRooftopCats;I[J)I" } : Jvm.MethodName)) ∈ lw_all := lw_g (lw_at lw_m8 32 rfl) rfl
theorem q1828 : (Jvm.Cond.static ({ cls := "RooftopCatsLaw", name := "catOn", desc := "(LRooftopCats;I[J)I" } : Jvm.MethodName)) ∈ lw_all := lw_g (lw_at lw_m8 33 rfl) rfl
theorem q1829 : (Jvm.Cond.codeWith ({ cls := "RooftopCatsLaw", name := "catOn", desc := "(LRooftopCats;I[J)I" } : Jvm.MethodName) method_18_code (4 : Nat) (Option.some Jvm.ClassFile.FieldType.int) [((0 : Nat), (9 : Nat), (12 : Nat), (24 : Nat))]) ∈ lw_all := lw_g (lw_at lw_m8 34 rfl) rfl
theorem q1830 : (Jvm.Cond.methodLink "RooftopCatsLaw" (69 : Nat) ({ cls := "RooftopCats", name := "catOn", desc := "(I)I" } : Jvm.MethodName)) ∈ lw_all := lw_g (lw_at lw_m8 35 rfl) rfl
theorem q1834 : (Jvm.Cond.methodLink "RooftopCatsLaw" (242 : Nat) ({ cls := "RooftopCatsLaw", name := "gutterEnds", desc := "(LRooftopCats;I[J)I" } : Jvm.MethodName)) ∈ lw_all := lw_g (lw_at lw_m8 39 rfl) rfl
theorem q1835 : (Jvm.Cond.static ({ cls := "RooftopCatsLaw", name := "gutterEnds", desc := "(LRooftopCats;I[J)I" } : Jvm.MethodName)) ∈ lw_all := lw_g (lw_at lw_m8 40 rfl) rfl
theorem q1836 : (Jvm.Cond.codeWith ({ cls := "RooftopCatsLaw", name := "gutterEnds", desc := "(LRooftopCats;I[J)I" } : Jvm.MethodName) method_19_code (4 : Nat) (Option.some Jvm.ClassFile.FieldType.int) [((0 : Nat), (9 : Nat), (12 : Nat), (24 : Nat))]) ∈ lw_all := lw_g (lw_at lw_m8 41 rfl) rfl
theorem q1837 : (Jvm.Cond.methodLink "RooftopCatsLaw" (72 : Nat) ({ cls := "RooftopCats", name := "gutterEnds", desc := "(I)I" } : Jvm.MethodName)) ∈ lw_all := lw_g (lw_at lw_m8 42 rfl) rfl
theorem q1853 : (Jvm.Cond.methodLink "RooftopCatsLaw" (245 : Nat) ({ cls := "RooftopCatsLaw", name := "width", desc := "(LRooftopCats;I[J)I" } : Jvm.MethodName)) ∈ lw_all := lw_g (lw_at lw_m8 58 rfl) rfl
theorem q1854 : (Jvm.Cond.static ({ cls := "RooftopCatsLaw", name := "width", desc := "(LRooftopCats;I[J)I" } : Jvm.MethodName)) ∈ lw_all := lw_g (lw_at lw_m8 59 rfl) rfl
theorem q1855 : (Jvm.Cond.codeWith ({ cls := "RooftopCatsLaw", name := "width", desc := "(LRooftopCats;I[J)I" } : Jvm.MethodName) method_20_code (4 : Nat) (Option.some Jvm.ClassFile.FieldType.int) [((0 : Nat), (9 : Nat), (12 : Nat), (24 : Nat))]) ∈ lw_all := lw_g (lw_at lw_m8 60 rfl) rfl
theorem q1856 : (Jvm.Cond.methodLink "RooftopCatsLaw" (75 : Nat) ({ cls := "RooftopCats", name := "width", desc := "(I)I" } : Jvm.MethodName)) ∈ lw_all := lw_g (lw_at lw_m8 61 rfl) rfl
theorem q1861 : (Jvm.Cond.methodLink "RooftopCatsLaw" (248 : Nat) ({ cls := "RooftopCatsLaw", name := "widestWay", desc := "(LRooftopCats;II[J)I" } : Jvm.MethodName)) ∈ lw_all := lw_g (lw_at lw_m8 66 rfl) rfl
theorem q1862 : (Jvm.Cond.static ({ cls := "RooftopCatsLaw", name := "widestWay", desc := "(LRooftopCats;II[J)I" } : Jvm.MethodName)) ∈ lw_all := lw_g (lw_at lw_m8 67 rfl) rfl
theorem q1863 : (Jvm.Cond.codeWith ({ cls := "RooftopCatsLaw", name := "widestWay", desc := "(LRooftopCats;II[J)I" } : Jvm.MethodName) method_21_code (5 : Nat) (Option.some Jvm.ClassFile.FieldType.int) [((0 : Nat), (10 : Nat), (13 : Nat), (24 : Nat))]) ∈ lw_all := lw_g (lw_at lw_m8 68 rfl) rfl
theorem q1864 : (Jvm.Cond.methodLink "RooftopCatsLaw" (78 : Nat) ({ cls := "RooftopCats", name := "widestWay", desc := "(II)I" } : Jvm.MethodName)) ∈ lw_all := lw_g (lw_at lw_m8 69 rfl) rfl
theorem q1878 : (Jvm.Cond.methodLink "RooftopCatsLaw" (255 : Nat) ({ cls := "RooftopCatsLaw", name := "girth", desc := "(LRooftopCats;I[J)I" } : Jvm.MethodName)) ∈ lw_all := lw_g (lw_at lw_m8 83 rfl) rfl
theorem q1879 : (Jvm.Cond.static ({ cls := "RooftopCatsLaw", name := "girth", desc := "(LRooftopCats;I[J)I" } : Jvm.MethodName)) ∈ lw_all := lw_g (lw_at lw_m8 84 rfl) rfl
theorem q1880 : (Jvm.Cond.codeWith ({ cls := "RooftopCatsLaw", name := "girth", desc := "(LRooftopCats;I[J)I" } : Jvm.MethodName) method_22_code (4 : Nat) (Option.some Jvm.ClassFile.FieldType.int) [((0 : Nat), (9 : Nat), (12 : Nat), (24 : Nat))]) ∈ lw_all := lw_g (lw_at lw_m8 85 rfl) rfl
theorem q1881 : (Jvm.Cond.methodLink "RooftopCatsLaw" (81 : Nat) ({ cls := "RooftopCats", name := "girth", desc := "(I)I" } : Jvm.MethodName)) ∈ lw_all := lw_g (lw_at lw_m8 86 rfl) rfl
theorem q1885 : (Jvm.Cond.methodLink "RooftopCatsLaw" (258 : Nat) ({ cls := "RooftopCatsLaw", name := "power", desc := "(LRooftopCats;I[J)I" } : Jvm.MethodName)) ∈ lw_all := lw_g (lw_at lw_m8 90 rfl) rfl
theorem q1886 : (Jvm.Cond.static ({ cls := "RooftopCatsLaw", name := "power", desc := "(LRooftopCats;I[J)I" } : Jvm.MethodName)) ∈ lw_all := lw_g (lw_at lw_m8 91 rfl) rfl
theorem q1887 : (Jvm.Cond.codeWith ({ cls := "RooftopCatsLaw", name := "power", desc := "(LRooftopCats;I[J)I" } : Jvm.MethodName) method_23_code (4 : Nat) (Option.some Jvm.ClassFile.FieldType.int) [((0 : Nat), (9 : Nat), (12 : Nat), (24 : Nat))]) ∈ lw_all := lw_g (lw_at lw_m8 92 rfl) rfl
theorem q1888 : (Jvm.Cond.methodLink "RooftopCatsLaw" (84 : Nat) ({ cls := "RooftopCats", name := "power", desc := "(I)I" } : Jvm.MethodName)) ∈ lw_all := lw_g (lw_at lw_m8 93 rfl) rfl
theorem q1893 : (Jvm.Cond.methodLink "RooftopCatsLaw" (261 : Nat) ({ cls := "RooftopCatsLaw", name := "fish", desc := "(LRooftopCats;I[J)I" } : Jvm.MethodName)) ∈ lw_all := lw_g (lw_at lw_m8 98 rfl) rfl
theorem q1894 : (Jvm.Cond.static ({ cls := "RooftopCatsLaw", name := "fish", desc := "(LRooftopCats;I[J)I" } : Jvm.MethodName)) ∈ lw_all := lw_g (lw_at lw_m8 99 rfl) rfl
theorem q1895 : (Jvm.Cond.codeWith ({ cls := "RooftopCatsLaw", name := "fish", desc := "(LRooftopCats;I[J)I" } : Jvm.MethodName) method_24_code (4 : Nat) (Option.some Jvm.ClassFile.FieldType.int) [((0 : Nat), (9 : Nat), (12 : Nat), (24 : Nat))]) ∈ lw_all := lw_g (lw_at lw_m8 100 rfl) rfl
theorem q1896 : (Jvm.Cond.methodLink "RooftopCatsLaw" (87 : Nat) ({ cls := "RooftopCats", name := "fish", desc := "(I)I" } : Jvm.MethodName)) ∈ lw_all := lw_g (lw_at lw_m8 101 rfl) rfl
theorem q1900 : (Jvm.Cond.methodLink "RooftopCatsLaw" (264 : Nat) ({ cls := "RooftopCatsLaw", name := "chimneyOf", desc := "(LRooftopCats;I[J)I" } : Jvm.MethodName)) ∈ lw_all := lw_g (lw_at lw_m8 105 rfl) rfl
theorem q1901 : (Jvm.Cond.static ({ cls := "RooftopCatsLaw", name := "chimneyOf", desc := "(LRooftopCats;I[J)I" } : Jvm.MethodName)) ∈ lw_all := lw_g (lw_at lw_m8 106 rfl) rfl
theorem q1902 : (Jvm.Cond.codeWith ({ cls := "RooftopCatsLaw", name := "chimneyOf", desc := "(LRooftopCats;I[J)I" } : Jvm.MethodName) method_25_code (4 : Nat) (Option.some Jvm.ClassFile.FieldType.int) [((0 : Nat), (9 : Nat), (12 : Nat), (24 : Nat))]) ∈ lw_all := lw_g (lw_at lw_m8 107 rfl) rfl
theorem q1903 : (Jvm.Cond.methodLink "RooftopCatsLaw" (90 : Nat) ({ cls := "RooftopCats", name := "chimneyOf", desc := "(I)I" } : Jvm.MethodName)) ∈ lw_all := lw_g (lw_at lw_m8 108 rfl) rfl
theorem q1907 : (Jvm.Cond.methodLink "RooftopCatsLaw" (267 : Nat) ({ cls := "RooftopCatsLaw", name := "ownedChimneys", desc := "(LRooftopCats;I[J)I" } : Jvm.MethodName)) ∈ lw_all := lw_g (lw_at lw_m8 112 rfl) rfl
theorem q1908 : (Jvm.Cond.static ({ cls := "RooftopCatsLaw", name := "ownedChimneys", desc := "(LRooftopCats;I[J)I" } : Jvm.MethodName)) ∈ lw_all := lw_g (lw_at lw_m8 113 rfl) rfl
theorem q1909 : (Jvm.Cond.codeWith ({ cls := "RooftopCatsLaw", name := "ownedChimneys", desc := "(LRooftopCats;I[J)I" } : Jvm.MethodName) method_26_code (4 : Nat) (Option.some Jvm.ClassFile.FieldType.int) [((0 : Nat), (9 : Nat), (12 : Nat), (24 : Nat))]) ∈ lw_all := lw_g (lw_at lw_m8 114 rfl) rfl
theorem q1910 : (Jvm.Cond.methodLink "RooftopCatsLaw" (93 : Nat) ({ cls := "RooftopCats", name := "ownedChimneys", desc := "(I)I" } : Jvm.MethodName)) ∈ lw_all := lw_g (lw_at lw_m8 115 rfl) rfl
theorem q1914 : (Jvm.Cond.methodLink "RooftopCatsLaw" (270 : Nat) ({ cls := "RooftopCatsLaw", name := "truceNights", desc := "(LRooftopCats;II[J)I" } : Jvm.MethodName)) ∈ lw_all := lw_g (lw_at lw_m8 119 rfl) rfl
theorem q1915 : (Jvm.Cond.static ({ cls := "RooftopCatsLaw", name := "truceNights", desc := "(LRooftopCats;II[J)I" } : Jvm.MethodName)) ∈ lw_all := lw_g (lw_at lw_m8 120 rfl) rfl
theorem q1916 : (Jvm.Cond.codeWith ({ cls := "RooftopCatsLaw", name := "truceNights", desc := "(LRooftopCats;II[J)I" } : Jvm.MethodName) method_27_code (5 : Nat) (Option.some Jvm.ClassFile.FieldType.int) [((0 : Nat), (10 : Nat), (13 : Nat), (24 : Nat)), ((0 : Nat), (10 : Nat), (17 : Nat), (13 : Nat))]) ∈ lw_all := lw_g (lw_at lw_m8 121 rfl) rfl
theorem q1917 : (Jvm.Cond.methodLink "RooftopCatsLaw" (96 : Nat) ({ cls := "RooftopCats", name := "truceNights", desc := "(II)I" } : Jvm.MethodName)) ∈ lw_all := lw_g (lw_at lw_m8 122 rfl) rfl
theorem q1922 : (Jvm.Cond.methodLink "RooftopCatsLaw" (273 : Nat) ({ cls := "RooftopCatsLaw", name := "reachable", desc := "(LRooftopCats;I[J)I" } : Jvm.MethodName)) ∈ lw_all := lw_g (lw_at lw_m8 127 rfl) rfl
theorem q1923 : (Jvm.Cond.static ({ cls := "RooftopCatsLaw", name := "reachable", desc := "(LRooftopCats;I[J)I" } : Jvm.MethodName)) ∈ lw_all := lw_g (lw_at lw_m8 128 rfl) rfl
theorem q1924 : (Jvm.Cond.codeWith ({ cls := "RooftopCatsLaw", name := "reachable", desc := "(LRooftopCats;I[J)I" } : Jvm.MethodName) method_28_code (4 : Nat) (Option.some Jvm.ClassFile.FieldType.int) [((0 : Nat), (9 : Nat), (12 : Nat), (24 : Nat))]) ∈ lw_all := lw_g (lw_at lw_m8 129 rfl) rfl
theorem q1925 : (Jvm.Cond.methodLink "RooftopCatsLaw" (99 : Nat) ({ cls := "RooftopCats", name := "reachable", desc := "(I)I" } : Jvm.MethodName)) ∈ lw_all := lw_g (lw_at lw_m8 130 rfl) rfl
theorem q1937 : (Jvm.Cond.methodLink "RooftopCatsLaw" (276 : Nat) ({ cls := "RooftopCatsLaw", name := "stepsTo", desc := "(LRooftopCats;II[J)I" } : Jvm.MethodName)) ∈ lw_all := lw_g (lw_at lw_m8 142 rfl) rfl
theorem q1938 : (Jvm.Cond.static ({ cls := "RooftopCatsLaw", name := "stepsTo", desc := "(LRooftopCats;II[J)I" } : Jvm.MethodName)) ∈ lw_all := lw_g (lw_at lw_m8 143 rfl) rfl
theorem q1939 : (Jvm.Cond.codeWith ({ cls := "RooftopCatsLaw", name := "stepsTo", desc := "(LRooftopCats;II[J)I" } : Jvm.MethodName) method_29_code (5 : Nat) (Option.some Jvm.ClassFile.FieldType.int) [((0 : Nat), (10 : Nat), (13 : Nat), (24 : Nat))]) ∈ lw_all := lw_g (lw_at lw_m8 144 rfl) rfl
theorem q1940 : (Jvm.Cond.methodLink "RooftopCatsLaw" (102 : Nat) ({ cls := "RooftopCats", name := "stepsTo", desc := "(II)I" } : Jvm.MethodName)) ∈ lw_all := lw_g (lw_at lw_m8 145 rfl) rfl
theorem q1948 : (Jvm.Cond.methodLink "RooftopCatsLaw" (279 : Nat) ({ cls := "RooftopCatsLaw", name := "openGutters", desc := "(LRooftopCats;I[J)I" } : Jvm.MethodName)) ∈ lw_all := lw_g (lw_at lw_m8 153 rfl) rfl
theorem q1949 : (Jvm.Cond.static ({ cls := "RooftopCatsLaw", name := "openGutters", desc := "(LRooftopCats;I[J)I" } : Jvm.MethodName)) ∈ lw_all := lw_g (lw_at lw_m8 154 rfl) rfl
theorem q1950 : (Jvm.Cond.codeWith ({ cls := "RooftopCatsLaw", name := "openGutters", desc := "(LRooftopCats;I[J)I" } : Jvm.MethodName) method_30_code (4 : Nat) (Option.some Jvm.ClassFile.FieldType.int) [((0 : Nat), (9 : Nat), (12 : Nat), (24 : Nat))]) ∈ lw_all := lw_g (lw_at lw_m8 155 rfl) rfl
theorem q1951 : (Jvm.Cond.methodLink "RooftopCatsLaw" (105 : Nat) ({ cls := "RooftopCats", name := "openGutters", desc := "(I)I" } : Jvm.MethodName)) ∈ lw_all := lw_g (lw_at lw_m8 156 rfl) rfl
theorem q1955 : (Jvm.Cond.methodLink "RooftopCatsLaw" (282 : Nat) ({ cls := "RooftopCatsLaw", name := "whyNoStep", desc := "(LRooftopCats;II[J)I" } : Jvm.MethodName)) ∈ lw_all := lw_g (lw_at lw_m8 160 rfl) rfl
theorem q1956 : (Jvm.Cond.static ({ cls := "RooftopCatsLaw", name := "whyNoStep", desc := "(LRooftopCats;II[J)I" } : Jvm.MethodName)) ∈ lw_all := lw_g (lw_at lw_m8 161 rfl) rfl
theorem q1957 : (Jvm.Cond.codeWith ({ cls := "RooftopCatsLaw", name := "whyNoStep", desc := "(LRooftopCats;II[J)I" } : Jvm.MethodName) method_31_code (5 : Nat) (Option.some Jvm.ClassFile.FieldType.int) [((0 : Nat), (10 : Nat), (13 : Nat), (24 : Nat))]) ∈ lw_all := lw_g (lw_at lw_m8 162 rfl) rfl
theorem q1958 : (Jvm.Cond.methodLink "RooftopCatsLaw" (108 : Nat) ({ cls := "RooftopCats", name := "whyNoStep", desc := "(II)I" } : Jvm.MethodName)) ∈ lw_all := lw_g (lw_at lw_m8 163 rfl) rfl
theorem q1959 : (Jvm.Cond.methodLink "RooftopCatsLaw" (285 : Nat) ({ cls := "RooftopCatsLaw", name := "whyNoClaim", desc := "(LRooftopCats;I[J)I" } : Jvm.MethodName)) ∈ lw_all := lw_g (lw_at lw_m8 164 rfl) rfl
theorem q1960 : (Jvm.Cond.static ({ cls := "RooftopCatsLaw", name := "whyNoClaim", desc := "(LRooftopCats;I[J)I" } : Jvm.MethodName)) ∈ lw_all := lw_g (lw_at lw_m8 165 rfl) rfl
theorem q1961 : (Jvm.Cond.codeWith ({ cls := "RooftopCatsLaw", name := "whyNoClaim", desc := "(LRooftopCats;I[J)I" } : Jvm.MethodName) method_32_code (4 : Nat) (Option.some Jvm.ClassFile.FieldType.int) [((0 : Nat), (9 : Nat), (12 : Nat), (24 : Nat))]) ∈ lw_all := lw_g (lw_at lw_m8 166 rfl) rfl
theorem q1962 : (Jvm.Cond.methodLink "RooftopCatsLaw" (111 : Nat) ({ cls := "RooftopCats", name := "whyNoClaim", desc := "(I)I" } : Jvm.MethodName)) ∈ lw_all := lw_g (lw_at lw_m8 167 rfl) rfl
theorem q1963 : (Jvm.Cond.methodLink "RooftopCatsLaw" (288 : Nat) ({ cls := "RooftopCatsLaw", name := "whyNoChase", desc := "(LRooftopCats;II[J)I" } : Jvm.MethodName)) ∈ lw_all := lw_g (lw_at lw_m8 168 rfl) rfl
theorem q1964 : (Jvm.Cond.static ({ cls := "RooftopCatsLaw", name := "whyNoChase", desc := "(LRooftopCats;II[J)I" } : Jvm.MethodName)) ∈ lw_all := lw_g (lw_at lw_m8 169 rfl) rfl
theorem q1965 : (Jvm.Cond.codeWith ({ cls := "RooftopCatsLaw", name := "whyNoChase", desc := "(LRooftopCats;II[J)I" } : Jvm.MethodName) method_33_code (5 : Nat) (Option.some Jvm.ClassFile.FieldType.int) [((0 : Nat), (10 : Nat), (13 : Nat), (24 : Nat)), ((0 : Nat), (10 : Nat), (17 : Nat), (13 : Nat))]) ∈ lw_all := lw_g (lw_at lw_m8 170 rfl) rfl
theorem q1966 : (Jvm.Cond.methodLink "RooftopCatsLaw" (114 : Nat) ({ cls := "RooftopCats", name := "whyNoChase", desc := "(II)I" } : Jvm.MethodName)) ∈ lw_all := lw_g (lw_at lw_m8 171 rfl) rfl
theorem q1967 : (Jvm.Cond.methodLink "RooftopCatsLaw" (291 : Nat) ({ cls := "RooftopCatsLaw", name := "preyOf", desc := "(LRooftopCats;I[J)I" } : Jvm.MethodName)) ∈ lw_all := lw_g (lw_at lw_m8 172 rfl) rfl
theorem q1968 : (Jvm.Cond.static ({ cls := "RooftopCatsLaw", name := "preyOf", desc := "(LRooftopCats;I[J)I" } : Jvm.MethodName)) ∈ lw_all := lw_g (lw_at lw_m8 173 rfl) rfl
theorem q1969 : (Jvm.Cond.codeWith ({ cls := "RooftopCatsLaw", name := "preyOf", desc := "(LRooftopCats;I[J)I" } : Jvm.MethodName) method_34_code (4 : Nat) (Option.some Jvm.ClassFile.FieldType.int) [((0 : Nat), (9 : Nat), (12 : Nat), (24 : Nat))]) ∈ lw_all := lw_g (lw_at lw_m8 174 rfl) rfl
theorem q1970 : (Jvm.Cond.methodLink "RooftopCatsLaw" (117 : Nat) ({ cls := "RooftopCats", name := "preyOf", desc := "(I)I" } : Jvm.MethodName)) ∈ lw_all := lw_g (lw_at lw_m8 175 rfl) rfl
theorem q1974 : (Jvm.Cond.methodLink "RooftopCatsLaw" (307 : Nat) ({ cls := "RooftopCatsLaw", name := "hasVoted", desc := "(LRooftopCats;I[J)I" } : Jvm.MethodName)) ∈ lw_all := lw_g (lw_at lw_m8 179 rfl) rfl
theorem q1975 : (Jvm.Cond.static ({ cls := "RooftopCatsLaw", name := "hasVoted", desc := "(LRooftopCats;I[J)I" } : Jvm.MethodName)) ∈ lw_all := lw_g (lw_at lw_m8 180 rfl) rfl
theorem q1976 : (Jvm.Cond.codeWith ({ cls := "RooftopCatsLaw", name := "hasVoted", desc := "(LRooftopCats;I[J)I" } : Jvm.MethodName) method_35_code (4 : Nat) (Option.some Jvm.ClassFile.FieldType.int) [((0 : Nat), (16 : Nat), (19 : Nat), (24 : Nat))]) ∈ lw_all := lw_g (lw_at lw_m8 181 rfl) rfl
theorem q1977 : (Jvm.Cond.methodLink "RooftopCatsLaw" (120 : Nat) ({ cls := "RooftopCats", name := "hasVoted", desc := "(I)Z" } : Jvm.MethodName)) ∈ lw_all := lw_g (lw_at lw_m8 182 rfl) rfl
theorem q1982 : (Jvm.Cond.methodLink "RooftopCatsLaw" (310 : Nat) ({ cls := "RooftopCatsLaw", name := "choirOf", desc := "(LRooftopCats;I[J)I" } : Jvm.MethodName)) ∈ lw_all := lw_g (lw_at lw_m8 187 rfl) rfl
theorem q1983 : (Jvm.Cond.static ({ cls := "RooftopCatsLaw", name := "choirOf", desc := "(LRooftopCats;I[J)I" } : Jvm.MethodName)) ∈ lw_all := lw_g (lw_at lw_m8 188 rfl) rfl
theorem q1984 : (Jvm.Cond.codeWith ({ cls := "RooftopCatsLaw", name := "choirOf", desc := "(LRooftopCats;I[J)I" } : Jvm.MethodName) method_36_code (4 : Nat) (Option.some Jvm.ClassFile.FieldType.int) [((0 : Nat), (9 : Nat), (12 : Nat), (24 : Nat))]) ∈ lw_all := lw_g (lw_at lw_m8 189 rfl) rfl
theorem q1985 : (Jvm.Cond.methodLink "RooftopCatsLaw" (124 : Nat) ({ cls := "RooftopCats", name := "choirOf", desc := "(I)I" } : Jvm.MethodName)) ∈ lw_all := lw_g (lw_at lw_m8 190 rfl) rfl
theorem q1990 : (Jvm.Cond.methodLink "RooftopCatsLaw" (325 : Nat) ({ cls := "RooftopCatsLaw", name := "fishAfter", desc := "(LRooftopCats;II[J)I" } : Jvm.MethodName)) ∈ lw_all := lw_g (lw_at lw_m8 195 rfl) rfl
theorem q1991 : (Jvm.Cond.static ({ cls := "RooftopCatsLaw", name := "fishAfter", desc := "(LRooftopCats;II[J)I" } : Jvm.MethodName)) ∈ lw_all := lw_g (lw_at lw_m8 196 rfl) rfl
theorem q1992 : (Jvm.Cond.codeWith ({ cls := "RooftopCatsLaw", name := "fishAfter", desc := "(LRooftopCats;II[J)I" } : Jvm.MethodName) method_37_code (5 : Nat) (Option.some Jvm.ClassFile.FieldType.int) [((0 : Nat), (10 : Nat), (13 : Nat), (24 : Nat)), ((0 : Nat), (10 : Nat), (17 : Nat), (13 : Nat))]) ∈ lw_all := lw_g (lw_at lw_m8 197 rfl) rfl
theorem q1993 : (Jvm.Cond.methodLink "RooftopCatsLaw" (127 : Nat) ({ cls := "RooftopCats", name := "fishAfter", desc := "(II)I" } : Jvm.MethodName)) ∈ lw_all := lw_g (lw_at lw_m8 198 rfl) rfl
theorem q1998 : (Jvm.Cond.classLink "RooftopCatsLaw" (131 : Nat) "RooftopCatsModel") ∈ lw_all := lw_g (lw_at lw_m8 203 rfl) rfl
theorem q2000 : (Jvm.Cond.methodLink "RooftopCatsLaw" (133 : Nat) ({ cls := "RooftopCatsModel", name := "<init>", desc := "()V" } : Jvm.MethodName)) ∈ lw_all := lw_g (lw_at lw_m8 205 rfl) rfl
theorem q2376 : (Jvm.Cond.methodLink "RooftopCatsLaw" (145 : Nat) ({ cls := "RooftopCatsModel", name := "thrown", desc := "()I" } : Jvm.MethodName)) ∈ lw_all := lw_g (lw_at lw_m10 101 rfl) rfl
theorem q2380 : (Jvm.Cond.methodLink "RooftopCatsLaw" (138 : Nat) ({ cls := "RooftopCatsModel", name := "append", desc := "(IIIII)I" } : Jvm.MethodName)) ∈ lw_all := lw_g (lw_at lw_m10 105 rfl) rfl
theorem q2388 : (Jvm.Cond.methodLink "RooftopCatsLaw" (144 : Nat) ({ cls := "RooftopCatsModel", name := "truncateInput", desc := "(I)I" } : Jvm.MethodName)) ∈ lw_all := lw_g (lw_at lw_m10 113 rfl) rfl
theorem q2396 : (Jvm.Cond.methodLink "RooftopCatsLaw" (151 : Nat) ({ cls := "RooftopCatsModel", name := "runScript", desc := "()I" } : Jvm.MethodName)) ∈ lw_all := lw_g (lw_at lw_m10 121 rfl) rfl
theorem q2408 : (Jvm.Cond.methodLink "RooftopCatsLaw" (154 : Nat) ({ cls := "RooftopCatsModel", name := "addChimney", desc := "(I)I" } : Jvm.MethodName)) ∈ lw_all := lw_g (lw_at lw_m10 133 rfl) rfl
theorem q2416 : (Jvm.Cond.methodLink "RooftopCatsLaw" (158 : Nat) ({ cls := "RooftopCatsModel", name := "addGutter", desc := "(III)I" } : Jvm.MethodName)) ∈ lw_all := lw_g (lw_at lw_m10 141 rfl) rfl
theorem q2428 : (Jvm.Cond.methodLink "RooftopCatsLaw" (161 : Nat) ({ cls := "RooftopCatsModel", name := "addCat", desc := "(III)I" } : Jvm.MethodName)) ∈ lw_all := lw_g (lw_at lw_m10 153 rfl) rfl
theorem q2435 : (Jvm.Cond.methodLink "RooftopCatsLaw" (165 : Nat) ({ cls := "RooftopCatsModel", name := "step", desc := "(II)I" } : Jvm.MethodName)) ∈ lw_all := lw_g (lw_at lw_m10 160 rfl) rfl
theorem q2447 : (Jvm.Cond.methodLink "RooftopCatsLaw" (168 : Nat) ({ cls := "RooftopCatsModel", name := "claim", desc := "(I)I" } : Jvm.MethodName)) ∈ lw_all := lw_g (lw_at lw_m10 172 rfl) rfl
theorem q2451 : (Jvm.Cond.methodLink "RooftopCatsLaw" (171 : Nat) ({ cls := "RooftopCatsModel", name := "abandon", desc := "(I)I" } : Jvm.MethodName)) ∈ lw_all := lw_g (lw_at lw_m10 176 rfl) rfl
theorem q2455 : (Jvm.Cond.methodLink "RooftopCatsLaw" (174 : Nat) ({ cls := "RooftopCatsModel", name := "chase", desc := "(II)Z" } : Jvm.MethodName)) ∈ lw_all := lw_g (lw_at lw_m10 180 rfl) rfl
theorem q2463 : (Jvm.Cond.methodLink "RooftopCatsLaw" (178 : Nat) ({ cls := "RooftopCatsModel", name := "buyTruce", desc := "(IIII)I" } : Jvm.MethodName)) ∈ lw_all := lw_g (lw_at lw_m10 188 rfl) rfl
theorem q2467 : (Jvm.Cond.methodLink "RooftopCatsLaw" (181 : Nat) ({ cls := "RooftopCatsModel", name := "nominate", desc := "(II)I" } : Jvm.MethodName)) ∈ lw_all := lw_g (lw_at lw_m10 192 rfl) rfl
theorem q2471 : (Jvm.Cond.methodLink "RooftopCatsLaw" (185 : Nat) ({ cls := "RooftopCatsModel", name := "vote", desc := "(IZ)Z" } : Jvm.MethodName)) ∈ lw_all := lw_g (lw_at lw_m10 196 rfl) rfl
theorem q2475 : (Jvm.Cond.methodLink "RooftopCatsLaw" (188 : Nat) ({ cls := "RooftopCatsModel", name := "passNights", desc := "(I)I" } : Jvm.MethodName)) ∈ lw_all := lw_g (lw_at lw_m10 200 rfl) rfl
theorem q2479 : (Jvm.Cond.methodLink "RooftopCatsLaw" (192 : Nat) ({ cls := "RooftopCatsModel", name := "undo", desc := "()I" } : Jvm.MethodName)) ∈ lw_all := lw_g (lw_at lw_m10 204 rfl) rfl
theorem q2483 : (Jvm.Cond.methodLink "RooftopCatsLaw" (196 : Nat) ({ cls := "RooftopCatsModel", name := "undoCount", desc := "()I" } : Jvm.MethodName)) ∈ lw_all := lw_g (lw_at lw_m10 208 rfl) rfl
theorem q2487 : (Jvm.Cond.methodLink "RooftopCatsLaw" (200 : Nat) ({ cls := "RooftopCatsModel", name := "saveSnapshot", desc := "()I" } : Jvm.MethodName)) ∈ lw_all := lw_g (lw_at lw_m10 212 rfl) rfl
theorem q2491 : (Jvm.Cond.methodLink "RooftopCatsLaw" (204 : Nat) ({ cls := "RooftopCatsModel", name := "restoreSnapshot", desc := "()I" } : Jvm.MethodName)) ∈ lw_all := lw_g (lw_at lw_m10 216 rfl) rfl
theorem q2495 : (Jvm.Cond.methodLink "RooftopCatsLaw" (208 : Nat) ({ cls := "RooftopCatsModel", name := "scriptErrorKind", desc := "()I" } : Jvm.MethodName)) ∈ lw_all := lw_g (lw_at lw_m10 220 rfl) rfl
theorem q2499 : (Jvm.Cond.methodLink "RooftopCatsLaw" (212 : Nat) ({ cls := "RooftopCatsModel", name := "scriptErrorOffset", desc := "()I" } : Jvm.MethodName)) ∈ lw_all := lw_g (lw_at lw_m10 224 rfl) rfl
theorem q2503 : (Jvm.Cond.methodLink "RooftopCatsLaw" (216 : Nat) ({ cls := "RooftopCatsModel", name := "chimneyCount", desc := "()I" } : Jvm.MethodName)) ∈ lw_all := lw_g (lw_at lw_m10 228 rfl) rfl
theorem q2511 : (Jvm.Cond.methodLink "RooftopCatsLaw" (220 : Nat) ({ cls := "RooftopCatsModel", name := "gutterCount", desc := "()I" } : Jvm.MethodName)) ∈ lw_all := lw_g (lw_at lw_m10 236 rfl) rfl
theorem q2515 : (Jvm.Cond.methodLink "RooftopCatsLaw" (224 : Nat) ({ cls := "RooftopCatsModel", name := "catCount", desc := "()I" } : Jvm.MethodName)) ∈ lw_all := lw_g (lw_at lw_m11 0 rfl) rfl
theorem q2519 : (Jvm.Cond.methodLink "RooftopCatsLaw" (228 : Nat) ({ cls := "RooftopCatsModel", name := "night", desc := "()I" } : Jvm.MethodName)) ∈ lw_all := lw_g (lw_at lw_m11 4 rfl) rfl
theorem q2523 : (Jvm.Cond.methodLink "RooftopCatsLaw" (232 : Nat) ({ cls := "RooftopCatsModel", name := "moonPhase", desc := "()I" } : Jvm.MethodName)) ∈ lw_all := lw_g (lw_at lw_m11 8 rfl) rfl
theorem q2527 : (Jvm.Cond.methodLink "RooftopCatsLaw" (235 : Nat) ({ cls := "RooftopCatsModel", name := "warmth", desc := "(I)I" } : Jvm.MethodName)) ∈ lw_all := lw_g (lw_at lw_m11 12 rfl) rfl
theorem q2531 : (Jvm.Cond.methodLink "RooftopCatsLaw" (238 : Nat) ({ cls := "RooftopCatsModel", name := "ownerOf", desc := "(I)I" } : Jvm.MethodName)) ∈ lw_all := lw_g (lw_at lw_m11 16 rfl) rfl
theorem q2535 : (Jvm.Cond.methodLink "RooftopCatsLaw" (241 : Nat) ({ cls := "RooftopCatsModel", name := "catOn", desc := "(I)I" } : Jvm.MethodName)) ∈ lw_all := lw_g (lw_at lw_m11 20 rfl) rfl
theorem q2539 : (Jvm.Cond.methodLink "RooftopCatsLaw" (244 : Nat) ({ cls := "RooftopCatsModel", name := "gutterEnds", desc := "(I)I" } : Jvm.MethodName)) ∈ lw_all := lw_g (lw_at lw_m11 24 rfl) rfl
theorem q2543 : (Jvm.Cond.methodLink "RooftopCatsLaw" (247 : Nat) ({ cls := "RooftopCatsModel", name := "width", desc := "(I)I" } : Jvm.MethodName)) ∈ lw_all := lw_g (lw_at lw_m11 28 rfl) rfl
theorem q2547 : (Jvm.Cond.methodLink "RooftopCatsLaw" (250 : Nat) ({ cls := "RooftopCatsModel", name := "widestWay", desc := "(II)I" } : Jvm.MethodName)) ∈ lw_all := lw_g (lw_at lw_m11 32 rfl) rfl
theorem q2555 : (Jvm.Cond.methodLink "RooftopCatsLaw" (254 : Nat) ({ cls := "RooftopCatsModel", name := "warmestFree", desc := "()I" } : Jvm.MethodName)) ∈ lw_all := lw_g (lw_at lw_m11 40 rfl) rfl
theorem q2559 : (Jvm.Cond.methodLink "RooftopCatsLaw" (257 : Nat) ({ cls := "RooftopCatsModel", name := "girth", desc := "(I)I" } : Jvm.MethodName)) ∈ lw_all := lw_g (lw_at lw_m11 44 rfl) rfl
theorem q2567 : (Jvm.Cond.methodLink "RooftopCatsLaw" (260 : Nat) ({ cls := "RooftopCatsModel", name := "power", desc := "(I)I" } : Jvm.MethodName)) ∈ lw_all := lw_g (lw_at lw_m11 52 rfl) rfl
theorem q2571 : (Jvm.Cond.methodLink "RooftopCatsLaw" (263 : Nat) ({ cls := "RooftopCatsModel", name := "fish", desc := "(I)I" } : Jvm.MethodName)) ∈ lw_all := lw_g (lw_at lw_m11 56 rfl) rfl
theorem q2575 : (Jvm.Cond.methodLink "RooftopCatsLaw" (266 : Nat) ({ cls := "RooftopCatsModel", name := "chimneyOf", desc := "(I)I" } : Jvm.MethodName)) ∈ lw_all := lw_g (lw_at lw_m11 60 rfl) rfl
theorem q2579 : (Jvm.Cond.methodLink "RooftopCatsLaw" (269 : Nat) ({ cls := "RooftopCatsModel", name := "ownedChimneys", desc := "(I)I" } : Jvm.MethodName)) ∈ lw_all := lw_g (lw_at lw_m11 64 rfl) rfl
theorem q2583 : (Jvm.Cond.methodLink "RooftopCatsLaw" (272 : Nat) ({ cls := "RooftopCatsModel", name := "truceNights", desc := "(II)I" } : Jvm.MethodName)) ∈ lw_all := lw_g (lw_at lw_m11 68 rfl) rfl
theorem q2587 : (Jvm.Cond.methodLink "RooftopCatsLaw" (275 : Nat) ({ cls := "RooftopCatsModel", name := "reachable", desc := "(I)I" } : Jvm.MethodName)) ∈ lw_all := lw_g (lw_at lw_m11 72 rfl) rfl
theorem q2599 : (Jvm.Cond.methodLink "RooftopCatsLaw" (278 : Nat) ({ cls := "RooftopCatsModel", name := "stepsTo", desc := "(II)I" } : Jvm.MethodName)) ∈ lw_all := lw_g (lw_at lw_m11 84 rfl) rfl
theorem q2603 : (Jvm.Cond.methodLink "RooftopCatsLaw" (281 : Nat) ({ cls := "RooftopCatsModel", name := "openGutters", desc := "(I)I" } : Jvm.MethodName)) ∈ lw_all := lw_g (lw_at lw_m11 88 rfl) rfl
theorem q2607 : (Jvm.Cond.methodLink "RooftopCatsLaw" (284 : Nat) ({ cls := "RooftopCatsModel", name := "whyNoStep", desc := "(II)I" } : Jvm.MethodName)) ∈ lw_all := lw_g (lw_at lw_m11 92 rfl) rfl
theorem q2611 : (Jvm.Cond.methodLink "RooftopCatsLaw" (287 : Nat) ({ cls := "RooftopCatsModel", name := "whyNoClaim", desc := "(I)I" } : Jvm.MethodName)) ∈ lw_all := lw_g (lw_at lw_m11 96 rfl) rfl
theorem q2615 : (Jvm.Cond.methodLink "RooftopCatsLaw" (290 : Nat) ({ cls := "RooftopCatsModel", name := "whyNoChase", desc := "(II)I" } : Jvm.MethodName)) ∈ lw_all := lw_g (lw_at lw_m11 100 rfl) rfl
theorem q2619 : (Jvm.Cond.methodLink "RooftopCatsLaw" (293 : Nat) ({ cls := "RooftopCatsModel", name := "preyOf", desc := "(I)I" } : Jvm.MethodName)) ∈ lw_all := lw_g (lw_at lw_m11 104 rfl) rfl
theorem q2623 : (Jvm.Cond.methodLink "RooftopCatsLaw" (298 : Nat) ({ cls := "RooftopCatsModel", name := "isKittenWaiting", desc := "()Z" } : Jvm.MethodName)) ∈ lw_all := lw_g (lw_at lw_m11 108 rfl) rfl
theorem q2627 : (Jvm.Cond.methodLink "RooftopCatsLaw" (302 : Nat) ({ cls := "RooftopCatsModel", name := "votesFor", desc := "()I" } : Jvm.MethodName)) ∈ lw_all := lw_g (lw_at lw_m11 112 rfl) rfl
theorem q2631 : (Jvm.Cond.methodLink "RooftopCatsLaw" (306 : Nat) ({ cls := "RooftopCatsModel", name := "votesAgainst", desc := "()I" } : Jvm.MethodName)) ∈ lw_all := lw_g (lw_at lw_m11 116 rfl) rfl
theorem q2635 : (Jvm.Cond.methodLink "RooftopCatsLaw" (309 : Nat) ({ cls := "RooftopCatsModel", name := "hasVoted", desc := "(I)Z" } : Jvm.MethodName)) ∈ lw_all := lw_g (lw_at lw_m11 120 rfl) rfl
theorem q2639 : (Jvm.Cond.methodLink "RooftopCatsLaw" (312 : Nat) ({ cls := "RooftopCatsModel", name := "choirOf", desc := "(I)I" } : Jvm.MethodName)) ∈ lw_all := lw_g (lw_at lw_m11 124 rfl) rfl
theorem q2643 : (Jvm.Cond.methodLink "RooftopCatsLaw" (316 : Nat) ({ cls := "RooftopCatsModel", name := "choirCount", desc := "()I" } : Jvm.MethodName)) ∈ lw_all := lw_g (lw_at lw_m11 128 rfl) rfl
theorem q2647 : (Jvm.Cond.methodLink "RooftopCatsLaw" (320 : Nat) ({ cls := "RooftopCatsModel", name := "largestChoir", desc := "()I" } : Jvm.MethodName)) ∈ lw_all := lw_g (lw_at lw_m11 132 rfl) rfl
theorem q2651 : (Jvm.Cond.methodLink "RooftopCatsLaw" (324 : Nat) ({ cls := "RooftopCatsModel", name := "nightsToFullMoon", desc := "()I" } : Jvm.MethodName)) ∈ lw_all := lw_g (lw_at lw_m11 136 rfl) rfl
theorem q2655 : (Jvm.Cond.methodLink "RooftopCatsLaw" (327 : Nat) ({ cls := "RooftopCatsModel", name := "fishAfter", desc := "(II)I" } : Jvm.MethodName)) ∈ lw_all := lw_g (lw_at lw_m11 140 rfl) rfl
theorem q2659 : (Jvm.Cond.methodLink "RooftopCatsLaw" (331 : Nat) ({ cls := "RooftopCatsModel", name := "richestCat", desc := "()I" } : Jvm.MethodName)) ∈ lw_all := lw_g (lw_at lw_m11 144 rfl) rfl
theorem q2663 : (Jvm.Cond.methodLink "RooftopCatsLaw" (335 : Nat) ({ cls := "RooftopCatsModel", name := "totalFish", desc := "()I" } : Jvm.MethodName)) ∈ lw_all := lw_g (lw_at lw_m11 148 rfl) rfl
theorem q2671 : (Jvm.Cond.methodLink "RooftopCatsLaw" (340 : Nat) ({ cls := "RooftopCatsModel", name := "meanFish", desc := "()D" } : Jvm.MethodName)) ∈ lw_all := lw_g (lw_at lw_m11 156 rfl) rfl
theorem q2675 : (Jvm.Cond.methodLink "RooftopCatsLaw" (345 : Nat) ({ cls := "RooftopCatsModel", name := "ownedShare", desc := "()F" } : Jvm.MethodName)) ∈ lw_all := lw_g (lw_at lw_m11 160 rfl) rfl
theorem q2679 : (Jvm.Cond.methodLink "RooftopCatsLaw" (349 : Nat) ({ cls := "RooftopCatsModel", name := "violations", desc := "()I" } : Jvm.MethodName)) ∈ lw_all := lw_g (lw_at lw_m11 164 rfl) rfl
theorem q2687 : (Jvm.Cond.methodLink "RooftopCatsLaw" (353 : Nat) ({ cls := "RooftopCatsModel", name := "writeRoof", desc := "()I" } : Jvm.MethodName)) ∈ lw_all := lw_g (lw_at lw_m11 172 rfl) rfl
theorem q2699 : (Jvm.Cond.methodLink "RooftopCatsLaw" (357 : Nat) ({ cls := "RooftopCatsModel", name := "reportByte", desc := "(I)I" } : Jvm.MethodName)) ∈ lw_all := lw_g (lw_at lw_m11 184 rfl) rfl

/-! the law's own entry -/
set_option maxRecDepth 100000
abbrev cL_law : ByteArray := code
def dkwL_law_117 : List UInt8 := [132, 4, 6, 167, 244, 135, 4, 172]
abbrev dktL_law_117 : List UInt8 := dkwL_law_117 ++ []
def dkwL_law_116 : List UInt8 := [21, 4, 4, 96, 46, 182, 1, 98, 44, 42, 21, 4, 4, 96, 46, 182, 1, 101, 159, 0, 5, 3, 172]
abbrev dktL_law_116 : List UInt8 := dkwL_law_116 ++ dktL_law_117
def dkwL_law_115 : List UInt8 := [182, 1, 93, 159, 0, 43, 3, 172, 43, 182, 1, 94, 44, 182, 1, 97, 159, 0, 30, 3, 172, 43, 42]
abbrev dktL_law_115 : List UInt8 := dkwL_law_115 ++ dktL_law_116
def dkwL_law_114 : List UInt8 := [24, 5, 151, 153, 0, 11, 24, 7, 24, 7, 151, 154, 0, 5, 3, 172, 167, 0, 54, 43, 182, 1, 90, 44]
abbrev dktL_law_114 : List UInt8 := dkwL_law_114 ++ dktL_law_115
def dkwL_law_113 : List UInt8 := [43, 182, 1, 85, 141, 57, 5, 44, 182, 1, 89, 141, 57, 7, 24, 5, 24, 7, 151, 153, 0, 21, 24, 5]
abbrev dktL_law_113 : List UInt8 := dkwL_law_113 ++ dktL_law_114
def dkwL_law_112 : List UInt8 := [153, 0, 21, 24, 5, 24, 5, 151, 153, 0, 11, 24, 7, 24, 7, 151, 154, 0, 5, 3, 172, 167, 0, 97]
abbrev dktL_law_112 : List UInt8 := dkwL_law_112 ++ dktL_law_113
def dkwL_law_111 : List UInt8 := [159, 0, 140, 3, 172, 43, 182, 1, 80, 57, 5, 44, 182, 1, 84, 57, 7, 24, 5, 24, 7, 151]
abbrev dktL_law_111 : List UInt8 := dkwL_law_111 ++ dktL_law_112
def dkwL_law_110 : List UInt8 := [167, 0, 164, 43, 182, 1, 72, 44, 182, 1, 75, 159, 0, 153, 3, 172, 43, 182, 1, 76, 44, 182, 1, 79]
abbrev dktL_law_110 : List UInt8 := dkwL_law_110 ++ dktL_law_111
def dkwL_law_109 : List UInt8 := [159, 0, 5, 3, 172, 21, 5, 154, 0, 15, 45, 3, 47, 21, 6, 133, 148, 153, 0, 5, 3, 172]
abbrev dktL_law_109 : List UInt8 := dkwL_law_109 ++ dktL_law_110
def dkwL_law_108 : List UInt8 := [44, 42, 21, 4, 4, 96, 46, 42, 21, 4, 5, 96, 46, 182, 1, 71, 54, 6, 44, 182, 0, 145, 21, 5]
abbrev dktL_law_108 : List UInt8 := dkwL_law_108 ++ dktL_law_109
def dkwL_law_107 : List UInt8 := [159, 0, 234, 3, 172, 43, 42, 21, 4, 4, 96, 46, 42, 21, 4, 5, 96, 46, 45, 184, 1, 69, 54, 5]
abbrev dktL_law_107 : List UInt8 := dkwL_law_107 ++ dktL_law_108
def dkwL_law_106 : List UInt8 := [172, 43, 182, 1, 61, 44, 182, 1, 64, 159, 0, 247, 3, 172, 43, 182, 1, 65, 44, 182, 1, 68]
abbrev dktL_law_106 : List UInt8 := dkwL_law_106 ++ dktL_law_107
def dkwL_law_105 : List UInt8 := [21, 6, 133, 148, 153, 0, 5, 3, 172, 167, 1, 15, 43, 182, 1, 57, 44, 182, 1, 60, 159, 1, 4, 3]
abbrev dktL_law_105 : List UInt8 := dkwL_law_105 ++ dktL_law_106
def dkwL_law_104 : List UInt8 := [182, 1, 56, 54, 6, 44, 182, 0, 145, 21, 5, 159, 0, 5, 3, 172, 21, 5, 154, 0, 15, 45, 3, 47]
abbrev dktL_law_104 : List UInt8 := dkwL_law_104 ++ dktL_law_105
def dkwL_law_103 : List UInt8 := [172, 167, 1, 71, 43, 42, 21, 4, 4, 96, 46, 45, 184, 1, 54, 54, 5, 44, 42, 21, 4, 4, 96, 46]
abbrev dktL_law_103 : List UInt8 := dkwL_law_103 ++ dktL_law_104
def dkwL_law_102 : List UInt8 := [172, 21, 5, 154, 0, 22, 45, 3, 47, 21, 6, 153, 0, 7, 10, 167, 0, 4, 9, 148, 153, 0, 5, 3]
abbrev dktL_law_102 : List UInt8 := dkwL_law_102 ++ dktL_law_103
def dkwL_law_101 : List UInt8 := [54, 5, 44, 42, 21, 4, 4, 96, 46, 182, 1, 53, 54, 6, 44, 182, 0, 145, 21, 5, 159, 0, 5, 3]
abbrev dktL_law_101 : List UInt8 := dkwL_law_101 ++ dktL_law_102
def dkwL_law_100 : List UInt8 := [182, 1, 47, 44, 182, 1, 50, 159, 1, 136, 3, 172, 43, 42, 21, 4, 4, 96, 46, 45, 184, 1, 51]
abbrev dktL_law_100 : List UInt8 := dkwL_law_100 ++ dktL_law_101
def dkwL_law_99 : List UInt8 := [182, 1, 42, 159, 1, 162, 3, 172, 43, 182, 1, 43, 44, 182, 1, 46, 159, 1, 149, 3, 172, 43]
abbrev dktL_law_99 : List UInt8 := dkwL_law_99 ++ dktL_law_100
def dkwL_law_98 : List UInt8 := [154, 0, 15, 45, 3, 47, 21, 6, 133, 148, 153, 0, 5, 3, 172, 167, 1, 173, 43, 182, 1, 38, 44]
abbrev dktL_law_98 : List UInt8 := dkwL_law_98 ++ dktL_law_99
def dkwL_law_97 : List UInt8 := [21, 4, 4, 96, 46, 182, 1, 37, 54, 6, 44, 182, 0, 145, 21, 5, 159, 0, 5, 3, 172, 21, 5]
abbrev dktL_law_97 : List UInt8 := dkwL_law_97 ++ dktL_law_98
def dkwL_law_96 : List UInt8 := [148, 153, 0, 5, 3, 172, 167, 1, 229, 43, 42, 21, 4, 4, 96, 46, 45, 184, 1, 35, 54, 5, 44, 42]
abbrev dktL_law_96 : List UInt8 := dkwL_law_96 ++ dktL_law_97
def dkwL_law_95 : List UInt8 := [54, 6, 44, 182, 0, 145, 21, 5, 159, 0, 5, 3, 172, 21, 5, 154, 0, 15, 45, 3, 47, 21, 6, 133]
abbrev dktL_law_95 : List UInt8 := dkwL_law_95 ++ dktL_law_96
def dkwL_law_94 : List UInt8 := [46, 45, 184, 1, 32, 54, 5, 44, 42, 21, 4, 4, 96, 46, 42, 21, 4, 5, 96, 46, 182, 1, 34]
abbrev dktL_law_94 : List UInt8 := dkwL_law_94 ++ dktL_law_95
def dkwL_law_93 : List UInt8 := [21, 6, 133, 148, 153, 0, 5, 3, 172, 167, 2, 41, 43, 42, 21, 4, 4, 96, 46, 42, 21, 4, 5, 96]
abbrev dktL_law_93 : List UInt8 := dkwL_law_93 ++ dktL_law_94
def dkwL_law_92 : List UInt8 := [182, 1, 31, 54, 6, 44, 182, 0, 145, 21, 5, 159, 0, 5, 3, 172, 21, 5, 154, 0, 15, 45, 3, 47]
abbrev dktL_law_92 : List UInt8 := dkwL_law_92 ++ dktL_law_93
def dkwL_law_91 : List UInt8 := [167, 2, 97, 43, 42, 21, 4, 4, 96, 46, 45, 184, 1, 29, 54, 5, 44, 42, 21, 4, 4, 96, 46]
abbrev dktL_law_91 : List UInt8 := dkwL_law_91 ++ dktL_law_92
def dkwL_law_90 : List UInt8 := [159, 0, 5, 3, 172, 21, 5, 154, 0, 15, 45, 3, 47, 21, 6, 133, 148, 153, 0, 5, 3, 172]
abbrev dktL_law_90 : List UInt8 := dkwL_law_90 ++ dktL_law_91
def dkwL_law_89 : List UInt8 := [21, 4, 4, 96, 46, 42, 21, 4, 5, 96, 46, 182, 1, 28, 54, 6, 44, 182, 0, 145, 21, 5]
abbrev dktL_law_89 : List UInt8 := dkwL_law_89 ++ dktL_law_90
def dkwL_law_88 : List UInt8 := [167, 2, 165, 43, 42, 21, 4, 4, 96, 46, 42, 21, 4, 5, 96, 46, 45, 184, 1, 26, 54, 5, 44, 42]
abbrev dktL_law_88 : List UInt8 := dkwL_law_88 ++ dktL_law_89
def dkwL_law_87 : List UInt8 := [159, 0, 5, 3, 172, 21, 5, 154, 0, 15, 45, 3, 47, 21, 6, 133, 148, 153, 0, 5, 3, 172]
abbrev dktL_law_87 : List UInt8 := dkwL_law_87 ++ dktL_law_88
def dkwL_law_86 : List UInt8 := [184, 1, 23, 54, 5, 44, 42, 21, 4, 4, 96, 46, 182, 1, 25, 54, 6, 44, 182, 0, 145, 21, 5]
abbrev dktL_law_86 : List UInt8 := dkwL_law_86 ++ dktL_law_87
def dkwL_law_85 : List UInt8 := [3, 47, 21, 6, 133, 148, 153, 0, 5, 3, 172, 167, 2, 221, 43, 42, 21, 4, 4, 96, 46, 45]
abbrev dktL_law_85 : List UInt8 := dkwL_law_85 ++ dktL_law_86
def dkwL_law_84 : List UInt8 := [96, 46, 182, 1, 22, 54, 6, 44, 182, 0, 145, 21, 5, 159, 0, 5, 3, 172, 21, 5, 154, 0, 15, 45]
abbrev dktL_law_84 : List UInt8 := dkwL_law_84 ++ dktL_law_85
def dkwL_law_83 : List UInt8 := [46, 42, 21, 4, 5, 96, 46, 45, 184, 1, 20, 54, 5, 44, 42, 21, 4, 4, 96, 46, 42, 21, 4, 5]
abbrev dktL_law_83 : List UInt8 := dkwL_law_83 ++ dktL_law_84
def dkwL_law_82 : List UInt8 := [154, 0, 15, 45, 3, 47, 21, 6, 133, 148, 153, 0, 5, 3, 172, 167, 3, 33, 43, 42, 21, 4, 4, 96]
abbrev dktL_law_82 : List UInt8 := dkwL_law_82 ++ dktL_law_83
def dkwL_law_81 : List UInt8 := [21, 4, 4, 96, 46, 182, 1, 19, 54, 6, 44, 182, 0, 145, 21, 5, 159, 0, 5, 3, 172, 21, 5]
abbrev dktL_law_81 : List UInt8 := dkwL_law_81 ++ dktL_law_82
def dkwL_law_80 : List UInt8 := [153, 0, 5, 3, 172, 167, 3, 89, 43, 42, 21, 4, 4, 96, 46, 45, 184, 1, 17, 54, 5, 44, 42]
abbrev dktL_law_80 : List UInt8 := dkwL_law_80 ++ dktL_law_81
def dkwL_law_79 : List UInt8 := [182, 0, 145, 21, 5, 159, 0, 5, 3, 172, 21, 5, 154, 0, 15, 45, 3, 47, 21, 6, 133, 148]
abbrev dktL_law_79 : List UInt8 := dkwL_law_79 ++ dktL_law_80
def dkwL_law_78 : List UInt8 := [184, 1, 14, 54, 5, 44, 42, 21, 4, 4, 96, 46, 42, 21, 4, 5, 96, 46, 182, 1, 16, 54, 6, 44]
abbrev dktL_law_78 : List UInt8 := dkwL_law_78 ++ dktL_law_79
def dkwL_law_77 : List UInt8 := [153, 0, 5, 3, 172, 167, 3, 157, 43, 42, 21, 4, 4, 96, 46, 42, 21, 4, 5, 96, 46, 45]
abbrev dktL_law_77 : List UInt8 := dkwL_law_77 ++ dktL_law_78
def dkwL_law_76 : List UInt8 := [182, 0, 145, 21, 5, 159, 0, 5, 3, 172, 21, 5, 154, 0, 15, 45, 3, 47, 21, 6, 133, 148]
abbrev dktL_law_76 : List UInt8 := dkwL_law_76 ++ dktL_law_77
def dkwL_law_75 : List UInt8 := [21, 4, 4, 96, 46, 45, 184, 1, 11, 54, 5, 44, 42, 21, 4, 4, 96, 46, 182, 1, 13, 54, 6, 44]
abbrev dktL_law_75 : List UInt8 := dkwL_law_75 ++ dktL_law_76
def dkwL_law_74 : List UInt8 := [172, 21, 5, 154, 0, 15, 45, 3, 47, 21, 6, 133, 148, 153, 0, 5, 3, 172, 167, 3, 213, 43, 42]
abbrev dktL_law_74 : List UInt8 := dkwL_law_74 ++ dktL_law_75
def dkwL_law_73 : List UInt8 := [54, 5, 44, 42, 21, 4, 4, 96, 46, 182, 1, 10, 54, 6, 44, 182, 0, 145, 21, 5, 159, 0, 5, 3]
abbrev dktL_law_73 : List UInt8 := dkwL_law_73 ++ dktL_law_74
def dkwL_law_72 : List UInt8 := [21, 6, 133, 148, 153, 0, 5, 3, 172, 167, 4, 13, 43, 42, 21, 4, 4, 96, 46, 45, 184, 1, 8]
abbrev dktL_law_72 : List UInt8 := dkwL_law_72 ++ dktL_law_73
def dkwL_law_71 : List UInt8 := [182, 1, 7, 54, 6, 44, 182, 0, 145, 21, 5, 159, 0, 5, 3, 172, 21, 5, 154, 0, 15, 45, 3, 47]
abbrev dktL_law_71 : List UInt8 := dkwL_law_71 ++ dktL_law_72
def dkwL_law_70 : List UInt8 := [167, 4, 69, 43, 42, 21, 4, 4, 96, 46, 45, 184, 1, 5, 54, 5, 44, 42, 21, 4, 4, 96, 46]
abbrev dktL_law_70 : List UInt8 := dkwL_law_70 ++ dktL_law_71
def dkwL_law_69 : List UInt8 := [21, 5, 159, 0, 5, 3, 172, 21, 5, 154, 0, 15, 45, 3, 47, 21, 6, 133, 148, 153, 0, 5, 3, 172]
abbrev dktL_law_69 : List UInt8 := dkwL_law_69 ++ dktL_law_70
def dkwL_law_68 : List UInt8 := [46, 45, 184, 1, 2, 54, 5, 44, 42, 21, 4, 4, 96, 46, 182, 1, 4, 54, 6, 44, 182, 0, 145]
abbrev dktL_law_68 : List UInt8 := dkwL_law_68 ++ dktL_law_69
def dkwL_law_67 : List UInt8 := [154, 0, 15, 45, 3, 47, 21, 6, 133, 148, 153, 0, 5, 3, 172, 167, 4, 125, 43, 42, 21, 4, 4, 96]
abbrev dktL_law_67 : List UInt8 := dkwL_law_67 ++ dktL_law_68
def dkwL_law_66 : List UInt8 := [21, 4, 4, 96, 46, 182, 1, 1, 54, 6, 44, 182, 0, 145, 21, 5, 159, 0, 5, 3, 172, 21, 5]
abbrev dktL_law_66 : List UInt8 := dkwL_law_66 ++ dktL_law_67
def dkwL_law_65 : List UInt8 := [182, 0, 254, 159, 4, 183, 3, 172, 43, 42, 21, 4, 4, 96, 46, 45, 184, 0, 255, 54, 5, 44, 42]
abbrev dktL_law_65 : List UInt8 := dkwL_law_65 ++ dktL_law_66
def dkwL_law_64 : List UInt8 := [154, 0, 15, 45, 3, 47, 21, 6, 133, 148, 153, 0, 5, 3, 172, 167, 4, 194, 43, 182, 0, 251, 44]
abbrev dktL_law_64 : List UInt8 := dkwL_law_64 ++ dktL_law_65
def dkwL_law_63 : List UInt8 := [42, 21, 4, 5, 96, 46, 182, 0, 250, 54, 6, 44, 182, 0, 145, 21, 5, 159, 0, 5, 3, 172, 21, 5]
abbrev dktL_law_63 : List UInt8 := dkwL_law_63 ++ dktL_law_64
def dkwL_law_62 : List UInt8 := [21, 4, 4, 96, 46, 42, 21, 4, 5, 96, 46, 45, 184, 0, 248, 54, 5, 44, 42, 21, 4, 4, 96, 46]
abbrev dktL_law_62 : List UInt8 := dkwL_law_62 ++ dktL_law_63
def dkwL_law_61 : List UInt8 := [172, 21, 5, 154, 0, 15, 45, 3, 47, 21, 6, 133, 148, 153, 0, 5, 3, 172, 167, 5, 6, 43, 42]
abbrev dktL_law_61 : List UInt8 := dkwL_law_61 ++ dktL_law_62
def dkwL_law_60 : List UInt8 := [54, 5, 44, 42, 21, 4, 4, 96, 46, 182, 0, 247, 54, 6, 44, 182, 0, 145, 21, 5, 159, 0, 5, 3]
abbrev dktL_law_60 : List UInt8 := dkwL_law_60 ++ dktL_law_61
def dkwL_law_59 : List UInt8 := [21, 6, 133, 148, 153, 0, 5, 3, 172, 167, 5, 62, 43, 42, 21, 4, 4, 96, 46, 45, 184, 0, 245]
abbrev dktL_law_59 : List UInt8 := dkwL_law_59 ++ dktL_law_60
def dkwL_law_58 : List UInt8 := [182, 0, 244, 54, 6, 44, 182, 0, 145, 21, 5, 159, 0, 5, 3, 172, 21, 5, 154, 0, 15, 45, 3, 47]
abbrev dktL_law_58 : List UInt8 := dkwL_law_58 ++ dktL_law_59
def dkwL_law_57 : List UInt8 := [167, 5, 118, 43, 42, 21, 4, 4, 96, 46, 45, 184, 0, 242, 54, 5, 44, 42, 21, 4, 4, 96, 46]
abbrev dktL_law_57 : List UInt8 := dkwL_law_57 ++ dktL_law_58
def dkwL_law_56 : List UInt8 := [21, 5, 159, 0, 5, 3, 172, 21, 5, 154, 0, 15, 45, 3, 47, 21, 6, 133, 148, 153, 0, 5, 3, 172]
abbrev dktL_law_56 : List UInt8 := dkwL_law_56 ++ dktL_law_57
def dkwL_law_55 : List UInt8 := [46, 45, 184, 0, 239, 54, 5, 44, 42, 21, 4, 4, 96, 46, 182, 0, 241, 54, 6, 44, 182, 0, 145]
abbrev dktL_law_55 : List UInt8 := dkwL_law_55 ++ dktL_law_56
def dkwL_law_54 : List UInt8 := [154, 0, 15, 45, 3, 47, 21, 6, 133, 148, 153, 0, 5, 3, 172, 167, 5, 174, 43, 42, 21, 4, 4, 96]
abbrev dktL_law_54 : List UInt8 := dkwL_law_54 ++ dktL_law_55
def dkwL_law_53 : List UInt8 := [21, 4, 4, 96, 46, 182, 0, 238, 54, 6, 44, 182, 0, 145, 21, 5, 159, 0, 5, 3, 172, 21, 5]
abbrev dktL_law_53 : List UInt8 := dkwL_law_53 ++ dktL_law_54
def dkwL_law_52 : List UInt8 := [148, 153, 0, 5, 3, 172, 167, 5, 230, 43, 42, 21, 4, 4, 96, 46, 45, 184, 0, 236, 54, 5, 44, 42]
abbrev dktL_law_52 : List UInt8 := dkwL_law_52 ++ dktL_law_53
def dkwL_law_51 : List UInt8 := [54, 6, 44, 182, 0, 145, 21, 5, 159, 0, 5, 3, 172, 21, 5, 154, 0, 15, 45, 3, 47, 21, 6, 133]
abbrev dktL_law_51 : List UInt8 := dkwL_law_51 ++ dktL_law_52
def dkwL_law_50 : List UInt8 := [172, 43, 42, 21, 4, 4, 96, 46, 45, 184, 0, 233, 54, 5, 44, 42, 21, 4, 4, 96, 46, 182, 0, 235]
abbrev dktL_law_50 : List UInt8 := dkwL_law_50 ++ dktL_law_51
def dkwL_law_49 : List UInt8 := [182, 0, 225, 44, 182, 0, 228, 159, 6, 45, 3, 172, 43, 182, 0, 229, 44, 182, 0, 232, 159, 6, 32, 3]
abbrev dktL_law_49 : List UInt8 := dkwL_law_49 ++ dktL_law_50
def dkwL_law_48 : List UInt8 := [182, 0, 220, 159, 6, 71, 3, 172, 43, 182, 0, 221, 44, 182, 0, 224, 159, 6, 58, 3, 172, 43]
abbrev dktL_law_48 : List UInt8 := dkwL_law_48 ++ dktL_law_49
def dkwL_law_47 : List UInt8 := [159, 6, 97, 3, 172, 43, 182, 0, 213, 44, 182, 0, 216, 159, 6, 84, 3, 172, 43, 182, 0, 217, 44]
abbrev dktL_law_47 : List UInt8 := dkwL_law_47 ++ dktL_law_48
def dkwL_law_46 : List UInt8 := [167, 6, 121, 43, 182, 0, 205, 44, 182, 0, 208, 159, 6, 110, 3, 172, 43, 182, 0, 209, 44, 182, 0, 212]
abbrev dktL_law_46 : List UInt8 := dkwL_law_46 ++ dktL_law_47
def dkwL_law_45 : List UInt8 := [159, 0, 5, 3, 172, 21, 5, 154, 0, 15, 45, 3, 47, 21, 6, 133, 148, 153, 0, 5, 3, 172]
abbrev dktL_law_45 : List UInt8 := dkwL_law_45 ++ dktL_law_46
def dkwL_law_44 : List UInt8 := [159, 6, 167, 3, 172, 43, 45, 184, 0, 201, 54, 5, 44, 182, 0, 204, 54, 6, 44, 182, 0, 145, 21, 5]
abbrev dktL_law_44 : List UInt8 := dkwL_law_44 ++ dktL_law_45
def dkwL_law_43 : List UInt8 := [172, 43, 182, 0, 193, 44, 182, 0, 196, 159, 6, 180, 3, 172, 43, 182, 0, 197, 44, 182, 0, 200]
abbrev dktL_law_43 : List UInt8 := dkwL_law_43 ++ dktL_law_44
def dkwL_law_42 : List UInt8 := [21, 6, 133, 148, 153, 0, 5, 3, 172, 167, 6, 204, 43, 182, 0, 189, 44, 182, 0, 192, 159, 6, 193, 3]
abbrev dktL_law_42 : List UInt8 := dkwL_law_42 ++ dktL_law_43
def dkwL_law_41 : List UInt8 := [182, 0, 188, 54, 6, 44, 182, 0, 145, 21, 5, 159, 0, 5, 3, 172, 21, 5, 154, 0, 15, 45, 3, 47]
abbrev dktL_law_41 : List UInt8 := dkwL_law_41 ++ dktL_law_42
def dkwL_law_40 : List UInt8 := [167, 7, 4, 43, 42, 21, 4, 4, 96, 46, 45, 184, 0, 186, 54, 5, 44, 42, 21, 4, 4, 96, 46]
abbrev dktL_law_40 : List UInt8 := dkwL_law_40 ++ dktL_law_41
def dkwL_law_39 : List UInt8 := [154, 0, 22, 45, 3, 47, 21, 6, 153, 0, 7, 10, 167, 0, 4, 9, 148, 153, 0, 5, 3, 172]
abbrev dktL_law_39 : List UInt8 := dkwL_law_39 ++ dktL_law_40
def dkwL_law_38 : List UInt8 := [167, 0, 4, 3, 182, 0, 185, 54, 6, 44, 182, 0, 145, 21, 5, 159, 0, 5, 3, 172, 21, 5]
abbrev dktL_law_38 : List UInt8 := dkwL_law_38 ++ dktL_law_39
def dkwL_law_37 : List UInt8 := [45, 184, 0, 182, 54, 5, 44, 42, 21, 4, 4, 96, 46, 42, 21, 4, 5, 96, 46, 153, 0, 7, 4]
abbrev dktL_law_37 : List UInt8 := dkwL_law_37 ++ dktL_law_38
def dkwL_law_36 : List UInt8 := [167, 7, 95, 43, 42, 21, 4, 4, 96, 46, 42, 21, 4, 5, 96, 46, 153, 0, 7, 4, 167, 0, 4, 3]
abbrev dktL_law_36 : List UInt8 := dkwL_law_36 ++ dktL_law_37
def dkwL_law_35 : List UInt8 := [159, 0, 5, 3, 172, 21, 5, 154, 0, 15, 45, 3, 47, 21, 6, 133, 148, 153, 0, 5, 3, 172]
abbrev dktL_law_35 : List UInt8 := dkwL_law_35 ++ dktL_law_36
def dkwL_law_34 : List UInt8 := [21, 4, 4, 96, 46, 42, 21, 4, 5, 96, 46, 182, 0, 181, 54, 6, 44, 182, 0, 145, 21, 5]
abbrev dktL_law_34 : List UInt8 := dkwL_law_34 ++ dktL_law_35
def dkwL_law_33 : List UInt8 := [167, 7, 163, 43, 42, 21, 4, 4, 96, 46, 42, 21, 4, 5, 96, 46, 45, 184, 0, 179, 54, 5, 44, 42]
abbrev dktL_law_33 : List UInt8 := dkwL_law_33 ++ dktL_law_34
def dkwL_law_32 : List UInt8 := [159, 0, 5, 3, 172, 21, 5, 154, 0, 15, 45, 3, 47, 21, 6, 133, 148, 153, 0, 5, 3, 172]
abbrev dktL_law_32 : List UInt8 := dkwL_law_32 ++ dktL_law_33
def dkwL_law_31 : List UInt8 := [42, 21, 4, 6, 96, 46, 42, 21, 4, 7, 96, 46, 182, 0, 178, 54, 6, 44, 182, 0, 145, 21, 5]
abbrev dktL_law_31 : List UInt8 := dkwL_law_31 ++ dktL_law_32
def dkwL_law_30 : List UInt8 := [21, 4, 7, 96, 46, 45, 184, 0, 175, 54, 5, 44, 42, 21, 4, 4, 96, 46, 42, 21, 4, 5, 96, 46]
abbrev dktL_law_30 : List UInt8 := dkwL_law_30 ++ dktL_law_31
def dkwL_law_29 : List UInt8 := [167, 7, 255, 43, 42, 21, 4, 4, 96, 46, 42, 21, 4, 5, 96, 46, 42, 21, 4, 6, 96, 46, 42]
abbrev dktL_law_29 : List UInt8 := dkwL_law_29 ++ dktL_law_30
def dkwL_law_28 : List UInt8 := [154, 0, 22, 45, 3, 47, 21, 6, 153, 0, 7, 10, 167, 0, 4, 9, 148, 153, 0, 5, 3, 172]
abbrev dktL_law_28 : List UInt8 := dkwL_law_28 ++ dktL_law_29
def dkwL_law_27 : List UInt8 := [42, 21, 4, 5, 96, 46, 182, 0, 174, 54, 6, 44, 182, 0, 145, 21, 5, 159, 0, 5, 3, 172, 21, 5]
abbrev dktL_law_27 : List UInt8 := dkwL_law_27 ++ dktL_law_28
def dkwL_law_26 : List UInt8 := [21, 4, 4, 96, 46, 42, 21, 4, 5, 96, 46, 45, 184, 0, 172, 54, 5, 44, 42, 21, 4, 4, 96, 46]
abbrev dktL_law_26 : List UInt8 := dkwL_law_26 ++ dktL_law_27
def dkwL_law_25 : List UInt8 := [172, 21, 5, 154, 0, 15, 45, 3, 47, 21, 6, 133, 148, 153, 0, 5, 3, 172, 167, 8, 74, 43, 42]
abbrev dktL_law_25 : List UInt8 := dkwL_law_25 ++ dktL_law_26
def dkwL_law_24 : List UInt8 := [54, 5, 44, 42, 21, 4, 4, 96, 46, 182, 0, 171, 54, 6, 44, 182, 0, 145, 21, 5, 159, 0, 5, 3]
abbrev dktL_law_24 : List UInt8 := dkwL_law_24 ++ dktL_law_25
def dkwL_law_23 : List UInt8 := [21, 6, 133, 148, 153, 0, 5, 3, 172, 167, 8, 130, 43, 42, 21, 4, 4, 96, 46, 45, 184, 0, 169]
abbrev dktL_law_23 : List UInt8 := dkwL_law_23 ++ dktL_law_24
def dkwL_law_22 : List UInt8 := [182, 0, 168, 54, 6, 44, 182, 0, 145, 21, 5, 159, 0, 5, 3, 172, 21, 5, 154, 0, 15, 45, 3, 47]
abbrev dktL_law_22 : List UInt8 := dkwL_law_22 ++ dktL_law_23
def dkwL_law_21 : List UInt8 := [167, 8, 186, 43, 42, 21, 4, 4, 96, 46, 45, 184, 0, 166, 54, 5, 44, 42, 21, 4, 4, 96, 46]
abbrev dktL_law_21 : List UInt8 := dkwL_law_21 ++ dktL_law_22
def dkwL_law_20 : List UInt8 := [159, 0, 5, 3, 172, 21, 5, 154, 0, 15, 45, 3, 47, 21, 6, 133, 148, 153, 0, 5, 3, 172]
abbrev dktL_law_20 : List UInt8 := dkwL_law_20 ++ dktL_law_21
def dkwL_law_19 : List UInt8 := [21, 4, 4, 96, 46, 42, 21, 4, 5, 96, 46, 182, 0, 165, 54, 6, 44, 182, 0, 145, 21, 5]
abbrev dktL_law_19 : List UInt8 := dkwL_law_19 ++ dktL_law_20
def dkwL_law_18 : List UInt8 := [167, 8, 254, 43, 42, 21, 4, 4, 96, 46, 42, 21, 4, 5, 96, 46, 45, 184, 0, 162, 54, 5, 44, 42]
abbrev dktL_law_18 : List UInt8 := dkwL_law_18 ++ dktL_law_19
def dkwL_law_17 : List UInt8 := [21, 5, 159, 0, 5, 3, 172, 21, 5, 154, 0, 15, 45, 3, 47, 21, 6, 133, 148, 153, 0, 5, 3, 172]
abbrev dktL_law_17 : List UInt8 := dkwL_law_17 ++ dktL_law_18
def dkwL_law_16 : List UInt8 := [96, 46, 42, 21, 4, 5, 96, 46, 42, 21, 4, 6, 96, 46, 182, 0, 161, 54, 6, 44, 182, 0, 145]
abbrev dktL_law_16 : List UInt8 := dkwL_law_16 ++ dktL_law_17
def dkwL_law_15 : List UInt8 := [46, 42, 21, 4, 5, 96, 46, 42, 21, 4, 6, 96, 46, 45, 184, 0, 159, 54, 5, 44, 42, 21, 4, 4]
abbrev dktL_law_15 : List UInt8 := dkwL_law_15 ++ dktL_law_16
def dkwL_law_14 : List UInt8 := [154, 0, 15, 45, 3, 47, 21, 6, 133, 148, 153, 0, 5, 3, 172, 167, 9, 78, 43, 42, 21, 4, 4, 96]
abbrev dktL_law_14 : List UInt8 := dkwL_law_14 ++ dktL_law_15
def dkwL_law_13 : List UInt8 := [21, 4, 6, 96, 46, 182, 0, 158, 54, 6, 44, 182, 0, 145, 21, 5, 159, 0, 5, 3, 172, 21, 5]
abbrev dktL_law_13 : List UInt8 := dkwL_law_13 ++ dktL_law_14
def dkwL_law_12 : List UInt8 := [6, 96, 46, 45, 184, 0, 155, 54, 5, 44, 42, 21, 4, 4, 96, 46, 42, 21, 4, 5, 96, 46, 42]
abbrev dktL_law_12 : List UInt8 := dkwL_law_12 ++ dktL_law_13
def dkwL_law_11 : List UInt8 := [153, 0, 5, 3, 172, 167, 9, 158, 43, 42, 21, 4, 4, 96, 46, 42, 21, 4, 5, 96, 46, 42, 21, 4]
abbrev dktL_law_11 : List UInt8 := dkwL_law_11 ++ dktL_law_12
def dkwL_law_10 : List UInt8 := [182, 0, 145, 21, 5, 159, 0, 5, 3, 172, 21, 5, 154, 0, 15, 45, 3, 47, 21, 6, 133, 148]
abbrev dktL_law_10 : List UInt8 := dkwL_law_10 ++ dktL_law_11
def dkwL_law_9 : List UInt8 := [21, 4, 4, 96, 46, 45, 184, 0, 152, 54, 5, 44, 42, 21, 4, 4, 96, 46, 182, 0, 154, 54, 6, 44]
abbrev dktL_law_9 : List UInt8 := dkwL_law_9 ++ dktL_law_10
def dkwL_law_8 : List UInt8 := [148, 153, 0, 5, 3, 172, 167, 9, 227, 43, 182, 0, 148, 44, 182, 0, 151, 159, 9, 216, 3, 172, 43, 42]
abbrev dktL_law_8 : List UInt8 := dkwL_law_8 ++ dktL_law_9
def dkwL_law_7 : List UInt8 := [54, 6, 44, 182, 0, 145, 21, 5, 159, 0, 5, 3, 172, 21, 5, 154, 0, 15, 45, 3, 47, 21, 6, 133]
abbrev dktL_law_7 : List UInt8 := dkwL_law_7 ++ dktL_law_8
def dkwL_law_6 : List UInt8 := [172, 43, 42, 21, 4, 4, 96, 46, 45, 184, 0, 139, 54, 5, 44, 42, 21, 4, 4, 96, 46, 182, 0, 144]
abbrev dktL_law_6 : List UInt8 := dkwL_law_6 ++ dktL_law_7
def dkwL_law_5 : List UInt8 := [21, 4, 6, 96, 46, 42, 21, 4, 7, 96, 46, 42, 21, 4, 8, 96, 46, 182, 0, 138, 159, 10, 29, 3]
abbrev dktL_law_5 : List UInt8 := dkwL_law_5 ++ dktL_law_6
def dkwL_law_4 : List UInt8 := [46, 42, 21, 4, 8, 96, 46, 182, 0, 134, 44, 42, 21, 4, 4, 96, 46, 42, 21, 4, 5, 96, 46, 42]
abbrev dktL_law_4 : List UInt8 := dkwL_law_4 ++ dktL_law_5
def dkwL_law_3 : List UInt8 := [43, 42, 21, 4, 4, 96, 46, 42, 21, 4, 5, 96, 46, 42, 21, 4, 6, 96, 46, 42, 21, 4, 7, 96]
abbrev dktL_law_3 : List UInt8 := dkwL_law_3 ++ dktL_law_4
def dkwL_law_2 : List UInt8 := [170, 0, 0, 0, 0, 0, 11, 101, 0, 0, 0, 0, 0, 0, 0, 60, 0, 0, 1, 4, 0, 0, 1, 77, 0, 0, 1, 133, 0, 0, 1, 146, 0, 0, 1, 202, 0, 0, 2, 26, 0, 0, 2, 106, 0, 0, 2, 174, 0, 0, 2, 230, 0, 0, 3, 30, 0, 0, 3, 105, 0, 0, 3, 197, 0, 0, 4, 9, 0, 0, 4, 100, 0, 0, 4, 156, 0, 0, 4, 169, 0, 0, 4, 182, 0, 0, 4, 195, 0, 0, 4, 239, 0, 0, 4, 252, 0, 0, 5, 9, 0, 0, 5, 22, 0, 0, 5, 35, 0, 0, 5, 48, 0, 0, 5, 61, 0, 0, 5, 74, 0, 0, 5, 130, 0, 0, 5, 186, 0, 0, 5, 242, 0, 0, 6, 42, 0, 0, 6, 98, 0, 0, 6, 166, 0, 0, 6, 179, 0, 0, 6, 235, 0, 0, 7, 35, 0, 0, 7, 91, 0, 0, 7, 147, 0, 0, 7, 203, 0, 0, 8, 15, 0, 0, 8, 71, 0, 0, 8, 139, 0, 0, 8, 195, 0, 0, 9, 7, 0, 0, 9, 63, 0, 0, 9, 131, 0, 0, 9, 187, 0, 0, 9, 200, 0, 0, 9, 213, 0, 0, 9, 226, 0, 0, 10, 33, 0, 0, 10, 89, 0, 0, 10, 102, 0, 0, 10, 115, 0, 0, 10, 128, 0, 0, 10, 196, 0, 0, 10, 209, 0, 0, 10, 222, 0, 0, 11, 7, 0, 0, 11, 50, 0, 0, 11, 63, 0, 0, 11, 76]
abbrev dktL_law_2 : List UInt8 := dkwL_law_2 ++ dktL_law_3
def dkwL_law_1 : List UInt8 := [21, 4, 42, 190, 16, 6, 100, 163, 11, 117, 42, 21, 4, 46, 16, 63, 126]
abbrev dktL_law_1 : List UInt8 := dkwL_law_1 ++ dktL_law_2
def dkwL_law_0 : List UInt8 := [187, 0, 8, 89, 183, 0, 130, 76, 187, 0, 131, 89, 183, 0, 133, 77, 4, 188, 11, 78, 3, 54, 4]
abbrev dktL_law_0 : List UInt8 := dkwL_law_0 ++ dktL_law_1
theorem dksL_law_0 : cL_law.data.toList.drop 0 = dktL_law_0 := by decide +kernel
theorem dksL_law_1 : cL_law.data.toList.drop 23 = dktL_law_1 := dk_seg dksL_law_0 23 rfl rfl
theorem dksL_law_2 : cL_law.data.toList.drop 40 = dktL_law_2 := dk_seg dksL_law_1 17 rfl rfl
theorem dksL_law_3 : cL_law.data.toList.drop 300 = dktL_law_3 := dk_seg dksL_law_2 260 rfl rfl
theorem dksL_law_4 : cL_law.data.toList.drop 324 = dktL_law_4 := dk_seg dksL_law_3 24 rfl rfl
theorem dksL_law_5 : cL_law.data.toList.drop 348 = dktL_law_5 := dk_seg dksL_law_4 24 rfl rfl
theorem dksL_law_6 : cL_law.data.toList.drop 372 = dktL_law_6 := dk_seg dksL_law_5 24 rfl rfl
theorem dksL_law_7 : cL_law.data.toList.drop 396 = dktL_law_7 := dk_seg dksL_law_6 24 rfl rfl
theorem dksL_law_8 : cL_law.data.toList.drop 420 = dktL_law_8 := dk_seg dksL_law_7 24 rfl rfl
theorem dksL_law_9 : cL_law.data.toList.drop 444 = dktL_law_9 := dk_seg dksL_law_8 24 rfl rfl
theorem dksL_law_10 : cL_law.data.toList.drop 468 = dktL_law_10 := dk_seg dksL_law_9 24 rfl rfl
theorem dksL_law_11 : cL_law.data.toList.drop 490 = dktL_law_11 := dk_seg dksL_law_10 22 rfl rfl
theorem dksL_law_12 : cL_law.data.toList.drop 514 = dktL_law_12 := dk_seg dksL_law_11 24 rfl rfl
theorem dksL_law_13 : cL_law.data.toList.drop 537 = dktL_law_13 := dk_seg dksL_law_12 23 rfl rfl
theorem dksL_law_14 : cL_law.data.toList.drop 560 = dktL_law_14 := dk_seg dksL_law_13 23 rfl rfl
theorem dksL_law_15 : cL_law.data.toList.drop 584 = dktL_law_15 := dk_seg dksL_law_14 24 rfl rfl
theorem dksL_law_16 : cL_law.data.toList.drop 608 = dktL_law_16 := dk_seg dksL_law_15 24 rfl rfl
theorem dksL_law_17 : cL_law.data.toList.drop 631 = dktL_law_17 := dk_seg dksL_law_16 23 rfl rfl
theorem dksL_law_18 : cL_law.data.toList.drop 655 = dktL_law_18 := dk_seg dksL_law_17 24 rfl rfl
theorem dksL_law_19 : cL_law.data.toList.drop 679 = dktL_law_19 := dk_seg dksL_law_18 24 rfl rfl
theorem dksL_law_20 : cL_law.data.toList.drop 701 = dktL_law_20 := dk_seg dksL_law_19 22 rfl rfl
theorem dksL_law_21 : cL_law.data.toList.drop 723 = dktL_law_21 := dk_seg dksL_law_20 22 rfl rfl
theorem dksL_law_22 : cL_law.data.toList.drop 746 = dktL_law_22 := dk_seg dksL_law_21 23 rfl rfl
theorem dksL_law_23 : cL_law.data.toList.drop 770 = dktL_law_23 := dk_seg dksL_law_22 24 rfl rfl
theorem dksL_law_24 : cL_law.data.toList.drop 793 = dktL_law_24 := dk_seg dksL_law_23 23 rfl rfl
theorem dksL_law_25 : cL_law.data.toList.drop 817 = dktL_law_25 := dk_seg dksL_law_24 24 rfl rfl
theorem dksL_law_26 : cL_law.data.toList.drop 840 = dktL_law_26 := dk_seg dksL_law_25 23 rfl rfl
theorem dksL_law_27 : cL_law.data.toList.drop 864 = dktL_law_27 := dk_seg dksL_law_26 24 rfl rfl
theorem dksL_law_28 : cL_law.data.toList.drop 888 = dktL_law_28 := dk_seg dksL_law_27 24 rfl rfl
theorem dksL_law_29 : cL_law.data.toList.drop 910 = dktL_law_29 := dk_seg dksL_law_28 22 rfl rfl
theorem dksL_law_30 : cL_law.data.toList.drop 933 = dktL_law_30 := dk_seg dksL_law_29 23 rfl rfl
theorem dksL_law_31 : cL_law.data.toList.drop 957 = dktL_law_31 := dk_seg dksL_law_30 24 rfl rfl
theorem dksL_law_32 : cL_law.data.toList.drop 980 = dktL_law_32 := dk_seg dksL_law_31 23 rfl rfl
theorem dksL_law_33 : cL_law.data.toList.drop 1002 = dktL_law_33 := dk_seg dksL_law_32 22 rfl rfl
theorem dksL_law_34 : cL_law.data.toList.drop 1026 = dktL_law_34 := dk_seg dksL_law_33 24 rfl rfl
theorem dksL_law_35 : cL_law.data.toList.drop 1048 = dktL_law_35 := dk_seg dksL_law_34 22 rfl rfl
theorem dksL_law_36 : cL_law.data.toList.drop 1070 = dktL_law_36 := dk_seg dksL_law_35 22 rfl rfl
theorem dksL_law_37 : cL_law.data.toList.drop 1094 = dktL_law_37 := dk_seg dksL_law_36 24 rfl rfl
theorem dksL_law_38 : cL_law.data.toList.drop 1117 = dktL_law_38 := dk_seg dksL_law_37 23 rfl rfl
theorem dksL_law_39 : cL_law.data.toList.drop 1139 = dktL_law_39 := dk_seg dksL_law_38 22 rfl rfl
theorem dksL_law_40 : cL_law.data.toList.drop 1161 = dktL_law_40 := dk_seg dksL_law_39 22 rfl rfl
theorem dksL_law_41 : cL_law.data.toList.drop 1184 = dktL_law_41 := dk_seg dksL_law_40 23 rfl rfl
theorem dksL_law_42 : cL_law.data.toList.drop 1208 = dktL_law_42 := dk_seg dksL_law_41 24 rfl rfl
theorem dksL_law_43 : cL_law.data.toList.drop 1232 = dktL_law_43 := dk_seg dksL_law_42 24 rfl rfl
theorem dksL_law_44 : cL_law.data.toList.drop 1254 = dktL_law_44 := dk_seg dksL_law_43 22 rfl rfl
theorem dksL_law_45 : cL_law.data.toList.drop 1278 = dktL_law_45 := dk_seg dksL_law_44 24 rfl rfl
theorem dksL_law_46 : cL_law.data.toList.drop 1300 = dktL_law_46 := dk_seg dksL_law_45 22 rfl rfl
theorem dksL_law_47 : cL_law.data.toList.drop 1324 = dktL_law_47 := dk_seg dksL_law_46 24 rfl rfl
theorem dksL_law_48 : cL_law.data.toList.drop 1347 = dktL_law_48 := dk_seg dksL_law_47 23 rfl rfl
theorem dksL_law_49 : cL_law.data.toList.drop 1369 = dktL_law_49 := dk_seg dksL_law_48 22 rfl rfl
theorem dksL_law_50 : cL_law.data.toList.drop 1393 = dktL_law_50 := dk_seg dksL_law_49 24 rfl rfl
theorem dksL_law_51 : cL_law.data.toList.drop 1417 = dktL_law_51 := dk_seg dksL_law_50 24 rfl rfl
theorem dksL_law_52 : cL_law.data.toList.drop 1441 = dktL_law_52 := dk_seg dksL_law_51 24 rfl rfl
theorem dksL_law_53 : cL_law.data.toList.drop 1465 = dktL_law_53 := dk_seg dksL_law_52 24 rfl rfl
theorem dksL_law_54 : cL_law.data.toList.drop 1488 = dktL_law_54 := dk_seg dksL_law_53 23 rfl rfl
theorem dksL_law_55 : cL_law.data.toList.drop 1512 = dktL_law_55 := dk_seg dksL_law_54 24 rfl rfl
theorem dksL_law_56 : cL_law.data.toList.drop 1535 = dktL_law_56 := dk_seg dksL_law_55 23 rfl rfl
theorem dksL_law_57 : cL_law.data.toList.drop 1559 = dktL_law_57 := dk_seg dksL_law_56 24 rfl rfl
theorem dksL_law_58 : cL_law.data.toList.drop 1582 = dktL_law_58 := dk_seg dksL_law_57 23 rfl rfl
theorem dksL_law_59 : cL_law.data.toList.drop 1606 = dktL_law_59 := dk_seg dksL_law_58 24 rfl rfl
theorem dksL_law_60 : cL_law.data.toList.drop 1629 = dktL_law_60 := dk_seg dksL_law_59 23 rfl rfl
theorem dksL_law_61 : cL_law.data.toList.drop 1653 = dktL_law_61 := dk_seg dksL_law_60 24 rfl rfl
theorem dksL_law_62 : cL_law.data.toList.drop 1676 = dktL_law_62 := dk_seg dksL_law_61 23 rfl rfl
theorem dksL_law_63 : cL_law.data.toList.drop 1700 = dktL_law_63 := dk_seg dksL_law_62 24 rfl rfl
theorem dksL_law_64 : cL_law.data.toList.drop 1724 = dktL_law_64 := dk_seg dksL_law_63 24 rfl rfl
theorem dksL_law_65 : cL_law.data.toList.drop 1747 = dktL_law_65 := dk_seg dksL_law_64 23 rfl rfl
theorem dksL_law_66 : cL_law.data.toList.drop 1770 = dktL_law_66 := dk_seg dksL_law_65 23 rfl rfl
theorem dksL_law_67 : cL_law.data.toList.drop 1793 = dktL_law_67 := dk_seg dksL_law_66 23 rfl rfl
theorem dksL_law_68 : cL_law.data.toList.drop 1817 = dktL_law_68 := dk_seg dksL_law_67 24 rfl rfl
theorem dksL_law_69 : cL_law.data.toList.drop 1840 = dktL_law_69 := dk_seg dksL_law_68 23 rfl rfl
theorem dksL_law_70 : cL_law.data.toList.drop 1864 = dktL_law_70 := dk_seg dksL_law_69 24 rfl rfl
theorem dksL_law_71 : cL_law.data.toList.drop 1887 = dktL_law_71 := dk_seg dksL_law_70 23 rfl rfl
theorem dksL_law_72 : cL_law.data.toList.drop 1911 = dktL_law_72 := dk_seg dksL_law_71 24 rfl rfl
theorem dksL_law_73 : cL_law.data.toList.drop 1934 = dktL_law_73 := dk_seg dksL_law_72 23 rfl rfl
theorem dksL_law_74 : cL_law.data.toList.drop 1958 = dktL_law_74 := dk_seg dksL_law_73 24 rfl rfl
theorem dksL_law_75 : cL_law.data.toList.drop 1981 = dktL_law_75 := dk_seg dksL_law_74 23 rfl rfl
theorem dksL_law_76 : cL_law.data.toList.drop 2005 = dktL_law_76 := dk_seg dksL_law_75 24 rfl rfl
theorem dksL_law_77 : cL_law.data.toList.drop 2027 = dktL_law_77 := dk_seg dksL_law_76 22 rfl rfl
theorem dksL_law_78 : cL_law.data.toList.drop 2049 = dktL_law_78 := dk_seg dksL_law_77 22 rfl rfl
theorem dksL_law_79 : cL_law.data.toList.drop 2073 = dktL_law_79 := dk_seg dksL_law_78 24 rfl rfl
theorem dksL_law_80 : cL_law.data.toList.drop 2095 = dktL_law_80 := dk_seg dksL_law_79 22 rfl rfl
theorem dksL_law_81 : cL_law.data.toList.drop 2118 = dktL_law_81 := dk_seg dksL_law_80 23 rfl rfl
theorem dksL_law_82 : cL_law.data.toList.drop 2141 = dktL_law_82 := dk_seg dksL_law_81 23 rfl rfl
theorem dksL_law_83 : cL_law.data.toList.drop 2165 = dktL_law_83 := dk_seg dksL_law_82 24 rfl rfl
theorem dksL_law_84 : cL_law.data.toList.drop 2189 = dktL_law_84 := dk_seg dksL_law_83 24 rfl rfl
theorem dksL_law_85 : cL_law.data.toList.drop 2213 = dktL_law_85 := dk_seg dksL_law_84 24 rfl rfl
theorem dksL_law_86 : cL_law.data.toList.drop 2235 = dktL_law_86 := dk_seg dksL_law_85 22 rfl rfl
theorem dksL_law_87 : cL_law.data.toList.drop 2258 = dktL_law_87 := dk_seg dksL_law_86 23 rfl rfl
theorem dksL_law_88 : cL_law.data.toList.drop 2280 = dktL_law_88 := dk_seg dksL_law_87 22 rfl rfl
theorem dksL_law_89 : cL_law.data.toList.drop 2304 = dktL_law_89 := dk_seg dksL_law_88 24 rfl rfl
theorem dksL_law_90 : cL_law.data.toList.drop 2326 = dktL_law_90 := dk_seg dksL_law_89 22 rfl rfl
theorem dksL_law_91 : cL_law.data.toList.drop 2348 = dktL_law_91 := dk_seg dksL_law_90 22 rfl rfl
theorem dksL_law_92 : cL_law.data.toList.drop 2371 = dktL_law_92 := dk_seg dksL_law_91 23 rfl rfl
theorem dksL_law_93 : cL_law.data.toList.drop 2395 = dktL_law_93 := dk_seg dksL_law_92 24 rfl rfl
theorem dksL_law_94 : cL_law.data.toList.drop 2419 = dktL_law_94 := dk_seg dksL_law_93 24 rfl rfl
theorem dksL_law_95 : cL_law.data.toList.drop 2442 = dktL_law_95 := dk_seg dksL_law_94 23 rfl rfl
theorem dksL_law_96 : cL_law.data.toList.drop 2466 = dktL_law_96 := dk_seg dksL_law_95 24 rfl rfl
theorem dksL_law_97 : cL_law.data.toList.drop 2490 = dktL_law_97 := dk_seg dksL_law_96 24 rfl rfl
theorem dksL_law_98 : cL_law.data.toList.drop 2513 = dktL_law_98 := dk_seg dksL_law_97 23 rfl rfl
theorem dksL_law_99 : cL_law.data.toList.drop 2536 = dktL_law_99 := dk_seg dksL_law_98 23 rfl rfl
theorem dksL_law_100 : cL_law.data.toList.drop 2558 = dktL_law_100 := dk_seg dksL_law_99 22 rfl rfl
theorem dksL_law_101 : cL_law.data.toList.drop 2581 = dktL_law_101 := dk_seg dksL_law_100 23 rfl rfl
theorem dksL_law_102 : cL_law.data.toList.drop 2605 = dktL_law_102 := dk_seg dksL_law_101 24 rfl rfl
theorem dksL_law_103 : cL_law.data.toList.drop 2629 = dktL_law_103 := dk_seg dksL_law_102 24 rfl rfl
theorem dksL_law_104 : cL_law.data.toList.drop 2653 = dktL_law_104 := dk_seg dksL_law_103 24 rfl rfl
theorem dksL_law_105 : cL_law.data.toList.drop 2677 = dktL_law_105 := dk_seg dksL_law_104 24 rfl rfl
theorem dksL_law_106 : cL_law.data.toList.drop 2701 = dktL_law_106 := dk_seg dksL_law_105 24 rfl rfl
theorem dksL_law_107 : cL_law.data.toList.drop 2723 = dktL_law_107 := dk_seg dksL_law_106 22 rfl rfl
theorem dksL_law_108 : cL_law.data.toList.drop 2747 = dktL_law_108 := dk_seg dksL_law_107 24 rfl rfl
theorem dksL_law_109 : cL_law.data.toList.drop 2771 = dktL_law_109 := dk_seg dksL_law_108 24 rfl rfl
theorem dksL_law_110 : cL_law.data.toList.drop 2793 = dktL_law_110 := dk_seg dksL_law_109 22 rfl rfl
theorem dksL_law_111 : cL_law.data.toList.drop 2817 = dktL_law_111 := dk_seg dksL_law_110 24 rfl rfl
theorem dksL_law_112 : cL_law.data.toList.drop 2839 = dktL_law_112 := dk_seg dksL_law_111 22 rfl rfl
theorem dksL_law_113 : cL_law.data.toList.drop 2863 = dktL_law_113 := dk_seg dksL_law_112 24 rfl rfl
theorem dksL_law_114 : cL_law.data.toList.drop 2887 = dktL_law_114 := dk_seg dksL_law_113 24 rfl rfl
theorem dksL_law_115 : cL_law.data.toList.drop 2911 = dktL_law_115 := dk_seg dksL_law_114 24 rfl rfl
theorem dksL_law_116 : cL_law.data.toList.drop 2934 = dktL_law_116 := dk_seg dksL_law_115 23 rfl rfl
theorem dksL_law_117 : cL_law.data.toList.drop 2957 = dktL_law_117 := dk_seg dksL_law_116 23 rfl rfl
theorem dL_law_0 : decode cL_law 0 = .ok (.new 8, 3) := dk_187 0 8 (dk_at dksL_law_0 0 rfl rfl)
theorem dL_law_3 : decode cL_law 3 = .ok (.dup, 1) := dk_89 (dk_at dksL_law_0 3 rfl rfl)
theorem dL_law_4 : decode cL_law 4 = .ok (.invokespecial 130, 3) := dk_183 0 130 (dk_at dksL_law_0 4 rfl rfl)
theorem dL_law_7 : decode cL_law 7 = .ok (.astore_n 1, 1) := dk_76 (dk_at dksL_law_0 7 rfl rfl)
theorem dL_law_8 : decode cL_law 8 = .ok (.new 131, 3) := dk_187 0 131 (dk_at dksL_law_0 8 rfl rfl)
theorem dL_law_11 : decode cL_law 11 = .ok (.dup, 1) := dk_89 (dk_at dksL_law_0 11 rfl rfl)
theorem dL_law_12 : decode cL_law 12 = .ok (.invokespecial 133, 3) := dk_183 0 133 (dk_at dksL_law_0 12 rfl rfl)
theorem dL_law_15 : decode cL_law 15 = .ok (.astore_n 2, 1) := dk_77 (dk_at dksL_law_0 15 rfl rfl)
theorem dL_law_16 : decode cL_law 16 = .ok (.iconst 1, 1) := dk_4 (dk_at dksL_law_0 16 rfl rfl)
theorem dL_law_17 : decode cL_law 17 = .ok (.newarray .long, 2) := dk_188_11 (dk_at dksL_law_0 17 rfl rfl)
theorem dL_law_19 : decode cL_law 19 = .ok (.astore_n 3, 1) := dk_78 (dk_at dksL_law_0 19 rfl rfl)
theorem dL_law_20 : decode cL_law 20 = .ok (.iconst 0, 1) := dk_3 (dk_at dksL_law_0 20 rfl rfl)
theorem dL_law_21 : decode cL_law 21 = .ok (.istore 4, 2) := dk_54 4 (dk_at dksL_law_0 21 rfl rfl)
theorem dL_law_23 : decode cL_law 23 = .ok (.iload 4, 2) := dk_21 4 (dk_at dksL_law_1 0 rfl rfl)
theorem dL_law_25 : decode cL_law 25 = .ok (.aload_n 0, 1) := dk_42 (dk_at dksL_law_1 2 rfl rfl)
theorem dL_law_26 : decode cL_law 26 = .ok (.arraylength, 1) := dk_190 (dk_at dksL_law_1 3 rfl rfl)
theorem dL_law_27 : decode cL_law 27 = .ok (.bipush 6, 2) := dk_16 6 (dk_at dksL_law_1 4 rfl rfl)
theorem dL_law_29 : decode cL_law 29 = .ok (.isub, 1) := dk_100 (dk_at dksL_law_1 6 rfl rfl)
theorem dL_law_30 : decode cL_law 30 = .ok (.if_icmp .gt 2933, 3) := dk_163 11 117 (dk_at dksL_law_1 7 rfl rfl)
theorem dL_law_33 : decode cL_law 33 = .ok (.aload_n 0, 1) := dk_42 (dk_at dksL_law_1 10 rfl rfl)
theorem dL_law_34 : decode cL_law 34 = .ok (.iload 4, 2) := dk_21 4 (dk_at dksL_law_1 11 rfl rfl)
theorem dL_law_36 : decode cL_law 36 = .ok (.iaload, 1) := dk_46 (dk_at dksL_law_1 13 rfl rfl)
theorem dL_law_37 : decode cL_law 37 = .ok (.bipush 63, 2) := dk_16 63 (dk_at dksL_law_1 14 rfl rfl)
theorem dL_law_39 : decode cL_law 39 = .ok (.iand, 1) := dk_126 (dk_at dksL_law_1 16 rfl rfl)
theorem dL_law_40 : decode cL_law 40 = .ok (.tableswitch 2917 0 60 #[260, 333, 389, 402, 458, 538, 618, 686, 742, 798, 873, 965, 1033, 1124, 1180, 1193, 1206, 1219, 1263, 1276, 1289, 1302, 1315, 1328, 1341, 1354, 1410, 1466, 1522, 1578, 1634, 1702, 1715, 1771, 1827, 1883, 1939, 1995, 2063, 2119, 2187, 2243, 2311, 2367, 2435, 2491, 2504, 2517, 2530, 2593, 2649, 2662, 2675, 2688, 2756, 2769, 2782, 2823, 2866, 2879, 2892], 260) := by decide +kernel
theorem dL_law_300 : decode cL_law 300 = .ok (.aload_n 1, 1) := dk_43 (dk_at dksL_law_3 0 rfl rfl)
theorem dL_law_301 : decode cL_law 301 = .ok (.aload_n 0, 1) := dk_42 (dk_at dksL_law_3 1 rfl rfl)
theorem dL_law_302 : decode cL_law 302 = .ok (.iload 4, 2) := dk_21 4 (dk_at dksL_law_3 2 rfl rfl)
theorem dL_law_304 : decode cL_law 304 = .ok (.iconst 1, 1) := dk_4 (dk_at dksL_law_3 4 rfl rfl)
theorem dL_law_305 : decode cL_law 305 = .ok (.iadd, 1) := dk_96 (dk_at dksL_law_3 5 rfl rfl)
theorem dL_law_306 : decode cL_law 306 = .ok (.iaload, 1) := dk_46 (dk_at dksL_law_3 6 rfl rfl)
theorem dL_law_307 : decode cL_law 307 = .ok (.aload_n 0, 1) := dk_42 (dk_at dksL_law_3 7 rfl rfl)
theorem dL_law_308 : decode cL_law 308 = .ok (.iload 4, 2) := dk_21 4 (dk_at dksL_law_3 8 rfl rfl)
theorem dL_law_310 : decode cL_law 310 = .ok (.iconst 2, 1) := dk_5 (dk_at dksL_law_3 10 rfl rfl)
theorem dL_law_311 : decode cL_law 311 = .ok (.iadd, 1) := dk_96 (dk_at dksL_law_3 11 rfl rfl)
theorem dL_law_312 : decode cL_law 312 = .ok (.iaload, 1) := dk_46 (dk_at dksL_law_3 12 rfl rfl)
theorem dL_law_313 : decode cL_law 313 = .ok (.aload_n 0, 1) := dk_42 (dk_at dksL_law_3 13 rfl rfl)
theorem dL_law_314 : decode cL_law 314 = .ok (.iload 4, 2) := dk_21 4 (dk_at dksL_law_3 14 rfl rfl)
theorem dL_law_316 : decode cL_law 316 = .ok (.iconst 3, 1) := dk_6 (dk_at dksL_law_3 16 rfl rfl)
theorem dL_law_317 : decode cL_law 317 = .ok (.iadd, 1) := dk_96 (dk_at dksL_law_3 17 rfl rfl)
theorem dL_law_318 : decode cL_law 318 = .ok (.iaload, 1) := dk_46 (dk_at dksL_law_3 18 rfl rfl)
theorem dL_law_319 : decode cL_law 319 = .ok (.aload_n 0, 1) := dk_42 (dk_at dksL_law_3 19 rfl rfl)
theorem dL_law_320 : decode cL_law 320 = .ok (.iload 4, 2) := dk_21 4 (dk_at dksL_law_3 20 rfl rfl)
theorem dL_law_322 : decode cL_law 322 = .ok (.iconst 4, 1) := dk_7 (dk_at dksL_law_3 22 rfl rfl)
theorem dL_law_323 : decode cL_law 323 = .ok (.iadd, 1) := dk_96 (dk_at dksL_law_3 23 rfl rfl)
theorem dL_law_324 : decode cL_law 324 = .ok (.iaload, 1) := dk_46 (dk_at dksL_law_4 0 rfl rfl)
theorem dL_law_325 : decode cL_law 325 = .ok (.aload_n 0, 1) := dk_42 (dk_at dksL_law_4 1 rfl rfl)
theorem dL_law_326 : decode cL_law 326 = .ok (.iload 4, 2) := dk_21 4 (dk_at dksL_law_4 2 rfl rfl)
theorem dL_law_328 : decode cL_law 328 = .ok (.iconst 5, 1) := dk_8 (dk_at dksL_law_4 4 rfl rfl)
theorem dL_law_329 : decode cL_law 329 = .ok (.iadd, 1) := dk_96 (dk_at dksL_law_4 5 rfl rfl)
theorem dL_law_330 : decode cL_law 330 = .ok (.iaload, 1) := dk_46 (dk_at dksL_law_4 6 rfl rfl)
theorem dL_law_331 : decode cL_law 331 = .ok (.invokevirtual 134, 3) := dk_182 0 134 (dk_at dksL_law_4 7 rfl rfl)
theorem dL_law_334 : decode cL_law 334 = .ok (.aload_n 2, 1) := dk_44 (dk_at dksL_law_4 10 rfl rfl)
theorem dL_law_335 : decode cL_law 335 = .ok (.aload_n 0, 1) := dk_42 (dk_at dksL_law_4 11 rfl rfl)
theorem dL_law_336 : decode cL_law 336 = .ok (.iload 4, 2) := dk_21 4 (dk_at dksL_law_4 12 rfl rfl)
theorem dL_law_338 : decode cL_law 338 = .ok (.iconst 1, 1) := dk_4 (dk_at dksL_law_4 14 rfl rfl)
theorem dL_law_339 : decode cL_law 339 = .ok (.iadd, 1) := dk_96 (dk_at dksL_law_4 15 rfl rfl)
theorem dL_law_340 : decode cL_law 340 = .ok (.iaload, 1) := dk_46 (dk_at dksL_law_4 16 rfl rfl)
theorem dL_law_341 : decode cL_law 341 = .ok (.aload_n 0, 1) := dk_42 (dk_at dksL_law_4 17 rfl rfl)
theorem dL_law_342 : decode cL_law 342 = .ok (.iload 4, 2) := dk_21 4 (dk_at dksL_law_4 18 rfl rfl)
theorem dL_law_344 : decode cL_law 344 = .ok (.iconst 2, 1) := dk_5 (dk_at dksL_law_4 20 rfl rfl)
theorem dL_law_345 : decode cL_law 345 = .ok (.iadd, 1) := dk_96 (dk_at dksL_law_4 21 rfl rfl)
theorem dL_law_346 : decode cL_law 346 = .ok (.iaload, 1) := dk_46 (dk_at dksL_law_4 22 rfl rfl)
theorem dL_law_347 : decode cL_law 347 = .ok (.aload_n 0, 1) := dk_42 (dk_at dksL_law_4 23 rfl rfl)
theorem dL_law_348 : decode cL_law 348 = .ok (.iload 4, 2) := dk_21 4 (dk_at dksL_law_5 0 rfl rfl)
theorem dL_law_350 : decode cL_law 350 = .ok (.iconst 3, 1) := dk_6 (dk_at dksL_law_5 2 rfl rfl)
theorem dL_law_351 : decode cL_law 351 = .ok (.iadd, 1) := dk_96 (dk_at dksL_law_5 3 rfl rfl)
theorem dL_law_352 : decode cL_law 352 = .ok (.iaload, 1) := dk_46 (dk_at dksL_law_5 4 rfl rfl)
theorem dL_law_353 : decode cL_law 353 = .ok (.aload_n 0, 1) := dk_42 (dk_at dksL_law_5 5 rfl rfl)
theorem dL_law_354 : decode cL_law 354 = .ok (.iload 4, 2) := dk_21 4 (dk_at dksL_law_5 6 rfl rfl)
theorem dL_law_356 : decode cL_law 356 = .ok (.iconst 4, 1) := dk_7 (dk_at dksL_law_5 8 rfl rfl)
theorem dL_law_357 : decode cL_law 357 = .ok (.iadd, 1) := dk_96 (dk_at dksL_law_5 9 rfl rfl)
theorem dL_law_358 : decode cL_law 358 = .ok (.iaload, 1) := dk_46 (dk_at dksL_law_5 10 rfl rfl)
theorem dL_law_359 : decode cL_law 359 = .ok (.aload_n 0, 1) := dk_42 (dk_at dksL_law_5 11 rfl rfl)
theorem dL_law_360 : decode cL_law 360 = .ok (.iload 4, 2) := dk_21 4 (dk_at dksL_law_5 12 rfl rfl)
theorem dL_law_362 : decode cL_law 362 = .ok (.iconst 5, 1) := dk_8 (dk_at dksL_law_5 14 rfl rfl)
theorem dL_law_363 : decode cL_law 363 = .ok (.iadd, 1) := dk_96 (dk_at dksL_law_5 15 rfl rfl)
theorem dL_law_364 : decode cL_law 364 = .ok (.iaload, 1) := dk_46 (dk_at dksL_law_5 16 rfl rfl)
theorem dL_law_365 : decode cL_law 365 = .ok (.invokevirtual 138, 3) := dk_182 0 138 (dk_at dksL_law_5 17 rfl rfl)
theorem dL_law_368 : decode cL_law 368 = .ok (.if_icmp .eq 2589, 3) := dk_159 10 29 (dk_at dksL_law_5 20 rfl rfl)
theorem dL_law_371 : decode cL_law 371 = .ok (.iconst 0, 1) := dk_3 (dk_at dksL_law_5 23 rfl rfl)
theorem dL_law_372 : decode cL_law 372 = .ok (.ireturn, 1) := dk_172 (dk_at dksL_law_6 0 rfl rfl)
theorem dL_law_373 : decode cL_law 373 = .ok (.aload_n 1, 1) := dk_43 (dk_at dksL_law_6 1 rfl rfl)
theorem dL_law_374 : decode cL_law 374 = .ok (.aload_n 0, 1) := dk_42 (dk_at dksL_law_6 2 rfl rfl)
theorem dL_law_375 : decode cL_law 375 = .ok (.iload 4, 2) := dk_21 4 (dk_at dksL_law_6 3 rfl rfl)
theorem dL_law_377 : decode cL_law 377 = .ok (.iconst 1, 1) := dk_4 (dk_at dksL_law_6 5 rfl rfl)
theorem dL_law_378 : decode cL_law 378 = .ok (.iadd, 1) := dk_96 (dk_at dksL_law_6 6 rfl rfl)
theorem dL_law_379 : decode cL_law 379 = .ok (.iaload, 1) := dk_46 (dk_at dksL_law_6 7 rfl rfl)
theorem dL_law_380 : decode cL_law 380 = .ok (.aload_n 3, 1) := dk_45 (dk_at dksL_law_6 8 rfl rfl)
theorem dL_law_381 : decode cL_law 381 = .ok (.invokestatic 139, 3) := dk_184 0 139 (dk_at dksL_law_6 9 rfl rfl)
theorem dL_law_384 : decode cL_law 384 = .ok (.istore 5, 2) := dk_54 5 (dk_at dksL_law_6 12 rfl rfl)
theorem dL_law_386 : decode cL_law 386 = .ok (.aload_n 2, 1) := dk_44 (dk_at dksL_law_6 14 rfl rfl)
theorem dL_law_387 : decode cL_law 387 = .ok (.aload_n 0, 1) := dk_42 (dk_at dksL_law_6 15 rfl rfl)
theorem dL_law_388 : decode cL_law 388 = .ok (.iload 4, 2) := dk_21 4 (dk_at dksL_law_6 16 rfl rfl)
theorem dL_law_390 : decode cL_law 390 = .ok (.iconst 1, 1) := dk_4 (dk_at dksL_law_6 18 rfl rfl)
theorem dL_law_391 : decode cL_law 391 = .ok (.iadd, 1) := dk_96 (dk_at dksL_law_6 19 rfl rfl)
theorem dL_law_392 : decode cL_law 392 = .ok (.iaload, 1) := dk_46 (dk_at dksL_law_6 20 rfl rfl)
theorem dL_law_393 : decode cL_law 393 = .ok (.invokevirtual 144, 3) := dk_182 0 144 (dk_at dksL_law_6 21 rfl rfl)
theorem dL_law_396 : decode cL_law 396 = .ok (.istore 6, 2) := dk_54 6 (dk_at dksL_law_7 0 rfl rfl)
theorem dL_law_398 : decode cL_law 398 = .ok (.aload_n 2, 1) := dk_44 (dk_at dksL_law_7 2 rfl rfl)
theorem dL_law_399 : decode cL_law 399 = .ok (.invokevirtual 145, 3) := dk_182 0 145 (dk_at dksL_law_7 3 rfl rfl)
theorem dL_law_402 : decode cL_law 402 = .ok (.iload 5, 2) := dk_21 5 (dk_at dksL_law_7 6 rfl rfl)
theorem dL_law_404 : decode cL_law 404 = .ok (.if_icmp .eq 5, 3) := dk_159 0 5 (dk_at dksL_law_7 8 rfl rfl)
theorem dL_law_407 : decode cL_law 407 = .ok (.iconst 0, 1) := dk_3 (dk_at dksL_law_7 11 rfl rfl)
theorem dL_law_408 : decode cL_law 408 = .ok (.ireturn, 1) := dk_172 (dk_at dksL_law_7 12 rfl rfl)
theorem dL_law_409 : decode cL_law 409 = .ok (.iload 5, 2) := dk_21 5 (dk_at dksL_law_7 13 rfl rfl)
theorem dL_law_411 : decode cL_law 411 = .ok (.ifCond .ne 15, 3) := dk_154 0 15 (dk_at dksL_law_7 15 rfl rfl)
theorem dL_law_414 : decode cL_law 414 = .ok (.aload_n 3, 1) := dk_45 (dk_at dksL_law_7 18 rfl rfl)
theorem dL_law_415 : decode cL_law 415 = .ok (.iconst 0, 1) := dk_3 (dk_at dksL_law_7 19 rfl rfl)
theorem dL_law_416 : decode cL_law 416 = .ok (.laload, 1) := dk_47 (dk_at dksL_law_7 20 rfl rfl)
theorem dL_law_417 : decode cL_law 417 = .ok (.iload 6, 2) := dk_21 6 (dk_at dksL_law_7 21 rfl rfl)
theorem dL_law_419 : decode cL_law 419 = .ok (.i2l, 1) := dk_133 (dk_at dksL_law_7 23 rfl rfl)
theorem dL_law_420 : decode cL_law 420 = .ok (.lcmp, 1) := dk_148 (dk_at dksL_law_8 0 rfl rfl)
theorem dL_law_421 : decode cL_law 421 = .ok (.ifCond .eq 5, 3) := dk_153 0 5 (dk_at dksL_law_8 1 rfl rfl)
theorem dL_law_424 : decode cL_law 424 = .ok (.iconst 0, 1) := dk_3 (dk_at dksL_law_8 4 rfl rfl)
theorem dL_law_425 : decode cL_law 425 = .ok (.ireturn, 1) := dk_172 (dk_at dksL_law_8 5 rfl rfl)
theorem dL_law_426 : decode cL_law 426 = .ok (.goto 2531, 3) := dk_167 9 227 (dk_at dksL_law_8 6 rfl rfl)
theorem dL_law_429 : decode cL_law 429 = .ok (.aload_n 1, 1) := dk_43 (dk_at dksL_law_8 9 rfl rfl)
theorem dL_law_430 : decode cL_law 430 = .ok (.invokevirtual 148, 3) := dk_182 0 148 (dk_at dksL_law_8 10 rfl rfl)
theorem dL_law_433 : decode cL_law 433 = .ok (.aload_n 2, 1) := dk_44 (dk_at dksL_law_8 13 rfl rfl)
theorem dL_law_434 : decode cL_law 434 = .ok (.invokevirtual 151, 3) := dk_182 0 151 (dk_at dksL_law_8 14 rfl rfl)
theorem dL_law_437 : decode cL_law 437 = .ok (.if_icmp .eq 2520, 3) := dk_159 9 216 (dk_at dksL_law_8 17 rfl rfl)
theorem dL_law_440 : decode cL_law 440 = .ok (.iconst 0, 1) := dk_3 (dk_at dksL_law_8 20 rfl rfl)
theorem dL_law_441 : decode cL_law 441 = .ok (.ireturn, 1) := dk_172 (dk_at dksL_law_8 21 rfl rfl)
theorem dL_law_442 : decode cL_law 442 = .ok (.aload_n 1, 1) := dk_43 (dk_at dksL_law_8 22 rfl rfl)
theorem dL_law_443 : decode cL_law 443 = .ok (.aload_n 0, 1) := dk_42 (dk_at dksL_law_8 23 rfl rfl)
theorem dL_law_444 : decode cL_law 444 = .ok (.iload 4, 2) := dk_21 4 (dk_at dksL_law_9 0 rfl rfl)
theorem dL_law_446 : decode cL_law 446 = .ok (.iconst 1, 1) := dk_4 (dk_at dksL_law_9 2 rfl rfl)
theorem dL_law_447 : decode cL_law 447 = .ok (.iadd, 1) := dk_96 (dk_at dksL_law_9 3 rfl rfl)
theorem dL_law_448 : decode cL_law 448 = .ok (.iaload, 1) := dk_46 (dk_at dksL_law_9 4 rfl rfl)
theorem dL_law_449 : decode cL_law 449 = .ok (.aload_n 3, 1) := dk_45 (dk_at dksL_law_9 5 rfl rfl)
theorem dL_law_450 : decode cL_law 450 = .ok (.invokestatic 152, 3) := dk_184 0 152 (dk_at dksL_law_9 6 rfl rfl)
theorem dL_law_453 : decode cL_law 453 = .ok (.istore 5, 2) := dk_54 5 (dk_at dksL_law_9 9 rfl rfl)
theorem dL_law_455 : decode cL_law 455 = .ok (.aload_n 2, 1) := dk_44 (dk_at dksL_law_9 11 rfl rfl)
theorem dL_law_456 : decode cL_law 456 = .ok (.aload_n 0, 1) := dk_42 (dk_at dksL_law_9 12 rfl rfl)
theorem dL_law_457 : decode cL_law 457 = .ok (.iload 4, 2) := dk_21 4 (dk_at dksL_law_9 13 rfl rfl)
theorem dL_law_459 : decode cL_law 459 = .ok (.iconst 1, 1) := dk_4 (dk_at dksL_law_9 15 rfl rfl)
theorem dL_law_460 : decode cL_law 460 = .ok (.iadd, 1) := dk_96 (dk_at dksL_law_9 16 rfl rfl)
theorem dL_law_461 : decode cL_law 461 = .ok (.iaload, 1) := dk_46 (dk_at dksL_law_9 17 rfl rfl)
theorem dL_law_462 : decode cL_law 462 = .ok (.invokevirtual 154, 3) := dk_182 0 154 (dk_at dksL_law_9 18 rfl rfl)
theorem dL_law_465 : decode cL_law 465 = .ok (.istore 6, 2) := dk_54 6 (dk_at dksL_law_9 21 rfl rfl)
theorem dL_law_467 : decode cL_law 467 = .ok (.aload_n 2, 1) := dk_44 (dk_at dksL_law_9 23 rfl rfl)
theorem dL_law_468 : decode cL_law 468 = .ok (.invokevirtual 145, 3) := dk_182 0 145 (dk_at dksL_law_10 0 rfl rfl)
theorem dL_law_471 : decode cL_law 471 = .ok (.iload 5, 2) := dk_21 5 (dk_at dksL_law_10 3 rfl rfl)
theorem dL_law_473 : decode cL_law 473 = .ok (.if_icmp .eq 5, 3) := dk_159 0 5 (dk_at dksL_law_10 5 rfl rfl)
theorem dL_law_476 : decode cL_law 476 = .ok (.iconst 0, 1) := dk_3 (dk_at dksL_law_10 8 rfl rfl)
theorem dL_law_477 : decode cL_law 477 = .ok (.ireturn, 1) := dk_172 (dk_at dksL_law_10 9 rfl rfl)
theorem dL_law_478 : decode cL_law 478 = .ok (.iload 5, 2) := dk_21 5 (dk_at dksL_law_10 10 rfl rfl)
theorem dL_law_480 : decode cL_law 480 = .ok (.ifCond .ne 15, 3) := dk_154 0 15 (dk_at dksL_law_10 12 rfl rfl)
theorem dL_law_483 : decode cL_law 483 = .ok (.aload_n 3, 1) := dk_45 (dk_at dksL_law_10 15 rfl rfl)
theorem dL_law_484 : decode cL_law 484 = .ok (.iconst 0, 1) := dk_3 (dk_at dksL_law_10 16 rfl rfl)
theorem dL_law_485 : decode cL_law 485 = .ok (.laload, 1) := dk_47 (dk_at dksL_law_10 17 rfl rfl)
theorem dL_law_486 : decode cL_law 486 = .ok (.iload 6, 2) := dk_21 6 (dk_at dksL_law_10 18 rfl rfl)
theorem dL_law_488 : decode cL_law 488 = .ok (.i2l, 1) := dk_133 (dk_at dksL_law_10 20 rfl rfl)
theorem dL_law_489 : decode cL_law 489 = .ok (.lcmp, 1) := dk_148 (dk_at dksL_law_10 21 rfl rfl)
theorem dL_law_490 : decode cL_law 490 = .ok (.ifCond .eq 5, 3) := dk_153 0 5 (dk_at dksL_law_11 0 rfl rfl)
theorem dL_law_493 : decode cL_law 493 = .ok (.iconst 0, 1) := dk_3 (dk_at dksL_law_11 3 rfl rfl)
theorem dL_law_494 : decode cL_law 494 = .ok (.ireturn, 1) := dk_172 (dk_at dksL_law_11 4 rfl rfl)
theorem dL_law_495 : decode cL_law 495 = .ok (.goto 2462, 3) := dk_167 9 158 (dk_at dksL_law_11 5 rfl rfl)
theorem dL_law_498 : decode cL_law 498 = .ok (.aload_n 1, 1) := dk_43 (dk_at dksL_law_11 8 rfl rfl)
theorem dL_law_499 : decode cL_law 499 = .ok (.aload_n 0, 1) := dk_42 (dk_at dksL_law_11 9 rfl rfl)
theorem dL_law_500 : decode cL_law 500 = .ok (.iload 4, 2) := dk_21 4 (dk_at dksL_law_11 10 rfl rfl)
theorem dL_law_502 : decode cL_law 502 = .ok (.iconst 1, 1) := dk_4 (dk_at dksL_law_11 12 rfl rfl)
theorem dL_law_503 : decode cL_law 503 = .ok (.iadd, 1) := dk_96 (dk_at dksL_law_11 13 rfl rfl)
theorem dL_law_504 : decode cL_law 504 = .ok (.iaload, 1) := dk_46 (dk_at dksL_law_11 14 rfl rfl)
theorem dL_law_505 : decode cL_law 505 = .ok (.aload_n 0, 1) := dk_42 (dk_at dksL_law_11 15 rfl rfl)
theorem dL_law_506 : decode cL_law 506 = .ok (.iload 4, 2) := dk_21 4 (dk_at dksL_law_11 16 rfl rfl)
theorem dL_law_508 : decode cL_law 508 = .ok (.iconst 2, 1) := dk_5 (dk_at dksL_law_11 18 rfl rfl)
theorem dL_law_509 : decode cL_law 509 = .ok (.iadd, 1) := dk_96 (dk_at dksL_law_11 19 rfl rfl)
theorem dL_law_510 : decode cL_law 510 = .ok (.iaload, 1) := dk_46 (dk_at dksL_law_11 20 rfl rfl)
theorem dL_law_511 : decode cL_law 511 = .ok (.aload_n 0, 1) := dk_42 (dk_at dksL_law_11 21 rfl rfl)
theorem dL_law_512 : decode cL_law 512 = .ok (.iload 4, 2) := dk_21 4 (dk_at dksL_law_11 22 rfl rfl)
theorem dL_law_514 : decode cL_law 514 = .ok (.iconst 3, 1) := dk_6 (dk_at dksL_law_12 0 rfl rfl)
theorem dL_law_515 : decode cL_law 515 = .ok (.iadd, 1) := dk_96 (dk_at dksL_law_12 1 rfl rfl)
theorem dL_law_516 : decode cL_law 516 = .ok (.iaload, 1) := dk_46 (dk_at dksL_law_12 2 rfl rfl)
theorem dL_law_517 : decode cL_law 517 = .ok (.aload_n 3, 1) := dk_45 (dk_at dksL_law_12 3 rfl rfl)
theorem dL_law_518 : decode cL_law 518 = .ok (.invokestatic 155, 3) := dk_184 0 155 (dk_at dksL_law_12 4 rfl rfl)
theorem dL_law_521 : decode cL_law 521 = .ok (.istore 5, 2) := dk_54 5 (dk_at dksL_law_12 7 rfl rfl)
theorem dL_law_523 : decode cL_law 523 = .ok (.aload_n 2, 1) := dk_44 (dk_at dksL_law_12 9 rfl rfl)
theorem dL_law_524 : decode cL_law 524 = .ok (.aload_n 0, 1) := dk_42 (dk_at dksL_law_12 10 rfl rfl)
theorem dL_law_525 : decode cL_law 525 = .ok (.iload 4, 2) := dk_21 4 (dk_at dksL_law_12 11 rfl rfl)
theorem dL_law_527 : decode cL_law 527 = .ok (.iconst 1, 1) := dk_4 (dk_at dksL_law_12 13 rfl rfl)
theorem dL_law_528 : decode cL_law 528 = .ok (.iadd, 1) := dk_96 (dk_at dksL_law_12 14 rfl rfl)
theorem dL_law_529 : decode cL_law 529 = .ok (.iaload, 1) := dk_46 (dk_at dksL_law_12 15 rfl rfl)
theorem dL_law_530 : decode cL_law 530 = .ok (.aload_n 0, 1) := dk_42 (dk_at dksL_law_12 16 rfl rfl)
theorem dL_law_531 : decode cL_law 531 = .ok (.iload 4, 2) := dk_21 4 (dk_at dksL_law_12 17 rfl rfl)
theorem dL_law_533 : decode cL_law 533 = .ok (.iconst 2, 1) := dk_5 (dk_at dksL_law_12 19 rfl rfl)
theorem dL_law_534 : decode cL_law 534 = .ok (.iadd, 1) := dk_96 (dk_at dksL_law_12 20 rfl rfl)
theorem dL_law_535 : decode cL_law 535 = .ok (.iaload, 1) := dk_46 (dk_at dksL_law_12 21 rfl rfl)
theorem dL_law_536 : decode cL_law 536 = .ok (.aload_n 0, 1) := dk_42 (dk_at dksL_law_12 22 rfl rfl)
theorem dL_law_537 : decode cL_law 537 = .ok (.iload 4, 2) := dk_21 4 (dk_at dksL_law_13 0 rfl rfl)
theorem dL_law_539 : decode cL_law 539 = .ok (.iconst 3, 1) := dk_6 (dk_at dksL_law_13 2 rfl rfl)
theorem dL_law_540 : decode cL_law 540 = .ok (.iadd, 1) := dk_96 (dk_at dksL_law_13 3 rfl rfl)
theorem dL_law_541 : decode cL_law 541 = .ok (.iaload, 1) := dk_46 (dk_at dksL_law_13 4 rfl rfl)
theorem dL_law_542 : decode cL_law 542 = .ok (.invokevirtual 158, 3) := dk_182 0 158 (dk_at dksL_law_13 5 rfl rfl)
theorem dL_law_545 : decode cL_law 545 = .ok (.istore 6, 2) := dk_54 6 (dk_at dksL_law_13 8 rfl rfl)
theorem dL_law_547 : decode cL_law 547 = .ok (.aload_n 2, 1) := dk_44 (dk_at dksL_law_13 10 rfl rfl)
theorem dL_law_548 : decode cL_law 548 = .ok (.invokevirtual 145, 3) := dk_182 0 145 (dk_at dksL_law_13 11 rfl rfl)
theorem dL_law_551 : decode cL_law 551 = .ok (.iload 5, 2) := dk_21 5 (dk_at dksL_law_13 14 rfl rfl)
theorem dL_law_553 : decode cL_law 553 = .ok (.if_icmp .eq 5, 3) := dk_159 0 5 (dk_at dksL_law_13 16 rfl rfl)
theorem dL_law_556 : decode cL_law 556 = .ok (.iconst 0, 1) := dk_3 (dk_at dksL_law_13 19 rfl rfl)
theorem dL_law_557 : decode cL_law 557 = .ok (.ireturn, 1) := dk_172 (dk_at dksL_law_13 20 rfl rfl)
theorem dL_law_558 : decode cL_law 558 = .ok (.iload 5, 2) := dk_21 5 (dk_at dksL_law_13 21 rfl rfl)
theorem dL_law_560 : decode cL_law 560 = .ok (.ifCond .ne 15, 3) := dk_154 0 15 (dk_at dksL_law_14 0 rfl rfl)
theorem dL_law_563 : decode cL_law 563 = .ok (.aload_n 3, 1) := dk_45 (dk_at dksL_law_14 3 rfl rfl)
theorem dL_law_564 : decode cL_law 564 = .ok (.iconst 0, 1) := dk_3 (dk_at dksL_law_14 4 rfl rfl)
theorem dL_law_565 : decode cL_law 565 = .ok (.laload, 1) := dk_47 (dk_at dksL_law_14 5 rfl rfl)
theorem dL_law_566 : decode cL_law 566 = .ok (.iload 6, 2) := dk_21 6 (dk_at dksL_law_14 6 rfl rfl)
theorem dL_law_568 : decode cL_law 568 = .ok (.i2l, 1) := dk_133 (dk_at dksL_law_14 8 rfl rfl)
theorem dL_law_569 : decode cL_law 569 = .ok (.lcmp, 1) := dk_148 (dk_at dksL_law_14 9 rfl rfl)
theorem dL_law_570 : decode cL_law 570 = .ok (.ifCond .eq 5, 3) := dk_153 0 5 (dk_at dksL_law_14 10 rfl rfl)
theorem dL_law_573 : decode cL_law 573 = .ok (.iconst 0, 1) := dk_3 (dk_at dksL_law_14 13 rfl rfl)
theorem dL_law_574 : decode cL_law 574 = .ok (.ireturn, 1) := dk_172 (dk_at dksL_law_14 14 rfl rfl)
theorem dL_law_575 : decode cL_law 575 = .ok (.goto 2382, 3) := dk_167 9 78 (dk_at dksL_law_14 15 rfl rfl)
theorem dL_law_578 : decode cL_law 578 = .ok (.aload_n 1, 1) := dk_43 (dk_at dksL_law_14 18 rfl rfl)
theorem dL_law_579 : decode cL_law 579 = .ok (.aload_n 0, 1) := dk_42 (dk_at dksL_law_14 19 rfl rfl)
theorem dL_law_580 : decode cL_law 580 = .ok (.iload 4, 2) := dk_21 4 (dk_at dksL_law_14 20 rfl rfl)
theorem dL_law_582 : decode cL_law 582 = .ok (.iconst 1, 1) := dk_4 (dk_at dksL_law_14 22 rfl rfl)
theorem dL_law_583 : decode cL_law 583 = .ok (.iadd, 1) := dk_96 (dk_at dksL_law_14 23 rfl rfl)
theorem dL_law_584 : decode cL_law 584 = .ok (.iaload, 1) := dk_46 (dk_at dksL_law_15 0 rfl rfl)
theorem dL_law_585 : decode cL_law 585 = .ok (.aload_n 0, 1) := dk_42 (dk_at dksL_law_15 1 rfl rfl)
theorem dL_law_586 : decode cL_law 586 = .ok (.iload 4, 2) := dk_21 4 (dk_at dksL_law_15 2 rfl rfl)
theorem dL_law_588 : decode cL_law 588 = .ok (.iconst 2, 1) := dk_5 (dk_at dksL_law_15 4 rfl rfl)
theorem dL_law_589 : decode cL_law 589 = .ok (.iadd, 1) := dk_96 (dk_at dksL_law_15 5 rfl rfl)
theorem dL_law_590 : decode cL_law 590 = .ok (.iaload, 1) := dk_46 (dk_at dksL_law_15 6 rfl rfl)
theorem dL_law_591 : decode cL_law 591 = .ok (.aload_n 0, 1) := dk_42 (dk_at dksL_law_15 7 rfl rfl)
theorem dL_law_592 : decode cL_law 592 = .ok (.iload 4, 2) := dk_21 4 (dk_at dksL_law_15 8 rfl rfl)
theorem dL_law_594 : decode cL_law 594 = .ok (.iconst 3, 1) := dk_6 (dk_at dksL_law_15 10 rfl rfl)
theorem dL_law_595 : decode cL_law 595 = .ok (.iadd, 1) := dk_96 (dk_at dksL_law_15 11 rfl rfl)
theorem dL_law_596 : decode cL_law 596 = .ok (.iaload, 1) := dk_46 (dk_at dksL_law_15 12 rfl rfl)
theorem dL_law_597 : decode cL_law 597 = .ok (.aload_n 3, 1) := dk_45 (dk_at dksL_law_15 13 rfl rfl)
theorem dL_law_598 : decode cL_law 598 = .ok (.invokestatic 159, 3) := dk_184 0 159 (dk_at dksL_law_15 14 rfl rfl)
theorem dL_law_601 : decode cL_law 601 = .ok (.istore 5, 2) := dk_54 5 (dk_at dksL_law_15 17 rfl rfl)
theorem dL_law_603 : decode cL_law 603 = .ok (.aload_n 2, 1) := dk_44 (dk_at dksL_law_15 19 rfl rfl)
theorem dL_law_604 : decode cL_law 604 = .ok (.aload_n 0, 1) := dk_42 (dk_at dksL_law_15 20 rfl rfl)
theorem dL_law_605 : decode cL_law 605 = .ok (.iload 4, 2) := dk_21 4 (dk_at dksL_law_15 21 rfl rfl)
theorem dL_law_607 : decode cL_law 607 = .ok (.iconst 1, 1) := dk_4 (dk_at dksL_law_15 23 rfl rfl)
theorem dL_law_608 : decode cL_law 608 = .ok (.iadd, 1) := dk_96 (dk_at dksL_law_16 0 rfl rfl)
theorem dL_law_609 : decode cL_law 609 = .ok (.iaload, 1) := dk_46 (dk_at dksL_law_16 1 rfl rfl)
theorem dL_law_610 : decode cL_law 610 = .ok (.aload_n 0, 1) := dk_42 (dk_at dksL_law_16 2 rfl rfl)
theorem dL_law_611 : decode cL_law 611 = .ok (.iload 4, 2) := dk_21 4 (dk_at dksL_law_16 3 rfl rfl)
theorem dL_law_613 : decode cL_law 613 = .ok (.iconst 2, 1) := dk_5 (dk_at dksL_law_16 5 rfl rfl)
theorem dL_law_614 : decode cL_law 614 = .ok (.iadd, 1) := dk_96 (dk_at dksL_law_16 6 rfl rfl)
theorem dL_law_615 : decode cL_law 615 = .ok (.iaload, 1) := dk_46 (dk_at dksL_law_16 7 rfl rfl)
theorem dL_law_616 : decode cL_law 616 = .ok (.aload_n 0, 1) := dk_42 (dk_at dksL_law_16 8 rfl rfl)
theorem dL_law_617 : decode cL_law 617 = .ok (.iload 4, 2) := dk_21 4 (dk_at dksL_law_16 9 rfl rfl)
theorem dL_law_619 : decode cL_law 619 = .ok (.iconst 3, 1) := dk_6 (dk_at dksL_law_16 11 rfl rfl)
theorem dL_law_620 : decode cL_law 620 = .ok (.iadd, 1) := dk_96 (dk_at dksL_law_16 12 rfl rfl)
theorem dL_law_621 : decode cL_law 621 = .ok (.iaload, 1) := dk_46 (dk_at dksL_law_16 13 rfl rfl)
theorem dL_law_622 : decode cL_law 622 = .ok (.invokevirtual 161, 3) := dk_182 0 161 (dk_at dksL_law_16 14 rfl rfl)
theorem dL_law_625 : decode cL_law 625 = .ok (.istore 6, 2) := dk_54 6 (dk_at dksL_law_16 17 rfl rfl)
theorem dL_law_627 : decode cL_law 627 = .ok (.aload_n 2, 1) := dk_44 (dk_at dksL_law_16 19 rfl rfl)
theorem dL_law_628 : decode cL_law 628 = .ok (.invokevirtual 145, 3) := dk_182 0 145 (dk_at dksL_law_16 20 rfl rfl)
theorem dL_law_631 : decode cL_law 631 = .ok (.iload 5, 2) := dk_21 5 (dk_at dksL_law_17 0 rfl rfl)
theorem dL_law_633 : decode cL_law 633 = .ok (.if_icmp .eq 5, 3) := dk_159 0 5 (dk_at dksL_law_17 2 rfl rfl)
theorem dL_law_636 : decode cL_law 636 = .ok (.iconst 0, 1) := dk_3 (dk_at dksL_law_17 5 rfl rfl)
theorem dL_law_637 : decode cL_law 637 = .ok (.ireturn, 1) := dk_172 (dk_at dksL_law_17 6 rfl rfl)
theorem dL_law_638 : decode cL_law 638 = .ok (.iload 5, 2) := dk_21 5 (dk_at dksL_law_17 7 rfl rfl)
theorem dL_law_640 : decode cL_law 640 = .ok (.ifCond .ne 15, 3) := dk_154 0 15 (dk_at dksL_law_17 9 rfl rfl)
theorem dL_law_643 : decode cL_law 643 = .ok (.aload_n 3, 1) := dk_45 (dk_at dksL_law_17 12 rfl rfl)
theorem dL_law_644 : decode cL_law 644 = .ok (.iconst 0, 1) := dk_3 (dk_at dksL_law_17 13 rfl rfl)
theorem dL_law_645 : decode cL_law 645 = .ok (.laload, 1) := dk_47 (dk_at dksL_law_17 14 rfl rfl)
theorem dL_law_646 : decode cL_law 646 = .ok (.iload 6, 2) := dk_21 6 (dk_at dksL_law_17 15 rfl rfl)
theorem dL_law_648 : decode cL_law 648 = .ok (.i2l, 1) := dk_133 (dk_at dksL_law_17 17 rfl rfl)
theorem dL_law_649 : decode cL_law 649 = .ok (.lcmp, 1) := dk_148 (dk_at dksL_law_17 18 rfl rfl)
theorem dL_law_650 : decode cL_law 650 = .ok (.ifCond .eq 5, 3) := dk_153 0 5 (dk_at dksL_law_17 19 rfl rfl)
theorem dL_law_653 : decode cL_law 653 = .ok (.iconst 0, 1) := dk_3 (dk_at dksL_law_17 22 rfl rfl)
theorem dL_law_654 : decode cL_law 654 = .ok (.ireturn, 1) := dk_172 (dk_at dksL_law_17 23 rfl rfl)
theorem dL_law_655 : decode cL_law 655 = .ok (.goto 2302, 3) := dk_167 8 254 (dk_at dksL_law_18 0 rfl rfl)
theorem dL_law_658 : decode cL_law 658 = .ok (.aload_n 1, 1) := dk_43 (dk_at dksL_law_18 3 rfl rfl)
theorem dL_law_659 : decode cL_law 659 = .ok (.aload_n 0, 1) := dk_42 (dk_at dksL_law_18 4 rfl rfl)
theorem dL_law_660 : decode cL_law 660 = .ok (.iload 4, 2) := dk_21 4 (dk_at dksL_law_18 5 rfl rfl)
theorem dL_law_662 : decode cL_law 662 = .ok (.iconst 1, 1) := dk_4 (dk_at dksL_law_18 7 rfl rfl)
theorem dL_law_663 : decode cL_law 663 = .ok (.iadd, 1) := dk_96 (dk_at dksL_law_18 8 rfl rfl)
theorem dL_law_664 : decode cL_law 664 = .ok (.iaload, 1) := dk_46 (dk_at dksL_law_18 9 rfl rfl)
theorem dL_law_665 : decode cL_law 665 = .ok (.aload_n 0, 1) := dk_42 (dk_at dksL_law_18 10 rfl rfl)
theorem dL_law_666 : decode cL_law 666 = .ok (.iload 4, 2) := dk_21 4 (dk_at dksL_law_18 11 rfl rfl)
theorem dL_law_668 : decode cL_law 668 = .ok (.iconst 2, 1) := dk_5 (dk_at dksL_law_18 13 rfl rfl)
theorem dL_law_669 : decode cL_law 669 = .ok (.iadd, 1) := dk_96 (dk_at dksL_law_18 14 rfl rfl)
theorem dL_law_670 : decode cL_law 670 = .ok (.iaload, 1) := dk_46 (dk_at dksL_law_18 15 rfl rfl)
theorem dL_law_671 : decode cL_law 671 = .ok (.aload_n 3, 1) := dk_45 (dk_at dksL_law_18 16 rfl rfl)
theorem dL_law_672 : decode cL_law 672 = .ok (.invokestatic 162, 3) := dk_184 0 162 (dk_at dksL_law_18 17 rfl rfl)
theorem dL_law_675 : decode cL_law 675 = .ok (.istore 5, 2) := dk_54 5 (dk_at dksL_law_18 20 rfl rfl)
theorem dL_law_677 : decode cL_law 677 = .ok (.aload_n 2, 1) := dk_44 (dk_at dksL_law_18 22 rfl rfl)
theorem dL_law_678 : decode cL_law 678 = .ok (.aload_n 0, 1) := dk_42 (dk_at dksL_law_18 23 rfl rfl)
theorem dL_law_679 : decode cL_law 679 = .ok (.iload 4, 2) := dk_21 4 (dk_at dksL_law_19 0 rfl rfl)
theorem dL_law_681 : decode cL_law 681 = .ok (.iconst 1, 1) := dk_4 (dk_at dksL_law_19 2 rfl rfl)
theorem dL_law_682 : decode cL_law 682 = .ok (.iadd, 1) := dk_96 (dk_at dksL_law_19 3 rfl rfl)
theorem dL_law_683 : decode cL_law 683 = .ok (.iaload, 1) := dk_46 (dk_at dksL_law_19 4 rfl rfl)
theorem dL_law_684 : decode cL_law 684 = .ok (.aload_n 0, 1) := dk_42 (dk_at dksL_law_19 5 rfl rfl)
theorem dL_law_685 : decode cL_law 685 = .ok (.iload 4, 2) := dk_21 4 (dk_at dksL_law_19 6 rfl rfl)
theorem dL_law_687 : decode cL_law 687 = .ok (.iconst 2, 1) := dk_5 (dk_at dksL_law_19 8 rfl rfl)
theorem dL_law_688 : decode cL_law 688 = .ok (.iadd, 1) := dk_96 (dk_at dksL_law_19 9 rfl rfl)
theorem dL_law_689 : decode cL_law 689 = .ok (.iaload, 1) := dk_46 (dk_at dksL_law_19 10 rfl rfl)
theorem dL_law_690 : decode cL_law 690 = .ok (.invokevirtual 165, 3) := dk_182 0 165 (dk_at dksL_law_19 11 rfl rfl)
theorem dL_law_693 : decode cL_law 693 = .ok (.istore 6, 2) := dk_54 6 (dk_at dksL_law_19 14 rfl rfl)
theorem dL_law_695 : decode cL_law 695 = .ok (.aload_n 2, 1) := dk_44 (dk_at dksL_law_19 16 rfl rfl)
theorem dL_law_696 : decode cL_law 696 = .ok (.invokevirtual 145, 3) := dk_182 0 145 (dk_at dksL_law_19 17 rfl rfl)
theorem dL_law_699 : decode cL_law 699 = .ok (.iload 5, 2) := dk_21 5 (dk_at dksL_law_19 20 rfl rfl)
theorem dL_law_701 : decode cL_law 701 = .ok (.if_icmp .eq 5, 3) := dk_159 0 5 (dk_at dksL_law_20 0 rfl rfl)
theorem dL_law_704 : decode cL_law 704 = .ok (.iconst 0, 1) := dk_3 (dk_at dksL_law_20 3 rfl rfl)
theorem dL_law_705 : decode cL_law 705 = .ok (.ireturn, 1) := dk_172 (dk_at dksL_law_20 4 rfl rfl)
theorem dL_law_706 : decode cL_law 706 = .ok (.iload 5, 2) := dk_21 5 (dk_at dksL_law_20 5 rfl rfl)
theorem dL_law_708 : decode cL_law 708 = .ok (.ifCond .ne 15, 3) := dk_154 0 15 (dk_at dksL_law_20 7 rfl rfl)
theorem dL_law_711 : decode cL_law 711 = .ok (.aload_n 3, 1) := dk_45 (dk_at dksL_law_20 10 rfl rfl)
theorem dL_law_712 : decode cL_law 712 = .ok (.iconst 0, 1) := dk_3 (dk_at dksL_law_20 11 rfl rfl)
theorem dL_law_713 : decode cL_law 713 = .ok (.laload, 1) := dk_47 (dk_at dksL_law_20 12 rfl rfl)
theorem dL_law_714 : decode cL_law 714 = .ok (.iload 6, 2) := dk_21 6 (dk_at dksL_law_20 13 rfl rfl)
theorem dL_law_716 : decode cL_law 716 = .ok (.i2l, 1) := dk_133 (dk_at dksL_law_20 15 rfl rfl)
theorem dL_law_717 : decode cL_law 717 = .ok (.lcmp, 1) := dk_148 (dk_at dksL_law_20 16 rfl rfl)
theorem dL_law_718 : decode cL_law 718 = .ok (.ifCond .eq 5, 3) := dk_153 0 5 (dk_at dksL_law_20 17 rfl rfl)
theorem dL_law_721 : decode cL_law 721 = .ok (.iconst 0, 1) := dk_3 (dk_at dksL_law_20 20 rfl rfl)
theorem dL_law_722 : decode cL_law 722 = .ok (.ireturn, 1) := dk_172 (dk_at dksL_law_20 21 rfl rfl)
theorem dL_law_723 : decode cL_law 723 = .ok (.goto 2234, 3) := dk_167 8 186 (dk_at dksL_law_21 0 rfl rfl)
theorem dL_law_726 : decode cL_law 726 = .ok (.aload_n 1, 1) := dk_43 (dk_at dksL_law_21 3 rfl rfl)
theorem dL_law_727 : decode cL_law 727 = .ok (.aload_n 0, 1) := dk_42 (dk_at dksL_law_21 4 rfl rfl)
theorem dL_law_728 : decode cL_law 728 = .ok (.iload 4, 2) := dk_21 4 (dk_at dksL_law_21 5 rfl rfl)
theorem dL_law_730 : decode cL_law 730 = .ok (.iconst 1, 1) := dk_4 (dk_at dksL_law_21 7 rfl rfl)
theorem dL_law_731 : decode cL_law 731 = .ok (.iadd, 1) := dk_96 (dk_at dksL_law_21 8 rfl rfl)
theorem dL_law_732 : decode cL_law 732 = .ok (.iaload, 1) := dk_46 (dk_at dksL_law_21 9 rfl rfl)
theorem dL_law_733 : decode cL_law 733 = .ok (.aload_n 3, 1) := dk_45 (dk_at dksL_law_21 10 rfl rfl)
theorem dL_law_734 : decode cL_law 734 = .ok (.invokestatic 166, 3) := dk_184 0 166 (dk_at dksL_law_21 11 rfl rfl)
theorem dL_law_737 : decode cL_law 737 = .ok (.istore 5, 2) := dk_54 5 (dk_at dksL_law_21 14 rfl rfl)
theorem dL_law_739 : decode cL_law 739 = .ok (.aload_n 2, 1) := dk_44 (dk_at dksL_law_21 16 rfl rfl)
theorem dL_law_740 : decode cL_law 740 = .ok (.aload_n 0, 1) := dk_42 (dk_at dksL_law_21 17 rfl rfl)
theorem dL_law_741 : decode cL_law 741 = .ok (.iload 4, 2) := dk_21 4 (dk_at dksL_law_21 18 rfl rfl)
theorem dL_law_743 : decode cL_law 743 = .ok (.iconst 1, 1) := dk_4 (dk_at dksL_law_21 20 rfl rfl)
theorem dL_law_744 : decode cL_law 744 = .ok (.iadd, 1) := dk_96 (dk_at dksL_law_21 21 rfl rfl)
theorem dL_law_745 : decode cL_law 745 = .ok (.iaload, 1) := dk_46 (dk_at dksL_law_21 22 rfl rfl)
theorem dL_law_746 : decode cL_law 746 = .ok (.invokevirtual 168, 3) := dk_182 0 168 (dk_at dksL_law_22 0 rfl rfl)
theorem dL_law_749 : decode cL_law 749 = .ok (.istore 6, 2) := dk_54 6 (dk_at dksL_law_22 3 rfl rfl)
theorem dL_law_751 : decode cL_law 751 = .ok (.aload_n 2, 1) := dk_44 (dk_at dksL_law_22 5 rfl rfl)
theorem dL_law_752 : decode cL_law 752 = .ok (.invokevirtual 145, 3) := dk_182 0 145 (dk_at dksL_law_22 6 rfl rfl)
theorem dL_law_755 : decode cL_law 755 = .ok (.iload 5, 2) := dk_21 5 (dk_at dksL_law_22 9 rfl rfl)
theorem dL_law_757 : decode cL_law 757 = .ok (.if_icmp .eq 5, 3) := dk_159 0 5 (dk_at dksL_law_22 11 rfl rfl)
theorem dL_law_760 : decode cL_law 760 = .ok (.iconst 0, 1) := dk_3 (dk_at dksL_law_22 14 rfl rfl)
theorem dL_law_761 : decode cL_law 761 = .ok (.ireturn, 1) := dk_172 (dk_at dksL_law_22 15 rfl rfl)
theorem dL_law_762 : decode cL_law 762 = .ok (.iload 5, 2) := dk_21 5 (dk_at dksL_law_22 16 rfl rfl)
theorem dL_law_764 : decode cL_law 764 = .ok (.ifCond .ne 15, 3) := dk_154 0 15 (dk_at dksL_law_22 18 rfl rfl)
theorem dL_law_767 : decode cL_law 767 = .ok (.aload_n 3, 1) := dk_45 (dk_at dksL_law_22 21 rfl rfl)
theorem dL_law_768 : decode cL_law 768 = .ok (.iconst 0, 1) := dk_3 (dk_at dksL_law_22 22 rfl rfl)
theorem dL_law_769 : decode cL_law 769 = .ok (.laload, 1) := dk_47 (dk_at dksL_law_22 23 rfl rfl)
theorem dL_law_770 : decode cL_law 770 = .ok (.iload 6, 2) := dk_21 6 (dk_at dksL_law_23 0 rfl rfl)
theorem dL_law_772 : decode cL_law 772 = .ok (.i2l, 1) := dk_133 (dk_at dksL_law_23 2 rfl rfl)
theorem dL_law_773 : decode cL_law 773 = .ok (.lcmp, 1) := dk_148 (dk_at dksL_law_23 3 rfl rfl)
theorem dL_law_774 : decode cL_law 774 = .ok (.ifCond .eq 5, 3) := dk_153 0 5 (dk_at dksL_law_23 4 rfl rfl)
theorem dL_law_777 : decode cL_law 777 = .ok (.iconst 0, 1) := dk_3 (dk_at dksL_law_23 7 rfl rfl)
theorem dL_law_778 : decode cL_law 778 = .ok (.ireturn, 1) := dk_172 (dk_at dksL_law_23 8 rfl rfl)
theorem dL_law_779 : decode cL_law 779 = .ok (.goto 2178, 3) := dk_167 8 130 (dk_at dksL_law_23 9 rfl rfl)
theorem dL_law_782 : decode cL_law 782 = .ok (.aload_n 1, 1) := dk_43 (dk_at dksL_law_23 12 rfl rfl)
theorem dL_law_783 : decode cL_law 783 = .ok (.aload_n 0, 1) := dk_42 (dk_at dksL_law_23 13 rfl rfl)
theorem dL_law_784 : decode cL_law 784 = .ok (.iload 4, 2) := dk_21 4 (dk_at dksL_law_23 14 rfl rfl)
theorem dL_law_786 : decode cL_law 786 = .ok (.iconst 1, 1) := dk_4 (dk_at dksL_law_23 16 rfl rfl)
theorem dL_law_787 : decode cL_law 787 = .ok (.iadd, 1) := dk_96 (dk_at dksL_law_23 17 rfl rfl)
theorem dL_law_788 : decode cL_law 788 = .ok (.iaload, 1) := dk_46 (dk_at dksL_law_23 18 rfl rfl)
theorem dL_law_789 : decode cL_law 789 = .ok (.aload_n 3, 1) := dk_45 (dk_at dksL_law_23 19 rfl rfl)
theorem dL_law_790 : decode cL_law 790 = .ok (.invokestatic 169, 3) := dk_184 0 169 (dk_at dksL_law_23 20 rfl rfl)
theorem dL_law_793 : decode cL_law 793 = .ok (.istore 5, 2) := dk_54 5 (dk_at dksL_law_24 0 rfl rfl)
theorem dL_law_795 : decode cL_law 795 = .ok (.aload_n 2, 1) := dk_44 (dk_at dksL_law_24 2 rfl rfl)
theorem dL_law_796 : decode cL_law 796 = .ok (.aload_n 0, 1) := dk_42 (dk_at dksL_law_24 3 rfl rfl)
theorem dL_law_797 : decode cL_law 797 = .ok (.iload 4, 2) := dk_21 4 (dk_at dksL_law_24 4 rfl rfl)
theorem dL_law_799 : decode cL_law 799 = .ok (.iconst 1, 1) := dk_4 (dk_at dksL_law_24 6 rfl rfl)
theorem dL_law_800 : decode cL_law 800 = .ok (.iadd, 1) := dk_96 (dk_at dksL_law_24 7 rfl rfl)
theorem dL_law_801 : decode cL_law 801 = .ok (.iaload, 1) := dk_46 (dk_at dksL_law_24 8 rfl rfl)
theorem dL_law_802 : decode cL_law 802 = .ok (.invokevirtual 171, 3) := dk_182 0 171 (dk_at dksL_law_24 9 rfl rfl)
theorem dL_law_805 : decode cL_law 805 = .ok (.istore 6, 2) := dk_54 6 (dk_at dksL_law_24 12 rfl rfl)
theorem dL_law_807 : decode cL_law 807 = .ok (.aload_n 2, 1) := dk_44 (dk_at dksL_law_24 14 rfl rfl)
theorem dL_law_808 : decode cL_law 808 = .ok (.invokevirtual 145, 3) := dk_182 0 145 (dk_at dksL_law_24 15 rfl rfl)
theorem dL_law_811 : decode cL_law 811 = .ok (.iload 5, 2) := dk_21 5 (dk_at dksL_law_24 18 rfl rfl)
theorem dL_law_813 : decode cL_law 813 = .ok (.if_icmp .eq 5, 3) := dk_159 0 5 (dk_at dksL_law_24 20 rfl rfl)
theorem dL_law_816 : decode cL_law 816 = .ok (.iconst 0, 1) := dk_3 (dk_at dksL_law_24 23 rfl rfl)
theorem dL_law_817 : decode cL_law 817 = .ok (.ireturn, 1) := dk_172 (dk_at dksL_law_25 0 rfl rfl)
theorem dL_law_818 : decode cL_law 818 = .ok (.iload 5, 2) := dk_21 5 (dk_at dksL_law_25 1 rfl rfl)
theorem dL_law_820 : decode cL_law 820 = .ok (.ifCond .ne 15, 3) := dk_154 0 15 (dk_at dksL_law_25 3 rfl rfl)
theorem dL_law_823 : decode cL_law 823 = .ok (.aload_n 3, 1) := dk_45 (dk_at dksL_law_25 6 rfl rfl)
theorem dL_law_824 : decode cL_law 824 = .ok (.iconst 0, 1) := dk_3 (dk_at dksL_law_25 7 rfl rfl)
theorem dL_law_825 : decode cL_law 825 = .ok (.laload, 1) := dk_47 (dk_at dksL_law_25 8 rfl rfl)
theorem dL_law_826 : decode cL_law 826 = .ok (.iload 6, 2) := dk_21 6 (dk_at dksL_law_25 9 rfl rfl)
theorem dL_law_828 : decode cL_law 828 = .ok (.i2l, 1) := dk_133 (dk_at dksL_law_25 11 rfl rfl)
theorem dL_law_829 : decode cL_law 829 = .ok (.lcmp, 1) := dk_148 (dk_at dksL_law_25 12 rfl rfl)
theorem dL_law_830 : decode cL_law 830 = .ok (.ifCond .eq 5, 3) := dk_153 0 5 (dk_at dksL_law_25 13 rfl rfl)
theorem dL_law_833 : decode cL_law 833 = .ok (.iconst 0, 1) := dk_3 (dk_at dksL_law_25 16 rfl rfl)
theorem dL_law_834 : decode cL_law 834 = .ok (.ireturn, 1) := dk_172 (dk_at dksL_law_25 17 rfl rfl)
theorem dL_law_835 : decode cL_law 835 = .ok (.goto 2122, 3) := dk_167 8 74 (dk_at dksL_law_25 18 rfl rfl)
theorem dL_law_838 : decode cL_law 838 = .ok (.aload_n 1, 1) := dk_43 (dk_at dksL_law_25 21 rfl rfl)
theorem dL_law_839 : decode cL_law 839 = .ok (.aload_n 0, 1) := dk_42 (dk_at dksL_law_25 22 rfl rfl)
theorem dL_law_840 : decode cL_law 840 = .ok (.iload 4, 2) := dk_21 4 (dk_at dksL_law_26 0 rfl rfl)
theorem dL_law_842 : decode cL_law 842 = .ok (.iconst 1, 1) := dk_4 (dk_at dksL_law_26 2 rfl rfl)
theorem dL_law_843 : decode cL_law 843 = .ok (.iadd, 1) := dk_96 (dk_at dksL_law_26 3 rfl rfl)
theorem dL_law_844 : decode cL_law 844 = .ok (.iaload, 1) := dk_46 (dk_at dksL_law_26 4 rfl rfl)
theorem dL_law_845 : decode cL_law 845 = .ok (.aload_n 0, 1) := dk_42 (dk_at dksL_law_26 5 rfl rfl)
theorem dL_law_846 : decode cL_law 846 = .ok (.iload 4, 2) := dk_21 4 (dk_at dksL_law_26 6 rfl rfl)
theorem dL_law_848 : decode cL_law 848 = .ok (.iconst 2, 1) := dk_5 (dk_at dksL_law_26 8 rfl rfl)
theorem dL_law_849 : decode cL_law 849 = .ok (.iadd, 1) := dk_96 (dk_at dksL_law_26 9 rfl rfl)
theorem dL_law_850 : decode cL_law 850 = .ok (.iaload, 1) := dk_46 (dk_at dksL_law_26 10 rfl rfl)
theorem dL_law_851 : decode cL_law 851 = .ok (.aload_n 3, 1) := dk_45 (dk_at dksL_law_26 11 rfl rfl)
theorem dL_law_852 : decode cL_law 852 = .ok (.invokestatic 172, 3) := dk_184 0 172 (dk_at dksL_law_26 12 rfl rfl)
theorem dL_law_855 : decode cL_law 855 = .ok (.istore 5, 2) := dk_54 5 (dk_at dksL_law_26 15 rfl rfl)
theorem dL_law_857 : decode cL_law 857 = .ok (.aload_n 2, 1) := dk_44 (dk_at dksL_law_26 17 rfl rfl)
theorem dL_law_858 : decode cL_law 858 = .ok (.aload_n 0, 1) := dk_42 (dk_at dksL_law_26 18 rfl rfl)
theorem dL_law_859 : decode cL_law 859 = .ok (.iload 4, 2) := dk_21 4 (dk_at dksL_law_26 19 rfl rfl)
theorem dL_law_861 : decode cL_law 861 = .ok (.iconst 1, 1) := dk_4 (dk_at dksL_law_26 21 rfl rfl)
theorem dL_law_862 : decode cL_law 862 = .ok (.iadd, 1) := dk_96 (dk_at dksL_law_26 22 rfl rfl)
theorem dL_law_863 : decode cL_law 863 = .ok (.iaload, 1) := dk_46 (dk_at dksL_law_26 23 rfl rfl)
theorem dL_law_864 : decode cL_law 864 = .ok (.aload_n 0, 1) := dk_42 (dk_at dksL_law_27 0 rfl rfl)
theorem dL_law_865 : decode cL_law 865 = .ok (.iload 4, 2) := dk_21 4 (dk_at dksL_law_27 1 rfl rfl)
theorem dL_law_867 : decode cL_law 867 = .ok (.iconst 2, 1) := dk_5 (dk_at dksL_law_27 3 rfl rfl)
theorem dL_law_868 : decode cL_law 868 = .ok (.iadd, 1) := dk_96 (dk_at dksL_law_27 4 rfl rfl)
theorem dL_law_869 : decode cL_law 869 = .ok (.iaload, 1) := dk_46 (dk_at dksL_law_27 5 rfl rfl)
theorem dL_law_870 : decode cL_law 870 = .ok (.invokevirtual 174, 3) := dk_182 0 174 (dk_at dksL_law_27 6 rfl rfl)
theorem dL_law_873 : decode cL_law 873 = .ok (.istore 6, 2) := dk_54 6 (dk_at dksL_law_27 9 rfl rfl)
theorem dL_law_875 : decode cL_law 875 = .ok (.aload_n 2, 1) := dk_44 (dk_at dksL_law_27 11 rfl rfl)
theorem dL_law_876 : decode cL_law 876 = .ok (.invokevirtual 145, 3) := dk_182 0 145 (dk_at dksL_law_27 12 rfl rfl)
theorem dL_law_879 : decode cL_law 879 = .ok (.iload 5, 2) := dk_21 5 (dk_at dksL_law_27 15 rfl rfl)
theorem dL_law_881 : decode cL_law 881 = .ok (.if_icmp .eq 5, 3) := dk_159 0 5 (dk_at dksL_law_27 17 rfl rfl)
theorem dL_law_884 : decode cL_law 884 = .ok (.iconst 0, 1) := dk_3 (dk_at dksL_law_27 20 rfl rfl)
theorem dL_law_885 : decode cL_law 885 = .ok (.ireturn, 1) := dk_172 (dk_at dksL_law_27 21 rfl rfl)
theorem dL_law_886 : decode cL_law 886 = .ok (.iload 5, 2) := dk_21 5 (dk_at dksL_law_27 22 rfl rfl)
theorem dL_law_888 : decode cL_law 888 = .ok (.ifCond .ne 22, 3) := dk_154 0 22 (dk_at dksL_law_28 0 rfl rfl)
theorem dL_law_891 : decode cL_law 891 = .ok (.aload_n 3, 1) := dk_45 (dk_at dksL_law_28 3 rfl rfl)
theorem dL_law_892 : decode cL_law 892 = .ok (.iconst 0, 1) := dk_3 (dk_at dksL_law_28 4 rfl rfl)
theorem dL_law_893 : decode cL_law 893 = .ok (.laload, 1) := dk_47 (dk_at dksL_law_28 5 rfl rfl)
theorem dL_law_894 : decode cL_law 894 = .ok (.iload 6, 2) := dk_21 6 (dk_at dksL_law_28 6 rfl rfl)
theorem dL_law_896 : decode cL_law 896 = .ok (.ifCond .eq 7, 3) := dk_153 0 7 (dk_at dksL_law_28 8 rfl rfl)
theorem dL_law_899 : decode cL_law 899 = .ok (.lconst 1, 1) := dk_10 (dk_at dksL_law_28 11 rfl rfl)
theorem dL_law_900 : decode cL_law 900 = .ok (.goto 4, 3) := dk_167 0 4 (dk_at dksL_law_28 12 rfl rfl)
theorem dL_law_903 : decode cL_law 903 = .ok (.lconst 0, 1) := dk_9 (dk_at dksL_law_28 15 rfl rfl)
theorem dL_law_904 : decode cL_law 904 = .ok (.lcmp, 1) := dk_148 (dk_at dksL_law_28 16 rfl rfl)
theorem dL_law_905 : decode cL_law 905 = .ok (.ifCond .eq 5, 3) := dk_153 0 5 (dk_at dksL_law_28 17 rfl rfl)
theorem dL_law_908 : decode cL_law 908 = .ok (.iconst 0, 1) := dk_3 (dk_at dksL_law_28 20 rfl rfl)
theorem dL_law_909 : decode cL_law 909 = .ok (.ireturn, 1) := dk_172 (dk_at dksL_law_28 21 rfl rfl)
theorem dL_law_910 : decode cL_law 910 = .ok (.goto 2047, 3) := dk_167 7 255 (dk_at dksL_law_29 0 rfl rfl)
theorem dL_law_913 : decode cL_law 913 = .ok (.aload_n 1, 1) := dk_43 (dk_at dksL_law_29 3 rfl rfl)
theorem dL_law_914 : decode cL_law 914 = .ok (.aload_n 0, 1) := dk_42 (dk_at dksL_law_29 4 rfl rfl)
theorem dL_law_915 : decode cL_law 915 = .ok (.iload 4, 2) := dk_21 4 (dk_at dksL_law_29 5 rfl rfl)
theorem dL_law_917 : decode cL_law 917 = .ok (.iconst 1, 1) := dk_4 (dk_at dksL_law_29 7 rfl rfl)
theorem dL_law_918 : decode cL_law 918 = .ok (.iadd, 1) := dk_96 (dk_at dksL_law_29 8 rfl rfl)
theorem dL_law_919 : decode cL_law 919 = .ok (.iaload, 1) := dk_46 (dk_at dksL_law_29 9 rfl rfl)
theorem dL_law_920 : decode cL_law 920 = .ok (.aload_n 0, 1) := dk_42 (dk_at dksL_law_29 10 rfl rfl)
theorem dL_law_921 : decode cL_law 921 = .ok (.iload 4, 2) := dk_21 4 (dk_at dksL_law_29 11 rfl rfl)
theorem dL_law_923 : decode cL_law 923 = .ok (.iconst 2, 1) := dk_5 (dk_at dksL_law_29 13 rfl rfl)
theorem dL_law_924 : decode cL_law 924 = .ok (.iadd, 1) := dk_96 (dk_at dksL_law_29 14 rfl rfl)
theorem dL_law_925 : decode cL_law 925 = .ok (.iaload, 1) := dk_46 (dk_at dksL_law_29 15 rfl rfl)
theorem dL_law_926 : decode cL_law 926 = .ok (.aload_n 0, 1) := dk_42 (dk_at dksL_law_29 16 rfl rfl)
theorem dL_law_927 : decode cL_law 927 = .ok (.iload 4, 2) := dk_21 4 (dk_at dksL_law_29 17 rfl rfl)
theorem dL_law_929 : decode cL_law 929 = .ok (.iconst 3, 1) := dk_6 (dk_at dksL_law_29 19 rfl rfl)
theorem dL_law_930 : decode cL_law 930 = .ok (.iadd, 1) := dk_96 (dk_at dksL_law_29 20 rfl rfl)
theorem dL_law_931 : decode cL_law 931 = .ok (.iaload, 1) := dk_46 (dk_at dksL_law_29 21 rfl rfl)
theorem dL_law_932 : decode cL_law 932 = .ok (.aload_n 0, 1) := dk_42 (dk_at dksL_law_29 22 rfl rfl)
theorem dL_law_933 : decode cL_law 933 = .ok (.iload 4, 2) := dk_21 4 (dk_at dksL_law_30 0 rfl rfl)
theorem dL_law_935 : decode cL_law 935 = .ok (.iconst 4, 1) := dk_7 (dk_at dksL_law_30 2 rfl rfl)
theorem dL_law_936 : decode cL_law 936 = .ok (.iadd, 1) := dk_96 (dk_at dksL_law_30 3 rfl rfl)
theorem dL_law_937 : decode cL_law 937 = .ok (.iaload, 1) := dk_46 (dk_at dksL_law_30 4 rfl rfl)
theorem dL_law_938 : decode cL_law 938 = .ok (.aload_n 3, 1) := dk_45 (dk_at dksL_law_30 5 rfl rfl)
theorem dL_law_939 : decode cL_law 939 = .ok (.invokestatic 175, 3) := dk_184 0 175 (dk_at dksL_law_30 6 rfl rfl)
theorem dL_law_942 : decode cL_law 942 = .ok (.istore 5, 2) := dk_54 5 (dk_at dksL_law_30 9 rfl rfl)
theorem dL_law_944 : decode cL_law 944 = .ok (.aload_n 2, 1) := dk_44 (dk_at dksL_law_30 11 rfl rfl)
theorem dL_law_945 : decode cL_law 945 = .ok (.aload_n 0, 1) := dk_42 (dk_at dksL_law_30 12 rfl rfl)
theorem dL_law_946 : decode cL_law 946 = .ok (.iload 4, 2) := dk_21 4 (dk_at dksL_law_30 13 rfl rfl)
theorem dL_law_948 : decode cL_law 948 = .ok (.iconst 1, 1) := dk_4 (dk_at dksL_law_30 15 rfl rfl)
theorem dL_law_949 : decode cL_law 949 = .ok (.iadd, 1) := dk_96 (dk_at dksL_law_30 16 rfl rfl)
theorem dL_law_950 : decode cL_law 950 = .ok (.iaload, 1) := dk_46 (dk_at dksL_law_30 17 rfl rfl)
theorem dL_law_951 : decode cL_law 951 = .ok (.aload_n 0, 1) := dk_42 (dk_at dksL_law_30 18 rfl rfl)
theorem dL_law_952 : decode cL_law 952 = .ok (.iload 4, 2) := dk_21 4 (dk_at dksL_law_30 19 rfl rfl)
theorem dL_law_954 : decode cL_law 954 = .ok (.iconst 2, 1) := dk_5 (dk_at dksL_law_30 21 rfl rfl)
theorem dL_law_955 : decode cL_law 955 = .ok (.iadd, 1) := dk_96 (dk_at dksL_law_30 22 rfl rfl)
theorem dL_law_956 : decode cL_law 956 = .ok (.iaload, 1) := dk_46 (dk_at dksL_law_30 23 rfl rfl)
theorem dL_law_957 : decode cL_law 957 = .ok (.aload_n 0, 1) := dk_42 (dk_at dksL_law_31 0 rfl rfl)
theorem dL_law_958 : decode cL_law 958 = .ok (.iload 4, 2) := dk_21 4 (dk_at dksL_law_31 1 rfl rfl)
theorem dL_law_960 : decode cL_law 960 = .ok (.iconst 3, 1) := dk_6 (dk_at dksL_law_31 3 rfl rfl)
theorem dL_law_961 : decode cL_law 961 = .ok (.iadd, 1) := dk_96 (dk_at dksL_law_31 4 rfl rfl)
theorem dL_law_962 : decode cL_law 962 = .ok (.iaload, 1) := dk_46 (dk_at dksL_law_31 5 rfl rfl)
theorem dL_law_963 : decode cL_law 963 = .ok (.aload_n 0, 1) := dk_42 (dk_at dksL_law_31 6 rfl rfl)
theorem dL_law_964 : decode cL_law 964 = .ok (.iload 4, 2) := dk_21 4 (dk_at dksL_law_31 7 rfl rfl)
theorem dL_law_966 : decode cL_law 966 = .ok (.iconst 4, 1) := dk_7 (dk_at dksL_law_31 9 rfl rfl)
theorem dL_law_967 : decode cL_law 967 = .ok (.iadd, 1) := dk_96 (dk_at dksL_law_31 10 rfl rfl)
theorem dL_law_968 : decode cL_law 968 = .ok (.iaload, 1) := dk_46 (dk_at dksL_law_31 11 rfl rfl)
theorem dL_law_969 : decode cL_law 969 = .ok (.invokevirtual 178, 3) := dk_182 0 178 (dk_at dksL_law_31 12 rfl rfl)
theorem dL_law_972 : decode cL_law 972 = .ok (.istore 6, 2) := dk_54 6 (dk_at dksL_law_31 15 rfl rfl)
theorem dL_law_974 : decode cL_law 974 = .ok (.aload_n 2, 1) := dk_44 (dk_at dksL_law_31 17 rfl rfl)
theorem dL_law_975 : decode cL_law 975 = .ok (.invokevirtual 145, 3) := dk_182 0 145 (dk_at dksL_law_31 18 rfl rfl)
theorem dL_law_978 : decode cL_law 978 = .ok (.iload 5, 2) := dk_21 5 (dk_at dksL_law_31 21 rfl rfl)
theorem dL_law_980 : decode cL_law 980 = .ok (.if_icmp .eq 5, 3) := dk_159 0 5 (dk_at dksL_law_32 0 rfl rfl)
theorem dL_law_983 : decode cL_law 983 = .ok (.iconst 0, 1) := dk_3 (dk_at dksL_law_32 3 rfl rfl)
theorem dL_law_984 : decode cL_law 984 = .ok (.ireturn, 1) := dk_172 (dk_at dksL_law_32 4 rfl rfl)
theorem dL_law_985 : decode cL_law 985 = .ok (.iload 5, 2) := dk_21 5 (dk_at dksL_law_32 5 rfl rfl)
theorem dL_law_987 : decode cL_law 987 = .ok (.ifCond .ne 15, 3) := dk_154 0 15 (dk_at dksL_law_32 7 rfl rfl)
theorem dL_law_990 : decode cL_law 990 = .ok (.aload_n 3, 1) := dk_45 (dk_at dksL_law_32 10 rfl rfl)
theorem dL_law_991 : decode cL_law 991 = .ok (.iconst 0, 1) := dk_3 (dk_at dksL_law_32 11 rfl rfl)
theorem dL_law_992 : decode cL_law 992 = .ok (.laload, 1) := dk_47 (dk_at dksL_law_32 12 rfl rfl)
theorem dL_law_993 : decode cL_law 993 = .ok (.iload 6, 2) := dk_21 6 (dk_at dksL_law_32 13 rfl rfl)
theorem dL_law_995 : decode cL_law 995 = .ok (.i2l, 1) := dk_133 (dk_at dksL_law_32 15 rfl rfl)
theorem dL_law_996 : decode cL_law 996 = .ok (.lcmp, 1) := dk_148 (dk_at dksL_law_32 16 rfl rfl)
theorem dL_law_997 : decode cL_law 997 = .ok (.ifCond .eq 5, 3) := dk_153 0 5 (dk_at dksL_law_32 17 rfl rfl)
theorem dL_law_1000 : decode cL_law 1000 = .ok (.iconst 0, 1) := dk_3 (dk_at dksL_law_32 20 rfl rfl)
theorem dL_law_1001 : decode cL_law 1001 = .ok (.ireturn, 1) := dk_172 (dk_at dksL_law_32 21 rfl rfl)
theorem dL_law_1002 : decode cL_law 1002 = .ok (.goto 1955, 3) := dk_167 7 163 (dk_at dksL_law_33 0 rfl rfl)
theorem dL_law_1005 : decode cL_law 1005 = .ok (.aload_n 1, 1) := dk_43 (dk_at dksL_law_33 3 rfl rfl)
theorem dL_law_1006 : decode cL_law 1006 = .ok (.aload_n 0, 1) := dk_42 (dk_at dksL_law_33 4 rfl rfl)
theorem dL_law_1007 : decode cL_law 1007 = .ok (.iload 4, 2) := dk_21 4 (dk_at dksL_law_33 5 rfl rfl)
theorem dL_law_1009 : decode cL_law 1009 = .ok (.iconst 1, 1) := dk_4 (dk_at dksL_law_33 7 rfl rfl)
theorem dL_law_1010 : decode cL_law 1010 = .ok (.iadd, 1) := dk_96 (dk_at dksL_law_33 8 rfl rfl)
theorem dL_law_1011 : decode cL_law 1011 = .ok (.iaload, 1) := dk_46 (dk_at dksL_law_33 9 rfl rfl)
theorem dL_law_1012 : decode cL_law 1012 = .ok (.aload_n 0, 1) := dk_42 (dk_at dksL_law_33 10 rfl rfl)
theorem dL_law_1013 : decode cL_law 1013 = .ok (.iload 4, 2) := dk_21 4 (dk_at dksL_law_33 11 rfl rfl)
theorem dL_law_1015 : decode cL_law 1015 = .ok (.iconst 2, 1) := dk_5 (dk_at dksL_law_33 13 rfl rfl)
theorem dL_law_1016 : decode cL_law 1016 = .ok (.iadd, 1) := dk_96 (dk_at dksL_law_33 14 rfl rfl)
theorem dL_law_1017 : decode cL_law 1017 = .ok (.iaload, 1) := dk_46 (dk_at dksL_law_33 15 rfl rfl)
theorem dL_law_1018 : decode cL_law 1018 = .ok (.aload_n 3, 1) := dk_45 (dk_at dksL_law_33 16 rfl rfl)
theorem dL_law_1019 : decode cL_law 1019 = .ok (.invokestatic 179, 3) := dk_184 0 179 (dk_at dksL_law_33 17 rfl rfl)
theorem dL_law_1022 : decode cL_law 1022 = .ok (.istore 5, 2) := dk_54 5 (dk_at dksL_law_33 20 rfl rfl)
theorem dL_law_1024 : decode cL_law 1024 = .ok (.aload_n 2, 1) := dk_44 (dk_at dksL_law_33 22 rfl rfl)
theorem dL_law_1025 : decode cL_law 1025 = .ok (.aload_n 0, 1) := dk_42 (dk_at dksL_law_33 23 rfl rfl)
theorem dL_law_1026 : decode cL_law 1026 = .ok (.iload 4, 2) := dk_21 4 (dk_at dksL_law_34 0 rfl rfl)
theorem dL_law_1028 : decode cL_law 1028 = .ok (.iconst 1, 1) := dk_4 (dk_at dksL_law_34 2 rfl rfl)
theorem dL_law_1029 : decode cL_law 1029 = .ok (.iadd, 1) := dk_96 (dk_at dksL_law_34 3 rfl rfl)
theorem dL_law_1030 : decode cL_law 1030 = .ok (.iaload, 1) := dk_46 (dk_at dksL_law_34 4 rfl rfl)
theorem dL_law_1031 : decode cL_law 1031 = .ok (.aload_n 0, 1) := dk_42 (dk_at dksL_law_34 5 rfl rfl)
theorem dL_law_1032 : decode cL_law 1032 = .ok (.iload 4, 2) := dk_21 4 (dk_at dksL_law_34 6 rfl rfl)
theorem dL_law_1034 : decode cL_law 1034 = .ok (.iconst 2, 1) := dk_5 (dk_at dksL_law_34 8 rfl rfl)
theorem dL_law_1035 : decode cL_law 1035 = .ok (.iadd, 1) := dk_96 (dk_at dksL_law_34 9 rfl rfl)
theorem dL_law_1036 : decode cL_law 1036 = .ok (.iaload, 1) := dk_46 (dk_at dksL_law_34 10 rfl rfl)
theorem dL_law_1037 : decode cL_law 1037 = .ok (.invokevirtual 181, 3) := dk_182 0 181 (dk_at dksL_law_34 11 rfl rfl)
theorem dL_law_1040 : decode cL_law 1040 = .ok (.istore 6, 2) := dk_54 6 (dk_at dksL_law_34 14 rfl rfl)
theorem dL_law_1042 : decode cL_law 1042 = .ok (.aload_n 2, 1) := dk_44 (dk_at dksL_law_34 16 rfl rfl)
theorem dL_law_1043 : decode cL_law 1043 = .ok (.invokevirtual 145, 3) := dk_182 0 145 (dk_at dksL_law_34 17 rfl rfl)
theorem dL_law_1046 : decode cL_law 1046 = .ok (.iload 5, 2) := dk_21 5 (dk_at dksL_law_34 20 rfl rfl)
theorem dL_law_1048 : decode cL_law 1048 = .ok (.if_icmp .eq 5, 3) := dk_159 0 5 (dk_at dksL_law_35 0 rfl rfl)
theorem dL_law_1051 : decode cL_law 1051 = .ok (.iconst 0, 1) := dk_3 (dk_at dksL_law_35 3 rfl rfl)
theorem dL_law_1052 : decode cL_law 1052 = .ok (.ireturn, 1) := dk_172 (dk_at dksL_law_35 4 rfl rfl)
theorem dL_law_1053 : decode cL_law 1053 = .ok (.iload 5, 2) := dk_21 5 (dk_at dksL_law_35 5 rfl rfl)
theorem dL_law_1055 : decode cL_law 1055 = .ok (.ifCond .ne 15, 3) := dk_154 0 15 (dk_at dksL_law_35 7 rfl rfl)
theorem dL_law_1058 : decode cL_law 1058 = .ok (.aload_n 3, 1) := dk_45 (dk_at dksL_law_35 10 rfl rfl)
theorem dL_law_1059 : decode cL_law 1059 = .ok (.iconst 0, 1) := dk_3 (dk_at dksL_law_35 11 rfl rfl)
theorem dL_law_1060 : decode cL_law 1060 = .ok (.laload, 1) := dk_47 (dk_at dksL_law_35 12 rfl rfl)
theorem dL_law_1061 : decode cL_law 1061 = .ok (.iload 6, 2) := dk_21 6 (dk_at dksL_law_35 13 rfl rfl)
theorem dL_law_1063 : decode cL_law 1063 = .ok (.i2l, 1) := dk_133 (dk_at dksL_law_35 15 rfl rfl)
theorem dL_law_1064 : decode cL_law 1064 = .ok (.lcmp, 1) := dk_148 (dk_at dksL_law_35 16 rfl rfl)
theorem dL_law_1065 : decode cL_law 1065 = .ok (.ifCond .eq 5, 3) := dk_153 0 5 (dk_at dksL_law_35 17 rfl rfl)
theorem dL_law_1068 : decode cL_law 1068 = .ok (.iconst 0, 1) := dk_3 (dk_at dksL_law_35 20 rfl rfl)
theorem dL_law_1069 : decode cL_law 1069 = .ok (.ireturn, 1) := dk_172 (dk_at dksL_law_35 21 rfl rfl)
theorem dL_law_1070 : decode cL_law 1070 = .ok (.goto 1887, 3) := dk_167 7 95 (dk_at dksL_law_36 0 rfl rfl)
theorem dL_law_1073 : decode cL_law 1073 = .ok (.aload_n 1, 1) := dk_43 (dk_at dksL_law_36 3 rfl rfl)
theorem dL_law_1074 : decode cL_law 1074 = .ok (.aload_n 0, 1) := dk_42 (dk_at dksL_law_36 4 rfl rfl)
theorem dL_law_1075 : decode cL_law 1075 = .ok (.iload 4, 2) := dk_21 4 (dk_at dksL_law_36 5 rfl rfl)
theorem dL_law_1077 : decode cL_law 1077 = .ok (.iconst 1, 1) := dk_4 (dk_at dksL_law_36 7 rfl rfl)
theorem dL_law_1078 : decode cL_law 1078 = .ok (.iadd, 1) := dk_96 (dk_at dksL_law_36 8 rfl rfl)
theorem dL_law_1079 : decode cL_law 1079 = .ok (.iaload, 1) := dk_46 (dk_at dksL_law_36 9 rfl rfl)
theorem dL_law_1080 : decode cL_law 1080 = .ok (.aload_n 0, 1) := dk_42 (dk_at dksL_law_36 10 rfl rfl)
theorem dL_law_1081 : decode cL_law 1081 = .ok (.iload 4, 2) := dk_21 4 (dk_at dksL_law_36 11 rfl rfl)
theorem dL_law_1083 : decode cL_law 1083 = .ok (.iconst 2, 1) := dk_5 (dk_at dksL_law_36 13 rfl rfl)
theorem dL_law_1084 : decode cL_law 1084 = .ok (.iadd, 1) := dk_96 (dk_at dksL_law_36 14 rfl rfl)
theorem dL_law_1085 : decode cL_law 1085 = .ok (.iaload, 1) := dk_46 (dk_at dksL_law_36 15 rfl rfl)
theorem dL_law_1086 : decode cL_law 1086 = .ok (.ifCond .eq 7, 3) := dk_153 0 7 (dk_at dksL_law_36 16 rfl rfl)
theorem dL_law_1089 : decode cL_law 1089 = .ok (.iconst 1, 1) := dk_4 (dk_at dksL_law_36 19 rfl rfl)
theorem dL_law_1090 : decode cL_law 1090 = .ok (.goto 4, 3) := dk_167 0 4 (dk_at dksL_law_36 20 rfl rfl)
theorem dL_law_1093 : decode cL_law 1093 = .ok (.iconst 0, 1) := dk_3 (dk_at dksL_law_36 23 rfl rfl)
theorem dL_law_1094 : decode cL_law 1094 = .ok (.aload_n 3, 1) := dk_45 (dk_at dksL_law_37 0 rfl rfl)
theorem dL_law_1095 : decode cL_law 1095 = .ok (.invokestatic 182, 3) := dk_184 0 182 (dk_at dksL_law_37 1 rfl rfl)
theorem dL_law_1098 : decode cL_law 1098 = .ok (.istore 5, 2) := dk_54 5 (dk_at dksL_law_37 4 rfl rfl)
theorem dL_law_1100 : decode cL_law 1100 = .ok (.aload_n 2, 1) := dk_44 (dk_at dksL_law_37 6 rfl rfl)
theorem dL_law_1101 : decode cL_law 1101 = .ok (.aload_n 0, 1) := dk_42 (dk_at dksL_law_37 7 rfl rfl)
theorem dL_law_1102 : decode cL_law 1102 = .ok (.iload 4, 2) := dk_21 4 (dk_at dksL_law_37 8 rfl rfl)
theorem dL_law_1104 : decode cL_law 1104 = .ok (.iconst 1, 1) := dk_4 (dk_at dksL_law_37 10 rfl rfl)
theorem dL_law_1105 : decode cL_law 1105 = .ok (.iadd, 1) := dk_96 (dk_at dksL_law_37 11 rfl rfl)
theorem dL_law_1106 : decode cL_law 1106 = .ok (.iaload, 1) := dk_46 (dk_at dksL_law_37 12 rfl rfl)
theorem dL_law_1107 : decode cL_law 1107 = .ok (.aload_n 0, 1) := dk_42 (dk_at dksL_law_37 13 rfl rfl)
theorem dL_law_1108 : decode cL_law 1108 = .ok (.iload 4, 2) := dk_21 4 (dk_at dksL_law_37 14 rfl rfl)
theorem dL_law_1110 : decode cL_law 1110 = .ok (.iconst 2, 1) := dk_5 (dk_at dksL_law_37 16 rfl rfl)
theorem dL_law_1111 : decode cL_law 1111 = .ok (.iadd, 1) := dk_96 (dk_at dksL_law_37 17 rfl rfl)
theorem dL_law_1112 : decode cL_law 1112 = .ok (.iaload, 1) := dk_46 (dk_at dksL_law_37 18 rfl rfl)
theorem dL_law_1113 : decode cL_law 1113 = .ok (.ifCond .eq 7, 3) := dk_153 0 7 (dk_at dksL_law_37 19 rfl rfl)
theorem dL_law_1116 : decode cL_law 1116 = .ok (.iconst 1, 1) := dk_4 (dk_at dksL_law_37 22 rfl rfl)
theorem dL_law_1117 : decode cL_law 1117 = .ok (.goto 4, 3) := dk_167 0 4 (dk_at dksL_law_38 0 rfl rfl)
theorem dL_law_1120 : decode cL_law 1120 = .ok (.iconst 0, 1) := dk_3 (dk_at dksL_law_38 3 rfl rfl)
theorem dL_law_1121 : decode cL_law 1121 = .ok (.invokevirtual 185, 3) := dk_182 0 185 (dk_at dksL_law_38 4 rfl rfl)
theorem dL_law_1124 : decode cL_law 1124 = .ok (.istore 6, 2) := dk_54 6 (dk_at dksL_law_38 7 rfl rfl)
theorem dL_law_1126 : decode cL_law 1126 = .ok (.aload_n 2, 1) := dk_44 (dk_at dksL_law_38 9 rfl rfl)
theorem dL_law_1127 : decode cL_law 1127 = .ok (.invokevirtual 145, 3) := dk_182 0 145 (dk_at dksL_law_38 10 rfl rfl)
theorem dL_law_1130 : decode cL_law 1130 = .ok (.iload 5, 2) := dk_21 5 (dk_at dksL_law_38 13 rfl rfl)
theorem dL_law_1132 : decode cL_law 1132 = .ok (.if_icmp .eq 5, 3) := dk_159 0 5 (dk_at dksL_law_38 15 rfl rfl)
theorem dL_law_1135 : decode cL_law 1135 = .ok (.iconst 0, 1) := dk_3 (dk_at dksL_law_38 18 rfl rfl)
theorem dL_law_1136 : decode cL_law 1136 = .ok (.ireturn, 1) := dk_172 (dk_at dksL_law_38 19 rfl rfl)
theorem dL_law_1137 : decode cL_law 1137 = .ok (.iload 5, 2) := dk_21 5 (dk_at dksL_law_38 20 rfl rfl)
theorem dL_law_1139 : decode cL_law 1139 = .ok (.ifCond .ne 22, 3) := dk_154 0 22 (dk_at dksL_law_39 0 rfl rfl)
theorem dL_law_1142 : decode cL_law 1142 = .ok (.aload_n 3, 1) := dk_45 (dk_at dksL_law_39 3 rfl rfl)
theorem dL_law_1143 : decode cL_law 1143 = .ok (.iconst 0, 1) := dk_3 (dk_at dksL_law_39 4 rfl rfl)
theorem dL_law_1144 : decode cL_law 1144 = .ok (.laload, 1) := dk_47 (dk_at dksL_law_39 5 rfl rfl)
theorem dL_law_1145 : decode cL_law 1145 = .ok (.iload 6, 2) := dk_21 6 (dk_at dksL_law_39 6 rfl rfl)
theorem dL_law_1147 : decode cL_law 1147 = .ok (.ifCond .eq 7, 3) := dk_153 0 7 (dk_at dksL_law_39 8 rfl rfl)
theorem dL_law_1150 : decode cL_law 1150 = .ok (.lconst 1, 1) := dk_10 (dk_at dksL_law_39 11 rfl rfl)
theorem dL_law_1151 : decode cL_law 1151 = .ok (.goto 4, 3) := dk_167 0 4 (dk_at dksL_law_39 12 rfl rfl)
theorem dL_law_1154 : decode cL_law 1154 = .ok (.lconst 0, 1) := dk_9 (dk_at dksL_law_39 15 rfl rfl)
theorem dL_law_1155 : decode cL_law 1155 = .ok (.lcmp, 1) := dk_148 (dk_at dksL_law_39 16 rfl rfl)
theorem dL_law_1156 : decode cL_law 1156 = .ok (.ifCond .eq 5, 3) := dk_153 0 5 (dk_at dksL_law_39 17 rfl rfl)
theorem dL_law_1159 : decode cL_law 1159 = .ok (.iconst 0, 1) := dk_3 (dk_at dksL_law_39 20 rfl rfl)
theorem dL_law_1160 : decode cL_law 1160 = .ok (.ireturn, 1) := dk_172 (dk_at dksL_law_39 21 rfl rfl)
theorem dL_law_1161 : decode cL_law 1161 = .ok (.goto 1796, 3) := dk_167 7 4 (dk_at dksL_law_40 0 rfl rfl)
theorem dL_law_1164 : decode cL_law 1164 = .ok (.aload_n 1, 1) := dk_43 (dk_at dksL_law_40 3 rfl rfl)
theorem dL_law_1165 : decode cL_law 1165 = .ok (.aload_n 0, 1) := dk_42 (dk_at dksL_law_40 4 rfl rfl)
theorem dL_law_1166 : decode cL_law 1166 = .ok (.iload 4, 2) := dk_21 4 (dk_at dksL_law_40 5 rfl rfl)
theorem dL_law_1168 : decode cL_law 1168 = .ok (.iconst 1, 1) := dk_4 (dk_at dksL_law_40 7 rfl rfl)
theorem dL_law_1169 : decode cL_law 1169 = .ok (.iadd, 1) := dk_96 (dk_at dksL_law_40 8 rfl rfl)
theorem dL_law_1170 : decode cL_law 1170 = .ok (.iaload, 1) := dk_46 (dk_at dksL_law_40 9 rfl rfl)
theorem dL_law_1171 : decode cL_law 1171 = .ok (.aload_n 3, 1) := dk_45 (dk_at dksL_law_40 10 rfl rfl)
theorem dL_law_1172 : decode cL_law 1172 = .ok (.invokestatic 186, 3) := dk_184 0 186 (dk_at dksL_law_40 11 rfl rfl)
theorem dL_law_1175 : decode cL_law 1175 = .ok (.istore 5, 2) := dk_54 5 (dk_at dksL_law_40 14 rfl rfl)
theorem dL_law_1177 : decode cL_law 1177 = .ok (.aload_n 2, 1) := dk_44 (dk_at dksL_law_40 16 rfl rfl)
theorem dL_law_1178 : decode cL_law 1178 = .ok (.aload_n 0, 1) := dk_42 (dk_at dksL_law_40 17 rfl rfl)
theorem dL_law_1179 : decode cL_law 1179 = .ok (.iload 4, 2) := dk_21 4 (dk_at dksL_law_40 18 rfl rfl)
theorem dL_law_1181 : decode cL_law 1181 = .ok (.iconst 1, 1) := dk_4 (dk_at dksL_law_40 20 rfl rfl)
theorem dL_law_1182 : decode cL_law 1182 = .ok (.iadd, 1) := dk_96 (dk_at dksL_law_40 21 rfl rfl)
theorem dL_law_1183 : decode cL_law 1183 = .ok (.iaload, 1) := dk_46 (dk_at dksL_law_40 22 rfl rfl)
theorem dL_law_1184 : decode cL_law 1184 = .ok (.invokevirtual 188, 3) := dk_182 0 188 (dk_at dksL_law_41 0 rfl rfl)
theorem dL_law_1187 : decode cL_law 1187 = .ok (.istore 6, 2) := dk_54 6 (dk_at dksL_law_41 3 rfl rfl)
theorem dL_law_1189 : decode cL_law 1189 = .ok (.aload_n 2, 1) := dk_44 (dk_at dksL_law_41 5 rfl rfl)
theorem dL_law_1190 : decode cL_law 1190 = .ok (.invokevirtual 145, 3) := dk_182 0 145 (dk_at dksL_law_41 6 rfl rfl)
theorem dL_law_1193 : decode cL_law 1193 = .ok (.iload 5, 2) := dk_21 5 (dk_at dksL_law_41 9 rfl rfl)
theorem dL_law_1195 : decode cL_law 1195 = .ok (.if_icmp .eq 5, 3) := dk_159 0 5 (dk_at dksL_law_41 11 rfl rfl)
theorem dL_law_1198 : decode cL_law 1198 = .ok (.iconst 0, 1) := dk_3 (dk_at dksL_law_41 14 rfl rfl)
theorem dL_law_1199 : decode cL_law 1199 = .ok (.ireturn, 1) := dk_172 (dk_at dksL_law_41 15 rfl rfl)
theorem dL_law_1200 : decode cL_law 1200 = .ok (.iload 5, 2) := dk_21 5 (dk_at dksL_law_41 16 rfl rfl)
theorem dL_law_1202 : decode cL_law 1202 = .ok (.ifCond .ne 15, 3) := dk_154 0 15 (dk_at dksL_law_41 18 rfl rfl)
theorem dL_law_1205 : decode cL_law 1205 = .ok (.aload_n 3, 1) := dk_45 (dk_at dksL_law_41 21 rfl rfl)
theorem dL_law_1206 : decode cL_law 1206 = .ok (.iconst 0, 1) := dk_3 (dk_at dksL_law_41 22 rfl rfl)
theorem dL_law_1207 : decode cL_law 1207 = .ok (.laload, 1) := dk_47 (dk_at dksL_law_41 23 rfl rfl)
theorem dL_law_1208 : decode cL_law 1208 = .ok (.iload 6, 2) := dk_21 6 (dk_at dksL_law_42 0 rfl rfl)
theorem dL_law_1210 : decode cL_law 1210 = .ok (.i2l, 1) := dk_133 (dk_at dksL_law_42 2 rfl rfl)
theorem dL_law_1211 : decode cL_law 1211 = .ok (.lcmp, 1) := dk_148 (dk_at dksL_law_42 3 rfl rfl)
theorem dL_law_1212 : decode cL_law 1212 = .ok (.ifCond .eq 5, 3) := dk_153 0 5 (dk_at dksL_law_42 4 rfl rfl)
theorem dL_law_1215 : decode cL_law 1215 = .ok (.iconst 0, 1) := dk_3 (dk_at dksL_law_42 7 rfl rfl)
theorem dL_law_1216 : decode cL_law 1216 = .ok (.ireturn, 1) := dk_172 (dk_at dksL_law_42 8 rfl rfl)
theorem dL_law_1217 : decode cL_law 1217 = .ok (.goto 1740, 3) := dk_167 6 204 (dk_at dksL_law_42 9 rfl rfl)
theorem dL_law_1220 : decode cL_law 1220 = .ok (.aload_n 1, 1) := dk_43 (dk_at dksL_law_42 12 rfl rfl)
theorem dL_law_1221 : decode cL_law 1221 = .ok (.invokevirtual 189, 3) := dk_182 0 189 (dk_at dksL_law_42 13 rfl rfl)
theorem dL_law_1224 : decode cL_law 1224 = .ok (.aload_n 2, 1) := dk_44 (dk_at dksL_law_42 16 rfl rfl)
theorem dL_law_1225 : decode cL_law 1225 = .ok (.invokevirtual 192, 3) := dk_182 0 192 (dk_at dksL_law_42 17 rfl rfl)
theorem dL_law_1228 : decode cL_law 1228 = .ok (.if_icmp .eq 1729, 3) := dk_159 6 193 (dk_at dksL_law_42 20 rfl rfl)
theorem dL_law_1231 : decode cL_law 1231 = .ok (.iconst 0, 1) := dk_3 (dk_at dksL_law_42 23 rfl rfl)
theorem dL_law_1232 : decode cL_law 1232 = .ok (.ireturn, 1) := dk_172 (dk_at dksL_law_43 0 rfl rfl)
theorem dL_law_1233 : decode cL_law 1233 = .ok (.aload_n 1, 1) := dk_43 (dk_at dksL_law_43 1 rfl rfl)
theorem dL_law_1234 : decode cL_law 1234 = .ok (.invokevirtual 193, 3) := dk_182 0 193 (dk_at dksL_law_43 2 rfl rfl)
theorem dL_law_1237 : decode cL_law 1237 = .ok (.aload_n 2, 1) := dk_44 (dk_at dksL_law_43 5 rfl rfl)
theorem dL_law_1238 : decode cL_law 1238 = .ok (.invokevirtual 196, 3) := dk_182 0 196 (dk_at dksL_law_43 6 rfl rfl)
theorem dL_law_1241 : decode cL_law 1241 = .ok (.if_icmp .eq 1716, 3) := dk_159 6 180 (dk_at dksL_law_43 9 rfl rfl)
theorem dL_law_1244 : decode cL_law 1244 = .ok (.iconst 0, 1) := dk_3 (dk_at dksL_law_43 12 rfl rfl)
theorem dL_law_1245 : decode cL_law 1245 = .ok (.ireturn, 1) := dk_172 (dk_at dksL_law_43 13 rfl rfl)
theorem dL_law_1246 : decode cL_law 1246 = .ok (.aload_n 1, 1) := dk_43 (dk_at dksL_law_43 14 rfl rfl)
theorem dL_law_1247 : decode cL_law 1247 = .ok (.invokevirtual 197, 3) := dk_182 0 197 (dk_at dksL_law_43 15 rfl rfl)
theorem dL_law_1250 : decode cL_law 1250 = .ok (.aload_n 2, 1) := dk_44 (dk_at dksL_law_43 18 rfl rfl)
theorem dL_law_1251 : decode cL_law 1251 = .ok (.invokevirtual 200, 3) := dk_182 0 200 (dk_at dksL_law_43 19 rfl rfl)
theorem dL_law_1254 : decode cL_law 1254 = .ok (.if_icmp .eq 1703, 3) := dk_159 6 167 (dk_at dksL_law_44 0 rfl rfl)
theorem dL_law_1257 : decode cL_law 1257 = .ok (.iconst 0, 1) := dk_3 (dk_at dksL_law_44 3 rfl rfl)
theorem dL_law_1258 : decode cL_law 1258 = .ok (.ireturn, 1) := dk_172 (dk_at dksL_law_44 4 rfl rfl)
theorem dL_law_1259 : decode cL_law 1259 = .ok (.aload_n 1, 1) := dk_43 (dk_at dksL_law_44 5 rfl rfl)
theorem dL_law_1260 : decode cL_law 1260 = .ok (.aload_n 3, 1) := dk_45 (dk_at dksL_law_44 6 rfl rfl)
theorem dL_law_1261 : decode cL_law 1261 = .ok (.invokestatic 201, 3) := dk_184 0 201 (dk_at dksL_law_44 7 rfl rfl)
theorem dL_law_1264 : decode cL_law 1264 = .ok (.istore 5, 2) := dk_54 5 (dk_at dksL_law_44 10 rfl rfl)
theorem dL_law_1266 : decode cL_law 1266 = .ok (.aload_n 2, 1) := dk_44 (dk_at dksL_law_44 12 rfl rfl)
theorem dL_law_1267 : decode cL_law 1267 = .ok (.invokevirtual 204, 3) := dk_182 0 204 (dk_at dksL_law_44 13 rfl rfl)
theorem dL_law_1270 : decode cL_law 1270 = .ok (.istore 6, 2) := dk_54 6 (dk_at dksL_law_44 16 rfl rfl)
theorem dL_law_1272 : decode cL_law 1272 = .ok (.aload_n 2, 1) := dk_44 (dk_at dksL_law_44 18 rfl rfl)
theorem dL_law_1273 : decode cL_law 1273 = .ok (.invokevirtual 145, 3) := dk_182 0 145 (dk_at dksL_law_44 19 rfl rfl)
theorem dL_law_1276 : decode cL_law 1276 = .ok (.iload 5, 2) := dk_21 5 (dk_at dksL_law_44 22 rfl rfl)
theorem dL_law_1278 : decode cL_law 1278 = .ok (.if_icmp .eq 5, 3) := dk_159 0 5 (dk_at dksL_law_45 0 rfl rfl)
theorem dL_law_1281 : decode cL_law 1281 = .ok (.iconst 0, 1) := dk_3 (dk_at dksL_law_45 3 rfl rfl)
theorem dL_law_1282 : decode cL_law 1282 = .ok (.ireturn, 1) := dk_172 (dk_at dksL_law_45 4 rfl rfl)
theorem dL_law_1283 : decode cL_law 1283 = .ok (.iload 5, 2) := dk_21 5 (dk_at dksL_law_45 5 rfl rfl)
theorem dL_law_1285 : decode cL_law 1285 = .ok (.ifCond .ne 15, 3) := dk_154 0 15 (dk_at dksL_law_45 7 rfl rfl)
theorem dL_law_1288 : decode cL_law 1288 = .ok (.aload_n 3, 1) := dk_45 (dk_at dksL_law_45 10 rfl rfl)
theorem dL_law_1289 : decode cL_law 1289 = .ok (.iconst 0, 1) := dk_3 (dk_at dksL_law_45 11 rfl rfl)
theorem dL_law_1290 : decode cL_law 1290 = .ok (.laload, 1) := dk_47 (dk_at dksL_law_45 12 rfl rfl)
theorem dL_law_1291 : decode cL_law 1291 = .ok (.iload 6, 2) := dk_21 6 (dk_at dksL_law_45 13 rfl rfl)
theorem dL_law_1293 : decode cL_law 1293 = .ok (.i2l, 1) := dk_133 (dk_at dksL_law_45 15 rfl rfl)
theorem dL_law_1294 : decode cL_law 1294 = .ok (.lcmp, 1) := dk_148 (dk_at dksL_law_45 16 rfl rfl)
theorem dL_law_1295 : decode cL_law 1295 = .ok (.ifCond .eq 5, 3) := dk_153 0 5 (dk_at dksL_law_45 17 rfl rfl)
theorem dL_law_1298 : decode cL_law 1298 = .ok (.iconst 0, 1) := dk_3 (dk_at dksL_law_45 20 rfl rfl)
theorem dL_law_1299 : decode cL_law 1299 = .ok (.ireturn, 1) := dk_172 (dk_at dksL_law_45 21 rfl rfl)
theorem dL_law_1300 : decode cL_law 1300 = .ok (.goto 1657, 3) := dk_167 6 121 (dk_at dksL_law_46 0 rfl rfl)
theorem dL_law_1303 : decode cL_law 1303 = .ok (.aload_n 1, 1) := dk_43 (dk_at dksL_law_46 3 rfl rfl)
theorem dL_law_1304 : decode cL_law 1304 = .ok (.invokevirtual 205, 3) := dk_182 0 205 (dk_at dksL_law_46 4 rfl rfl)
theorem dL_law_1307 : decode cL_law 1307 = .ok (.aload_n 2, 1) := dk_44 (dk_at dksL_law_46 7 rfl rfl)
theorem dL_law_1308 : decode cL_law 1308 = .ok (.invokevirtual 208, 3) := dk_182 0 208 (dk_at dksL_law_46 8 rfl rfl)
theorem dL_law_1311 : decode cL_law 1311 = .ok (.if_icmp .eq 1646, 3) := dk_159 6 110 (dk_at dksL_law_46 11 rfl rfl)
theorem dL_law_1314 : decode cL_law 1314 = .ok (.iconst 0, 1) := dk_3 (dk_at dksL_law_46 14 rfl rfl)
theorem dL_law_1315 : decode cL_law 1315 = .ok (.ireturn, 1) := dk_172 (dk_at dksL_law_46 15 rfl rfl)
theorem dL_law_1316 : decode cL_law 1316 = .ok (.aload_n 1, 1) := dk_43 (dk_at dksL_law_46 16 rfl rfl)
theorem dL_law_1317 : decode cL_law 1317 = .ok (.invokevirtual 209, 3) := dk_182 0 209 (dk_at dksL_law_46 17 rfl rfl)
theorem dL_law_1320 : decode cL_law 1320 = .ok (.aload_n 2, 1) := dk_44 (dk_at dksL_law_46 20 rfl rfl)
theorem dL_law_1321 : decode cL_law 1321 = .ok (.invokevirtual 212, 3) := dk_182 0 212 (dk_at dksL_law_46 21 rfl rfl)
theorem dL_law_1324 : decode cL_law 1324 = .ok (.if_icmp .eq 1633, 3) := dk_159 6 97 (dk_at dksL_law_47 0 rfl rfl)
theorem dL_law_1327 : decode cL_law 1327 = .ok (.iconst 0, 1) := dk_3 (dk_at dksL_law_47 3 rfl rfl)
theorem dL_law_1328 : decode cL_law 1328 = .ok (.ireturn, 1) := dk_172 (dk_at dksL_law_47 4 rfl rfl)
theorem dL_law_1329 : decode cL_law 1329 = .ok (.aload_n 1, 1) := dk_43 (dk_at dksL_law_47 5 rfl rfl)
theorem dL_law_1330 : decode cL_law 1330 = .ok (.invokevirtual 213, 3) := dk_182 0 213 (dk_at dksL_law_47 6 rfl rfl)
theorem dL_law_1333 : decode cL_law 1333 = .ok (.aload_n 2, 1) := dk_44 (dk_at dksL_law_47 9 rfl rfl)
theorem dL_law_1334 : decode cL_law 1334 = .ok (.invokevirtual 216, 3) := dk_182 0 216 (dk_at dksL_law_47 10 rfl rfl)
theorem dL_law_1337 : decode cL_law 1337 = .ok (.if_icmp .eq 1620, 3) := dk_159 6 84 (dk_at dksL_law_47 13 rfl rfl)
theorem dL_law_1340 : decode cL_law 1340 = .ok (.iconst 0, 1) := dk_3 (dk_at dksL_law_47 16 rfl rfl)
theorem dL_law_1341 : decode cL_law 1341 = .ok (.ireturn, 1) := dk_172 (dk_at dksL_law_47 17 rfl rfl)
theorem dL_law_1342 : decode cL_law 1342 = .ok (.aload_n 1, 1) := dk_43 (dk_at dksL_law_47 18 rfl rfl)
theorem dL_law_1343 : decode cL_law 1343 = .ok (.invokevirtual 217, 3) := dk_182 0 217 (dk_at dksL_law_47 19 rfl rfl)
theorem dL_law_1346 : decode cL_law 1346 = .ok (.aload_n 2, 1) := dk_44 (dk_at dksL_law_47 22 rfl rfl)
theorem dL_law_1347 : decode cL_law 1347 = .ok (.invokevirtual 220, 3) := dk_182 0 220 (dk_at dksL_law_48 0 rfl rfl)
theorem dL_law_1350 : decode cL_law 1350 = .ok (.if_icmp .eq 1607, 3) := dk_159 6 71 (dk_at dksL_law_48 3 rfl rfl)
theorem dL_law_1353 : decode cL_law 1353 = .ok (.iconst 0, 1) := dk_3 (dk_at dksL_law_48 6 rfl rfl)
theorem dL_law_1354 : decode cL_law 1354 = .ok (.ireturn, 1) := dk_172 (dk_at dksL_law_48 7 rfl rfl)
theorem dL_law_1355 : decode cL_law 1355 = .ok (.aload_n 1, 1) := dk_43 (dk_at dksL_law_48 8 rfl rfl)
theorem dL_law_1356 : decode cL_law 1356 = .ok (.invokevirtual 221, 3) := dk_182 0 221 (dk_at dksL_law_48 9 rfl rfl)
theorem dL_law_1359 : decode cL_law 1359 = .ok (.aload_n 2, 1) := dk_44 (dk_at dksL_law_48 12 rfl rfl)
theorem dL_law_1360 : decode cL_law 1360 = .ok (.invokevirtual 224, 3) := dk_182 0 224 (dk_at dksL_law_48 13 rfl rfl)
theorem dL_law_1363 : decode cL_law 1363 = .ok (.if_icmp .eq 1594, 3) := dk_159 6 58 (dk_at dksL_law_48 16 rfl rfl)
theorem dL_law_1366 : decode cL_law 1366 = .ok (.iconst 0, 1) := dk_3 (dk_at dksL_law_48 19 rfl rfl)
theorem dL_law_1367 : decode cL_law 1367 = .ok (.ireturn, 1) := dk_172 (dk_at dksL_law_48 20 rfl rfl)
theorem dL_law_1368 : decode cL_law 1368 = .ok (.aload_n 1, 1) := dk_43 (dk_at dksL_law_48 21 rfl rfl)
theorem dL_law_1369 : decode cL_law 1369 = .ok (.invokevirtual 225, 3) := dk_182 0 225 (dk_at dksL_law_49 0 rfl rfl)
theorem dL_law_1372 : decode cL_law 1372 = .ok (.aload_n 2, 1) := dk_44 (dk_at dksL_law_49 3 rfl rfl)
theorem dL_law_1373 : decode cL_law 1373 = .ok (.invokevirtual 228, 3) := dk_182 0 228 (dk_at dksL_law_49 4 rfl rfl)
theorem dL_law_1376 : decode cL_law 1376 = .ok (.if_icmp .eq 1581, 3) := dk_159 6 45 (dk_at dksL_law_49 7 rfl rfl)
theorem dL_law_1379 : decode cL_law 1379 = .ok (.iconst 0, 1) := dk_3 (dk_at dksL_law_49 10 rfl rfl)
theorem dL_law_1380 : decode cL_law 1380 = .ok (.ireturn, 1) := dk_172 (dk_at dksL_law_49 11 rfl rfl)
theorem dL_law_1381 : decode cL_law 1381 = .ok (.aload_n 1, 1) := dk_43 (dk_at dksL_law_49 12 rfl rfl)
theorem dL_law_1382 : decode cL_law 1382 = .ok (.invokevirtual 229, 3) := dk_182 0 229 (dk_at dksL_law_49 13 rfl rfl)
theorem dL_law_1385 : decode cL_law 1385 = .ok (.aload_n 2, 1) := dk_44 (dk_at dksL_law_49 16 rfl rfl)
theorem dL_law_1386 : decode cL_law 1386 = .ok (.invokevirtual 232, 3) := dk_182 0 232 (dk_at dksL_law_49 17 rfl rfl)
theorem dL_law_1389 : decode cL_law 1389 = .ok (.if_icmp .eq 1568, 3) := dk_159 6 32 (dk_at dksL_law_49 20 rfl rfl)
theorem dL_law_1392 : decode cL_law 1392 = .ok (.iconst 0, 1) := dk_3 (dk_at dksL_law_49 23 rfl rfl)
theorem dL_law_1393 : decode cL_law 1393 = .ok (.ireturn, 1) := dk_172 (dk_at dksL_law_50 0 rfl rfl)
theorem dL_law_1394 : decode cL_law 1394 = .ok (.aload_n 1, 1) := dk_43 (dk_at dksL_law_50 1 rfl rfl)
theorem dL_law_1395 : decode cL_law 1395 = .ok (.aload_n 0, 1) := dk_42 (dk_at dksL_law_50 2 rfl rfl)
theorem dL_law_1396 : decode cL_law 1396 = .ok (.iload 4, 2) := dk_21 4 (dk_at dksL_law_50 3 rfl rfl)
theorem dL_law_1398 : decode cL_law 1398 = .ok (.iconst 1, 1) := dk_4 (dk_at dksL_law_50 5 rfl rfl)
theorem dL_law_1399 : decode cL_law 1399 = .ok (.iadd, 1) := dk_96 (dk_at dksL_law_50 6 rfl rfl)
theorem dL_law_1400 : decode cL_law 1400 = .ok (.iaload, 1) := dk_46 (dk_at dksL_law_50 7 rfl rfl)
theorem dL_law_1401 : decode cL_law 1401 = .ok (.aload_n 3, 1) := dk_45 (dk_at dksL_law_50 8 rfl rfl)
theorem dL_law_1402 : decode cL_law 1402 = .ok (.invokestatic 233, 3) := dk_184 0 233 (dk_at dksL_law_50 9 rfl rfl)
theorem dL_law_1405 : decode cL_law 1405 = .ok (.istore 5, 2) := dk_54 5 (dk_at dksL_law_50 12 rfl rfl)
theorem dL_law_1407 : decode cL_law 1407 = .ok (.aload_n 2, 1) := dk_44 (dk_at dksL_law_50 14 rfl rfl)
theorem dL_law_1408 : decode cL_law 1408 = .ok (.aload_n 0, 1) := dk_42 (dk_at dksL_law_50 15 rfl rfl)
theorem dL_law_1409 : decode cL_law 1409 = .ok (.iload 4, 2) := dk_21 4 (dk_at dksL_law_50 16 rfl rfl)
theorem dL_law_1411 : decode cL_law 1411 = .ok (.iconst 1, 1) := dk_4 (dk_at dksL_law_50 18 rfl rfl)
theorem dL_law_1412 : decode cL_law 1412 = .ok (.iadd, 1) := dk_96 (dk_at dksL_law_50 19 rfl rfl)
theorem dL_law_1413 : decode cL_law 1413 = .ok (.iaload, 1) := dk_46 (dk_at dksL_law_50 20 rfl rfl)
theorem dL_law_1414 : decode cL_law 1414 = .ok (.invokevirtual 235, 3) := dk_182 0 235 (dk_at dksL_law_50 21 rfl rfl)
theorem dL_law_1417 : decode cL_law 1417 = .ok (.istore 6, 2) := dk_54 6 (dk_at dksL_law_51 0 rfl rfl)
theorem dL_law_1419 : decode cL_law 1419 = .ok (.aload_n 2, 1) := dk_44 (dk_at dksL_law_51 2 rfl rfl)
theorem dL_law_1420 : decode cL_law 1420 = .ok (.invokevirtual 145, 3) := dk_182 0 145 (dk_at dksL_law_51 3 rfl rfl)
theorem dL_law_1423 : decode cL_law 1423 = .ok (.iload 5, 2) := dk_21 5 (dk_at dksL_law_51 6 rfl rfl)
theorem dL_law_1425 : decode cL_law 1425 = .ok (.if_icmp .eq 5, 3) := dk_159 0 5 (dk_at dksL_law_51 8 rfl rfl)
theorem dL_law_1428 : decode cL_law 1428 = .ok (.iconst 0, 1) := dk_3 (dk_at dksL_law_51 11 rfl rfl)
theorem dL_law_1429 : decode cL_law 1429 = .ok (.ireturn, 1) := dk_172 (dk_at dksL_law_51 12 rfl rfl)
theorem dL_law_1430 : decode cL_law 1430 = .ok (.iload 5, 2) := dk_21 5 (dk_at dksL_law_51 13 rfl rfl)
theorem dL_law_1432 : decode cL_law 1432 = .ok (.ifCond .ne 15, 3) := dk_154 0 15 (dk_at dksL_law_51 15 rfl rfl)
theorem dL_law_1435 : decode cL_law 1435 = .ok (.aload_n 3, 1) := dk_45 (dk_at dksL_law_51 18 rfl rfl)
theorem dL_law_1436 : decode cL_law 1436 = .ok (.iconst 0, 1) := dk_3 (dk_at dksL_law_51 19 rfl rfl)
theorem dL_law_1437 : decode cL_law 1437 = .ok (.laload, 1) := dk_47 (dk_at dksL_law_51 20 rfl rfl)
theorem dL_law_1438 : decode cL_law 1438 = .ok (.iload 6, 2) := dk_21 6 (dk_at dksL_law_51 21 rfl rfl)
theorem dL_law_1440 : decode cL_law 1440 = .ok (.i2l, 1) := dk_133 (dk_at dksL_law_51 23 rfl rfl)
theorem dL_law_1441 : decode cL_law 1441 = .ok (.lcmp, 1) := dk_148 (dk_at dksL_law_52 0 rfl rfl)
theorem dL_law_1442 : decode cL_law 1442 = .ok (.ifCond .eq 5, 3) := dk_153 0 5 (dk_at dksL_law_52 1 rfl rfl)
theorem dL_law_1445 : decode cL_law 1445 = .ok (.iconst 0, 1) := dk_3 (dk_at dksL_law_52 4 rfl rfl)
theorem dL_law_1446 : decode cL_law 1446 = .ok (.ireturn, 1) := dk_172 (dk_at dksL_law_52 5 rfl rfl)
theorem dL_law_1447 : decode cL_law 1447 = .ok (.goto 1510, 3) := dk_167 5 230 (dk_at dksL_law_52 6 rfl rfl)
theorem dL_law_1450 : decode cL_law 1450 = .ok (.aload_n 1, 1) := dk_43 (dk_at dksL_law_52 9 rfl rfl)
theorem dL_law_1451 : decode cL_law 1451 = .ok (.aload_n 0, 1) := dk_42 (dk_at dksL_law_52 10 rfl rfl)
theorem dL_law_1452 : decode cL_law 1452 = .ok (.iload 4, 2) := dk_21 4 (dk_at dksL_law_52 11 rfl rfl)
theorem dL_law_1454 : decode cL_law 1454 = .ok (.iconst 1, 1) := dk_4 (dk_at dksL_law_52 13 rfl rfl)
theorem dL_law_1455 : decode cL_law 1455 = .ok (.iadd, 1) := dk_96 (dk_at dksL_law_52 14 rfl rfl)
theorem dL_law_1456 : decode cL_law 1456 = .ok (.iaload, 1) := dk_46 (dk_at dksL_law_52 15 rfl rfl)
theorem dL_law_1457 : decode cL_law 1457 = .ok (.aload_n 3, 1) := dk_45 (dk_at dksL_law_52 16 rfl rfl)
theorem dL_law_1458 : decode cL_law 1458 = .ok (.invokestatic 236, 3) := dk_184 0 236 (dk_at dksL_law_52 17 rfl rfl)
theorem dL_law_1461 : decode cL_law 1461 = .ok (.istore 5, 2) := dk_54 5 (dk_at dksL_law_52 20 rfl rfl)
theorem dL_law_1463 : decode cL_law 1463 = .ok (.aload_n 2, 1) := dk_44 (dk_at dksL_law_52 22 rfl rfl)
theorem dL_law_1464 : decode cL_law 1464 = .ok (.aload_n 0, 1) := dk_42 (dk_at dksL_law_52 23 rfl rfl)
theorem dL_law_1465 : decode cL_law 1465 = .ok (.iload 4, 2) := dk_21 4 (dk_at dksL_law_53 0 rfl rfl)
theorem dL_law_1467 : decode cL_law 1467 = .ok (.iconst 1, 1) := dk_4 (dk_at dksL_law_53 2 rfl rfl)
theorem dL_law_1468 : decode cL_law 1468 = .ok (.iadd, 1) := dk_96 (dk_at dksL_law_53 3 rfl rfl)
theorem dL_law_1469 : decode cL_law 1469 = .ok (.iaload, 1) := dk_46 (dk_at dksL_law_53 4 rfl rfl)
theorem dL_law_1470 : decode cL_law 1470 = .ok (.invokevirtual 238, 3) := dk_182 0 238 (dk_at dksL_law_53 5 rfl rfl)
theorem dL_law_1473 : decode cL_law 1473 = .ok (.istore 6, 2) := dk_54 6 (dk_at dksL_law_53 8 rfl rfl)
theorem dL_law_1475 : decode cL_law 1475 = .ok (.aload_n 2, 1) := dk_44 (dk_at dksL_law_53 10 rfl rfl)
theorem dL_law_1476 : decode cL_law 1476 = .ok (.invokevirtual 145, 3) := dk_182 0 145 (dk_at dksL_law_53 11 rfl rfl)
theorem dL_law_1479 : decode cL_law 1479 = .ok (.iload 5, 2) := dk_21 5 (dk_at dksL_law_53 14 rfl rfl)
theorem dL_law_1481 : decode cL_law 1481 = .ok (.if_icmp .eq 5, 3) := dk_159 0 5 (dk_at dksL_law_53 16 rfl rfl)
theorem dL_law_1484 : decode cL_law 1484 = .ok (.iconst 0, 1) := dk_3 (dk_at dksL_law_53 19 rfl rfl)
theorem dL_law_1485 : decode cL_law 1485 = .ok (.ireturn, 1) := dk_172 (dk_at dksL_law_53 20 rfl rfl)
theorem dL_law_1486 : decode cL_law 1486 = .ok (.iload 5, 2) := dk_21 5 (dk_at dksL_law_53 21 rfl rfl)
theorem dL_law_1488 : decode cL_law 1488 = .ok (.ifCond .ne 15, 3) := dk_154 0 15 (dk_at dksL_law_54 0 rfl rfl)
theorem dL_law_1491 : decode cL_law 1491 = .ok (.aload_n 3, 1) := dk_45 (dk_at dksL_law_54 3 rfl rfl)
theorem dL_law_1492 : decode cL_law 1492 = .ok (.iconst 0, 1) := dk_3 (dk_at dksL_law_54 4 rfl rfl)
theorem dL_law_1493 : decode cL_law 1493 = .ok (.laload, 1) := dk_47 (dk_at dksL_law_54 5 rfl rfl)
theorem dL_law_1494 : decode cL_law 1494 = .ok (.iload 6, 2) := dk_21 6 (dk_at dksL_law_54 6 rfl rfl)
theorem dL_law_1496 : decode cL_law 1496 = .ok (.i2l, 1) := dk_133 (dk_at dksL_law_54 8 rfl rfl)
theorem dL_law_1497 : decode cL_law 1497 = .ok (.lcmp, 1) := dk_148 (dk_at dksL_law_54 9 rfl rfl)
theorem dL_law_1498 : decode cL_law 1498 = .ok (.ifCond .eq 5, 3) := dk_153 0 5 (dk_at dksL_law_54 10 rfl rfl)
theorem dL_law_1501 : decode cL_law 1501 = .ok (.iconst 0, 1) := dk_3 (dk_at dksL_law_54 13 rfl rfl)
theorem dL_law_1502 : decode cL_law 1502 = .ok (.ireturn, 1) := dk_172 (dk_at dksL_law_54 14 rfl rfl)
theorem dL_law_1503 : decode cL_law 1503 = .ok (.goto 1454, 3) := dk_167 5 174 (dk_at dksL_law_54 15 rfl rfl)
theorem dL_law_1506 : decode cL_law 1506 = .ok (.aload_n 1, 1) := dk_43 (dk_at dksL_law_54 18 rfl rfl)
theorem dL_law_1507 : decode cL_law 1507 = .ok (.aload_n 0, 1) := dk_42 (dk_at dksL_law_54 19 rfl rfl)
theorem dL_law_1508 : decode cL_law 1508 = .ok (.iload 4, 2) := dk_21 4 (dk_at dksL_law_54 20 rfl rfl)
theorem dL_law_1510 : decode cL_law 1510 = .ok (.iconst 1, 1) := dk_4 (dk_at dksL_law_54 22 rfl rfl)
theorem dL_law_1511 : decode cL_law 1511 = .ok (.iadd, 1) := dk_96 (dk_at dksL_law_54 23 rfl rfl)
theorem dL_law_1512 : decode cL_law 1512 = .ok (.iaload, 1) := dk_46 (dk_at dksL_law_55 0 rfl rfl)
theorem dL_law_1513 : decode cL_law 1513 = .ok (.aload_n 3, 1) := dk_45 (dk_at dksL_law_55 1 rfl rfl)
theorem dL_law_1514 : decode cL_law 1514 = .ok (.invokestatic 239, 3) := dk_184 0 239 (dk_at dksL_law_55 2 rfl rfl)
theorem dL_law_1517 : decode cL_law 1517 = .ok (.istore 5, 2) := dk_54 5 (dk_at dksL_law_55 5 rfl rfl)
theorem dL_law_1519 : decode cL_law 1519 = .ok (.aload_n 2, 1) := dk_44 (dk_at dksL_law_55 7 rfl rfl)
theorem dL_law_1520 : decode cL_law 1520 = .ok (.aload_n 0, 1) := dk_42 (dk_at dksL_law_55 8 rfl rfl)
theorem dL_law_1521 : decode cL_law 1521 = .ok (.iload 4, 2) := dk_21 4 (dk_at dksL_law_55 9 rfl rfl)
theorem dL_law_1523 : decode cL_law 1523 = .ok (.iconst 1, 1) := dk_4 (dk_at dksL_law_55 11 rfl rfl)
theorem dL_law_1524 : decode cL_law 1524 = .ok (.iadd, 1) := dk_96 (dk_at dksL_law_55 12 rfl rfl)
theorem dL_law_1525 : decode cL_law 1525 = .ok (.iaload, 1) := dk_46 (dk_at dksL_law_55 13 rfl rfl)
theorem dL_law_1526 : decode cL_law 1526 = .ok (.invokevirtual 241, 3) := dk_182 0 241 (dk_at dksL_law_55 14 rfl rfl)
theorem dL_law_1529 : decode cL_law 1529 = .ok (.istore 6, 2) := dk_54 6 (dk_at dksL_law_55 17 rfl rfl)
theorem dL_law_1531 : decode cL_law 1531 = .ok (.aload_n 2, 1) := dk_44 (dk_at dksL_law_55 19 rfl rfl)
theorem dL_law_1532 : decode cL_law 1532 = .ok (.invokevirtual 145, 3) := dk_182 0 145 (dk_at dksL_law_55 20 rfl rfl)
theorem dL_law_1535 : decode cL_law 1535 = .ok (.iload 5, 2) := dk_21 5 (dk_at dksL_law_56 0 rfl rfl)
theorem dL_law_1537 : decode cL_law 1537 = .ok (.if_icmp .eq 5, 3) := dk_159 0 5 (dk_at dksL_law_56 2 rfl rfl)
theorem dL_law_1540 : decode cL_law 1540 = .ok (.iconst 0, 1) := dk_3 (dk_at dksL_law_56 5 rfl rfl)
theorem dL_law_1541 : decode cL_law 1541 = .ok (.ireturn, 1) := dk_172 (dk_at dksL_law_56 6 rfl rfl)
theorem dL_law_1542 : decode cL_law 1542 = .ok (.iload 5, 2) := dk_21 5 (dk_at dksL_law_56 7 rfl rfl)
theorem dL_law_1544 : decode cL_law 1544 = .ok (.ifCond .ne 15, 3) := dk_154 0 15 (dk_at dksL_law_56 9 rfl rfl)
theorem dL_law_1547 : decode cL_law 1547 = .ok (.aload_n 3, 1) := dk_45 (dk_at dksL_law_56 12 rfl rfl)
theorem dL_law_1548 : decode cL_law 1548 = .ok (.iconst 0, 1) := dk_3 (dk_at dksL_law_56 13 rfl rfl)
theorem dL_law_1549 : decode cL_law 1549 = .ok (.laload, 1) := dk_47 (dk_at dksL_law_56 14 rfl rfl)
theorem dL_law_1550 : decode cL_law 1550 = .ok (.iload 6, 2) := dk_21 6 (dk_at dksL_law_56 15 rfl rfl)
theorem dL_law_1552 : decode cL_law 1552 = .ok (.i2l, 1) := dk_133 (dk_at dksL_law_56 17 rfl rfl)
theorem dL_law_1553 : decode cL_law 1553 = .ok (.lcmp, 1) := dk_148 (dk_at dksL_law_56 18 rfl rfl)
theorem dL_law_1554 : decode cL_law 1554 = .ok (.ifCond .eq 5, 3) := dk_153 0 5 (dk_at dksL_law_56 19 rfl rfl)
theorem dL_law_1557 : decode cL_law 1557 = .ok (.iconst 0, 1) := dk_3 (dk_at dksL_law_56 22 rfl rfl)
theorem dL_law_1558 : decode cL_law 1558 = .ok (.ireturn, 1) := dk_172 (dk_at dksL_law_56 23 rfl rfl)
theorem dL_law_1559 : decode cL_law 1559 = .ok (.goto 1398, 3) := dk_167 5 118 (dk_at dksL_law_57 0 rfl rfl)
theorem dL_law_1562 : decode cL_law 1562 = .ok (.aload_n 1, 1) := dk_43 (dk_at dksL_law_57 3 rfl rfl)
theorem dL_law_1563 : decode cL_law 1563 = .ok (.aload_n 0, 1) := dk_42 (dk_at dksL_law_57 4 rfl rfl)
theorem dL_law_1564 : decode cL_law 1564 = .ok (.iload 4, 2) := dk_21 4 (dk_at dksL_law_57 5 rfl rfl)
theorem dL_law_1566 : decode cL_law 1566 = .ok (.iconst 1, 1) := dk_4 (dk_at dksL_law_57 7 rfl rfl)
theorem dL_law_1567 : decode cL_law 1567 = .ok (.iadd, 1) := dk_96 (dk_at dksL_law_57 8 rfl rfl)
theorem dL_law_1568 : decode cL_law 1568 = .ok (.iaload, 1) := dk_46 (dk_at dksL_law_57 9 rfl rfl)
theorem dL_law_1569 : decode cL_law 1569 = .ok (.aload_n 3, 1) := dk_45 (dk_at dksL_law_57 10 rfl rfl)
theorem dL_law_1570 : decode cL_law 1570 = .ok (.invokestatic 242, 3) := dk_184 0 242 (dk_at dksL_law_57 11 rfl rfl)
theorem dL_law_1573 : decode cL_law 1573 = .ok (.istore 5, 2) := dk_54 5 (dk_at dksL_law_57 14 rfl rfl)
theorem dL_law_1575 : decode cL_law 1575 = .ok (.aload_n 2, 1) := dk_44 (dk_at dksL_law_57 16 rfl rfl)
theorem dL_law_1576 : decode cL_law 1576 = .ok (.aload_n 0, 1) := dk_42 (dk_at dksL_law_57 17 rfl rfl)
theorem dL_law_1577 : decode cL_law 1577 = .ok (.iload 4, 2) := dk_21 4 (dk_at dksL_law_57 18 rfl rfl)
theorem dL_law_1579 : decode cL_law 1579 = .ok (.iconst 1, 1) := dk_4 (dk_at dksL_law_57 20 rfl rfl)
theorem dL_law_1580 : decode cL_law 1580 = .ok (.iadd, 1) := dk_96 (dk_at dksL_law_57 21 rfl rfl)
theorem dL_law_1581 : decode cL_law 1581 = .ok (.iaload, 1) := dk_46 (dk_at dksL_law_57 22 rfl rfl)
theorem dL_law_1582 : decode cL_law 1582 = .ok (.invokevirtual 244, 3) := dk_182 0 244 (dk_at dksL_law_58 0 rfl rfl)
theorem dL_law_1585 : decode cL_law 1585 = .ok (.istore 6, 2) := dk_54 6 (dk_at dksL_law_58 3 rfl rfl)
theorem dL_law_1587 : decode cL_law 1587 = .ok (.aload_n 2, 1) := dk_44 (dk_at dksL_law_58 5 rfl rfl)
theorem dL_law_1588 : decode cL_law 1588 = .ok (.invokevirtual 145, 3) := dk_182 0 145 (dk_at dksL_law_58 6 rfl rfl)
theorem dL_law_1591 : decode cL_law 1591 = .ok (.iload 5, 2) := dk_21 5 (dk_at dksL_law_58 9 rfl rfl)
theorem dL_law_1593 : decode cL_law 1593 = .ok (.if_icmp .eq 5, 3) := dk_159 0 5 (dk_at dksL_law_58 11 rfl rfl)
theorem dL_law_1596 : decode cL_law 1596 = .ok (.iconst 0, 1) := dk_3 (dk_at dksL_law_58 14 rfl rfl)
theorem dL_law_1597 : decode cL_law 1597 = .ok (.ireturn, 1) := dk_172 (dk_at dksL_law_58 15 rfl rfl)
theorem dL_law_1598 : decode cL_law 1598 = .ok (.iload 5, 2) := dk_21 5 (dk_at dksL_law_58 16 rfl rfl)
theorem dL_law_1600 : decode cL_law 1600 = .ok (.ifCond .ne 15, 3) := dk_154 0 15 (dk_at dksL_law_58 18 rfl rfl)
theorem dL_law_1603 : decode cL_law 1603 = .ok (.aload_n 3, 1) := dk_45 (dk_at dksL_law_58 21 rfl rfl)
theorem dL_law_1604 : decode cL_law 1604 = .ok (.iconst 0, 1) := dk_3 (dk_at dksL_law_58 22 rfl rfl)
theorem dL_law_1605 : decode cL_law 1605 = .ok (.laload, 1) := dk_47 (dk_at dksL_law_58 23 rfl rfl)
theorem dL_law_1606 : decode cL_law 1606 = .ok (.iload 6, 2) := dk_21 6 (dk_at dksL_law_59 0 rfl rfl)
theorem dL_law_1608 : decode cL_law 1608 = .ok (.i2l, 1) := dk_133 (dk_at dksL_law_59 2 rfl rfl)
theorem dL_law_1609 : decode cL_law 1609 = .ok (.lcmp, 1) := dk_148 (dk_at dksL_law_59 3 rfl rfl)
theorem dL_law_1610 : decode cL_law 1610 = .ok (.ifCond .eq 5, 3) := dk_153 0 5 (dk_at dksL_law_59 4 rfl rfl)
theorem dL_law_1613 : decode cL_law 1613 = .ok (.iconst 0, 1) := dk_3 (dk_at dksL_law_59 7 rfl rfl)
theorem dL_law_1614 : decode cL_law 1614 = .ok (.ireturn, 1) := dk_172 (dk_at dksL_law_59 8 rfl rfl)
theorem dL_law_1615 : decode cL_law 1615 = .ok (.goto 1342, 3) := dk_167 5 62 (dk_at dksL_law_59 9 rfl rfl)
theorem dL_law_1618 : decode cL_law 1618 = .ok (.aload_n 1, 1) := dk_43 (dk_at dksL_law_59 12 rfl rfl)
theorem dL_law_1619 : decode cL_law 1619 = .ok (.aload_n 0, 1) := dk_42 (dk_at dksL_law_59 13 rfl rfl)
theorem dL_law_1620 : decode cL_law 1620 = .ok (.iload 4, 2) := dk_21 4 (dk_at dksL_law_59 14 rfl rfl)
theorem dL_law_1622 : decode cL_law 1622 = .ok (.iconst 1, 1) := dk_4 (dk_at dksL_law_59 16 rfl rfl)
theorem dL_law_1623 : decode cL_law 1623 = .ok (.iadd, 1) := dk_96 (dk_at dksL_law_59 17 rfl rfl)
theorem dL_law_1624 : decode cL_law 1624 = .ok (.iaload, 1) := dk_46 (dk_at dksL_law_59 18 rfl rfl)
theorem dL_law_1625 : decode cL_law 1625 = .ok (.aload_n 3, 1) := dk_45 (dk_at dksL_law_59 19 rfl rfl)
theorem dL_law_1626 : decode cL_law 1626 = .ok (.invokestatic 245, 3) := dk_184 0 245 (dk_at dksL_law_59 20 rfl rfl)
theorem dL_law_1629 : decode cL_law 1629 = .ok (.istore 5, 2) := dk_54 5 (dk_at dksL_law_60 0 rfl rfl)
theorem dL_law_1631 : decode cL_law 1631 = .ok (.aload_n 2, 1) := dk_44 (dk_at dksL_law_60 2 rfl rfl)
theorem dL_law_1632 : decode cL_law 1632 = .ok (.aload_n 0, 1) := dk_42 (dk_at dksL_law_60 3 rfl rfl)
theorem dL_law_1633 : decode cL_law 1633 = .ok (.iload 4, 2) := dk_21 4 (dk_at dksL_law_60 4 rfl rfl)
theorem dL_law_1635 : decode cL_law 1635 = .ok (.iconst 1, 1) := dk_4 (dk_at dksL_law_60 6 rfl rfl)
theorem dL_law_1636 : decode cL_law 1636 = .ok (.iadd, 1) := dk_96 (dk_at dksL_law_60 7 rfl rfl)
theorem dL_law_1637 : decode cL_law 1637 = .ok (.iaload, 1) := dk_46 (dk_at dksL_law_60 8 rfl rfl)
theorem dL_law_1638 : decode cL_law 1638 = .ok (.invokevirtual 247, 3) := dk_182 0 247 (dk_at dksL_law_60 9 rfl rfl)
theorem dL_law_1641 : decode cL_law 1641 = .ok (.istore 6, 2) := dk_54 6 (dk_at dksL_law_60 12 rfl rfl)
theorem dL_law_1643 : decode cL_law 1643 = .ok (.aload_n 2, 1) := dk_44 (dk_at dksL_law_60 14 rfl rfl)
theorem dL_law_1644 : decode cL_law 1644 = .ok (.invokevirtual 145, 3) := dk_182 0 145 (dk_at dksL_law_60 15 rfl rfl)
theorem dL_law_1647 : decode cL_law 1647 = .ok (.iload 5, 2) := dk_21 5 (dk_at dksL_law_60 18 rfl rfl)
theorem dL_law_1649 : decode cL_law 1649 = .ok (.if_icmp .eq 5, 3) := dk_159 0 5 (dk_at dksL_law_60 20 rfl rfl)
theorem dL_law_1652 : decode cL_law 1652 = .ok (.iconst 0, 1) := dk_3 (dk_at dksL_law_60 23 rfl rfl)
theorem dL_law_1653 : decode cL_law 1653 = .ok (.ireturn, 1) := dk_172 (dk_at dksL_law_61 0 rfl rfl)
theorem dL_law_1654 : decode cL_law 1654 = .ok (.iload 5, 2) := dk_21 5 (dk_at dksL_law_61 1 rfl rfl)
theorem dL_law_1656 : decode cL_law 1656 = .ok (.ifCond .ne 15, 3) := dk_154 0 15 (dk_at dksL_law_61 3 rfl rfl)
theorem dL_law_1659 : decode cL_law 1659 = .ok (.aload_n 3, 1) := dk_45 (dk_at dksL_law_61 6 rfl rfl)
theorem dL_law_1660 : decode cL_law 1660 = .ok (.iconst 0, 1) := dk_3 (dk_at dksL_law_61 7 rfl rfl)
theorem dL_law_1661 : decode cL_law 1661 = .ok (.laload, 1) := dk_47 (dk_at dksL_law_61 8 rfl rfl)
theorem dL_law_1662 : decode cL_law 1662 = .ok (.iload 6, 2) := dk_21 6 (dk_at dksL_law_61 9 rfl rfl)
theorem dL_law_1664 : decode cL_law 1664 = .ok (.i2l, 1) := dk_133 (dk_at dksL_law_61 11 rfl rfl)
theorem dL_law_1665 : decode cL_law 1665 = .ok (.lcmp, 1) := dk_148 (dk_at dksL_law_61 12 rfl rfl)
theorem dL_law_1666 : decode cL_law 1666 = .ok (.ifCond .eq 5, 3) := dk_153 0 5 (dk_at dksL_law_61 13 rfl rfl)
theorem dL_law_1669 : decode cL_law 1669 = .ok (.iconst 0, 1) := dk_3 (dk_at dksL_law_61 16 rfl rfl)
theorem dL_law_1670 : decode cL_law 1670 = .ok (.ireturn, 1) := dk_172 (dk_at dksL_law_61 17 rfl rfl)
theorem dL_law_1671 : decode cL_law 1671 = .ok (.goto 1286, 3) := dk_167 5 6 (dk_at dksL_law_61 18 rfl rfl)
theorem dL_law_1674 : decode cL_law 1674 = .ok (.aload_n 1, 1) := dk_43 (dk_at dksL_law_61 21 rfl rfl)
theorem dL_law_1675 : decode cL_law 1675 = .ok (.aload_n 0, 1) := dk_42 (dk_at dksL_law_61 22 rfl rfl)
theorem dL_law_1676 : decode cL_law 1676 = .ok (.iload 4, 2) := dk_21 4 (dk_at dksL_law_62 0 rfl rfl)
theorem dL_law_1678 : decode cL_law 1678 = .ok (.iconst 1, 1) := dk_4 (dk_at dksL_law_62 2 rfl rfl)
theorem dL_law_1679 : decode cL_law 1679 = .ok (.iadd, 1) := dk_96 (dk_at dksL_law_62 3 rfl rfl)
theorem dL_law_1680 : decode cL_law 1680 = .ok (.iaload, 1) := dk_46 (dk_at dksL_law_62 4 rfl rfl)
theorem dL_law_1681 : decode cL_law 1681 = .ok (.aload_n 0, 1) := dk_42 (dk_at dksL_law_62 5 rfl rfl)
theorem dL_law_1682 : decode cL_law 1682 = .ok (.iload 4, 2) := dk_21 4 (dk_at dksL_law_62 6 rfl rfl)
theorem dL_law_1684 : decode cL_law 1684 = .ok (.iconst 2, 1) := dk_5 (dk_at dksL_law_62 8 rfl rfl)
theorem dL_law_1685 : decode cL_law 1685 = .ok (.iadd, 1) := dk_96 (dk_at dksL_law_62 9 rfl rfl)
theorem dL_law_1686 : decode cL_law 1686 = .ok (.iaload, 1) := dk_46 (dk_at dksL_law_62 10 rfl rfl)
theorem dL_law_1687 : decode cL_law 1687 = .ok (.aload_n 3, 1) := dk_45 (dk_at dksL_law_62 11 rfl rfl)
theorem dL_law_1688 : decode cL_law 1688 = .ok (.invokestatic 248, 3) := dk_184 0 248 (dk_at dksL_law_62 12 rfl rfl)
theorem dL_law_1691 : decode cL_law 1691 = .ok (.istore 5, 2) := dk_54 5 (dk_at dksL_law_62 15 rfl rfl)
theorem dL_law_1693 : decode cL_law 1693 = .ok (.aload_n 2, 1) := dk_44 (dk_at dksL_law_62 17 rfl rfl)
theorem dL_law_1694 : decode cL_law 1694 = .ok (.aload_n 0, 1) := dk_42 (dk_at dksL_law_62 18 rfl rfl)
theorem dL_law_1695 : decode cL_law 1695 = .ok (.iload 4, 2) := dk_21 4 (dk_at dksL_law_62 19 rfl rfl)
theorem dL_law_1697 : decode cL_law 1697 = .ok (.iconst 1, 1) := dk_4 (dk_at dksL_law_62 21 rfl rfl)
theorem dL_law_1698 : decode cL_law 1698 = .ok (.iadd, 1) := dk_96 (dk_at dksL_law_62 22 rfl rfl)
theorem dL_law_1699 : decode cL_law 1699 = .ok (.iaload, 1) := dk_46 (dk_at dksL_law_62 23 rfl rfl)
theorem dL_law_1700 : decode cL_law 1700 = .ok (.aload_n 0, 1) := dk_42 (dk_at dksL_law_63 0 rfl rfl)
theorem dL_law_1701 : decode cL_law 1701 = .ok (.iload 4, 2) := dk_21 4 (dk_at dksL_law_63 1 rfl rfl)
theorem dL_law_1703 : decode cL_law 1703 = .ok (.iconst 2, 1) := dk_5 (dk_at dksL_law_63 3 rfl rfl)
theorem dL_law_1704 : decode cL_law 1704 = .ok (.iadd, 1) := dk_96 (dk_at dksL_law_63 4 rfl rfl)
theorem dL_law_1705 : decode cL_law 1705 = .ok (.iaload, 1) := dk_46 (dk_at dksL_law_63 5 rfl rfl)
theorem dL_law_1706 : decode cL_law 1706 = .ok (.invokevirtual 250, 3) := dk_182 0 250 (dk_at dksL_law_63 6 rfl rfl)
theorem dL_law_1709 : decode cL_law 1709 = .ok (.istore 6, 2) := dk_54 6 (dk_at dksL_law_63 9 rfl rfl)
theorem dL_law_1711 : decode cL_law 1711 = .ok (.aload_n 2, 1) := dk_44 (dk_at dksL_law_63 11 rfl rfl)
theorem dL_law_1712 : decode cL_law 1712 = .ok (.invokevirtual 145, 3) := dk_182 0 145 (dk_at dksL_law_63 12 rfl rfl)
theorem dL_law_1715 : decode cL_law 1715 = .ok (.iload 5, 2) := dk_21 5 (dk_at dksL_law_63 15 rfl rfl)
theorem dL_law_1717 : decode cL_law 1717 = .ok (.if_icmp .eq 5, 3) := dk_159 0 5 (dk_at dksL_law_63 17 rfl rfl)
theorem dL_law_1720 : decode cL_law 1720 = .ok (.iconst 0, 1) := dk_3 (dk_at dksL_law_63 20 rfl rfl)
theorem dL_law_1721 : decode cL_law 1721 = .ok (.ireturn, 1) := dk_172 (dk_at dksL_law_63 21 rfl rfl)
theorem dL_law_1722 : decode cL_law 1722 = .ok (.iload 5, 2) := dk_21 5 (dk_at dksL_law_63 22 rfl rfl)
theorem dL_law_1724 : decode cL_law 1724 = .ok (.ifCond .ne 15, 3) := dk_154 0 15 (dk_at dksL_law_64 0 rfl rfl)
theorem dL_law_1727 : decode cL_law 1727 = .ok (.aload_n 3, 1) := dk_45 (dk_at dksL_law_64 3 rfl rfl)
theorem dL_law_1728 : decode cL_law 1728 = .ok (.iconst 0, 1) := dk_3 (dk_at dksL_law_64 4 rfl rfl)
theorem dL_law_1729 : decode cL_law 1729 = .ok (.laload, 1) := dk_47 (dk_at dksL_law_64 5 rfl rfl)
theorem dL_law_1730 : decode cL_law 1730 = .ok (.iload 6, 2) := dk_21 6 (dk_at dksL_law_64 6 rfl rfl)
theorem dL_law_1732 : decode cL_law 1732 = .ok (.i2l, 1) := dk_133 (dk_at dksL_law_64 8 rfl rfl)
theorem dL_law_1733 : decode cL_law 1733 = .ok (.lcmp, 1) := dk_148 (dk_at dksL_law_64 9 rfl rfl)
theorem dL_law_1734 : decode cL_law 1734 = .ok (.ifCond .eq 5, 3) := dk_153 0 5 (dk_at dksL_law_64 10 rfl rfl)
theorem dL_law_1737 : decode cL_law 1737 = .ok (.iconst 0, 1) := dk_3 (dk_at dksL_law_64 13 rfl rfl)
theorem dL_law_1738 : decode cL_law 1738 = .ok (.ireturn, 1) := dk_172 (dk_at dksL_law_64 14 rfl rfl)
theorem dL_law_1739 : decode cL_law 1739 = .ok (.goto 1218, 3) := dk_167 4 194 (dk_at dksL_law_64 15 rfl rfl)
theorem dL_law_1742 : decode cL_law 1742 = .ok (.aload_n 1, 1) := dk_43 (dk_at dksL_law_64 18 rfl rfl)
theorem dL_law_1743 : decode cL_law 1743 = .ok (.invokevirtual 251, 3) := dk_182 0 251 (dk_at dksL_law_64 19 rfl rfl)
theorem dL_law_1746 : decode cL_law 1746 = .ok (.aload_n 2, 1) := dk_44 (dk_at dksL_law_64 22 rfl rfl)
theorem dL_law_1747 : decode cL_law 1747 = .ok (.invokevirtual 254, 3) := dk_182 0 254 (dk_at dksL_law_65 0 rfl rfl)
theorem dL_law_1750 : decode cL_law 1750 = .ok (.if_icmp .eq 1207, 3) := dk_159 4 183 (dk_at dksL_law_65 3 rfl rfl)
theorem dL_law_1753 : decode cL_law 1753 = .ok (.iconst 0, 1) := dk_3 (dk_at dksL_law_65 6 rfl rfl)
theorem dL_law_1754 : decode cL_law 1754 = .ok (.ireturn, 1) := dk_172 (dk_at dksL_law_65 7 rfl rfl)
theorem dL_law_1755 : decode cL_law 1755 = .ok (.aload_n 1, 1) := dk_43 (dk_at dksL_law_65 8 rfl rfl)
theorem dL_law_1756 : decode cL_law 1756 = .ok (.aload_n 0, 1) := dk_42 (dk_at dksL_law_65 9 rfl rfl)
theorem dL_law_1757 : decode cL_law 1757 = .ok (.iload 4, 2) := dk_21 4 (dk_at dksL_law_65 10 rfl rfl)
theorem dL_law_1759 : decode cL_law 1759 = .ok (.iconst 1, 1) := dk_4 (dk_at dksL_law_65 12 rfl rfl)
theorem dL_law_1760 : decode cL_law 1760 = .ok (.iadd, 1) := dk_96 (dk_at dksL_law_65 13 rfl rfl)
theorem dL_law_1761 : decode cL_law 1761 = .ok (.iaload, 1) := dk_46 (dk_at dksL_law_65 14 rfl rfl)
theorem dL_law_1762 : decode cL_law 1762 = .ok (.aload_n 3, 1) := dk_45 (dk_at dksL_law_65 15 rfl rfl)
theorem dL_law_1763 : decode cL_law 1763 = .ok (.invokestatic 255, 3) := dk_184 0 255 (dk_at dksL_law_65 16 rfl rfl)
theorem dL_law_1766 : decode cL_law 1766 = .ok (.istore 5, 2) := dk_54 5 (dk_at dksL_law_65 19 rfl rfl)
theorem dL_law_1768 : decode cL_law 1768 = .ok (.aload_n 2, 1) := dk_44 (dk_at dksL_law_65 21 rfl rfl)
theorem dL_law_1769 : decode cL_law 1769 = .ok (.aload_n 0, 1) := dk_42 (dk_at dksL_law_65 22 rfl rfl)
theorem dL_law_1770 : decode cL_law 1770 = .ok (.iload 4, 2) := dk_21 4 (dk_at dksL_law_66 0 rfl rfl)
theorem dL_law_1772 : decode cL_law 1772 = .ok (.iconst 1, 1) := dk_4 (dk_at dksL_law_66 2 rfl rfl)
theorem dL_law_1773 : decode cL_law 1773 = .ok (.iadd, 1) := dk_96 (dk_at dksL_law_66 3 rfl rfl)
theorem dL_law_1774 : decode cL_law 1774 = .ok (.iaload, 1) := dk_46 (dk_at dksL_law_66 4 rfl rfl)
theorem dL_law_1775 : decode cL_law 1775 = .ok (.invokevirtual 257, 3) := dk_182 1 1 (dk_at dksL_law_66 5 rfl rfl)
theorem dL_law_1778 : decode cL_law 1778 = .ok (.istore 6, 2) := dk_54 6 (dk_at dksL_law_66 8 rfl rfl)
theorem dL_law_1780 : decode cL_law 1780 = .ok (.aload_n 2, 1) := dk_44 (dk_at dksL_law_66 10 rfl rfl)
theorem dL_law_1781 : decode cL_law 1781 = .ok (.invokevirtual 145, 3) := dk_182 0 145 (dk_at dksL_law_66 11 rfl rfl)
theorem dL_law_1784 : decode cL_law 1784 = .ok (.iload 5, 2) := dk_21 5 (dk_at dksL_law_66 14 rfl rfl)
theorem dL_law_1786 : decode cL_law 1786 = .ok (.if_icmp .eq 5, 3) := dk_159 0 5 (dk_at dksL_law_66 16 rfl rfl)
theorem dL_law_1789 : decode cL_law 1789 = .ok (.iconst 0, 1) := dk_3 (dk_at dksL_law_66 19 rfl rfl)
theorem dL_law_1790 : decode cL_law 1790 = .ok (.ireturn, 1) := dk_172 (dk_at dksL_law_66 20 rfl rfl)
theorem dL_law_1791 : decode cL_law 1791 = .ok (.iload 5, 2) := dk_21 5 (dk_at dksL_law_66 21 rfl rfl)
theorem dL_law_1793 : decode cL_law 1793 = .ok (.ifCond .ne 15, 3) := dk_154 0 15 (dk_at dksL_law_67 0 rfl rfl)
theorem dL_law_1796 : decode cL_law 1796 = .ok (.aload_n 3, 1) := dk_45 (dk_at dksL_law_67 3 rfl rfl)
theorem dL_law_1797 : decode cL_law 1797 = .ok (.iconst 0, 1) := dk_3 (dk_at dksL_law_67 4 rfl rfl)
theorem dL_law_1798 : decode cL_law 1798 = .ok (.laload, 1) := dk_47 (dk_at dksL_law_67 5 rfl rfl)
theorem dL_law_1799 : decode cL_law 1799 = .ok (.iload 6, 2) := dk_21 6 (dk_at dksL_law_67 6 rfl rfl)
theorem dL_law_1801 : decode cL_law 1801 = .ok (.i2l, 1) := dk_133 (dk_at dksL_law_67 8 rfl rfl)
theorem dL_law_1802 : decode cL_law 1802 = .ok (.lcmp, 1) := dk_148 (dk_at dksL_law_67 9 rfl rfl)
theorem dL_law_1803 : decode cL_law 1803 = .ok (.ifCond .eq 5, 3) := dk_153 0 5 (dk_at dksL_law_67 10 rfl rfl)
theorem dL_law_1806 : decode cL_law 1806 = .ok (.iconst 0, 1) := dk_3 (dk_at dksL_law_67 13 rfl rfl)
theorem dL_law_1807 : decode cL_law 1807 = .ok (.ireturn, 1) := dk_172 (dk_at dksL_law_67 14 rfl rfl)
theorem dL_law_1808 : decode cL_law 1808 = .ok (.goto 1149, 3) := dk_167 4 125 (dk_at dksL_law_67 15 rfl rfl)
theorem dL_law_1811 : decode cL_law 1811 = .ok (.aload_n 1, 1) := dk_43 (dk_at dksL_law_67 18 rfl rfl)
theorem dL_law_1812 : decode cL_law 1812 = .ok (.aload_n 0, 1) := dk_42 (dk_at dksL_law_67 19 rfl rfl)
theorem dL_law_1813 : decode cL_law 1813 = .ok (.iload 4, 2) := dk_21 4 (dk_at dksL_law_67 20 rfl rfl)
theorem dL_law_1815 : decode cL_law 1815 = .ok (.iconst 1, 1) := dk_4 (dk_at dksL_law_67 22 rfl rfl)
theorem dL_law_1816 : decode cL_law 1816 = .ok (.iadd, 1) := dk_96 (dk_at dksL_law_67 23 rfl rfl)
theorem dL_law_1817 : decode cL_law 1817 = .ok (.iaload, 1) := dk_46 (dk_at dksL_law_68 0 rfl rfl)
theorem dL_law_1818 : decode cL_law 1818 = .ok (.aload_n 3, 1) := dk_45 (dk_at dksL_law_68 1 rfl rfl)
theorem dL_law_1819 : decode cL_law 1819 = .ok (.invokestatic 258, 3) := dk_184 1 2 (dk_at dksL_law_68 2 rfl rfl)
theorem dL_law_1822 : decode cL_law 1822 = .ok (.istore 5, 2) := dk_54 5 (dk_at dksL_law_68 5 rfl rfl)
theorem dL_law_1824 : decode cL_law 1824 = .ok (.aload_n 2, 1) := dk_44 (dk_at dksL_law_68 7 rfl rfl)
theorem dL_law_1825 : decode cL_law 1825 = .ok (.aload_n 0, 1) := dk_42 (dk_at dksL_law_68 8 rfl rfl)
theorem dL_law_1826 : decode cL_law 1826 = .ok (.iload 4, 2) := dk_21 4 (dk_at dksL_law_68 9 rfl rfl)
theorem dL_law_1828 : decode cL_law 1828 = .ok (.iconst 1, 1) := dk_4 (dk_at dksL_law_68 11 rfl rfl)
theorem dL_law_1829 : decode cL_law 1829 = .ok (.iadd, 1) := dk_96 (dk_at dksL_law_68 12 rfl rfl)
theorem dL_law_1830 : decode cL_law 1830 = .ok (.iaload, 1) := dk_46 (dk_at dksL_law_68 13 rfl rfl)
theorem dL_law_1831 : decode cL_law 1831 = .ok (.invokevirtual 260, 3) := dk_182 1 4 (dk_at dksL_law_68 14 rfl rfl)
theorem dL_law_1834 : decode cL_law 1834 = .ok (.istore 6, 2) := dk_54 6 (dk_at dksL_law_68 17 rfl rfl)
theorem dL_law_1836 : decode cL_law 1836 = .ok (.aload_n 2, 1) := dk_44 (dk_at dksL_law_68 19 rfl rfl)
theorem dL_law_1837 : decode cL_law 1837 = .ok (.invokevirtual 145, 3) := dk_182 0 145 (dk_at dksL_law_68 20 rfl rfl)
theorem dL_law_1840 : decode cL_law 1840 = .ok (.iload 5, 2) := dk_21 5 (dk_at dksL_law_69 0 rfl rfl)
theorem dL_law_1842 : decode cL_law 1842 = .ok (.if_icmp .eq 5, 3) := dk_159 0 5 (dk_at dksL_law_69 2 rfl rfl)
theorem dL_law_1845 : decode cL_law 1845 = .ok (.iconst 0, 1) := dk_3 (dk_at dksL_law_69 5 rfl rfl)
theorem dL_law_1846 : decode cL_law 1846 = .ok (.ireturn, 1) := dk_172 (dk_at dksL_law_69 6 rfl rfl)
theorem dL_law_1847 : decode cL_law 1847 = .ok (.iload 5, 2) := dk_21 5 (dk_at dksL_law_69 7 rfl rfl)
theorem dL_law_1849 : decode cL_law 1849 = .ok (.ifCond .ne 15, 3) := dk_154 0 15 (dk_at dksL_law_69 9 rfl rfl)
theorem dL_law_1852 : decode cL_law 1852 = .ok (.aload_n 3, 1) := dk_45 (dk_at dksL_law_69 12 rfl rfl)
theorem dL_law_1853 : decode cL_law 1853 = .ok (.iconst 0, 1) := dk_3 (dk_at dksL_law_69 13 rfl rfl)
theorem dL_law_1854 : decode cL_law 1854 = .ok (.laload, 1) := dk_47 (dk_at dksL_law_69 14 rfl rfl)
theorem dL_law_1855 : decode cL_law 1855 = .ok (.iload 6, 2) := dk_21 6 (dk_at dksL_law_69 15 rfl rfl)
theorem dL_law_1857 : decode cL_law 1857 = .ok (.i2l, 1) := dk_133 (dk_at dksL_law_69 17 rfl rfl)
theorem dL_law_1858 : decode cL_law 1858 = .ok (.lcmp, 1) := dk_148 (dk_at dksL_law_69 18 rfl rfl)
theorem dL_law_1859 : decode cL_law 1859 = .ok (.ifCond .eq 5, 3) := dk_153 0 5 (dk_at dksL_law_69 19 rfl rfl)
theorem dL_law_1862 : decode cL_law 1862 = .ok (.iconst 0, 1) := dk_3 (dk_at dksL_law_69 22 rfl rfl)
theorem dL_law_1863 : decode cL_law 1863 = .ok (.ireturn, 1) := dk_172 (dk_at dksL_law_69 23 rfl rfl)
theorem dL_law_1864 : decode cL_law 1864 = .ok (.goto 1093, 3) := dk_167 4 69 (dk_at dksL_law_70 0 rfl rfl)
theorem dL_law_1867 : decode cL_law 1867 = .ok (.aload_n 1, 1) := dk_43 (dk_at dksL_law_70 3 rfl rfl)
theorem dL_law_1868 : decode cL_law 1868 = .ok (.aload_n 0, 1) := dk_42 (dk_at dksL_law_70 4 rfl rfl)
theorem dL_law_1869 : decode cL_law 1869 = .ok (.iload 4, 2) := dk_21 4 (dk_at dksL_law_70 5 rfl rfl)
theorem dL_law_1871 : decode cL_law 1871 = .ok (.iconst 1, 1) := dk_4 (dk_at dksL_law_70 7 rfl rfl)
theorem dL_law_1872 : decode cL_law 1872 = .ok (.iadd, 1) := dk_96 (dk_at dksL_law_70 8 rfl rfl)
theorem dL_law_1873 : decode cL_law 1873 = .ok (.iaload, 1) := dk_46 (dk_at dksL_law_70 9 rfl rfl)
theorem dL_law_1874 : decode cL_law 1874 = .ok (.aload_n 3, 1) := dk_45 (dk_at dksL_law_70 10 rfl rfl)
theorem dL_law_1875 : decode cL_law 1875 = .ok (.invokestatic 261, 3) := dk_184 1 5 (dk_at dksL_law_70 11 rfl rfl)
theorem dL_law_1878 : decode cL_law 1878 = .ok (.istore 5, 2) := dk_54 5 (dk_at dksL_law_70 14 rfl rfl)
theorem dL_law_1880 : decode cL_law 1880 = .ok (.aload_n 2, 1) := dk_44 (dk_at dksL_law_70 16 rfl rfl)
theorem dL_law_1881 : decode cL_law 1881 = .ok (.aload_n 0, 1) := dk_42 (dk_at dksL_law_70 17 rfl rfl)
theorem dL_law_1882 : decode cL_law 1882 = .ok (.iload 4, 2) := dk_21 4 (dk_at dksL_law_70 18 rfl rfl)
theorem dL_law_1884 : decode cL_law 1884 = .ok (.iconst 1, 1) := dk_4 (dk_at dksL_law_70 20 rfl rfl)
theorem dL_law_1885 : decode cL_law 1885 = .ok (.iadd, 1) := dk_96 (dk_at dksL_law_70 21 rfl rfl)
theorem dL_law_1886 : decode cL_law 1886 = .ok (.iaload, 1) := dk_46 (dk_at dksL_law_70 22 rfl rfl)
theorem dL_law_1887 : decode cL_law 1887 = .ok (.invokevirtual 263, 3) := dk_182 1 7 (dk_at dksL_law_71 0 rfl rfl)
theorem dL_law_1890 : decode cL_law 1890 = .ok (.istore 6, 2) := dk_54 6 (dk_at dksL_law_71 3 rfl rfl)
theorem dL_law_1892 : decode cL_law 1892 = .ok (.aload_n 2, 1) := dk_44 (dk_at dksL_law_71 5 rfl rfl)
theorem dL_law_1893 : decode cL_law 1893 = .ok (.invokevirtual 145, 3) := dk_182 0 145 (dk_at dksL_law_71 6 rfl rfl)
theorem dL_law_1896 : decode cL_law 1896 = .ok (.iload 5, 2) := dk_21 5 (dk_at dksL_law_71 9 rfl rfl)
theorem dL_law_1898 : decode cL_law 1898 = .ok (.if_icmp .eq 5, 3) := dk_159 0 5 (dk_at dksL_law_71 11 rfl rfl)
theorem dL_law_1901 : decode cL_law 1901 = .ok (.iconst 0, 1) := dk_3 (dk_at dksL_law_71 14 rfl rfl)
theorem dL_law_1902 : decode cL_law 1902 = .ok (.ireturn, 1) := dk_172 (dk_at dksL_law_71 15 rfl rfl)
theorem dL_law_1903 : decode cL_law 1903 = .ok (.iload 5, 2) := dk_21 5 (dk_at dksL_law_71 16 rfl rfl)
theorem dL_law_1905 : decode cL_law 1905 = .ok (.ifCond .ne 15, 3) := dk_154 0 15 (dk_at dksL_law_71 18 rfl rfl)
theorem dL_law_1908 : decode cL_law 1908 = .ok (.aload_n 3, 1) := dk_45 (dk_at dksL_law_71 21 rfl rfl)
theorem dL_law_1909 : decode cL_law 1909 = .ok (.iconst 0, 1) := dk_3 (dk_at dksL_law_71 22 rfl rfl)
theorem dL_law_1910 : decode cL_law 1910 = .ok (.laload, 1) := dk_47 (dk_at dksL_law_71 23 rfl rfl)
theorem dL_law_1911 : decode cL_law 1911 = .ok (.iload 6, 2) := dk_21 6 (dk_at dksL_law_72 0 rfl rfl)
theorem dL_law_1913 : decode cL_law 1913 = .ok (.i2l, 1) := dk_133 (dk_at dksL_law_72 2 rfl rfl)
theorem dL_law_1914 : decode cL_law 1914 = .ok (.lcmp, 1) := dk_148 (dk_at dksL_law_72 3 rfl rfl)
theorem dL_law_1915 : decode cL_law 1915 = .ok (.ifCond .eq 5, 3) := dk_153 0 5 (dk_at dksL_law_72 4 rfl rfl)
theorem dL_law_1918 : decode cL_law 1918 = .ok (.iconst 0, 1) := dk_3 (dk_at dksL_law_72 7 rfl rfl)
theorem dL_law_1919 : decode cL_law 1919 = .ok (.ireturn, 1) := dk_172 (dk_at dksL_law_72 8 rfl rfl)
theorem dL_law_1920 : decode cL_law 1920 = .ok (.goto 1037, 3) := dk_167 4 13 (dk_at dksL_law_72 9 rfl rfl)
theorem dL_law_1923 : decode cL_law 1923 = .ok (.aload_n 1, 1) := dk_43 (dk_at dksL_law_72 12 rfl rfl)
theorem dL_law_1924 : decode cL_law 1924 = .ok (.aload_n 0, 1) := dk_42 (dk_at dksL_law_72 13 rfl rfl)
theorem dL_law_1925 : decode cL_law 1925 = .ok (.iload 4, 2) := dk_21 4 (dk_at dksL_law_72 14 rfl rfl)
theorem dL_law_1927 : decode cL_law 1927 = .ok (.iconst 1, 1) := dk_4 (dk_at dksL_law_72 16 rfl rfl)
theorem dL_law_1928 : decode cL_law 1928 = .ok (.iadd, 1) := dk_96 (dk_at dksL_law_72 17 rfl rfl)
theorem dL_law_1929 : decode cL_law 1929 = .ok (.iaload, 1) := dk_46 (dk_at dksL_law_72 18 rfl rfl)
theorem dL_law_1930 : decode cL_law 1930 = .ok (.aload_n 3, 1) := dk_45 (dk_at dksL_law_72 19 rfl rfl)
theorem dL_law_1931 : decode cL_law 1931 = .ok (.invokestatic 264, 3) := dk_184 1 8 (dk_at dksL_law_72 20 rfl rfl)
theorem dL_law_1934 : decode cL_law 1934 = .ok (.istore 5, 2) := dk_54 5 (dk_at dksL_law_73 0 rfl rfl)
theorem dL_law_1936 : decode cL_law 1936 = .ok (.aload_n 2, 1) := dk_44 (dk_at dksL_law_73 2 rfl rfl)
theorem dL_law_1937 : decode cL_law 1937 = .ok (.aload_n 0, 1) := dk_42 (dk_at dksL_law_73 3 rfl rfl)
theorem dL_law_1938 : decode cL_law 1938 = .ok (.iload 4, 2) := dk_21 4 (dk_at dksL_law_73 4 rfl rfl)
theorem dL_law_1940 : decode cL_law 1940 = .ok (.iconst 1, 1) := dk_4 (dk_at dksL_law_73 6 rfl rfl)
theorem dL_law_1941 : decode cL_law 1941 = .ok (.iadd, 1) := dk_96 (dk_at dksL_law_73 7 rfl rfl)
theorem dL_law_1942 : decode cL_law 1942 = .ok (.iaload, 1) := dk_46 (dk_at dksL_law_73 8 rfl rfl)
theorem dL_law_1943 : decode cL_law 1943 = .ok (.invokevirtual 266, 3) := dk_182 1 10 (dk_at dksL_law_73 9 rfl rfl)
theorem dL_law_1946 : decode cL_law 1946 = .ok (.istore 6, 2) := dk_54 6 (dk_at dksL_law_73 12 rfl rfl)
theorem dL_law_1948 : decode cL_law 1948 = .ok (.aload_n 2, 1) := dk_44 (dk_at dksL_law_73 14 rfl rfl)
theorem dL_law_1949 : decode cL_law 1949 = .ok (.invokevirtual 145, 3) := dk_182 0 145 (dk_at dksL_law_73 15 rfl rfl)
theorem dL_law_1952 : decode cL_law 1952 = .ok (.iload 5, 2) := dk_21 5 (dk_at dksL_law_73 18 rfl rfl)
theorem dL_law_1954 : decode cL_law 1954 = .ok (.if_icmp .eq 5, 3) := dk_159 0 5 (dk_at dksL_law_73 20 rfl rfl)
theorem dL_law_1957 : decode cL_law 1957 = .ok (.iconst 0, 1) := dk_3 (dk_at dksL_law_73 23 rfl rfl)
theorem dL_law_1958 : decode cL_law 1958 = .ok (.ireturn, 1) := dk_172 (dk_at dksL_law_74 0 rfl rfl)
theorem dL_law_1959 : decode cL_law 1959 = .ok (.iload 5, 2) := dk_21 5 (dk_at dksL_law_74 1 rfl rfl)
theorem dL_law_1961 : decode cL_law 1961 = .ok (.ifCond .ne 15, 3) := dk_154 0 15 (dk_at dksL_law_74 3 rfl rfl)
theorem dL_law_1964 : decode cL_law 1964 = .ok (.aload_n 3, 1) := dk_45 (dk_at dksL_law_74 6 rfl rfl)
theorem dL_law_1965 : decode cL_law 1965 = .ok (.iconst 0, 1) := dk_3 (dk_at dksL_law_74 7 rfl rfl)
theorem dL_law_1966 : decode cL_law 1966 = .ok (.laload, 1) := dk_47 (dk_at dksL_law_74 8 rfl rfl)
theorem dL_law_1967 : decode cL_law 1967 = .ok (.iload 6, 2) := dk_21 6 (dk_at dksL_law_74 9 rfl rfl)
theorem dL_law_1969 : decode cL_law 1969 = .ok (.i2l, 1) := dk_133 (dk_at dksL_law_74 11 rfl rfl)
theorem dL_law_1970 : decode cL_law 1970 = .ok (.lcmp, 1) := dk_148 (dk_at dksL_law_74 12 rfl rfl)
theorem dL_law_1971 : decode cL_law 1971 = .ok (.ifCond .eq 5, 3) := dk_153 0 5 (dk_at dksL_law_74 13 rfl rfl)
theorem dL_law_1974 : decode cL_law 1974 = .ok (.iconst 0, 1) := dk_3 (dk_at dksL_law_74 16 rfl rfl)
theorem dL_law_1975 : decode cL_law 1975 = .ok (.ireturn, 1) := dk_172 (dk_at dksL_law_74 17 rfl rfl)
theorem dL_law_1976 : decode cL_law 1976 = .ok (.goto 981, 3) := dk_167 3 213 (dk_at dksL_law_74 18 rfl rfl)
theorem dL_law_1979 : decode cL_law 1979 = .ok (.aload_n 1, 1) := dk_43 (dk_at dksL_law_74 21 rfl rfl)
theorem dL_law_1980 : decode cL_law 1980 = .ok (.aload_n 0, 1) := dk_42 (dk_at dksL_law_74 22 rfl rfl)
theorem dL_law_1981 : decode cL_law 1981 = .ok (.iload 4, 2) := dk_21 4 (dk_at dksL_law_75 0 rfl rfl)
theorem dL_law_1983 : decode cL_law 1983 = .ok (.iconst 1, 1) := dk_4 (dk_at dksL_law_75 2 rfl rfl)
theorem dL_law_1984 : decode cL_law 1984 = .ok (.iadd, 1) := dk_96 (dk_at dksL_law_75 3 rfl rfl)
theorem dL_law_1985 : decode cL_law 1985 = .ok (.iaload, 1) := dk_46 (dk_at dksL_law_75 4 rfl rfl)
theorem dL_law_1986 : decode cL_law 1986 = .ok (.aload_n 3, 1) := dk_45 (dk_at dksL_law_75 5 rfl rfl)
theorem dL_law_1987 : decode cL_law 1987 = .ok (.invokestatic 267, 3) := dk_184 1 11 (dk_at dksL_law_75 6 rfl rfl)
theorem dL_law_1990 : decode cL_law 1990 = .ok (.istore 5, 2) := dk_54 5 (dk_at dksL_law_75 9 rfl rfl)
theorem dL_law_1992 : decode cL_law 1992 = .ok (.aload_n 2, 1) := dk_44 (dk_at dksL_law_75 11 rfl rfl)
theorem dL_law_1993 : decode cL_law 1993 = .ok (.aload_n 0, 1) := dk_42 (dk_at dksL_law_75 12 rfl rfl)
theorem dL_law_1994 : decode cL_law 1994 = .ok (.iload 4, 2) := dk_21 4 (dk_at dksL_law_75 13 rfl rfl)
theorem dL_law_1996 : decode cL_law 1996 = .ok (.iconst 1, 1) := dk_4 (dk_at dksL_law_75 15 rfl rfl)
theorem dL_law_1997 : decode cL_law 1997 = .ok (.iadd, 1) := dk_96 (dk_at dksL_law_75 16 rfl rfl)
theorem dL_law_1998 : decode cL_law 1998 = .ok (.iaload, 1) := dk_46 (dk_at dksL_law_75 17 rfl rfl)
theorem dL_law_1999 : decode cL_law 1999 = .ok (.invokevirtual 269, 3) := dk_182 1 13 (dk_at dksL_law_75 18 rfl rfl)
theorem dL_law_2002 : decode cL_law 2002 = .ok (.istore 6, 2) := dk_54 6 (dk_at dksL_law_75 21 rfl rfl)
theorem dL_law_2004 : decode cL_law 2004 = .ok (.aload_n 2, 1) := dk_44 (dk_at dksL_law_75 23 rfl rfl)
theorem dL_law_2005 : decode cL_law 2005 = .ok (.invokevirtual 145, 3) := dk_182 0 145 (dk_at dksL_law_76 0 rfl rfl)
theorem dL_law_2008 : decode cL_law 2008 = .ok (.iload 5, 2) := dk_21 5 (dk_at dksL_law_76 3 rfl rfl)
theorem dL_law_2010 : decode cL_law 2010 = .ok (.if_icmp .eq 5, 3) := dk_159 0 5 (dk_at dksL_law_76 5 rfl rfl)
theorem dL_law_2013 : decode cL_law 2013 = .ok (.iconst 0, 1) := dk_3 (dk_at dksL_law_76 8 rfl rfl)
theorem dL_law_2014 : decode cL_law 2014 = .ok (.ireturn, 1) := dk_172 (dk_at dksL_law_76 9 rfl rfl)
theorem dL_law_2015 : decode cL_law 2015 = .ok (.iload 5, 2) := dk_21 5 (dk_at dksL_law_76 10 rfl rfl)
theorem dL_law_2017 : decode cL_law 2017 = .ok (.ifCond .ne 15, 3) := dk_154 0 15 (dk_at dksL_law_76 12 rfl rfl)
theorem dL_law_2020 : decode cL_law 2020 = .ok (.aload_n 3, 1) := dk_45 (dk_at dksL_law_76 15 rfl rfl)
theorem dL_law_2021 : decode cL_law 2021 = .ok (.iconst 0, 1) := dk_3 (dk_at dksL_law_76 16 rfl rfl)
theorem dL_law_2022 : decode cL_law 2022 = .ok (.laload, 1) := dk_47 (dk_at dksL_law_76 17 rfl rfl)
theorem dL_law_2023 : decode cL_law 2023 = .ok (.iload 6, 2) := dk_21 6 (dk_at dksL_law_76 18 rfl rfl)
theorem dL_law_2025 : decode cL_law 2025 = .ok (.i2l, 1) := dk_133 (dk_at dksL_law_76 20 rfl rfl)
theorem dL_law_2026 : decode cL_law 2026 = .ok (.lcmp, 1) := dk_148 (dk_at dksL_law_76 21 rfl rfl)
theorem dL_law_2027 : decode cL_law 2027 = .ok (.ifCond .eq 5, 3) := dk_153 0 5 (dk_at dksL_law_77 0 rfl rfl)
theorem dL_law_2030 : decode cL_law 2030 = .ok (.iconst 0, 1) := dk_3 (dk_at dksL_law_77 3 rfl rfl)
theorem dL_law_2031 : decode cL_law 2031 = .ok (.ireturn, 1) := dk_172 (dk_at dksL_law_77 4 rfl rfl)
theorem dL_law_2032 : decode cL_law 2032 = .ok (.goto 925, 3) := dk_167 3 157 (dk_at dksL_law_77 5 rfl rfl)
theorem dL_law_2035 : decode cL_law 2035 = .ok (.aload_n 1, 1) := dk_43 (dk_at dksL_law_77 8 rfl rfl)
theorem dL_law_2036 : decode cL_law 2036 = .ok (.aload_n 0, 1) := dk_42 (dk_at dksL_law_77 9 rfl rfl)
theorem dL_law_2037 : decode cL_law 2037 = .ok (.iload 4, 2) := dk_21 4 (dk_at dksL_law_77 10 rfl rfl)
theorem dL_law_2039 : decode cL_law 2039 = .ok (.iconst 1, 1) := dk_4 (dk_at dksL_law_77 12 rfl rfl)
theorem dL_law_2040 : decode cL_law 2040 = .ok (.iadd, 1) := dk_96 (dk_at dksL_law_77 13 rfl rfl)
theorem dL_law_2041 : decode cL_law 2041 = .ok (.iaload, 1) := dk_46 (dk_at dksL_law_77 14 rfl rfl)
theorem dL_law_2042 : decode cL_law 2042 = .ok (.aload_n 0, 1) := dk_42 (dk_at dksL_law_77 15 rfl rfl)
theorem dL_law_2043 : decode cL_law 2043 = .ok (.iload 4, 2) := dk_21 4 (dk_at dksL_law_77 16 rfl rfl)
theorem dL_law_2045 : decode cL_law 2045 = .ok (.iconst 2, 1) := dk_5 (dk_at dksL_law_77 18 rfl rfl)
theorem dL_law_2046 : decode cL_law 2046 = .ok (.iadd, 1) := dk_96 (dk_at dksL_law_77 19 rfl rfl)
theorem dL_law_2047 : decode cL_law 2047 = .ok (.iaload, 1) := dk_46 (dk_at dksL_law_77 20 rfl rfl)
theorem dL_law_2048 : decode cL_law 2048 = .ok (.aload_n 3, 1) := dk_45 (dk_at dksL_law_77 21 rfl rfl)
theorem dL_law_2049 : decode cL_law 2049 = .ok (.invokestatic 270, 3) := dk_184 1 14 (dk_at dksL_law_78 0 rfl rfl)
theorem dL_law_2052 : decode cL_law 2052 = .ok (.istore 5, 2) := dk_54 5 (dk_at dksL_law_78 3 rfl rfl)
theorem dL_law_2054 : decode cL_law 2054 = .ok (.aload_n 2, 1) := dk_44 (dk_at dksL_law_78 5 rfl rfl)
theorem dL_law_2055 : decode cL_law 2055 = .ok (.aload_n 0, 1) := dk_42 (dk_at dksL_law_78 6 rfl rfl)
theorem dL_law_2056 : decode cL_law 2056 = .ok (.iload 4, 2) := dk_21 4 (dk_at dksL_law_78 7 rfl rfl)
theorem dL_law_2058 : decode cL_law 2058 = .ok (.iconst 1, 1) := dk_4 (dk_at dksL_law_78 9 rfl rfl)
theorem dL_law_2059 : decode cL_law 2059 = .ok (.iadd, 1) := dk_96 (dk_at dksL_law_78 10 rfl rfl)
theorem dL_law_2060 : decode cL_law 2060 = .ok (.iaload, 1) := dk_46 (dk_at dksL_law_78 11 rfl rfl)
theorem dL_law_2061 : decode cL_law 2061 = .ok (.aload_n 0, 1) := dk_42 (dk_at dksL_law_78 12 rfl rfl)
theorem dL_law_2062 : decode cL_law 2062 = .ok (.iload 4, 2) := dk_21 4 (dk_at dksL_law_78 13 rfl rfl)
theorem dL_law_2064 : decode cL_law 2064 = .ok (.iconst 2, 1) := dk_5 (dk_at dksL_law_78 15 rfl rfl)
theorem dL_law_2065 : decode cL_law 2065 = .ok (.iadd, 1) := dk_96 (dk_at dksL_law_78 16 rfl rfl)
theorem dL_law_2066 : decode cL_law 2066 = .ok (.iaload, 1) := dk_46 (dk_at dksL_law_78 17 rfl rfl)
theorem dL_law_2067 : decode cL_law 2067 = .ok (.invokevirtual 272, 3) := dk_182 1 16 (dk_at dksL_law_78 18 rfl rfl)
theorem dL_law_2070 : decode cL_law 2070 = .ok (.istore 6, 2) := dk_54 6 (dk_at dksL_law_78 21 rfl rfl)
theorem dL_law_2072 : decode cL_law 2072 = .ok (.aload_n 2, 1) := dk_44 (dk_at dksL_law_78 23 rfl rfl)
theorem dL_law_2073 : decode cL_law 2073 = .ok (.invokevirtual 145, 3) := dk_182 0 145 (dk_at dksL_law_79 0 rfl rfl)
theorem dL_law_2076 : decode cL_law 2076 = .ok (.iload 5, 2) := dk_21 5 (dk_at dksL_law_79 3 rfl rfl)
theorem dL_law_2078 : decode cL_law 2078 = .ok (.if_icmp .eq 5, 3) := dk_159 0 5 (dk_at dksL_law_79 5 rfl rfl)
theorem dL_law_2081 : decode cL_law 2081 = .ok (.iconst 0, 1) := dk_3 (dk_at dksL_law_79 8 rfl rfl)
theorem dL_law_2082 : decode cL_law 2082 = .ok (.ireturn, 1) := dk_172 (dk_at dksL_law_79 9 rfl rfl)
theorem dL_law_2083 : decode cL_law 2083 = .ok (.iload 5, 2) := dk_21 5 (dk_at dksL_law_79 10 rfl rfl)
theorem dL_law_2085 : decode cL_law 2085 = .ok (.ifCond .ne 15, 3) := dk_154 0 15 (dk_at dksL_law_79 12 rfl rfl)
theorem dL_law_2088 : decode cL_law 2088 = .ok (.aload_n 3, 1) := dk_45 (dk_at dksL_law_79 15 rfl rfl)
theorem dL_law_2089 : decode cL_law 2089 = .ok (.iconst 0, 1) := dk_3 (dk_at dksL_law_79 16 rfl rfl)
theorem dL_law_2090 : decode cL_law 2090 = .ok (.laload, 1) := dk_47 (dk_at dksL_law_79 17 rfl rfl)
theorem dL_law_2091 : decode cL_law 2091 = .ok (.iload 6, 2) := dk_21 6 (dk_at dksL_law_79 18 rfl rfl)
theorem dL_law_2093 : decode cL_law 2093 = .ok (.i2l, 1) := dk_133 (dk_at dksL_law_79 20 rfl rfl)
theorem dL_law_2094 : decode cL_law 2094 = .ok (.lcmp, 1) := dk_148 (dk_at dksL_law_79 21 rfl rfl)
theorem dL_law_2095 : decode cL_law 2095 = .ok (.ifCond .eq 5, 3) := dk_153 0 5 (dk_at dksL_law_80 0 rfl rfl)
theorem dL_law_2098 : decode cL_law 2098 = .ok (.iconst 0, 1) := dk_3 (dk_at dksL_law_80 3 rfl rfl)
theorem dL_law_2099 : decode cL_law 2099 = .ok (.ireturn, 1) := dk_172 (dk_at dksL_law_80 4 rfl rfl)
theorem dL_law_2100 : decode cL_law 2100 = .ok (.goto 857, 3) := dk_167 3 89 (dk_at dksL_law_80 5 rfl rfl)
theorem dL_law_2103 : decode cL_law 2103 = .ok (.aload_n 1, 1) := dk_43 (dk_at dksL_law_80 8 rfl rfl)
theorem dL_law_2104 : decode cL_law 2104 = .ok (.aload_n 0, 1) := dk_42 (dk_at dksL_law_80 9 rfl rfl)
theorem dL_law_2105 : decode cL_law 2105 = .ok (.iload 4, 2) := dk_21 4 (dk_at dksL_law_80 10 rfl rfl)
theorem dL_law_2107 : decode cL_law 2107 = .ok (.iconst 1, 1) := dk_4 (dk_at dksL_law_80 12 rfl rfl)
theorem dL_law_2108 : decode cL_law 2108 = .ok (.iadd, 1) := dk_96 (dk_at dksL_law_80 13 rfl rfl)
theorem dL_law_2109 : decode cL_law 2109 = .ok (.iaload, 1) := dk_46 (dk_at dksL_law_80 14 rfl rfl)
theorem dL_law_2110 : decode cL_law 2110 = .ok (.aload_n 3, 1) := dk_45 (dk_at dksL_law_80 15 rfl rfl)
theorem dL_law_2111 : decode cL_law 2111 = .ok (.invokestatic 273, 3) := dk_184 1 17 (dk_at dksL_law_80 16 rfl rfl)
theorem dL_law_2114 : decode cL_law 2114 = .ok (.istore 5, 2) := dk_54 5 (dk_at dksL_law_80 19 rfl rfl)
theorem dL_law_2116 : decode cL_law 2116 = .ok (.aload_n 2, 1) := dk_44 (dk_at dksL_law_80 21 rfl rfl)
theorem dL_law_2117 : decode cL_law 2117 = .ok (.aload_n 0, 1) := dk_42 (dk_at dksL_law_80 22 rfl rfl)
theorem dL_law_2118 : decode cL_law 2118 = .ok (.iload 4, 2) := dk_21 4 (dk_at dksL_law_81 0 rfl rfl)
theorem dL_law_2120 : decode cL_law 2120 = .ok (.iconst 1, 1) := dk_4 (dk_at dksL_law_81 2 rfl rfl)
theorem dL_law_2121 : decode cL_law 2121 = .ok (.iadd, 1) := dk_96 (dk_at dksL_law_81 3 rfl rfl)
theorem dL_law_2122 : decode cL_law 2122 = .ok (.iaload, 1) := dk_46 (dk_at dksL_law_81 4 rfl rfl)
theorem dL_law_2123 : decode cL_law 2123 = .ok (.invokevirtual 275, 3) := dk_182 1 19 (dk_at dksL_law_81 5 rfl rfl)
theorem dL_law_2126 : decode cL_law 2126 = .ok (.istore 6, 2) := dk_54 6 (dk_at dksL_law_81 8 rfl rfl)
theorem dL_law_2128 : decode cL_law 2128 = .ok (.aload_n 2, 1) := dk_44 (dk_at dksL_law_81 10 rfl rfl)
theorem dL_law_2129 : decode cL_law 2129 = .ok (.invokevirtual 145, 3) := dk_182 0 145 (dk_at dksL_law_81 11 rfl rfl)
theorem dL_law_2132 : decode cL_law 2132 = .ok (.iload 5, 2) := dk_21 5 (dk_at dksL_law_81 14 rfl rfl)
theorem dL_law_2134 : decode cL_law 2134 = .ok (.if_icmp .eq 5, 3) := dk_159 0 5 (dk_at dksL_law_81 16 rfl rfl)
theorem dL_law_2137 : decode cL_law 2137 = .ok (.iconst 0, 1) := dk_3 (dk_at dksL_law_81 19 rfl rfl)
theorem dL_law_2138 : decode cL_law 2138 = .ok (.ireturn, 1) := dk_172 (dk_at dksL_law_81 20 rfl rfl)
theorem dL_law_2139 : decode cL_law 2139 = .ok (.iload 5, 2) := dk_21 5 (dk_at dksL_law_81 21 rfl rfl)
theorem dL_law_2141 : decode cL_law 2141 = .ok (.ifCond .ne 15, 3) := dk_154 0 15 (dk_at dksL_law_82 0 rfl rfl)
theorem dL_law_2144 : decode cL_law 2144 = .ok (.aload_n 3, 1) := dk_45 (dk_at dksL_law_82 3 rfl rfl)
theorem dL_law_2145 : decode cL_law 2145 = .ok (.iconst 0, 1) := dk_3 (dk_at dksL_law_82 4 rfl rfl)
theorem dL_law_2146 : decode cL_law 2146 = .ok (.laload, 1) := dk_47 (dk_at dksL_law_82 5 rfl rfl)
theorem dL_law_2147 : decode cL_law 2147 = .ok (.iload 6, 2) := dk_21 6 (dk_at dksL_law_82 6 rfl rfl)
theorem dL_law_2149 : decode cL_law 2149 = .ok (.i2l, 1) := dk_133 (dk_at dksL_law_82 8 rfl rfl)
theorem dL_law_2150 : decode cL_law 2150 = .ok (.lcmp, 1) := dk_148 (dk_at dksL_law_82 9 rfl rfl)
theorem dL_law_2151 : decode cL_law 2151 = .ok (.ifCond .eq 5, 3) := dk_153 0 5 (dk_at dksL_law_82 10 rfl rfl)
theorem dL_law_2154 : decode cL_law 2154 = .ok (.iconst 0, 1) := dk_3 (dk_at dksL_law_82 13 rfl rfl)
theorem dL_law_2155 : decode cL_law 2155 = .ok (.ireturn, 1) := dk_172 (dk_at dksL_law_82 14 rfl rfl)
theorem dL_law_2156 : decode cL_law 2156 = .ok (.goto 801, 3) := dk_167 3 33 (dk_at dksL_law_82 15 rfl rfl)
theorem dL_law_2159 : decode cL_law 2159 = .ok (.aload_n 1, 1) := dk_43 (dk_at dksL_law_82 18 rfl rfl)
theorem dL_law_2160 : decode cL_law 2160 = .ok (.aload_n 0, 1) := dk_42 (dk_at dksL_law_82 19 rfl rfl)
theorem dL_law_2161 : decode cL_law 2161 = .ok (.iload 4, 2) := dk_21 4 (dk_at dksL_law_82 20 rfl rfl)
theorem dL_law_2163 : decode cL_law 2163 = .ok (.iconst 1, 1) := dk_4 (dk_at dksL_law_82 22 rfl rfl)
theorem dL_law_2164 : decode cL_law 2164 = .ok (.iadd, 1) := dk_96 (dk_at dksL_law_82 23 rfl rfl)
theorem dL_law_2165 : decode cL_law 2165 = .ok (.iaload, 1) := dk_46 (dk_at dksL_law_83 0 rfl rfl)
theorem dL_law_2166 : decode cL_law 2166 = .ok (.aload_n 0, 1) := dk_42 (dk_at dksL_law_83 1 rfl rfl)
theorem dL_law_2167 : decode cL_law 2167 = .ok (.iload 4, 2) := dk_21 4 (dk_at dksL_law_83 2 rfl rfl)
theorem dL_law_2169 : decode cL_law 2169 = .ok (.iconst 2, 1) := dk_5 (dk_at dksL_law_83 4 rfl rfl)
theorem dL_law_2170 : decode cL_law 2170 = .ok (.iadd, 1) := dk_96 (dk_at dksL_law_83 5 rfl rfl)
theorem dL_law_2171 : decode cL_law 2171 = .ok (.iaload, 1) := dk_46 (dk_at dksL_law_83 6 rfl rfl)
theorem dL_law_2172 : decode cL_law 2172 = .ok (.aload_n 3, 1) := dk_45 (dk_at dksL_law_83 7 rfl rfl)
theorem dL_law_2173 : decode cL_law 2173 = .ok (.invokestatic 276, 3) := dk_184 1 20 (dk_at dksL_law_83 8 rfl rfl)
theorem dL_law_2176 : decode cL_law 2176 = .ok (.istore 5, 2) := dk_54 5 (dk_at dksL_law_83 11 rfl rfl)
theorem dL_law_2178 : decode cL_law 2178 = .ok (.aload_n 2, 1) := dk_44 (dk_at dksL_law_83 13 rfl rfl)
theorem dL_law_2179 : decode cL_law 2179 = .ok (.aload_n 0, 1) := dk_42 (dk_at dksL_law_83 14 rfl rfl)
theorem dL_law_2180 : decode cL_law 2180 = .ok (.iload 4, 2) := dk_21 4 (dk_at dksL_law_83 15 rfl rfl)
theorem dL_law_2182 : decode cL_law 2182 = .ok (.iconst 1, 1) := dk_4 (dk_at dksL_law_83 17 rfl rfl)
theorem dL_law_2183 : decode cL_law 2183 = .ok (.iadd, 1) := dk_96 (dk_at dksL_law_83 18 rfl rfl)
theorem dL_law_2184 : decode cL_law 2184 = .ok (.iaload, 1) := dk_46 (dk_at dksL_law_83 19 rfl rfl)
theorem dL_law_2185 : decode cL_law 2185 = .ok (.aload_n 0, 1) := dk_42 (dk_at dksL_law_83 20 rfl rfl)
theorem dL_law_2186 : decode cL_law 2186 = .ok (.iload 4, 2) := dk_21 4 (dk_at dksL_law_83 21 rfl rfl)
theorem dL_law_2188 : decode cL_law 2188 = .ok (.iconst 2, 1) := dk_5 (dk_at dksL_law_83 23 rfl rfl)
theorem dL_law_2189 : decode cL_law 2189 = .ok (.iadd, 1) := dk_96 (dk_at dksL_law_84 0 rfl rfl)
theorem dL_law_2190 : decode cL_law 2190 = .ok (.iaload, 1) := dk_46 (dk_at dksL_law_84 1 rfl rfl)
theorem dL_law_2191 : decode cL_law 2191 = .ok (.invokevirtual 278, 3) := dk_182 1 22 (dk_at dksL_law_84 2 rfl rfl)
theorem dL_law_2194 : decode cL_law 2194 = .ok (.istore 6, 2) := dk_54 6 (dk_at dksL_law_84 5 rfl rfl)
theorem dL_law_2196 : decode cL_law 2196 = .ok (.aload_n 2, 1) := dk_44 (dk_at dksL_law_84 7 rfl rfl)
theorem dL_law_2197 : decode cL_law 2197 = .ok (.invokevirtual 145, 3) := dk_182 0 145 (dk_at dksL_law_84 8 rfl rfl)
theorem dL_law_2200 : decode cL_law 2200 = .ok (.iload 5, 2) := dk_21 5 (dk_at dksL_law_84 11 rfl rfl)
theorem dL_law_2202 : decode cL_law 2202 = .ok (.if_icmp .eq 5, 3) := dk_159 0 5 (dk_at dksL_law_84 13 rfl rfl)
theorem dL_law_2205 : decode cL_law 2205 = .ok (.iconst 0, 1) := dk_3 (dk_at dksL_law_84 16 rfl rfl)
theorem dL_law_2206 : decode cL_law 2206 = .ok (.ireturn, 1) := dk_172 (dk_at dksL_law_84 17 rfl rfl)
theorem dL_law_2207 : decode cL_law 2207 = .ok (.iload 5, 2) := dk_21 5 (dk_at dksL_law_84 18 rfl rfl)
theorem dL_law_2209 : decode cL_law 2209 = .ok (.ifCond .ne 15, 3) := dk_154 0 15 (dk_at dksL_law_84 20 rfl rfl)
theorem dL_law_2212 : decode cL_law 2212 = .ok (.aload_n 3, 1) := dk_45 (dk_at dksL_law_84 23 rfl rfl)
theorem dL_law_2213 : decode cL_law 2213 = .ok (.iconst 0, 1) := dk_3 (dk_at dksL_law_85 0 rfl rfl)
theorem dL_law_2214 : decode cL_law 2214 = .ok (.laload, 1) := dk_47 (dk_at dksL_law_85 1 rfl rfl)
theorem dL_law_2215 : decode cL_law 2215 = .ok (.iload 6, 2) := dk_21 6 (dk_at dksL_law_85 2 rfl rfl)
theorem dL_law_2217 : decode cL_law 2217 = .ok (.i2l, 1) := dk_133 (dk_at dksL_law_85 4 rfl rfl)
theorem dL_law_2218 : decode cL_law 2218 = .ok (.lcmp, 1) := dk_148 (dk_at dksL_law_85 5 rfl rfl)
theorem dL_law_2219 : decode cL_law 2219 = .ok (.ifCond .eq 5, 3) := dk_153 0 5 (dk_at dksL_law_85 6 rfl rfl)
theorem dL_law_2222 : decode cL_law 2222 = .ok (.iconst 0, 1) := dk_3 (dk_at dksL_law_85 9 rfl rfl)
theorem dL_law_2223 : decode cL_law 2223 = .ok (.ireturn, 1) := dk_172 (dk_at dksL_law_85 10 rfl rfl)
theorem dL_law_2224 : decode cL_law 2224 = .ok (.goto 733, 3) := dk_167 2 221 (dk_at dksL_law_85 11 rfl rfl)
theorem dL_law_2227 : decode cL_law 2227 = .ok (.aload_n 1, 1) := dk_43 (dk_at dksL_law_85 14 rfl rfl)
theorem dL_law_2228 : decode cL_law 2228 = .ok (.aload_n 0, 1) := dk_42 (dk_at dksL_law_85 15 rfl rfl)
theorem dL_law_2229 : decode cL_law 2229 = .ok (.iload 4, 2) := dk_21 4 (dk_at dksL_law_85 16 rfl rfl)
theorem dL_law_2231 : decode cL_law 2231 = .ok (.iconst 1, 1) := dk_4 (dk_at dksL_law_85 18 rfl rfl)
theorem dL_law_2232 : decode cL_law 2232 = .ok (.iadd, 1) := dk_96 (dk_at dksL_law_85 19 rfl rfl)
theorem dL_law_2233 : decode cL_law 2233 = .ok (.iaload, 1) := dk_46 (dk_at dksL_law_85 20 rfl rfl)
theorem dL_law_2234 : decode cL_law 2234 = .ok (.aload_n 3, 1) := dk_45 (dk_at dksL_law_85 21 rfl rfl)
theorem dL_law_2235 : decode cL_law 2235 = .ok (.invokestatic 279, 3) := dk_184 1 23 (dk_at dksL_law_86 0 rfl rfl)
theorem dL_law_2238 : decode cL_law 2238 = .ok (.istore 5, 2) := dk_54 5 (dk_at dksL_law_86 3 rfl rfl)
theorem dL_law_2240 : decode cL_law 2240 = .ok (.aload_n 2, 1) := dk_44 (dk_at dksL_law_86 5 rfl rfl)
theorem dL_law_2241 : decode cL_law 2241 = .ok (.aload_n 0, 1) := dk_42 (dk_at dksL_law_86 6 rfl rfl)
theorem dL_law_2242 : decode cL_law 2242 = .ok (.iload 4, 2) := dk_21 4 (dk_at dksL_law_86 7 rfl rfl)
theorem dL_law_2244 : decode cL_law 2244 = .ok (.iconst 1, 1) := dk_4 (dk_at dksL_law_86 9 rfl rfl)
theorem dL_law_2245 : decode cL_law 2245 = .ok (.iadd, 1) := dk_96 (dk_at dksL_law_86 10 rfl rfl)
theorem dL_law_2246 : decode cL_law 2246 = .ok (.iaload, 1) := dk_46 (dk_at dksL_law_86 11 rfl rfl)
theorem dL_law_2247 : decode cL_law 2247 = .ok (.invokevirtual 281, 3) := dk_182 1 25 (dk_at dksL_law_86 12 rfl rfl)
theorem dL_law_2250 : decode cL_law 2250 = .ok (.istore 6, 2) := dk_54 6 (dk_at dksL_law_86 15 rfl rfl)
theorem dL_law_2252 : decode cL_law 2252 = .ok (.aload_n 2, 1) := dk_44 (dk_at dksL_law_86 17 rfl rfl)
theorem dL_law_2253 : decode cL_law 2253 = .ok (.invokevirtual 145, 3) := dk_182 0 145 (dk_at dksL_law_86 18 rfl rfl)
theorem dL_law_2256 : decode cL_law 2256 = .ok (.iload 5, 2) := dk_21 5 (dk_at dksL_law_86 21 rfl rfl)
theorem dL_law_2258 : decode cL_law 2258 = .ok (.if_icmp .eq 5, 3) := dk_159 0 5 (dk_at dksL_law_87 0 rfl rfl)
theorem dL_law_2261 : decode cL_law 2261 = .ok (.iconst 0, 1) := dk_3 (dk_at dksL_law_87 3 rfl rfl)
theorem dL_law_2262 : decode cL_law 2262 = .ok (.ireturn, 1) := dk_172 (dk_at dksL_law_87 4 rfl rfl)
theorem dL_law_2263 : decode cL_law 2263 = .ok (.iload 5, 2) := dk_21 5 (dk_at dksL_law_87 5 rfl rfl)
theorem dL_law_2265 : decode cL_law 2265 = .ok (.ifCond .ne 15, 3) := dk_154 0 15 (dk_at dksL_law_87 7 rfl rfl)
theorem dL_law_2268 : decode cL_law 2268 = .ok (.aload_n 3, 1) := dk_45 (dk_at dksL_law_87 10 rfl rfl)
theorem dL_law_2269 : decode cL_law 2269 = .ok (.iconst 0, 1) := dk_3 (dk_at dksL_law_87 11 rfl rfl)
theorem dL_law_2270 : decode cL_law 2270 = .ok (.laload, 1) := dk_47 (dk_at dksL_law_87 12 rfl rfl)
theorem dL_law_2271 : decode cL_law 2271 = .ok (.iload 6, 2) := dk_21 6 (dk_at dksL_law_87 13 rfl rfl)
theorem dL_law_2273 : decode cL_law 2273 = .ok (.i2l, 1) := dk_133 (dk_at dksL_law_87 15 rfl rfl)
theorem dL_law_2274 : decode cL_law 2274 = .ok (.lcmp, 1) := dk_148 (dk_at dksL_law_87 16 rfl rfl)
theorem dL_law_2275 : decode cL_law 2275 = .ok (.ifCond .eq 5, 3) := dk_153 0 5 (dk_at dksL_law_87 17 rfl rfl)
theorem dL_law_2278 : decode cL_law 2278 = .ok (.iconst 0, 1) := dk_3 (dk_at dksL_law_87 20 rfl rfl)
theorem dL_law_2279 : decode cL_law 2279 = .ok (.ireturn, 1) := dk_172 (dk_at dksL_law_87 21 rfl rfl)
theorem dL_law_2280 : decode cL_law 2280 = .ok (.goto 677, 3) := dk_167 2 165 (dk_at dksL_law_88 0 rfl rfl)
theorem dL_law_2283 : decode cL_law 2283 = .ok (.aload_n 1, 1) := dk_43 (dk_at dksL_law_88 3 rfl rfl)
theorem dL_law_2284 : decode cL_law 2284 = .ok (.aload_n 0, 1) := dk_42 (dk_at dksL_law_88 4 rfl rfl)
theorem dL_law_2285 : decode cL_law 2285 = .ok (.iload 4, 2) := dk_21 4 (dk_at dksL_law_88 5 rfl rfl)
theorem dL_law_2287 : decode cL_law 2287 = .ok (.iconst 1, 1) := dk_4 (dk_at dksL_law_88 7 rfl rfl)
theorem dL_law_2288 : decode cL_law 2288 = .ok (.iadd, 1) := dk_96 (dk_at dksL_law_88 8 rfl rfl)
theorem dL_law_2289 : decode cL_law 2289 = .ok (.iaload, 1) := dk_46 (dk_at dksL_law_88 9 rfl rfl)
theorem dL_law_2290 : decode cL_law 2290 = .ok (.aload_n 0, 1) := dk_42 (dk_at dksL_law_88 10 rfl rfl)
theorem dL_law_2291 : decode cL_law 2291 = .ok (.iload 4, 2) := dk_21 4 (dk_at dksL_law_88 11 rfl rfl)
theorem dL_law_2293 : decode cL_law 2293 = .ok (.iconst 2, 1) := dk_5 (dk_at dksL_law_88 13 rfl rfl)
theorem dL_law_2294 : decode cL_law 2294 = .ok (.iadd, 1) := dk_96 (dk_at dksL_law_88 14 rfl rfl)
theorem dL_law_2295 : decode cL_law 2295 = .ok (.iaload, 1) := dk_46 (dk_at dksL_law_88 15 rfl rfl)
theorem dL_law_2296 : decode cL_law 2296 = .ok (.aload_n 3, 1) := dk_45 (dk_at dksL_law_88 16 rfl rfl)
theorem dL_law_2297 : decode cL_law 2297 = .ok (.invokestatic 282, 3) := dk_184 1 26 (dk_at dksL_law_88 17 rfl rfl)
theorem dL_law_2300 : decode cL_law 2300 = .ok (.istore 5, 2) := dk_54 5 (dk_at dksL_law_88 20 rfl rfl)
theorem dL_law_2302 : decode cL_law 2302 = .ok (.aload_n 2, 1) := dk_44 (dk_at dksL_law_88 22 rfl rfl)
theorem dL_law_2303 : decode cL_law 2303 = .ok (.aload_n 0, 1) := dk_42 (dk_at dksL_law_88 23 rfl rfl)
theorem dL_law_2304 : decode cL_law 2304 = .ok (.iload 4, 2) := dk_21 4 (dk_at dksL_law_89 0 rfl rfl)
theorem dL_law_2306 : decode cL_law 2306 = .ok (.iconst 1, 1) := dk_4 (dk_at dksL_law_89 2 rfl rfl)
theorem dL_law_2307 : decode cL_law 2307 = .ok (.iadd, 1) := dk_96 (dk_at dksL_law_89 3 rfl rfl)
theorem dL_law_2308 : decode cL_law 2308 = .ok (.iaload, 1) := dk_46 (dk_at dksL_law_89 4 rfl rfl)
theorem dL_law_2309 : decode cL_law 2309 = .ok (.aload_n 0, 1) := dk_42 (dk_at dksL_law_89 5 rfl rfl)
theorem dL_law_2310 : decode cL_law 2310 = .ok (.iload 4, 2) := dk_21 4 (dk_at dksL_law_89 6 rfl rfl)
theorem dL_law_2312 : decode cL_law 2312 = .ok (.iconst 2, 1) := dk_5 (dk_at dksL_law_89 8 rfl rfl)
theorem dL_law_2313 : decode cL_law 2313 = .ok (.iadd, 1) := dk_96 (dk_at dksL_law_89 9 rfl rfl)
theorem dL_law_2314 : decode cL_law 2314 = .ok (.iaload, 1) := dk_46 (dk_at dksL_law_89 10 rfl rfl)
theorem dL_law_2315 : decode cL_law 2315 = .ok (.invokevirtual 284, 3) := dk_182 1 28 (dk_at dksL_law_89 11 rfl rfl)
theorem dL_law_2318 : decode cL_law 2318 = .ok (.istore 6, 2) := dk_54 6 (dk_at dksL_law_89 14 rfl rfl)
theorem dL_law_2320 : decode cL_law 2320 = .ok (.aload_n 2, 1) := dk_44 (dk_at dksL_law_89 16 rfl rfl)
theorem dL_law_2321 : decode cL_law 2321 = .ok (.invokevirtual 145, 3) := dk_182 0 145 (dk_at dksL_law_89 17 rfl rfl)
theorem dL_law_2324 : decode cL_law 2324 = .ok (.iload 5, 2) := dk_21 5 (dk_at dksL_law_89 20 rfl rfl)
theorem dL_law_2326 : decode cL_law 2326 = .ok (.if_icmp .eq 5, 3) := dk_159 0 5 (dk_at dksL_law_90 0 rfl rfl)
theorem dL_law_2329 : decode cL_law 2329 = .ok (.iconst 0, 1) := dk_3 (dk_at dksL_law_90 3 rfl rfl)
theorem dL_law_2330 : decode cL_law 2330 = .ok (.ireturn, 1) := dk_172 (dk_at dksL_law_90 4 rfl rfl)
theorem dL_law_2331 : decode cL_law 2331 = .ok (.iload 5, 2) := dk_21 5 (dk_at dksL_law_90 5 rfl rfl)
theorem dL_law_2333 : decode cL_law 2333 = .ok (.ifCond .ne 15, 3) := dk_154 0 15 (dk_at dksL_law_90 7 rfl rfl)
theorem dL_law_2336 : decode cL_law 2336 = .ok (.aload_n 3, 1) := dk_45 (dk_at dksL_law_90 10 rfl rfl)
theorem dL_law_2337 : decode cL_law 2337 = .ok (.iconst 0, 1) := dk_3 (dk_at dksL_law_90 11 rfl rfl)
theorem dL_law_2338 : decode cL_law 2338 = .ok (.laload, 1) := dk_47 (dk_at dksL_law_90 12 rfl rfl)
theorem dL_law_2339 : decode cL_law 2339 = .ok (.iload 6, 2) := dk_21 6 (dk_at dksL_law_90 13 rfl rfl)
theorem dL_law_2341 : decode cL_law 2341 = .ok (.i2l, 1) := dk_133 (dk_at dksL_law_90 15 rfl rfl)
theorem dL_law_2342 : decode cL_law 2342 = .ok (.lcmp, 1) := dk_148 (dk_at dksL_law_90 16 rfl rfl)
theorem dL_law_2343 : decode cL_law 2343 = .ok (.ifCond .eq 5, 3) := dk_153 0 5 (dk_at dksL_law_90 17 rfl rfl)
theorem dL_law_2346 : decode cL_law 2346 = .ok (.iconst 0, 1) := dk_3 (dk_at dksL_law_90 20 rfl rfl)
theorem dL_law_2347 : decode cL_law 2347 = .ok (.ireturn, 1) := dk_172 (dk_at dksL_law_90 21 rfl rfl)
theorem dL_law_2348 : decode cL_law 2348 = .ok (.goto 609, 3) := dk_167 2 97 (dk_at dksL_law_91 0 rfl rfl)
theorem dL_law_2351 : decode cL_law 2351 = .ok (.aload_n 1, 1) := dk_43 (dk_at dksL_law_91 3 rfl rfl)
theorem dL_law_2352 : decode cL_law 2352 = .ok (.aload_n 0, 1) := dk_42 (dk_at dksL_law_91 4 rfl rfl)
theorem dL_law_2353 : decode cL_law 2353 = .ok (.iload 4, 2) := dk_21 4 (dk_at dksL_law_91 5 rfl rfl)
theorem dL_law_2355 : decode cL_law 2355 = .ok (.iconst 1, 1) := dk_4 (dk_at dksL_law_91 7 rfl rfl)
theorem dL_law_2356 : decode cL_law 2356 = .ok (.iadd, 1) := dk_96 (dk_at dksL_law_91 8 rfl rfl)
theorem dL_law_2357 : decode cL_law 2357 = .ok (.iaload, 1) := dk_46 (dk_at dksL_law_91 9 rfl rfl)
theorem dL_law_2358 : decode cL_law 2358 = .ok (.aload_n 3, 1) := dk_45 (dk_at dksL_law_91 10 rfl rfl)
theorem dL_law_2359 : decode cL_law 2359 = .ok (.invokestatic 285, 3) := dk_184 1 29 (dk_at dksL_law_91 11 rfl rfl)
theorem dL_law_2362 : decode cL_law 2362 = .ok (.istore 5, 2) := dk_54 5 (dk_at dksL_law_91 14 rfl rfl)
theorem dL_law_2364 : decode cL_law 2364 = .ok (.aload_n 2, 1) := dk_44 (dk_at dksL_law_91 16 rfl rfl)
theorem dL_law_2365 : decode cL_law 2365 = .ok (.aload_n 0, 1) := dk_42 (dk_at dksL_law_91 17 rfl rfl)
theorem dL_law_2366 : decode cL_law 2366 = .ok (.iload 4, 2) := dk_21 4 (dk_at dksL_law_91 18 rfl rfl)
theorem dL_law_2368 : decode cL_law 2368 = .ok (.iconst 1, 1) := dk_4 (dk_at dksL_law_91 20 rfl rfl)
theorem dL_law_2369 : decode cL_law 2369 = .ok (.iadd, 1) := dk_96 (dk_at dksL_law_91 21 rfl rfl)
theorem dL_law_2370 : decode cL_law 2370 = .ok (.iaload, 1) := dk_46 (dk_at dksL_law_91 22 rfl rfl)
theorem dL_law_2371 : decode cL_law 2371 = .ok (.invokevirtual 287, 3) := dk_182 1 31 (dk_at dksL_law_92 0 rfl rfl)
theorem dL_law_2374 : decode cL_law 2374 = .ok (.istore 6, 2) := dk_54 6 (dk_at dksL_law_92 3 rfl rfl)
theorem dL_law_2376 : decode cL_law 2376 = .ok (.aload_n 2, 1) := dk_44 (dk_at dksL_law_92 5 rfl rfl)
theorem dL_law_2377 : decode cL_law 2377 = .ok (.invokevirtual 145, 3) := dk_182 0 145 (dk_at dksL_law_92 6 rfl rfl)
theorem dL_law_2380 : decode cL_law 2380 = .ok (.iload 5, 2) := dk_21 5 (dk_at dksL_law_92 9 rfl rfl)
theorem dL_law_2382 : decode cL_law 2382 = .ok (.if_icmp .eq 5, 3) := dk_159 0 5 (dk_at dksL_law_92 11 rfl rfl)
theorem dL_law_2385 : decode cL_law 2385 = .ok (.iconst 0, 1) := dk_3 (dk_at dksL_law_92 14 rfl rfl)
theorem dL_law_2386 : decode cL_law 2386 = .ok (.ireturn, 1) := dk_172 (dk_at dksL_law_92 15 rfl rfl)
theorem dL_law_2387 : decode cL_law 2387 = .ok (.iload 5, 2) := dk_21 5 (dk_at dksL_law_92 16 rfl rfl)
theorem dL_law_2389 : decode cL_law 2389 = .ok (.ifCond .ne 15, 3) := dk_154 0 15 (dk_at dksL_law_92 18 rfl rfl)
theorem dL_law_2392 : decode cL_law 2392 = .ok (.aload_n 3, 1) := dk_45 (dk_at dksL_law_92 21 rfl rfl)
theorem dL_law_2393 : decode cL_law 2393 = .ok (.iconst 0, 1) := dk_3 (dk_at dksL_law_92 22 rfl rfl)
theorem dL_law_2394 : decode cL_law 2394 = .ok (.laload, 1) := dk_47 (dk_at dksL_law_92 23 rfl rfl)
theorem dL_law_2395 : decode cL_law 2395 = .ok (.iload 6, 2) := dk_21 6 (dk_at dksL_law_93 0 rfl rfl)
theorem dL_law_2397 : decode cL_law 2397 = .ok (.i2l, 1) := dk_133 (dk_at dksL_law_93 2 rfl rfl)
theorem dL_law_2398 : decode cL_law 2398 = .ok (.lcmp, 1) := dk_148 (dk_at dksL_law_93 3 rfl rfl)
theorem dL_law_2399 : decode cL_law 2399 = .ok (.ifCond .eq 5, 3) := dk_153 0 5 (dk_at dksL_law_93 4 rfl rfl)
theorem dL_law_2402 : decode cL_law 2402 = .ok (.iconst 0, 1) := dk_3 (dk_at dksL_law_93 7 rfl rfl)
theorem dL_law_2403 : decode cL_law 2403 = .ok (.ireturn, 1) := dk_172 (dk_at dksL_law_93 8 rfl rfl)
theorem dL_law_2404 : decode cL_law 2404 = .ok (.goto 553, 3) := dk_167 2 41 (dk_at dksL_law_93 9 rfl rfl)
theorem dL_law_2407 : decode cL_law 2407 = .ok (.aload_n 1, 1) := dk_43 (dk_at dksL_law_93 12 rfl rfl)
theorem dL_law_2408 : decode cL_law 2408 = .ok (.aload_n 0, 1) := dk_42 (dk_at dksL_law_93 13 rfl rfl)
theorem dL_law_2409 : decode cL_law 2409 = .ok (.iload 4, 2) := dk_21 4 (dk_at dksL_law_93 14 rfl rfl)
theorem dL_law_2411 : decode cL_law 2411 = .ok (.iconst 1, 1) := dk_4 (dk_at dksL_law_93 16 rfl rfl)
theorem dL_law_2412 : decode cL_law 2412 = .ok (.iadd, 1) := dk_96 (dk_at dksL_law_93 17 rfl rfl)
theorem dL_law_2413 : decode cL_law 2413 = .ok (.iaload, 1) := dk_46 (dk_at dksL_law_93 18 rfl rfl)
theorem dL_law_2414 : decode cL_law 2414 = .ok (.aload_n 0, 1) := dk_42 (dk_at dksL_law_93 19 rfl rfl)
theorem dL_law_2415 : decode cL_law 2415 = .ok (.iload 4, 2) := dk_21 4 (dk_at dksL_law_93 20 rfl rfl)
theorem dL_law_2417 : decode cL_law 2417 = .ok (.iconst 2, 1) := dk_5 (dk_at dksL_law_93 22 rfl rfl)
theorem dL_law_2418 : decode cL_law 2418 = .ok (.iadd, 1) := dk_96 (dk_at dksL_law_93 23 rfl rfl)
theorem dL_law_2419 : decode cL_law 2419 = .ok (.iaload, 1) := dk_46 (dk_at dksL_law_94 0 rfl rfl)
theorem dL_law_2420 : decode cL_law 2420 = .ok (.aload_n 3, 1) := dk_45 (dk_at dksL_law_94 1 rfl rfl)
theorem dL_law_2421 : decode cL_law 2421 = .ok (.invokestatic 288, 3) := dk_184 1 32 (dk_at dksL_law_94 2 rfl rfl)
theorem dL_law_2424 : decode cL_law 2424 = .ok (.istore 5, 2) := dk_54 5 (dk_at dksL_law_94 5 rfl rfl)
theorem dL_law_2426 : decode cL_law 2426 = .ok (.aload_n 2, 1) := dk_44 (dk_at dksL_law_94 7 rfl rfl)
theorem dL_law_2427 : decode cL_law 2427 = .ok (.aload_n 0, 1) := dk_42 (dk_at dksL_law_94 8 rfl rfl)
theorem dL_law_2428 : decode cL_law 2428 = .ok (.iload 4, 2) := dk_21 4 (dk_at dksL_law_94 9 rfl rfl)
theorem dL_law_2430 : decode cL_law 2430 = .ok (.iconst 1, 1) := dk_4 (dk_at dksL_law_94 11 rfl rfl)
theorem dL_law_2431 : decode cL_law 2431 = .ok (.iadd, 1) := dk_96 (dk_at dksL_law_94 12 rfl rfl)
theorem dL_law_2432 : decode cL_law 2432 = .ok (.iaload, 1) := dk_46 (dk_at dksL_law_94 13 rfl rfl)
theorem dL_law_2433 : decode cL_law 2433 = .ok (.aload_n 0, 1) := dk_42 (dk_at dksL_law_94 14 rfl rfl)
theorem dL_law_2434 : decode cL_law 2434 = .ok (.iload 4, 2) := dk_21 4 (dk_at dksL_law_94 15 rfl rfl)
theorem dL_law_2436 : decode cL_law 2436 = .ok (.iconst 2, 1) := dk_5 (dk_at dksL_law_94 17 rfl rfl)
theorem dL_law_2437 : decode cL_law 2437 = .ok (.iadd, 1) := dk_96 (dk_at dksL_law_94 18 rfl rfl)
theorem dL_law_2438 : decode cL_law 2438 = .ok (.iaload, 1) := dk_46 (dk_at dksL_law_94 19 rfl rfl)
theorem dL_law_2439 : decode cL_law 2439 = .ok (.invokevirtual 290, 3) := dk_182 1 34 (dk_at dksL_law_94 20 rfl rfl)
theorem dL_law_2442 : decode cL_law 2442 = .ok (.istore 6, 2) := dk_54 6 (dk_at dksL_law_95 0 rfl rfl)
theorem dL_law_2444 : decode cL_law 2444 = .ok (.aload_n 2, 1) := dk_44 (dk_at dksL_law_95 2 rfl rfl)
theorem dL_law_2445 : decode cL_law 2445 = .ok (.invokevirtual 145, 3) := dk_182 0 145 (dk_at dksL_law_95 3 rfl rfl)
theorem dL_law_2448 : decode cL_law 2448 = .ok (.iload 5, 2) := dk_21 5 (dk_at dksL_law_95 6 rfl rfl)
theorem dL_law_2450 : decode cL_law 2450 = .ok (.if_icmp .eq 5, 3) := dk_159 0 5 (dk_at dksL_law_95 8 rfl rfl)
theorem dL_law_2453 : decode cL_law 2453 = .ok (.iconst 0, 1) := dk_3 (dk_at dksL_law_95 11 rfl rfl)
theorem dL_law_2454 : decode cL_law 2454 = .ok (.ireturn, 1) := dk_172 (dk_at dksL_law_95 12 rfl rfl)
theorem dL_law_2455 : decode cL_law 2455 = .ok (.iload 5, 2) := dk_21 5 (dk_at dksL_law_95 13 rfl rfl)
theorem dL_law_2457 : decode cL_law 2457 = .ok (.ifCond .ne 15, 3) := dk_154 0 15 (dk_at dksL_law_95 15 rfl rfl)
theorem dL_law_2460 : decode cL_law 2460 = .ok (.aload_n 3, 1) := dk_45 (dk_at dksL_law_95 18 rfl rfl)
theorem dL_law_2461 : decode cL_law 2461 = .ok (.iconst 0, 1) := dk_3 (dk_at dksL_law_95 19 rfl rfl)
theorem dL_law_2462 : decode cL_law 2462 = .ok (.laload, 1) := dk_47 (dk_at dksL_law_95 20 rfl rfl)
theorem dL_law_2463 : decode cL_law 2463 = .ok (.iload 6, 2) := dk_21 6 (dk_at dksL_law_95 21 rfl rfl)
theorem dL_law_2465 : decode cL_law 2465 = .ok (.i2l, 1) := dk_133 (dk_at dksL_law_95 23 rfl rfl)
theorem dL_law_2466 : decode cL_law 2466 = .ok (.lcmp, 1) := dk_148 (dk_at dksL_law_96 0 rfl rfl)
theorem dL_law_2467 : decode cL_law 2467 = .ok (.ifCond .eq 5, 3) := dk_153 0 5 (dk_at dksL_law_96 1 rfl rfl)
theorem dL_law_2470 : decode cL_law 2470 = .ok (.iconst 0, 1) := dk_3 (dk_at dksL_law_96 4 rfl rfl)
theorem dL_law_2471 : decode cL_law 2471 = .ok (.ireturn, 1) := dk_172 (dk_at dksL_law_96 5 rfl rfl)
theorem dL_law_2472 : decode cL_law 2472 = .ok (.goto 485, 3) := dk_167 1 229 (dk_at dksL_law_96 6 rfl rfl)
theorem dL_law_2475 : decode cL_law 2475 = .ok (.aload_n 1, 1) := dk_43 (dk_at dksL_law_96 9 rfl rfl)
theorem dL_law_2476 : decode cL_law 2476 = .ok (.aload_n 0, 1) := dk_42 (dk_at dksL_law_96 10 rfl rfl)
theorem dL_law_2477 : decode cL_law 2477 = .ok (.iload 4, 2) := dk_21 4 (dk_at dksL_law_96 11 rfl rfl)
theorem dL_law_2479 : decode cL_law 2479 = .ok (.iconst 1, 1) := dk_4 (dk_at dksL_law_96 13 rfl rfl)
theorem dL_law_2480 : decode cL_law 2480 = .ok (.iadd, 1) := dk_96 (dk_at dksL_law_96 14 rfl rfl)
theorem dL_law_2481 : decode cL_law 2481 = .ok (.iaload, 1) := dk_46 (dk_at dksL_law_96 15 rfl rfl)
theorem dL_law_2482 : decode cL_law 2482 = .ok (.aload_n 3, 1) := dk_45 (dk_at dksL_law_96 16 rfl rfl)
theorem dL_law_2483 : decode cL_law 2483 = .ok (.invokestatic 291, 3) := dk_184 1 35 (dk_at dksL_law_96 17 rfl rfl)
theorem dL_law_2486 : decode cL_law 2486 = .ok (.istore 5, 2) := dk_54 5 (dk_at dksL_law_96 20 rfl rfl)
theorem dL_law_2488 : decode cL_law 2488 = .ok (.aload_n 2, 1) := dk_44 (dk_at dksL_law_96 22 rfl rfl)
theorem dL_law_2489 : decode cL_law 2489 = .ok (.aload_n 0, 1) := dk_42 (dk_at dksL_law_96 23 rfl rfl)
theorem dL_law_2490 : decode cL_law 2490 = .ok (.iload 4, 2) := dk_21 4 (dk_at dksL_law_97 0 rfl rfl)
theorem dL_law_2492 : decode cL_law 2492 = .ok (.iconst 1, 1) := dk_4 (dk_at dksL_law_97 2 rfl rfl)
theorem dL_law_2493 : decode cL_law 2493 = .ok (.iadd, 1) := dk_96 (dk_at dksL_law_97 3 rfl rfl)
theorem dL_law_2494 : decode cL_law 2494 = .ok (.iaload, 1) := dk_46 (dk_at dksL_law_97 4 rfl rfl)
theorem dL_law_2495 : decode cL_law 2495 = .ok (.invokevirtual 293, 3) := dk_182 1 37 (dk_at dksL_law_97 5 rfl rfl)
theorem dL_law_2498 : decode cL_law 2498 = .ok (.istore 6, 2) := dk_54 6 (dk_at dksL_law_97 8 rfl rfl)
theorem dL_law_2500 : decode cL_law 2500 = .ok (.aload_n 2, 1) := dk_44 (dk_at dksL_law_97 10 rfl rfl)
theorem dL_law_2501 : decode cL_law 2501 = .ok (.invokevirtual 145, 3) := dk_182 0 145 (dk_at dksL_law_97 11 rfl rfl)
theorem dL_law_2504 : decode cL_law 2504 = .ok (.iload 5, 2) := dk_21 5 (dk_at dksL_law_97 14 rfl rfl)
theorem dL_law_2506 : decode cL_law 2506 = .ok (.if_icmp .eq 5, 3) := dk_159 0 5 (dk_at dksL_law_97 16 rfl rfl)
theorem dL_law_2509 : decode cL_law 2509 = .ok (.iconst 0, 1) := dk_3 (dk_at dksL_law_97 19 rfl rfl)
theorem dL_law_2510 : decode cL_law 2510 = .ok (.ireturn, 1) := dk_172 (dk_at dksL_law_97 20 rfl rfl)
theorem dL_law_2511 : decode cL_law 2511 = .ok (.iload 5, 2) := dk_21 5 (dk_at dksL_law_97 21 rfl rfl)
theorem dL_law_2513 : decode cL_law 2513 = .ok (.ifCond .ne 15, 3) := dk_154 0 15 (dk_at dksL_law_98 0 rfl rfl)
theorem dL_law_2516 : decode cL_law 2516 = .ok (.aload_n 3, 1) := dk_45 (dk_at dksL_law_98 3 rfl rfl)
theorem dL_law_2517 : decode cL_law 2517 = .ok (.iconst 0, 1) := dk_3 (dk_at dksL_law_98 4 rfl rfl)
theorem dL_law_2518 : decode cL_law 2518 = .ok (.laload, 1) := dk_47 (dk_at dksL_law_98 5 rfl rfl)
theorem dL_law_2519 : decode cL_law 2519 = .ok (.iload 6, 2) := dk_21 6 (dk_at dksL_law_98 6 rfl rfl)
theorem dL_law_2521 : decode cL_law 2521 = .ok (.i2l, 1) := dk_133 (dk_at dksL_law_98 8 rfl rfl)
theorem dL_law_2522 : decode cL_law 2522 = .ok (.lcmp, 1) := dk_148 (dk_at dksL_law_98 9 rfl rfl)
theorem dL_law_2523 : decode cL_law 2523 = .ok (.ifCond .eq 5, 3) := dk_153 0 5 (dk_at dksL_law_98 10 rfl rfl)
theorem dL_law_2526 : decode cL_law 2526 = .ok (.iconst 0, 1) := dk_3 (dk_at dksL_law_98 13 rfl rfl)
theorem dL_law_2527 : decode cL_law 2527 = .ok (.ireturn, 1) := dk_172 (dk_at dksL_law_98 14 rfl rfl)
theorem dL_law_2528 : decode cL_law 2528 = .ok (.goto 429, 3) := dk_167 1 173 (dk_at dksL_law_98 15 rfl rfl)
theorem dL_law_2531 : decode cL_law 2531 = .ok (.aload_n 1, 1) := dk_43 (dk_at dksL_law_98 18 rfl rfl)
theorem dL_law_2532 : decode cL_law 2532 = .ok (.invokevirtual 294, 3) := dk_182 1 38 (dk_at dksL_law_98 19 rfl rfl)
theorem dL_law_2535 : decode cL_law 2535 = .ok (.aload_n 2, 1) := dk_44 (dk_at dksL_law_98 22 rfl rfl)
theorem dL_law_2536 : decode cL_law 2536 = .ok (.invokevirtual 298, 3) := dk_182 1 42 (dk_at dksL_law_99 0 rfl rfl)
theorem dL_law_2539 : decode cL_law 2539 = .ok (.if_icmp .eq 418, 3) := dk_159 1 162 (dk_at dksL_law_99 3 rfl rfl)
theorem dL_law_2542 : decode cL_law 2542 = .ok (.iconst 0, 1) := dk_3 (dk_at dksL_law_99 6 rfl rfl)
theorem dL_law_2543 : decode cL_law 2543 = .ok (.ireturn, 1) := dk_172 (dk_at dksL_law_99 7 rfl rfl)
theorem dL_law_2544 : decode cL_law 2544 = .ok (.aload_n 1, 1) := dk_43 (dk_at dksL_law_99 8 rfl rfl)
theorem dL_law_2545 : decode cL_law 2545 = .ok (.invokevirtual 299, 3) := dk_182 1 43 (dk_at dksL_law_99 9 rfl rfl)
theorem dL_law_2548 : decode cL_law 2548 = .ok (.aload_n 2, 1) := dk_44 (dk_at dksL_law_99 12 rfl rfl)
theorem dL_law_2549 : decode cL_law 2549 = .ok (.invokevirtual 302, 3) := dk_182 1 46 (dk_at dksL_law_99 13 rfl rfl)
theorem dL_law_2552 : decode cL_law 2552 = .ok (.if_icmp .eq 405, 3) := dk_159 1 149 (dk_at dksL_law_99 16 rfl rfl)
theorem dL_law_2555 : decode cL_law 2555 = .ok (.iconst 0, 1) := dk_3 (dk_at dksL_law_99 19 rfl rfl)
theorem dL_law_2556 : decode cL_law 2556 = .ok (.ireturn, 1) := dk_172 (dk_at dksL_law_99 20 rfl rfl)
theorem dL_law_2557 : decode cL_law 2557 = .ok (.aload_n 1, 1) := dk_43 (dk_at dksL_law_99 21 rfl rfl)
theorem dL_law_2558 : decode cL_law 2558 = .ok (.invokevirtual 303, 3) := dk_182 1 47 (dk_at dksL_law_100 0 rfl rfl)
theorem dL_law_2561 : decode cL_law 2561 = .ok (.aload_n 2, 1) := dk_44 (dk_at dksL_law_100 3 rfl rfl)
theorem dL_law_2562 : decode cL_law 2562 = .ok (.invokevirtual 306, 3) := dk_182 1 50 (dk_at dksL_law_100 4 rfl rfl)
theorem dL_law_2565 : decode cL_law 2565 = .ok (.if_icmp .eq 392, 3) := dk_159 1 136 (dk_at dksL_law_100 7 rfl rfl)
theorem dL_law_2568 : decode cL_law 2568 = .ok (.iconst 0, 1) := dk_3 (dk_at dksL_law_100 10 rfl rfl)
theorem dL_law_2569 : decode cL_law 2569 = .ok (.ireturn, 1) := dk_172 (dk_at dksL_law_100 11 rfl rfl)
theorem dL_law_2570 : decode cL_law 2570 = .ok (.aload_n 1, 1) := dk_43 (dk_at dksL_law_100 12 rfl rfl)
theorem dL_law_2571 : decode cL_law 2571 = .ok (.aload_n 0, 1) := dk_42 (dk_at dksL_law_100 13 rfl rfl)
theorem dL_law_2572 : decode cL_law 2572 = .ok (.iload 4, 2) := dk_21 4 (dk_at dksL_law_100 14 rfl rfl)
theorem dL_law_2574 : decode cL_law 2574 = .ok (.iconst 1, 1) := dk_4 (dk_at dksL_law_100 16 rfl rfl)
theorem dL_law_2575 : decode cL_law 2575 = .ok (.iadd, 1) := dk_96 (dk_at dksL_law_100 17 rfl rfl)
theorem dL_law_2576 : decode cL_law 2576 = .ok (.iaload, 1) := dk_46 (dk_at dksL_law_100 18 rfl rfl)
theorem dL_law_2577 : decode cL_law 2577 = .ok (.aload_n 3, 1) := dk_45 (dk_at dksL_law_100 19 rfl rfl)
theorem dL_law_2578 : decode cL_law 2578 = .ok (.invokestatic 307, 3) := dk_184 1 51 (dk_at dksL_law_100 20 rfl rfl)
theorem dL_law_2581 : decode cL_law 2581 = .ok (.istore 5, 2) := dk_54 5 (dk_at dksL_law_101 0 rfl rfl)
theorem dL_law_2583 : decode cL_law 2583 = .ok (.aload_n 2, 1) := dk_44 (dk_at dksL_law_101 2 rfl rfl)
theorem dL_law_2584 : decode cL_law 2584 = .ok (.aload_n 0, 1) := dk_42 (dk_at dksL_law_101 3 rfl rfl)
theorem dL_law_2585 : decode cL_law 2585 = .ok (.iload 4, 2) := dk_21 4 (dk_at dksL_law_101 4 rfl rfl)
theorem dL_law_2587 : decode cL_law 2587 = .ok (.iconst 1, 1) := dk_4 (dk_at dksL_law_101 6 rfl rfl)
theorem dL_law_2588 : decode cL_law 2588 = .ok (.iadd, 1) := dk_96 (dk_at dksL_law_101 7 rfl rfl)
theorem dL_law_2589 : decode cL_law 2589 = .ok (.iaload, 1) := dk_46 (dk_at dksL_law_101 8 rfl rfl)
theorem dL_law_2590 : decode cL_law 2590 = .ok (.invokevirtual 309, 3) := dk_182 1 53 (dk_at dksL_law_101 9 rfl rfl)
theorem dL_law_2593 : decode cL_law 2593 = .ok (.istore 6, 2) := dk_54 6 (dk_at dksL_law_101 12 rfl rfl)
theorem dL_law_2595 : decode cL_law 2595 = .ok (.aload_n 2, 1) := dk_44 (dk_at dksL_law_101 14 rfl rfl)
theorem dL_law_2596 : decode cL_law 2596 = .ok (.invokevirtual 145, 3) := dk_182 0 145 (dk_at dksL_law_101 15 rfl rfl)
theorem dL_law_2599 : decode cL_law 2599 = .ok (.iload 5, 2) := dk_21 5 (dk_at dksL_law_101 18 rfl rfl)
theorem dL_law_2601 : decode cL_law 2601 = .ok (.if_icmp .eq 5, 3) := dk_159 0 5 (dk_at dksL_law_101 20 rfl rfl)
theorem dL_law_2604 : decode cL_law 2604 = .ok (.iconst 0, 1) := dk_3 (dk_at dksL_law_101 23 rfl rfl)
theorem dL_law_2605 : decode cL_law 2605 = .ok (.ireturn, 1) := dk_172 (dk_at dksL_law_102 0 rfl rfl)
theorem dL_law_2606 : decode cL_law 2606 = .ok (.iload 5, 2) := dk_21 5 (dk_at dksL_law_102 1 rfl rfl)
theorem dL_law_2608 : decode cL_law 2608 = .ok (.ifCond .ne 22, 3) := dk_154 0 22 (dk_at dksL_law_102 3 rfl rfl)
theorem dL_law_2611 : decode cL_law 2611 = .ok (.aload_n 3, 1) := dk_45 (dk_at dksL_law_102 6 rfl rfl)
theorem dL_law_2612 : decode cL_law 2612 = .ok (.iconst 0, 1) := dk_3 (dk_at dksL_law_102 7 rfl rfl)
theorem dL_law_2613 : decode cL_law 2613 = .ok (.laload, 1) := dk_47 (dk_at dksL_law_102 8 rfl rfl)
theorem dL_law_2614 : decode cL_law 2614 = .ok (.iload 6, 2) := dk_21 6 (dk_at dksL_law_102 9 rfl rfl)
theorem dL_law_2616 : decode cL_law 2616 = .ok (.ifCond .eq 7, 3) := dk_153 0 7 (dk_at dksL_law_102 11 rfl rfl)
theorem dL_law_2619 : decode cL_law 2619 = .ok (.lconst 1, 1) := dk_10 (dk_at dksL_law_102 14 rfl rfl)
theorem dL_law_2620 : decode cL_law 2620 = .ok (.goto 4, 3) := dk_167 0 4 (dk_at dksL_law_102 15 rfl rfl)
theorem dL_law_2623 : decode cL_law 2623 = .ok (.lconst 0, 1) := dk_9 (dk_at dksL_law_102 18 rfl rfl)
theorem dL_law_2624 : decode cL_law 2624 = .ok (.lcmp, 1) := dk_148 (dk_at dksL_law_102 19 rfl rfl)
theorem dL_law_2625 : decode cL_law 2625 = .ok (.ifCond .eq 5, 3) := dk_153 0 5 (dk_at dksL_law_102 20 rfl rfl)
theorem dL_law_2628 : decode cL_law 2628 = .ok (.iconst 0, 1) := dk_3 (dk_at dksL_law_102 23 rfl rfl)
theorem dL_law_2629 : decode cL_law 2629 = .ok (.ireturn, 1) := dk_172 (dk_at dksL_law_103 0 rfl rfl)
theorem dL_law_2630 : decode cL_law 2630 = .ok (.goto 327, 3) := dk_167 1 71 (dk_at dksL_law_103 1 rfl rfl)
theorem dL_law_2633 : decode cL_law 2633 = .ok (.aload_n 1, 1) := dk_43 (dk_at dksL_law_103 4 rfl rfl)
theorem dL_law_2634 : decode cL_law 2634 = .ok (.aload_n 0, 1) := dk_42 (dk_at dksL_law_103 5 rfl rfl)
theorem dL_law_2635 : decode cL_law 2635 = .ok (.iload 4, 2) := dk_21 4 (dk_at dksL_law_103 6 rfl rfl)
theorem dL_law_2637 : decode cL_law 2637 = .ok (.iconst 1, 1) := dk_4 (dk_at dksL_law_103 8 rfl rfl)
theorem dL_law_2638 : decode cL_law 2638 = .ok (.iadd, 1) := dk_96 (dk_at dksL_law_103 9 rfl rfl)
theorem dL_law_2639 : decode cL_law 2639 = .ok (.iaload, 1) := dk_46 (dk_at dksL_law_103 10 rfl rfl)
theorem dL_law_2640 : decode cL_law 2640 = .ok (.aload_n 3, 1) := dk_45 (dk_at dksL_law_103 11 rfl rfl)
theorem dL_law_2641 : decode cL_law 2641 = .ok (.invokestatic 310, 3) := dk_184 1 54 (dk_at dksL_law_103 12 rfl rfl)
theorem dL_law_2644 : decode cL_law 2644 = .ok (.istore 5, 2) := dk_54 5 (dk_at dksL_law_103 15 rfl rfl)
theorem dL_law_2646 : decode cL_law 2646 = .ok (.aload_n 2, 1) := dk_44 (dk_at dksL_law_103 17 rfl rfl)
theorem dL_law_2647 : decode cL_law 2647 = .ok (.aload_n 0, 1) := dk_42 (dk_at dksL_law_103 18 rfl rfl)
theorem dL_law_2648 : decode cL_law 2648 = .ok (.iload 4, 2) := dk_21 4 (dk_at dksL_law_103 19 rfl rfl)
theorem dL_law_2650 : decode cL_law 2650 = .ok (.iconst 1, 1) := dk_4 (dk_at dksL_law_103 21 rfl rfl)
theorem dL_law_2651 : decode cL_law 2651 = .ok (.iadd, 1) := dk_96 (dk_at dksL_law_103 22 rfl rfl)
theorem dL_law_2652 : decode cL_law 2652 = .ok (.iaload, 1) := dk_46 (dk_at dksL_law_103 23 rfl rfl)
theorem dL_law_2653 : decode cL_law 2653 = .ok (.invokevirtual 312, 3) := dk_182 1 56 (dk_at dksL_law_104 0 rfl rfl)
theorem dL_law_2656 : decode cL_law 2656 = .ok (.istore 6, 2) := dk_54 6 (dk_at dksL_law_104 3 rfl rfl)
theorem dL_law_2658 : decode cL_law 2658 = .ok (.aload_n 2, 1) := dk_44 (dk_at dksL_law_104 5 rfl rfl)
theorem dL_law_2659 : decode cL_law 2659 = .ok (.invokevirtual 145, 3) := dk_182 0 145 (dk_at dksL_law_104 6 rfl rfl)
theorem dL_law_2662 : decode cL_law 2662 = .ok (.iload 5, 2) := dk_21 5 (dk_at dksL_law_104 9 rfl rfl)
theorem dL_law_2664 : decode cL_law 2664 = .ok (.if_icmp .eq 5, 3) := dk_159 0 5 (dk_at dksL_law_104 11 rfl rfl)
theorem dL_law_2667 : decode cL_law 2667 = .ok (.iconst 0, 1) := dk_3 (dk_at dksL_law_104 14 rfl rfl)
theorem dL_law_2668 : decode cL_law 2668 = .ok (.ireturn, 1) := dk_172 (dk_at dksL_law_104 15 rfl rfl)
theorem dL_law_2669 : decode cL_law 2669 = .ok (.iload 5, 2) := dk_21 5 (dk_at dksL_law_104 16 rfl rfl)
theorem dL_law_2671 : decode cL_law 2671 = .ok (.ifCond .ne 15, 3) := dk_154 0 15 (dk_at dksL_law_104 18 rfl rfl)
theorem dL_law_2674 : decode cL_law 2674 = .ok (.aload_n 3, 1) := dk_45 (dk_at dksL_law_104 21 rfl rfl)
theorem dL_law_2675 : decode cL_law 2675 = .ok (.iconst 0, 1) := dk_3 (dk_at dksL_law_104 22 rfl rfl)
theorem dL_law_2676 : decode cL_law 2676 = .ok (.laload, 1) := dk_47 (dk_at dksL_law_104 23 rfl rfl)
theorem dL_law_2677 : decode cL_law 2677 = .ok (.iload 6, 2) := dk_21 6 (dk_at dksL_law_105 0 rfl rfl)
theorem dL_law_2679 : decode cL_law 2679 = .ok (.i2l, 1) := dk_133 (dk_at dksL_law_105 2 rfl rfl)
theorem dL_law_2680 : decode cL_law 2680 = .ok (.lcmp, 1) := dk_148 (dk_at dksL_law_105 3 rfl rfl)
theorem dL_law_2681 : decode cL_law 2681 = .ok (.ifCond .eq 5, 3) := dk_153 0 5 (dk_at dksL_law_105 4 rfl rfl)
theorem dL_law_2684 : decode cL_law 2684 = .ok (.iconst 0, 1) := dk_3 (dk_at dksL_law_105 7 rfl rfl)
theorem dL_law_2685 : decode cL_law 2685 = .ok (.ireturn, 1) := dk_172 (dk_at dksL_law_105 8 rfl rfl)
theorem dL_law_2686 : decode cL_law 2686 = .ok (.goto 271, 3) := dk_167 1 15 (dk_at dksL_law_105 9 rfl rfl)
theorem dL_law_2689 : decode cL_law 2689 = .ok (.aload_n 1, 1) := dk_43 (dk_at dksL_law_105 12 rfl rfl)
theorem dL_law_2690 : decode cL_law 2690 = .ok (.invokevirtual 313, 3) := dk_182 1 57 (dk_at dksL_law_105 13 rfl rfl)
theorem dL_law_2693 : decode cL_law 2693 = .ok (.aload_n 2, 1) := dk_44 (dk_at dksL_law_105 16 rfl rfl)
theorem dL_law_2694 : decode cL_law 2694 = .ok (.invokevirtual 316, 3) := dk_182 1 60 (dk_at dksL_law_105 17 rfl rfl)
theorem dL_law_2697 : decode cL_law 2697 = .ok (.if_icmp .eq 260, 3) := dk_159 1 4 (dk_at dksL_law_105 20 rfl rfl)
theorem dL_law_2700 : decode cL_law 2700 = .ok (.iconst 0, 1) := dk_3 (dk_at dksL_law_105 23 rfl rfl)
theorem dL_law_2701 : decode cL_law 2701 = .ok (.ireturn, 1) := dk_172 (dk_at dksL_law_106 0 rfl rfl)
theorem dL_law_2702 : decode cL_law 2702 = .ok (.aload_n 1, 1) := dk_43 (dk_at dksL_law_106 1 rfl rfl)
theorem dL_law_2703 : decode cL_law 2703 = .ok (.invokevirtual 317, 3) := dk_182 1 61 (dk_at dksL_law_106 2 rfl rfl)
theorem dL_law_2706 : decode cL_law 2706 = .ok (.aload_n 2, 1) := dk_44 (dk_at dksL_law_106 5 rfl rfl)
theorem dL_law_2707 : decode cL_law 2707 = .ok (.invokevirtual 320, 3) := dk_182 1 64 (dk_at dksL_law_106 6 rfl rfl)
theorem dL_law_2710 : decode cL_law 2710 = .ok (.if_icmp .eq 247, 3) := dk_159 0 247 (dk_at dksL_law_106 9 rfl rfl)
theorem dL_law_2713 : decode cL_law 2713 = .ok (.iconst 0, 1) := dk_3 (dk_at dksL_law_106 12 rfl rfl)
theorem dL_law_2714 : decode cL_law 2714 = .ok (.ireturn, 1) := dk_172 (dk_at dksL_law_106 13 rfl rfl)
theorem dL_law_2715 : decode cL_law 2715 = .ok (.aload_n 1, 1) := dk_43 (dk_at dksL_law_106 14 rfl rfl)
theorem dL_law_2716 : decode cL_law 2716 = .ok (.invokevirtual 321, 3) := dk_182 1 65 (dk_at dksL_law_106 15 rfl rfl)
theorem dL_law_2719 : decode cL_law 2719 = .ok (.aload_n 2, 1) := dk_44 (dk_at dksL_law_106 18 rfl rfl)
theorem dL_law_2720 : decode cL_law 2720 = .ok (.invokevirtual 324, 3) := dk_182 1 68 (dk_at dksL_law_106 19 rfl rfl)
theorem dL_law_2723 : decode cL_law 2723 = .ok (.if_icmp .eq 234, 3) := dk_159 0 234 (dk_at dksL_law_107 0 rfl rfl)
theorem dL_law_2726 : decode cL_law 2726 = .ok (.iconst 0, 1) := dk_3 (dk_at dksL_law_107 3 rfl rfl)
theorem dL_law_2727 : decode cL_law 2727 = .ok (.ireturn, 1) := dk_172 (dk_at dksL_law_107 4 rfl rfl)
theorem dL_law_2728 : decode cL_law 2728 = .ok (.aload_n 1, 1) := dk_43 (dk_at dksL_law_107 5 rfl rfl)
theorem dL_law_2729 : decode cL_law 2729 = .ok (.aload_n 0, 1) := dk_42 (dk_at dksL_law_107 6 rfl rfl)
theorem dL_law_2730 : decode cL_law 2730 = .ok (.iload 4, 2) := dk_21 4 (dk_at dksL_law_107 7 rfl rfl)
theorem dL_law_2732 : decode cL_law 2732 = .ok (.iconst 1, 1) := dk_4 (dk_at dksL_law_107 9 rfl rfl)
theorem dL_law_2733 : decode cL_law 2733 = .ok (.iadd, 1) := dk_96 (dk_at dksL_law_107 10 rfl rfl)
theorem dL_law_2734 : decode cL_law 2734 = .ok (.iaload, 1) := dk_46 (dk_at dksL_law_107 11 rfl rfl)
theorem dL_law_2735 : decode cL_law 2735 = .ok (.aload_n 0, 1) := dk_42 (dk_at dksL_law_107 12 rfl rfl)
theorem dL_law_2736 : decode cL_law 2736 = .ok (.iload 4, 2) := dk_21 4 (dk_at dksL_law_107 13 rfl rfl)
theorem dL_law_2738 : decode cL_law 2738 = .ok (.iconst 2, 1) := dk_5 (dk_at dksL_law_107 15 rfl rfl)
theorem dL_law_2739 : decode cL_law 2739 = .ok (.iadd, 1) := dk_96 (dk_at dksL_law_107 16 rfl rfl)
theorem dL_law_2740 : decode cL_law 2740 = .ok (.iaload, 1) := dk_46 (dk_at dksL_law_107 17 rfl rfl)
theorem dL_law_2741 : decode cL_law 2741 = .ok (.aload_n 3, 1) := dk_45 (dk_at dksL_law_107 18 rfl rfl)
theorem dL_law_2742 : decode cL_law 2742 = .ok (.invokestatic 325, 3) := dk_184 1 69 (dk_at dksL_law_107 19 rfl rfl)
theorem dL_law_2745 : decode cL_law 2745 = .ok (.istore 5, 2) := dk_54 5 (dk_at dksL_law_107 22 rfl rfl)
theorem dL_law_2747 : decode cL_law 2747 = .ok (.aload_n 2, 1) := dk_44 (dk_at dksL_law_108 0 rfl rfl)
theorem dL_law_2748 : decode cL_law 2748 = .ok (.aload_n 0, 1) := dk_42 (dk_at dksL_law_108 1 rfl rfl)
theorem dL_law_2749 : decode cL_law 2749 = .ok (.iload 4, 2) := dk_21 4 (dk_at dksL_law_108 2 rfl rfl)
theorem dL_law_2751 : decode cL_law 2751 = .ok (.iconst 1, 1) := dk_4 (dk_at dksL_law_108 4 rfl rfl)
theorem dL_law_2752 : decode cL_law 2752 = .ok (.iadd, 1) := dk_96 (dk_at dksL_law_108 5 rfl rfl)
theorem dL_law_2753 : decode cL_law 2753 = .ok (.iaload, 1) := dk_46 (dk_at dksL_law_108 6 rfl rfl)
theorem dL_law_2754 : decode cL_law 2754 = .ok (.aload_n 0, 1) := dk_42 (dk_at dksL_law_108 7 rfl rfl)
theorem dL_law_2755 : decode cL_law 2755 = .ok (.iload 4, 2) := dk_21 4 (dk_at dksL_law_108 8 rfl rfl)
theorem dL_law_2757 : decode cL_law 2757 = .ok (.iconst 2, 1) := dk_5 (dk_at dksL_law_108 10 rfl rfl)
theorem dL_law_2758 : decode cL_law 2758 = .ok (.iadd, 1) := dk_96 (dk_at dksL_law_108 11 rfl rfl)
theorem dL_law_2759 : decode cL_law 2759 = .ok (.iaload, 1) := dk_46 (dk_at dksL_law_108 12 rfl rfl)
theorem dL_law_2760 : decode cL_law 2760 = .ok (.invokevirtual 327, 3) := dk_182 1 71 (dk_at dksL_law_108 13 rfl rfl)
theorem dL_law_2763 : decode cL_law 2763 = .ok (.istore 6, 2) := dk_54 6 (dk_at dksL_law_108 16 rfl rfl)
theorem dL_law_2765 : decode cL_law 2765 = .ok (.aload_n 2, 1) := dk_44 (dk_at dksL_law_108 18 rfl rfl)
theorem dL_law_2766 : decode cL_law 2766 = .ok (.invokevirtual 145, 3) := dk_182 0 145 (dk_at dksL_law_108 19 rfl rfl)
theorem dL_law_2769 : decode cL_law 2769 = .ok (.iload 5, 2) := dk_21 5 (dk_at dksL_law_108 22 rfl rfl)
theorem dL_law_2771 : decode cL_law 2771 = .ok (.if_icmp .eq 5, 3) := dk_159 0 5 (dk_at dksL_law_109 0 rfl rfl)
theorem dL_law_2774 : decode cL_law 2774 = .ok (.iconst 0, 1) := dk_3 (dk_at dksL_law_109 3 rfl rfl)
theorem dL_law_2775 : decode cL_law 2775 = .ok (.ireturn, 1) := dk_172 (dk_at dksL_law_109 4 rfl rfl)
theorem dL_law_2776 : decode cL_law 2776 = .ok (.iload 5, 2) := dk_21 5 (dk_at dksL_law_109 5 rfl rfl)
theorem dL_law_2778 : decode cL_law 2778 = .ok (.ifCond .ne 15, 3) := dk_154 0 15 (dk_at dksL_law_109 7 rfl rfl)
theorem dL_law_2781 : decode cL_law 2781 = .ok (.aload_n 3, 1) := dk_45 (dk_at dksL_law_109 10 rfl rfl)
theorem dL_law_2782 : decode cL_law 2782 = .ok (.iconst 0, 1) := dk_3 (dk_at dksL_law_109 11 rfl rfl)
theorem dL_law_2783 : decode cL_law 2783 = .ok (.laload, 1) := dk_47 (dk_at dksL_law_109 12 rfl rfl)
theorem dL_law_2784 : decode cL_law 2784 = .ok (.iload 6, 2) := dk_21 6 (dk_at dksL_law_109 13 rfl rfl)
theorem dL_law_2786 : decode cL_law 2786 = .ok (.i2l, 1) := dk_133 (dk_at dksL_law_109 15 rfl rfl)
theorem dL_law_2787 : decode cL_law 2787 = .ok (.lcmp, 1) := dk_148 (dk_at dksL_law_109 16 rfl rfl)
theorem dL_law_2788 : decode cL_law 2788 = .ok (.ifCond .eq 5, 3) := dk_153 0 5 (dk_at dksL_law_109 17 rfl rfl)
theorem dL_law_2791 : decode cL_law 2791 = .ok (.iconst 0, 1) := dk_3 (dk_at dksL_law_109 20 rfl rfl)
theorem dL_law_2792 : decode cL_law 2792 = .ok (.ireturn, 1) := dk_172 (dk_at dksL_law_109 21 rfl rfl)
theorem dL_law_2793 : decode cL_law 2793 = .ok (.goto 164, 3) := dk_167 0 164 (dk_at dksL_law_110 0 rfl rfl)
theorem dL_law_2796 : decode cL_law 2796 = .ok (.aload_n 1, 1) := dk_43 (dk_at dksL_law_110 3 rfl rfl)
theorem dL_law_2797 : decode cL_law 2797 = .ok (.invokevirtual 328, 3) := dk_182 1 72 (dk_at dksL_law_110 4 rfl rfl)
theorem dL_law_2800 : decode cL_law 2800 = .ok (.aload_n 2, 1) := dk_44 (dk_at dksL_law_110 7 rfl rfl)
theorem dL_law_2801 : decode cL_law 2801 = .ok (.invokevirtual 331, 3) := dk_182 1 75 (dk_at dksL_law_110 8 rfl rfl)
theorem dL_law_2804 : decode cL_law 2804 = .ok (.if_icmp .eq 153, 3) := dk_159 0 153 (dk_at dksL_law_110 11 rfl rfl)
theorem dL_law_2807 : decode cL_law 2807 = .ok (.iconst 0, 1) := dk_3 (dk_at dksL_law_110 14 rfl rfl)
theorem dL_law_2808 : decode cL_law 2808 = .ok (.ireturn, 1) := dk_172 (dk_at dksL_law_110 15 rfl rfl)
theorem dL_law_2809 : decode cL_law 2809 = .ok (.aload_n 1, 1) := dk_43 (dk_at dksL_law_110 16 rfl rfl)
theorem dL_law_2810 : decode cL_law 2810 = .ok (.invokevirtual 332, 3) := dk_182 1 76 (dk_at dksL_law_110 17 rfl rfl)
theorem dL_law_2813 : decode cL_law 2813 = .ok (.aload_n 2, 1) := dk_44 (dk_at dksL_law_110 20 rfl rfl)
theorem dL_law_2814 : decode cL_law 2814 = .ok (.invokevirtual 335, 3) := dk_182 1 79 (dk_at dksL_law_110 21 rfl rfl)
theorem dL_law_2817 : decode cL_law 2817 = .ok (.if_icmp .eq 140, 3) := dk_159 0 140 (dk_at dksL_law_111 0 rfl rfl)
theorem dL_law_2820 : decode cL_law 2820 = .ok (.iconst 0, 1) := dk_3 (dk_at dksL_law_111 3 rfl rfl)
theorem dL_law_2821 : decode cL_law 2821 = .ok (.ireturn, 1) := dk_172 (dk_at dksL_law_111 4 rfl rfl)
theorem dL_law_2822 : decode cL_law 2822 = .ok (.aload_n 1, 1) := dk_43 (dk_at dksL_law_111 5 rfl rfl)
theorem dL_law_2823 : decode cL_law 2823 = .ok (.invokevirtual 336, 3) := dk_182 1 80 (dk_at dksL_law_111 6 rfl rfl)
theorem dL_law_2826 : decode cL_law 2826 = .ok (.dstore 5, 2) := dk_57 5 (dk_at dksL_law_111 9 rfl rfl)
theorem dL_law_2828 : decode cL_law 2828 = .ok (.aload_n 2, 1) := dk_44 (dk_at dksL_law_111 11 rfl rfl)
theorem dL_law_2829 : decode cL_law 2829 = .ok (.invokevirtual 340, 3) := dk_182 1 84 (dk_at dksL_law_111 12 rfl rfl)
theorem dL_law_2832 : decode cL_law 2832 = .ok (.dstore 7, 2) := dk_57 7 (dk_at dksL_law_111 15 rfl rfl)
theorem dL_law_2834 : decode cL_law 2834 = .ok (.dload 5, 2) := dk_24 5 (dk_at dksL_law_111 17 rfl rfl)
theorem dL_law_2836 : decode cL_law 2836 = .ok (.dload 7, 2) := dk_24 7 (dk_at dksL_law_111 19 rfl rfl)
theorem dL_law_2838 : decode cL_law 2838 = .ok (.dcmp .l, 1) := dk_151 (dk_at dksL_law_111 21 rfl rfl)
theorem dL_law_2839 : decode cL_law 2839 = .ok (.ifCond .eq 21, 3) := dk_153 0 21 (dk_at dksL_law_112 0 rfl rfl)
theorem dL_law_2842 : decode cL_law 2842 = .ok (.dload 5, 2) := dk_24 5 (dk_at dksL_law_112 3 rfl rfl)
theorem dL_law_2844 : decode cL_law 2844 = .ok (.dload 5, 2) := dk_24 5 (dk_at dksL_law_112 5 rfl rfl)
theorem dL_law_2846 : decode cL_law 2846 = .ok (.dcmp .l, 1) := dk_151 (dk_at dksL_law_112 7 rfl rfl)
theorem dL_law_2847 : decode cL_law 2847 = .ok (.ifCond .eq 11, 3) := dk_153 0 11 (dk_at dksL_law_112 8 rfl rfl)
theorem dL_law_2850 : decode cL_law 2850 = .ok (.dload 7, 2) := dk_24 7 (dk_at dksL_law_112 11 rfl rfl)
theorem dL_law_2852 : decode cL_law 2852 = .ok (.dload 7, 2) := dk_24 7 (dk_at dksL_law_112 13 rfl rfl)
theorem dL_law_2854 : decode cL_law 2854 = .ok (.dcmp .l, 1) := dk_151 (dk_at dksL_law_112 15 rfl rfl)
theorem dL_law_2855 : decode cL_law 2855 = .ok (.ifCond .ne 5, 3) := dk_154 0 5 (dk_at dksL_law_112 16 rfl rfl)
theorem dL_law_2858 : decode cL_law 2858 = .ok (.iconst 0, 1) := dk_3 (dk_at dksL_law_112 19 rfl rfl)
theorem dL_law_2859 : decode cL_law 2859 = .ok (.ireturn, 1) := dk_172 (dk_at dksL_law_112 20 rfl rfl)
theorem dL_law_2860 : decode cL_law 2860 = .ok (.goto 97, 3) := dk_167 0 97 (dk_at dksL_law_112 21 rfl rfl)
theorem dL_law_2863 : decode cL_law 2863 = .ok (.aload_n 1, 1) := dk_43 (dk_at dksL_law_113 0 rfl rfl)
theorem dL_law_2864 : decode cL_law 2864 = .ok (.invokevirtual 341, 3) := dk_182 1 85 (dk_at dksL_law_113 1 rfl rfl)
theorem dL_law_2867 : decode cL_law 2867 = .ok (.f2d, 1) := dk_141 (dk_at dksL_law_113 4 rfl rfl)
theorem dL_law_2868 : decode cL_law 2868 = .ok (.dstore 5, 2) := dk_57 5 (dk_at dksL_law_113 5 rfl rfl)
theorem dL_law_2870 : decode cL_law 2870 = .ok (.aload_n 2, 1) := dk_44 (dk_at dksL_law_113 7 rfl rfl)
theorem dL_law_2871 : decode cL_law 2871 = .ok (.invokevirtual 345, 3) := dk_182 1 89 (dk_at dksL_law_113 8 rfl rfl)
theorem dL_law_2874 : decode cL_law 2874 = .ok (.f2d, 1) := dk_141 (dk_at dksL_law_113 11 rfl rfl)
theorem dL_law_2875 : decode cL_law 2875 = .ok (.dstore 7, 2) := dk_57 7 (dk_at dksL_law_113 12 rfl rfl)
theorem dL_law_2877 : decode cL_law 2877 = .ok (.dload 5, 2) := dk_24 5 (dk_at dksL_law_113 14 rfl rfl)
theorem dL_law_2879 : decode cL_law 2879 = .ok (.dload 7, 2) := dk_24 7 (dk_at dksL_law_113 16 rfl rfl)
theorem dL_law_2881 : decode cL_law 2881 = .ok (.dcmp .l, 1) := dk_151 (dk_at dksL_law_113 18 rfl rfl)
theorem dL_law_2882 : decode cL_law 2882 = .ok (.ifCond .eq 21, 3) := dk_153 0 21 (dk_at dksL_law_113 19 rfl rfl)
theorem dL_law_2885 : decode cL_law 2885 = .ok (.dload 5, 2) := dk_24 5 (dk_at dksL_law_113 22 rfl rfl)
theorem dL_law_2887 : decode cL_law 2887 = .ok (.dload 5, 2) := dk_24 5 (dk_at dksL_law_114 0 rfl rfl)
theorem dL_law_2889 : decode cL_law 2889 = .ok (.dcmp .l, 1) := dk_151 (dk_at dksL_law_114 2 rfl rfl)
theorem dL_law_2890 : decode cL_law 2890 = .ok (.ifCond .eq 11, 3) := dk_153 0 11 (dk_at dksL_law_114 3 rfl rfl)
theorem dL_law_2893 : decode cL_law 2893 = .ok (.dload 7, 2) := dk_24 7 (dk_at dksL_law_114 6 rfl rfl)
theorem dL_law_2895 : decode cL_law 2895 = .ok (.dload 7, 2) := dk_24 7 (dk_at dksL_law_114 8 rfl rfl)
theorem dL_law_2897 : decode cL_law 2897 = .ok (.dcmp .l, 1) := dk_151 (dk_at dksL_law_114 10 rfl rfl)
theorem dL_law_2898 : decode cL_law 2898 = .ok (.ifCond .ne 5, 3) := dk_154 0 5 (dk_at dksL_law_114 11 rfl rfl)
theorem dL_law_2901 : decode cL_law 2901 = .ok (.iconst 0, 1) := dk_3 (dk_at dksL_law_114 14 rfl rfl)
theorem dL_law_2902 : decode cL_law 2902 = .ok (.ireturn, 1) := dk_172 (dk_at dksL_law_114 15 rfl rfl)
theorem dL_law_2903 : decode cL_law 2903 = .ok (.goto 54, 3) := dk_167 0 54 (dk_at dksL_law_114 16 rfl rfl)
theorem dL_law_2906 : decode cL_law 2906 = .ok (.aload_n 1, 1) := dk_43 (dk_at dksL_law_114 19 rfl rfl)
theorem dL_law_2907 : decode cL_law 2907 = .ok (.invokevirtual 346, 3) := dk_182 1 90 (dk_at dksL_law_114 20 rfl rfl)
theorem dL_law_2910 : decode cL_law 2910 = .ok (.aload_n 2, 1) := dk_44 (dk_at dksL_law_114 23 rfl rfl)
theorem dL_law_2911 : decode cL_law 2911 = .ok (.invokevirtual 349, 3) := dk_182 1 93 (dk_at dksL_law_115 0 rfl rfl)
theorem dL_law_2914 : decode cL_law 2914 = .ok (.if_icmp .eq 43, 3) := dk_159 0 43 (dk_at dksL_law_115 3 rfl rfl)
theorem dL_law_2917 : decode cL_law 2917 = .ok (.iconst 0, 1) := dk_3 (dk_at dksL_law_115 6 rfl rfl)
theorem dL_law_2918 : decode cL_law 2918 = .ok (.ireturn, 1) := dk_172 (dk_at dksL_law_115 7 rfl rfl)
theorem dL_law_2919 : decode cL_law 2919 = .ok (.aload_n 1, 1) := dk_43 (dk_at dksL_law_115 8 rfl rfl)
theorem dL_law_2920 : decode cL_law 2920 = .ok (.invokevirtual 350, 3) := dk_182 1 94 (dk_at dksL_law_115 9 rfl rfl)
theorem dL_law_2923 : decode cL_law 2923 = .ok (.aload_n 2, 1) := dk_44 (dk_at dksL_law_115 12 rfl rfl)
theorem dL_law_2924 : decode cL_law 2924 = .ok (.invokevirtual 353, 3) := dk_182 1 97 (dk_at dksL_law_115 13 rfl rfl)
theorem dL_law_2927 : decode cL_law 2927 = .ok (.if_icmp .eq 30, 3) := dk_159 0 30 (dk_at dksL_law_115 16 rfl rfl)
theorem dL_law_2930 : decode cL_law 2930 = .ok (.iconst 0, 1) := dk_3 (dk_at dksL_law_115 19 rfl rfl)
theorem dL_law_2931 : decode cL_law 2931 = .ok (.ireturn, 1) := dk_172 (dk_at dksL_law_115 20 rfl rfl)
theorem dL_law_2932 : decode cL_law 2932 = .ok (.aload_n 1, 1) := dk_43 (dk_at dksL_law_115 21 rfl rfl)
theorem dL_law_2933 : decode cL_law 2933 = .ok (.aload_n 0, 1) := dk_42 (dk_at dksL_law_115 22 rfl rfl)
theorem dL_law_2934 : decode cL_law 2934 = .ok (.iload 4, 2) := dk_21 4 (dk_at dksL_law_116 0 rfl rfl)
theorem dL_law_2936 : decode cL_law 2936 = .ok (.iconst 1, 1) := dk_4 (dk_at dksL_law_116 2 rfl rfl)
theorem dL_law_2937 : decode cL_law 2937 = .ok (.iadd, 1) := dk_96 (dk_at dksL_law_116 3 rfl rfl)
theorem dL_law_2938 : decode cL_law 2938 = .ok (.iaload, 1) := dk_46 (dk_at dksL_law_116 4 rfl rfl)
theorem dL_law_2939 : decode cL_law 2939 = .ok (.invokevirtual 354, 3) := dk_182 1 98 (dk_at dksL_law_116 5 rfl rfl)
theorem dL_law_2942 : decode cL_law 2942 = .ok (.aload_n 2, 1) := dk_44 (dk_at dksL_law_116 8 rfl rfl)
theorem dL_law_2943 : decode cL_law 2943 = .ok (.aload_n 0, 1) := dk_42 (dk_at dksL_law_116 9 rfl rfl)
theorem dL_law_2944 : decode cL_law 2944 = .ok (.iload 4, 2) := dk_21 4 (dk_at dksL_law_116 10 rfl rfl)
theorem dL_law_2946 : decode cL_law 2946 = .ok (.iconst 1, 1) := dk_4 (dk_at dksL_law_116 12 rfl rfl)
theorem dL_law_2947 : decode cL_law 2947 = .ok (.iadd, 1) := dk_96 (dk_at dksL_law_116 13 rfl rfl)
theorem dL_law_2948 : decode cL_law 2948 = .ok (.iaload, 1) := dk_46 (dk_at dksL_law_116 14 rfl rfl)
theorem dL_law_2949 : decode cL_law 2949 = .ok (.invokevirtual 357, 3) := dk_182 1 101 (dk_at dksL_law_116 15 rfl rfl)
theorem dL_law_2952 : decode cL_law 2952 = .ok (.if_icmp .eq 5, 3) := dk_159 0 5 (dk_at dksL_law_116 18 rfl rfl)
theorem dL_law_2955 : decode cL_law 2955 = .ok (.iconst 0, 1) := dk_3 (dk_at dksL_law_116 21 rfl rfl)
theorem dL_law_2956 : decode cL_law 2956 = .ok (.ireturn, 1) := dk_172 (dk_at dksL_law_116 22 rfl rfl)
theorem dL_law_2957 : decode cL_law 2957 = .ok (.iinc 4 6, 3) := dk_132 4 6 (dk_at dksL_law_117 0 rfl rfl)
theorem dL_law_2960 : decode cL_law 2960 = .ok (.goto (-2937), 3) := dk_167 244 135 (dk_at dksL_law_117 3 rfl rfl)
theorem dL_law_2963 : decode cL_law 2963 = .ok (.iconst 1, 1) := dk_4 (dk_at dksL_law_117 6 rfl rfl)
theorem dL_law_2964 : decode cL_law 2964 = .ok (.ireturn, 1) := dk_172 (dk_at dksL_law_117 7 rfl rfl)
