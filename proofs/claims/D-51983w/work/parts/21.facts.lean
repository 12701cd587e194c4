set_option maxRecDepth 100000
/-! FACTS (printed by gen.py): fields, classes, throws, descriptors, as the program names them -/
theorem rS_J2_18 : rc_Sta RJ2 18 7 := ⟨_, _, _, rfl, q194⟩
theorem rS_X2_9 : rc_Sta RX2 9 6 := ⟨_, _, _, rfl, q226⟩
theorem rS_J7_39 : rc_Sta RJ7 39 8 := ⟨_, _, _, rfl, q244⟩
theorem rS_X2_64 : rc_Sta RX2 64 0 := ⟨_, _, _, rfl, q635⟩
theorem rS_J4_38 : rc_Sta RJ4 38 7 := ⟨_, _, _, rfl, q314⟩
theorem rS_J4_1053 : rc_Sta RJ4 1053 9 := ⟨_, _, _, rfl, q329⟩
theorem rS_J5_251 : rc_Sta RJ5 251 7 := ⟨_, _, _, rfl, q630⟩
theorem rS_X2_83 : rc_Sta RX2 83 5 := ⟨_, _, _, rfl, q641⟩
theorem rS_X2_89 : rc_Sta RX2 89 1 := ⟨_, _, _, rfl, q643⟩
theorem rS_X2_74 : rc_Sta RX2 74 2 := ⟨_, _, _, rfl, q648⟩
theorem rS_X2_80 : rc_Sta RX2 80 4 := ⟨_, _, _, rfl, q652⟩
theorem rS_X2_77 : rc_Sta RX2 77 3 := ⟨_, _, _, rfl, q650⟩
theorem rK_J4_10 : rc_Cls RJ4 10 11 := ⟨RJ4, TJ4, 4, rfl, q691⟩
theorem rK_X3_57 : rc_Cls RX3 57 6 := ⟨RX7, TX7, 4, rfl, q954⟩
theorem rK_X2_201 : rc_Cls RX2 201 4 := ⟨RX5, TX5, 2, rfl, q828⟩
theorem rK_X3_45 : rc_Cls RX3 45 4 := ⟨RX5, TX5, 2, rfl, q989⟩
theorem rK_X3_55 : rc_Cls RX3 55 5 := ⟨RX6, TX6, 3, rfl, q1023⟩
theorem rK_X1_57 : rc_Cls RX1 57 2 := ⟨RX3, TX3, 8, rfl, q1491⟩
theorem rK_X1_165 : rc_Cls RX1 165 6 := ⟨RX7, TX7, 4, rfl, q1575⟩
theorem rK_X1_145 : rc_Cls RX1 145 4 := ⟨RX5, TX5, 2, rfl, q1600⟩
theorem rK_X1_82 : rc_Cls RX1 82 5 := ⟨RX6, TX6, 3, rfl, q1693⟩
theorem rY_J0 : plainName RJ0 = true := by decide +kernel
theorem rd_J0_init : yJ0_init.cls ≠ "java/lang/invoke/MethodHandle" ∧ yJ0_init.cls ≠ "java/lang/invoke/VarHandle" ∧ (parseMethodDescriptor yJ0_init.desc).map (fun d => d.parameters.length) = some 0 := by decide +kernel
theorem rP_J1_3 : rc_Fld RJ1 3 9 0 (.array (.object "java/lang/Object")) false := ⟨"java/util/ArrayDeque", RJ1, TJ1, 3, rfl, in_J1, by decide, (Or.inl q175), (Or.inl rfl), ⟨tyJ1, tyJ1_ok⟩, nmJ1, rfl, tyJ1_ok 0 (by decide), nofun⟩
theorem rY_J1 : plainName RJ1 = true := by decide +kernel
theorem rY_J5 : plainName RJ5 = true := by decide +kernel
theorem rd_J5_newBytesLength : yJ5_newBytesLength.cls ≠ "java/lang/invoke/MethodHandle" ∧ yJ5_newBytesLength.cls ≠ "java/lang/invoke/VarHandle" ∧ (parseMethodDescriptor yJ5_newBytesLength.desc).map (fun d => d.parameters.length) = some 1 := by decide +kernel
theorem rd_J5_newBytesFor : yJ5_newBytesFor.cls ≠ "java/lang/invoke/MethodHandle" ∧ yJ5_newBytesFor.cls ≠ "java/lang/invoke/VarHandle" ∧ (parseMethodDescriptor yJ5_newBytesFor.desc).map (fun d => d.parameters.length) = some 1 := by decide +kernel
theorem rP_J2_15 : rc_Fld RJ2 15 10 0 (.array .byte) false := ⟨"java/lang/AbstractStringBuilder", RJ3, TJ3, 4, rfl, in_J3, by decide, (Or.inl q203), (Or.inl rfl), ⟨tyJ3, tyJ3_ok⟩, nmJ3, rfl, tyJ3_ok 0 (by decide), nofun⟩
theorem rP_J2_22 : rc_Fld RJ2 22 10 1 .byte false := ⟨"java/lang/AbstractStringBuilder", RJ3, TJ3, 4, rfl, in_J3, by decide, (Or.inl q204), (Or.inl rfl), ⟨tyJ3, tyJ3_ok⟩, nmJ3, rfl, tyJ3_ok 1 (by decide), nofun⟩
theorem rY_J2 : plainName RJ2 = true := by decide +kernel
theorem rd_J2_init : yJ2_init.cls ≠ "java/lang/invoke/MethodHandle" ∧ yJ2_init.cls ≠ "java/lang/invoke/VarHandle" ∧ (parseMethodDescriptor yJ2_init.desc).map (fun d => d.parameters.length) = some 1 := by decide +kernel
theorem rY_J3 : plainName RJ3 = true := by decide +kernel
theorem rP_J6_7 : rc_Fld RJ6 7 12 0 .int false := ⟨"java/util/AbstractList", RJ7, TJ7, 3, rfl, in_J7, by decide, (Or.inl q250), (Or.inl rfl), ⟨tyJ7, tyJ7_ok⟩, nmJ7, rfl, tyJ7_ok 0 (by decide), nofun⟩
theorem rY_J6 : plainName RJ6 = true := by decide +kernel
theorem rd_J6_init : yJ6_init.cls ≠ "java/lang/invoke/MethodHandle" ∧ yJ6_init.cls ≠ "java/lang/invoke/VarHandle" ∧ (parseMethodDescriptor yJ6_init.desc).map (fun d => d.parameters.length) = some 0 := by decide +kernel
theorem rP_J7_9 : rc_Fld RJ7 9 12 1 (.array (.object "java/lang/Object")) false := ⟨"java/util/ArrayList", RJ7, TJ7, 3, rfl, in_J7, by decide, (Or.inl q246), (Or.inl rfl), ⟨tyJ7, tyJ7_ok⟩, nmJ7, rfl, tyJ7_ok 1 (by decide), nofun⟩
theorem rY_J7 : plainName RJ7 = true := by decide +kernel
theorem rN_X3_9 : rc_New RX3 9 12 3 [rc_i 0, rc_q none, rc_i 0] := ⟨RJ7, TJ7, tyJ7, rfl, in_J7, q235, q236, q128, tyJ7_ok, (by
  intro k hk
  have h : k = 0 ∨ k = 1 ∨ k = 2 := by omega
  rcases h with rfl | rfl | rfl <;> rfl)⟩
theorem rd_J7_init : yJ7_init.cls ≠ "java/lang/invoke/MethodHandle" ∧ yJ7_init.cls ≠ "java/lang/invoke/VarHandle" ∧ (parseMethodDescriptor yJ7_init.desc).map (fun d => d.parameters.length) = some 0 := by decide +kernel
theorem rP_X3_12 : rc_Fld RX3 12 2 0 (.object "java/util/List") true := ⟨"RooftopCats$Roof", RX3, TX3, 8, rfl, in_X3, by decide, (Or.inl q261), (Or.inl rfl), ⟨tyX3, tyX3_ok⟩, nmX3, rfl, tyX3_ok 0 (by decide), fun _ => rfl⟩
theorem rP_X3_18 : rc_Fld RX3 18 2 1 (.object "java/util/List") true := ⟨"RooftopCats$Roof", RX3, TX3, 8, rfl, in_X3, by decide, (Or.inl q264), (Or.inl rfl), ⟨tyX3, tyX3_ok⟩, nmX3, rfl, tyX3_ok 1 (by decide), fun _ => rfl⟩
theorem rP_X3_21 : rc_Fld RX3 21 2 2 (.object "java/util/List") true := ⟨"RooftopCats$Roof", RX3, TX3, 8, rfl, in_X3, by decide, (Or.inl q267), (Or.inl rfl), ⟨tyX3, tyX3_ok⟩, nmX3, rfl, tyX3_ok 2 (by decide), fun _ => rfl⟩
theorem rP_X3_24 : rc_Fld RX3 24 2 3 (.array .int) true := ⟨"RooftopCats$Roof", RX3, TX3, 8, rfl, in_X3, by decide, (Or.inl q270), (Or.inl rfl), ⟨tyX3, tyX3_ok⟩, nmX3, rfl, tyX3_ok 3 (by decide), fun _ => rfl⟩
theorem rY_X3 : plainName RX3 = true := by decide +kernel
theorem rF_J4_15 : rc_FldG RJ4 15 11 1 := ⟨"java/lang/String", RJ4, TJ4, 4, rfl, in_J4, by decide, (Or.inl q586), (Or.inl rfl)⟩
theorem rY_J4 : plainName RJ4 = true := by decide +kernel
theorem rF_J4_9 : rc_FldG RJ4 9 11 0 := ⟨"java/lang/String", RJ4, TJ4, 4, rfl, in_J4, by decide, (Or.inl q585), (Or.inl rfl)⟩
theorem rd_J4_coder : yJ4_coder.cls ≠ "java/lang/invoke/MethodHandle" ∧ yJ4_coder.cls ≠ "java/lang/invoke/VarHandle" ∧ (parseMethodDescriptor yJ4_coder.desc).map (fun d => d.parameters.length) = some 0 := by decide +kernel
theorem rY_J9 : plainName RJ9 = true := by decide +kernel
theorem rd_J9_checkIndex : yJ9_checkIndex.cls ≠ "java/lang/invoke/MethodHandle" ∧ yJ9_checkIndex.cls ≠ "java/lang/invoke/VarHandle" ∧ (parseMethodDescriptor yJ9_checkIndex.desc).map (fun d => d.parameters.length) = some 3 := by decide +kernel
theorem rd_J4_checkIndex : yJ4_checkIndex.cls ≠ "java/lang/invoke/MethodHandle" ∧ yJ4_checkIndex.cls ≠ "java/lang/invoke/VarHandle" ∧ (parseMethodDescriptor yJ4_checkIndex.desc).map (fun d => d.parameters.length) = some 2 := by decide +kernel
theorem rY_J8 : plainName RJ8 = true := by decide +kernel
theorem rd_J5_length : yJ5_length.cls ≠ "java/lang/invoke/MethodHandle" ∧ yJ5_length.cls ≠ "java/lang/invoke/VarHandle" ∧ (parseMethodDescriptor yJ5_length.desc).map (fun d => d.parameters.length) = some 1 := by decide +kernel
theorem rd_J5_checkIndex : yJ5_checkIndex.cls ≠ "java/lang/invoke/MethodHandle" ∧ yJ5_checkIndex.cls ≠ "java/lang/invoke/VarHandle" ∧ (parseMethodDescriptor yJ5_checkIndex.desc).map (fun d => d.parameters.length) = some 2 := by decide +kernel
theorem rd_J5_getChar : yJ5_getChar.cls ≠ "java/lang/invoke/MethodHandle" ∧ yJ5_getChar.cls ≠ "java/lang/invoke/VarHandle" ∧ (parseMethodDescriptor yJ5_getChar.desc).map (fun d => d.parameters.length) = some 2 := by decide +kernel
theorem rd_J4_isLatin1 : yJ4_isLatin1.cls ≠ "java/lang/invoke/MethodHandle" ∧ yJ4_isLatin1.cls ≠ "java/lang/invoke/VarHandle" ∧ (parseMethodDescriptor yJ4_isLatin1.desc).map (fun d => d.parameters.length) = some 0 := by decide +kernel
theorem rd_J5_charAt : yJ5_charAt.cls ≠ "java/lang/invoke/MethodHandle" ∧ yJ5_charAt.cls ≠ "java/lang/invoke/VarHandle" ∧ (parseMethodDescriptor yJ5_charAt.desc).map (fun d => d.parameters.length) = some 2 := by decide +kernel
theorem rd_J8_charAt : yJ8_charAt.cls ≠ "java/lang/invoke/MethodHandle" ∧ yJ8_charAt.cls ≠ "java/lang/invoke/VarHandle" ∧ (parseMethodDescriptor yJ8_charAt.desc).map (fun d => d.parameters.length) = some 2 := by decide +kernel
theorem rF_X2_39 : rc_FldG RX2 39 1 1 := ⟨"RooftopCats$Parser", RX2, TX2, 9, rfl, in_X2, by decide, (Or.inl q655), (Or.inl rfl)⟩
theorem rF_X2_33 : rc_FldG RX2 33 1 0 := ⟨"RooftopCats$Parser", RX2, TX2, 9, rfl, in_X2, by decide, (Or.inl q654), (Or.inl rfl)⟩
theorem rd_J4_length : yJ4_length.cls ≠ "java/lang/invoke/MethodHandle" ∧ yJ4_length.cls ≠ "java/lang/invoke/VarHandle" ∧ (parseMethodDescriptor yJ4_length.desc).map (fun d => d.parameters.length) = some 0 := by decide +kernel
theorem rd_J4_charAt : yJ4_charAt.cls ≠ "java/lang/invoke/MethodHandle" ∧ yJ4_charAt.cls ≠ "java/lang/invoke/VarHandle" ∧ (parseMethodDescriptor yJ4_charAt.desc).map (fun d => d.parameters.length) = some 1 := by decide +kernel
theorem rY_X2 : plainName RX2 = true := by decide +kernel
theorem rd_J9_checkFromToIndex : yJ9_checkFromToIndex.cls ≠ "java/lang/invoke/MethodHandle" ∧ yJ9_checkFromToIndex.cls ≠ "java/lang/invoke/VarHandle" ∧ (parseMethodDescriptor yJ9_checkFromToIndex.desc).map (fun d => d.parameters.length) = some 4 := by decide +kernel
theorem rY_J10 : plainName RJ10 = true := by decide +kernel
theorem rY_J17_min : plainFor yJ17_min = true := by decide +kernel
theorem rd_J10_checkLength : yJ10_checkLength.cls ≠ "java/lang/invoke/MethodHandle" ∧ yJ10_checkLength.cls ≠ "java/lang/invoke/VarHandle" ∧ (parseMethodDescriptor yJ10_checkLength.desc).map (fun d => d.parameters.length) = some 2 := by decide +kernel
theorem rd_J17_min : yJ17_min.cls ≠ "java/lang/invoke/MethodHandle" ∧ yJ17_min.cls ≠ "java/lang/invoke/VarHandle" ∧ (parseMethodDescriptor yJ17_min.desc).map (fun d => d.parameters.length) = some 2 := by decide +kernel
theorem rd_J10_copyOfRangeByte : yJ10_copyOfRangeByte.cls ≠ "java/lang/invoke/MethodHandle" ∧ yJ10_copyOfRangeByte.cls ≠ "java/lang/invoke/VarHandle" ∧ (parseMethodDescriptor yJ10_copyOfRangeByte.desc).map (fun d => d.parameters.length) = some 3 := by decide +kernel
theorem rP_J4_9 : rc_Fld RJ4 9 11 0 (.array .byte) true := ⟨"java/lang/String", RJ4, TJ4, 4, rfl, in_J4, by decide, (Or.inl q585), (Or.inl rfl), ⟨tyJ4, tyJ4_ok⟩, nmJ4, rfl, tyJ4_ok 0 (by decide), fun _ => rfl⟩
theorem rP_J4_15 : rc_Fld RJ4 15 11 1 .byte true := ⟨"java/lang/String", RJ4, TJ4, 4, rfl, in_J4, by decide, (Or.inl q586), (Or.inl rfl), ⟨tyJ4, tyJ4_ok⟩, nmJ4, rfl, tyJ4_ok 1 (by decide), fun _ => rfl⟩
theorem rN_J8_1 : rc_New RJ8 1 11 4 [rc_q none, rc_i 0, rc_i 0, rc_i 0] := ⟨RJ4, TJ4, tyJ4, rfl, in_J4, q368, q369, q121, tyJ4_ok, (by
  intro k hk
  have h : k = 0 ∨ k = 1 ∨ k = 2 ∨ k = 3 := by omega
  rcases h with rfl | rfl | rfl | rfl <;> rfl)⟩
theorem rd_J10_copyOfRange : yJ10_copyOfRange.cls ≠ "java/lang/invoke/MethodHandle" ∧ yJ10_copyOfRange.cls ≠ "java/lang/invoke/VarHandle" ∧ (parseMethodDescriptor yJ10_copyOfRange.desc).map (fun d => d.parameters.length) = some 3 := by decide +kernel
theorem rd_J4_init_3 : yJ4_init_3.cls ≠ "java/lang/invoke/MethodHandle" ∧ yJ4_init_3.cls ≠ "java/lang/invoke/VarHandle" ∧ (parseMethodDescriptor yJ4_init_3.desc).map (fun d => d.parameters.length) = some 2 := by decide +kernel
theorem rd_J9_checkFromIndexSize : yJ9_checkFromIndexSize.cls ≠ "java/lang/invoke/MethodHandle" ∧ yJ9_checkFromIndexSize.cls ≠ "java/lang/invoke/VarHandle" ∧ (parseMethodDescriptor yJ9_checkFromIndexSize.desc).map (fun d => d.parameters.length) = some 4 := by decide +kernel
theorem rd_J4_checkBoundsOffCount : yJ4_checkBoundsOffCount.cls ≠ "java/lang/invoke/MethodHandle" ∧ yJ4_checkBoundsOffCount.cls ≠ "java/lang/invoke/VarHandle" ∧ (parseMethodDescriptor yJ4_checkBoundsOffCount.desc).map (fun d => d.parameters.length) = some 3 := by decide +kernel
theorem rd_J5_checkBoundsOffCount : yJ5_checkBoundsOffCount.cls ≠ "java/lang/invoke/MethodHandle" ∧ yJ5_checkBoundsOffCount.cls ≠ "java/lang/invoke/VarHandle" ∧ (parseMethodDescriptor yJ5_checkBoundsOffCount.desc).map (fun d => d.parameters.length) = some 3 := by decide +kernel
theorem rd_J5_compress_2 : yJ5_compress_2.cls ≠ "java/lang/invoke/MethodHandle" ∧ yJ5_compress_2.cls ≠ "java/lang/invoke/VarHandle" ∧ (parseMethodDescriptor yJ5_compress_2.desc).map (fun d => d.parameters.length) = some 5 := by decide +kernel
theorem rN_J5_3 : rc_New RJ5 3 11 4 [rc_q none, rc_i 0, rc_i 0, rc_i 0] := ⟨RJ4, TJ4, tyJ4, rfl, in_J4, q633, q369, q121, tyJ4_ok, (by
  intro k hk
  have h : k = 0 ∨ k = 1 ∨ k = 2 ∨ k = 3 := by omega
  rcases h with rfl | rfl | rfl | rfl <;> rfl)⟩
theorem rd_J5_compress : yJ5_compress.cls ≠ "java/lang/invoke/MethodHandle" ∧ yJ5_compress.cls ≠ "java/lang/invoke/VarHandle" ∧ (parseMethodDescriptor yJ5_compress.desc).map (fun d => d.parameters.length) = some 3 := by decide +kernel
theorem rd_J5_coderFromArrayLen : yJ5_coderFromArrayLen.cls ≠ "java/lang/invoke/MethodHandle" ∧ yJ5_coderFromArrayLen.cls ≠ "java/lang/invoke/VarHandle" ∧ (parseMethodDescriptor yJ5_coderFromArrayLen.desc).map (fun d => d.parameters.length) = some 2 := by decide +kernel
theorem rd_J4_checkBoundsBeginEnd : yJ4_checkBoundsBeginEnd.cls ≠ "java/lang/invoke/MethodHandle" ∧ yJ4_checkBoundsBeginEnd.cls ≠ "java/lang/invoke/VarHandle" ∧ (parseMethodDescriptor yJ4_checkBoundsBeginEnd.desc).map (fun d => d.parameters.length) = some 3 := by decide +kernel
theorem rd_J5_newString : yJ5_newString.cls ≠ "java/lang/invoke/MethodHandle" ∧ yJ5_newString.cls ≠ "java/lang/invoke/VarHandle" ∧ (parseMethodDescriptor yJ5_newString.desc).map (fun d => d.parameters.length) = some 3 := by decide +kernel
theorem rd_J8_newString : yJ8_newString.cls ≠ "java/lang/invoke/MethodHandle" ∧ yJ8_newString.cls ≠ "java/lang/invoke/VarHandle" ∧ (parseMethodDescriptor yJ8_newString.desc).map (fun d => d.parameters.length) = some 3 := by decide +kernel
theorem rP_X2_86 : rc_Fld RX2 86 1 5 .int false := ⟨"RooftopCats$Parser", RX2, TX2, 9, rfl, in_X2, by decide, (Or.inl q659), (Or.inl rfl), ⟨tyX2, tyX2_ok⟩, nmX2, rfl, tyX2_ok 5 (by decide), nofun⟩
theorem rd_X2_isAt : yX2_isAt.cls ≠ "java/lang/invoke/MethodHandle" ∧ yX2_isAt.cls ≠ "java/lang/invoke/VarHandle" ∧ (parseMethodDescriptor yX2_isAt.desc).map (fun d => d.parameters.length) = some 2 := by decide +kernel
theorem rF_X2_57 : rc_FldG RX2 57 1 2 := ⟨"RooftopCats$Parser", RX2, TX2, 9, rfl, in_X2, by decide, (Or.inl q656), (Or.inl rfl)⟩
theorem rF_X2_86 : rc_FldG RX2 86 1 5 := ⟨"RooftopCats$Parser", RX2, TX2, 9, rfl, in_X2, by decide, (Or.inl q659), (Or.inl rfl)⟩
theorem rP_X2_39 : rc_Fld RX2 39 1 1 .int false := ⟨"RooftopCats$Parser", RX2, TX2, 9, rfl, in_X2, by decide, (Or.inl q655), (Or.inl rfl), ⟨tyX2, tyX2_ok⟩, nmX2, rfl, tyX2_ok 1 (by decide), nofun⟩
theorem rP_X2_15 : rc_Fld RX2 15 1 3 (.object "RooftopCats$Token") false := ⟨"RooftopCats$Parser", RX2, TX2, 9, rfl, in_X2, by decide, (Or.inl q657), (Or.inl rfl), ⟨tyX2, tyX2_ok⟩, nmX2, rfl, tyX2_ok 3 (by decide), nofun⟩
theorem rP_X2_57 : rc_Fld RX2 57 1 2 .int false := ⟨"RooftopCats$Parser", RX2, TX2, 9, rfl, in_X2, by decide, (Or.inl q656), (Or.inl rfl), ⟨tyX2, tyX2_ok⟩, nmX2, rfl, tyX2_ok 2 (by decide), nofun⟩
theorem rd_X2_sign : yX2_sign.cls ≠ "java/lang/invoke/MethodHandle" ∧ yX2_sign.cls ≠ "java/lang/invoke/VarHandle" ∧ (parseMethodDescriptor yX2_sign.desc).map (fun d => d.parameters.length) = some 1 := by decide +kernel
theorem rd_X2_readDigits : yX2_readDigits.cls ≠ "java/lang/invoke/MethodHandle" ∧ yX2_readDigits.cls ≠ "java/lang/invoke/VarHandle" ∧ (parseMethodDescriptor yX2_readDigits.desc).map (fun d => d.parameters.length) = some 0 := by decide +kernel
theorem rd_J4_substring : yJ4_substring.cls ≠ "java/lang/invoke/MethodHandle" ∧ yJ4_substring.cls ≠ "java/lang/invoke/VarHandle" ∧ (parseMethodDescriptor yJ4_substring.desc).map (fun d => d.parameters.length) = some 2 := by decide +kernel
theorem rP_X2_22 : rc_Fld RX2 22 1 4 (.object "java/lang/String") false := ⟨"RooftopCats$Parser", RX2, TX2, 9, rfl, in_X2, by decide, (Or.inl q658), (Or.inl rfl), ⟨tyX2, tyX2_ok⟩, nmX2, rfl, tyX2_ok 4 (by decide), nofun⟩
theorem rN_X2_26 : rc_New RX2 26 2 8 [rc_q none, rc_q none, rc_q none, rc_q none, rc_q none, rc_i 0, rc_i 0, rc_i 0] := ⟨RX3, TX3, tyX3, rfl, in_X3, q229, q230, q126, tyX3_ok, (by
  intro k hk
  have h : k = 0 ∨ k = 1 ∨ k = 2 ∨ k = 3 ∨ k = 4 ∨ k = 5 ∨ k = 6 ∨ k = 7 := by omega
  rcases h with rfl | rfl | rfl | rfl | rfl | rfl | rfl | rfl <;> rfl)⟩
theorem rd_X3_init : yX3_init.cls ≠ "java/lang/invoke/MethodHandle" ∧ yX3_init.cls ≠ "java/lang/invoke/VarHandle" ∧ (parseMethodDescriptor yX3_init.desc).map (fun d => d.parameters.length) = some 0 := by decide +kernel
theorem rP_X2_29 : rc_Fld RX2 29 1 8 (.object "RooftopCats$Roof") true := ⟨"RooftopCats$Parser", RX2, TX2, 9, rfl, in_X2, by decide, (Or.inl q662), (Or.inl rfl), ⟨tyX2, tyX2_ok⟩, nmX2, rfl, tyX2_ok 8 (by decide), fun _ => rfl⟩
theorem rP_X2_33 : rc_Fld RX2 33 1 0 (.object "java/lang/String") true := ⟨"RooftopCats$Parser", RX2, TX2, 9, rfl, in_X2, by decide, (Or.inl q654), (Or.inl rfl), ⟨tyX2, tyX2_ok⟩, nmX2, rfl, tyX2_ok 0 (by decide), fun _ => rfl⟩
theorem rd_X2_advance : yX2_advance.cls ≠ "java/lang/invoke/MethodHandle" ∧ yX2_advance.cls ≠ "java/lang/invoke/VarHandle" ∧ (parseMethodDescriptor yX2_advance.desc).map (fun d => d.parameters.length) = some 0 := by decide +kernel
theorem rd_J8_equals : yJ8_equals.cls ≠ "java/lang/invoke/MethodHandle" ∧ yJ8_equals.cls ≠ "java/lang/invoke/VarHandle" ∧ (parseMethodDescriptor yJ8_equals.desc).map (fun d => d.parameters.length) = some 2 := by decide +kernel
theorem rP_X4_7 : rc_Fld RX4 7 3 6 .int true := ⟨"RooftopCats$ScriptException", RX4, TX4, 8, rfl, in_X4, by decide, (Or.inl q715), (Or.inl rfl), ⟨tyX4, tyX4_ok⟩, nmX4, rfl, tyX4_ok 6 (by decide), fun _ => rfl⟩
theorem rP_X4_13 : rc_Fld RX4 13 3 7 .int true := ⟨"RooftopCats$ScriptException", RX4, TX4, 8, rfl, in_X4, by decide, (Or.inl q717), (Or.inl rfl), ⟨tyX4, tyX4_ok⟩, nmX4, rfl, tyX4_ok 7 (by decide), fun _ => rfl⟩
theorem rY_X4 : plainName RX4 = true := by decide +kernel
theorem rN_X2_92 : rc_New RX2 92 3 8 [rc_q none, rc_q none, rc_q none, rc_q none, rc_q none, rc_i 0, rc_i 0, rc_i 0] := ⟨RX4, TX4, tyX4, rfl, in_X4, q699, q700, q141, tyX4_ok, (by
  intro k hk
  have h : k = 0 ∨ k = 1 ∨ k = 2 ∨ k = 3 ∨ k = 4 ∨ k = 5 ∨ k = 6 ∨ k = 7 := by omega
  rcases h with rfl | rfl | rfl | rfl | rfl | rfl | rfl | rfl <;> rfl)⟩
theorem rd_X4_init : yX4_init.cls ≠ "java/lang/invoke/MethodHandle" ∧ yX4_init.cls ≠ "java/lang/invoke/VarHandle" ∧ (parseMethodDescriptor yX4_init.desc).map (fun d => d.parameters.length) = some 2 := by decide +kernel
theorem rF_X2_15 : rc_FldG RX2 15 1 3 := ⟨"RooftopCats$Parser", RX2, TX2, 9, rfl, in_X2, by decide, (Or.inl q657), (Or.inl rfl)⟩
theorem rd_X2_check : yX2_check.cls ≠ "java/lang/invoke/MethodHandle" ∧ yX2_check.cls ≠ "java/lang/invoke/VarHandle" ∧ (parseMethodDescriptor yX2_check.desc).map (fun d => d.parameters.length) = some 2 := by decide +kernel
theorem rY_J16 : plainName RJ16 = true := by decide +kernel
theorem rd_J16_signedHashCode : yJ16_signedHashCode.cls ≠ "java/lang/invoke/MethodHandle" ∧ yJ16_signedHashCode.cls ≠ "java/lang/invoke/VarHandle" ∧ (parseMethodDescriptor yJ16_signedHashCode.desc).map (fun d => d.parameters.length) = some 4 := by decide +kernel
theorem rd_J16_hashCode_2 : yJ16_hashCode_2.cls ≠ "java/lang/invoke/MethodHandle" ∧ yJ16_hashCode_2.cls ≠ "java/lang/invoke/VarHandle" ∧ (parseMethodDescriptor yJ16_hashCode_2.desc).map (fun d => d.parameters.length) = some 4 := by decide +kernel
theorem rd_J16_hashCode_4 : yJ16_hashCode_4.cls ≠ "java/lang/invoke/MethodHandle" ∧ yJ16_hashCode_4.cls ≠ "java/lang/invoke/VarHandle" ∧ (parseMethodDescriptor yJ16_hashCode_4.desc).map (fun d => d.parameters.length) = some 4 := by decide +kernel
theorem rd_J16_vectorizedHashCode : yJ16_vectorizedHashCode.cls ≠ "java/lang/invoke/MethodHandle" ∧ yJ16_vectorizedHashCode.cls ≠ "java/lang/invoke/VarHandle" ∧ (parseMethodDescriptor yJ16_vectorizedHashCode.desc).map (fun d => d.parameters.length) = some 5 := by decide +kernel
theorem rF_J4_19 : rc_FldG RJ4 19 11 2 := ⟨"java/lang/String", RJ4, TJ4, 4, rfl, in_J4, by decide, (Or.inl q587), (Or.inl rfl)⟩
theorem rF_J4_23 : rc_FldG RJ4 23 11 3 := ⟨"java/lang/String", RJ4, TJ4, 4, rfl, in_J4, by decide, (Or.inl q588), (Or.inl rfl)⟩
theorem rd_J5_hashCode : yJ5_hashCode.cls ≠ "java/lang/invoke/MethodHandle" ∧ yJ5_hashCode.cls ≠ "java/lang/invoke/VarHandle" ∧ (parseMethodDescriptor yJ5_hashCode.desc).map (fun d => d.parameters.length) = some 1 := by decide +kernel
theorem rd_J8_hashCode : yJ8_hashCode.cls ≠ "java/lang/invoke/MethodHandle" ∧ yJ8_hashCode.cls ≠ "java/lang/invoke/VarHandle" ∧ (parseMethodDescriptor yJ8_hashCode.desc).map (fun d => d.parameters.length) = some 1 := by decide +kernel
theorem rP_J4_19 : rc_Fld RJ4 19 11 2 .int false := ⟨"java/lang/String", RJ4, TJ4, 4, rfl, in_J4, by decide, (Or.inl q587), (Or.inl rfl), ⟨tyJ4, tyJ4_ok⟩, nmJ4, rfl, tyJ4_ok 2 (by decide), nofun⟩
theorem rP_J4_23 : rc_Fld RJ4 23 11 3 .boolean false := ⟨"java/lang/String", RJ4, TJ4, 4, rfl, in_J4, by decide, (Or.inl q588), (Or.inl rfl), ⟨tyJ4, tyJ4_ok⟩, nmJ4, rfl, tyJ4_ok 3 (by decide), nofun⟩
theorem rd_J4_hashCode : yJ4_hashCode.cls ≠ "java/lang/invoke/MethodHandle" ∧ yJ4_hashCode.cls ≠ "java/lang/invoke/VarHandle" ∧ (parseMethodDescriptor yJ4_hashCode.desc).map (fun d => d.parameters.length) = some 0 := by decide +kernel
theorem rd_J4_equals : yJ4_equals.cls ≠ "java/lang/invoke/MethodHandle" ∧ yJ4_equals.cls ≠ "java/lang/invoke/VarHandle" ∧ (parseMethodDescriptor yJ4_equals.desc).map (fun d => d.parameters.length) = some 1 := by decide +kernel
theorem rF_J7_48 : rc_FldG RJ7 48 12 2 := ⟨"java/util/ArrayList", RJ7, TJ7, 3, rfl, in_J7, by decide, (Or.inl q249), (Or.inl rfl)⟩
theorem rP_X5_9 : rc_Fld RX5 9 4 1 .int false := ⟨"RooftopCats$Chimney", RX5, TX5, 2, rfl, in_X5, by decide, (Or.inl q837), (Or.inl rfl), ⟨tyX5, tyX5_ok⟩, nmX5, rfl, tyX5_ok 1 (by decide), nofun⟩
theorem rP_X5_15 : rc_Fld RX5 15 4 0 .int true := ⟨"RooftopCats$Chimney", RX5, TX5, 2, rfl, in_X5, by decide, (Or.inl q834), (Or.inl rfl), ⟨tyX5, tyX5_ok⟩, nmX5, rfl, tyX5_ok 0 (by decide), fun _ => rfl⟩
theorem rY_X5 : plainName RX5 = true := by decide +kernel
theorem rY_J17_max : plainFor yJ17_max = true := by decide +kernel
theorem rd_J17_max : yJ17_max.cls ≠ "java/lang/invoke/MethodHandle" ∧ yJ17_max.cls ≠ "java/lang/invoke/VarHandle" ∧ (parseMethodDescriptor yJ17_max.desc).map (fun d => d.parameters.length) = some 2 := by decide +kernel
theorem rd_J16_hugeLength : yJ16_hugeLength.cls ≠ "java/lang/invoke/MethodHandle" ∧ yJ16_hugeLength.cls ≠ "java/lang/invoke/VarHandle" ∧ (parseMethodDescriptor yJ16_hugeLength.desc).map (fun d => d.parameters.length) = some 2 := by decide +kernel
theorem rd_J10_copyOf_3 : yJ10_copyOf_3.cls ≠ "java/lang/invoke/MethodHandle" ∧ yJ10_copyOf_3.cls ≠ "java/lang/invoke/VarHandle" ∧ (parseMethodDescriptor yJ10_copyOf_3.desc).map (fun d => d.parameters.length) = some 3 := by decide +kernel
theorem rF_J7_9 : rc_FldG RJ7 9 12 1 := ⟨"java/util/ArrayList", RJ7, TJ7, 3, rfl, in_J7, by decide, (Or.inl q246), (Or.inl rfl)⟩
theorem rd_J16_newLength : yJ16_newLength.cls ≠ "java/lang/invoke/MethodHandle" ∧ yJ16_newLength.cls ≠ "java/lang/invoke/VarHandle" ∧ (parseMethodDescriptor yJ16_newLength.desc).map (fun d => d.parameters.length) = some 3 := by decide +kernel
theorem rd_J10_copyOf_2 : yJ10_copyOf_2.cls ≠ "java/lang/invoke/MethodHandle" ∧ yJ10_copyOf_2.cls ≠ "java/lang/invoke/VarHandle" ∧ (parseMethodDescriptor yJ10_copyOf_2.desc).map (fun d => d.parameters.length) = some 2 := by decide +kernel
theorem rd_J7_grow_2 : yJ7_grow_2.cls ≠ "java/lang/invoke/MethodHandle" ∧ yJ7_grow_2.cls ≠ "java/lang/invoke/VarHandle" ∧ (parseMethodDescriptor yJ7_grow_2.desc).map (fun d => d.parameters.length) = some 1 := by decide +kernel
theorem rd_J7_grow : yJ7_grow.cls ≠ "java/lang/invoke/MethodHandle" ∧ yJ7_grow.cls ≠ "java/lang/invoke/VarHandle" ∧ (parseMethodDescriptor yJ7_grow.desc).map (fun d => d.parameters.length) = some 0 := by decide +kernel
theorem rP_J7_48 : rc_Fld RJ7 48 12 2 .int false := ⟨"java/util/ArrayList", RJ7, TJ7, 3, rfl, in_J7, by decide, (Or.inl q249), (Or.inl rfl), ⟨tyJ7, tyJ7_ok⟩, nmJ7, rfl, tyJ7_ok 2 (by decide), nofun⟩
theorem rF_J7_63 : rc_FldG RJ7 63 12 0 := ⟨"java/util/ArrayList", RJ7, TJ7, 3, rfl, in_J7, by decide, (Or.inl q253), (Or.inr q252)⟩
theorem rP_J7_63 : rc_Fld RJ7 63 12 0 .int false := ⟨"java/util/ArrayList", RJ7, TJ7, 3, rfl, in_J7, by decide, (Or.inl q253), (Or.inr q252), ⟨tyJ7, tyJ7_ok⟩, nmJ7, rfl, tyJ7_ok 0 (by decide), nofun⟩
theorem rd_J7_add_2 : yJ7_add_2.cls ≠ "java/lang/invoke/MethodHandle" ∧ yJ7_add_2.cls ≠ "java/lang/invoke/VarHandle" ∧ (parseMethodDescriptor yJ7_add_2.desc).map (fun d => d.parameters.length) = some 3 := by decide +kernel
theorem rF_X2_29 : rc_FldG RX2 29 1 8 := ⟨"RooftopCats$Parser", RX2, TX2, 9, rfl, in_X2, by decide, (Or.inl q662), (Or.inl rfl)⟩
theorem rF_X2_101 : rc_FldG RX2 101 2 0 := ⟨"RooftopCats$Roof", RX3, TX3, 8, rfl, in_X3, by decide, (Or.inr ⟨_, lw_o q263 rfl⟩), (Or.inl rfl)⟩
theorem rd_J7_size : yJ7_size.cls ≠ "java/lang/invoke/MethodHandle" ∧ yJ7_size.cls ≠ "java/lang/invoke/VarHandle" ∧ (parseMethodDescriptor yJ7_size.desc).map (fun d => d.parameters.length) = some 0 := by decide +kernel
theorem rd_X2_number : yX2_number.cls ≠ "java/lang/invoke/MethodHandle" ∧ yX2_number.cls ≠ "java/lang/invoke/VarHandle" ∧ (parseMethodDescriptor yX2_number.desc).map (fun d => d.parameters.length) = some 2 := by decide +kernel
theorem rY_J18 : plainName RJ18 = true := by decide +kernel
theorem rd_J18_init : yJ18_init.cls ≠ "java/lang/invoke/MethodHandle" ∧ yJ18_init.cls ≠ "java/lang/invoke/VarHandle" ∧ (parseMethodDescriptor yJ18_init.desc).map (fun d => d.parameters.length) = some 0 := by decide +kernel
theorem rP_X6_7 : rc_Fld RX6 7 5 0 .int true := ⟨"RooftopCats$Gutter", RX6, TX6, 3, rfl, in_X6, by decide, (Or.inl q921), (Or.inl rfl), ⟨tyX6, tyX6_ok⟩, nmX6, rfl, tyX6_ok 0 (by decide), fun _ => rfl⟩
theorem rP_X6_13 : rc_Fld RX6 13 5 1 .int true := ⟨"RooftopCats$Gutter", RX6, TX6, 3, rfl, in_X6, by decide, (Or.inl q922), (Or.inl rfl), ⟨tyX6, tyX6_ok⟩, nmX6, rfl, tyX6_ok 1 (by decide), fun _ => rfl⟩
theorem rP_X6_16 : rc_Fld RX6 16 5 2 .int true := ⟨"RooftopCats$Gutter", RX6, TX6, 3, rfl, in_X6, by decide, (Or.inl q923), (Or.inl rfl), ⟨tyX6, tyX6_ok⟩, nmX6, rfl, tyX6_ok 2 (by decide), fun _ => rfl⟩
theorem rY_X6 : plainName RX6 = true := by decide +kernel
theorem rY_J19 : plainName RJ19 = true := by decide +kernel
theorem rd_J19_checkIndex : yJ19_checkIndex.cls ≠ "java/lang/invoke/MethodHandle" ∧ yJ19_checkIndex.cls ≠ "java/lang/invoke/VarHandle" ∧ (parseMethodDescriptor yJ19_checkIndex.desc).map (fun d => d.parameters.length) = some 2 := by decide +kernel
theorem rd_J7_elementData : yJ7_elementData.cls ≠ "java/lang/invoke/MethodHandle" ∧ yJ7_elementData.cls ≠ "java/lang/invoke/VarHandle" ∧ (parseMethodDescriptor yJ7_elementData.desc).map (fun d => d.parameters.length) = some 1 := by decide +kernel
theorem rF_X3_21 : rc_FldG RX3 21 2 2 := ⟨"RooftopCats$Roof", RX3, TX3, 8, rfl, in_X3, by decide, (Or.inl q267), (Or.inl rfl)⟩
theorem rd_J7_get : yJ7_get.cls ≠ "java/lang/invoke/MethodHandle" ∧ yJ7_get.cls ≠ "java/lang/invoke/VarHandle" ∧ (parseMethodDescriptor yJ7_get.desc).map (fun d => d.parameters.length) = some 1 := by decide +kernel
theorem rF_X3_90 : rc_FldG RX3 90 6 2 := ⟨"RooftopCats$Cat", RX7, TX7, 4, rfl, in_X7, by decide, (Or.inr ⟨_, lw_o q967 rfl⟩), (Or.inl rfl)⟩
theorem rP_X7_9 : rc_Fld RX7 9 6 3 .int false := ⟨"RooftopCats$Cat", RX7, TX7, 4, rfl, in_X7, by decide, (Or.inl q969), (Or.inl rfl), ⟨tyX7, tyX7_ok⟩, nmX7, rfl, tyX7_ok 3 (by decide), nofun⟩
theorem rP_X7_15 : rc_Fld RX7 15 6 2 .int false := ⟨"RooftopCats$Cat", RX7, TX7, 4, rfl, in_X7, by decide, (Or.inl q966), (Or.inl rfl), ⟨tyX7, tyX7_ok⟩, nmX7, rfl, tyX7_ok 2 (by decide), nofun⟩
theorem rP_X7_18 : rc_Fld RX7 18 6 0 .int true := ⟨"RooftopCats$Cat", RX7, TX7, 4, rfl, in_X7, by decide, (Or.inl q961), (Or.inl rfl), ⟨tyX7, tyX7_ok⟩, nmX7, rfl, tyX7_ok 0 (by decide), fun _ => rfl⟩
theorem rP_X7_21 : rc_Fld RX7 21 6 1 .int true := ⟨"RooftopCats$Cat", RX7, TX7, 4, rfl, in_X7, by decide, (Or.inl q964), (Or.inl rfl), ⟨tyX7, tyX7_ok⟩, nmX7, rfl, tyX7_ok 1 (by decide), fun _ => rfl⟩
theorem rY_X7 : plainName RX7 = true := by decide +kernel
theorem rd_X2_chimney : yX2_chimney.cls ≠ "java/lang/invoke/MethodHandle" ∧ yX2_chimney.cls ≠ "java/lang/invoke/VarHandle" ∧ (parseMethodDescriptor yX2_chimney.desc).map (fun d => d.parameters.length) = some 0 := by decide +kernel
theorem rF_X2_114 : rc_FldG RX2 114 2 2 := ⟨"RooftopCats$Roof", RX3, TX3, 8, rfl, in_X3, by decide, (Or.inr ⟨_, lw_o q269 rfl⟩), (Or.inl rfl)⟩
theorem rd_X3_catOn : yX3_catOn.cls ≠ "java/lang/invoke/MethodHandle" ∧ yX3_catOn.cls ≠ "java/lang/invoke/VarHandle" ∧ (parseMethodDescriptor yX3_catOn.desc).map (fun d => d.parameters.length) = some 1 := by decide +kernel
theorem rd_X2_numberBut : yX2_numberBut.cls ≠ "java/lang/invoke/MethodHandle" ∧ yX2_numberBut.cls ≠ "java/lang/invoke/VarHandle" ∧ (parseMethodDescriptor yX2_numberBut.desc).map (fun d => d.parameters.length) = some 2 := by decide +kernel
theorem rF_X2_214 : rc_FldG RX2 214 2 1 := ⟨"RooftopCats$Roof", RX3, TX3, 8, rfl, in_X3, by decide, (Or.inr ⟨_, lw_o q266 rfl⟩), (Or.inl rfl)⟩
theorem rd_X2_end : yX2_end.cls ≠ "java/lang/invoke/MethodHandle" ∧ yX2_end.cls ≠ "java/lang/invoke/VarHandle" ∧ (parseMethodDescriptor yX2_end.desc).map (fun d => d.parameters.length) = some 1 := by decide +kernel
theorem rN_X2_201 : rc_New RX2 201 4 2 [rc_i 0, rc_i 0] := ⟨RX5, TX5, tyX5, rfl, in_X5, q828, q829, q142, tyX5_ok, (by
  intro k hk
  have h : k = 0 ∨ k = 1 := by omega
  rcases h with rfl | rfl <;> rfl)⟩
theorem rd_X5_init : yX5_init.cls ≠ "java/lang/invoke/MethodHandle" ∧ yX5_init.cls ≠ "java/lang/invoke/VarHandle" ∧ (parseMethodDescriptor yX5_init.desc).map (fun d => d.parameters.length) = some 1 := by decide +kernel
theorem rd_J7_add : yJ7_add.cls ≠ "java/lang/invoke/MethodHandle" ∧ yJ7_add.cls ≠ "java/lang/invoke/VarHandle" ∧ (parseMethodDescriptor yJ7_add.desc).map (fun d => d.parameters.length) = some 1 := by decide +kernel
theorem rN_X2_217 : rc_New RX2 217 5 3 [rc_i 0, rc_i 0, rc_i 0] := ⟨RX6, TX6, tyX6, rfl, in_X6, q912, q913, q144, tyX6_ok, (by
  intro k hk
  have h : k = 0 ∨ k = 1 ∨ k = 2 := by omega
  rcases h with rfl | rfl | rfl <;> rfl)⟩
theorem rd_X6_init : yX6_init.cls ≠ "java/lang/invoke/MethodHandle" ∧ yX6_init.cls ≠ "java/lang/invoke/VarHandle" ∧ (parseMethodDescriptor yX6_init.desc).map (fun d => d.parameters.length) = some 3 := by decide +kernel
theorem rN_X2_225 : rc_New RX2 225 6 4 [rc_i 0, rc_i 0, rc_i 0, rc_i 0] := ⟨RX7, TX7, tyX7, rfl, in_X7, q955, q956, q146, tyX7_ok, (by
  intro k hk
  have h : k = 0 ∨ k = 1 ∨ k = 2 ∨ k = 3 := by omega
  rcases h with rfl | rfl | rfl | rfl <;> rfl)⟩
theorem rd_X7_init : yX7_init.cls ≠ "java/lang/invoke/MethodHandle" ∧ yX7_init.cls ≠ "java/lang/invoke/VarHandle" ∧ (parseMethodDescriptor yX7_init.desc).map (fun d => d.parameters.length) = some 3 := by decide +kernel
theorem rF_X3_12 : rc_FldG RX3 12 2 0 := ⟨"RooftopCats$Roof", RX3, TX3, 8, rfl, in_X3, by decide, (Or.inl q261), (Or.inl rfl)⟩
theorem rF_X3_93 : rc_FldG RX3 93 4 1 := ⟨"RooftopCats$Chimney", RX5, TX5, 2, rfl, in_X5, by decide, (Or.inr ⟨_, lw_o q838 rfl⟩), (Or.inl rfl)⟩
theorem rd_X3_owner : yX3_owner.cls ≠ "java/lang/invoke/MethodHandle" ∧ yX3_owner.cls ≠ "java/lang/invoke/VarHandle" ∧ (parseMethodDescriptor yX3_owner.desc).map (fun d => d.parameters.length) = some 1 := by decide +kernel
theorem rY_J15 : plainName RJ15 = true := by decide +kernel
theorem rd_X3_owned : yX3_owned.cls ≠ "java/lang/invoke/MethodHandle" ∧ yX3_owned.cls ≠ "java/lang/invoke/VarHandle" ∧ (parseMethodDescriptor yX3_owned.desc).map (fun d => d.parameters.length) = some 1 := by decide +kernel
theorem rd_J15_bitCount : yJ15_bitCount.cls ≠ "java/lang/invoke/MethodHandle" ∧ yJ15_bitCount.cls ≠ "java/lang/invoke/VarHandle" ∧ (parseMethodDescriptor yJ15_bitCount.desc).map (fun d => d.parameters.length) = some 1 := by decide +kernel
theorem rd_X3_ownsEnough : yX3_ownsEnough.cls ≠ "java/lang/invoke/MethodHandle" ∧ yX3_ownsEnough.cls ≠ "java/lang/invoke/VarHandle" ∧ (parseMethodDescriptor yX3_ownsEnough.desc).map (fun d => d.parameters.length) = some 1 := by decide +kernel
theorem rP_X3_93 : rc_Fld RX3 93 4 1 .int false := ⟨"RooftopCats$Chimney", RX5, TX5, 2, rfl, in_X5, by decide, (Or.inr ⟨_, lw_o q838 rfl⟩), (Or.inl rfl), ⟨tyX5, tyX5_ok⟩, nmX5, rfl, tyX5_ok 1 (by decide), nofun⟩
theorem rF_X6_7 : rc_FldG RX6 7 5 0 := ⟨"RooftopCats$Gutter", RX6, TX6, 3, rfl, in_X6, by decide, (Or.inl q921), (Or.inl rfl)⟩
theorem rF_X6_13 : rc_FldG RX6 13 5 1 := ⟨"RooftopCats$Gutter", RX6, TX6, 3, rfl, in_X6, by decide, (Or.inl q922), (Or.inl rfl)⟩
theorem rF_X6_16 : rc_FldG RX6 16 5 2 := ⟨"RooftopCats$Gutter", RX6, TX6, 3, rfl, in_X6, by decide, (Or.inl q923), (Or.inl rfl)⟩
theorem rF_X3_24 : rc_FldG RX3 24 2 3 := ⟨"RooftopCats$Roof", RX3, TX3, 8, rfl, in_X3, by decide, (Or.inl q270), (Or.inl rfl)⟩
theorem rF_X3_72 : rc_FldG RX3 72 2 5 := ⟨"RooftopCats$Roof", RX3, TX3, 8, rfl, in_X3, by decide, (Or.inl q273), (Or.inl rfl)⟩
theorem rd_X3_truceNights : yX3_truceNights.cls ≠ "java/lang/invoke/MethodHandle" ∧ yX3_truceNights.cls ≠ "java/lang/invoke/VarHandle" ∧ (parseMethodDescriptor yX3_truceNights.desc).map (fun d => d.parameters.length) = some 2 := by decide +kernel
theorem rd_X6_endsAt : yX6_endsAt.cls ≠ "java/lang/invoke/MethodHandle" ∧ yX6_endsAt.cls ≠ "java/lang/invoke/VarHandle" ∧ (parseMethodDescriptor yX6_endsAt.desc).map (fun d => d.parameters.length) = some 1 := by decide +kernel
theorem rd_X6_width : yX6_width.cls ≠ "java/lang/invoke/MethodHandle" ∧ yX6_width.cls ≠ "java/lang/invoke/VarHandle" ∧ (parseMethodDescriptor yX6_width.desc).map (fun d => d.parameters.length) = some 0 := by decide +kernel
theorem rF_X3_142 : rc_FldG RX3 142 6 0 := ⟨"RooftopCats$Cat", RX7, TX7, 4, rfl, in_X7, by decide, (Or.inr ⟨_, lw_o q962 rfl⟩), (Or.inl rfl)⟩
theorem rd_X6_from : yX6_from.cls ≠ "java/lang/invoke/MethodHandle" ∧ yX6_from.cls ≠ "java/lang/invoke/VarHandle" ∧ (parseMethodDescriptor yX6_from.desc).map (fun d => d.parameters.length) = some 1 := by decide +kernel
theorem rd_X3_isTruce : yX3_isTruce.cls ≠ "java/lang/invoke/MethodHandle" ∧ yX3_isTruce.cls ≠ "java/lang/invoke/VarHandle" ∧ (parseMethodDescriptor yX3_isTruce.desc).map (fun d => d.parameters.length) = some 2 := by decide +kernel
theorem rF_X3_18 : rc_FldG RX3 18 2 1 := ⟨"RooftopCats$Roof", RX3, TX3, 8, rfl, in_X3, by decide, (Or.inl q264), (Or.inl rfl)⟩
theorem rd_X3_judgeWalk : yX3_judgeWalk.cls ≠ "java/lang/invoke/MethodHandle" ∧ yX3_judgeWalk.cls ≠ "java/lang/invoke/VarHandle" ∧ (parseMethodDescriptor yX3_judgeWalk.desc).map (fun d => d.parameters.length) = some 3 := by decide +kernel
theorem rP_X3_90 : rc_Fld RX3 90 6 2 .int false := ⟨"RooftopCats$Cat", RX7, TX7, 4, rfl, in_X7, by decide, (Or.inr ⟨_, lw_o q967 rfl⟩), (Or.inl rfl), ⟨tyX7, tyX7_ok⟩, nmX7, rfl, tyX7_ok 2 (by decide), nofun⟩
theorem rd_X2_cat : yX2_cat.cls ≠ "java/lang/invoke/MethodHandle" ∧ yX2_cat.cls ≠ "java/lang/invoke/VarHandle" ∧ (parseMethodDescriptor yX2_cat.desc).map (fun d => d.parameters.length) = some 0 := by decide +kernel
theorem rd_X3_judgeStep : yX3_judgeStep.cls ≠ "java/lang/invoke/MethodHandle" ∧ yX3_judgeStep.cls ≠ "java/lang/invoke/VarHandle" ∧ (parseMethodDescriptor yX3_judgeStep.desc).map (fun d => d.parameters.length) = some 2 := by decide +kernel
theorem rd_X3_judgeClaim : yX3_judgeClaim.cls ≠ "java/lang/invoke/MethodHandle" ∧ yX3_judgeClaim.cls ≠ "java/lang/invoke/VarHandle" ∧ (parseMethodDescriptor yX3_judgeClaim.desc).map (fun d => d.parameters.length) = some 1 := by decide +kernel
theorem rP_X2_235 : rc_Fld RX2 235 4 1 .int false := ⟨"RooftopCats$Chimney", RX5, TX5, 2, rfl, in_X5, by decide, (Or.inr ⟨_, lw_o q839 rfl⟩), (Or.inl rfl), ⟨tyX5, tyX5_ok⟩, nmX5, rfl, tyX5_ok 1 (by decide), nofun⟩
theorem rd_X3_claim : yX3_claim.cls ≠ "java/lang/invoke/MethodHandle" ∧ yX3_claim.cls ≠ "java/lang/invoke/VarHandle" ∧ (parseMethodDescriptor yX3_claim.desc).map (fun d => d.parameters.length) = some 1 := by decide +kernel
theorem rd_X3_step : yX3_step.cls ≠ "java/lang/invoke/MethodHandle" ∧ yX3_step.cls ≠ "java/lang/invoke/VarHandle" ∧ (parseMethodDescriptor yX3_step.desc).map (fun d => d.parameters.length) = some 2 := by decide +kernel
theorem rd_X6_connects : yX6_connects.cls ≠ "java/lang/invoke/MethodHandle" ∧ yX6_connects.cls ≠ "java/lang/invoke/VarHandle" ∧ (parseMethodDescriptor yX6_connects.desc).map (fun d => d.parameters.length) = some 2 := by decide +kernel
theorem rF_X3_107 : rc_FldG RX3 107 6 1 := ⟨"RooftopCats$Cat", RX7, TX7, 4, rfl, in_X7, by decide, (Or.inr ⟨_, lw_o q965 rfl⟩), (Or.inl rfl)⟩
theorem rd_X3_isHome : yX3_isHome.cls ≠ "java/lang/invoke/MethodHandle" ∧ yX3_isHome.cls ≠ "java/lang/invoke/VarHandle" ∧ (parseMethodDescriptor yX3_isHome.desc).map (fun d => d.parameters.length) = some 1 := by decide +kernel
theorem rd_X3_isNear : yX3_isNear.cls ≠ "java/lang/invoke/MethodHandle" ∧ yX3_isNear.cls ≠ "java/lang/invoke/VarHandle" ∧ (parseMethodDescriptor yX3_isNear.desc).map (fun d => d.parameters.length) = some 2 := by decide +kernel
theorem rd_X3_power : yX3_power.cls ≠ "java/lang/invoke/MethodHandle" ∧ yX3_power.cls ≠ "java/lang/invoke/VarHandle" ∧ (parseMethodDescriptor yX3_power.desc).map (fun d => d.parameters.length) = some 1 := by decide +kernel
theorem rF_X7_9 : rc_FldG RX7 9 6 3 := ⟨"RooftopCats$Cat", RX7, TX7, 4, rfl, in_X7, by decide, (Or.inl q969), (Or.inl rfl)⟩
theorem rF_X3_133 : rc_FldG RX3 133 6 3 := ⟨"RooftopCats$Cat", RX7, TX7, 4, rfl, in_X7, by decide, (Or.inr ⟨_, lw_o q970 rfl⟩), (Or.inl rfl)⟩
theorem rd_X7_get : yX7_get.cls ≠ "java/lang/invoke/MethodHandle" ∧ yX7_get.cls ≠ "java/lang/invoke/VarHandle" ∧ (parseMethodDescriptor yX7_get.desc).map (fun d => d.parameters.length) = some 1 := by decide +kernel
theorem rP_X3_133 : rc_Fld RX3 133 6 3 .int false := ⟨"RooftopCats$Cat", RX7, TX7, 4, rfl, in_X7, by decide, (Or.inr ⟨_, lw_o q970 rfl⟩), (Or.inl rfl), ⟨tyX7, tyX7_ok⟩, nmX7, rfl, tyX7_ok 3 (by decide), nofun⟩
theorem rd_X3_canBuy : yX3_canBuy.cls ≠ "java/lang/invoke/MethodHandle" ∧ yX3_canBuy.cls ≠ "java/lang/invoke/VarHandle" ∧ (parseMethodDescriptor yX3_canBuy.desc).map (fun d => d.parameters.length) = some 3 := by decide +kernel
theorem rd_X3_buyTruce : yX3_buyTruce.cls ≠ "java/lang/invoke/MethodHandle" ∧ yX3_buyTruce.cls ≠ "java/lang/invoke/VarHandle" ∧ (parseMethodDescriptor yX3_buyTruce.desc).map (fun d => d.parameters.length) = some 4 := by decide +kernel
theorem rd_X3_judgeChase : yX3_judgeChase.cls ≠ "java/lang/invoke/MethodHandle" ∧ yX3_judgeChase.cls ≠ "java/lang/invoke/VarHandle" ∧ (parseMethodDescriptor yX3_judgeChase.desc).map (fun d => d.parameters.length) = some 2 := by decide +kernel
theorem rd_X3_chase : yX3_chase.cls ≠ "java/lang/invoke/MethodHandle" ∧ yX3_chase.cls ≠ "java/lang/invoke/VarHandle" ∧ (parseMethodDescriptor yX3_chase.desc).map (fun d => d.parameters.length) = some 2 := by decide +kernel
theorem rF_X3_68 : rc_FldG RX3 68 2 4 := ⟨"RooftopCats$Roof", RX3, TX3, 8, rfl, in_X3, by decide, (Or.inl q271), (Or.inl rfl)⟩
theorem rd_J7_isEmpty : yJ7_isEmpty.cls ≠ "java/lang/invoke/MethodHandle" ∧ yJ7_isEmpty.cls ≠ "java/lang/invoke/VarHandle" ∧ (parseMethodDescriptor yJ7_isEmpty.desc).map (fun d => d.parameters.length) = some 0 := by decide +kernel
theorem rP_X8_7 : rc_Fld RX8 7 7 0 .int true := ⟨"RooftopCats$Kitten", RX8, TX8, 4, rfl, in_X8, by decide, (Or.inl q1119), (Or.inl rfl), ⟨tyX8, tyX8_ok⟩, nmX8, rfl, tyX8_ok 0 (by decide), fun _ => rfl⟩
theorem rP_X8_13 : rc_Fld RX8 13 7 1 .int true := ⟨"RooftopCats$Kitten", RX8, TX8, 4, rfl, in_X8, by decide, (Or.inl q1120), (Or.inl rfl), ⟨tyX8, tyX8_ok⟩, nmX8, rfl, tyX8_ok 1 (by decide), fun _ => rfl⟩
theorem rP_X8_16 : rc_Fld RX8 16 7 2 .int true := ⟨"RooftopCats$Kitten", RX8, TX8, 4, rfl, in_X8, by decide, (Or.inl q1121), (Or.inl rfl), ⟨tyX8, tyX8_ok⟩, nmX8, rfl, tyX8_ok 2 (by decide), fun _ => rfl⟩
theorem rP_X8_19 : rc_Fld RX8 19 7 3 .int true := ⟨"RooftopCats$Kitten", RX8, TX8, 4, rfl, in_X8, by decide, (Or.inl q1122), (Or.inl rfl), ⟨tyX8, tyX8_ok⟩, nmX8, rfl, tyX8_ok 3 (by decide), fun _ => rfl⟩
theorem rY_X8 : plainName RX8 = true := by decide +kernel
theorem rN_X3_182 : rc_New RX3 182 7 4 [rc_i 0, rc_i 0, rc_i 0, rc_i 0] := ⟨RX8, TX8, tyX8, rfl, in_X8, q1113, q1114, q147, tyX8_ok, (by
  intro k hk
  have h : k = 0 ∨ k = 1 ∨ k = 2 ∨ k = 3 := by omega
  rcases h with rfl | rfl | rfl | rfl <;> rfl)⟩
theorem rd_X8_init : yX8_init.cls ≠ "java/lang/invoke/MethodHandle" ∧ yX8_init.cls ≠ "java/lang/invoke/VarHandle" ∧ (parseMethodDescriptor yX8_init.desc).map (fun d => d.parameters.length) = some 4 := by decide +kernel
theorem rP_X3_68 : rc_Fld RX3 68 2 4 (.object "RooftopCats$Kitten") false := ⟨"RooftopCats$Roof", RX3, TX3, 8, rfl, in_X3, by decide, (Or.inl q271), (Or.inl rfl), ⟨tyX3, tyX3_ok⟩, nmX3, rfl, tyX3_ok 4 (by decide), nofun⟩
theorem rd_X3_singTogether : yX3_singTogether.cls ≠ "java/lang/invoke/MethodHandle" ∧ yX3_singTogether.cls ≠ "java/lang/invoke/VarHandle" ∧ (parseMethodDescriptor yX3_singTogether.desc).map (fun d => d.parameters.length) = some 2 := by decide +kernel
theorem rd_X3_choir : yX3_choir.cls ≠ "java/lang/invoke/MethodHandle" ∧ yX3_choir.cls ≠ "java/lang/invoke/VarHandle" ∧ (parseMethodDescriptor yX3_choir.desc).map (fun d => d.parameters.length) = some 1 := by decide +kernel
theorem rF_X3_76 : rc_FldG RX3 76 2 6 := ⟨"RooftopCats$Roof", RX3, TX3, 8, rfl, in_X3, by decide, (Or.inl q276), (Or.inl rfl)⟩
theorem rP_X3_76 : rc_Fld RX3 76 2 6 .int false := ⟨"RooftopCats$Roof", RX3, TX3, 8, rfl, in_X3, by decide, (Or.inl q276), (Or.inl rfl), ⟨tyX3, tyX3_ok⟩, nmX3, rfl, tyX3_ok 6 (by decide), nofun⟩
theorem rP_X3_72 : rc_Fld RX3 72 2 5 .int false := ⟨"RooftopCats$Roof", RX3, TX3, 8, rfl, in_X3, by decide, (Or.inl q273), (Or.inl rfl), ⟨tyX3, tyX3_ok⟩, nmX3, rfl, tyX3_ok 5 (by decide), nofun⟩
theorem rd_X3_largestChoir : yX3_largestChoir.cls ≠ "java/lang/invoke/MethodHandle" ∧ yX3_largestChoir.cls ≠ "java/lang/invoke/VarHandle" ∧ (parseMethodDescriptor yX3_largestChoir.desc).map (fun d => d.parameters.length) = some 0 := by decide +kernel
theorem rd_X3_sing : yX3_sing.cls ≠ "java/lang/invoke/MethodHandle" ∧ yX3_sing.cls ≠ "java/lang/invoke/VarHandle" ∧ (parseMethodDescriptor yX3_sing.desc).map (fun d => d.parameters.length) = some 1 := by decide +kernel
theorem rF_X3_79 : rc_FldG RX3 79 2 7 := ⟨"RooftopCats$Roof", RX3, TX3, 8, rfl, in_X3, by decide, (Or.inl q278), (Or.inl rfl)⟩
theorem rd_X7_eat : yX7_eat.cls ≠ "java/lang/invoke/MethodHandle" ∧ yX7_eat.cls ≠ "java/lang/invoke/VarHandle" ∧ (parseMethodDescriptor yX7_eat.desc).map (fun d => d.parameters.length) = some 0 := by decide +kernel
theorem rP_X3_79 : rc_Fld RX3 79 2 7 .int false := ⟨"RooftopCats$Roof", RX3, TX3, 8, rfl, in_X3, by decide, (Or.inl q278), (Or.inl rfl), ⟨tyX3, tyX3_ok⟩, nmX3, rfl, tyX3_ok 7 (by decide), nofun⟩
theorem rF_X3_117 : rc_FldG RX3 117 4 0 := ⟨"RooftopCats$Chimney", RX5, TX5, 2, rfl, in_X5, by decide, (Or.inr ⟨_, lw_o q835 rfl⟩), (Or.inl rfl)⟩
theorem rd_X3_passNight : yX3_passNight.cls ≠ "java/lang/invoke/MethodHandle" ∧ yX3_passNight.cls ≠ "java/lang/invoke/VarHandle" ∧ (parseMethodDescriptor yX3_passNight.desc).map (fun d => d.parameters.length) = some 0 := by decide +kernel
theorem rF_X8_16 : rc_FldG RX8 16 7 2 := ⟨"RooftopCats$Kitten", RX8, TX8, 4, rfl, in_X8, by decide, (Or.inl q1121), (Or.inl rfl)⟩
theorem rF_X8_19 : rc_FldG RX8 19 7 3 := ⟨"RooftopCats$Kitten", RX8, TX8, 4, rfl, in_X8, by decide, (Or.inl q1122), (Or.inl rfl)⟩
theorem rd_X8_hasVote : yX8_hasVote.cls ≠ "java/lang/invoke/MethodHandle" ∧ yX8_hasVote.cls ≠ "java/lang/invoke/VarHandle" ∧ (parseMethodDescriptor yX8_hasVote.desc).map (fun d => d.parameters.length) = some 1 := by decide +kernel
theorem rN_X8_8 : rc_New RX8 8 7 4 [rc_i 0, rc_i 0, rc_i 0, rc_i 0] := ⟨RX8, TX8, tyX8, rfl, in_X8, q1176, q1114, q147, tyX8_ok, (by
  intro k hk
  have h : k = 0 ∨ k = 1 ∨ k = 2 ∨ k = 3 := by omega
  rcases h with rfl | rfl | rfl | rfl <;> rfl)⟩
theorem rF_X8_7 : rc_FldG RX8 7 7 0 := ⟨"RooftopCats$Kitten", RX8, TX8, 4, rfl, in_X8, by decide, (Or.inl q1119), (Or.inl rfl)⟩
theorem rF_X8_13 : rc_FldG RX8 13 7 1 := ⟨"RooftopCats$Kitten", RX8, TX8, 4, rfl, in_X8, by decide, (Or.inl q1120), (Or.inl rfl)⟩
theorem rd_X8_with : yX8_with.cls ≠ "java/lang/invoke/MethodHandle" ∧ yX8_with.cls ≠ "java/lang/invoke/VarHandle" ∧ (parseMethodDescriptor yX8_with.desc).map (fun d => d.parameters.length) = some 2 := by decide +kernel
theorem rd_X8_yes : yX8_yes.cls ≠ "java/lang/invoke/MethodHandle" ∧ yX8_yes.cls ≠ "java/lang/invoke/VarHandle" ∧ (parseMethodDescriptor yX8_yes.desc).map (fun d => d.parameters.length) = some 0 := by decide +kernel
theorem rd_X8_no : yX8_no.cls ≠ "java/lang/invoke/MethodHandle" ∧ yX8_no.cls ≠ "java/lang/invoke/VarHandle" ∧ (parseMethodDescriptor yX8_no.desc).map (fun d => d.parameters.length) = some 0 := by decide +kernel
theorem rd_X3_warmestFree : yX3_warmestFree.cls ≠ "java/lang/invoke/MethodHandle" ∧ yX3_warmestFree.cls ≠ "java/lang/invoke/VarHandle" ∧ (parseMethodDescriptor yX3_warmestFree.desc).map (fun d => d.parameters.length) = some 0 := by decide +kernel
theorem rN_X3_57 : rc_New RX3 57 6 4 [rc_i 0, rc_i 0, rc_i 0, rc_i 0] := ⟨RX7, TX7, tyX7, rfl, in_X7, q954, q956, q146, tyX7_ok, (by
  intro k hk
  have h : k = 0 ∨ k = 1 ∨ k = 2 ∨ k = 3 := by omega
  rcases h with rfl | rfl | rfl | rfl <;> rfl)⟩
theorem rd_X8_girth : yX8_girth.cls ≠ "java/lang/invoke/MethodHandle" ∧ yX8_girth.cls ≠ "java/lang/invoke/VarHandle" ∧ (parseMethodDescriptor yX8_girth.desc).map (fun d => d.parameters.length) = some 0 := by decide +kernel
theorem rd_X8_strength : yX8_strength.cls ≠ "java/lang/invoke/MethodHandle" ∧ yX8_strength.cls ≠ "java/lang/invoke/VarHandle" ∧ (parseMethodDescriptor yX8_strength.desc).map (fun d => d.parameters.length) = some 0 := by decide +kernel
theorem rF_X2_261 : rc_FldG RX2 261 1 6 := ⟨"RooftopCats$Parser", RX2, TX2, 9, rfl, in_X2, by decide, (Or.inl q660), (Or.inl rfl)⟩
theorem rP_X2_261 : rc_Fld RX2 261 1 6 .int false := ⟨"RooftopCats$Parser", RX2, TX2, 9, rfl, in_X2, by decide, (Or.inl q660), (Or.inl rfl), ⟨tyX2, tyX2_ok⟩, nmX2, rfl, tyX2_ok 6 (by decide), nofun⟩
theorem rF_X2_22 : rc_FldG RX2 22 1 4 := ⟨"RooftopCats$Parser", RX2, TX2, 9, rfl, in_X2, by decide, (Or.inl q658), (Or.inl rfl)⟩
theorem rd_X2_isCommand : yX2_isCommand.cls ≠ "java/lang/invoke/MethodHandle" ∧ yX2_isCommand.cls ≠ "java/lang/invoke/VarHandle" ∧ (parseMethodDescriptor yX2_isCommand.desc).map (fun d => d.parameters.length) = some 1 := by decide +kernel
theorem rF_X2_164 : rc_FldG RX2 164 1 7 := ⟨"RooftopCats$Parser", RX2, TX2, 9, rfl, in_X2, by decide, (Or.inl q661), (Or.inl rfl)⟩
theorem rd_X2_repeat : yX2_repeat.cls ≠ "java/lang/invoke/MethodHandle" ∧ yX2_repeat.cls ≠ "java/lang/invoke/VarHandle" ∧ (parseMethodDescriptor yX2_repeat.desc).map (fun d => d.parameters.length) = some 0 := by decide +kernel
theorem rP_X2_164 : rc_Fld RX2 164 1 7 .int false := ⟨"RooftopCats$Parser", RX2, TX2, 9, rfl, in_X2, by decide, (Or.inl q661), (Or.inl rfl), ⟨tyX2, tyX2_ok⟩, nmX2, rfl, tyX2_ok 7 (by decide), nofun⟩
theorem rd_X3_canVote : yX3_canVote.cls ≠ "java/lang/invoke/MethodHandle" ∧ yX3_canVote.cls ≠ "java/lang/invoke/VarHandle" ∧ (parseMethodDescriptor yX3_canVote.desc).map (fun d => d.parameters.length) = some 1 := by decide +kernel
theorem rd_X3_vote : yX3_vote.cls ≠ "java/lang/invoke/MethodHandle" ∧ yX3_vote.cls ≠ "java/lang/invoke/VarHandle" ∧ (parseMethodDescriptor yX3_vote.desc).map (fun d => d.parameters.length) = some 2 := by decide +kernel
theorem rd_X3_canNominate : yX3_canNominate.cls ≠ "java/lang/invoke/MethodHandle" ∧ yX3_canNominate.cls ≠ "java/lang/invoke/VarHandle" ∧ (parseMethodDescriptor yX3_canNominate.desc).map (fun d => d.parameters.length) = some 0 := by decide +kernel
theorem rd_X3_nominate : yX3_nominate.cls ≠ "java/lang/invoke/MethodHandle" ∧ yX3_nominate.cls ≠ "java/lang/invoke/VarHandle" ∧ (parseMethodDescriptor yX3_nominate.desc).map (fun d => d.parameters.length) = some 2 := by decide +kernel
theorem rF_X2_184 : rc_FldG RX2 184 2 5 := ⟨"RooftopCats$Roof", RX3, TX3, 8, rfl, in_X3, by decide, (Or.inr ⟨_, lw_o q274 rfl⟩), (Or.inl rfl)⟩
theorem rd_X2_build : yX2_build.cls ≠ "java/lang/invoke/MethodHandle" ∧ yX2_build.cls ≠ "java/lang/invoke/VarHandle" ∧ (parseMethodDescriptor yX2_build.desc).map (fun d => d.parameters.length) = some 1 := by decide +kernel
theorem rd_X2_walk : yX2_walk.cls ≠ "java/lang/invoke/MethodHandle" ∧ yX2_walk.cls ≠ "java/lang/invoke/VarHandle" ∧ (parseMethodDescriptor yX2_walk.desc).map (fun d => d.parameters.length) = some 1 := by decide +kernel
theorem rd_X2_meet : yX2_meet.cls ≠ "java/lang/invoke/MethodHandle" ∧ yX2_meet.cls ≠ "java/lang/invoke/VarHandle" ∧ (parseMethodDescriptor yX2_meet.desc).map (fun d => d.parameters.length) = some 1 := by decide +kernel
theorem rd_X3_passNights : yX3_passNights.cls ≠ "java/lang/invoke/MethodHandle" ∧ yX3_passNights.cls ≠ "java/lang/invoke/VarHandle" ∧ (parseMethodDescriptor yX3_passNights.desc).map (fun d => d.parameters.length) = some 1 := by decide +kernel
theorem rd_X2_command : yX2_command.cls ≠ "java/lang/invoke/MethodHandle" ∧ yX2_command.cls ≠ "java/lang/invoke/VarHandle" ∧ (parseMethodDescriptor yX2_command.desc).map (fun d => d.parameters.length) = some 0 := by decide +kernel
theorem rN_X1_16 : rc_New RX1 16 10 4 [rc_q none, rc_i 0, rc_i 0, rc_i 0] := ⟨RJ3, TJ3, tyJ3, rfl, in_J3, q185, q186, q120, tyJ3_ok, (by
  intro k hk
  have h : k = 0 ∨ k = 1 ∨ k = 2 ∨ k = 3 := by omega
  rcases h with rfl | rfl | rfl | rfl <;> rfl)⟩
theorem rd_J3_init : yJ3_init.cls ≠ "java/lang/invoke/MethodHandle" ∧ yJ3_init.cls ≠ "java/lang/invoke/VarHandle" ∧ (parseMethodDescriptor yJ3_init.desc).map (fun d => d.parameters.length) = some 0 := by decide +kernel
theorem rP_X1_25 : rc_Fld RX1 25 0 4 (.object "java/lang/String") false := ⟨"RooftopCats", RX1, TX1, 7, rfl, in_X1, by decide, (Or.inl q1223), (Or.inl rfl), ⟨tyX1, tyX1_ok⟩, nmX1, rfl, tyX1_ok 4 (by decide), nofun⟩
theorem rP_X1_44 : rc_Fld RX1 44 0 0 (.object "RooftopCats$Roof") false := ⟨"RooftopCats", RX1, TX1, 7, rfl, in_X1, by decide, (Or.inl q1219), (Or.inl rfl), ⟨tyX1, tyX1_ok⟩, nmX1, rfl, tyX1_ok 0 (by decide), nofun⟩
theorem rY_X1 : plainName RX1 = true := by decide +kernel
theorem rF_J2_79 : rc_FldG RJ2 79 10 3 := ⟨"java/lang/AbstractStringBuilder", RJ3, TJ3, 4, rfl, in_J3, by decide, (Or.inl q207), (Or.inl rfl)⟩
theorem rd_J2_length : yJ2_length.cls ≠ "java/lang/invoke/MethodHandle" ∧ yJ2_length.cls ≠ "java/lang/invoke/VarHandle" ∧ (parseMethodDescriptor yJ2_length.desc).map (fun d => d.parameters.length) = some 0 := by decide +kernel
theorem rF_J2_15 : rc_FldG RJ2 15 10 0 := ⟨"java/lang/AbstractStringBuilder", RJ3, TJ3, 4, rfl, in_J3, by decide, (Or.inl q203), (Or.inl rfl)⟩
theorem rF_J2_22 : rc_FldG RJ2 22 10 1 := ⟨"java/lang/AbstractStringBuilder", RJ3, TJ3, 4, rfl, in_J3, by decide, (Or.inl q204), (Or.inl rfl)⟩
theorem rd_J2_newCapacity : yJ2_newCapacity.cls ≠ "java/lang/invoke/MethodHandle" ∧ yJ2_newCapacity.cls ≠ "java/lang/invoke/VarHandle" ∧ (parseMethodDescriptor yJ2_newCapacity.desc).map (fun d => d.parameters.length) = some 1 := by decide +kernel
theorem rd_J10_copyOf : yJ10_copyOf.cls ≠ "java/lang/invoke/MethodHandle" ∧ yJ10_copyOf.cls ≠ "java/lang/invoke/VarHandle" ∧ (parseMethodDescriptor yJ10_copyOf.desc).map (fun d => d.parameters.length) = some 2 := by decide +kernel
theorem rd_J5_putChar : yJ5_putChar.cls ≠ "java/lang/invoke/MethodHandle" ∧ yJ5_putChar.cls ≠ "java/lang/invoke/VarHandle" ∧ (parseMethodDescriptor yJ5_putChar.desc).map (fun d => d.parameters.length) = some 3 := by decide +kernel
theorem rd_J5_inflate : yJ5_inflate.cls ≠ "java/lang/invoke/MethodHandle" ∧ yJ5_inflate.cls ≠ "java/lang/invoke/VarHandle" ∧ (parseMethodDescriptor yJ5_inflate.desc).map (fun d => d.parameters.length) = some 5 := by decide +kernel
theorem rd_J2_isLatin1 : yJ2_isLatin1.cls ≠ "java/lang/invoke/MethodHandle" ∧ yJ2_isLatin1.cls ≠ "java/lang/invoke/VarHandle" ∧ (parseMethodDescriptor yJ2_isLatin1.desc).map (fun d => d.parameters.length) = some 0 := by decide +kernel
theorem rd_J8_inflate : yJ8_inflate.cls ≠ "java/lang/invoke/MethodHandle" ∧ yJ8_inflate.cls ≠ "java/lang/invoke/VarHandle" ∧ (parseMethodDescriptor yJ8_inflate.desc).map (fun d => d.parameters.length) = some 5 := by decide +kernel
theorem rd_J2_ensureCapacityInternal : yJ2_ensureCapacityInternal.cls ≠ "java/lang/invoke/MethodHandle" ∧ yJ2_ensureCapacityInternal.cls ≠ "java/lang/invoke/VarHandle" ∧ (parseMethodDescriptor yJ2_ensureCapacityInternal.desc).map (fun d => d.parameters.length) = some 1 := by decide +kernel
theorem rd_J8_canEncode : yJ8_canEncode.cls ≠ "java/lang/invoke/MethodHandle" ∧ yJ8_canEncode.cls ≠ "java/lang/invoke/VarHandle" ∧ (parseMethodDescriptor yJ8_canEncode.desc).map (fun d => d.parameters.length) = some 1 := by decide +kernel
theorem rP_J2_79 : rc_Fld RJ2 79 10 3 .int false := ⟨"java/lang/AbstractStringBuilder", RJ3, TJ3, 4, rfl, in_J3, by decide, (Or.inl q207), (Or.inl rfl), ⟨tyJ3, tyJ3_ok⟩, nmJ3, rfl, tyJ3_ok 3 (by decide), nofun⟩
theorem rd_J2_inflate : yJ2_inflate.cls ≠ "java/lang/invoke/MethodHandle" ∧ yJ2_inflate.cls ≠ "java/lang/invoke/VarHandle" ∧ (parseMethodDescriptor yJ2_inflate.desc).map (fun d => d.parameters.length) = some 0 := by decide +kernel
theorem rd_J5_putCharSB : yJ5_putCharSB.cls ≠ "java/lang/invoke/MethodHandle" ∧ yJ5_putCharSB.cls ≠ "java/lang/invoke/VarHandle" ∧ (parseMethodDescriptor yJ5_putCharSB.desc).map (fun d => d.parameters.length) = some 3 := by decide +kernel
theorem rd_J2_append_3 : yJ2_append_3.cls ≠ "java/lang/invoke/MethodHandle" ∧ yJ2_append_3.cls ≠ "java/lang/invoke/VarHandle" ∧ (parseMethodDescriptor yJ2_append_3.desc).map (fun d => d.parameters.length) = some 1 := by decide +kernel
theorem rF_X1_19 : rc_FldG RX1 19 0 3 := ⟨"RooftopCats", RX1, TX1, 7, rfl, in_X1, by decide, (Or.inl q1222), (Or.inl rfl)⟩
theorem rd_J3_append_3 : yJ3_append_3.cls ≠ "java/lang/invoke/MethodHandle" ∧ yJ3_append_3.cls ≠ "java/lang/invoke/VarHandle" ∧ (parseMethodDescriptor yJ3_append_3.desc).map (fun d => d.parameters.length) = some 1 := by decide +kernel
theorem rd_J3_length : yJ3_length.cls ≠ "java/lang/invoke/MethodHandle" ∧ yJ3_length.cls ≠ "java/lang/invoke/VarHandle" ∧ (parseMethodDescriptor yJ3_length.desc).map (fun d => d.parameters.length) = some 0 := by decide +kernel
theorem rd_X1_appendBytes : yX1_appendBytes.cls ≠ "java/lang/invoke/MethodHandle" ∧ yX1_appendBytes.cls ≠ "java/lang/invoke/VarHandle" ∧ (parseMethodDescriptor yX1_appendBytes.desc).map (fun d => d.parameters.length) = some 1 := by decide +kernel
theorem rd_J2_getValue : yJ2_getValue.cls ≠ "java/lang/invoke/MethodHandle" ∧ yJ2_getValue.cls ≠ "java/lang/invoke/VarHandle" ∧ (parseMethodDescriptor yJ2_getValue.desc).map (fun d => d.parameters.length) = some 0 := by decide +kernel
theorem rF_J4_1048 : rc_FldG RJ4 1048 10 2 := ⟨"java/lang/AbstractStringBuilder", RJ3, TJ3, 4, rfl, in_J3, by decide, (Or.inl q206), (Or.inl rfl)⟩
theorem rd_J4_init_2 : yJ4_init_2.cls ≠ "java/lang/invoke/MethodHandle" ∧ yJ4_init_2.cls ≠ "java/lang/invoke/VarHandle" ∧ (parseMethodDescriptor yJ4_init_2.desc).map (fun d => d.parameters.length) = some 2 := by decide +kernel
theorem rN_J3_18 : rc_New RJ3 18 11 4 [rc_q none, rc_i 0, rc_i 0, rc_i 0] := ⟨RJ4, TJ4, tyJ4, rfl, in_J4, q552, q369, q121, tyJ4_ok, (by
  intro k hk
  have h : k = 0 ∨ k = 1 ∨ k = 2 ∨ k = 3 := by omega
  rcases h with rfl | rfl | rfl | rfl <;> rfl)⟩
theorem rd_J4_init : yJ4_init.cls ≠ "java/lang/invoke/MethodHandle" ∧ yJ4_init.cls ≠ "java/lang/invoke/VarHandle" ∧ (parseMethodDescriptor yJ4_init.desc).map (fun d => d.parameters.length) = some 1 := by decide +kernel
theorem rd_J10_rangeCheck : yJ10_rangeCheck.cls ≠ "java/lang/invoke/MethodHandle" ∧ yJ10_rangeCheck.cls ≠ "java/lang/invoke/VarHandle" ∧ (parseMethodDescriptor yJ10_rangeCheck.desc).map (fun d => d.parameters.length) = some 3 := by decide +kernel
theorem rd_J10_fill : yJ10_fill.cls ≠ "java/lang/invoke/MethodHandle" ∧ yJ10_fill.cls ≠ "java/lang/invoke/VarHandle" ∧ (parseMethodDescriptor yJ10_fill.desc).map (fun d => d.parameters.length) = some 4 := by decide +kernel
theorem rP_J2_73 : rc_Fld RJ2 73 10 2 .boolean false := ⟨"java/lang/AbstractStringBuilder", RJ3, TJ3, 4, rfl, in_J3, by decide, (Or.inl q205), (Or.inl rfl), ⟨tyJ3, tyJ3_ok⟩, nmJ3, rfl, tyJ3_ok 2 (by decide), nofun⟩
theorem rd_J5_fillNull : yJ5_fillNull.cls ≠ "java/lang/invoke/MethodHandle" ∧ yJ5_fillNull.cls ≠ "java/lang/invoke/VarHandle" ∧ (parseMethodDescriptor yJ5_fillNull.desc).map (fun d => d.parameters.length) = some 3 := by decide +kernel
theorem rd_J8_fillNull : yJ8_fillNull.cls ≠ "java/lang/invoke/MethodHandle" ∧ yJ8_fillNull.cls ≠ "java/lang/invoke/VarHandle" ∧ (parseMethodDescriptor yJ8_fillNull.desc).map (fun d => d.parameters.length) = some 3 := by decide +kernel
theorem rd_J2_setLength : yJ2_setLength.cls ≠ "java/lang/invoke/MethodHandle" ∧ yJ2_setLength.cls ≠ "java/lang/invoke/VarHandle" ∧ (parseMethodDescriptor yJ2_setLength.desc).map (fun d => d.parameters.length) = some 1 := by decide +kernel
theorem rF_J1_3 : rc_FldG RJ1 3 9 0 := ⟨"java/util/ArrayDeque", RJ1, TJ1, 3, rfl, in_J1, by decide, (Or.inl q175), (Or.inl rfl)⟩
theorem rd_J1_newCapacity : yJ1_newCapacity.cls ≠ "java/lang/invoke/MethodHandle" ∧ yJ1_newCapacity.cls ≠ "java/lang/invoke/VarHandle" ∧ (parseMethodDescriptor yJ1_newCapacity.desc).map (fun d => d.parameters.length) = some 2 := by decide +kernel
theorem rF_J1_20 : rc_FldG RJ1 20 9 2 := ⟨"java/util/ArrayDeque", RJ1, TJ1, 3, rfl, in_J1, by decide, (Or.inl q177), (Or.inl rfl)⟩
theorem rF_J1_24 : rc_FldG RJ1 24 9 1 := ⟨"java/util/ArrayDeque", RJ1, TJ1, 3, rfl, in_J1, by decide, (Or.inl q176), (Or.inl rfl)⟩
theorem rP_J1_24 : rc_Fld RJ1 24 9 1 .int false := ⟨"java/util/ArrayDeque", RJ1, TJ1, 3, rfl, in_J1, by decide, (Or.inl q176), (Or.inl rfl), ⟨tyJ1, tyJ1_ok⟩, nmJ1, rfl, tyJ1_ok 1 (by decide), nofun⟩
theorem rd_J1_inc : yJ1_inc.cls ≠ "java/lang/invoke/MethodHandle" ∧ yJ1_inc.cls ≠ "java/lang/invoke/VarHandle" ∧ (parseMethodDescriptor yJ1_inc.desc).map (fun d => d.parameters.length) = some 2 := by decide +kernel
theorem rP_J1_20 : rc_Fld RJ1 20 9 2 .int false := ⟨"java/util/ArrayDeque", RJ1, TJ1, 3, rfl, in_J1, by decide, (Or.inl q177), (Or.inl rfl), ⟨tyJ1, tyJ1_ok⟩, nmJ1, rfl, tyJ1_ok 2 (by decide), nofun⟩
theorem rd_J1_grow : yJ1_grow.cls ≠ "java/lang/invoke/MethodHandle" ∧ yJ1_grow.cls ≠ "java/lang/invoke/VarHandle" ∧ (parseMethodDescriptor yJ1_grow.desc).map (fun d => d.parameters.length) = some 1 := by decide +kernel
theorem rd_J1_sub : yJ1_sub.cls ≠ "java/lang/invoke/MethodHandle" ∧ yJ1_sub.cls ≠ "java/lang/invoke/VarHandle" ∧ (parseMethodDescriptor yJ1_sub.desc).map (fun d => d.parameters.length) = some 3 := by decide +kernel
theorem rd_J1_elementAt : yJ1_elementAt.cls ≠ "java/lang/invoke/MethodHandle" ∧ yJ1_elementAt.cls ≠ "java/lang/invoke/VarHandle" ∧ (parseMethodDescriptor yJ1_elementAt.desc).map (fun d => d.parameters.length) = some 2 := by decide +kernel
theorem rd_J1_pollFirst : yJ1_pollFirst.cls ≠ "java/lang/invoke/MethodHandle" ∧ yJ1_pollFirst.cls ≠ "java/lang/invoke/VarHandle" ∧ (parseMethodDescriptor yJ1_pollFirst.desc).map (fun d => d.parameters.length) = some 0 := by decide +kernel
theorem rT_J1_99 : (∀ w ∈ (vy_at0 RJ1 99 "java/util/NoSuchElementException" ["java/lang/RuntimeException", "java/lang/Exception"]).filter goodWord, w ∈ lw_all) ∧ (∀ w ∈ (vy_at0 RJ1 99 "java/util/NoSuchElementException" ["java/lang/RuntimeException", "java/lang/Exception"]).filter (fun w => !goodWord w), w ∈ lw_odd) ∧ (∀ w ∈ Cond.classLink RJ1 97 "java/util/NoSuchElementException" :: Cond.initialized "java/util/NoSuchElementException" :: vy_at0 RJ1 99 "java/util/NoSuchElementException" ["java/lang/RuntimeException", "java/lang/Exception"], vy_ot w = true) := ⟨lw_in _ [132, 401, 410, 418, 421, 423, 402, 403, 162, 163, 404, 409, 419, 612, 391, 613, 393, 614, 395, 405, 407, 397, 1393, 1394, 1395, 1214, 1214, 1215, 1216, 712, 712, 713, 714, 402, 1392, 1384, 1386, 417, 1387, 1388, 1389, 1390, 610, 399, 1391] (by decide +kernel) (by decide +kernel), rc_inO _ [382, 384, 386, 1385] (by decide +kernel) (by decide +kernel), List.all_eq_true.mp (by decide +kernel)⟩
theorem rP_J25_1 : rc_Fld RJ25 1 13 3 (.object "java/util/ArrayList") true := ⟨"java/util/ArrayList$Itr", RJ25, TJ25, 4, rfl, in_J25, by decide, (Or.inl q1422), (Or.inl rfl), ⟨tyJ25, tyJ25_ok⟩, nmJ25, rfl, tyJ25_ok 3 (by decide), fun _ => rfl⟩
theorem rP_J25_13 : rc_Fld RJ25 13 13 1 .int false := ⟨"java/util/ArrayList$Itr", RJ25, TJ25, 4, rfl, in_J25, by decide, (Or.inl q1420), (Or.inl rfl), ⟨tyJ25, tyJ25_ok⟩, nmJ25, rfl, tyJ25_ok 1 (by decide), nofun⟩
theorem rF_J25_1 : rc_FldG RJ25 1 13 3 := ⟨"java/util/ArrayList$Itr", RJ25, TJ25, 4, rfl, in_J25, by decide, (Or.inl q1422), (Or.inl rfl)⟩
theorem rF_J25_17 : rc_FldG RJ25 17 12 0 := ⟨"java/util/ArrayList", RJ7, TJ7, 3, rfl, in_J7, by decide, (Or.inl q251), (Or.inr q252)⟩
theorem rP_J25_22 : rc_Fld RJ25 22 13 2 .int false := ⟨"java/util/ArrayList$Itr", RJ25, TJ25, 4, rfl, in_J25, by decide, (Or.inl q1421), (Or.inl rfl), ⟨tyJ25, tyJ25_ok⟩, nmJ25, rfl, tyJ25_ok 2 (by decide), nofun⟩
theorem rY_J25 : plainName RJ25 = true := by decide +kernel
theorem rN_J7_267 : rc_New RJ7 267 13 4 [rc_i 0, rc_i 0, rc_i 0, rc_q none] := ⟨RJ25, TJ25, tyJ25, rfl, in_J25, q1413, q1414, q154, tyJ25_ok, (by
  intro k hk
  have h : k = 0 ∨ k = 1 ∨ k = 2 ∨ k = 3 := by omega
  rcases h with rfl | rfl | rfl | rfl <;> rfl)⟩
theorem rd_J25_init : yJ25_init.cls ≠ "java/lang/invoke/MethodHandle" ∧ yJ25_init.cls ≠ "java/lang/invoke/VarHandle" ∧ (parseMethodDescriptor yJ25_init.desc).map (fun d => d.parameters.length) = some 1 := by decide +kernel
theorem rF_J25_25 : rc_FldG RJ25 25 13 0 := ⟨"java/util/ArrayList$Itr", RJ25, TJ25, 4, rfl, in_J25, by decide, (Or.inl q1419), (Or.inl rfl)⟩
theorem rF_J25_28 : rc_FldG RJ25 28 12 2 := ⟨"java/util/ArrayList", RJ7, TJ7, 3, rfl, in_J7, by decide, (Or.inr ⟨_, lw_o q248 rfl⟩), (Or.inl rfl)⟩
theorem rF_J25_22 : rc_FldG RJ25 22 13 2 := ⟨"java/util/ArrayList$Itr", RJ25, TJ25, 4, rfl, in_J25, by decide, (Or.inl q1421), (Or.inl rfl)⟩
theorem rd_J25_checkForComodification : yJ25_checkForComodification.cls ≠ "java/lang/invoke/MethodHandle" ∧ yJ25_checkForComodification.cls ≠ "java/lang/invoke/VarHandle" ∧ (parseMethodDescriptor yJ25_checkForComodification.desc).map (fun d => d.parameters.length) = some 0 := by decide +kernel
theorem rF_J25_37 : rc_FldG RJ25 37 12 1 := ⟨"java/util/ArrayList", RJ7, TJ7, 3, rfl, in_J7, by decide, (Or.inl q247), (Or.inl rfl)⟩
theorem rP_J25_25 : rc_Fld RJ25 25 13 0 .int false := ⟨"java/util/ArrayList$Itr", RJ25, TJ25, 4, rfl, in_J25, by decide, (Or.inl q1419), (Or.inl rfl), ⟨tyJ25, tyJ25_ok⟩, nmJ25, rfl, tyJ25_ok 0 (by decide), nofun⟩
theorem rT_J25_36 : (∀ w ∈ (vy_at0 RJ25 36 "java/util/NoSuchElementException" ["java/lang/RuntimeException", "java/lang/Exception"]).filter goodWord, w ∈ lw_all) ∧ (∀ w ∈ (vy_at0 RJ25 36 "java/util/NoSuchElementException" ["java/lang/RuntimeException", "java/lang/Exception"]).filter (fun w => !goodWord w), w ∈ lw_odd) ∧ (∀ w ∈ Cond.classLink RJ25 34 "java/util/NoSuchElementException" :: Cond.initialized "java/util/NoSuchElementException" :: vy_at0 RJ25 36 "java/util/NoSuchElementException" ["java/lang/RuntimeException", "java/lang/Exception"], vy_ot w = true) := ⟨lw_in _ [132, 401, 410, 418, 421, 423, 402, 403, 162, 163, 404, 409, 419, 612, 391, 613, 393, 614, 395, 405, 407, 397, 1393, 1394, 1395, 1214, 1214, 1215, 1216, 712, 712, 713, 714, 402, 1456, 1384, 1386, 417, 1387, 1388, 1389, 1390, 610, 399, 1391] (by decide +kernel) (by decide +kernel), rc_inO _ [382, 384, 386, 1385] (by decide +kernel) (by decide +kernel), List.all_eq_true.mp (by decide +kernel)⟩
theorem rN_X5_10 : rc_New RX5 10 4 2 [rc_i 0, rc_i 0] := ⟨RX5, TX5, tyX5, rfl, in_X5, q1461, q829, q142, tyX5_ok, (by
  intro k hk
  have h : k = 0 ∨ k = 1 := by omega
  rcases h with rfl | rfl <;> rfl)⟩
theorem rF_X5_15 : rc_FldG RX5 15 4 0 := ⟨"RooftopCats$Chimney", RX5, TX5, 2, rfl, in_X5, by decide, (Or.inl q834), (Or.inl rfl)⟩
theorem rF_X5_9 : rc_FldG RX5 9 4 1 := ⟨"RooftopCats$Chimney", RX5, TX5, 2, rfl, in_X5, by decide, (Or.inl q837), (Or.inl rfl)⟩
theorem rN_X7_10 : rc_New RX7 10 6 4 [rc_i 0, rc_i 0, rc_i 0, rc_i 0] := ⟨RX7, TX7, tyX7, rfl, in_X7, q1467, q956, q146, tyX7_ok, (by
  intro k hk
  have h : k = 0 ∨ k = 1 ∨ k = 2 ∨ k = 3 := by omega
  rcases h with rfl | rfl | rfl | rfl <;> rfl)⟩
theorem rF_X7_15 : rc_FldG RX7 15 6 2 := ⟨"RooftopCats$Cat", RX7, TX7, 4, rfl, in_X7, by decide, (Or.inl q966), (Or.inl rfl)⟩
theorem rF_X7_18 : rc_FldG RX7 18 6 0 := ⟨"RooftopCats$Cat", RX7, TX7, 4, rfl, in_X7, by decide, (Or.inl q961), (Or.inl rfl)⟩
theorem rF_X7_21 : rc_FldG RX7 21 6 1 := ⟨"RooftopCats$Cat", RX7, TX7, 4, rfl, in_X7, by decide, (Or.inl q964), (Or.inl rfl)⟩
theorem rN_X3_13 : rc_New RX3 13 2 8 [rc_q none, rc_q none, rc_q none, rc_q none, rc_q none, rc_i 0, rc_i 0, rc_i 0] := ⟨RX3, TX3, tyX3, rfl, in_X3, q1402, q230, q126, tyX3_ok, (by
  intro k hk
  have h : k = 0 ∨ k = 1 ∨ k = 2 ∨ k = 3 ∨ k = 4 ∨ k = 5 ∨ k = 6 ∨ k = 7 := by omega
  rcases h with rfl | rfl | rfl | rfl | rfl | rfl | rfl | rfl <;> rfl)⟩
theorem rd_J7_iterator : yJ7_iterator.cls ≠ "java/lang/invoke/MethodHandle" ∧ yJ7_iterator.cls ≠ "java/lang/invoke/VarHandle" ∧ (parseMethodDescriptor yJ7_iterator.desc).map (fun d => d.parameters.length) = some 0 := by decide +kernel
theorem rd_J25_hasNext : yJ25_hasNext.cls ≠ "java/lang/invoke/MethodHandle" ∧ yJ25_hasNext.cls ≠ "java/lang/invoke/VarHandle" ∧ (parseMethodDescriptor yJ25_hasNext.desc).map (fun d => d.parameters.length) = some 0 := by decide +kernel
theorem rd_J25_next : yJ25_next.cls ≠ "java/lang/invoke/MethodHandle" ∧ yJ25_next.cls ≠ "java/lang/invoke/VarHandle" ∧ (parseMethodDescriptor yJ25_next.desc).map (fun d => d.parameters.length) = some 0 := by decide +kernel
theorem rd_X5_copy : yX5_copy.cls ≠ "java/lang/invoke/MethodHandle" ∧ yX5_copy.cls ≠ "java/lang/invoke/VarHandle" ∧ (parseMethodDescriptor yX5_copy.desc).map (fun d => d.parameters.length) = some 0 := by decide +kernel
theorem rd_X7_copy : yX7_copy.cls ≠ "java/lang/invoke/MethodHandle" ∧ yX7_copy.cls ≠ "java/lang/invoke/VarHandle" ∧ (parseMethodDescriptor yX7_copy.desc).map (fun d => d.parameters.length) = some 0 := by decide +kernel
theorem rF_X1_10 : rc_FldG RX1 10 0 1 := ⟨"RooftopCats", RX1, TX1, 7, rfl, in_X1, by decide, (Or.inl q1220), (Or.inl rfl)⟩
theorem rF_X1_44 : rc_FldG RX1 44 0 0 := ⟨"RooftopCats", RX1, TX1, 7, rfl, in_X1, by decide, (Or.inl q1219), (Or.inl rfl)⟩
theorem rd_J1_addLast : yJ1_addLast.cls ≠ "java/lang/invoke/MethodHandle" ∧ yJ1_addLast.cls ≠ "java/lang/invoke/VarHandle" ∧ (parseMethodDescriptor yJ1_addLast.desc).map (fun d => d.parameters.length) = some 1 := by decide +kernel
theorem rd_J1_size : yJ1_size.cls ≠ "java/lang/invoke/MethodHandle" ∧ yJ1_size.cls ≠ "java/lang/invoke/VarHandle" ∧ (parseMethodDescriptor yJ1_size.desc).map (fun d => d.parameters.length) = some 0 := by decide +kernel
theorem rd_J1_removeFirst : yJ1_removeFirst.cls ≠ "java/lang/invoke/MethodHandle" ∧ yJ1_removeFirst.cls ≠ "java/lang/invoke/VarHandle" ∧ (parseMethodDescriptor yJ1_removeFirst.desc).map (fun d => d.parameters.length) = some 0 := by decide +kernel
theorem rd_X3_copy : yX3_copy.cls ≠ "java/lang/invoke/MethodHandle" ∧ yX3_copy.cls ≠ "java/lang/invoke/VarHandle" ∧ (parseMethodDescriptor yX3_copy.desc).map (fun d => d.parameters.length) = some 0 := by decide +kernel
theorem rd_J3_toString : yJ3_toString.cls ≠ "java/lang/invoke/MethodHandle" ∧ yJ3_toString.cls ≠ "java/lang/invoke/VarHandle" ∧ (parseMethodDescriptor yJ3_toString.desc).map (fun d => d.parameters.length) = some 0 := by decide +kernel
theorem rd_J3_setLength : yJ3_setLength.cls ≠ "java/lang/invoke/MethodHandle" ∧ yJ3_setLength.cls ≠ "java/lang/invoke/VarHandle" ∧ (parseMethodDescriptor yJ3_setLength.desc).map (fun d => d.parameters.length) = some 1 := by decide +kernel
theorem rd_X1_remember : yX1_remember.cls ≠ "java/lang/invoke/MethodHandle" ∧ yX1_remember.cls ≠ "java/lang/invoke/VarHandle" ∧ (parseMethodDescriptor yX1_remember.desc).map (fun d => d.parameters.length) = some 0 := by decide +kernel
theorem rF_X1_72 : rc_FldG RX1 72 2 2 := ⟨"RooftopCats$Roof", RX3, TX3, 8, rfl, in_X3, by decide, (Or.inr ⟨_, lw_o q268 rfl⟩), (Or.inl rfl)⟩
theorem rd_J1_dec : yJ1_dec.cls ≠ "java/lang/invoke/MethodHandle" ∧ yJ1_dec.cls ≠ "java/lang/invoke/VarHandle" ∧ (parseMethodDescriptor yJ1_dec.desc).map (fun d => d.parameters.length) = some 2 := by decide +kernel
theorem rd_J1_pollLast : yJ1_pollLast.cls ≠ "java/lang/invoke/MethodHandle" ∧ yJ1_pollLast.cls ≠ "java/lang/invoke/VarHandle" ∧ (parseMethodDescriptor yJ1_pollLast.desc).map (fun d => d.parameters.length) = some 0 := by decide +kernel
theorem rd_J1_isEmpty : yJ1_isEmpty.cls ≠ "java/lang/invoke/MethodHandle" ∧ yJ1_isEmpty.cls ≠ "java/lang/invoke/VarHandle" ∧ (parseMethodDescriptor yJ1_isEmpty.desc).map (fun d => d.parameters.length) = some 0 := by decide +kernel
theorem rd_J1_removeLast : yJ1_removeLast.cls ≠ "java/lang/invoke/MethodHandle" ∧ yJ1_removeLast.cls ≠ "java/lang/invoke/VarHandle" ∧ (parseMethodDescriptor yJ1_removeLast.desc).map (fun d => d.parameters.length) = some 0 := by decide +kernel
theorem rP_X1_231 : rc_Fld RX1 231 0 2 (.object "RooftopCats$Roof") false := ⟨"RooftopCats", RX1, TX1, 7, rfl, in_X1, by decide, (Or.inl q1221), (Or.inl rfl), ⟨tyX1, tyX1_ok⟩, nmX1, rfl, tyX1_ok 2 (by decide), nofun⟩
theorem rF_X1_219 : rc_FldG RX1 219 2 5 := ⟨"RooftopCats$Roof", RX3, TX3, 8, rfl, in_X3, by decide, (Or.inr ⟨_, lw_o q275 rfl⟩), (Or.inl rfl)⟩
theorem rF_X1_133 : rc_FldG RX1 133 0 5 := ⟨"RooftopCats", RX1, TX1, 7, rfl, in_X1, by decide, (Or.inl q1224), (Or.inl rfl)⟩
theorem rF_X1_29 : rc_FldG RX1 29 0 6 := ⟨"RooftopCats", RX1, TX1, 7, rfl, in_X1, by decide, (Or.inl q1225), (Or.inl rfl)⟩
theorem rF_X1_56 : rc_FldG RX1 56 2 0 := ⟨"RooftopCats$Roof", RX3, TX3, 8, rfl, in_X3, by decide, (Or.inr ⟨_, lw_o q262 rfl⟩), (Or.inl rfl)⟩
theorem rF_X1_75 : rc_FldG RX1 75 2 1 := ⟨"RooftopCats$Roof", RX3, TX3, 8, rfl, in_X3, by decide, (Or.inr ⟨_, lw_o q265 rfl⟩), (Or.inl rfl)⟩
theorem rF_X1_296 : rc_FldG RX1 296 2 4 := ⟨"RooftopCats$Roof", RX3, TX3, 8, rfl, in_X3, by decide, (Or.inr ⟨_, lw_o q272 rfl⟩), (Or.inl rfl)⟩
theorem rd_J15_numberOfTrailingZeros : yJ15_numberOfTrailingZeros.cls ≠ "java/lang/invoke/MethodHandle" ∧ yJ15_numberOfTrailingZeros.cls ≠ "java/lang/invoke/VarHandle" ∧ (parseMethodDescriptor yJ15_numberOfTrailingZeros.desc).map (fun d => d.parameters.length) = some 1 := by decide +kernel
theorem rd_X3_choirCount : yX3_choirCount.cls ≠ "java/lang/invoke/MethodHandle" ∧ yX3_choirCount.cls ≠ "java/lang/invoke/VarHandle" ∧ (parseMethodDescriptor yX3_choirCount.desc).map (fun d => d.parameters.length) = some 0 := by decide +kernel
theorem rF_X1_270 : rc_FldG RX1 270 6 3 := ⟨"RooftopCats$Cat", RX7, TX7, 4, rfl, in_X7, by decide, (Or.inr ⟨_, lw_o q971 rfl⟩), (Or.inl rfl)⟩
theorem rd_X3_totalFish : yX3_totalFish.cls ≠ "java/lang/invoke/MethodHandle" ∧ yX3_totalFish.cls ≠ "java/lang/invoke/VarHandle" ∧ (parseMethodDescriptor yX3_totalFish.desc).map (fun d => d.parameters.length) = some 0 := by decide +kernel
theorem rF_X1_183 : rc_FldG RX1 183 4 1 := ⟨"RooftopCats$Chimney", RX5, TX5, 2, rfl, in_X5, by decide, (Or.inr ⟨_, lw_o q840 rfl⟩), (Or.inl rfl)⟩
theorem rY_J17_abs : plainFor yJ17_abs = true := by decide +kernel
theorem rF_X1_344 : rc_FldG RX1 344 2 6 := ⟨"RooftopCats$Roof", RX3, TX3, 8, rfl, in_X3, by decide, (Or.inr ⟨_, lw_o q277 rfl⟩), (Or.inl rfl)⟩
theorem rF_X1_347 : rc_FldG RX1 347 2 7 := ⟨"RooftopCats$Roof", RX3, TX3, 8, rfl, in_X3, by decide, (Or.inr ⟨_, lw_o q279 rfl⟩), (Or.inl rfl)⟩
theorem rd_J17_abs : yJ17_abs.cls ≠ "java/lang/invoke/MethodHandle" ∧ yJ17_abs.cls ≠ "java/lang/invoke/VarHandle" ∧ (parseMethodDescriptor yJ17_abs.desc).map (fun d => d.parameters.length) = some 1 := by decide +kernel
theorem rF_X1_273 : rc_FldG RX1 273 6 2 := ⟨"RooftopCats$Cat", RX7, TX7, 4, rfl, in_X7, by decide, (Or.inr ⟨_, lw_o q968 rfl⟩), (Or.inl rfl)⟩
theorem rd_X1_isWrong : yX1_isWrong.cls ≠ "java/lang/invoke/MethodHandle" ∧ yX1_isWrong.cls ≠ "java/lang/invoke/VarHandle" ∧ (parseMethodDescriptor yX1_isWrong.desc).map (fun d => d.parameters.length) = some 1 := by decide +kernel
theorem rd_J5_checkBoundsBeginEnd : yJ5_checkBoundsBeginEnd.cls ≠ "java/lang/invoke/MethodHandle" ∧ yJ5_checkBoundsBeginEnd.cls ≠ "java/lang/invoke/VarHandle" ∧ (parseMethodDescriptor yJ5_checkBoundsBeginEnd.desc).map (fun d => d.parameters.length) = some 3 := by decide +kernel
theorem rd_J5_putCharsAt : yJ5_putCharsAt.cls ≠ "java/lang/invoke/MethodHandle" ∧ yJ5_putCharsAt.cls ≠ "java/lang/invoke/VarHandle" ∧ (parseMethodDescriptor yJ5_putCharsAt.desc).map (fun d => d.parameters.length) = some 6 := by decide +kernel
theorem rd_J2_inflateIfNeededFor : yJ2_inflateIfNeededFor.cls ≠ "java/lang/invoke/MethodHandle" ∧ yJ2_inflateIfNeededFor.cls ≠ "java/lang/invoke/VarHandle" ∧ (parseMethodDescriptor yJ2_inflateIfNeededFor.desc).map (fun d => d.parameters.length) = some 1 := by decide +kernel
theorem rd_J4_getBytes : yJ4_getBytes.cls ≠ "java/lang/invoke/MethodHandle" ∧ yJ4_getBytes.cls ≠ "java/lang/invoke/VarHandle" ∧ (parseMethodDescriptor yJ4_getBytes.desc).map (fun d => d.parameters.length) = some 3 := by decide +kernel
theorem rd_J2_putStringAt : yJ2_putStringAt.cls ≠ "java/lang/invoke/MethodHandle" ∧ yJ2_putStringAt.cls ≠ "java/lang/invoke/VarHandle" ∧ (parseMethodDescriptor yJ2_putStringAt.desc).map (fun d => d.parameters.length) = some 2 := by decide +kernel
theorem rd_J2_appendNull : yJ2_appendNull.cls ≠ "java/lang/invoke/MethodHandle" ∧ yJ2_appendNull.cls ≠ "java/lang/invoke/VarHandle" ∧ (parseMethodDescriptor yJ2_appendNull.desc).map (fun d => d.parameters.length) = some 0 := by decide +kernel
theorem rd_J2_append_2 : yJ2_append_2.cls ≠ "java/lang/invoke/MethodHandle" ∧ yJ2_append_2.cls ≠ "java/lang/invoke/VarHandle" ∧ (parseMethodDescriptor yJ2_append_2.desc).map (fun d => d.parameters.length) = some 1 := by decide +kernel
theorem rd_J5_getChars_2 : yJ5_getChars_2.cls ≠ "java/lang/invoke/MethodHandle" ∧ yJ5_getChars_2.cls ≠ "java/lang/invoke/VarHandle" ∧ (parseMethodDescriptor yJ5_getChars_2.desc).map (fun d => d.parameters.length) = some 3 := by decide +kernel
theorem rd_J15_stringSize : yJ15_stringSize.cls ≠ "java/lang/invoke/MethodHandle" ∧ yJ15_stringSize.cls ≠ "java/lang/invoke/VarHandle" ∧ (parseMethodDescriptor yJ15_stringSize.desc).map (fun d => d.parameters.length) = some 1 := by decide +kernel
theorem rd_J5_getChars : yJ5_getChars.cls ≠ "java/lang/invoke/MethodHandle" ∧ yJ5_getChars.cls ≠ "java/lang/invoke/VarHandle" ∧ (parseMethodDescriptor yJ5_getChars.desc).map (fun d => d.parameters.length) = some 4 := by decide +kernel
theorem rd_J15_getChars : yJ15_getChars.cls ≠ "java/lang/invoke/MethodHandle" ∧ yJ15_getChars.cls ≠ "java/lang/invoke/VarHandle" ∧ (parseMethodDescriptor yJ15_getChars.desc).map (fun d => d.parameters.length) = some 3 := by decide +kernel
theorem rd_J2_append : yJ2_append.cls ≠ "java/lang/invoke/MethodHandle" ∧ yJ2_append.cls ≠ "java/lang/invoke/VarHandle" ∧ (parseMethodDescriptor yJ2_append.desc).map (fun d => d.parameters.length) = some 1 := by decide +kernel
theorem rF_X1_25 : rc_FldG RX1 25 0 4 := ⟨"RooftopCats", RX1, TX1, 7, rfl, in_X1, by decide, (Or.inl q1223), (Or.inl rfl)⟩
theorem rd_J3_append_2 : yJ3_append_2.cls ≠ "java/lang/invoke/MethodHandle" ∧ yJ3_append_2.cls ≠ "java/lang/invoke/VarHandle" ∧ (parseMethodDescriptor yJ3_append_2.desc).map (fun d => d.parameters.length) = some 1 := by decide +kernel
theorem rF_X1_240 : rc_FldG RX1 240 4 0 := ⟨"RooftopCats$Chimney", RX5, TX5, 2, rfl, in_X5, by decide, (Or.inr ⟨_, lw_o q836 rfl⟩), (Or.inl rfl)⟩
theorem rd_J3_append : yJ3_append.cls ≠ "java/lang/invoke/MethodHandle" ∧ yJ3_append.cls ≠ "java/lang/invoke/VarHandle" ∧ (parseMethodDescriptor yJ3_append.desc).map (fun d => d.parameters.length) = some 1 := by decide +kernel
theorem rT_X1_86 : (∀ w ∈ (vy_at0 RX1 86 "java/lang/IllegalArgumentException" ["java/lang/RuntimeException", "java/lang/Exception"]).filter goodWord, w ∈ lw_all) ∧ (∀ w ∈ (vy_at0 RX1 86 "java/lang/IllegalArgumentException" ["java/lang/RuntimeException", "java/lang/Exception"]).filter (fun w => !goodWord w), w ∈ lw_odd) ∧ (∀ w ∈ Cond.classLink RX1 84 "java/lang/IllegalArgumentException" :: Cond.initialized "java/lang/IllegalArgumentException" :: vy_at0 RX1 86 "java/lang/IllegalArgumentException" ["java/lang/RuntimeException", "java/lang/Exception"], vy_ot w = true) := ⟨lw_in _ [132, 401, 410, 418, 421, 423, 402, 403, 162, 163, 404, 409, 419, 612, 391, 613, 393, 614, 395, 405, 407, 397, 1644, 1645, 1646, 1214, 1214, 1215, 1216, 712, 712, 713, 714, 402, 1643, 380, 388, 389, 390, 392, 394, 396, 610, 399, 398] (by decide +kernel) (by decide +kernel), rc_inO _ [382, 384, 386, 381] (by decide +kernel) (by decide +kernel), List.all_eq_true.mp (by decide +kernel)⟩
theorem rd_X1_checkArgument : yX1_checkArgument.cls ≠ "java/lang/invoke/MethodHandle" ∧ yX1_checkArgument.cls ≠ "java/lang/invoke/VarHandle" ∧ (parseMethodDescriptor yX1_checkArgument.desc).map (fun d => d.parameters.length) = some 1 := by decide +kernel
theorem rd_X1_checkRange : yX1_checkRange.cls ≠ "java/lang/invoke/MethodHandle" ∧ yX1_checkRange.cls ≠ "java/lang/invoke/VarHandle" ∧ (parseMethodDescriptor yX1_checkRange.desc).map (fun d => d.parameters.length) = some 3 := by decide +kernel
theorem rT_X1_52 : (∀ w ∈ (vy_at0 RX1 52 "java/lang/IllegalStateException" ["java/lang/RuntimeException", "java/lang/Exception"]).filter goodWord, w ∈ lw_all) ∧ (∀ w ∈ (vy_at0 RX1 52 "java/lang/IllegalStateException" ["java/lang/RuntimeException", "java/lang/Exception"]).filter (fun w => !goodWord w), w ∈ lw_odd) ∧ (∀ w ∈ Cond.classLink RX1 50 "java/lang/IllegalStateException" :: Cond.initialized "java/lang/IllegalStateException" :: vy_at0 RX1 52 "java/lang/IllegalStateException" ["java/lang/RuntimeException", "java/lang/Exception"], vy_ot w = true) := ⟨lw_in _ [132, 401, 410, 418, 421, 423, 402, 403, 162, 163, 404, 409, 419, 612, 391, 613, 393, 614, 395, 405, 407, 397, 1211, 1212, 1213, 1214, 1214, 1215, 1216, 712, 712, 713, 714, 402, 1210, 1202, 1204, 414, 1205, 1206, 1207, 1208, 610, 399, 1209] (by decide +kernel) (by decide +kernel), rc_inO _ [382, 384, 386, 1203] (by decide +kernel) (by decide +kernel), List.all_eq_true.mp (by decide +kernel)⟩
theorem rd_X1_checkState : yX1_checkState.cls ≠ "java/lang/invoke/MethodHandle" ∧ yX1_checkState.cls ≠ "java/lang/invoke/VarHandle" ∧ (parseMethodDescriptor yX1_checkState.desc).map (fun d => d.parameters.length) = some 1 := by decide +kernel
theorem rN_X1_145 : rc_New RX1 145 4 2 [rc_i 0, rc_i 0] := ⟨RX5, TX5, tyX5, rfl, in_X5, q1600, q829, q142, tyX5_ok, (by
  intro k hk
  have h : k = 0 ∨ k = 1 := by omega
  rcases h with rfl | rfl <;> rfl)⟩
theorem rT_X1_55 : (∀ w ∈ (vy_at0 RX1 55 "java/lang/IndexOutOfBoundsException" ["java/lang/RuntimeException", "java/lang/Exception"]).filter goodWord, w ∈ lw_all) ∧ (∀ w ∈ (vy_at0 RX1 55 "java/lang/IndexOutOfBoundsException" ["java/lang/RuntimeException", "java/lang/Exception"]).filter (fun w => !goodWord w), w ∈ lw_odd) ∧ (∀ w ∈ Cond.classLink RX1 53 "java/lang/IndexOutOfBoundsException" :: Cond.initialized "java/lang/IndexOutOfBoundsException" :: vy_at0 RX1 55 "java/lang/IndexOutOfBoundsException" ["java/lang/RuntimeException", "java/lang/Exception"], vy_ot w = true) := ⟨lw_in _ [132, 401, 410, 418, 421, 423, 402, 403, 162, 163, 404, 409, 419, 612, 391, 613, 393, 614, 395, 405, 407, 397, 1688, 1689, 1690, 1214, 1214, 1215, 1216, 712, 712, 713, 714, 402, 1687, 1679, 1681, 415, 1682, 1683, 1684, 1685, 610, 399, 1686] (by decide +kernel) (by decide +kernel), rc_inO _ [382, 384, 386, 1680] (by decide +kernel) (by decide +kernel), List.all_eq_true.mp (by decide +kernel)⟩
theorem rd_X1_checked : yX1_checked.cls ≠ "java/lang/invoke/MethodHandle" ∧ yX1_checked.cls ≠ "java/lang/invoke/VarHandle" ∧ (parseMethodDescriptor yX1_checked.desc).map (fun d => d.parameters.length) = some 2 := by decide +kernel
theorem rd_X1_chimney : yX1_chimney.cls ≠ "java/lang/invoke/MethodHandle" ∧ yX1_chimney.cls ≠ "java/lang/invoke/VarHandle" ∧ (parseMethodDescriptor yX1_chimney.desc).map (fun d => d.parameters.length) = some 1 := by decide +kernel
theorem rN_X1_82 : rc_New RX1 82 5 3 [rc_i 0, rc_i 0, rc_i 0] := ⟨RX6, TX6, tyX6, rfl, in_X6, q1693, q913, q144, tyX6_ok, (by
  intro k hk
  have h : k = 0 ∨ k = 1 ∨ k = 2 := by omega
  rcases h with rfl | rfl | rfl <;> rfl)⟩
theorem rd_X1_checkBody : yX1_checkBody.cls ≠ "java/lang/invoke/MethodHandle" ∧ yX1_checkBody.cls ≠ "java/lang/invoke/VarHandle" ∧ (parseMethodDescriptor yX1_checkBody.desc).map (fun d => d.parameters.length) = some 2 := by decide +kernel
theorem rN_X1_165 : rc_New RX1 165 6 4 [rc_i 0, rc_i 0, rc_i 0, rc_i 0] := ⟨RX7, TX7, tyX7, rfl, in_X7, q1575, q956, q146, tyX7_ok, (by
  intro k hk
  have h : k = 0 ∨ k = 1 ∨ k = 2 ∨ k = 3 := by omega
  rcases h with rfl | rfl | rfl | rfl <;> rfl)⟩
theorem rd_X1_cat : yX1_cat.cls ≠ "java/lang/invoke/MethodHandle" ∧ yX1_cat.cls ≠ "java/lang/invoke/VarHandle" ∧ (parseMethodDescriptor yX1_cat.desc).map (fun d => d.parameters.length) = some 1 := by decide +kernel
theorem rd_X1_whyNoStep : yX1_whyNoStep.cls ≠ "java/lang/invoke/MethodHandle" ∧ yX1_whyNoStep.cls ≠ "java/lang/invoke/VarHandle" ∧ (parseMethodDescriptor yX1_whyNoStep.desc).map (fun d => d.parameters.length) = some 2 := by decide +kernel
theorem rd_X1_whyNoClaim : yX1_whyNoClaim.cls ≠ "java/lang/invoke/MethodHandle" ∧ yX1_whyNoClaim.cls ≠ "java/lang/invoke/VarHandle" ∧ (parseMethodDescriptor yX1_whyNoClaim.desc).map (fun d => d.parameters.length) = some 1 := by decide +kernel
theorem rd_X1_ownerOf : yX1_ownerOf.cls ≠ "java/lang/invoke/MethodHandle" ∧ yX1_ownerOf.cls ≠ "java/lang/invoke/VarHandle" ∧ (parseMethodDescriptor yX1_ownerOf.desc).map (fun d => d.parameters.length) = some 1 := by decide +kernel
theorem rP_X1_183 : rc_Fld RX1 183 4 1 .int false := ⟨"RooftopCats$Chimney", RX5, TX5, 2, rfl, in_X5, by decide, (Or.inr ⟨_, lw_o q840 rfl⟩), (Or.inl rfl), ⟨tyX5, tyX5_ok⟩, nmX5, rfl, tyX5_ok 1 (by decide), nofun⟩
theorem rd_X1_checkCats : yX1_checkCats.cls ≠ "java/lang/invoke/MethodHandle" ∧ yX1_checkCats.cls ≠ "java/lang/invoke/VarHandle" ∧ (parseMethodDescriptor yX1_checkCats.desc).map (fun d => d.parameters.length) = some 2 := by decide +kernel
theorem rd_X1_whyNoChase : yX1_whyNoChase.cls ≠ "java/lang/invoke/MethodHandle" ∧ yX1_whyNoChase.cls ≠ "java/lang/invoke/VarHandle" ∧ (parseMethodDescriptor yX1_whyNoChase.desc).map (fun d => d.parameters.length) = some 2 := by decide +kernel
theorem rd_J1_circularClear : yJ1_circularClear.cls ≠ "java/lang/invoke/MethodHandle" ∧ yJ1_circularClear.cls ≠ "java/lang/invoke/VarHandle" ∧ (parseMethodDescriptor yJ1_circularClear.desc).map (fun d => d.parameters.length) = some 3 := by decide +kernel
theorem rF_X1_231 : rc_FldG RX1 231 0 2 := ⟨"RooftopCats", RX1, TX1, 7, rfl, in_X1, by decide, (Or.inl q1221), (Or.inl rfl)⟩
theorem rd_J1_clear : yJ1_clear.cls ≠ "java/lang/invoke/MethodHandle" ∧ yJ1_clear.cls ≠ "java/lang/invoke/VarHandle" ∧ (parseMethodDescriptor yJ1_clear.desc).map (fun d => d.parameters.length) = some 0 := by decide +kernel
theorem rT_X1_236 : (∀ w ∈ (vy_at0 RX1 236 "java/util/NoSuchElementException" ["java/lang/RuntimeException", "java/lang/Exception"]).filter goodWord, w ∈ lw_all) ∧ (∀ w ∈ (vy_at0 RX1 236 "java/util/NoSuchElementException" ["java/lang/RuntimeException", "java/lang/Exception"]).filter (fun w => !goodWord w), w ∈ lw_odd) ∧ (∀ w ∈ Cond.classLink RX1 234 "java/util/NoSuchElementException" :: Cond.initialized "java/util/NoSuchElementException" :: vy_at0 RX1 236 "java/util/NoSuchElementException" ["java/lang/RuntimeException", "java/lang/Exception"], vy_ot w = true) := ⟨lw_in _ [132, 401, 410, 418, 421, 423, 402, 403, 162, 163, 404, 409, 419, 612, 391, 613, 393, 614, 395, 405, 407, 397, 1393, 1394, 1395, 1214, 1214, 1215, 1216, 712, 712, 713, 714, 402, 1808, 1384, 1386, 417, 1387, 1388, 1389, 1390, 610, 399, 1391] (by decide +kernel) (by decide +kernel), rc_inO _ [382, 384, 386, 1385] (by decide +kernel) (by decide +kernel), List.all_eq_true.mp (by decide +kernel)⟩
theorem rd_X1_gutter : yX1_gutter.cls ≠ "java/lang/invoke/MethodHandle" ∧ yX1_gutter.cls ≠ "java/lang/invoke/VarHandle" ∧ (parseMethodDescriptor yX1_gutter.desc).map (fun d => d.parameters.length) = some 1 := by decide +kernel
theorem rd_X6_one : yX6_one.cls ≠ "java/lang/invoke/MethodHandle" ∧ yX6_one.cls ≠ "java/lang/invoke/VarHandle" ∧ (parseMethodDescriptor yX6_one.desc).map (fun d => d.parameters.length) = some 0 := by decide +kernel
theorem rd_X6_other : yX6_other.cls ≠ "java/lang/invoke/MethodHandle" ∧ yX6_other.cls ≠ "java/lang/invoke/VarHandle" ∧ (parseMethodDescriptor yX6_other.desc).map (fun d => d.parameters.length) = some 0 := by decide +kernel
theorem rd_X3_connected : yX3_connected.cls ≠ "java/lang/invoke/MethodHandle" ∧ yX3_connected.cls ≠ "java/lang/invoke/VarHandle" ∧ (parseMethodDescriptor yX3_connected.desc).map (fun d => d.parameters.length) = some 2 := by decide +kernel
theorem rd_X3_widestWay : yX3_widestWay.cls ≠ "java/lang/invoke/MethodHandle" ∧ yX3_widestWay.cls ≠ "java/lang/invoke/VarHandle" ∧ (parseMethodDescriptor yX3_widestWay.desc).map (fun d => d.parameters.length) = some 2 := by decide +kernel
theorem rF_X1_264 : rc_FldG RX1 264 6 0 := ⟨"RooftopCats$Cat", RX7, TX7, 4, rfl, in_X7, by decide, (Or.inr ⟨_, lw_o q963 rfl⟩), (Or.inl rfl)⟩
theorem rd_X3_extended : yX3_extended.cls ≠ "java/lang/invoke/MethodHandle" ∧ yX3_extended.cls ≠ "java/lang/invoke/VarHandle" ∧ (parseMethodDescriptor yX3_extended.desc).map (fun d => d.parameters.length) = some 2 := by decide +kernel
theorem rd_X3_reachable : yX3_reachable.cls ≠ "java/lang/invoke/MethodHandle" ∧ yX3_reachable.cls ≠ "java/lang/invoke/VarHandle" ∧ (parseMethodDescriptor yX3_reachable.desc).map (fun d => d.parameters.length) = some 1 := by decide +kernel
theorem rd_X3_stepsTo : yX3_stepsTo.cls ≠ "java/lang/invoke/MethodHandle" ∧ yX3_stepsTo.cls ≠ "java/lang/invoke/VarHandle" ∧ (parseMethodDescriptor yX3_stepsTo.desc).map (fun d => d.parameters.length) = some 2 := by decide +kernel
theorem rF_X9_28 : rc_FldG RX9 28 8 8 := ⟨"RooftopCatsModel", RX9, TX9, 23, rfl, in_X9, by decide, (Or.inl q2313), (Or.inl rfl)⟩
theorem rF_X9_157 : rc_FldG RX9 157 8 11 := ⟨"RooftopCatsModel", RX9, TX9, 23, rfl, in_X9, by decide, (Or.inl q2316), (Or.inl rfl)⟩
theorem rP_X9_157 : rc_Fld RX9 157 8 11 .int false := ⟨"RooftopCatsModel", RX9, TX9, 23, rfl, in_X9, by decide, (Or.inl q2316), (Or.inl rfl), ⟨tyX9, tyX9_ok⟩, nmX9, rfl, tyX9_ok 11 (by decide), nofun⟩
theorem rY_X9 : plainName RX9 = true := by decide +kernel
theorem rF_X9_164 : rc_FldG RX9 164 8 19 := ⟨"RooftopCatsModel", RX9, TX9, 23, rfl, in_X9, by decide, (Or.inl q2324), (Or.inl rfl)⟩
theorem rP_X9_167 : rc_Fld RX9 167 8 18 .int false := ⟨"RooftopCatsModel", RX9, TX9, 23, rfl, in_X9, by decide, (Or.inl q2323), (Or.inl rfl), ⟨tyX9, tyX9_ok⟩, nmX9, rfl, tyX9_ok 18 (by decide), nofun⟩
theorem rF_X9_167 : rc_FldG RX9 167 8 18 := ⟨"RooftopCatsModel", RX9, TX9, 23, rfl, in_X9, by decide, (Or.inl q2323), (Or.inl rfl)⟩
theorem rP_X9_164 : rc_Fld RX9 164 8 19 .int false := ⟨"RooftopCatsModel", RX9, TX9, 23, rfl, in_X9, by decide, (Or.inl q2324), (Or.inl rfl), ⟨tyX9, tyX9_ok⟩, nmX9, rfl, tyX9_ok 19 (by decide), nofun⟩
theorem rd_X9_sortOf : yX9_sortOf.cls ≠ "java/lang/invoke/MethodHandle" ∧ yX9_sortOf.cls ≠ "java/lang/invoke/VarHandle" ∧ (parseMethodDescriptor yX9_sortOf.desc).map (fun d => d.parameters.length) = some 1 := by decide +kernel
theorem rP_X9_170 : rc_Fld RX9 170 8 17 .int false := ⟨"RooftopCatsModel", RX9, TX9, 23, rfl, in_X9, by decide, (Or.inl q2322), (Or.inl rfl), ⟨tyX9, tyX9_ok⟩, nmX9, rfl, tyX9_ok 17 (by decide), nofun⟩
theorem rF_X9_170 : rc_FldG RX9 170 8 17 := ⟨"RooftopCatsModel", RX9, TX9, 23, rfl, in_X9, by decide, (Or.inl q2322), (Or.inl rfl)⟩
theorem rP_X9_176 : rc_Fld RX9 176 8 20 .int false := ⟨"RooftopCatsModel", RX9, TX9, 23, rfl, in_X9, by decide, (Or.inl q2325), (Or.inl rfl), ⟨tyX9, tyX9_ok⟩, nmX9, rfl, tyX9_ok 20 (by decide), nofun⟩
theorem rF_X9_176 : rc_FldG RX9 176 8 20 := ⟨"RooftopCatsModel", RX9, TX9, 23, rfl, in_X9, by decide, (Or.inl q2325), (Or.inl rfl)⟩
theorem rF_X9_179 : rc_FldG RX9 179 8 12 := ⟨"RooftopCatsModel", RX9, TX9, 23, rfl, in_X9, by decide, (Or.inl q2317), (Or.inl rfl)⟩
theorem rP_X9_179 : rc_Fld RX9 179 8 12 .int false := ⟨"RooftopCatsModel", RX9, TX9, 23, rfl, in_X9, by decide, (Or.inl q2317), (Or.inl rfl), ⟨tyX9, tyX9_ok⟩, nmX9, rfl, tyX9_ok 12 (by decide), nofun⟩
theorem rP_X9_34 : rc_Fld RX9 34 8 13 .int false := ⟨"RooftopCatsModel", RX9, TX9, 23, rfl, in_X9, by decide, (Or.inl q2318), (Or.inl rfl), ⟨tyX9, tyX9_ok⟩, nmX9, rfl, tyX9_ok 13 (by decide), nofun⟩
theorem rd_X9_fail : yX9_fail.cls ≠ "java/lang/invoke/MethodHandle" ∧ yX9_fail.cls ≠ "java/lang/invoke/VarHandle" ∧ (parseMethodDescriptor yX9_fail.desc).map (fun d => d.parameters.length) = some 1 := by decide +kernel
theorem rd_X9_says : yX9_says.cls ≠ "java/lang/invoke/MethodHandle" ∧ yX9_says.cls ≠ "java/lang/invoke/VarHandle" ∧ (parseMethodDescriptor yX9_says.desc).map (fun d => d.parameters.length) = some 1 := by decide +kernel
theorem rd_X9_laterWord : yX9_laterWord.cls ≠ "java/lang/invoke/MethodHandle" ∧ yX9_laterWord.cls ≠ "java/lang/invoke/VarHandle" ∧ (parseMethodDescriptor yX9_laterWord.desc).map (fun d => d.parameters.length) = some 0 := by decide +kernel
theorem rd_X9_is : yX9_is.cls ≠ "java/lang/invoke/MethodHandle" ∧ yX9_is.cls ≠ "java/lang/invoke/VarHandle" ∧ (parseMethodDescriptor yX9_is.desc).map (fun d => d.parameters.length) = some 1 := by decide +kernel
theorem rd_X9_in : yX9_in.cls ≠ "java/lang/invoke/MethodHandle" ∧ yX9_in.cls ≠ "java/lang/invoke/VarHandle" ∧ (parseMethodDescriptor yX9_in.desc).map (fun d => d.parameters.length) = some 3 := by decide +kernel
theorem rF_X9_42 : rc_FldG RX9 42 8 22 := ⟨"RooftopCatsModel", RX9, TX9, 23, rfl, in_X9, by decide, (Or.inl q2327), (Or.inl rfl)⟩
theorem rd_X9_next : yX9_next.cls ≠ "java/lang/invoke/MethodHandle" ∧ yX9_next.cls ≠ "java/lang/invoke/VarHandle" ∧ (parseMethodDescriptor yX9_next.desc).map (fun d => d.parameters.length) = some 0 := by decide +kernel
theorem rF_X9_7 : rc_FldG RX9 7 8 0 := ⟨"RooftopCatsModel", RX9, TX9, 23, rfl, in_X9, by decide, (Or.inl q2305), (Or.inl rfl)⟩
theorem rd_X9_number : yX9_number.cls ≠ "java/lang/invoke/MethodHandle" ∧ yX9_number.cls ≠ "java/lang/invoke/VarHandle" ∧ (parseMethodDescriptor yX9_number.desc).map (fun d => d.parameters.length) = some 3 := by decide +kernel
theorem rd_X9_stops : yX9_stops.cls ≠ "java/lang/invoke/MethodHandle" ∧ yX9_stops.cls ≠ "java/lang/invoke/VarHandle" ∧ (parseMethodDescriptor yX9_stops.desc).map (fun d => d.parameters.length) = some 1 := by decide +kernel
theorem rd_X9_builds : yX9_builds.cls ≠ "java/lang/invoke/MethodHandle" ∧ yX9_builds.cls ≠ "java/lang/invoke/VarHandle" ∧ (parseMethodDescriptor yX9_builds.desc).map (fun d => d.parameters.length) = some 1 := by decide +kernel
theorem rd_X9_chimneyAt : yX9_chimneyAt.cls ≠ "java/lang/invoke/MethodHandle" ∧ yX9_chimneyAt.cls ≠ "java/lang/invoke/VarHandle" ∧ (parseMethodDescriptor yX9_chimneyAt.desc).map (fun d => d.parameters.length) = some 1 := by decide +kernel
theorem rd_X9_another : yX9_another.cls ≠ "java/lang/invoke/MethodHandle" ∧ yX9_another.cls ≠ "java/lang/invoke/VarHandle" ∧ (parseMethodDescriptor yX9_another.desc).map (fun d => d.parameters.length) = some 1 := by decide +kernel
theorem rd_X9_lays : yX9_lays.cls ≠ "java/lang/invoke/MethodHandle" ∧ yX9_lays.cls ≠ "java/lang/invoke/VarHandle" ∧ (parseMethodDescriptor yX9_lays.desc).map (fun d => d.parameters.length) = some 3 := by decide +kernel
theorem rd_X9_of : yX9_of.cls ≠ "java/lang/invoke/MethodHandle" ∧ yX9_of.cls ≠ "java/lang/invoke/VarHandle" ∧ (parseMethodDescriptor yX9_of.desc).map (fun d => d.parameters.length) = some 2 := by decide +kernel
theorem rd_X9_sitter : yX9_sitter.cls ≠ "java/lang/invoke/MethodHandle" ∧ yX9_sitter.cls ≠ "java/lang/invoke/VarHandle" ∧ (parseMethodDescriptor yX9_sitter.desc).map (fun d => d.parameters.length) = some 1 := by decide +kernel
theorem rd_X9_to : yX9_to.cls ≠ "java/lang/invoke/MethodHandle" ∧ yX9_to.cls ≠ "java/lang/invoke/VarHandle" ∧ (parseMethodDescriptor yX9_to.desc).map (fun d => d.parameters.length) = some 3 := by decide +kernel
theorem rd_X9_sizesAt : yX9_sizesAt.cls ≠ "java/lang/invoke/MethodHandle" ∧ yX9_sizesAt.cls ≠ "java/lang/invoke/VarHandle" ∧ (parseMethodDescriptor yX9_sizesAt.desc).map (fun d => d.parameters.length) = some 1 := by decide +kernel
theorem rd_X9_canEnter : yX9_canEnter.cls ≠ "java/lang/invoke/MethodHandle" ∧ yX9_canEnter.cls ≠ "java/lang/invoke/VarHandle" ∧ (parseMethodDescriptor yX9_canEnter.desc).map (fun d => d.parameters.length) = some 1 := by decide +kernel
theorem rd_X9_enters : yX9_enters.cls ≠ "java/lang/invoke/MethodHandle" ∧ yX9_enters.cls ≠ "java/lang/invoke/VarHandle" ∧ (parseMethodDescriptor yX9_enters.desc).map (fun d => d.parameters.length) = some 3 := by decide +kernel
theorem rd_X9_gutter : yX9_gutter.cls ≠ "java/lang/invoke/MethodHandle" ∧ yX9_gutter.cls ≠ "java/lang/invoke/VarHandle" ∧ (parseMethodDescriptor yX9_gutter.desc).map (fun d => d.parameters.length) = some 2 := by decide +kernel
theorem rd_X9_owner : yX9_owner.cls ≠ "java/lang/invoke/MethodHandle" ∧ yX9_owner.cls ≠ "java/lang/invoke/VarHandle" ∧ (parseMethodDescriptor yX9_owner.desc).map (fun d => d.parameters.length) = some 1 := by decide +kernel
theorem rd_X9_truceLeft : yX9_truceLeft.cls ≠ "java/lang/invoke/MethodHandle" ∧ yX9_truceLeft.cls ≠ "java/lang/invoke/VarHandle" ∧ (parseMethodDescriptor yX9_truceLeft.desc).map (fun d => d.parameters.length) = some 2 := by decide +kernel
theorem rd_X9_across : yX9_across.cls ≠ "java/lang/invoke/MethodHandle" ∧ yX9_across.cls ≠ "java/lang/invoke/VarHandle" ∧ (parseMethodDescriptor yX9_across.desc).map (fun d => d.parameters.length) = some 2 := by decide +kernel
theorem rd_X9_whyNotIn : yX9_whyNotIn.cls ≠ "java/lang/invoke/MethodHandle" ∧ yX9_whyNotIn.cls ≠ "java/lang/invoke/VarHandle" ∧ (parseMethodDescriptor yX9_whyNotIn.desc).map (fun d => d.parameters.length) = some 2 := by decide +kernel
theorem rd_X9_catAt : yX9_catAt.cls ≠ "java/lang/invoke/MethodHandle" ∧ yX9_catAt.cls ≠ "java/lang/invoke/VarHandle" ∧ (parseMethodDescriptor yX9_catAt.desc).map (fun d => d.parameters.length) = some 1 := by decide +kernel
theorem rd_X9_whyStays : yX9_whyStays.cls ≠ "java/lang/invoke/MethodHandle" ∧ yX9_whyStays.cls ≠ "java/lang/invoke/VarHandle" ∧ (parseMethodDescriptor yX9_whyStays.desc).map (fun d => d.parameters.length) = some 2 := by decide +kernel
theorem rd_X9_goes : yX9_goes.cls ≠ "java/lang/invoke/MethodHandle" ∧ yX9_goes.cls ≠ "java/lang/invoke/VarHandle" ∧ (parseMethodDescriptor yX9_goes.desc).map (fun d => d.parameters.length) = some 2 := by decide +kernel
theorem rd_X9_owns : yX9_owns.cls ≠ "java/lang/invoke/MethodHandle" ∧ yX9_owns.cls ≠ "java/lang/invoke/VarHandle" ∧ (parseMethodDescriptor yX9_owns.desc).map (fun d => d.parameters.length) = some 1 := by decide +kernel
theorem rd_X9_whyLeaves : yX9_whyLeaves.cls ≠ "java/lang/invoke/MethodHandle" ∧ yX9_whyLeaves.cls ≠ "java/lang/invoke/VarHandle" ∧ (parseMethodDescriptor yX9_whyLeaves.desc).map (fun d => d.parameters.length) = some 1 := by decide +kernel
theorem rd_X9_claims : yX9_claims.cls ≠ "java/lang/invoke/MethodHandle" ∧ yX9_claims.cls ≠ "java/lang/invoke/VarHandle" ∧ (parseMethodDescriptor yX9_claims.desc).map (fun d => d.parameters.length) = some 1 := by decide +kernel
theorem rd_X9_leaves : yX9_leaves.cls ≠ "java/lang/invoke/MethodHandle" ∧ yX9_leaves.cls ≠ "java/lang/invoke/VarHandle" ∧ (parseMethodDescriptor yX9_leaves.desc).map (fun d => d.parameters.length) = some 1 := by decide +kernel
theorem rd_X9_joins : yX9_joins.cls ≠ "java/lang/invoke/MethodHandle" ∧ yX9_joins.cls ≠ "java/lang/invoke/VarHandle" ∧ (parseMethodDescriptor yX9_joins.desc).map (fun d => d.parameters.length) = some 3 := by decide +kernel
theorem rd_X9_isHome : yX9_isHome.cls ≠ "java/lang/invoke/MethodHandle" ∧ yX9_isHome.cls ≠ "java/lang/invoke/VarHandle" ∧ (parseMethodDescriptor yX9_isHome.desc).map (fun d => d.parameters.length) = some 1 := by decide +kernel
theorem rd_X9_widestBetween : yX9_widestBetween.cls ≠ "java/lang/invoke/MethodHandle" ∧ yX9_widestBetween.cls ≠ "java/lang/invoke/VarHandle" ∧ (parseMethodDescriptor yX9_widestBetween.desc).map (fun d => d.parameters.length) = some 2 := by decide +kernel
theorem rd_X9_powerOf : yX9_powerOf.cls ≠ "java/lang/invoke/MethodHandle" ∧ yX9_powerOf.cls ≠ "java/lang/invoke/VarHandle" ∧ (parseMethodDescriptor yX9_powerOf.desc).map (fun d => d.parameters.length) = some 1 := by decide +kernel
theorem rd_X9_whySpares : yX9_whySpares.cls ≠ "java/lang/invoke/MethodHandle" ∧ yX9_whySpares.cls ≠ "java/lang/invoke/VarHandle" ∧ (parseMethodDescriptor yX9_whySpares.desc).map (fun d => d.parameters.length) = some 2 := by decide +kernel
theorem rd_X9_chases : yX9_chases.cls ≠ "java/lang/invoke/MethodHandle" ∧ yX9_chases.cls ≠ "java/lang/invoke/VarHandle" ∧ (parseMethodDescriptor yX9_chases.desc).map (fun d => d.parameters.length) = some 2 := by decide +kernel
theorem rd_X9_canBuy : yX9_canBuy.cls ≠ "java/lang/invoke/MethodHandle" ∧ yX9_canBuy.cls ≠ "java/lang/invoke/VarHandle" ∧ (parseMethodDescriptor yX9_canBuy.desc).map (fun d => d.parameters.length) = some 3 := by decide +kernel
theorem rd_X9_buys : yX9_buys.cls ≠ "java/lang/invoke/MethodHandle" ∧ yX9_buys.cls ≠ "java/lang/invoke/VarHandle" ∧ (parseMethodDescriptor yX9_buys.desc).map (fun d => d.parameters.length) = some 4 := by decide +kernel
theorem rd_X9_waits : yX9_waits.cls ≠ "java/lang/invoke/MethodHandle" ∧ yX9_waits.cls ≠ "java/lang/invoke/VarHandle" ∧ (parseMethodDescriptor yX9_waits.desc).map (fun d => d.parameters.length) = some 0 := by decide +kernel
theorem rd_X9_canNominate : yX9_canNominate.cls ≠ "java/lang/invoke/MethodHandle" ∧ yX9_canNominate.cls ≠ "java/lang/invoke/VarHandle" ∧ (parseMethodDescriptor yX9_canNominate.desc).map (fun d => d.parameters.length) = some 0 := by decide +kernel
theorem rd_X9_nominates : yX9_nominates.cls ≠ "java/lang/invoke/MethodHandle" ∧ yX9_nominates.cls ≠ "java/lang/invoke/VarHandle" ∧ (parseMethodDescriptor yX9_nominates.desc).map (fun d => d.parameters.length) = some 2 := by decide +kernel
theorem rd_X9_warmestPlace : yX9_warmestPlace.cls ≠ "java/lang/invoke/MethodHandle" ∧ yX9_warmestPlace.cls ≠ "java/lang/invoke/VarHandle" ∧ (parseMethodDescriptor yX9_warmestPlace.desc).map (fun d => d.parameters.length) = some 0 := by decide +kernel
theorem rd_X9_bits : yX9_bits.cls ≠ "java/lang/invoke/MethodHandle" ∧ yX9_bits.cls ≠ "java/lang/invoke/VarHandle" ∧ (parseMethodDescriptor yX9_bits.desc).map (fun d => d.parameters.length) = some 1 := by decide +kernel
theorem rd_X9_decides : yX9_decides.cls ≠ "java/lang/invoke/MethodHandle" ∧ yX9_decides.cls ≠ "java/lang/invoke/VarHandle" ∧ (parseMethodDescriptor yX9_decides.desc).map (fun d => d.parameters.length) = some 0 := by decide +kernel
theorem rd_X9_canVote : yX9_canVote.cls ≠ "java/lang/invoke/MethodHandle" ∧ yX9_canVote.cls ≠ "java/lang/invoke/VarHandle" ∧ (parseMethodDescriptor yX9_canVote.desc).map (fun d => d.parameters.length) = some 1 := by decide +kernel
theorem rd_X9_votes : yX9_votes.cls ≠ "java/lang/invoke/MethodHandle" ∧ yX9_votes.cls ≠ "java/lang/invoke/VarHandle" ∧ (parseMethodDescriptor yX9_votes.desc).map (fun d => d.parameters.length) = some 2 := by decide +kernel
theorem rd_X9_choir : yX9_choir.cls ≠ "java/lang/invoke/MethodHandle" ∧ yX9_choir.cls ≠ "java/lang/invoke/VarHandle" ∧ (parseMethodDescriptor yX9_choir.desc).map (fun d => d.parameters.length) = some 1 := by decide +kernel
theorem rd_X9_greatestChoir : yX9_greatestChoir.cls ≠ "java/lang/invoke/MethodHandle" ∧ yX9_greatestChoir.cls ≠ "java/lang/invoke/VarHandle" ∧ (parseMethodDescriptor yX9_greatestChoir.desc).map (fun d => d.parameters.length) = some 0 := by decide +kernel
theorem rd_X9_feeds : yX9_feeds.cls ≠ "java/lang/invoke/MethodHandle" ∧ yX9_feeds.cls ≠ "java/lang/invoke/VarHandle" ∧ (parseMethodDescriptor yX9_feeds.desc).map (fun d => d.parameters.length) = some 2 := by decide +kernel
theorem rd_X9_sings : yX9_sings.cls ≠ "java/lang/invoke/MethodHandle" ∧ yX9_sings.cls ≠ "java/lang/invoke/VarHandle" ∧ (parseMethodDescriptor yX9_sings.desc).map (fun d => d.parameters.length) = some 0 := by decide +kernel
theorem rd_X9_eats : yX9_eats.cls ≠ "java/lang/invoke/MethodHandle" ∧ yX9_eats.cls ≠ "java/lang/invoke/VarHandle" ∧ (parseMethodDescriptor yX9_eats.desc).map (fun d => d.parameters.length) = some 1 := by decide +kernel
theorem rd_X9_passes : yX9_passes.cls ≠ "java/lang/invoke/MethodHandle" ∧ yX9_passes.cls ≠ "java/lang/invoke/VarHandle" ∧ (parseMethodDescriptor yX9_passes.desc).map (fun d => d.parameters.length) = some 1 := by decide +kernel
theorem rd_X9_readsNights : yX9_readsNights.cls ≠ "java/lang/invoke/MethodHandle" ∧ yX9_readsNights.cls ≠ "java/lang/invoke/VarHandle" ∧ (parseMethodDescriptor yX9_readsNights.desc).map (fun d => d.parameters.length) = some 0 := by decide +kernel
theorem rd_X9_readsChimney : yX9_readsChimney.cls ≠ "java/lang/invoke/MethodHandle" ∧ yX9_readsChimney.cls ≠ "java/lang/invoke/VarHandle" ∧ (parseMethodDescriptor yX9_readsChimney.desc).map (fun d => d.parameters.length) = some 0 := by decide +kernel
theorem rd_X9_readsGutter : yX9_readsGutter.cls ≠ "java/lang/invoke/MethodHandle" ∧ yX9_readsGutter.cls ≠ "java/lang/invoke/VarHandle" ∧ (parseMethodDescriptor yX9_readsGutter.desc).map (fun d => d.parameters.length) = some 0 := by decide +kernel
theorem rd_X9_readsCat : yX9_readsCat.cls ≠ "java/lang/invoke/MethodHandle" ∧ yX9_readsCat.cls ≠ "java/lang/invoke/VarHandle" ∧ (parseMethodDescriptor yX9_readsCat.desc).map (fun d => d.parameters.length) = some 0 := by decide +kernel
theorem rd_X9_readsStep : yX9_readsStep.cls ≠ "java/lang/invoke/MethodHandle" ∧ yX9_readsStep.cls ≠ "java/lang/invoke/VarHandle" ∧ (parseMethodDescriptor yX9_readsStep.desc).map (fun d => d.parameters.length) = some 0 := by decide +kernel
theorem rd_X9_readsClaim : yX9_readsClaim.cls ≠ "java/lang/invoke/MethodHandle" ∧ yX9_readsClaim.cls ≠ "java/lang/invoke/VarHandle" ∧ (parseMethodDescriptor yX9_readsClaim.desc).map (fun d => d.parameters.length) = some 0 := by decide +kernel
theorem rd_X9_readsAbandon : yX9_readsAbandon.cls ≠ "java/lang/invoke/MethodHandle" ∧ yX9_readsAbandon.cls ≠ "java/lang/invoke/VarHandle" ∧ (parseMethodDescriptor yX9_readsAbandon.desc).map (fun d => d.parameters.length) = some 0 := by decide +kernel
theorem rd_X9_readsChase : yX9_readsChase.cls ≠ "java/lang/invoke/MethodHandle" ∧ yX9_readsChase.cls ≠ "java/lang/invoke/VarHandle" ∧ (parseMethodDescriptor yX9_readsChase.desc).map (fun d => d.parameters.length) = some 0 := by decide +kernel
theorem rd_X9_readsTruce : yX9_readsTruce.cls ≠ "java/lang/invoke/MethodHandle" ∧ yX9_readsTruce.cls ≠ "java/lang/invoke/VarHandle" ∧ (parseMethodDescriptor yX9_readsTruce.desc).map (fun d => d.parameters.length) = some 0 := by decide +kernel
theorem rd_X9_readsKitten : yX9_readsKitten.cls ≠ "java/lang/invoke/MethodHandle" ∧ yX9_readsKitten.cls ≠ "java/lang/invoke/VarHandle" ∧ (parseMethodDescriptor yX9_readsKitten.desc).map (fun d => d.parameters.length) = some 0 := by decide +kernel
theorem rd_X9_readsVote : yX9_readsVote.cls ≠ "java/lang/invoke/MethodHandle" ∧ yX9_readsVote.cls ≠ "java/lang/invoke/VarHandle" ∧ (parseMethodDescriptor yX9_readsVote.desc).map (fun d => d.parameters.length) = some 1 := by decide +kernel
theorem rd_X9_wordAhead : yX9_wordAhead.cls ≠ "java/lang/invoke/MethodHandle" ∧ yX9_wordAhead.cls ≠ "java/lang/invoke/VarHandle" ∧ (parseMethodDescriptor yX9_wordAhead.desc).map (fun d => d.parameters.length) = some 0 := by decide +kernel
theorem rF_X9_305 : rc_FldG RX9 305 8 21 := ⟨"RooftopCatsModel", RX9, TX9, 23, rfl, in_X9, by decide, (Or.inl q2326), (Or.inl rfl)⟩
theorem rP_X9_305 : rc_Fld RX9 305 8 21 .int false := ⟨"RooftopCatsModel", RX9, TX9, 23, rfl, in_X9, by decide, (Or.inl q2326), (Or.inl rfl), ⟨tyX9, tyX9_ok⟩, nmX9, rfl, tyX9_ok 21 (by decide), nofun⟩
theorem rd_X9_readsWord : yX9_readsWord.cls ≠ "java/lang/invoke/MethodHandle" ∧ yX9_readsWord.cls ≠ "java/lang/invoke/VarHandle" ∧ (parseMethodDescriptor yX9_readsWord.desc).map (fun d => d.parameters.length) = some 1 := by decide +kernel
theorem rd_X9_readsRepeat : yX9_readsRepeat.cls ≠ "java/lang/invoke/MethodHandle" ∧ yX9_readsRepeat.cls ≠ "java/lang/invoke/VarHandle" ∧ (parseMethodDescriptor yX9_readsRepeat.desc).map (fun d => d.parameters.length) = some 1 := by decide +kernel
theorem rd_X9_readsCommand : yX9_readsCommand.cls ≠ "java/lang/invoke/MethodHandle" ∧ yX9_readsCommand.cls ≠ "java/lang/invoke/VarHandle" ∧ (parseMethodDescriptor yX9_readsCommand.desc).map (fun d => d.parameters.length) = some 1 := by decide +kernel
theorem rd_X9_readsAll : yX9_readsAll.cls ≠ "java/lang/invoke/MethodHandle" ∧ yX9_readsAll.cls ≠ "java/lang/invoke/VarHandle" ∧ (parseMethodDescriptor yX9_readsAll.desc).map (fun d => d.parameters.length) = some 0 := by decide +kernel
theorem rd_X9_parses : yX9_parses.cls ≠ "java/lang/invoke/MethodHandle" ∧ yX9_parses.cls ≠ "java/lang/invoke/VarHandle" ∧ (parseMethodDescriptor yX9_parses.desc).map (fun d => d.parameters.length) = some 0 := by decide +kernel
theorem rP_X9_57 : rc_Fld RX9 57 8 16 .int false := ⟨"RooftopCatsModel", RX9, TX9, 23, rfl, in_X9, by decide, (Or.inl q2321), (Or.inl rfl), ⟨tyX9, tyX9_ok⟩, nmX9, rfl, tyX9_ok 16 (by decide), nofun⟩
theorem rF_X9_57 : rc_FldG RX9 57 8 16 := ⟨"RooftopCatsModel", RX9, TX9, 23, rfl, in_X9, by decide, (Or.inl q2321), (Or.inl rfl)⟩
theorem rF_X9_25 : rc_FldG RX9 25 8 7 := ⟨"RooftopCatsModel", RX9, TX9, 23, rfl, in_X9, by decide, (Or.inl q2312), (Or.inl rfl)⟩
theorem rF_X9_349 : rc_FldG RX9 349 8 10 := ⟨"RooftopCatsModel", RX9, TX9, 23, rfl, in_X9, by decide, (Or.inl q2315), (Or.inl rfl)⟩
theorem rP_X9_349 : rc_Fld RX9 349 8 10 .int false := ⟨"RooftopCatsModel", RX9, TX9, 23, rfl, in_X9, by decide, (Or.inl q2315), (Or.inl rfl), ⟨tyX9, tyX9_ok⟩, nmX9, rfl, tyX9_ok 10 (by decide), nofun⟩
theorem rd_X9_type : yX9_type.cls ≠ "java/lang/invoke/MethodHandle" ∧ yX9_type.cls ≠ "java/lang/invoke/VarHandle" ∧ (parseMethodDescriptor yX9_type.desc).map (fun d => d.parameters.length) = some 1 := by decide +kernel
theorem rd_X9_throwsOne : yX9_throwsOne.cls ≠ "java/lang/invoke/MethodHandle" ∧ yX9_throwsOne.cls ≠ "java/lang/invoke/VarHandle" ∧ (parseMethodDescriptor yX9_throwsOne.desc).map (fun d => d.parameters.length) = some 1 := by decide +kernel
theorem rF_X9_13 : rc_FldG RX9 13 8 1 := ⟨"RooftopCatsModel", RX9, TX9, 23, rfl, in_X9, by decide, (Or.inl q2306), (Or.inl rfl)⟩
theorem rF_X9_358 : rc_FldG RX9 358 8 5 := ⟨"RooftopCatsModel", RX9, TX9, 23, rfl, in_X9, by decide, (Or.inl q2310), (Or.inl rfl)⟩
theorem rP_X9_358 : rc_Fld RX9 358 8 5 .int false := ⟨"RooftopCatsModel", RX9, TX9, 23, rfl, in_X9, by decide, (Or.inl q2310), (Or.inl rfl), ⟨tyX9, tyX9_ok⟩, nmX9, rfl, tyX9_ok 5 (by decide), nofun⟩
theorem rF_X9_19 : rc_FldG RX9 19 8 3 := ⟨"RooftopCatsModel", RX9, TX9, 23, rfl, in_X9, by decide, (Or.inl q2308), (Or.inl rfl)⟩
theorem rd_X9_begins : yX9_begins.cls ≠ "java/lang/invoke/MethodHandle" ∧ yX9_begins.cls ≠ "java/lang/invoke/VarHandle" ∧ (parseMethodDescriptor yX9_begins.desc).map (fun d => d.parameters.length) = some 0 := by decide +kernel
theorem rd_X9_remember : yX9_remember.cls ≠ "java/lang/invoke/MethodHandle" ∧ yX9_remember.cls ≠ "java/lang/invoke/VarHandle" ∧ (parseMethodDescriptor yX9_remember.desc).map (fun d => d.parameters.length) = some 1 := by decide +kernel
theorem rd_X9_throwsOne_2 : yX9_throwsOne_2.cls ≠ "java/lang/invoke/MethodHandle" ∧ yX9_throwsOne_2.cls ≠ "java/lang/invoke/VarHandle" ∧ (parseMethodDescriptor yX9_throwsOne_2.desc).map (fun d => d.parameters.length) = some 2 := by decide +kernel
theorem rd_X9_isChimney : yX9_isChimney.cls ≠ "java/lang/invoke/MethodHandle" ∧ yX9_isChimney.cls ≠ "java/lang/invoke/VarHandle" ∧ (parseMethodDescriptor yX9_isChimney.desc).map (fun d => d.parameters.length) = some 1 := by decide +kernel
theorem rd_X9_throwsOne_3 : yX9_throwsOne_3.cls ≠ "java/lang/invoke/MethodHandle" ∧ yX9_throwsOne_3.cls ≠ "java/lang/invoke/VarHandle" ∧ (parseMethodDescriptor yX9_throwsOne_3.desc).map (fun d => d.parameters.length) = some 3 := by decide +kernel
theorem rd_X9_areSizes : yX9_areSizes.cls ≠ "java/lang/invoke/MethodHandle" ∧ yX9_areSizes.cls ≠ "java/lang/invoke/VarHandle" ∧ (parseMethodDescriptor yX9_areSizes.desc).map (fun d => d.parameters.length) = some 2 := by decide +kernel
theorem rd_X9_isCat : yX9_isCat.cls ≠ "java/lang/invoke/MethodHandle" ∧ yX9_isCat.cls ≠ "java/lang/invoke/VarHandle" ∧ (parseMethodDescriptor yX9_isCat.desc).map (fun d => d.parameters.length) = some 1 := by decide +kernel
theorem rd_X9_isGutter : yX9_isGutter.cls ≠ "java/lang/invoke/MethodHandle" ∧ yX9_isGutter.cls ≠ "java/lang/invoke/VarHandle" ∧ (parseMethodDescriptor yX9_isGutter.desc).map (fun d => d.parameters.length) = some 1 := by decide +kernel
theorem rd_X9_areCats : yX9_areCats.cls ≠ "java/lang/invoke/MethodHandle" ∧ yX9_areCats.cls ≠ "java/lang/invoke/VarHandle" ∧ (parseMethodDescriptor yX9_areCats.desc).map (fun d => d.parameters.length) = some 2 := by decide +kernel
theorem rP_X9_388 : rc_Fld RX9 388 8 6 .boolean false := ⟨"RooftopCatsModel", RX9, TX9, 23, rfl, in_X9, by decide, (Or.inl q2311), (Or.inl rfl), ⟨tyX9, tyX9_ok⟩, nmX9, rfl, tyX9_ok 6 (by decide), nofun⟩
theorem rF_X9_22 : rc_FldG RX9 22 8 4 := ⟨"RooftopCatsModel", RX9, TX9, 23, rfl, in_X9, by decide, (Or.inl q2309), (Or.inl rfl)⟩
theorem rF_X9_388 : rc_FldG RX9 388 8 6 := ⟨"RooftopCatsModel", RX9, TX9, 23, rfl, in_X9, by decide, (Or.inl q2311), (Or.inl rfl)⟩
theorem rF_X9_34 : rc_FldG RX9 34 8 13 := ⟨"RooftopCatsModel", RX9, TX9, 23, rfl, in_X9, by decide, (Or.inl q2318), (Or.inl rfl)⟩
theorem rd_X9_told : yX9_told.cls ≠ "java/lang/invoke/MethodHandle" ∧ yX9_told.cls ≠ "java/lang/invoke/VarHandle" ∧ (parseMethodDescriptor yX9_told.desc).map (fun d => d.parameters.length) = some 1 := by decide +kernel
theorem rd_X9_reachedBy : yX9_reachedBy.cls ≠ "java/lang/invoke/MethodHandle" ∧ yX9_reachedBy.cls ≠ "java/lang/invoke/VarHandle" ∧ (parseMethodDescriptor yX9_reachedBy.desc).map (fun d => d.parameters.length) = some 2 := by decide +kernel
theorem rd_X9_catTold : yX9_catTold.cls ≠ "java/lang/invoke/MethodHandle" ∧ yX9_catTold.cls ≠ "java/lang/invoke/VarHandle" ∧ (parseMethodDescriptor yX9_catTold.desc).map (fun d => d.parameters.length) = some 2 := by decide +kernel
theorem rF_X9_31 : rc_FldG RX9 31 8 9 := ⟨"RooftopCatsModel", RX9, TX9, 23, rfl, in_X9, by decide, (Or.inl q2314), (Or.inl rfl)⟩
theorem rd_X9_spreads : yX9_spreads.cls ≠ "java/lang/invoke/MethodHandle" ∧ yX9_spreads.cls ≠ "java/lang/invoke/VarHandle" ∧ (parseMethodDescriptor yX9_spreads.desc).map (fun d => d.parameters.length) = some 3 := by decide +kernel
theorem rd_X9_walks : yX9_walks.cls ≠ "java/lang/invoke/MethodHandle" ∧ yX9_walks.cls ≠ "java/lang/invoke/VarHandle" ∧ (parseMethodDescriptor yX9_walks.desc).map (fun d => d.parameters.length) = some 1 := by decide +kernel
theorem rF_X9_16 : rc_FldG RX9 16 8 2 := ⟨"RooftopCatsModel", RX9, TX9, 23, rfl, in_X9, by decide, (Or.inl q2307), (Or.inl rfl)⟩
theorem rd_X9_allFish : yX9_allFish.cls ≠ "java/lang/invoke/MethodHandle" ∧ yX9_allFish.cls ≠ "java/lang/invoke/VarHandle" ∧ (parseMethodDescriptor yX9_allFish.desc).map (fun d => d.parameters.length) = some 0 := by decide +kernel
theorem rd_X9_isCrowded : yX9_isCrowded.cls ≠ "java/lang/invoke/MethodHandle" ∧ yX9_isCrowded.cls ≠ "java/lang/invoke/VarHandle" ∧ (parseMethodDescriptor yX9_isCrowded.desc).map (fun d => d.parameters.length) = some 1 := by decide +kernel
theorem rF_X9_38 : rc_FldG RX9 38 8 14 := ⟨"RooftopCatsModel", RX9, TX9, 23, rfl, in_X9, by decide, (Or.inl q2319), (Or.inl rfl)⟩
theorem rF_X9_410 : rc_FldG RX9 410 8 15 := ⟨"RooftopCatsModel", RX9, TX9, 23, rfl, in_X9, by decide, (Or.inl q2320), (Or.inl rfl)⟩
theorem rP_X9_410 : rc_Fld RX9 410 8 15 .int false := ⟨"RooftopCatsModel", RX9, TX9, 23, rfl, in_X9, by decide, (Or.inl q2320), (Or.inl rfl), ⟨tyX9, tyX9_ok⟩, nmX9, rfl, tyX9_ok 15 (by decide), nofun⟩
theorem rd_X9_write : yX9_write.cls ≠ "java/lang/invoke/MethodHandle" ∧ yX9_write.cls ≠ "java/lang/invoke/VarHandle" ∧ (parseMethodDescriptor yX9_write.desc).map (fun d => d.parameters.length) = some 1 := by decide +kernel
theorem rd_X9_writeCat : yX9_writeCat.cls ≠ "java/lang/invoke/MethodHandle" ∧ yX9_writeCat.cls ≠ "java/lang/invoke/VarHandle" ∧ (parseMethodDescriptor yX9_writeCat.desc).map (fun d => d.parameters.length) = some 2 := by decide +kernel
