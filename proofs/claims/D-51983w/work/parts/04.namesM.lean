/-! RooftopCatsModel -/
set_option maxRecDepth 100000
def RX9 : String := "RooftopCatsModel"
def TX9 : u_T := fun k => match k with
  | 0 => ("RooftopCatsModel", "w", "[I", true)
  | 1 => ("RooftopCatsModel", "before", "[I", true)
  | 2 => ("RooftopCatsModel", "aside", "[I", true)
  | 3 => ("RooftopCatsModel", "past", "[I", true)
  | 4 => ("RooftopCatsModel", "kept", "[I", true)
  | 5 => ("RooftopCatsModel", "pastMany", "I", false)
  | 6 => ("RooftopCatsModel", "isKept", "Z", false)
  | 7 => ("RooftopCatsModel", "buffer", "[I", true)
  | 8 => ("RooftopCatsModel", "text", "[I", true)
  | 9 => ("RooftopCatsModel", "steps", "[I", true)
  | 10 => ("RooftopCatsModel", "typed", "I", false)
  | 11 => ("RooftopCatsModel", "textLength", "I", false)
  | 12 => ("RooftopCatsModel", "errorKind", "I", false)
  | 13 => ("RooftopCatsModel", "errorOffset", "I", false)
  | 14 => ("RooftopCatsModel", "report", "[C", true)
  | 15 => ("RooftopCatsModel", "reportLength", "I", false)
  | 16 => ("RooftopCatsModel", "thrown", "I", false)
  | 17 => ("RooftopCatsModel", "kind", "I", false)
  | 18 => ("RooftopCatsModel", "offset", "I", false)
  | 19 => ("RooftopCatsModel", "tokenEnd", "I", false)
  | 20 => ("RooftopCatsModel", "value", "I", false)
  | 21 => ("RooftopCatsModel", "executed", "I", false)
  | _ => ("RooftopCatsModel", "numbers", "[I", true)
def tyX9 : Nat → FieldType := fun k => match k with
  | 0 => .array .int
  | 1 => .array .int
  | 2 => .array .int
  | 3 => .array .int
  | 4 => .array .int
  | 5 => .int
  | 6 => .boolean
  | 7 => .array .int
  | 8 => .array .int
  | 9 => .array .int
  | 10 => .int
  | 11 => .int
  | 12 => .int
  | 13 => .int
  | 14 => .array .char
  | 15 => .int
  | 16 => .int
  | 17 => .int
  | 18 => .int
  | 19 => .int
  | 20 => .int
  | 21 => .int
  | _ => .array .int
abbrev wsX90 : List Cond := u_ws RX9 TX9 23
set_option maxRecDepth 100000 in
theorem nmX9 : ∀ a, a < 23 → ∀ b, b < 23 → a ≠ b → (TX9 a).2.1 ≠ (TX9 b).2.1 := by decide +kernel
set_option maxRecDepth 100000 in
theorem tyX9_ok : ∀ k, k < 23 → parseFieldDescriptor (TX9 k).2.2.1 = some (tyX9 k) := by decide +kernel
abbrev cX9_init : ByteArray := prog_11_method_1_code
def yX9_init : MethodName := ⟨RX9, "<init>", "()V"⟩
def dkwX9_init_5 : List UInt8 := [181, 0, 57, 177]
abbrev dktX9_init_5 : List UInt8 := dkwX9_init_5 ++ []
def dkwX9_init_4 : List UInt8 := [181, 0, 42, 42, 18, 45, 182, 0, 47, 42, 18, 51, 182, 0, 47, 42, 182, 0, 53, 87, 42, 3]
abbrev dktX9_init_4 : List UInt8 := dkwX9_init_4 ++ dktX9_init_5
def dkwX9_init_3 : List UInt8 := [188, 10, 181, 0, 31, 42, 2, 181, 0, 34, 42, 16, 80, 188, 5, 181, 0, 38, 42, 7, 188, 10]
abbrev dktX9_init_3 : List UInt8 := dkwX9_init_3 ++ dktX9_init_4
def dkwX9_init_2 : List UInt8 := [181, 0, 22, 42, 17, 2, 88, 188, 10, 181, 0, 25, 42, 17, 2, 88, 188, 10, 181, 0, 28, 42, 16, 10]
abbrev dktX9_init_2 : List UInt8 := dkwX9_init_2 ++ dktX9_init_3
def dkwX9_init_1 : List UInt8 := [17, 0, 186, 188, 10, 181, 0, 16, 42, 17, 5, 208, 188, 10, 181, 0, 19, 42, 17, 0, 186, 188, 10]
abbrev dktX9_init_1 : List UInt8 := dkwX9_init_1 ++ dktX9_init_2
def dkwX9_init_0 : List UInt8 := [42, 183, 0, 1, 42, 17, 0, 186, 188, 10, 181, 0, 7, 42, 17, 0, 186, 188, 10, 181, 0, 13, 42]
abbrev dktX9_init_0 : List UInt8 := dkwX9_init_0 ++ dktX9_init_1
theorem dksX9_init_0 : cX9_init.data.toList.drop 0 = dktX9_init_0 := by decide +kernel
theorem dksX9_init_1 : cX9_init.data.toList.drop 23 = dktX9_init_1 := dk_seg dksX9_init_0 23 rfl rfl
theorem dksX9_init_2 : cX9_init.data.toList.drop 46 = dktX9_init_2 := dk_seg dksX9_init_1 23 rfl rfl
theorem dksX9_init_3 : cX9_init.data.toList.drop 70 = dktX9_init_3 := dk_seg dksX9_init_2 24 rfl rfl
theorem dksX9_init_4 : cX9_init.data.toList.drop 92 = dktX9_init_4 := dk_seg dksX9_init_3 22 rfl rfl
theorem dksX9_init_5 : cX9_init.data.toList.drop 114 = dktX9_init_5 := dk_seg dksX9_init_4 22 rfl rfl
theorem dX9_init_0 : decode cX9_init 0 = .ok (.aload_n 0, 1) := dk_42 (dk_at dksX9_init_0 0 rfl rfl)
theorem dX9_init_1 : decode cX9_init 1 = .ok (.invokespecial 1, 3) := dk_183 0 1 (dk_at dksX9_init_0 1 rfl rfl)
theorem dX9_init_4 : decode cX9_init 4 = .ok (.aload_n 0, 1) := dk_42 (dk_at dksX9_init_0 4 rfl rfl)
theorem dX9_init_5 : decode cX9_init 5 = .ok (.sipush 186, 3) := dk_17 0 186 (dk_at dksX9_init_0 5 rfl rfl)
theorem dX9_init_8 : decode cX9_init 8 = .ok (.newarray .int, 2) := dk_188_10 (dk_at dksX9_init_0 8 rfl rfl)
theorem dX9_init_10 : decode cX9_init 10 = .ok (.putfield 7, 3) := dk_181 0 7 (dk_at dksX9_init_0 10 rfl rfl)
theorem dX9_init_13 : decode cX9_init 13 = .ok (.aload_n 0, 1) := dk_42 (dk_at dksX9_init_0 13 rfl rfl)
theorem dX9_init_14 : decode cX9_init 14 = .ok (.sipush 186, 3) := dk_17 0 186 (dk_at dksX9_init_0 14 rfl rfl)
theorem dX9_init_17 : decode cX9_init 17 = .ok (.newarray .int, 2) := dk_188_10 (dk_at dksX9_init_0 17 rfl rfl)
theorem dX9_init_19 : decode cX9_init 19 = .ok (.putfield 13, 3) := dk_181 0 13 (dk_at dksX9_init_0 19 rfl rfl)
theorem dX9_init_22 : decode cX9_init 22 = .ok (.aload_n 0, 1) := dk_42 (dk_at dksX9_init_0 22 rfl rfl)
theorem dX9_init_23 : decode cX9_init 23 = .ok (.sipush 186, 3) := dk_17 0 186 (dk_at dksX9_init_1 0 rfl rfl)
theorem dX9_init_26 : decode cX9_init 26 = .ok (.newarray .int, 2) := dk_188_10 (dk_at dksX9_init_1 3 rfl rfl)
theorem dX9_init_28 : decode cX9_init 28 = .ok (.putfield 16, 3) := dk_181 0 16 (dk_at dksX9_init_1 5 rfl rfl)
theorem dX9_init_31 : decode cX9_init 31 = .ok (.aload_n 0, 1) := dk_42 (dk_at dksX9_init_1 8 rfl rfl)
theorem dX9_init_32 : decode cX9_init 32 = .ok (.sipush 1488, 3) := dk_17 5 208 (dk_at dksX9_init_1 9 rfl rfl)
theorem dX9_init_35 : decode cX9_init 35 = .ok (.newarray .int, 2) := dk_188_10 (dk_at dksX9_init_1 12 rfl rfl)
theorem dX9_init_37 : decode cX9_init 37 = .ok (.putfield 19, 3) := dk_181 0 19 (dk_at dksX9_init_1 14 rfl rfl)
theorem dX9_init_40 : decode cX9_init 40 = .ok (.aload_n 0, 1) := dk_42 (dk_at dksX9_init_1 17 rfl rfl)
theorem dX9_init_41 : decode cX9_init 41 = .ok (.sipush 186, 3) := dk_17 0 186 (dk_at dksX9_init_1 18 rfl rfl)
theorem dX9_init_44 : decode cX9_init 44 = .ok (.newarray .int, 2) := dk_188_10 (dk_at dksX9_init_1 21 rfl rfl)
theorem dX9_init_46 : decode cX9_init 46 = .ok (.putfield 22, 3) := dk_181 0 22 (dk_at dksX9_init_2 0 rfl rfl)
theorem dX9_init_49 : decode cX9_init 49 = .ok (.aload_n 0, 1) := dk_42 (dk_at dksX9_init_2 3 rfl rfl)
theorem dX9_init_50 : decode cX9_init 50 = .ok (.sipush 600, 3) := dk_17 2 88 (dk_at dksX9_init_2 4 rfl rfl)
theorem dX9_init_53 : decode cX9_init 53 = .ok (.newarray .int, 2) := dk_188_10 (dk_at dksX9_init_2 7 rfl rfl)
theorem dX9_init_55 : decode cX9_init 55 = .ok (.putfield 25, 3) := dk_181 0 25 (dk_at dksX9_init_2 9 rfl rfl)
theorem dX9_init_58 : decode cX9_init 58 = .ok (.aload_n 0, 1) := dk_42 (dk_at dksX9_init_2 12 rfl rfl)
theorem dX9_init_59 : decode cX9_init 59 = .ok (.sipush 600, 3) := dk_17 2 88 (dk_at dksX9_init_2 13 rfl rfl)
theorem dX9_init_62 : decode cX9_init 62 = .ok (.newarray .int, 2) := dk_188_10 (dk_at dksX9_init_2 16 rfl rfl)
theorem dX9_init_64 : decode cX9_init 64 = .ok (.putfield 28, 3) := dk_181 0 28 (dk_at dksX9_init_2 18 rfl rfl)
theorem dX9_init_67 : decode cX9_init 67 = .ok (.aload_n 0, 1) := dk_42 (dk_at dksX9_init_2 21 rfl rfl)
theorem dX9_init_68 : decode cX9_init 68 = .ok (.bipush 10, 2) := dk_16 10 (dk_at dksX9_init_2 22 rfl rfl)
theorem dX9_init_70 : decode cX9_init 70 = .ok (.newarray .int, 2) := dk_188_10 (dk_at dksX9_init_3 0 rfl rfl)
theorem dX9_init_72 : decode cX9_init 72 = .ok (.putfield 31, 3) := dk_181 0 31 (dk_at dksX9_init_3 2 rfl rfl)
theorem dX9_init_75 : decode cX9_init 75 = .ok (.aload_n 0, 1) := dk_42 (dk_at dksX9_init_3 5 rfl rfl)
theorem dX9_init_76 : decode cX9_init 76 = .ok (.iconst (-1), 1) := dk_2 (dk_at dksX9_init_3 6 rfl rfl)
theorem dX9_init_77 : decode cX9_init 77 = .ok (.putfield 34, 3) := dk_181 0 34 (dk_at dksX9_init_3 7 rfl rfl)
theorem dX9_init_80 : decode cX9_init 80 = .ok (.aload_n 0, 1) := dk_42 (dk_at dksX9_init_3 10 rfl rfl)
theorem dX9_init_81 : decode cX9_init 81 = .ok (.bipush 80, 2) := dk_16 80 (dk_at dksX9_init_3 11 rfl rfl)
theorem dX9_init_83 : decode cX9_init 83 = .ok (.newarray .char, 2) := dk_188_5 (dk_at dksX9_init_3 13 rfl rfl)
theorem dX9_init_85 : decode cX9_init 85 = .ok (.putfield 38, 3) := dk_181 0 38 (dk_at dksX9_init_3 15 rfl rfl)
theorem dX9_init_88 : decode cX9_init 88 = .ok (.aload_n 0, 1) := dk_42 (dk_at dksX9_init_3 18 rfl rfl)
theorem dX9_init_89 : decode cX9_init 89 = .ok (.iconst 4, 1) := dk_7 (dk_at dksX9_init_3 19 rfl rfl)
theorem dX9_init_90 : decode cX9_init 90 = .ok (.newarray .int, 2) := dk_188_10 (dk_at dksX9_init_3 20 rfl rfl)
theorem dX9_init_92 : decode cX9_init 92 = .ok (.putfield 42, 3) := dk_181 0 42 (dk_at dksX9_init_4 0 rfl rfl)
theorem dX9_init_95 : decode cX9_init 95 = .ok (.aload_n 0, 1) := dk_42 (dk_at dksX9_init_4 3 rfl rfl)
theorem dX9_init_96 : decode cX9_init 96 = .ok (.ldc 45, 2) := dk_18 45 (dk_at dksX9_init_4 4 rfl rfl)
theorem dX9_init_98 : decode cX9_init 98 = .ok (.invokevirtual 47, 3) := dk_182 0 47 (dk_at dksX9_init_4 6 rfl rfl)
theorem dX9_init_101 : decode cX9_init 101 = .ok (.aload_n 0, 1) := dk_42 (dk_at dksX9_init_4 9 rfl rfl)
theorem dX9_init_102 : decode cX9_init 102 = .ok (.ldc 51, 2) := dk_18 51 (dk_at dksX9_init_4 10 rfl rfl)
theorem dX9_init_104 : decode cX9_init 104 = .ok (.invokevirtual 47, 3) := dk_182 0 47 (dk_at dksX9_init_4 12 rfl rfl)
theorem dX9_init_107 : decode cX9_init 107 = .ok (.aload_n 0, 1) := dk_42 (dk_at dksX9_init_4 15 rfl rfl)
theorem dX9_init_108 : decode cX9_init 108 = .ok (.invokevirtual 53, 3) := dk_182 0 53 (dk_at dksX9_init_4 16 rfl rfl)
theorem dX9_init_111 : decode cX9_init 111 = .ok (.pop, 1) := dk_87 (dk_at dksX9_init_4 19 rfl rfl)
theorem dX9_init_112 : decode cX9_init 112 = .ok (.aload_n 0, 1) := dk_42 (dk_at dksX9_init_4 20 rfl rfl)
theorem dX9_init_113 : decode cX9_init 113 = .ok (.iconst 0, 1) := dk_3 (dk_at dksX9_init_4 21 rfl rfl)
theorem dX9_init_114 : decode cX9_init 114 = .ok (.putfield 57, 3) := dk_181 0 57 (dk_at dksX9_init_5 0 rfl rfl)
theorem dX9_init_117 : decode cX9_init 117 = .ok (.return_, 1) := dk_177 (dk_at dksX9_init_5 3 rfl rfl)
abbrev cX9_tell : ByteArray := prog_11_method_53_code
def yX9_tell : MethodName := ⟨RX9, "tell", "(Ljava/lang/String;)V"⟩
def dkwX9_tell_1 : List UInt8 := [42, 89, 180, 0, 157, 4, 96, 181, 0, 157, 132, 2, 1, 167, 255, 221, 177]
abbrev dktX9_tell_1 : List UInt8 := dkwX9_tell_1 ++ []
def dkwX9_tell_0 : List UInt8 := [3, 61, 28, 43, 182, 0, 152, 162, 0, 33, 42, 180, 0, 28, 42, 180, 0, 157, 43, 28, 182, 0, 160, 79]
abbrev dktX9_tell_0 : List UInt8 := dkwX9_tell_0 ++ dktX9_tell_1
theorem dksX9_tell_0 : cX9_tell.data.toList.drop 0 = dktX9_tell_0 := by decide +kernel
theorem dksX9_tell_1 : cX9_tell.data.toList.drop 24 = dktX9_tell_1 := dk_seg dksX9_tell_0 24 rfl rfl
theorem dX9_tell_0 : decode cX9_tell 0 = .ok (.iconst 0, 1) := dk_3 (dk_at dksX9_tell_0 0 rfl rfl)
theorem dX9_tell_1 : decode cX9_tell 1 = .ok (.istore_n 2, 1) := dk_61 (dk_at dksX9_tell_0 1 rfl rfl)
theorem dX9_tell_2 : decode cX9_tell 2 = .ok (.iload_n 2, 1) := dk_28 (dk_at dksX9_tell_0 2 rfl rfl)
theorem dX9_tell_3 : decode cX9_tell 3 = .ok (.aload_n 1, 1) := dk_43 (dk_at dksX9_tell_0 3 rfl rfl)
theorem dX9_tell_4 : decode cX9_tell 4 = .ok (.invokevirtual 152, 3) := dk_182 0 152 (dk_at dksX9_tell_0 4 rfl rfl)
theorem dX9_tell_7 : decode cX9_tell 7 = .ok (.if_icmp .ge 33, 3) := dk_162 0 33 (dk_at dksX9_tell_0 7 rfl rfl)
theorem dX9_tell_10 : decode cX9_tell 10 = .ok (.aload_n 0, 1) := dk_42 (dk_at dksX9_tell_0 10 rfl rfl)
theorem dX9_tell_11 : decode cX9_tell 11 = .ok (.getfield 28, 3) := dk_180 0 28 (dk_at dksX9_tell_0 11 rfl rfl)
theorem dX9_tell_14 : decode cX9_tell 14 = .ok (.aload_n 0, 1) := dk_42 (dk_at dksX9_tell_0 14 rfl rfl)
theorem dX9_tell_15 : decode cX9_tell 15 = .ok (.getfield 157, 3) := dk_180 0 157 (dk_at dksX9_tell_0 15 rfl rfl)
theorem dX9_tell_18 : decode cX9_tell 18 = .ok (.aload_n 1, 1) := dk_43 (dk_at dksX9_tell_0 18 rfl rfl)
theorem dX9_tell_19 : decode cX9_tell 19 = .ok (.iload_n 2, 1) := dk_28 (dk_at dksX9_tell_0 19 rfl rfl)
theorem dX9_tell_20 : decode cX9_tell 20 = .ok (.invokevirtual 160, 3) := dk_182 0 160 (dk_at dksX9_tell_0 20 rfl rfl)
theorem dX9_tell_23 : decode cX9_tell 23 = .ok (.iastore, 1) := dk_79 (dk_at dksX9_tell_0 23 rfl rfl)
theorem dX9_tell_24 : decode cX9_tell 24 = .ok (.aload_n 0, 1) := dk_42 (dk_at dksX9_tell_1 0 rfl rfl)
theorem dX9_tell_25 : decode cX9_tell 25 = .ok (.dup, 1) := dk_89 (dk_at dksX9_tell_1 1 rfl rfl)
theorem dX9_tell_26 : decode cX9_tell 26 = .ok (.getfield 157, 3) := dk_180 0 157 (dk_at dksX9_tell_1 2 rfl rfl)
theorem dX9_tell_29 : decode cX9_tell 29 = .ok (.iconst 1, 1) := dk_4 (dk_at dksX9_tell_1 5 rfl rfl)
theorem dX9_tell_30 : decode cX9_tell 30 = .ok (.iadd, 1) := dk_96 (dk_at dksX9_tell_1 6 rfl rfl)
theorem dX9_tell_31 : decode cX9_tell 31 = .ok (.putfield 157, 3) := dk_181 0 157 (dk_at dksX9_tell_1 7 rfl rfl)
theorem dX9_tell_34 : decode cX9_tell 34 = .ok (.iinc 2 1, 3) := dk_132 2 1 (dk_at dksX9_tell_1 10 rfl rfl)
theorem dX9_tell_37 : decode cX9_tell 37 = .ok (.goto (-35), 3) := dk_167 255 221 (dk_at dksX9_tell_1 13 rfl rfl)
theorem dX9_tell_40 : decode cX9_tell 40 = .ok (.return_, 1) := dk_177 (dk_at dksX9_tell_1 16 rfl rfl)
abbrev cX9_parses : ByteArray := prog_11_method_82_code
def yX9_parses : MethodName := ⟨RX9, "parses", "()Z"⟩
def dkwX9_parses_2 : List UInt8 := [182, 1, 90, 172]
abbrev dktX9_parses_2 : List UInt8 := dkwX9_parses_2 ++ []
def dkwX9_parses_1 : List UInt8 := [181, 0, 179, 42, 2, 181, 0, 34, 42, 3, 181, 1, 49, 42, 3, 181, 0, 164, 42, 182, 0, 188, 42]
abbrev dktX9_parses_1 : List UInt8 := dkwX9_parses_1 ++ dktX9_parses_2
def dkwX9_parses_0 : List UInt8 := [3, 60, 27, 17, 0, 186, 162, 0, 16, 42, 180, 0, 7, 27, 3, 79, 132, 1, 1, 167, 255, 239, 42, 3]
abbrev dktX9_parses_0 : List UInt8 := dkwX9_parses_0 ++ dktX9_parses_1
theorem dksX9_parses_0 : cX9_parses.data.toList.drop 0 = dktX9_parses_0 := by decide +kernel
theorem dksX9_parses_1 : cX9_parses.data.toList.drop 24 = dktX9_parses_1 := dk_seg dksX9_parses_0 24 rfl rfl
theorem dksX9_parses_2 : cX9_parses.data.toList.drop 47 = dktX9_parses_2 := dk_seg dksX9_parses_1 23 rfl rfl
theorem dX9_parses_0 : decode cX9_parses 0 = .ok (.iconst 0, 1) := dk_3 (dk_at dksX9_parses_0 0 rfl rfl)
theorem dX9_parses_1 : decode cX9_parses 1 = .ok (.istore_n 1, 1) := dk_60 (dk_at dksX9_parses_0 1 rfl rfl)
theorem dX9_parses_2 : decode cX9_parses 2 = .ok (.iload_n 1, 1) := dk_27 (dk_at dksX9_parses_0 2 rfl rfl)
theorem dX9_parses_3 : decode cX9_parses 3 = .ok (.sipush 186, 3) := dk_17 0 186 (dk_at dksX9_parses_0 3 rfl rfl)
theorem dX9_parses_6 : decode cX9_parses 6 = .ok (.if_icmp .ge 16, 3) := dk_162 0 16 (dk_at dksX9_parses_0 6 rfl rfl)
theorem dX9_parses_9 : decode cX9_parses 9 = .ok (.aload_n 0, 1) := dk_42 (dk_at dksX9_parses_0 9 rfl rfl)
theorem dX9_parses_10 : decode cX9_parses 10 = .ok (.getfield 7, 3) := dk_180 0 7 (dk_at dksX9_parses_0 10 rfl rfl)
theorem dX9_parses_13 : decode cX9_parses 13 = .ok (.iload_n 1, 1) := dk_27 (dk_at dksX9_parses_0 13 rfl rfl)
theorem dX9_parses_14 : decode cX9_parses 14 = .ok (.iconst 0, 1) := dk_3 (dk_at dksX9_parses_0 14 rfl rfl)
theorem dX9_parses_15 : decode cX9_parses 15 = .ok (.iastore, 1) := dk_79 (dk_at dksX9_parses_0 15 rfl rfl)
theorem dX9_parses_16 : decode cX9_parses 16 = .ok (.iinc 1 1, 3) := dk_132 1 1 (dk_at dksX9_parses_0 16 rfl rfl)
theorem dX9_parses_19 : decode cX9_parses 19 = .ok (.goto (-17), 3) := dk_167 255 239 (dk_at dksX9_parses_0 19 rfl rfl)
theorem dX9_parses_22 : decode cX9_parses 22 = .ok (.aload_n 0, 1) := dk_42 (dk_at dksX9_parses_0 22 rfl rfl)
theorem dX9_parses_23 : decode cX9_parses 23 = .ok (.iconst 0, 1) := dk_3 (dk_at dksX9_parses_0 23 rfl rfl)
theorem dX9_parses_24 : decode cX9_parses 24 = .ok (.putfield 179, 3) := dk_181 0 179 (dk_at dksX9_parses_1 0 rfl rfl)
theorem dX9_parses_27 : decode cX9_parses 27 = .ok (.aload_n 0, 1) := dk_42 (dk_at dksX9_parses_1 3 rfl rfl)
theorem dX9_parses_28 : decode cX9_parses 28 = .ok (.iconst (-1), 1) := dk_2 (dk_at dksX9_parses_1 4 rfl rfl)
theorem dX9_parses_29 : decode cX9_parses 29 = .ok (.putfield 34, 3) := dk_181 0 34 (dk_at dksX9_parses_1 5 rfl rfl)
theorem dX9_parses_32 : decode cX9_parses 32 = .ok (.aload_n 0, 1) := dk_42 (dk_at dksX9_parses_1 8 rfl rfl)
theorem dX9_parses_33 : decode cX9_parses 33 = .ok (.iconst 0, 1) := dk_3 (dk_at dksX9_parses_1 9 rfl rfl)
theorem dX9_parses_34 : decode cX9_parses 34 = .ok (.putfield 305, 3) := dk_181 1 49 (dk_at dksX9_parses_1 10 rfl rfl)
theorem dX9_parses_37 : decode cX9_parses 37 = .ok (.aload_n 0, 1) := dk_42 (dk_at dksX9_parses_1 13 rfl rfl)
theorem dX9_parses_38 : decode cX9_parses 38 = .ok (.iconst 0, 1) := dk_3 (dk_at dksX9_parses_1 14 rfl rfl)
theorem dX9_parses_39 : decode cX9_parses 39 = .ok (.putfield 164, 3) := dk_181 0 164 (dk_at dksX9_parses_1 15 rfl rfl)
theorem dX9_parses_42 : decode cX9_parses 42 = .ok (.aload_n 0, 1) := dk_42 (dk_at dksX9_parses_1 18 rfl rfl)
theorem dX9_parses_43 : decode cX9_parses 43 = .ok (.invokevirtual 188, 3) := dk_182 0 188 (dk_at dksX9_parses_1 19 rfl rfl)
theorem dX9_parses_46 : decode cX9_parses 46 = .ok (.aload_n 0, 1) := dk_42 (dk_at dksX9_parses_1 22 rfl rfl)
theorem dX9_parses_47 : decode cX9_parses 47 = .ok (.invokevirtual 346, 3) := dk_182 1 90 (dk_at dksX9_parses_2 0 rfl rfl)
theorem dX9_parses_50 : decode cX9_parses 50 = .ok (.ireturn, 1) := dk_172 (dk_at dksX9_parses_2 3 rfl rfl)
abbrev cX9_next : ByteArray := prog_11_method_55_code
def yX9_next : MethodName := ⟨RX9, "next", "()V"⟩
def dkwX9_next_10 : List UInt8 := [16, 48, 100, 181, 0, 176, 132, 1, 1, 167, 255, 216, 177]
abbrev dktX9_next_10 : List UInt8 := dkwX9_next_10 ++ []
def dkwX9_next_9 : List UInt8 := [42, 180, 0, 170, 6, 160, 0, 30, 42, 16, 10, 42, 180, 0, 176, 104, 42, 180, 0, 28, 27, 46, 96]
abbrev dktX9_next_9 : List UInt8 := dkwX9_next_9 ++ dktX9_next_10
def dkwX9_next_8 : List UInt8 := [42, 16, 6, 181, 0, 170, 42, 3, 181, 0, 176, 42, 180, 0, 167, 60, 27, 42, 180, 0, 164, 162, 0, 38]
abbrev dktX9_next_8 : List UInt8 := dkwX9_next_8 ++ dktX9_next_9
def dkwX9_next_7 : List UInt8 := [167, 255, 200, 42, 180, 0, 170, 6, 160, 0, 22, 42, 180, 0, 164, 42, 180, 0, 167, 100, 6, 164, 0, 9]
abbrev dktX9_next_7 : List UInt8 := dkwX9_next_7 ++ dktX9_next_8
def dkwX9_next_6 : List UInt8 := [180, 0, 164, 46, 184, 0, 173, 42, 180, 0, 170, 160, 0, 16, 42, 89, 180, 0, 164, 4, 96, 181, 0, 164]
abbrev dktX9_next_6 : List UInt8 := dkwX9_next_6 ++ dktX9_next_7
def dkwX9_next_5 : List UInt8 := [42, 180, 0, 170, 6, 160, 0, 46, 42, 180, 0, 164, 42, 180, 0, 157, 162, 0, 35, 42, 180, 0, 28, 42]
abbrev dktX9_next_5 : List UInt8 := dkwX9_next_5 ++ dktX9_next_6
def dkwX9_next_4 : List UInt8 := [184, 0, 173, 181, 0, 170, 42, 89, 180, 0, 164, 4, 96, 181, 0, 164, 42, 180, 0, 170, 5, 159, 0, 11]
abbrev dktX9_next_4 : List UInt8 := dkwX9_next_4 ++ dktX9_next_5
def dkwX9_next_3 : List UInt8 := [42, 180, 0, 157, 160, 0, 9, 42, 3, 181, 0, 170, 177, 42, 42, 180, 0, 28, 42, 180, 0, 167, 46]
abbrev dktX9_next_3 : List UInt8 := dkwX9_next_3 ++ dktX9_next_4
def dkwX9_next_2 : List UInt8 := [89, 180, 0, 167, 4, 96, 181, 0, 167, 167, 255, 207, 42, 42, 180, 0, 167, 181, 0, 164, 42, 180, 0, 167]
abbrev dktX9_next_2 : List UInt8 := dkwX9_next_2 ++ dktX9_next_3
def dkwX9_next_1 : List UInt8 := [180, 0, 167, 46, 16, 32, 159, 0, 17, 42, 180, 0, 28, 42, 180, 0, 167, 46, 16, 10, 160, 0, 16, 42]
abbrev dktX9_next_1 : List UInt8 := dkwX9_next_1 ++ dktX9_next_2
def dkwX9_next_0 : List UInt8 := [42, 42, 180, 0, 164, 181, 0, 167, 42, 180, 0, 167, 42, 180, 0, 157, 162, 0, 44, 42, 180, 0, 28, 42]
abbrev dktX9_next_0 : List UInt8 := dkwX9_next_0 ++ dktX9_next_1
theorem dksX9_next_0 : cX9_next.data.toList.drop 0 = dktX9_next_0 := by decide +kernel
theorem dksX9_next_1 : cX9_next.data.toList.drop 24 = dktX9_next_1 := dk_seg dksX9_next_0 24 rfl rfl
theorem dksX9_next_2 : cX9_next.data.toList.drop 48 = dktX9_next_2 := dk_seg dksX9_next_1 24 rfl rfl
theorem dksX9_next_3 : cX9_next.data.toList.drop 72 = dktX9_next_3 := dk_seg dksX9_next_2 24 rfl rfl
theorem dksX9_next_4 : cX9_next.data.toList.drop 95 = dktX9_next_4 := dk_seg dksX9_next_3 23 rfl rfl
theorem dksX9_next_5 : cX9_next.data.toList.drop 119 = dktX9_next_5 := dk_seg dksX9_next_4 24 rfl rfl
theorem dksX9_next_6 : cX9_next.data.toList.drop 143 = dktX9_next_6 := dk_seg dksX9_next_5 24 rfl rfl
theorem dksX9_next_7 : cX9_next.data.toList.drop 167 = dktX9_next_7 := dk_seg dksX9_next_6 24 rfl rfl
theorem dksX9_next_8 : cX9_next.data.toList.drop 191 = dktX9_next_8 := dk_seg dksX9_next_7 24 rfl rfl
theorem dksX9_next_9 : cX9_next.data.toList.drop 215 = dktX9_next_9 := dk_seg dksX9_next_8 24 rfl rfl
theorem dksX9_next_10 : cX9_next.data.toList.drop 238 = dktX9_next_10 := dk_seg dksX9_next_9 23 rfl rfl
theorem dX9_next_0 : decode cX9_next 0 = .ok (.aload_n 0, 1) := dk_42 (dk_at dksX9_next_0 0 rfl rfl)
theorem dX9_next_1 : decode cX9_next 1 = .ok (.aload_n 0, 1) := dk_42 (dk_at dksX9_next_0 1 rfl rfl)
theorem dX9_next_2 : decode cX9_next 2 = .ok (.getfield 164, 3) := dk_180 0 164 (dk_at dksX9_next_0 2 rfl rfl)
theorem dX9_next_5 : decode cX9_next 5 = .ok (.putfield 167, 3) := dk_181 0 167 (dk_at dksX9_next_0 5 rfl rfl)
theorem dX9_next_8 : decode cX9_next 8 = .ok (.aload_n 0, 1) := dk_42 (dk_at dksX9_next_0 8 rfl rfl)
theorem dX9_next_9 : decode cX9_next 9 = .ok (.getfield 167, 3) := dk_180 0 167 (dk_at dksX9_next_0 9 rfl rfl)
theorem dX9_next_12 : decode cX9_next 12 = .ok (.aload_n 0, 1) := dk_42 (dk_at dksX9_next_0 12 rfl rfl)
theorem dX9_next_13 : decode cX9_next 13 = .ok (.getfield 157, 3) := dk_180 0 157 (dk_at dksX9_next_0 13 rfl rfl)
theorem dX9_next_16 : decode cX9_next 16 = .ok (.if_icmp .ge 44, 3) := dk_162 0 44 (dk_at dksX9_next_0 16 rfl rfl)
theorem dX9_next_19 : decode cX9_next 19 = .ok (.aload_n 0, 1) := dk_42 (dk_at dksX9_next_0 19 rfl rfl)
theorem dX9_next_20 : decode cX9_next 20 = .ok (.getfield 28, 3) := dk_180 0 28 (dk_at dksX9_next_0 20 rfl rfl)
theorem dX9_next_23 : decode cX9_next 23 = .ok (.aload_n 0, 1) := dk_42 (dk_at dksX9_next_0 23 rfl rfl)
theorem dX9_next_24 : decode cX9_next 24 = .ok (.getfield 167, 3) := dk_180 0 167 (dk_at dksX9_next_1 0 rfl rfl)
theorem dX9_next_27 : decode cX9_next 27 = .ok (.iaload, 1) := dk_46 (dk_at dksX9_next_1 3 rfl rfl)
theorem dX9_next_28 : decode cX9_next 28 = .ok (.bipush 32, 2) := dk_16 32 (dk_at dksX9_next_1 4 rfl rfl)
theorem dX9_next_30 : decode cX9_next 30 = .ok (.if_icmp .eq 17, 3) := dk_159 0 17 (dk_at dksX9_next_1 6 rfl rfl)
theorem dX9_next_33 : decode cX9_next 33 = .ok (.aload_n 0, 1) := dk_42 (dk_at dksX9_next_1 9 rfl rfl)
theorem dX9_next_34 : decode cX9_next 34 = .ok (.getfield 28, 3) := dk_180 0 28 (dk_at dksX9_next_1 10 rfl rfl)
theorem dX9_next_37 : decode cX9_next 37 = .ok (.aload_n 0, 1) := dk_42 (dk_at dksX9_next_1 13 rfl rfl)
theorem dX9_next_38 : decode cX9_next 38 = .ok (.getfield 167, 3) := dk_180 0 167 (dk_at dksX9_next_1 14 rfl rfl)
theorem dX9_next_41 : decode cX9_next 41 = .ok (.iaload, 1) := dk_46 (dk_at dksX9_next_1 17 rfl rfl)
theorem dX9_next_42 : decode cX9_next 42 = .ok (.bipush 10, 2) := dk_16 10 (dk_at dksX9_next_1 18 rfl rfl)
theorem dX9_next_44 : decode cX9_next 44 = .ok (.if_icmp .ne 16, 3) := dk_160 0 16 (dk_at dksX9_next_1 20 rfl rfl)
theorem dX9_next_47 : decode cX9_next 47 = .ok (.aload_n 0, 1) := dk_42 (dk_at dksX9_next_1 23 rfl rfl)
theorem dX9_next_48 : decode cX9_next 48 = .ok (.dup, 1) := dk_89 (dk_at dksX9_next_2 0 rfl rfl)
theorem dX9_next_49 : decode cX9_next 49 = .ok (.getfield 167, 3) := dk_180 0 167 (dk_at dksX9_next_2 1 rfl rfl)
theorem dX9_next_52 : decode cX9_next 52 = .ok (.iconst 1, 1) := dk_4 (dk_at dksX9_next_2 4 rfl rfl)
theorem dX9_next_53 : decode cX9_next 53 = .ok (.iadd, 1) := dk_96 (dk_at dksX9_next_2 5 rfl rfl)
theorem dX9_next_54 : decode cX9_next 54 = .ok (.putfield 167, 3) := dk_181 0 167 (dk_at dksX9_next_2 6 rfl rfl)
theorem dX9_next_57 : decode cX9_next 57 = .ok (.goto (-49), 3) := dk_167 255 207 (dk_at dksX9_next_2 9 rfl rfl)
theorem dX9_next_60 : decode cX9_next 60 = .ok (.aload_n 0, 1) := dk_42 (dk_at dksX9_next_2 12 rfl rfl)
theorem dX9_next_61 : decode cX9_next 61 = .ok (.aload_n 0, 1) := dk_42 (dk_at dksX9_next_2 13 rfl rfl)
theorem dX9_next_62 : decode cX9_next 62 = .ok (.getfield 167, 3) := dk_180 0 167 (dk_at dksX9_next_2 14 rfl rfl)
theorem dX9_next_65 : decode cX9_next 65 = .ok (.putfield 164, 3) := dk_181 0 164 (dk_at dksX9_next_2 17 rfl rfl)
theorem dX9_next_68 : decode cX9_next 68 = .ok (.aload_n 0, 1) := dk_42 (dk_at dksX9_next_2 20 rfl rfl)
theorem dX9_next_69 : decode cX9_next 69 = .ok (.getfield 167, 3) := dk_180 0 167 (dk_at dksX9_next_2 21 rfl rfl)
theorem dX9_next_72 : decode cX9_next 72 = .ok (.aload_n 0, 1) := dk_42 (dk_at dksX9_next_3 0 rfl rfl)
theorem dX9_next_73 : decode cX9_next 73 = .ok (.getfield 157, 3) := dk_180 0 157 (dk_at dksX9_next_3 1 rfl rfl)
theorem dX9_next_76 : decode cX9_next 76 = .ok (.if_icmp .ne 9, 3) := dk_160 0 9 (dk_at dksX9_next_3 4 rfl rfl)
theorem dX9_next_79 : decode cX9_next 79 = .ok (.aload_n 0, 1) := dk_42 (dk_at dksX9_next_3 7 rfl rfl)
theorem dX9_next_80 : decode cX9_next 80 = .ok (.iconst 0, 1) := dk_3 (dk_at dksX9_next_3 8 rfl rfl)
theorem dX9_next_81 : decode cX9_next 81 = .ok (.putfield 170, 3) := dk_181 0 170 (dk_at dksX9_next_3 9 rfl rfl)
theorem dX9_next_84 : decode cX9_next 84 = .ok (.return_, 1) := dk_177 (dk_at dksX9_next_3 12 rfl rfl)
theorem dX9_next_85 : decode cX9_next 85 = .ok (.aload_n 0, 1) := dk_42 (dk_at dksX9_next_3 13 rfl rfl)
theorem dX9_next_86 : decode cX9_next 86 = .ok (.aload_n 0, 1) := dk_42 (dk_at dksX9_next_3 14 rfl rfl)
theorem dX9_next_87 : decode cX9_next 87 = .ok (.getfield 28, 3) := dk_180 0 28 (dk_at dksX9_next_3 15 rfl rfl)
theorem dX9_next_90 : decode cX9_next 90 = .ok (.aload_n 0, 1) := dk_42 (dk_at dksX9_next_3 18 rfl rfl)
theorem dX9_next_91 : decode cX9_next 91 = .ok (.getfield 167, 3) := dk_180 0 167 (dk_at dksX9_next_3 19 rfl rfl)
theorem dX9_next_94 : decode cX9_next 94 = .ok (.iaload, 1) := dk_46 (dk_at dksX9_next_3 22 rfl rfl)
theorem dX9_next_95 : decode cX9_next 95 = .ok (.invokestatic 173, 3) := dk_184 0 173 (dk_at dksX9_next_4 0 rfl rfl)
theorem dX9_next_98 : decode cX9_next 98 = .ok (.putfield 170, 3) := dk_181 0 170 (dk_at dksX9_next_4 3 rfl rfl)
theorem dX9_next_101 : decode cX9_next 101 = .ok (.aload_n 0, 1) := dk_42 (dk_at dksX9_next_4 6 rfl rfl)
theorem dX9_next_102 : decode cX9_next 102 = .ok (.dup, 1) := dk_89 (dk_at dksX9_next_4 7 rfl rfl)
theorem dX9_next_103 : decode cX9_next 103 = .ok (.getfield 164, 3) := dk_180 0 164 (dk_at dksX9_next_4 8 rfl rfl)
theorem dX9_next_106 : decode cX9_next 106 = .ok (.iconst 1, 1) := dk_4 (dk_at dksX9_next_4 11 rfl rfl)
theorem dX9_next_107 : decode cX9_next 107 = .ok (.iadd, 1) := dk_96 (dk_at dksX9_next_4 12 rfl rfl)
theorem dX9_next_108 : decode cX9_next 108 = .ok (.putfield 164, 3) := dk_181 0 164 (dk_at dksX9_next_4 13 rfl rfl)
theorem dX9_next_111 : decode cX9_next 111 = .ok (.aload_n 0, 1) := dk_42 (dk_at dksX9_next_4 16 rfl rfl)
theorem dX9_next_112 : decode cX9_next 112 = .ok (.getfield 170, 3) := dk_180 0 170 (dk_at dksX9_next_4 17 rfl rfl)
theorem dX9_next_115 : decode cX9_next 115 = .ok (.iconst 2, 1) := dk_5 (dk_at dksX9_next_4 20 rfl rfl)
theorem dX9_next_116 : decode cX9_next 116 = .ok (.if_icmp .eq 11, 3) := dk_159 0 11 (dk_at dksX9_next_4 21 rfl rfl)
theorem dX9_next_119 : decode cX9_next 119 = .ok (.aload_n 0, 1) := dk_42 (dk_at dksX9_next_5 0 rfl rfl)
theorem dX9_next_120 : decode cX9_next 120 = .ok (.getfield 170, 3) := dk_180 0 170 (dk_at dksX9_next_5 1 rfl rfl)
theorem dX9_next_123 : decode cX9_next 123 = .ok (.iconst 3, 1) := dk_6 (dk_at dksX9_next_5 4 rfl rfl)
theorem dX9_next_124 : decode cX9_next 124 = .ok (.if_icmp .ne 46, 3) := dk_160 0 46 (dk_at dksX9_next_5 5 rfl rfl)
theorem dX9_next_127 : decode cX9_next 127 = .ok (.aload_n 0, 1) := dk_42 (dk_at dksX9_next_5 8 rfl rfl)
theorem dX9_next_128 : decode cX9_next 128 = .ok (.getfield 164, 3) := dk_180 0 164 (dk_at dksX9_next_5 9 rfl rfl)
theorem dX9_next_131 : decode cX9_next 131 = .ok (.aload_n 0, 1) := dk_42 (dk_at dksX9_next_5 12 rfl rfl)
theorem dX9_next_132 : decode cX9_next 132 = .ok (.getfield 157, 3) := dk_180 0 157 (dk_at dksX9_next_5 13 rfl rfl)
theorem dX9_next_135 : decode cX9_next 135 = .ok (.if_icmp .ge 35, 3) := dk_162 0 35 (dk_at dksX9_next_5 16 rfl rfl)
theorem dX9_next_138 : decode cX9_next 138 = .ok (.aload_n 0, 1) := dk_42 (dk_at dksX9_next_5 19 rfl rfl)
theorem dX9_next_139 : decode cX9_next 139 = .ok (.getfield 28, 3) := dk_180 0 28 (dk_at dksX9_next_5 20 rfl rfl)
theorem dX9_next_142 : decode cX9_next 142 = .ok (.aload_n 0, 1) := dk_42 (dk_at dksX9_next_5 23 rfl rfl)
theorem dX9_next_143 : decode cX9_next 143 = .ok (.getfield 164, 3) := dk_180 0 164 (dk_at dksX9_next_6 0 rfl rfl)
theorem dX9_next_146 : decode cX9_next 146 = .ok (.iaload, 1) := dk_46 (dk_at dksX9_next_6 3 rfl rfl)
theorem dX9_next_147 : decode cX9_next 147 = .ok (.invokestatic 173, 3) := dk_184 0 173 (dk_at dksX9_next_6 4 rfl rfl)
theorem dX9_next_150 : decode cX9_next 150 = .ok (.aload_n 0, 1) := dk_42 (dk_at dksX9_next_6 7 rfl rfl)
theorem dX9_next_151 : decode cX9_next 151 = .ok (.getfield 170, 3) := dk_180 0 170 (dk_at dksX9_next_6 8 rfl rfl)
theorem dX9_next_154 : decode cX9_next 154 = .ok (.if_icmp .ne 16, 3) := dk_160 0 16 (dk_at dksX9_next_6 11 rfl rfl)
theorem dX9_next_157 : decode cX9_next 157 = .ok (.aload_n 0, 1) := dk_42 (dk_at dksX9_next_6 14 rfl rfl)
theorem dX9_next_158 : decode cX9_next 158 = .ok (.dup, 1) := dk_89 (dk_at dksX9_next_6 15 rfl rfl)
theorem dX9_next_159 : decode cX9_next 159 = .ok (.getfield 164, 3) := dk_180 0 164 (dk_at dksX9_next_6 16 rfl rfl)
theorem dX9_next_162 : decode cX9_next 162 = .ok (.iconst 1, 1) := dk_4 (dk_at dksX9_next_6 19 rfl rfl)
theorem dX9_next_163 : decode cX9_next 163 = .ok (.iadd, 1) := dk_96 (dk_at dksX9_next_6 20 rfl rfl)
theorem dX9_next_164 : decode cX9_next 164 = .ok (.putfield 164, 3) := dk_181 0 164 (dk_at dksX9_next_6 21 rfl rfl)
theorem dX9_next_167 : decode cX9_next 167 = .ok (.goto (-56), 3) := dk_167 255 200 (dk_at dksX9_next_7 0 rfl rfl)
theorem dX9_next_170 : decode cX9_next 170 = .ok (.aload_n 0, 1) := dk_42 (dk_at dksX9_next_7 3 rfl rfl)
theorem dX9_next_171 : decode cX9_next 171 = .ok (.getfield 170, 3) := dk_180 0 170 (dk_at dksX9_next_7 4 rfl rfl)
theorem dX9_next_174 : decode cX9_next 174 = .ok (.iconst 3, 1) := dk_6 (dk_at dksX9_next_7 7 rfl rfl)
theorem dX9_next_175 : decode cX9_next 175 = .ok (.if_icmp .ne 22, 3) := dk_160 0 22 (dk_at dksX9_next_7 8 rfl rfl)
theorem dX9_next_178 : decode cX9_next 178 = .ok (.aload_n 0, 1) := dk_42 (dk_at dksX9_next_7 11 rfl rfl)
theorem dX9_next_179 : decode cX9_next 179 = .ok (.getfield 164, 3) := dk_180 0 164 (dk_at dksX9_next_7 12 rfl rfl)
theorem dX9_next_182 : decode cX9_next 182 = .ok (.aload_n 0, 1) := dk_42 (dk_at dksX9_next_7 15 rfl rfl)
theorem dX9_next_183 : decode cX9_next 183 = .ok (.getfield 167, 3) := dk_180 0 167 (dk_at dksX9_next_7 16 rfl rfl)
theorem dX9_next_186 : decode cX9_next 186 = .ok (.isub, 1) := dk_100 (dk_at dksX9_next_7 19 rfl rfl)
theorem dX9_next_187 : decode cX9_next 187 = .ok (.iconst 3, 1) := dk_6 (dk_at dksX9_next_7 20 rfl rfl)
theorem dX9_next_188 : decode cX9_next 188 = .ok (.if_icmp .le 9, 3) := dk_164 0 9 (dk_at dksX9_next_7 21 rfl rfl)
theorem dX9_next_191 : decode cX9_next 191 = .ok (.aload_n 0, 1) := dk_42 (dk_at dksX9_next_8 0 rfl rfl)
theorem dX9_next_192 : decode cX9_next 192 = .ok (.bipush 6, 2) := dk_16 6 (dk_at dksX9_next_8 1 rfl rfl)
theorem dX9_next_194 : decode cX9_next 194 = .ok (.putfield 170, 3) := dk_181 0 170 (dk_at dksX9_next_8 3 rfl rfl)
theorem dX9_next_197 : decode cX9_next 197 = .ok (.aload_n 0, 1) := dk_42 (dk_at dksX9_next_8 6 rfl rfl)
theorem dX9_next_198 : decode cX9_next 198 = .ok (.iconst 0, 1) := dk_3 (dk_at dksX9_next_8 7 rfl rfl)
theorem dX9_next_199 : decode cX9_next 199 = .ok (.putfield 176, 3) := dk_181 0 176 (dk_at dksX9_next_8 8 rfl rfl)
theorem dX9_next_202 : decode cX9_next 202 = .ok (.aload_n 0, 1) := dk_42 (dk_at dksX9_next_8 11 rfl rfl)
theorem dX9_next_203 : decode cX9_next 203 = .ok (.getfield 167, 3) := dk_180 0 167 (dk_at dksX9_next_8 12 rfl rfl)
theorem dX9_next_206 : decode cX9_next 206 = .ok (.istore_n 1, 1) := dk_60 (dk_at dksX9_next_8 15 rfl rfl)
theorem dX9_next_207 : decode cX9_next 207 = .ok (.iload_n 1, 1) := dk_27 (dk_at dksX9_next_8 16 rfl rfl)
theorem dX9_next_208 : decode cX9_next 208 = .ok (.aload_n 0, 1) := dk_42 (dk_at dksX9_next_8 17 rfl rfl)
theorem dX9_next_209 : decode cX9_next 209 = .ok (.getfield 164, 3) := dk_180 0 164 (dk_at dksX9_next_8 18 rfl rfl)
theorem dX9_next_212 : decode cX9_next 212 = .ok (.if_icmp .ge 38, 3) := dk_162 0 38 (dk_at dksX9_next_8 21 rfl rfl)
theorem dX9_next_215 : decode cX9_next 215 = .ok (.aload_n 0, 1) := dk_42 (dk_at dksX9_next_9 0 rfl rfl)
theorem dX9_next_216 : decode cX9_next 216 = .ok (.getfield 170, 3) := dk_180 0 170 (dk_at dksX9_next_9 1 rfl rfl)
theorem dX9_next_219 : decode cX9_next 219 = .ok (.iconst 3, 1) := dk_6 (dk_at dksX9_next_9 4 rfl rfl)
theorem dX9_next_220 : decode cX9_next 220 = .ok (.if_icmp .ne 30, 3) := dk_160 0 30 (dk_at dksX9_next_9 5 rfl rfl)
theorem dX9_next_223 : decode cX9_next 223 = .ok (.aload_n 0, 1) := dk_42 (dk_at dksX9_next_9 8 rfl rfl)
theorem dX9_next_224 : decode cX9_next 224 = .ok (.bipush 10, 2) := dk_16 10 (dk_at dksX9_next_9 9 rfl rfl)
theorem dX9_next_226 : decode cX9_next 226 = .ok (.aload_n 0, 1) := dk_42 (dk_at dksX9_next_9 11 rfl rfl)
theorem dX9_next_227 : decode cX9_next 227 = .ok (.getfield 176, 3) := dk_180 0 176 (dk_at dksX9_next_9 12 rfl rfl)
theorem dX9_next_230 : decode cX9_next 230 = .ok (.imul, 1) := dk_104 (dk_at dksX9_next_9 15 rfl rfl)
theorem dX9_next_231 : decode cX9_next 231 = .ok (.aload_n 0, 1) := dk_42 (dk_at dksX9_next_9 16 rfl rfl)
theorem dX9_next_232 : decode cX9_next 232 = .ok (.getfield 28, 3) := dk_180 0 28 (dk_at dksX9_next_9 17 rfl rfl)
theorem dX9_next_235 : decode cX9_next 235 = .ok (.iload_n 1, 1) := dk_27 (dk_at dksX9_next_9 20 rfl rfl)
theorem dX9_next_236 : decode cX9_next 236 = .ok (.iaload, 1) := dk_46 (dk_at dksX9_next_9 21 rfl rfl)
theorem dX9_next_237 : decode cX9_next 237 = .ok (.iadd, 1) := dk_96 (dk_at dksX9_next_9 22 rfl rfl)
theorem dX9_next_238 : decode cX9_next 238 = .ok (.bipush 48, 2) := dk_16 48 (dk_at dksX9_next_10 0 rfl rfl)
theorem dX9_next_240 : decode cX9_next 240 = .ok (.isub, 1) := dk_100 (dk_at dksX9_next_10 2 rfl rfl)
theorem dX9_next_241 : decode cX9_next 241 = .ok (.putfield 176, 3) := dk_181 0 176 (dk_at dksX9_next_10 3 rfl rfl)
theorem dX9_next_244 : decode cX9_next 244 = .ok (.iinc 1 1, 3) := dk_132 1 1 (dk_at dksX9_next_10 6 rfl rfl)
theorem dX9_next_247 : decode cX9_next 247 = .ok (.goto (-40), 3) := dk_167 255 216 (dk_at dksX9_next_10 9 rfl rfl)
theorem dX9_next_250 : decode cX9_next 250 = .ok (.return_, 1) := dk_177 (dk_at dksX9_next_10 12 rfl rfl)
abbrev cX9_sortOf : ByteArray := prog_11_method_54_code
def yX9_sortOf : MethodName := ⟨RX9, "sortOf", "(I)I"⟩
def dkwX9_sortOf_2 : List UInt8 := [160, 0, 7, 7, 167, 0, 15, 26, 16, 41, 160, 0, 7, 8, 167, 0, 5, 16, 6, 172]
abbrev dktX9_sortOf_2 : List UInt8 := dkwX9_sortOf_2 ++ []
def dkwX9_sortOf_1 : List UInt8 := [167, 0, 41, 26, 16, 48, 161, 0, 13, 26, 16, 57, 163, 0, 7, 6, 167, 0, 25, 26, 16, 40]
abbrev dktX9_sortOf_1 : List UInt8 := dkwX9_sortOf_1 ++ dktX9_sortOf_2
def dkwX9_sortOf_0 : List UInt8 := [26, 16, 59, 160, 0, 7, 4, 167, 0, 57, 26, 16, 97, 161, 0, 13, 26, 16, 122, 163, 0, 7, 5]
abbrev dktX9_sortOf_0 : List UInt8 := dkwX9_sortOf_0 ++ dktX9_sortOf_1
theorem dksX9_sortOf_0 : cX9_sortOf.data.toList.drop 0 = dktX9_sortOf_0 := by decide +kernel
theorem dksX9_sortOf_1 : cX9_sortOf.data.toList.drop 23 = dktX9_sortOf_1 := dk_seg dksX9_sortOf_0 23 rfl rfl
theorem dksX9_sortOf_2 : cX9_sortOf.data.toList.drop 45 = dktX9_sortOf_2 := dk_seg dksX9_sortOf_1 22 rfl rfl
theorem dX9_sortOf_0 : decode cX9_sortOf 0 = .ok (.iload_n 0, 1) := dk_26 (dk_at dksX9_sortOf_0 0 rfl rfl)
theorem dX9_sortOf_1 : decode cX9_sortOf 1 = .ok (.bipush 59, 2) := dk_16 59 (dk_at dksX9_sortOf_0 1 rfl rfl)
theorem dX9_sortOf_3 : decode cX9_sortOf 3 = .ok (.if_icmp .ne 7, 3) := dk_160 0 7 (dk_at dksX9_sortOf_0 3 rfl rfl)
theorem dX9_sortOf_6 : decode cX9_sortOf 6 = .ok (.iconst 1, 1) := dk_4 (dk_at dksX9_sortOf_0 6 rfl rfl)
theorem dX9_sortOf_7 : decode cX9_sortOf 7 = .ok (.goto 57, 3) := dk_167 0 57 (dk_at dksX9_sortOf_0 7 rfl rfl)
theorem dX9_sortOf_10 : decode cX9_sortOf 10 = .ok (.iload_n 0, 1) := dk_26 (dk_at dksX9_sortOf_0 10 rfl rfl)
theorem dX9_sortOf_11 : decode cX9_sortOf 11 = .ok (.bipush 97, 2) := dk_16 97 (dk_at dksX9_sortOf_0 11 rfl rfl)
theorem dX9_sortOf_13 : decode cX9_sortOf 13 = .ok (.if_icmp .lt 13, 3) := dk_161 0 13 (dk_at dksX9_sortOf_0 13 rfl rfl)
theorem dX9_sortOf_16 : decode cX9_sortOf 16 = .ok (.iload_n 0, 1) := dk_26 (dk_at dksX9_sortOf_0 16 rfl rfl)
theorem dX9_sortOf_17 : decode cX9_sortOf 17 = .ok (.bipush 122, 2) := dk_16 122 (dk_at dksX9_sortOf_0 17 rfl rfl)
theorem dX9_sortOf_19 : decode cX9_sortOf 19 = .ok (.if_icmp .gt 7, 3) := dk_163 0 7 (dk_at dksX9_sortOf_0 19 rfl rfl)
theorem dX9_sortOf_22 : decode cX9_sortOf 22 = .ok (.iconst 2, 1) := dk_5 (dk_at dksX9_sortOf_0 22 rfl rfl)
theorem dX9_sortOf_23 : decode cX9_sortOf 23 = .ok (.goto 41, 3) := dk_167 0 41 (dk_at dksX9_sortOf_1 0 rfl rfl)
theorem dX9_sortOf_26 : decode cX9_sortOf 26 = .ok (.iload_n 0, 1) := dk_26 (dk_at dksX9_sortOf_1 3 rfl rfl)
theorem dX9_sortOf_27 : decode cX9_sortOf 27 = .ok (.bipush 48, 2) := dk_16 48 (dk_at dksX9_sortOf_1 4 rfl rfl)
theorem dX9_sortOf_29 : decode cX9_sortOf 29 = .ok (.if_icmp .lt 13, 3) := dk_161 0 13 (dk_at dksX9_sortOf_1 6 rfl rfl)
theorem dX9_sortOf_32 : decode cX9_sortOf 32 = .ok (.iload_n 0, 1) := dk_26 (dk_at dksX9_sortOf_1 9 rfl rfl)
theorem dX9_sortOf_33 : decode cX9_sortOf 33 = .ok (.bipush 57, 2) := dk_16 57 (dk_at dksX9_sortOf_1 10 rfl rfl)
theorem dX9_sortOf_35 : decode cX9_sortOf 35 = .ok (.if_icmp .gt 7, 3) := dk_163 0 7 (dk_at dksX9_sortOf_1 12 rfl rfl)
theorem dX9_sortOf_38 : decode cX9_sortOf 38 = .ok (.iconst 3, 1) := dk_6 (dk_at dksX9_sortOf_1 15 rfl rfl)
theorem dX9_sortOf_39 : decode cX9_sortOf 39 = .ok (.goto 25, 3) := dk_167 0 25 (dk_at dksX9_sortOf_1 16 rfl rfl)
theorem dX9_sortOf_42 : decode cX9_sortOf 42 = .ok (.iload_n 0, 1) := dk_26 (dk_at dksX9_sortOf_1 19 rfl rfl)
theorem dX9_sortOf_43 : decode cX9_sortOf 43 = .ok (.bipush 40, 2) := dk_16 40 (dk_at dksX9_sortOf_1 20 rfl rfl)
theorem dX9_sortOf_45 : decode cX9_sortOf 45 = .ok (.if_icmp .ne 7, 3) := dk_160 0 7 (dk_at dksX9_sortOf_2 0 rfl rfl)
theorem dX9_sortOf_48 : decode cX9_sortOf 48 = .ok (.iconst 4, 1) := dk_7 (dk_at dksX9_sortOf_2 3 rfl rfl)
theorem dX9_sortOf_49 : decode cX9_sortOf 49 = .ok (.goto 15, 3) := dk_167 0 15 (dk_at dksX9_sortOf_2 4 rfl rfl)
theorem dX9_sortOf_52 : decode cX9_sortOf 52 = .ok (.iload_n 0, 1) := dk_26 (dk_at dksX9_sortOf_2 7 rfl rfl)
theorem dX9_sortOf_53 : decode cX9_sortOf 53 = .ok (.bipush 41, 2) := dk_16 41 (dk_at dksX9_sortOf_2 8 rfl rfl)
theorem dX9_sortOf_55 : decode cX9_sortOf 55 = .ok (.if_icmp .ne 7, 3) := dk_160 0 7 (dk_at dksX9_sortOf_2 10 rfl rfl)
theorem dX9_sortOf_58 : decode cX9_sortOf 58 = .ok (.iconst 5, 1) := dk_8 (dk_at dksX9_sortOf_2 13 rfl rfl)
theorem dX9_sortOf_59 : decode cX9_sortOf 59 = .ok (.goto 5, 3) := dk_167 0 5 (dk_at dksX9_sortOf_2 14 rfl rfl)
theorem dX9_sortOf_62 : decode cX9_sortOf 62 = .ok (.bipush 6, 2) := dk_16 6 (dk_at dksX9_sortOf_2 17 rfl rfl)
theorem dX9_sortOf_64 : decode cX9_sortOf 64 = .ok (.ireturn, 1) := dk_172 (dk_at dksX9_sortOf_2 19 rfl rfl)
abbrev cX9_readsAll : ByteArray := prog_11_method_81_code
def yX9_readsAll : MethodName := ⟨RX9, "readsAll", "()Z"⟩
def dkwX9_readsAll_2 : List UInt8 := [154, 0, 5, 3, 172, 42, 182, 0, 188, 167, 255, 235, 4, 172]
abbrev dktX9_readsAll_2 : List UInt8 := dkwX9_readsAll_2 ++ []
def dkwX9_readsAll_1 : List UInt8 := [182, 0, 185, 154, 0, 5, 3, 172, 42, 182, 0, 188, 42, 180, 0, 170, 153, 0, 20, 42, 3, 182, 1, 8]
abbrev dktX9_readsAll_1 : List UInt8 := dkwX9_readsAll_1 ++ dktX9_readsAll_2
def dkwX9_readsAll_0 : List UInt8 := [42, 19, 1, 88, 182, 1, 13, 154, 0, 9, 42, 4, 182, 0, 182, 172, 42, 182, 0, 188, 42, 4]
abbrev dktX9_readsAll_0 : List UInt8 := dkwX9_readsAll_0 ++ dktX9_readsAll_1
theorem dksX9_readsAll_0 : cX9_readsAll.data.toList.drop 0 = dktX9_readsAll_0 := by decide +kernel
theorem dksX9_readsAll_1 : cX9_readsAll.data.toList.drop 22 = dktX9_readsAll_1 := dk_seg dksX9_readsAll_0 22 rfl rfl
theorem dksX9_readsAll_2 : cX9_readsAll.data.toList.drop 46 = dktX9_readsAll_2 := dk_seg dksX9_readsAll_1 24 rfl rfl
theorem dX9_readsAll_0 : decode cX9_readsAll 0 = .ok (.aload_n 0, 1) := dk_42 (dk_at dksX9_readsAll_0 0 rfl rfl)
theorem dX9_readsAll_1 : decode cX9_readsAll 1 = .ok (.ldc_w 344, 3) := dk_19 1 88 (dk_at dksX9_readsAll_0 1 rfl rfl)
theorem dX9_readsAll_4 : decode cX9_readsAll 4 = .ok (.invokevirtual 269, 3) := dk_182 1 13 (dk_at dksX9_readsAll_0 4 rfl rfl)
theorem dX9_readsAll_7 : decode cX9_readsAll 7 = .ok (.ifCond .ne 9, 3) := dk_154 0 9 (dk_at dksX9_readsAll_0 7 rfl rfl)
theorem dX9_readsAll_10 : decode cX9_readsAll 10 = .ok (.aload_n 0, 1) := dk_42 (dk_at dksX9_readsAll_0 10 rfl rfl)
theorem dX9_readsAll_11 : decode cX9_readsAll 11 = .ok (.iconst 1, 1) := dk_4 (dk_at dksX9_readsAll_0 11 rfl rfl)
theorem dX9_readsAll_12 : decode cX9_readsAll 12 = .ok (.invokevirtual 182, 3) := dk_182 0 182 (dk_at dksX9_readsAll_0 12 rfl rfl)
theorem dX9_readsAll_15 : decode cX9_readsAll 15 = .ok (.ireturn, 1) := dk_172 (dk_at dksX9_readsAll_0 15 rfl rfl)
theorem dX9_readsAll_16 : decode cX9_readsAll 16 = .ok (.aload_n 0, 1) := dk_42 (dk_at dksX9_readsAll_0 16 rfl rfl)
theorem dX9_readsAll_17 : decode cX9_readsAll 17 = .ok (.invokevirtual 188, 3) := dk_182 0 188 (dk_at dksX9_readsAll_0 17 rfl rfl)
theorem dX9_readsAll_20 : decode cX9_readsAll 20 = .ok (.aload_n 0, 1) := dk_42 (dk_at dksX9_readsAll_0 20 rfl rfl)
theorem dX9_readsAll_21 : decode cX9_readsAll 21 = .ok (.iconst 1, 1) := dk_4 (dk_at dksX9_readsAll_0 21 rfl rfl)
theorem dX9_readsAll_22 : decode cX9_readsAll 22 = .ok (.invokevirtual 185, 3) := dk_182 0 185 (dk_at dksX9_readsAll_1 0 rfl rfl)
theorem dX9_readsAll_25 : decode cX9_readsAll 25 = .ok (.ifCond .ne 5, 3) := dk_154 0 5 (dk_at dksX9_readsAll_1 3 rfl rfl)
theorem dX9_readsAll_28 : decode cX9_readsAll 28 = .ok (.iconst 0, 1) := dk_3 (dk_at dksX9_readsAll_1 6 rfl rfl)
theorem dX9_readsAll_29 : decode cX9_readsAll 29 = .ok (.ireturn, 1) := dk_172 (dk_at dksX9_readsAll_1 7 rfl rfl)
theorem dX9_readsAll_30 : decode cX9_readsAll 30 = .ok (.aload_n 0, 1) := dk_42 (dk_at dksX9_readsAll_1 8 rfl rfl)
theorem dX9_readsAll_31 : decode cX9_readsAll 31 = .ok (.invokevirtual 188, 3) := dk_182 0 188 (dk_at dksX9_readsAll_1 9 rfl rfl)
theorem dX9_readsAll_34 : decode cX9_readsAll 34 = .ok (.aload_n 0, 1) := dk_42 (dk_at dksX9_readsAll_1 12 rfl rfl)
theorem dX9_readsAll_35 : decode cX9_readsAll 35 = .ok (.getfield 170, 3) := dk_180 0 170 (dk_at dksX9_readsAll_1 13 rfl rfl)
theorem dX9_readsAll_38 : decode cX9_readsAll 38 = .ok (.ifCond .eq 20, 3) := dk_153 0 20 (dk_at dksX9_readsAll_1 16 rfl rfl)
theorem dX9_readsAll_41 : decode cX9_readsAll 41 = .ok (.aload_n 0, 1) := dk_42 (dk_at dksX9_readsAll_1 19 rfl rfl)
theorem dX9_readsAll_42 : decode cX9_readsAll 42 = .ok (.iconst 0, 1) := dk_3 (dk_at dksX9_readsAll_1 20 rfl rfl)
theorem dX9_readsAll_43 : decode cX9_readsAll 43 = .ok (.invokevirtual 264, 3) := dk_182 1 8 (dk_at dksX9_readsAll_1 21 rfl rfl)
theorem dX9_readsAll_46 : decode cX9_readsAll 46 = .ok (.ifCond .ne 5, 3) := dk_154 0 5 (dk_at dksX9_readsAll_2 0 rfl rfl)
theorem dX9_readsAll_49 : decode cX9_readsAll 49 = .ok (.iconst 0, 1) := dk_3 (dk_at dksX9_readsAll_2 3 rfl rfl)
theorem dX9_readsAll_50 : decode cX9_readsAll 50 = .ok (.ireturn, 1) := dk_172 (dk_at dksX9_readsAll_2 4 rfl rfl)
theorem dX9_readsAll_51 : decode cX9_readsAll 51 = .ok (.aload_n 0, 1) := dk_42 (dk_at dksX9_readsAll_2 5 rfl rfl)
theorem dX9_readsAll_52 : decode cX9_readsAll 52 = .ok (.invokevirtual 188, 3) := dk_182 0 188 (dk_at dksX9_readsAll_2 6 rfl rfl)
theorem dX9_readsAll_55 : decode cX9_readsAll 55 = .ok (.goto (-21), 3) := dk_167 255 235 (dk_at dksX9_readsAll_2 9 rfl rfl)
theorem dX9_readsAll_58 : decode cX9_readsAll 58 = .ok (.iconst 1, 1) := dk_4 (dk_at dksX9_readsAll_2 12 rfl rfl)
theorem dX9_readsAll_59 : decode cX9_readsAll 59 = .ok (.ireturn, 1) := dk_172 (dk_at dksX9_readsAll_2 13 rfl rfl)
abbrev cX9_says : ByteArray := prog_11_method_56_code
def yX9_says : MethodName := ⟨RX9, "says", "(Ljava/lang/String;)Z"⟩
def dkwX9_says_2 : List UInt8 := [28, 182, 0, 160, 159, 0, 5, 3, 172, 132, 2, 1, 167, 255, 224, 4, 172]
abbrev dktX9_says_2 : List UInt8 := dkwX9_says_2 ++ []
def dkwX9_says_1 : List UInt8 := [3, 172, 3, 61, 28, 43, 182, 0, 152, 162, 0, 30, 42, 180, 0, 28, 42, 180, 0, 167, 28, 96, 46, 43]
abbrev dktX9_says_1 : List UInt8 := dkwX9_says_1 ++ dktX9_says_2
def dkwX9_says_0 : List UInt8 := [42, 180, 0, 170, 5, 160, 0, 19, 42, 180, 0, 164, 42, 180, 0, 167, 100, 43, 182, 0, 152, 159, 0, 5]
abbrev dktX9_says_0 : List UInt8 := dkwX9_says_0 ++ dktX9_says_1
theorem dksX9_says_0 : cX9_says.data.toList.drop 0 = dktX9_says_0 := by decide +kernel
theorem dksX9_says_1 : cX9_says.data.toList.drop 24 = dktX9_says_1 := dk_seg dksX9_says_0 24 rfl rfl
theorem dksX9_says_2 : cX9_says.data.toList.drop 48 = dktX9_says_2 := dk_seg dksX9_says_1 24 rfl rfl
theorem dX9_says_0 : decode cX9_says 0 = .ok (.aload_n 0, 1) := dk_42 (dk_at dksX9_says_0 0 rfl rfl)
theorem dX9_says_1 : decode cX9_says 1 = .ok (.getfield 170, 3) := dk_180 0 170 (dk_at dksX9_says_0 1 rfl rfl)
theorem dX9_says_4 : decode cX9_says 4 = .ok (.iconst 2, 1) := dk_5 (dk_at dksX9_says_0 4 rfl rfl)
theorem dX9_says_5 : decode cX9_says 5 = .ok (.if_icmp .ne 19, 3) := dk_160 0 19 (dk_at dksX9_says_0 5 rfl rfl)
theorem dX9_says_8 : decode cX9_says 8 = .ok (.aload_n 0, 1) := dk_42 (dk_at dksX9_says_0 8 rfl rfl)
theorem dX9_says_9 : decode cX9_says 9 = .ok (.getfield 164, 3) := dk_180 0 164 (dk_at dksX9_says_0 9 rfl rfl)
theorem dX9_says_12 : decode cX9_says 12 = .ok (.aload_n 0, 1) := dk_42 (dk_at dksX9_says_0 12 rfl rfl)
theorem dX9_says_13 : decode cX9_says 13 = .ok (.getfield 167, 3) := dk_180 0 167 (dk_at dksX9_says_0 13 rfl rfl)
theorem dX9_says_16 : decode cX9_says 16 = .ok (.isub, 1) := dk_100 (dk_at dksX9_says_0 16 rfl rfl)
theorem dX9_says_17 : decode cX9_says 17 = .ok (.aload_n 1, 1) := dk_43 (dk_at dksX9_says_0 17 rfl rfl)
theorem dX9_says_18 : decode cX9_says 18 = .ok (.invokevirtual 152, 3) := dk_182 0 152 (dk_at dksX9_says_0 18 rfl rfl)
theorem dX9_says_21 : decode cX9_says 21 = .ok (.if_icmp .eq 5, 3) := dk_159 0 5 (dk_at dksX9_says_0 21 rfl rfl)
theorem dX9_says_24 : decode cX9_says 24 = .ok (.iconst 0, 1) := dk_3 (dk_at dksX9_says_1 0 rfl rfl)
theorem dX9_says_25 : decode cX9_says 25 = .ok (.ireturn, 1) := dk_172 (dk_at dksX9_says_1 1 rfl rfl)
theorem dX9_says_26 : decode cX9_says 26 = .ok (.iconst 0, 1) := dk_3 (dk_at dksX9_says_1 2 rfl rfl)
theorem dX9_says_27 : decode cX9_says 27 = .ok (.istore_n 2, 1) := dk_61 (dk_at dksX9_says_1 3 rfl rfl)
theorem dX9_says_28 : decode cX9_says 28 = .ok (.iload_n 2, 1) := dk_28 (dk_at dksX9_says_1 4 rfl rfl)
theorem dX9_says_29 : decode cX9_says 29 = .ok (.aload_n 1, 1) := dk_43 (dk_at dksX9_says_1 5 rfl rfl)
theorem dX9_says_30 : decode cX9_says 30 = .ok (.invokevirtual 152, 3) := dk_182 0 152 (dk_at dksX9_says_1 6 rfl rfl)
theorem dX9_says_33 : decode cX9_says 33 = .ok (.if_icmp .ge 30, 3) := dk_162 0 30 (dk_at dksX9_says_1 9 rfl rfl)
theorem dX9_says_36 : decode cX9_says 36 = .ok (.aload_n 0, 1) := dk_42 (dk_at dksX9_says_1 12 rfl rfl)
theorem dX9_says_37 : decode cX9_says 37 = .ok (.getfield 28, 3) := dk_180 0 28 (dk_at dksX9_says_1 13 rfl rfl)
theorem dX9_says_40 : decode cX9_says 40 = .ok (.aload_n 0, 1) := dk_42 (dk_at dksX9_says_1 16 rfl rfl)
theorem dX9_says_41 : decode cX9_says 41 = .ok (.getfield 167, 3) := dk_180 0 167 (dk_at dksX9_says_1 17 rfl rfl)
theorem dX9_says_44 : decode cX9_says 44 = .ok (.iload_n 2, 1) := dk_28 (dk_at dksX9_says_1 20 rfl rfl)
theorem dX9_says_45 : decode cX9_says 45 = .ok (.iadd, 1) := dk_96 (dk_at dksX9_says_1 21 rfl rfl)
theorem dX9_says_46 : decode cX9_says 46 = .ok (.iaload, 1) := dk_46 (dk_at dksX9_says_1 22 rfl rfl)
theorem dX9_says_47 : decode cX9_says 47 = .ok (.aload_n 1, 1) := dk_43 (dk_at dksX9_says_1 23 rfl rfl)
theorem dX9_says_48 : decode cX9_says 48 = .ok (.iload_n 2, 1) := dk_28 (dk_at dksX9_says_2 0 rfl rfl)
theorem dX9_says_49 : decode cX9_says 49 = .ok (.invokevirtual 160, 3) := dk_182 0 160 (dk_at dksX9_says_2 1 rfl rfl)
theorem dX9_says_52 : decode cX9_says 52 = .ok (.if_icmp .eq 5, 3) := dk_159 0 5 (dk_at dksX9_says_2 4 rfl rfl)
theorem dX9_says_55 : decode cX9_says 55 = .ok (.iconst 0, 1) := dk_3 (dk_at dksX9_says_2 7 rfl rfl)
theorem dX9_says_56 : decode cX9_says 56 = .ok (.ireturn, 1) := dk_172 (dk_at dksX9_says_2 8 rfl rfl)
theorem dX9_says_57 : decode cX9_says 57 = .ok (.iinc 2 1, 3) := dk_132 2 1 (dk_at dksX9_says_2 9 rfl rfl)
theorem dX9_says_60 : decode cX9_says 60 = .ok (.goto (-32), 3) := dk_167 255 224 (dk_at dksX9_says_2 12 rfl rfl)
theorem dX9_says_63 : decode cX9_says 63 = .ok (.iconst 1, 1) := dk_4 (dk_at dksX9_says_2 15 rfl rfl)
theorem dX9_says_64 : decode cX9_says 64 = .ok (.ireturn, 1) := dk_172 (dk_at dksX9_says_2 16 rfl rfl)
abbrev cX9_fail : ByteArray := prog_11_method_57_code
def yX9_fail : MethodName := ⟨RX9, "fail", "(I)Z"⟩
def dkwX9_fail_0 : List UInt8 := [42, 180, 0, 179, 154, 0, 16, 42, 27, 181, 0, 179, 42, 42, 180, 0, 167, 181, 0, 34, 3, 172]
abbrev dktX9_fail_0 : List UInt8 := dkwX9_fail_0 ++ []
theorem dksX9_fail_0 : cX9_fail.data.toList.drop 0 = dktX9_fail_0 := by decide +kernel
theorem dX9_fail_0 : decode cX9_fail 0 = .ok (.aload_n 0, 1) := dk_42 (dk_at dksX9_fail_0 0 rfl rfl)
theorem dX9_fail_1 : decode cX9_fail 1 = .ok (.getfield 179, 3) := dk_180 0 179 (dk_at dksX9_fail_0 1 rfl rfl)
theorem dX9_fail_4 : decode cX9_fail 4 = .ok (.ifCond .ne 16, 3) := dk_154 0 16 (dk_at dksX9_fail_0 4 rfl rfl)
theorem dX9_fail_7 : decode cX9_fail 7 = .ok (.aload_n 0, 1) := dk_42 (dk_at dksX9_fail_0 7 rfl rfl)
theorem dX9_fail_8 : decode cX9_fail 8 = .ok (.iload_n 1, 1) := dk_27 (dk_at dksX9_fail_0 8 rfl rfl)
theorem dX9_fail_9 : decode cX9_fail 9 = .ok (.putfield 179, 3) := dk_181 0 179 (dk_at dksX9_fail_0 9 rfl rfl)
theorem dX9_fail_12 : decode cX9_fail 12 = .ok (.aload_n 0, 1) := dk_42 (dk_at dksX9_fail_0 12 rfl rfl)
theorem dX9_fail_13 : decode cX9_fail 13 = .ok (.aload_n 0, 1) := dk_42 (dk_at dksX9_fail_0 13 rfl rfl)
theorem dX9_fail_14 : decode cX9_fail 14 = .ok (.getfield 167, 3) := dk_180 0 167 (dk_at dksX9_fail_0 14 rfl rfl)
theorem dX9_fail_17 : decode cX9_fail 17 = .ok (.putfield 34, 3) := dk_181 0 34 (dk_at dksX9_fail_0 17 rfl rfl)
theorem dX9_fail_20 : decode cX9_fail 20 = .ok (.iconst 0, 1) := dk_3 (dk_at dksX9_fail_0 20 rfl rfl)
theorem dX9_fail_21 : decode cX9_fail 21 = .ok (.ireturn, 1) := dk_172 (dk_at dksX9_fail_0 21 rfl rfl)
abbrev cX9_is : ByteArray := prog_11_method_58_code
def yX9_is : MethodName := ⟨RX9, "is", "(I)Z"⟩
def dkwX9_is_0 : List UInt8 := [42, 180, 0, 170, 27, 159, 0, 11, 42, 4, 182, 0, 182, 153, 0, 7, 4, 167, 0, 4, 3, 172]
abbrev dktX9_is_0 : List UInt8 := dkwX9_is_0 ++ []
theorem dksX9_is_0 : cX9_is.data.toList.drop 0 = dktX9_is_0 := by decide +kernel
theorem dX9_is_0 : decode cX9_is 0 = .ok (.aload_n 0, 1) := dk_42 (dk_at dksX9_is_0 0 rfl rfl)
theorem dX9_is_1 : decode cX9_is 1 = .ok (.getfield 170, 3) := dk_180 0 170 (dk_at dksX9_is_0 1 rfl rfl)
theorem dX9_is_4 : decode cX9_is 4 = .ok (.iload_n 1, 1) := dk_27 (dk_at dksX9_is_0 4 rfl rfl)
theorem dX9_is_5 : decode cX9_is 5 = .ok (.if_icmp .eq 11, 3) := dk_159 0 11 (dk_at dksX9_is_0 5 rfl rfl)
theorem dX9_is_8 : decode cX9_is 8 = .ok (.aload_n 0, 1) := dk_42 (dk_at dksX9_is_0 8 rfl rfl)
theorem dX9_is_9 : decode cX9_is 9 = .ok (.iconst 1, 1) := dk_4 (dk_at dksX9_is_0 9 rfl rfl)
theorem dX9_is_10 : decode cX9_is 10 = .ok (.invokevirtual 182, 3) := dk_182 0 182 (dk_at dksX9_is_0 10 rfl rfl)
theorem dX9_is_13 : decode cX9_is 13 = .ok (.ifCond .eq 7, 3) := dk_153 0 7 (dk_at dksX9_is_0 13 rfl rfl)
theorem dX9_is_16 : decode cX9_is 16 = .ok (.iconst 1, 1) := dk_4 (dk_at dksX9_is_0 16 rfl rfl)
theorem dX9_is_17 : decode cX9_is 17 = .ok (.goto 4, 3) := dk_167 0 4 (dk_at dksX9_is_0 17 rfl rfl)
theorem dX9_is_20 : decode cX9_is 20 = .ok (.iconst 0, 1) := dk_3 (dk_at dksX9_is_0 20 rfl rfl)
theorem dX9_is_21 : decode cX9_is 21 = .ok (.ireturn, 1) := dk_172 (dk_at dksX9_is_0 21 rfl rfl)
abbrev cX9_readsCommand : ByteArray := prog_11_method_79_code
def yX9_readsCommand : MethodName := ⟨RX9, "readsCommand", "(I)Z"⟩
def dkwX9_readsCommand_3 : List UInt8 := [182, 0, 188, 42, 28, 182, 1, 52, 172]
abbrev dktX9_readsCommand_3 : List UInt8 := dkwX9_readsCommand_3 ++ []
def dkwX9_readsCommand_2 : List UInt8 := [17, 0, 200, 160, 0, 9, 42, 8, 182, 0, 182, 172, 42, 89, 180, 1, 49, 4, 96, 181, 1, 49, 42]
abbrev dktX9_readsCommand_2 : List UInt8 := dkwX9_readsCommand_2 ++ dktX9_readsCommand_3
def dkwX9_readsCommand_1 : List UInt8 := [160, 0, 9, 42, 7, 182, 0, 182, 172, 42, 182, 0, 188, 42, 27, 182, 1, 46, 172, 42, 180, 1, 49]
abbrev dktX9_readsCommand_1 : List UInt8 := dkwX9_readsCommand_1 ++ dktX9_readsCommand_2
def dkwX9_readsCommand_0 : List UInt8 := [42, 182, 1, 43, 61, 28, 2, 160, 0, 9, 42, 4, 182, 0, 182, 172, 28, 16, 12, 160, 0, 24, 27, 5]
abbrev dktX9_readsCommand_0 : List UInt8 := dkwX9_readsCommand_0 ++ dktX9_readsCommand_1
theorem dksX9_readsCommand_0 : cX9_readsCommand.data.toList.drop 0 = dktX9_readsCommand_0 := by decide +kernel
theorem dksX9_readsCommand_1 : cX9_readsCommand.data.toList.drop 24 = dktX9_readsCommand_1 := dk_seg dksX9_readsCommand_0 24 rfl rfl
theorem dksX9_readsCommand_2 : cX9_readsCommand.data.toList.drop 47 = dktX9_readsCommand_2 := dk_seg dksX9_readsCommand_1 23 rfl rfl
theorem dksX9_readsCommand_3 : cX9_readsCommand.data.toList.drop 70 = dktX9_readsCommand_3 := dk_seg dksX9_readsCommand_2 23 rfl rfl
theorem dX9_readsCommand_0 : decode cX9_readsCommand 0 = .ok (.aload_n 0, 1) := dk_42 (dk_at dksX9_readsCommand_0 0 rfl rfl)
theorem dX9_readsCommand_1 : decode cX9_readsCommand 1 = .ok (.invokevirtual 299, 3) := dk_182 1 43 (dk_at dksX9_readsCommand_0 1 rfl rfl)
theorem dX9_readsCommand_4 : decode cX9_readsCommand 4 = .ok (.istore_n 2, 1) := dk_61 (dk_at dksX9_readsCommand_0 4 rfl rfl)
theorem dX9_readsCommand_5 : decode cX9_readsCommand 5 = .ok (.iload_n 2, 1) := dk_28 (dk_at dksX9_readsCommand_0 5 rfl rfl)
theorem dX9_readsCommand_6 : decode cX9_readsCommand 6 = .ok (.iconst (-1), 1) := dk_2 (dk_at dksX9_readsCommand_0 6 rfl rfl)
theorem dX9_readsCommand_7 : decode cX9_readsCommand 7 = .ok (.if_icmp .ne 9, 3) := dk_160 0 9 (dk_at dksX9_readsCommand_0 7 rfl rfl)
theorem dX9_readsCommand_10 : decode cX9_readsCommand 10 = .ok (.aload_n 0, 1) := dk_42 (dk_at dksX9_readsCommand_0 10 rfl rfl)
theorem dX9_readsCommand_11 : decode cX9_readsCommand 11 = .ok (.iconst 1, 1) := dk_4 (dk_at dksX9_readsCommand_0 11 rfl rfl)
theorem dX9_readsCommand_12 : decode cX9_readsCommand 12 = .ok (.invokevirtual 182, 3) := dk_182 0 182 (dk_at dksX9_readsCommand_0 12 rfl rfl)
theorem dX9_readsCommand_15 : decode cX9_readsCommand 15 = .ok (.ireturn, 1) := dk_172 (dk_at dksX9_readsCommand_0 15 rfl rfl)
theorem dX9_readsCommand_16 : decode cX9_readsCommand 16 = .ok (.iload_n 2, 1) := dk_28 (dk_at dksX9_readsCommand_0 16 rfl rfl)
theorem dX9_readsCommand_17 : decode cX9_readsCommand 17 = .ok (.bipush 12, 2) := dk_16 12 (dk_at dksX9_readsCommand_0 17 rfl rfl)
theorem dX9_readsCommand_19 : decode cX9_readsCommand 19 = .ok (.if_icmp .ne 24, 3) := dk_160 0 24 (dk_at dksX9_readsCommand_0 19 rfl rfl)
theorem dX9_readsCommand_22 : decode cX9_readsCommand 22 = .ok (.iload_n 1, 1) := dk_27 (dk_at dksX9_readsCommand_0 22 rfl rfl)
theorem dX9_readsCommand_23 : decode cX9_readsCommand 23 = .ok (.iconst 2, 1) := dk_5 (dk_at dksX9_readsCommand_0 23 rfl rfl)
theorem dX9_readsCommand_24 : decode cX9_readsCommand 24 = .ok (.if_icmp .ne 9, 3) := dk_160 0 9 (dk_at dksX9_readsCommand_1 0 rfl rfl)
theorem dX9_readsCommand_27 : decode cX9_readsCommand 27 = .ok (.aload_n 0, 1) := dk_42 (dk_at dksX9_readsCommand_1 3 rfl rfl)
theorem dX9_readsCommand_28 : decode cX9_readsCommand 28 = .ok (.iconst 4, 1) := dk_7 (dk_at dksX9_readsCommand_1 4 rfl rfl)
theorem dX9_readsCommand_29 : decode cX9_readsCommand 29 = .ok (.invokevirtual 182, 3) := dk_182 0 182 (dk_at dksX9_readsCommand_1 5 rfl rfl)
theorem dX9_readsCommand_32 : decode cX9_readsCommand 32 = .ok (.ireturn, 1) := dk_172 (dk_at dksX9_readsCommand_1 8 rfl rfl)
theorem dX9_readsCommand_33 : decode cX9_readsCommand 33 = .ok (.aload_n 0, 1) := dk_42 (dk_at dksX9_readsCommand_1 9 rfl rfl)
theorem dX9_readsCommand_34 : decode cX9_readsCommand 34 = .ok (.invokevirtual 188, 3) := dk_182 0 188 (dk_at dksX9_readsCommand_1 10 rfl rfl)
theorem dX9_readsCommand_37 : decode cX9_readsCommand 37 = .ok (.aload_n 0, 1) := dk_42 (dk_at dksX9_readsCommand_1 13 rfl rfl)
theorem dX9_readsCommand_38 : decode cX9_readsCommand 38 = .ok (.iload_n 1, 1) := dk_27 (dk_at dksX9_readsCommand_1 14 rfl rfl)
theorem dX9_readsCommand_39 : decode cX9_readsCommand 39 = .ok (.invokevirtual 302, 3) := dk_182 1 46 (dk_at dksX9_readsCommand_1 15 rfl rfl)
theorem dX9_readsCommand_42 : decode cX9_readsCommand 42 = .ok (.ireturn, 1) := dk_172 (dk_at dksX9_readsCommand_1 18 rfl rfl)
theorem dX9_readsCommand_43 : decode cX9_readsCommand 43 = .ok (.aload_n 0, 1) := dk_42 (dk_at dksX9_readsCommand_1 19 rfl rfl)
theorem dX9_readsCommand_44 : decode cX9_readsCommand 44 = .ok (.getfield 305, 3) := dk_180 1 49 (dk_at dksX9_readsCommand_1 20 rfl rfl)
theorem dX9_readsCommand_47 : decode cX9_readsCommand 47 = .ok (.sipush 200, 3) := dk_17 0 200 (dk_at dksX9_readsCommand_2 0 rfl rfl)
theorem dX9_readsCommand_50 : decode cX9_readsCommand 50 = .ok (.if_icmp .ne 9, 3) := dk_160 0 9 (dk_at dksX9_readsCommand_2 3 rfl rfl)
theorem dX9_readsCommand_53 : decode cX9_readsCommand 53 = .ok (.aload_n 0, 1) := dk_42 (dk_at dksX9_readsCommand_2 6 rfl rfl)
theorem dX9_readsCommand_54 : decode cX9_readsCommand 54 = .ok (.iconst 5, 1) := dk_8 (dk_at dksX9_readsCommand_2 7 rfl rfl)
theorem dX9_readsCommand_55 : decode cX9_readsCommand 55 = .ok (.invokevirtual 182, 3) := dk_182 0 182 (dk_at dksX9_readsCommand_2 8 rfl rfl)
theorem dX9_readsCommand_58 : decode cX9_readsCommand 58 = .ok (.ireturn, 1) := dk_172 (dk_at dksX9_readsCommand_2 11 rfl rfl)
theorem dX9_readsCommand_59 : decode cX9_readsCommand 59 = .ok (.aload_n 0, 1) := dk_42 (dk_at dksX9_readsCommand_2 12 rfl rfl)
theorem dX9_readsCommand_60 : decode cX9_readsCommand 60 = .ok (.dup, 1) := dk_89 (dk_at dksX9_readsCommand_2 13 rfl rfl)
theorem dX9_readsCommand_61 : decode cX9_readsCommand 61 = .ok (.getfield 305, 3) := dk_180 1 49 (dk_at dksX9_readsCommand_2 14 rfl rfl)
theorem dX9_readsCommand_64 : decode cX9_readsCommand 64 = .ok (.iconst 1, 1) := dk_4 (dk_at dksX9_readsCommand_2 17 rfl rfl)
theorem dX9_readsCommand_65 : decode cX9_readsCommand 65 = .ok (.iadd, 1) := dk_96 (dk_at dksX9_readsCommand_2 18 rfl rfl)
theorem dX9_readsCommand_66 : decode cX9_readsCommand 66 = .ok (.putfield 305, 3) := dk_181 1 49 (dk_at dksX9_readsCommand_2 19 rfl rfl)
theorem dX9_readsCommand_69 : decode cX9_readsCommand 69 = .ok (.aload_n 0, 1) := dk_42 (dk_at dksX9_readsCommand_2 22 rfl rfl)
theorem dX9_readsCommand_70 : decode cX9_readsCommand 70 = .ok (.invokevirtual 188, 3) := dk_182 0 188 (dk_at dksX9_readsCommand_3 0 rfl rfl)
theorem dX9_readsCommand_73 : decode cX9_readsCommand 73 = .ok (.aload_n 0, 1) := dk_42 (dk_at dksX9_readsCommand_3 3 rfl rfl)
theorem dX9_readsCommand_74 : decode cX9_readsCommand 74 = .ok (.iload_n 2, 1) := dk_28 (dk_at dksX9_readsCommand_3 4 rfl rfl)
theorem dX9_readsCommand_75 : decode cX9_readsCommand 75 = .ok (.invokevirtual 308, 3) := dk_182 1 52 (dk_at dksX9_readsCommand_3 5 rfl rfl)
theorem dX9_readsCommand_78 : decode cX9_readsCommand 78 = .ok (.ireturn, 1) := dk_172 (dk_at dksX9_readsCommand_3 8 rfl rfl)
abbrev cX9_wordAhead : ByteArray := prog_11_method_77_code
def yX9_wordAhead : MethodName := ⟨RX9, "wordAhead", "()I"⟩
def dkwX9_wordAhead_3 : List UInt8 := [42, 19, 1, 24, 182, 1, 13, 153, 0, 7, 8, 167, 0, 7, 42, 182, 1, 26, 172]
abbrev dktX9_wordAhead_3 : List UInt8 := dkwX9_wordAhead_3 ++ []
def dkwX9_wordAhead_2 : List UInt8 := [182, 1, 13, 153, 0, 7, 6, 167, 0, 35, 42, 19, 1, 22, 182, 1, 13, 153, 0, 7, 7, 167, 0, 21]
abbrev dktX9_wordAhead_2 : List UInt8 := dkwX9_wordAhead_2 ++ dktX9_wordAhead_3
def dkwX9_wordAhead_1 : List UInt8 := [4, 167, 0, 63, 42, 19, 1, 18, 182, 1, 13, 153, 0, 7, 5, 167, 0, 49, 42, 19, 1, 20]
abbrev dktX9_wordAhead_1 : List UInt8 := dkwX9_wordAhead_1 ++ dktX9_wordAhead_2
def dkwX9_wordAhead_0 : List UInt8 := [42, 19, 1, 11, 182, 1, 13, 153, 0, 7, 3, 167, 0, 77, 42, 19, 1, 17, 182, 1, 13, 153, 0, 7]
abbrev dktX9_wordAhead_0 : List UInt8 := dkwX9_wordAhead_0 ++ dktX9_wordAhead_1
theorem dksX9_wordAhead_0 : cX9_wordAhead.data.toList.drop 0 = dktX9_wordAhead_0 := by decide +kernel
theorem dksX9_wordAhead_1 : cX9_wordAhead.data.toList.drop 24 = dktX9_wordAhead_1 := dk_seg dksX9_wordAhead_0 24 rfl rfl
theorem dksX9_wordAhead_2 : cX9_wordAhead.data.toList.drop 46 = dktX9_wordAhead_2 := dk_seg dksX9_wordAhead_1 22 rfl rfl
theorem dksX9_wordAhead_3 : cX9_wordAhead.data.toList.drop 70 = dktX9_wordAhead_3 := dk_seg dksX9_wordAhead_2 24 rfl rfl
theorem dX9_wordAhead_0 : decode cX9_wordAhead 0 = .ok (.aload_n 0, 1) := dk_42 (dk_at dksX9_wordAhead_0 0 rfl rfl)
theorem dX9_wordAhead_1 : decode cX9_wordAhead 1 = .ok (.ldc_w 267, 3) := dk_19 1 11 (dk_at dksX9_wordAhead_0 1 rfl rfl)
theorem dX9_wordAhead_4 : decode cX9_wordAhead 4 = .ok (.invokevirtual 269, 3) := dk_182 1 13 (dk_at dksX9_wordAhead_0 4 rfl rfl)
theorem dX9_wordAhead_7 : decode cX9_wordAhead 7 = .ok (.ifCond .eq 7, 3) := dk_153 0 7 (dk_at dksX9_wordAhead_0 7 rfl rfl)
theorem dX9_wordAhead_10 : decode cX9_wordAhead 10 = .ok (.iconst 0, 1) := dk_3 (dk_at dksX9_wordAhead_0 10 rfl rfl)
theorem dX9_wordAhead_11 : decode cX9_wordAhead 11 = .ok (.goto 77, 3) := dk_167 0 77 (dk_at dksX9_wordAhead_0 11 rfl rfl)
theorem dX9_wordAhead_14 : decode cX9_wordAhead 14 = .ok (.aload_n 0, 1) := dk_42 (dk_at dksX9_wordAhead_0 14 rfl rfl)
theorem dX9_wordAhead_15 : decode cX9_wordAhead 15 = .ok (.ldc_w 273, 3) := dk_19 1 17 (dk_at dksX9_wordAhead_0 15 rfl rfl)
theorem dX9_wordAhead_18 : decode cX9_wordAhead 18 = .ok (.invokevirtual 269, 3) := dk_182 1 13 (dk_at dksX9_wordAhead_0 18 rfl rfl)
theorem dX9_wordAhead_21 : decode cX9_wordAhead 21 = .ok (.ifCond .eq 7, 3) := dk_153 0 7 (dk_at dksX9_wordAhead_0 21 rfl rfl)
theorem dX9_wordAhead_24 : decode cX9_wordAhead 24 = .ok (.iconst 1, 1) := dk_4 (dk_at dksX9_wordAhead_1 0 rfl rfl)
theorem dX9_wordAhead_25 : decode cX9_wordAhead 25 = .ok (.goto 63, 3) := dk_167 0 63 (dk_at dksX9_wordAhead_1 1 rfl rfl)
theorem dX9_wordAhead_28 : decode cX9_wordAhead 28 = .ok (.aload_n 0, 1) := dk_42 (dk_at dksX9_wordAhead_1 4 rfl rfl)
theorem dX9_wordAhead_29 : decode cX9_wordAhead 29 = .ok (.ldc_w 274, 3) := dk_19 1 18 (dk_at dksX9_wordAhead_1 5 rfl rfl)
theorem dX9_wordAhead_32 : decode cX9_wordAhead 32 = .ok (.invokevirtual 269, 3) := dk_182 1 13 (dk_at dksX9_wordAhead_1 8 rfl rfl)
theorem dX9_wordAhead_35 : decode cX9_wordAhead 35 = .ok (.ifCond .eq 7, 3) := dk_153 0 7 (dk_at dksX9_wordAhead_1 11 rfl rfl)
theorem dX9_wordAhead_38 : decode cX9_wordAhead 38 = .ok (.iconst 2, 1) := dk_5 (dk_at dksX9_wordAhead_1 14 rfl rfl)
theorem dX9_wordAhead_39 : decode cX9_wordAhead 39 = .ok (.goto 49, 3) := dk_167 0 49 (dk_at dksX9_wordAhead_1 15 rfl rfl)
theorem dX9_wordAhead_42 : decode cX9_wordAhead 42 = .ok (.aload_n 0, 1) := dk_42 (dk_at dksX9_wordAhead_1 18 rfl rfl)
theorem dX9_wordAhead_43 : decode cX9_wordAhead 43 = .ok (.ldc_w 276, 3) := dk_19 1 20 (dk_at dksX9_wordAhead_1 19 rfl rfl)
theorem dX9_wordAhead_46 : decode cX9_wordAhead 46 = .ok (.invokevirtual 269, 3) := dk_182 1 13 (dk_at dksX9_wordAhead_2 0 rfl rfl)
theorem dX9_wordAhead_49 : decode cX9_wordAhead 49 = .ok (.ifCond .eq 7, 3) := dk_153 0 7 (dk_at dksX9_wordAhead_2 3 rfl rfl)
theorem dX9_wordAhead_52 : decode cX9_wordAhead 52 = .ok (.iconst 3, 1) := dk_6 (dk_at dksX9_wordAhead_2 6 rfl rfl)
theorem dX9_wordAhead_53 : decode cX9_wordAhead 53 = .ok (.goto 35, 3) := dk_167 0 35 (dk_at dksX9_wordAhead_2 7 rfl rfl)
theorem dX9_wordAhead_56 : decode cX9_wordAhead 56 = .ok (.aload_n 0, 1) := dk_42 (dk_at dksX9_wordAhead_2 10 rfl rfl)
theorem dX9_wordAhead_57 : decode cX9_wordAhead 57 = .ok (.ldc_w 278, 3) := dk_19 1 22 (dk_at dksX9_wordAhead_2 11 rfl rfl)
theorem dX9_wordAhead_60 : decode cX9_wordAhead 60 = .ok (.invokevirtual 269, 3) := dk_182 1 13 (dk_at dksX9_wordAhead_2 14 rfl rfl)
theorem dX9_wordAhead_63 : decode cX9_wordAhead 63 = .ok (.ifCond .eq 7, 3) := dk_153 0 7 (dk_at dksX9_wordAhead_2 17 rfl rfl)
theorem dX9_wordAhead_66 : decode cX9_wordAhead 66 = .ok (.iconst 4, 1) := dk_7 (dk_at dksX9_wordAhead_2 20 rfl rfl)
theorem dX9_wordAhead_67 : decode cX9_wordAhead 67 = .ok (.goto 21, 3) := dk_167 0 21 (dk_at dksX9_wordAhead_2 21 rfl rfl)
theorem dX9_wordAhead_70 : decode cX9_wordAhead 70 = .ok (.aload_n 0, 1) := dk_42 (dk_at dksX9_wordAhead_3 0 rfl rfl)
theorem dX9_wordAhead_71 : decode cX9_wordAhead 71 = .ok (.ldc_w 280, 3) := dk_19 1 24 (dk_at dksX9_wordAhead_3 1 rfl rfl)
theorem dX9_wordAhead_74 : decode cX9_wordAhead 74 = .ok (.invokevirtual 269, 3) := dk_182 1 13 (dk_at dksX9_wordAhead_3 4 rfl rfl)
theorem dX9_wordAhead_77 : decode cX9_wordAhead 77 = .ok (.ifCond .eq 7, 3) := dk_153 0 7 (dk_at dksX9_wordAhead_3 7 rfl rfl)
theorem dX9_wordAhead_80 : decode cX9_wordAhead 80 = .ok (.iconst 5, 1) := dk_8 (dk_at dksX9_wordAhead_3 10 rfl rfl)
theorem dX9_wordAhead_81 : decode cX9_wordAhead 81 = .ok (.goto 7, 3) := dk_167 0 7 (dk_at dksX9_wordAhead_3 11 rfl rfl)
theorem dX9_wordAhead_84 : decode cX9_wordAhead 84 = .ok (.aload_n 0, 1) := dk_42 (dk_at dksX9_wordAhead_3 14 rfl rfl)
theorem dX9_wordAhead_85 : decode cX9_wordAhead 85 = .ok (.invokevirtual 282, 3) := dk_182 1 26 (dk_at dksX9_wordAhead_3 15 rfl rfl)
theorem dX9_wordAhead_88 : decode cX9_wordAhead 88 = .ok (.ireturn, 1) := dk_172 (dk_at dksX9_wordAhead_3 18 rfl rfl)
abbrev cX9_laterWord : ByteArray := prog_11_method_78_code
def yX9_laterWord : MethodName := ⟨RX9, "laterWord", "()I"⟩
def dkwX9_laterWord_4 : List UInt8 := [182, 1, 13, 153, 0, 8, 16, 12, 167, 0, 4, 2, 172]
abbrev dktX9_laterWord_4 : List UInt8 := dkwX9_laterWord_4 ++ []
def dkwX9_laterWord_3 : List UInt8 := [16, 10, 167, 0, 34, 42, 19, 1, 39, 182, 1, 13, 153, 0, 8, 16, 11, 167, 0, 19, 42, 19, 1, 41]
abbrev dktX9_laterWord_3 : List UInt8 := dkwX9_laterWord_3 ++ dktX9_laterWord_4
def dkwX9_laterWord_2 : List UInt8 := [19, 1, 35, 182, 1, 13, 153, 0, 8, 16, 9, 167, 0, 49, 42, 19, 1, 37, 182, 1, 13, 153, 0, 8]
abbrev dktX9_laterWord_2 : List UInt8 := dkwX9_laterWord_2 ++ dktX9_laterWord_3
def dkwX9_laterWord_1 : List UInt8 := [153, 0, 8, 16, 7, 167, 0, 79, 42, 19, 1, 33, 182, 1, 13, 153, 0, 8, 16, 8, 167, 0, 64, 42]
abbrev dktX9_laterWord_1 : List UInt8 := dkwX9_laterWord_1 ++ dktX9_laterWord_2
def dkwX9_laterWord_0 : List UInt8 := [42, 19, 1, 29, 182, 1, 13, 153, 0, 8, 16, 6, 167, 0, 94, 42, 19, 1, 31, 182, 1, 13]
abbrev dktX9_laterWord_0 : List UInt8 := dkwX9_laterWord_0 ++ dktX9_laterWord_1
theorem dksX9_laterWord_0 : cX9_laterWord.data.toList.drop 0 = dktX9_laterWord_0 := by decide +kernel
theorem dksX9_laterWord_1 : cX9_laterWord.data.toList.drop 22 = dktX9_laterWord_1 := dk_seg dksX9_laterWord_0 22 rfl rfl
theorem dksX9_laterWord_2 : cX9_laterWord.data.toList.drop 46 = dktX9_laterWord_2 := dk_seg dksX9_laterWord_1 24 rfl rfl
theorem dksX9_laterWord_3 : cX9_laterWord.data.toList.drop 70 = dktX9_laterWord_3 := dk_seg dksX9_laterWord_2 24 rfl rfl
theorem dksX9_laterWord_4 : cX9_laterWord.data.toList.drop 94 = dktX9_laterWord_4 := dk_seg dksX9_laterWord_3 24 rfl rfl
theorem dX9_laterWord_0 : decode cX9_laterWord 0 = .ok (.aload_n 0, 1) := dk_42 (dk_at dksX9_laterWord_0 0 rfl rfl)
theorem dX9_laterWord_1 : decode cX9_laterWord 1 = .ok (.ldc_w 285, 3) := dk_19 1 29 (dk_at dksX9_laterWord_0 1 rfl rfl)
theorem dX9_laterWord_4 : decode cX9_laterWord 4 = .ok (.invokevirtual 269, 3) := dk_182 1 13 (dk_at dksX9_laterWord_0 4 rfl rfl)
theorem dX9_laterWord_7 : decode cX9_laterWord 7 = .ok (.ifCond .eq 8, 3) := dk_153 0 8 (dk_at dksX9_laterWord_0 7 rfl rfl)
theorem dX9_laterWord_10 : decode cX9_laterWord 10 = .ok (.bipush 6, 2) := dk_16 6 (dk_at dksX9_laterWord_0 10 rfl rfl)
theorem dX9_laterWord_12 : decode cX9_laterWord 12 = .ok (.goto 94, 3) := dk_167 0 94 (dk_at dksX9_laterWord_0 12 rfl rfl)
theorem dX9_laterWord_15 : decode cX9_laterWord 15 = .ok (.aload_n 0, 1) := dk_42 (dk_at dksX9_laterWord_0 15 rfl rfl)
theorem dX9_laterWord_16 : decode cX9_laterWord 16 = .ok (.ldc_w 287, 3) := dk_19 1 31 (dk_at dksX9_laterWord_0 16 rfl rfl)
theorem dX9_laterWord_19 : decode cX9_laterWord 19 = .ok (.invokevirtual 269, 3) := dk_182 1 13 (dk_at dksX9_laterWord_0 19 rfl rfl)
theorem dX9_laterWord_22 : decode cX9_laterWord 22 = .ok (.ifCond .eq 8, 3) := dk_153 0 8 (dk_at dksX9_laterWord_1 0 rfl rfl)
theorem dX9_laterWord_25 : decode cX9_laterWord 25 = .ok (.bipush 7, 2) := dk_16 7 (dk_at dksX9_laterWord_1 3 rfl rfl)
theorem dX9_laterWord_27 : decode cX9_laterWord 27 = .ok (.goto 79, 3) := dk_167 0 79 (dk_at dksX9_laterWord_1 5 rfl rfl)
theorem dX9_laterWord_30 : decode cX9_laterWord 30 = .ok (.aload_n 0, 1) := dk_42 (dk_at dksX9_laterWord_1 8 rfl rfl)
theorem dX9_laterWord_31 : decode cX9_laterWord 31 = .ok (.ldc_w 289, 3) := dk_19 1 33 (dk_at dksX9_laterWord_1 9 rfl rfl)
theorem dX9_laterWord_34 : decode cX9_laterWord 34 = .ok (.invokevirtual 269, 3) := dk_182 1 13 (dk_at dksX9_laterWord_1 12 rfl rfl)
theorem dX9_laterWord_37 : decode cX9_laterWord 37 = .ok (.ifCond .eq 8, 3) := dk_153 0 8 (dk_at dksX9_laterWord_1 15 rfl rfl)
theorem dX9_laterWord_40 : decode cX9_laterWord 40 = .ok (.bipush 8, 2) := dk_16 8 (dk_at dksX9_laterWord_1 18 rfl rfl)
theorem dX9_laterWord_42 : decode cX9_laterWord 42 = .ok (.goto 64, 3) := dk_167 0 64 (dk_at dksX9_laterWord_1 20 rfl rfl)
theorem dX9_laterWord_45 : decode cX9_laterWord 45 = .ok (.aload_n 0, 1) := dk_42 (dk_at dksX9_laterWord_1 23 rfl rfl)
theorem dX9_laterWord_46 : decode cX9_laterWord 46 = .ok (.ldc_w 291, 3) := dk_19 1 35 (dk_at dksX9_laterWord_2 0 rfl rfl)
theorem dX9_laterWord_49 : decode cX9_laterWord 49 = .ok (.invokevirtual 269, 3) := dk_182 1 13 (dk_at dksX9_laterWord_2 3 rfl rfl)
theorem dX9_laterWord_52 : decode cX9_laterWord 52 = .ok (.ifCond .eq 8, 3) := dk_153 0 8 (dk_at dksX9_laterWord_2 6 rfl rfl)
theorem dX9_laterWord_55 : decode cX9_laterWord 55 = .ok (.bipush 9, 2) := dk_16 9 (dk_at dksX9_laterWord_2 9 rfl rfl)
theorem dX9_laterWord_57 : decode cX9_laterWord 57 = .ok (.goto 49, 3) := dk_167 0 49 (dk_at dksX9_laterWord_2 11 rfl rfl)
theorem dX9_laterWord_60 : decode cX9_laterWord 60 = .ok (.aload_n 0, 1) := dk_42 (dk_at dksX9_laterWord_2 14 rfl rfl)
theorem dX9_laterWord_61 : decode cX9_laterWord 61 = .ok (.ldc_w 293, 3) := dk_19 1 37 (dk_at dksX9_laterWord_2 15 rfl rfl)
theorem dX9_laterWord_64 : decode cX9_laterWord 64 = .ok (.invokevirtual 269, 3) := dk_182 1 13 (dk_at dksX9_laterWord_2 18 rfl rfl)
theorem dX9_laterWord_67 : decode cX9_laterWord 67 = .ok (.ifCond .eq 8, 3) := dk_153 0 8 (dk_at dksX9_laterWord_2 21 rfl rfl)
theorem dX9_laterWord_70 : decode cX9_laterWord 70 = .ok (.bipush 10, 2) := dk_16 10 (dk_at dksX9_laterWord_3 0 rfl rfl)
theorem dX9_laterWord_72 : decode cX9_laterWord 72 = .ok (.goto 34, 3) := dk_167 0 34 (dk_at dksX9_laterWord_3 2 rfl rfl)
theorem dX9_laterWord_75 : decode cX9_laterWord 75 = .ok (.aload_n 0, 1) := dk_42 (dk_at dksX9_laterWord_3 5 rfl rfl)
theorem dX9_laterWord_76 : decode cX9_laterWord 76 = .ok (.ldc_w 295, 3) := dk_19 1 39 (dk_at dksX9_laterWord_3 6 rfl rfl)
theorem dX9_laterWord_79 : decode cX9_laterWord 79 = .ok (.invokevirtual 269, 3) := dk_182 1 13 (dk_at dksX9_laterWord_3 9 rfl rfl)
theorem dX9_laterWord_82 : decode cX9_laterWord 82 = .ok (.ifCond .eq 8, 3) := dk_153 0 8 (dk_at dksX9_laterWord_3 12 rfl rfl)
theorem dX9_laterWord_85 : decode cX9_laterWord 85 = .ok (.bipush 11, 2) := dk_16 11 (dk_at dksX9_laterWord_3 15 rfl rfl)
theorem dX9_laterWord_87 : decode cX9_laterWord 87 = .ok (.goto 19, 3) := dk_167 0 19 (dk_at dksX9_laterWord_3 17 rfl rfl)
theorem dX9_laterWord_90 : decode cX9_laterWord 90 = .ok (.aload_n 0, 1) := dk_42 (dk_at dksX9_laterWord_3 20 rfl rfl)
theorem dX9_laterWord_91 : decode cX9_laterWord 91 = .ok (.ldc_w 297, 3) := dk_19 1 41 (dk_at dksX9_laterWord_3 21 rfl rfl)
theorem dX9_laterWord_94 : decode cX9_laterWord 94 = .ok (.invokevirtual 269, 3) := dk_182 1 13 (dk_at dksX9_laterWord_4 0 rfl rfl)
theorem dX9_laterWord_97 : decode cX9_laterWord 97 = .ok (.ifCond .eq 8, 3) := dk_153 0 8 (dk_at dksX9_laterWord_4 3 rfl rfl)
theorem dX9_laterWord_100 : decode cX9_laterWord 100 = .ok (.bipush 12, 2) := dk_16 12 (dk_at dksX9_laterWord_4 6 rfl rfl)
theorem dX9_laterWord_102 : decode cX9_laterWord 102 = .ok (.goto 4, 3) := dk_167 0 4 (dk_at dksX9_laterWord_4 8 rfl rfl)
theorem dX9_laterWord_105 : decode cX9_laterWord 105 = .ok (.iconst (-1), 1) := dk_2 (dk_at dksX9_laterWord_4 11 rfl rfl)
theorem dX9_laterWord_106 : decode cX9_laterWord 106 = .ok (.ireturn, 1) := dk_172 (dk_at dksX9_laterWord_4 12 rfl rfl)
abbrev cX9_readsRepeat : ByteArray := prog_11_method_76_code
def yX9_readsRepeat : MethodName := ⟨RX9, "readsRepeat", "(I)Z"⟩
def dkwX9_readsRepeat_4 : List UInt8 := [182, 0, 185, 172]
abbrev dktX9_readsRepeat_4 : List UInt8 := dkwX9_readsRepeat_4 ++ []
def dkwX9_readsRepeat_3 : List UInt8 := [154, 0, 5, 3, 172, 42, 182, 0, 188, 167, 255, 232, 132, 4, 1, 167, 255, 211, 42, 182, 0, 188, 42, 4]
abbrev dktX9_readsRepeat_3 : List UInt8 := dkwX9_readsRepeat_3 ++ dktX9_readsRepeat_4
def dkwX9_readsRepeat_2 : List UInt8 := [181, 0, 164, 42, 182, 0, 188, 42, 180, 0, 170, 8, 159, 0, 22, 42, 27, 4, 96, 182, 1, 8]
abbrev dktX9_readsRepeat_2 : List UInt8 := dkwX9_readsRepeat_2 ++ dktX9_readsRepeat_3
def dkwX9_readsRepeat_1 : List UInt8 := [180, 0, 42, 3, 46, 61, 42, 180, 0, 164, 62, 3, 54, 4, 21, 4, 28, 162, 0, 45, 42, 29]
abbrev dktX9_readsRepeat_1 : List UInt8 := dkwX9_readsRepeat_1 ++ dktX9_readsRepeat_2
def dkwX9_readsRepeat_0 : List UInt8 := [42, 3, 4, 16, 20, 182, 0, 191, 153, 0, 11, 42, 7, 182, 0, 185, 154, 0, 5, 3, 172, 42]
abbrev dktX9_readsRepeat_0 : List UInt8 := dkwX9_readsRepeat_0 ++ dktX9_readsRepeat_1
theorem dksX9_readsRepeat_0 : cX9_readsRepeat.data.toList.drop 0 = dktX9_readsRepeat_0 := by decide +kernel
theorem dksX9_readsRepeat_1 : cX9_readsRepeat.data.toList.drop 22 = dktX9_readsRepeat_1 := dk_seg dksX9_readsRepeat_0 22 rfl rfl
theorem dksX9_readsRepeat_2 : cX9_readsRepeat.data.toList.drop 44 = dktX9_readsRepeat_2 := dk_seg dksX9_readsRepeat_1 22 rfl rfl
theorem dksX9_readsRepeat_3 : cX9_readsRepeat.data.toList.drop 66 = dktX9_readsRepeat_3 := dk_seg dksX9_readsRepeat_2 22 rfl rfl
theorem dksX9_readsRepeat_4 : cX9_readsRepeat.data.toList.drop 90 = dktX9_readsRepeat_4 := dk_seg dksX9_readsRepeat_3 24 rfl rfl
theorem dX9_readsRepeat_0 : decode cX9_readsRepeat 0 = .ok (.aload_n 0, 1) := dk_42 (dk_at dksX9_readsRepeat_0 0 rfl rfl)
theorem dX9_readsRepeat_1 : decode cX9_readsRepeat 1 = .ok (.iconst 0, 1) := dk_3 (dk_at dksX9_readsRepeat_0 1 rfl rfl)
theorem dX9_readsRepeat_2 : decode cX9_readsRepeat 2 = .ok (.iconst 1, 1) := dk_4 (dk_at dksX9_readsRepeat_0 2 rfl rfl)
theorem dX9_readsRepeat_3 : decode cX9_readsRepeat 3 = .ok (.bipush 20, 2) := dk_16 20 (dk_at dksX9_readsRepeat_0 3 rfl rfl)
theorem dX9_readsRepeat_5 : decode cX9_readsRepeat 5 = .ok (.invokevirtual 191, 3) := dk_182 0 191 (dk_at dksX9_readsRepeat_0 5 rfl rfl)
theorem dX9_readsRepeat_8 : decode cX9_readsRepeat 8 = .ok (.ifCond .eq 11, 3) := dk_153 0 11 (dk_at dksX9_readsRepeat_0 8 rfl rfl)
theorem dX9_readsRepeat_11 : decode cX9_readsRepeat 11 = .ok (.aload_n 0, 1) := dk_42 (dk_at dksX9_readsRepeat_0 11 rfl rfl)
theorem dX9_readsRepeat_12 : decode cX9_readsRepeat 12 = .ok (.iconst 4, 1) := dk_7 (dk_at dksX9_readsRepeat_0 12 rfl rfl)
theorem dX9_readsRepeat_13 : decode cX9_readsRepeat 13 = .ok (.invokevirtual 185, 3) := dk_182 0 185 (dk_at dksX9_readsRepeat_0 13 rfl rfl)
theorem dX9_readsRepeat_16 : decode cX9_readsRepeat 16 = .ok (.ifCond .ne 5, 3) := dk_154 0 5 (dk_at dksX9_readsRepeat_0 16 rfl rfl)
theorem dX9_readsRepeat_19 : decode cX9_readsRepeat 19 = .ok (.iconst 0, 1) := dk_3 (dk_at dksX9_readsRepeat_0 19 rfl rfl)
theorem dX9_readsRepeat_20 : decode cX9_readsRepeat 20 = .ok (.ireturn, 1) := dk_172 (dk_at dksX9_readsRepeat_0 20 rfl rfl)
theorem dX9_readsRepeat_21 : decode cX9_readsRepeat 21 = .ok (.aload_n 0, 1) := dk_42 (dk_at dksX9_readsRepeat_0 21 rfl rfl)
theorem dX9_readsRepeat_22 : decode cX9_readsRepeat 22 = .ok (.getfield 42, 3) := dk_180 0 42 (dk_at dksX9_readsRepeat_1 0 rfl rfl)
theorem dX9_readsRepeat_25 : decode cX9_readsRepeat 25 = .ok (.iconst 0, 1) := dk_3 (dk_at dksX9_readsRepeat_1 3 rfl rfl)
theorem dX9_readsRepeat_26 : decode cX9_readsRepeat 26 = .ok (.iaload, 1) := dk_46 (dk_at dksX9_readsRepeat_1 4 rfl rfl)
theorem dX9_readsRepeat_27 : decode cX9_readsRepeat 27 = .ok (.istore_n 2, 1) := dk_61 (dk_at dksX9_readsRepeat_1 5 rfl rfl)
theorem dX9_readsRepeat_28 : decode cX9_readsRepeat 28 = .ok (.aload_n 0, 1) := dk_42 (dk_at dksX9_readsRepeat_1 6 rfl rfl)
theorem dX9_readsRepeat_29 : decode cX9_readsRepeat 29 = .ok (.getfield 164, 3) := dk_180 0 164 (dk_at dksX9_readsRepeat_1 7 rfl rfl)
theorem dX9_readsRepeat_32 : decode cX9_readsRepeat 32 = .ok (.istore_n 3, 1) := dk_62 (dk_at dksX9_readsRepeat_1 10 rfl rfl)
theorem dX9_readsRepeat_33 : decode cX9_readsRepeat 33 = .ok (.iconst 0, 1) := dk_3 (dk_at dksX9_readsRepeat_1 11 rfl rfl)
theorem dX9_readsRepeat_34 : decode cX9_readsRepeat 34 = .ok (.istore 4, 2) := dk_54 4 (dk_at dksX9_readsRepeat_1 12 rfl rfl)
theorem dX9_readsRepeat_36 : decode cX9_readsRepeat 36 = .ok (.iload 4, 2) := dk_21 4 (dk_at dksX9_readsRepeat_1 14 rfl rfl)
theorem dX9_readsRepeat_38 : decode cX9_readsRepeat 38 = .ok (.iload_n 2, 1) := dk_28 (dk_at dksX9_readsRepeat_1 16 rfl rfl)
theorem dX9_readsRepeat_39 : decode cX9_readsRepeat 39 = .ok (.if_icmp .ge 45, 3) := dk_162 0 45 (dk_at dksX9_readsRepeat_1 17 rfl rfl)
theorem dX9_readsRepeat_42 : decode cX9_readsRepeat 42 = .ok (.aload_n 0, 1) := dk_42 (dk_at dksX9_readsRepeat_1 20 rfl rfl)
theorem dX9_readsRepeat_43 : decode cX9_readsRepeat 43 = .ok (.iload_n 3, 1) := dk_29 (dk_at dksX9_readsRepeat_1 21 rfl rfl)
theorem dX9_readsRepeat_44 : decode cX9_readsRepeat 44 = .ok (.putfield 164, 3) := dk_181 0 164 (dk_at dksX9_readsRepeat_2 0 rfl rfl)
theorem dX9_readsRepeat_47 : decode cX9_readsRepeat 47 = .ok (.aload_n 0, 1) := dk_42 (dk_at dksX9_readsRepeat_2 3 rfl rfl)
theorem dX9_readsRepeat_48 : decode cX9_readsRepeat 48 = .ok (.invokevirtual 188, 3) := dk_182 0 188 (dk_at dksX9_readsRepeat_2 4 rfl rfl)
theorem dX9_readsRepeat_51 : decode cX9_readsRepeat 51 = .ok (.aload_n 0, 1) := dk_42 (dk_at dksX9_readsRepeat_2 7 rfl rfl)
theorem dX9_readsRepeat_52 : decode cX9_readsRepeat 52 = .ok (.getfield 170, 3) := dk_180 0 170 (dk_at dksX9_readsRepeat_2 8 rfl rfl)
theorem dX9_readsRepeat_55 : decode cX9_readsRepeat 55 = .ok (.iconst 5, 1) := dk_8 (dk_at dksX9_readsRepeat_2 11 rfl rfl)
theorem dX9_readsRepeat_56 : decode cX9_readsRepeat 56 = .ok (.if_icmp .eq 22, 3) := dk_159 0 22 (dk_at dksX9_readsRepeat_2 12 rfl rfl)
theorem dX9_readsRepeat_59 : decode cX9_readsRepeat 59 = .ok (.aload_n 0, 1) := dk_42 (dk_at dksX9_readsRepeat_2 15 rfl rfl)
theorem dX9_readsRepeat_60 : decode cX9_readsRepeat 60 = .ok (.iload_n 1, 1) := dk_27 (dk_at dksX9_readsRepeat_2 16 rfl rfl)
theorem dX9_readsRepeat_61 : decode cX9_readsRepeat 61 = .ok (.iconst 1, 1) := dk_4 (dk_at dksX9_readsRepeat_2 17 rfl rfl)
theorem dX9_readsRepeat_62 : decode cX9_readsRepeat 62 = .ok (.iadd, 1) := dk_96 (dk_at dksX9_readsRepeat_2 18 rfl rfl)
theorem dX9_readsRepeat_63 : decode cX9_readsRepeat 63 = .ok (.invokevirtual 264, 3) := dk_182 1 8 (dk_at dksX9_readsRepeat_2 19 rfl rfl)
theorem dX9_readsRepeat_66 : decode cX9_readsRepeat 66 = .ok (.ifCond .ne 5, 3) := dk_154 0 5 (dk_at dksX9_readsRepeat_3 0 rfl rfl)
theorem dX9_readsRepeat_69 : decode cX9_readsRepeat 69 = .ok (.iconst 0, 1) := dk_3 (dk_at dksX9_readsRepeat_3 3 rfl rfl)
theorem dX9_readsRepeat_70 : decode cX9_readsRepeat 70 = .ok (.ireturn, 1) := dk_172 (dk_at dksX9_readsRepeat_3 4 rfl rfl)
theorem dX9_readsRepeat_71 : decode cX9_readsRepeat 71 = .ok (.aload_n 0, 1) := dk_42 (dk_at dksX9_readsRepeat_3 5 rfl rfl)
theorem dX9_readsRepeat_72 : decode cX9_readsRepeat 72 = .ok (.invokevirtual 188, 3) := dk_182 0 188 (dk_at dksX9_readsRepeat_3 6 rfl rfl)
theorem dX9_readsRepeat_75 : decode cX9_readsRepeat 75 = .ok (.goto (-24), 3) := dk_167 255 232 (dk_at dksX9_readsRepeat_3 9 rfl rfl)
theorem dX9_readsRepeat_78 : decode cX9_readsRepeat 78 = .ok (.iinc 4 1, 3) := dk_132 4 1 (dk_at dksX9_readsRepeat_3 12 rfl rfl)
theorem dX9_readsRepeat_81 : decode cX9_readsRepeat 81 = .ok (.goto (-45), 3) := dk_167 255 211 (dk_at dksX9_readsRepeat_3 15 rfl rfl)
theorem dX9_readsRepeat_84 : decode cX9_readsRepeat 84 = .ok (.aload_n 0, 1) := dk_42 (dk_at dksX9_readsRepeat_3 18 rfl rfl)
theorem dX9_readsRepeat_85 : decode cX9_readsRepeat 85 = .ok (.invokevirtual 188, 3) := dk_182 0 188 (dk_at dksX9_readsRepeat_3 19 rfl rfl)
theorem dX9_readsRepeat_88 : decode cX9_readsRepeat 88 = .ok (.aload_n 0, 1) := dk_42 (dk_at dksX9_readsRepeat_3 22 rfl rfl)
theorem dX9_readsRepeat_89 : decode cX9_readsRepeat 89 = .ok (.iconst 1, 1) := dk_4 (dk_at dksX9_readsRepeat_3 23 rfl rfl)
theorem dX9_readsRepeat_90 : decode cX9_readsRepeat 90 = .ok (.invokevirtual 185, 3) := dk_182 0 185 (dk_at dksX9_readsRepeat_4 0 rfl rfl)
theorem dX9_readsRepeat_93 : decode cX9_readsRepeat 93 = .ok (.ireturn, 1) := dk_172 (dk_at dksX9_readsRepeat_4 3 rfl rfl)
abbrev cX9_number : ByteArray := prog_11_method_59_code
def yX9_number : MethodName := ⟨RX9, "number", "(III)Z"⟩
def dkwX9_number_1 : List UInt8 := [182, 0, 182, 172, 42, 180, 0, 42, 27, 42, 180, 0, 176, 79, 42, 182, 0, 188, 4, 172]
abbrev dktX9_number_1 : List UInt8 := dkwX9_number_1 ++ []
def dkwX9_number_0 : List UInt8 := [42, 6, 182, 0, 185, 154, 0, 5, 3, 172, 42, 180, 0, 176, 28, 29, 184, 0, 60, 154, 0, 9, 42, 5]
abbrev dktX9_number_0 : List UInt8 := dkwX9_number_0 ++ dktX9_number_1
theorem dksX9_number_0 : cX9_number.data.toList.drop 0 = dktX9_number_0 := by decide +kernel
theorem dksX9_number_1 : cX9_number.data.toList.drop 24 = dktX9_number_1 := dk_seg dksX9_number_0 24 rfl rfl
theorem dX9_number_0 : decode cX9_number 0 = .ok (.aload_n 0, 1) := dk_42 (dk_at dksX9_number_0 0 rfl rfl)
theorem dX9_number_1 : decode cX9_number 1 = .ok (.iconst 3, 1) := dk_6 (dk_at dksX9_number_0 1 rfl rfl)
theorem dX9_number_2 : decode cX9_number 2 = .ok (.invokevirtual 185, 3) := dk_182 0 185 (dk_at dksX9_number_0 2 rfl rfl)
theorem dX9_number_5 : decode cX9_number 5 = .ok (.ifCond .ne 5, 3) := dk_154 0 5 (dk_at dksX9_number_0 5 rfl rfl)
theorem dX9_number_8 : decode cX9_number 8 = .ok (.iconst 0, 1) := dk_3 (dk_at dksX9_number_0 8 rfl rfl)
theorem dX9_number_9 : decode cX9_number 9 = .ok (.ireturn, 1) := dk_172 (dk_at dksX9_number_0 9 rfl rfl)
theorem dX9_number_10 : decode cX9_number 10 = .ok (.aload_n 0, 1) := dk_42 (dk_at dksX9_number_0 10 rfl rfl)
theorem dX9_number_11 : decode cX9_number 11 = .ok (.getfield 176, 3) := dk_180 0 176 (dk_at dksX9_number_0 11 rfl rfl)
theorem dX9_number_14 : decode cX9_number 14 = .ok (.iload_n 2, 1) := dk_28 (dk_at dksX9_number_0 14 rfl rfl)
theorem dX9_number_15 : decode cX9_number 15 = .ok (.iload_n 3, 1) := dk_29 (dk_at dksX9_number_0 15 rfl rfl)
theorem dX9_number_16 : decode cX9_number 16 = .ok (.invokestatic 60, 3) := dk_184 0 60 (dk_at dksX9_number_0 16 rfl rfl)
theorem dX9_number_19 : decode cX9_number 19 = .ok (.ifCond .ne 9, 3) := dk_154 0 9 (dk_at dksX9_number_0 19 rfl rfl)
theorem dX9_number_22 : decode cX9_number 22 = .ok (.aload_n 0, 1) := dk_42 (dk_at dksX9_number_0 22 rfl rfl)
theorem dX9_number_23 : decode cX9_number 23 = .ok (.iconst 2, 1) := dk_5 (dk_at dksX9_number_0 23 rfl rfl)
theorem dX9_number_24 : decode cX9_number 24 = .ok (.invokevirtual 182, 3) := dk_182 0 182 (dk_at dksX9_number_1 0 rfl rfl)
theorem dX9_number_27 : decode cX9_number 27 = .ok (.ireturn, 1) := dk_172 (dk_at dksX9_number_1 3 rfl rfl)
theorem dX9_number_28 : decode cX9_number 28 = .ok (.aload_n 0, 1) := dk_42 (dk_at dksX9_number_1 4 rfl rfl)
theorem dX9_number_29 : decode cX9_number 29 = .ok (.getfield 42, 3) := dk_180 0 42 (dk_at dksX9_number_1 5 rfl rfl)
theorem dX9_number_32 : decode cX9_number 32 = .ok (.iload_n 1, 1) := dk_27 (dk_at dksX9_number_1 8 rfl rfl)
theorem dX9_number_33 : decode cX9_number 33 = .ok (.aload_n 0, 1) := dk_42 (dk_at dksX9_number_1 9 rfl rfl)
theorem dX9_number_34 : decode cX9_number 34 = .ok (.getfield 176, 3) := dk_180 0 176 (dk_at dksX9_number_1 10 rfl rfl)
theorem dX9_number_37 : decode cX9_number 37 = .ok (.iastore, 1) := dk_79 (dk_at dksX9_number_1 13 rfl rfl)
theorem dX9_number_38 : decode cX9_number 38 = .ok (.aload_n 0, 1) := dk_42 (dk_at dksX9_number_1 14 rfl rfl)
theorem dX9_number_39 : decode cX9_number 39 = .ok (.invokevirtual 188, 3) := dk_182 0 188 (dk_at dksX9_number_1 15 rfl rfl)
theorem dX9_number_42 : decode cX9_number 42 = .ok (.iconst 1, 1) := dk_4 (dk_at dksX9_number_1 18 rfl rfl)
theorem dX9_number_43 : decode cX9_number 43 = .ok (.ireturn, 1) := dk_172 (dk_at dksX9_number_1 19 rfl rfl)
abbrev cX9_in : ByteArray := prog_11_method_3_code
def yX9_in : MethodName := ⟨RX9, "in", "(III)Z"⟩
def dkwX9_in_0 : List UInt8 := [26, 27, 161, 0, 12, 26, 28, 163, 0, 7, 4, 167, 0, 4, 3, 172]
abbrev dktX9_in_0 : List UInt8 := dkwX9_in_0 ++ []
theorem dksX9_in_0 : cX9_in.data.toList.drop 0 = dktX9_in_0 := by decide +kernel
theorem dX9_in_0 : decode cX9_in 0 = .ok (.iload_n 0, 1) := dk_26 (dk_at dksX9_in_0 0 rfl rfl)
theorem dX9_in_1 : decode cX9_in 1 = .ok (.iload_n 1, 1) := dk_27 (dk_at dksX9_in_0 1 rfl rfl)
theorem dX9_in_2 : decode cX9_in 2 = .ok (.if_icmp .lt 12, 3) := dk_161 0 12 (dk_at dksX9_in_0 2 rfl rfl)
theorem dX9_in_5 : decode cX9_in 5 = .ok (.iload_n 0, 1) := dk_26 (dk_at dksX9_in_0 5 rfl rfl)
theorem dX9_in_6 : decode cX9_in 6 = .ok (.iload_n 2, 1) := dk_28 (dk_at dksX9_in_0 6 rfl rfl)
theorem dX9_in_7 : decode cX9_in 7 = .ok (.if_icmp .gt 7, 3) := dk_163 0 7 (dk_at dksX9_in_0 7 rfl rfl)
theorem dX9_in_10 : decode cX9_in 10 = .ok (.iconst 1, 1) := dk_4 (dk_at dksX9_in_0 10 rfl rfl)
theorem dX9_in_11 : decode cX9_in 11 = .ok (.goto 4, 3) := dk_167 0 4 (dk_at dksX9_in_0 11 rfl rfl)
theorem dX9_in_14 : decode cX9_in 14 = .ok (.iconst 0, 1) := dk_3 (dk_at dksX9_in_0 14 rfl rfl)
theorem dX9_in_15 : decode cX9_in 15 = .ok (.ireturn, 1) := dk_172 (dk_at dksX9_in_0 15 rfl rfl)
abbrev cX9_readsWord : ByteArray := prog_11_method_80_code
def yX9_readsWord : MethodName := ⟨RX9, "readsWord", "(I)Z"⟩
def dkwX9_readsWord_4 : List UInt8 := [182, 1, 82, 172, 42, 3, 182, 1, 82, 172, 42, 182, 1, 85, 172]
abbrev dktX9_readsWord_4 : List UInt8 := dkwX9_readsWord_4 ++ []
def dkwX9_readsWord_3 : List UInt8 := [172, 42, 182, 1, 70, 172, 42, 182, 1, 73, 172, 42, 182, 1, 76, 172, 42, 182, 1, 79, 172, 42, 4]
abbrev dktX9_readsWord_3 : List UInt8 := dkwX9_readsWord_3 ++ dktX9_readsWord_4
def dkwX9_readsWord_2 : List UInt8 := [42, 182, 1, 55, 172, 42, 182, 1, 58, 172, 42, 182, 1, 61, 172, 42, 182, 1, 64, 172, 42, 182, 1, 67]
abbrev dktX9_readsWord_2 : List UInt8 := dkwX9_readsWord_2 ++ dktX9_readsWord_3
def dkwX9_readsWord_1 : List UInt8 := [170, 0, 0, 0, 0, 0, 116, 0, 0, 0, 0, 0, 0, 0, 10, 0, 0, 0, 59, 0, 0, 0, 64, 0, 0, 0, 69, 0, 0, 0, 74, 0, 0, 0, 79, 0, 0, 0, 84, 0, 0, 0, 89, 0, 0, 0, 94, 0, 0, 0, 99, 0, 0, 0, 104, 0, 0, 0, 110]
abbrev dktX9_readsWord_1 : List UInt8 := dkwX9_readsWord_1 ++ dktX9_readsWord_2
def dkwX9_readsWord_0 : List UInt8 := [27]
abbrev dktX9_readsWord_0 : List UInt8 := dkwX9_readsWord_0 ++ dktX9_readsWord_1
theorem dksX9_readsWord_0 : cX9_readsWord.data.toList.drop 0 = dktX9_readsWord_0 := by decide +kernel
theorem dksX9_readsWord_1 : cX9_readsWord.data.toList.drop 1 = dktX9_readsWord_1 := dk_seg dksX9_readsWord_0 1 rfl rfl
theorem dksX9_readsWord_2 : cX9_readsWord.data.toList.drop 60 = dktX9_readsWord_2 := dk_seg dksX9_readsWord_1 59 rfl rfl
theorem dksX9_readsWord_3 : cX9_readsWord.data.toList.drop 84 = dktX9_readsWord_3 := dk_seg dksX9_readsWord_2 24 rfl rfl
theorem dksX9_readsWord_4 : cX9_readsWord.data.toList.drop 107 = dktX9_readsWord_4 := dk_seg dksX9_readsWord_3 23 rfl rfl
theorem dX9_readsWord_0 : decode cX9_readsWord 0 = .ok (.iload_n 1, 1) := dk_27 (dk_at dksX9_readsWord_0 0 rfl rfl)
theorem dX9_readsWord_1 : decode cX9_readsWord 1 = .ok (.tableswitch 116 0 10 #[59, 64, 69, 74, 79, 84, 89, 94, 99, 104, 110], 59) := by decide +kernel
theorem dX9_readsWord_60 : decode cX9_readsWord 60 = .ok (.aload_n 0, 1) := dk_42 (dk_at dksX9_readsWord_2 0 rfl rfl)
theorem dX9_readsWord_61 : decode cX9_readsWord 61 = .ok (.invokevirtual 311, 3) := dk_182 1 55 (dk_at dksX9_readsWord_2 1 rfl rfl)
theorem dX9_readsWord_64 : decode cX9_readsWord 64 = .ok (.ireturn, 1) := dk_172 (dk_at dksX9_readsWord_2 4 rfl rfl)
theorem dX9_readsWord_65 : decode cX9_readsWord 65 = .ok (.aload_n 0, 1) := dk_42 (dk_at dksX9_readsWord_2 5 rfl rfl)
theorem dX9_readsWord_66 : decode cX9_readsWord 66 = .ok (.invokevirtual 314, 3) := dk_182 1 58 (dk_at dksX9_readsWord_2 6 rfl rfl)
theorem dX9_readsWord_69 : decode cX9_readsWord 69 = .ok (.ireturn, 1) := dk_172 (dk_at dksX9_readsWord_2 9 rfl rfl)
theorem dX9_readsWord_70 : decode cX9_readsWord 70 = .ok (.aload_n 0, 1) := dk_42 (dk_at dksX9_readsWord_2 10 rfl rfl)
theorem dX9_readsWord_71 : decode cX9_readsWord 71 = .ok (.invokevirtual 317, 3) := dk_182 1 61 (dk_at dksX9_readsWord_2 11 rfl rfl)
theorem dX9_readsWord_74 : decode cX9_readsWord 74 = .ok (.ireturn, 1) := dk_172 (dk_at dksX9_readsWord_2 14 rfl rfl)
theorem dX9_readsWord_75 : decode cX9_readsWord 75 = .ok (.aload_n 0, 1) := dk_42 (dk_at dksX9_readsWord_2 15 rfl rfl)
theorem dX9_readsWord_76 : decode cX9_readsWord 76 = .ok (.invokevirtual 320, 3) := dk_182 1 64 (dk_at dksX9_readsWord_2 16 rfl rfl)
theorem dX9_readsWord_79 : decode cX9_readsWord 79 = .ok (.ireturn, 1) := dk_172 (dk_at dksX9_readsWord_2 19 rfl rfl)
theorem dX9_readsWord_80 : decode cX9_readsWord 80 = .ok (.aload_n 0, 1) := dk_42 (dk_at dksX9_readsWord_2 20 rfl rfl)
theorem dX9_readsWord_81 : decode cX9_readsWord 81 = .ok (.invokevirtual 323, 3) := dk_182 1 67 (dk_at dksX9_readsWord_2 21 rfl rfl)
theorem dX9_readsWord_84 : decode cX9_readsWord 84 = .ok (.ireturn, 1) := dk_172 (dk_at dksX9_readsWord_3 0 rfl rfl)
theorem dX9_readsWord_85 : decode cX9_readsWord 85 = .ok (.aload_n 0, 1) := dk_42 (dk_at dksX9_readsWord_3 1 rfl rfl)
theorem dX9_readsWord_86 : decode cX9_readsWord 86 = .ok (.invokevirtual 326, 3) := dk_182 1 70 (dk_at dksX9_readsWord_3 2 rfl rfl)
theorem dX9_readsWord_89 : decode cX9_readsWord 89 = .ok (.ireturn, 1) := dk_172 (dk_at dksX9_readsWord_3 5 rfl rfl)
theorem dX9_readsWord_90 : decode cX9_readsWord 90 = .ok (.aload_n 0, 1) := dk_42 (dk_at dksX9_readsWord_3 6 rfl rfl)
theorem dX9_readsWord_91 : decode cX9_readsWord 91 = .ok (.invokevirtual 329, 3) := dk_182 1 73 (dk_at dksX9_readsWord_3 7 rfl rfl)
theorem dX9_readsWord_94 : decode cX9_readsWord 94 = .ok (.ireturn, 1) := dk_172 (dk_at dksX9_readsWord_3 10 rfl rfl)
theorem dX9_readsWord_95 : decode cX9_readsWord 95 = .ok (.aload_n 0, 1) := dk_42 (dk_at dksX9_readsWord_3 11 rfl rfl)
theorem dX9_readsWord_96 : decode cX9_readsWord 96 = .ok (.invokevirtual 332, 3) := dk_182 1 76 (dk_at dksX9_readsWord_3 12 rfl rfl)
theorem dX9_readsWord_99 : decode cX9_readsWord 99 = .ok (.ireturn, 1) := dk_172 (dk_at dksX9_readsWord_3 15 rfl rfl)
theorem dX9_readsWord_100 : decode cX9_readsWord 100 = .ok (.aload_n 0, 1) := dk_42 (dk_at dksX9_readsWord_3 16 rfl rfl)
theorem dX9_readsWord_101 : decode cX9_readsWord 101 = .ok (.invokevirtual 335, 3) := dk_182 1 79 (dk_at dksX9_readsWord_3 17 rfl rfl)
theorem dX9_readsWord_104 : decode cX9_readsWord 104 = .ok (.ireturn, 1) := dk_172 (dk_at dksX9_readsWord_3 20 rfl rfl)
theorem dX9_readsWord_105 : decode cX9_readsWord 105 = .ok (.aload_n 0, 1) := dk_42 (dk_at dksX9_readsWord_3 21 rfl rfl)
theorem dX9_readsWord_106 : decode cX9_readsWord 106 = .ok (.iconst 1, 1) := dk_4 (dk_at dksX9_readsWord_3 22 rfl rfl)
theorem dX9_readsWord_107 : decode cX9_readsWord 107 = .ok (.invokevirtual 338, 3) := dk_182 1 82 (dk_at dksX9_readsWord_4 0 rfl rfl)
theorem dX9_readsWord_110 : decode cX9_readsWord 110 = .ok (.ireturn, 1) := dk_172 (dk_at dksX9_readsWord_4 3 rfl rfl)
theorem dX9_readsWord_111 : decode cX9_readsWord 111 = .ok (.aload_n 0, 1) := dk_42 (dk_at dksX9_readsWord_4 4 rfl rfl)
theorem dX9_readsWord_112 : decode cX9_readsWord 112 = .ok (.iconst 0, 1) := dk_3 (dk_at dksX9_readsWord_4 5 rfl rfl)
theorem dX9_readsWord_113 : decode cX9_readsWord 113 = .ok (.invokevirtual 338, 3) := dk_182 1 82 (dk_at dksX9_readsWord_4 6 rfl rfl)
theorem dX9_readsWord_116 : decode cX9_readsWord 116 = .ok (.ireturn, 1) := dk_172 (dk_at dksX9_readsWord_4 9 rfl rfl)
theorem dX9_readsWord_117 : decode cX9_readsWord 117 = .ok (.aload_n 0, 1) := dk_42 (dk_at dksX9_readsWord_4 10 rfl rfl)
theorem dX9_readsWord_118 : decode cX9_readsWord 118 = .ok (.invokevirtual 341, 3) := dk_182 1 85 (dk_at dksX9_readsWord_4 11 rfl rfl)
theorem dX9_readsWord_121 : decode cX9_readsWord 121 = .ok (.ireturn, 1) := dk_172 (dk_at dksX9_readsWord_4 14 rfl rfl)
abbrev cX9_readsChimney : ByteArray := prog_11_method_65_code
def yX9_readsChimney : MethodName := ⟨RX9, "readsChimney", "()Z"⟩
def dkwX9_readsChimney_2 : List UInt8 := [172]
abbrev dktX9_readsChimney_2 : List UInt8 := dkwX9_readsChimney_2 ++ []
def dkwX9_readsChimney_1 : List UInt8 := [167, 0, 4, 3, 182, 0, 194, 154, 0, 5, 3, 172, 42, 42, 180, 0, 42, 3, 46, 182, 0, 198, 87, 4]
abbrev dktX9_readsChimney_1 : List UInt8 := dkwX9_readsChimney_1 ++ dktX9_readsChimney_2
def dkwX9_readsChimney_0 : List UInt8 := [42, 3, 3, 16, 9, 182, 0, 191, 153, 0, 26, 42, 42, 180, 0, 7, 3, 46, 16, 10, 162, 0, 7, 4]
abbrev dktX9_readsChimney_0 : List UInt8 := dkwX9_readsChimney_0 ++ dktX9_readsChimney_1
theorem dksX9_readsChimney_0 : cX9_readsChimney.data.toList.drop 0 = dktX9_readsChimney_0 := by decide +kernel
theorem dksX9_readsChimney_1 : cX9_readsChimney.data.toList.drop 24 = dktX9_readsChimney_1 := dk_seg dksX9_readsChimney_0 24 rfl rfl
theorem dksX9_readsChimney_2 : cX9_readsChimney.data.toList.drop 48 = dktX9_readsChimney_2 := dk_seg dksX9_readsChimney_1 24 rfl rfl
theorem dX9_readsChimney_0 : decode cX9_readsChimney 0 = .ok (.aload_n 0, 1) := dk_42 (dk_at dksX9_readsChimney_0 0 rfl rfl)
theorem dX9_readsChimney_1 : decode cX9_readsChimney 1 = .ok (.iconst 0, 1) := dk_3 (dk_at dksX9_readsChimney_0 1 rfl rfl)
theorem dX9_readsChimney_2 : decode cX9_readsChimney 2 = .ok (.iconst 0, 1) := dk_3 (dk_at dksX9_readsChimney_0 2 rfl rfl)
theorem dX9_readsChimney_3 : decode cX9_readsChimney 3 = .ok (.bipush 9, 2) := dk_16 9 (dk_at dksX9_readsChimney_0 3 rfl rfl)
theorem dX9_readsChimney_5 : decode cX9_readsChimney 5 = .ok (.invokevirtual 191, 3) := dk_182 0 191 (dk_at dksX9_readsChimney_0 5 rfl rfl)
theorem dX9_readsChimney_8 : decode cX9_readsChimney 8 = .ok (.ifCond .eq 26, 3) := dk_153 0 26 (dk_at dksX9_readsChimney_0 8 rfl rfl)
theorem dX9_readsChimney_11 : decode cX9_readsChimney 11 = .ok (.aload_n 0, 1) := dk_42 (dk_at dksX9_readsChimney_0 11 rfl rfl)
theorem dX9_readsChimney_12 : decode cX9_readsChimney 12 = .ok (.aload_n 0, 1) := dk_42 (dk_at dksX9_readsChimney_0 12 rfl rfl)
theorem dX9_readsChimney_13 : decode cX9_readsChimney 13 = .ok (.getfield 7, 3) := dk_180 0 7 (dk_at dksX9_readsChimney_0 13 rfl rfl)
theorem dX9_readsChimney_16 : decode cX9_readsChimney 16 = .ok (.iconst 0, 1) := dk_3 (dk_at dksX9_readsChimney_0 16 rfl rfl)
theorem dX9_readsChimney_17 : decode cX9_readsChimney 17 = .ok (.iaload, 1) := dk_46 (dk_at dksX9_readsChimney_0 17 rfl rfl)
theorem dX9_readsChimney_18 : decode cX9_readsChimney 18 = .ok (.bipush 10, 2) := dk_16 10 (dk_at dksX9_readsChimney_0 18 rfl rfl)
theorem dX9_readsChimney_20 : decode cX9_readsChimney 20 = .ok (.if_icmp .ge 7, 3) := dk_162 0 7 (dk_at dksX9_readsChimney_0 20 rfl rfl)
theorem dX9_readsChimney_23 : decode cX9_readsChimney 23 = .ok (.iconst 1, 1) := dk_4 (dk_at dksX9_readsChimney_0 23 rfl rfl)
theorem dX9_readsChimney_24 : decode cX9_readsChimney 24 = .ok (.goto 4, 3) := dk_167 0 4 (dk_at dksX9_readsChimney_1 0 rfl rfl)
theorem dX9_readsChimney_27 : decode cX9_readsChimney 27 = .ok (.iconst 0, 1) := dk_3 (dk_at dksX9_readsChimney_1 3 rfl rfl)
theorem dX9_readsChimney_28 : decode cX9_readsChimney 28 = .ok (.invokevirtual 194, 3) := dk_182 0 194 (dk_at dksX9_readsChimney_1 4 rfl rfl)
theorem dX9_readsChimney_31 : decode cX9_readsChimney 31 = .ok (.ifCond .ne 5, 3) := dk_154 0 5 (dk_at dksX9_readsChimney_1 7 rfl rfl)
theorem dX9_readsChimney_34 : decode cX9_readsChimney 34 = .ok (.iconst 0, 1) := dk_3 (dk_at dksX9_readsChimney_1 10 rfl rfl)
theorem dX9_readsChimney_35 : decode cX9_readsChimney 35 = .ok (.ireturn, 1) := dk_172 (dk_at dksX9_readsChimney_1 11 rfl rfl)
theorem dX9_readsChimney_36 : decode cX9_readsChimney 36 = .ok (.aload_n 0, 1) := dk_42 (dk_at dksX9_readsChimney_1 12 rfl rfl)
theorem dX9_readsChimney_37 : decode cX9_readsChimney 37 = .ok (.aload_n 0, 1) := dk_42 (dk_at dksX9_readsChimney_1 13 rfl rfl)
theorem dX9_readsChimney_38 : decode cX9_readsChimney 38 = .ok (.getfield 42, 3) := dk_180 0 42 (dk_at dksX9_readsChimney_1 14 rfl rfl)
theorem dX9_readsChimney_41 : decode cX9_readsChimney 41 = .ok (.iconst 0, 1) := dk_3 (dk_at dksX9_readsChimney_1 17 rfl rfl)
theorem dX9_readsChimney_42 : decode cX9_readsChimney 42 = .ok (.iaload, 1) := dk_46 (dk_at dksX9_readsChimney_1 18 rfl rfl)
theorem dX9_readsChimney_43 : decode cX9_readsChimney 43 = .ok (.invokevirtual 198, 3) := dk_182 0 198 (dk_at dksX9_readsChimney_1 19 rfl rfl)
theorem dX9_readsChimney_46 : decode cX9_readsChimney 46 = .ok (.pop, 1) := dk_87 (dk_at dksX9_readsChimney_1 22 rfl rfl)
theorem dX9_readsChimney_47 : decode cX9_readsChimney 47 = .ok (.iconst 1, 1) := dk_4 (dk_at dksX9_readsChimney_1 23 rfl rfl)
theorem dX9_readsChimney_48 : decode cX9_readsChimney 48 = .ok (.ireturn, 1) := dk_172 (dk_at dksX9_readsChimney_2 0 rfl rfl)
abbrev cX9_stops : ByteArray := prog_11_method_64_code
def yX9_stops : MethodName := ⟨RX9, "stops", "(Z)Z"⟩
def dkwX9_stops_1 : List UInt8 := [3, 172]
abbrev dktX9_stops_1 : List UInt8 := dkwX9_stops_1 ++ []
def dkwX9_stops_0 : List UInt8 := [42, 4, 182, 0, 185, 153, 0, 19, 27, 154, 0, 11, 42, 6, 182, 0, 182, 153, 0, 7, 4, 167, 0, 4]
abbrev dktX9_stops_0 : List UInt8 := dkwX9_stops_0 ++ dktX9_stops_1
theorem dksX9_stops_0 : cX9_stops.data.toList.drop 0 = dktX9_stops_0 := by decide +kernel
theorem dksX9_stops_1 : cX9_stops.data.toList.drop 24 = dktX9_stops_1 := dk_seg dksX9_stops_0 24 rfl rfl
theorem dX9_stops_0 : decode cX9_stops 0 = .ok (.aload_n 0, 1) := dk_42 (dk_at dksX9_stops_0 0 rfl rfl)
theorem dX9_stops_1 : decode cX9_stops 1 = .ok (.iconst 1, 1) := dk_4 (dk_at dksX9_stops_0 1 rfl rfl)
theorem dX9_stops_2 : decode cX9_stops 2 = .ok (.invokevirtual 185, 3) := dk_182 0 185 (dk_at dksX9_stops_0 2 rfl rfl)
theorem dX9_stops_5 : decode cX9_stops 5 = .ok (.ifCond .eq 19, 3) := dk_153 0 19 (dk_at dksX9_stops_0 5 rfl rfl)
theorem dX9_stops_8 : decode cX9_stops 8 = .ok (.iload_n 1, 1) := dk_27 (dk_at dksX9_stops_0 8 rfl rfl)
theorem dX9_stops_9 : decode cX9_stops 9 = .ok (.ifCond .ne 11, 3) := dk_154 0 11 (dk_at dksX9_stops_0 9 rfl rfl)
theorem dX9_stops_12 : decode cX9_stops 12 = .ok (.aload_n 0, 1) := dk_42 (dk_at dksX9_stops_0 12 rfl rfl)
theorem dX9_stops_13 : decode cX9_stops 13 = .ok (.iconst 3, 1) := dk_6 (dk_at dksX9_stops_0 13 rfl rfl)
theorem dX9_stops_14 : decode cX9_stops 14 = .ok (.invokevirtual 182, 3) := dk_182 0 182 (dk_at dksX9_stops_0 14 rfl rfl)
theorem dX9_stops_17 : decode cX9_stops 17 = .ok (.ifCond .eq 7, 3) := dk_153 0 7 (dk_at dksX9_stops_0 17 rfl rfl)
theorem dX9_stops_20 : decode cX9_stops 20 = .ok (.iconst 1, 1) := dk_4 (dk_at dksX9_stops_0 20 rfl rfl)
theorem dX9_stops_21 : decode cX9_stops 21 = .ok (.goto 4, 3) := dk_167 0 4 (dk_at dksX9_stops_0 21 rfl rfl)
theorem dX9_stops_24 : decode cX9_stops 24 = .ok (.iconst 0, 1) := dk_3 (dk_at dksX9_stops_1 0 rfl rfl)
theorem dX9_stops_25 : decode cX9_stops 25 = .ok (.ireturn, 1) := dk_172 (dk_at dksX9_stops_1 1 rfl rfl)
abbrev cX9_builds : ByteArray := prog_11_method_33_code
def yX9_builds : MethodName := ⟨RX9, "builds", "(I)I"⟩
def dkwX9_builds_2 : List UInt8 := [4, 100, 172]
abbrev dktX9_builds_2 : List UInt8 := dkwX9_builds_2 ++ []
def dkwX9_builds_1 : List UInt8 := [180, 0, 7, 3, 46, 96, 2, 79, 42, 180, 0, 7, 3, 92, 46, 4, 96, 79, 42, 180, 0, 7, 3, 46]
abbrev dktX9_builds_1 : List UInt8 := dkwX9_builds_1 ++ dktX9_builds_2
def dkwX9_builds_0 : List UInt8 := [42, 180, 0, 7, 16, 10, 42, 180, 0, 7, 3, 46, 96, 27, 79, 42, 180, 0, 7, 16, 20, 42]
abbrev dktX9_builds_0 : List UInt8 := dkwX9_builds_0 ++ dktX9_builds_1
theorem dksX9_builds_0 : cX9_builds.data.toList.drop 0 = dktX9_builds_0 := by decide +kernel
theorem dksX9_builds_1 : cX9_builds.data.toList.drop 22 = dktX9_builds_1 := dk_seg dksX9_builds_0 22 rfl rfl
theorem dksX9_builds_2 : cX9_builds.data.toList.drop 46 = dktX9_builds_2 := dk_seg dksX9_builds_1 24 rfl rfl
theorem dX9_builds_0 : decode cX9_builds 0 = .ok (.aload_n 0, 1) := dk_42 (dk_at dksX9_builds_0 0 rfl rfl)
theorem dX9_builds_1 : decode cX9_builds 1 = .ok (.getfield 7, 3) := dk_180 0 7 (dk_at dksX9_builds_0 1 rfl rfl)
theorem dX9_builds_4 : decode cX9_builds 4 = .ok (.bipush 10, 2) := dk_16 10 (dk_at dksX9_builds_0 4 rfl rfl)
theorem dX9_builds_6 : decode cX9_builds 6 = .ok (.aload_n 0, 1) := dk_42 (dk_at dksX9_builds_0 6 rfl rfl)
theorem dX9_builds_7 : decode cX9_builds 7 = .ok (.getfield 7, 3) := dk_180 0 7 (dk_at dksX9_builds_0 7 rfl rfl)
theorem dX9_builds_10 : decode cX9_builds 10 = .ok (.iconst 0, 1) := dk_3 (dk_at dksX9_builds_0 10 rfl rfl)
theorem dX9_builds_11 : decode cX9_builds 11 = .ok (.iaload, 1) := dk_46 (dk_at dksX9_builds_0 11 rfl rfl)
theorem dX9_builds_12 : decode cX9_builds 12 = .ok (.iadd, 1) := dk_96 (dk_at dksX9_builds_0 12 rfl rfl)
theorem dX9_builds_13 : decode cX9_builds 13 = .ok (.iload_n 1, 1) := dk_27 (dk_at dksX9_builds_0 13 rfl rfl)
theorem dX9_builds_14 : decode cX9_builds 14 = .ok (.iastore, 1) := dk_79 (dk_at dksX9_builds_0 14 rfl rfl)
theorem dX9_builds_15 : decode cX9_builds 15 = .ok (.aload_n 0, 1) := dk_42 (dk_at dksX9_builds_0 15 rfl rfl)
theorem dX9_builds_16 : decode cX9_builds 16 = .ok (.getfield 7, 3) := dk_180 0 7 (dk_at dksX9_builds_0 16 rfl rfl)
theorem dX9_builds_19 : decode cX9_builds 19 = .ok (.bipush 20, 2) := dk_16 20 (dk_at dksX9_builds_0 19 rfl rfl)
theorem dX9_builds_21 : decode cX9_builds 21 = .ok (.aload_n 0, 1) := dk_42 (dk_at dksX9_builds_0 21 rfl rfl)
theorem dX9_builds_22 : decode cX9_builds 22 = .ok (.getfield 7, 3) := dk_180 0 7 (dk_at dksX9_builds_1 0 rfl rfl)
theorem dX9_builds_25 : decode cX9_builds 25 = .ok (.iconst 0, 1) := dk_3 (dk_at dksX9_builds_1 3 rfl rfl)
theorem dX9_builds_26 : decode cX9_builds 26 = .ok (.iaload, 1) := dk_46 (dk_at dksX9_builds_1 4 rfl rfl)
theorem dX9_builds_27 : decode cX9_builds 27 = .ok (.iadd, 1) := dk_96 (dk_at dksX9_builds_1 5 rfl rfl)
theorem dX9_builds_28 : decode cX9_builds 28 = .ok (.iconst (-1), 1) := dk_2 (dk_at dksX9_builds_1 6 rfl rfl)
theorem dX9_builds_29 : decode cX9_builds 29 = .ok (.iastore, 1) := dk_79 (dk_at dksX9_builds_1 7 rfl rfl)
theorem dX9_builds_30 : decode cX9_builds 30 = .ok (.aload_n 0, 1) := dk_42 (dk_at dksX9_builds_1 8 rfl rfl)
theorem dX9_builds_31 : decode cX9_builds 31 = .ok (.getfield 7, 3) := dk_180 0 7 (dk_at dksX9_builds_1 9 rfl rfl)
theorem dX9_builds_34 : decode cX9_builds 34 = .ok (.iconst 0, 1) := dk_3 (dk_at dksX9_builds_1 12 rfl rfl)
theorem dX9_builds_35 : decode cX9_builds 35 = .ok (.dup2, 1) := dk_92 (dk_at dksX9_builds_1 13 rfl rfl)
theorem dX9_builds_36 : decode cX9_builds 36 = .ok (.iaload, 1) := dk_46 (dk_at dksX9_builds_1 14 rfl rfl)
theorem dX9_builds_37 : decode cX9_builds 37 = .ok (.iconst 1, 1) := dk_4 (dk_at dksX9_builds_1 15 rfl rfl)
theorem dX9_builds_38 : decode cX9_builds 38 = .ok (.iadd, 1) := dk_96 (dk_at dksX9_builds_1 16 rfl rfl)
theorem dX9_builds_39 : decode cX9_builds 39 = .ok (.iastore, 1) := dk_79 (dk_at dksX9_builds_1 17 rfl rfl)
theorem dX9_builds_40 : decode cX9_builds 40 = .ok (.aload_n 0, 1) := dk_42 (dk_at dksX9_builds_1 18 rfl rfl)
theorem dX9_builds_41 : decode cX9_builds 41 = .ok (.getfield 7, 3) := dk_180 0 7 (dk_at dksX9_builds_1 19 rfl rfl)
theorem dX9_builds_44 : decode cX9_builds 44 = .ok (.iconst 0, 1) := dk_3 (dk_at dksX9_builds_1 22 rfl rfl)
theorem dX9_builds_45 : decode cX9_builds 45 = .ok (.iaload, 1) := dk_46 (dk_at dksX9_builds_1 23 rfl rfl)
theorem dX9_builds_46 : decode cX9_builds 46 = .ok (.iconst 1, 1) := dk_4 (dk_at dksX9_builds_2 0 rfl rfl)
theorem dX9_builds_47 : decode cX9_builds 47 = .ok (.isub, 1) := dk_100 (dk_at dksX9_builds_2 1 rfl rfl)
theorem dX9_builds_48 : decode cX9_builds 48 = .ok (.ireturn, 1) := dk_172 (dk_at dksX9_builds_2 2 rfl rfl)
abbrev cX9_readsGutter : ByteArray := prog_11_method_66_code
def yX9_readsGutter : MethodName := ⟨RX9, "readsGutter", "()Z"⟩
def dkwX9_readsGutter_3 : List UInt8 := [46, 42, 180, 0, 42, 5, 46, 182, 0, 207, 87, 4, 172]
abbrev dktX9_readsGutter_3 : List UInt8 := dkwX9_readsGutter_3 ++ []
def dkwX9_readsGutter_2 : List UInt8 := [167, 0, 4, 3, 182, 0, 194, 154, 0, 5, 3, 172, 42, 42, 180, 0, 42, 3, 46, 42, 180, 0, 42, 4]
abbrev dktX9_readsGutter_2 : List UInt8 := dkwX9_readsGutter_2 ++ dktX9_readsGutter_3
def dkwX9_readsGutter_1 : List UInt8 := [5, 4, 16, 9, 182, 0, 191, 153, 0, 26, 42, 42, 180, 0, 7, 4, 46, 16, 20, 162, 0, 7, 4]
abbrev dktX9_readsGutter_1 : List UInt8 := dkwX9_readsGutter_1 ++ dktX9_readsGutter_2
def dkwX9_readsGutter_0 : List UInt8 := [42, 3, 182, 0, 201, 153, 0, 52, 42, 42, 180, 0, 7, 3, 46, 4, 100, 182, 0, 204, 153, 0, 37, 42]
abbrev dktX9_readsGutter_0 : List UInt8 := dkwX9_readsGutter_0 ++ dktX9_readsGutter_1
theorem dksX9_readsGutter_0 : cX9_readsGutter.data.toList.drop 0 = dktX9_readsGutter_0 := by decide +kernel
theorem dksX9_readsGutter_1 : cX9_readsGutter.data.toList.drop 24 = dktX9_readsGutter_1 := dk_seg dksX9_readsGutter_0 24 rfl rfl
theorem dksX9_readsGutter_2 : cX9_readsGutter.data.toList.drop 47 = dktX9_readsGutter_2 := dk_seg dksX9_readsGutter_1 23 rfl rfl
theorem dksX9_readsGutter_3 : cX9_readsGutter.data.toList.drop 71 = dktX9_readsGutter_3 := dk_seg dksX9_readsGutter_2 24 rfl rfl
theorem dX9_readsGutter_0 : decode cX9_readsGutter 0 = .ok (.aload_n 0, 1) := dk_42 (dk_at dksX9_readsGutter_0 0 rfl rfl)
theorem dX9_readsGutter_1 : decode cX9_readsGutter 1 = .ok (.iconst 0, 1) := dk_3 (dk_at dksX9_readsGutter_0 1 rfl rfl)
theorem dX9_readsGutter_2 : decode cX9_readsGutter 2 = .ok (.invokevirtual 201, 3) := dk_182 0 201 (dk_at dksX9_readsGutter_0 2 rfl rfl)
theorem dX9_readsGutter_5 : decode cX9_readsGutter 5 = .ok (.ifCond .eq 52, 3) := dk_153 0 52 (dk_at dksX9_readsGutter_0 5 rfl rfl)
theorem dX9_readsGutter_8 : decode cX9_readsGutter 8 = .ok (.aload_n 0, 1) := dk_42 (dk_at dksX9_readsGutter_0 8 rfl rfl)
theorem dX9_readsGutter_9 : decode cX9_readsGutter 9 = .ok (.aload_n 0, 1) := dk_42 (dk_at dksX9_readsGutter_0 9 rfl rfl)
theorem dX9_readsGutter_10 : decode cX9_readsGutter 10 = .ok (.getfield 7, 3) := dk_180 0 7 (dk_at dksX9_readsGutter_0 10 rfl rfl)
theorem dX9_readsGutter_13 : decode cX9_readsGutter 13 = .ok (.iconst 0, 1) := dk_3 (dk_at dksX9_readsGutter_0 13 rfl rfl)
theorem dX9_readsGutter_14 : decode cX9_readsGutter 14 = .ok (.iaload, 1) := dk_46 (dk_at dksX9_readsGutter_0 14 rfl rfl)
theorem dX9_readsGutter_15 : decode cX9_readsGutter 15 = .ok (.iconst 1, 1) := dk_4 (dk_at dksX9_readsGutter_0 15 rfl rfl)
theorem dX9_readsGutter_16 : decode cX9_readsGutter 16 = .ok (.isub, 1) := dk_100 (dk_at dksX9_readsGutter_0 16 rfl rfl)
theorem dX9_readsGutter_17 : decode cX9_readsGutter 17 = .ok (.invokevirtual 204, 3) := dk_182 0 204 (dk_at dksX9_readsGutter_0 17 rfl rfl)
theorem dX9_readsGutter_20 : decode cX9_readsGutter 20 = .ok (.ifCond .eq 37, 3) := dk_153 0 37 (dk_at dksX9_readsGutter_0 20 rfl rfl)
theorem dX9_readsGutter_23 : decode cX9_readsGutter 23 = .ok (.aload_n 0, 1) := dk_42 (dk_at dksX9_readsGutter_0 23 rfl rfl)
theorem dX9_readsGutter_24 : decode cX9_readsGutter 24 = .ok (.iconst 2, 1) := dk_5 (dk_at dksX9_readsGutter_1 0 rfl rfl)
theorem dX9_readsGutter_25 : decode cX9_readsGutter 25 = .ok (.iconst 1, 1) := dk_4 (dk_at dksX9_readsGutter_1 1 rfl rfl)
theorem dX9_readsGutter_26 : decode cX9_readsGutter 26 = .ok (.bipush 9, 2) := dk_16 9 (dk_at dksX9_readsGutter_1 2 rfl rfl)
theorem dX9_readsGutter_28 : decode cX9_readsGutter 28 = .ok (.invokevirtual 191, 3) := dk_182 0 191 (dk_at dksX9_readsGutter_1 4 rfl rfl)
theorem dX9_readsGutter_31 : decode cX9_readsGutter 31 = .ok (.ifCond .eq 26, 3) := dk_153 0 26 (dk_at dksX9_readsGutter_1 7 rfl rfl)
theorem dX9_readsGutter_34 : decode cX9_readsGutter 34 = .ok (.aload_n 0, 1) := dk_42 (dk_at dksX9_readsGutter_1 10 rfl rfl)
theorem dX9_readsGutter_35 : decode cX9_readsGutter 35 = .ok (.aload_n 0, 1) := dk_42 (dk_at dksX9_readsGutter_1 11 rfl rfl)
theorem dX9_readsGutter_36 : decode cX9_readsGutter 36 = .ok (.getfield 7, 3) := dk_180 0 7 (dk_at dksX9_readsGutter_1 12 rfl rfl)
theorem dX9_readsGutter_39 : decode cX9_readsGutter 39 = .ok (.iconst 1, 1) := dk_4 (dk_at dksX9_readsGutter_1 15 rfl rfl)
theorem dX9_readsGutter_40 : decode cX9_readsGutter 40 = .ok (.iaload, 1) := dk_46 (dk_at dksX9_readsGutter_1 16 rfl rfl)
theorem dX9_readsGutter_41 : decode cX9_readsGutter 41 = .ok (.bipush 20, 2) := dk_16 20 (dk_at dksX9_readsGutter_1 17 rfl rfl)
theorem dX9_readsGutter_43 : decode cX9_readsGutter 43 = .ok (.if_icmp .ge 7, 3) := dk_162 0 7 (dk_at dksX9_readsGutter_1 19 rfl rfl)
theorem dX9_readsGutter_46 : decode cX9_readsGutter 46 = .ok (.iconst 1, 1) := dk_4 (dk_at dksX9_readsGutter_1 22 rfl rfl)
theorem dX9_readsGutter_47 : decode cX9_readsGutter 47 = .ok (.goto 4, 3) := dk_167 0 4 (dk_at dksX9_readsGutter_2 0 rfl rfl)
theorem dX9_readsGutter_50 : decode cX9_readsGutter 50 = .ok (.iconst 0, 1) := dk_3 (dk_at dksX9_readsGutter_2 3 rfl rfl)
theorem dX9_readsGutter_51 : decode cX9_readsGutter 51 = .ok (.invokevirtual 194, 3) := dk_182 0 194 (dk_at dksX9_readsGutter_2 4 rfl rfl)
theorem dX9_readsGutter_54 : decode cX9_readsGutter 54 = .ok (.ifCond .ne 5, 3) := dk_154 0 5 (dk_at dksX9_readsGutter_2 7 rfl rfl)
theorem dX9_readsGutter_57 : decode cX9_readsGutter 57 = .ok (.iconst 0, 1) := dk_3 (dk_at dksX9_readsGutter_2 10 rfl rfl)
theorem dX9_readsGutter_58 : decode cX9_readsGutter 58 = .ok (.ireturn, 1) := dk_172 (dk_at dksX9_readsGutter_2 11 rfl rfl)
theorem dX9_readsGutter_59 : decode cX9_readsGutter 59 = .ok (.aload_n 0, 1) := dk_42 (dk_at dksX9_readsGutter_2 12 rfl rfl)
theorem dX9_readsGutter_60 : decode cX9_readsGutter 60 = .ok (.aload_n 0, 1) := dk_42 (dk_at dksX9_readsGutter_2 13 rfl rfl)
theorem dX9_readsGutter_61 : decode cX9_readsGutter 61 = .ok (.getfield 42, 3) := dk_180 0 42 (dk_at dksX9_readsGutter_2 14 rfl rfl)
theorem dX9_readsGutter_64 : decode cX9_readsGutter 64 = .ok (.iconst 0, 1) := dk_3 (dk_at dksX9_readsGutter_2 17 rfl rfl)
theorem dX9_readsGutter_65 : decode cX9_readsGutter 65 = .ok (.iaload, 1) := dk_46 (dk_at dksX9_readsGutter_2 18 rfl rfl)
theorem dX9_readsGutter_66 : decode cX9_readsGutter 66 = .ok (.aload_n 0, 1) := dk_42 (dk_at dksX9_readsGutter_2 19 rfl rfl)
theorem dX9_readsGutter_67 : decode cX9_readsGutter 67 = .ok (.getfield 42, 3) := dk_180 0 42 (dk_at dksX9_readsGutter_2 20 rfl rfl)
theorem dX9_readsGutter_70 : decode cX9_readsGutter 70 = .ok (.iconst 1, 1) := dk_4 (dk_at dksX9_readsGutter_2 23 rfl rfl)
theorem dX9_readsGutter_71 : decode cX9_readsGutter 71 = .ok (.iaload, 1) := dk_46 (dk_at dksX9_readsGutter_3 0 rfl rfl)
theorem dX9_readsGutter_72 : decode cX9_readsGutter 72 = .ok (.aload_n 0, 1) := dk_42 (dk_at dksX9_readsGutter_3 1 rfl rfl)
theorem dX9_readsGutter_73 : decode cX9_readsGutter 73 = .ok (.getfield 42, 3) := dk_180 0 42 (dk_at dksX9_readsGutter_3 2 rfl rfl)
theorem dX9_readsGutter_76 : decode cX9_readsGutter 76 = .ok (.iconst 2, 1) := dk_5 (dk_at dksX9_readsGutter_3 5 rfl rfl)
theorem dX9_readsGutter_77 : decode cX9_readsGutter 77 = .ok (.iaload, 1) := dk_46 (dk_at dksX9_readsGutter_3 6 rfl rfl)
theorem dX9_readsGutter_78 : decode cX9_readsGutter 78 = .ok (.invokevirtual 207, 3) := dk_182 0 207 (dk_at dksX9_readsGutter_3 7 rfl rfl)
theorem dX9_readsGutter_81 : decode cX9_readsGutter 81 = .ok (.pop, 1) := dk_87 (dk_at dksX9_readsGutter_3 10 rfl rfl)
theorem dX9_readsGutter_82 : decode cX9_readsGutter 82 = .ok (.iconst 1, 1) := dk_4 (dk_at dksX9_readsGutter_3 11 rfl rfl)
theorem dX9_readsGutter_83 : decode cX9_readsGutter 83 = .ok (.ireturn, 1) := dk_172 (dk_at dksX9_readsGutter_3 12 rfl rfl)
abbrev cX9_chimneyAt : ByteArray := prog_11_method_60_code
def yX9_chimneyAt : MethodName := ⟨RX9, "chimneyAt", "(I)Z"⟩
def dkwX9_chimneyAt_0 : List UInt8 := [42, 27, 3, 42, 180, 0, 7, 3, 46, 4, 100, 182, 0, 191, 172]
abbrev dktX9_chimneyAt_0 : List UInt8 := dkwX9_chimneyAt_0 ++ []
theorem dksX9_chimneyAt_0 : cX9_chimneyAt.data.toList.drop 0 = dktX9_chimneyAt_0 := by decide +kernel
theorem dX9_chimneyAt_0 : decode cX9_chimneyAt 0 = .ok (.aload_n 0, 1) := dk_42 (dk_at dksX9_chimneyAt_0 0 rfl rfl)
theorem dX9_chimneyAt_1 : decode cX9_chimneyAt 1 = .ok (.iload_n 1, 1) := dk_27 (dk_at dksX9_chimneyAt_0 1 rfl rfl)
theorem dX9_chimneyAt_2 : decode cX9_chimneyAt 2 = .ok (.iconst 0, 1) := dk_3 (dk_at dksX9_chimneyAt_0 2 rfl rfl)
theorem dX9_chimneyAt_3 : decode cX9_chimneyAt 3 = .ok (.aload_n 0, 1) := dk_42 (dk_at dksX9_chimneyAt_0 3 rfl rfl)
theorem dX9_chimneyAt_4 : decode cX9_chimneyAt 4 = .ok (.getfield 7, 3) := dk_180 0 7 (dk_at dksX9_chimneyAt_0 4 rfl rfl)
theorem dX9_chimneyAt_7 : decode cX9_chimneyAt 7 = .ok (.iconst 0, 1) := dk_3 (dk_at dksX9_chimneyAt_0 7 rfl rfl)
theorem dX9_chimneyAt_8 : decode cX9_chimneyAt 8 = .ok (.iaload, 1) := dk_46 (dk_at dksX9_chimneyAt_0 8 rfl rfl)
theorem dX9_chimneyAt_9 : decode cX9_chimneyAt 9 = .ok (.iconst 1, 1) := dk_4 (dk_at dksX9_chimneyAt_0 9 rfl rfl)
theorem dX9_chimneyAt_10 : decode cX9_chimneyAt 10 = .ok (.isub, 1) := dk_100 (dk_at dksX9_chimneyAt_0 10 rfl rfl)
theorem dX9_chimneyAt_11 : decode cX9_chimneyAt 11 = .ok (.invokevirtual 191, 3) := dk_182 0 191 (dk_at dksX9_chimneyAt_0 11 rfl rfl)
theorem dX9_chimneyAt_14 : decode cX9_chimneyAt 14 = .ok (.ireturn, 1) := dk_172 (dk_at dksX9_chimneyAt_0 14 rfl rfl)
abbrev cX9_another : ByteArray := prog_11_method_62_code
def yX9_another : MethodName := ⟨RX9, "another", "(I)Z"⟩
def dkwX9_another_1 : List UInt8 := [182, 0, 182, 167, 0, 10, 42, 4, 3, 27, 182, 0, 191, 172]
abbrev dktX9_another_1 : List UInt8 := dkwX9_another_1 ++ []
def dkwX9_another_0 : List UInt8 := [42, 180, 0, 170, 6, 160, 0, 24, 42, 180, 0, 176, 42, 180, 0, 42, 3, 46, 160, 0, 11, 42, 5]
abbrev dktX9_another_0 : List UInt8 := dkwX9_another_0 ++ dktX9_another_1
theorem dksX9_another_0 : cX9_another.data.toList.drop 0 = dktX9_another_0 := by decide +kernel
theorem dksX9_another_1 : cX9_another.data.toList.drop 23 = dktX9_another_1 := dk_seg dksX9_another_0 23 rfl rfl
theorem dX9_another_0 : decode cX9_another 0 = .ok (.aload_n 0, 1) := dk_42 (dk_at dksX9_another_0 0 rfl rfl)
theorem dX9_another_1 : decode cX9_another 1 = .ok (.getfield 170, 3) := dk_180 0 170 (dk_at dksX9_another_0 1 rfl rfl)
theorem dX9_another_4 : decode cX9_another 4 = .ok (.iconst 3, 1) := dk_6 (dk_at dksX9_another_0 4 rfl rfl)
theorem dX9_another_5 : decode cX9_another 5 = .ok (.if_icmp .ne 24, 3) := dk_160 0 24 (dk_at dksX9_another_0 5 rfl rfl)
theorem dX9_another_8 : decode cX9_another 8 = .ok (.aload_n 0, 1) := dk_42 (dk_at dksX9_another_0 8 rfl rfl)
theorem dX9_another_9 : decode cX9_another 9 = .ok (.getfield 176, 3) := dk_180 0 176 (dk_at dksX9_another_0 9 rfl rfl)
theorem dX9_another_12 : decode cX9_another 12 = .ok (.aload_n 0, 1) := dk_42 (dk_at dksX9_another_0 12 rfl rfl)
theorem dX9_another_13 : decode cX9_another 13 = .ok (.getfield 42, 3) := dk_180 0 42 (dk_at dksX9_another_0 13 rfl rfl)
theorem dX9_another_16 : decode cX9_another 16 = .ok (.iconst 0, 1) := dk_3 (dk_at dksX9_another_0 16 rfl rfl)
theorem dX9_another_17 : decode cX9_another 17 = .ok (.iaload, 1) := dk_46 (dk_at dksX9_another_0 17 rfl rfl)
theorem dX9_another_18 : decode cX9_another 18 = .ok (.if_icmp .ne 11, 3) := dk_160 0 11 (dk_at dksX9_another_0 18 rfl rfl)
theorem dX9_another_21 : decode cX9_another 21 = .ok (.aload_n 0, 1) := dk_42 (dk_at dksX9_another_0 21 rfl rfl)
theorem dX9_another_22 : decode cX9_another 22 = .ok (.iconst 2, 1) := dk_5 (dk_at dksX9_another_0 22 rfl rfl)
theorem dX9_another_23 : decode cX9_another 23 = .ok (.invokevirtual 182, 3) := dk_182 0 182 (dk_at dksX9_another_1 0 rfl rfl)
theorem dX9_another_26 : decode cX9_another 26 = .ok (.goto 10, 3) := dk_167 0 10 (dk_at dksX9_another_1 3 rfl rfl)
theorem dX9_another_29 : decode cX9_another 29 = .ok (.aload_n 0, 1) := dk_42 (dk_at dksX9_another_1 6 rfl rfl)
theorem dX9_another_30 : decode cX9_another 30 = .ok (.iconst 1, 1) := dk_4 (dk_at dksX9_another_1 7 rfl rfl)
theorem dX9_another_31 : decode cX9_another 31 = .ok (.iconst 0, 1) := dk_3 (dk_at dksX9_another_1 8 rfl rfl)
theorem dX9_another_32 : decode cX9_another 32 = .ok (.iload_n 1, 1) := dk_27 (dk_at dksX9_another_1 9 rfl rfl)
theorem dX9_another_33 : decode cX9_another 33 = .ok (.invokevirtual 191, 3) := dk_182 0 191 (dk_at dksX9_another_1 10 rfl rfl)
theorem dX9_another_36 : decode cX9_another 36 = .ok (.ireturn, 1) := dk_172 (dk_at dksX9_another_1 13 rfl rfl)
abbrev cX9_lays : ByteArray := prog_11_method_34_code
def yX9_lays : MethodName := ⟨RX9, "lays", "(III)I"⟩
def dkwX9_lays_2 : List UInt8 := [92, 46, 4, 96, 79, 42, 180, 0, 7, 4, 46, 4, 100, 172]
abbrev dktX9_lays_2 : List UInt8 := dkwX9_lays_2 ++ []
def dkwX9_lays_1 : List UInt8 := [180, 0, 7, 21, 4, 4, 96, 28, 79, 42, 180, 0, 7, 21, 4, 5, 96, 29, 79, 42, 180, 0, 7, 4]
abbrev dktX9_lays_1 : List UInt8 := dkwX9_lays_1 ++ dktX9_lays_2
def dkwX9_lays_0 : List UInt8 := [16, 30, 6, 42, 180, 0, 7, 4, 46, 104, 96, 54, 4, 42, 180, 0, 7, 21, 4, 3, 96, 27, 79, 42]
abbrev dktX9_lays_0 : List UInt8 := dkwX9_lays_0 ++ dktX9_lays_1
theorem dksX9_lays_0 : cX9_lays.data.toList.drop 0 = dktX9_lays_0 := by decide +kernel
theorem dksX9_lays_1 : cX9_lays.data.toList.drop 24 = dktX9_lays_1 := dk_seg dksX9_lays_0 24 rfl rfl
theorem dksX9_lays_2 : cX9_lays.data.toList.drop 48 = dktX9_lays_2 := dk_seg dksX9_lays_1 24 rfl rfl
theorem dX9_lays_0 : decode cX9_lays 0 = .ok (.bipush 30, 2) := dk_16 30 (dk_at dksX9_lays_0 0 rfl rfl)
theorem dX9_lays_2 : decode cX9_lays 2 = .ok (.iconst 3, 1) := dk_6 (dk_at dksX9_lays_0 2 rfl rfl)
theorem dX9_lays_3 : decode cX9_lays 3 = .ok (.aload_n 0, 1) := dk_42 (dk_at dksX9_lays_0 3 rfl rfl)
theorem dX9_lays_4 : decode cX9_lays 4 = .ok (.getfield 7, 3) := dk_180 0 7 (dk_at dksX9_lays_0 4 rfl rfl)
theorem dX9_lays_7 : decode cX9_lays 7 = .ok (.iconst 1, 1) := dk_4 (dk_at dksX9_lays_0 7 rfl rfl)
theorem dX9_lays_8 : decode cX9_lays 8 = .ok (.iaload, 1) := dk_46 (dk_at dksX9_lays_0 8 rfl rfl)
theorem dX9_lays_9 : decode cX9_lays 9 = .ok (.imul, 1) := dk_104 (dk_at dksX9_lays_0 9 rfl rfl)
theorem dX9_lays_10 : decode cX9_lays 10 = .ok (.iadd, 1) := dk_96 (dk_at dksX9_lays_0 10 rfl rfl)
theorem dX9_lays_11 : decode cX9_lays 11 = .ok (.istore 4, 2) := dk_54 4 (dk_at dksX9_lays_0 11 rfl rfl)
theorem dX9_lays_13 : decode cX9_lays 13 = .ok (.aload_n 0, 1) := dk_42 (dk_at dksX9_lays_0 13 rfl rfl)
theorem dX9_lays_14 : decode cX9_lays 14 = .ok (.getfield 7, 3) := dk_180 0 7 (dk_at dksX9_lays_0 14 rfl rfl)
theorem dX9_lays_17 : decode cX9_lays 17 = .ok (.iload 4, 2) := dk_21 4 (dk_at dksX9_lays_0 17 rfl rfl)
theorem dX9_lays_19 : decode cX9_lays 19 = .ok (.iconst 0, 1) := dk_3 (dk_at dksX9_lays_0 19 rfl rfl)
theorem dX9_lays_20 : decode cX9_lays 20 = .ok (.iadd, 1) := dk_96 (dk_at dksX9_lays_0 20 rfl rfl)
theorem dX9_lays_21 : decode cX9_lays 21 = .ok (.iload_n 1, 1) := dk_27 (dk_at dksX9_lays_0 21 rfl rfl)
theorem dX9_lays_22 : decode cX9_lays 22 = .ok (.iastore, 1) := dk_79 (dk_at dksX9_lays_0 22 rfl rfl)
theorem dX9_lays_23 : decode cX9_lays 23 = .ok (.aload_n 0, 1) := dk_42 (dk_at dksX9_lays_0 23 rfl rfl)
theorem dX9_lays_24 : decode cX9_lays 24 = .ok (.getfield 7, 3) := dk_180 0 7 (dk_at dksX9_lays_1 0 rfl rfl)
theorem dX9_lays_27 : decode cX9_lays 27 = .ok (.iload 4, 2) := dk_21 4 (dk_at dksX9_lays_1 3 rfl rfl)
theorem dX9_lays_29 : decode cX9_lays 29 = .ok (.iconst 1, 1) := dk_4 (dk_at dksX9_lays_1 5 rfl rfl)
theorem dX9_lays_30 : decode cX9_lays 30 = .ok (.iadd, 1) := dk_96 (dk_at dksX9_lays_1 6 rfl rfl)
theorem dX9_lays_31 : decode cX9_lays 31 = .ok (.iload_n 2, 1) := dk_28 (dk_at dksX9_lays_1 7 rfl rfl)
theorem dX9_lays_32 : decode cX9_lays 32 = .ok (.iastore, 1) := dk_79 (dk_at dksX9_lays_1 8 rfl rfl)
theorem dX9_lays_33 : decode cX9_lays 33 = .ok (.aload_n 0, 1) := dk_42 (dk_at dksX9_lays_1 9 rfl rfl)
theorem dX9_lays_34 : decode cX9_lays 34 = .ok (.getfield 7, 3) := dk_180 0 7 (dk_at dksX9_lays_1 10 rfl rfl)
theorem dX9_lays_37 : decode cX9_lays 37 = .ok (.iload 4, 2) := dk_21 4 (dk_at dksX9_lays_1 13 rfl rfl)
theorem dX9_lays_39 : decode cX9_lays 39 = .ok (.iconst 2, 1) := dk_5 (dk_at dksX9_lays_1 15 rfl rfl)
theorem dX9_lays_40 : decode cX9_lays 40 = .ok (.iadd, 1) := dk_96 (dk_at dksX9_lays_1 16 rfl rfl)
theorem dX9_lays_41 : decode cX9_lays 41 = .ok (.iload_n 3, 1) := dk_29 (dk_at dksX9_lays_1 17 rfl rfl)
theorem dX9_lays_42 : decode cX9_lays 42 = .ok (.iastore, 1) := dk_79 (dk_at dksX9_lays_1 18 rfl rfl)
theorem dX9_lays_43 : decode cX9_lays 43 = .ok (.aload_n 0, 1) := dk_42 (dk_at dksX9_lays_1 19 rfl rfl)
theorem dX9_lays_44 : decode cX9_lays 44 = .ok (.getfield 7, 3) := dk_180 0 7 (dk_at dksX9_lays_1 20 rfl rfl)
theorem dX9_lays_47 : decode cX9_lays 47 = .ok (.iconst 1, 1) := dk_4 (dk_at dksX9_lays_1 23 rfl rfl)
theorem dX9_lays_48 : decode cX9_lays 48 = .ok (.dup2, 1) := dk_92 (dk_at dksX9_lays_2 0 rfl rfl)
theorem dX9_lays_49 : decode cX9_lays 49 = .ok (.iaload, 1) := dk_46 (dk_at dksX9_lays_2 1 rfl rfl)
theorem dX9_lays_50 : decode cX9_lays 50 = .ok (.iconst 1, 1) := dk_4 (dk_at dksX9_lays_2 2 rfl rfl)
theorem dX9_lays_51 : decode cX9_lays 51 = .ok (.iadd, 1) := dk_96 (dk_at dksX9_lays_2 3 rfl rfl)
theorem dX9_lays_52 : decode cX9_lays 52 = .ok (.iastore, 1) := dk_79 (dk_at dksX9_lays_2 4 rfl rfl)
theorem dX9_lays_53 : decode cX9_lays 53 = .ok (.aload_n 0, 1) := dk_42 (dk_at dksX9_lays_2 5 rfl rfl)
theorem dX9_lays_54 : decode cX9_lays 54 = .ok (.getfield 7, 3) := dk_180 0 7 (dk_at dksX9_lays_2 6 rfl rfl)
theorem dX9_lays_57 : decode cX9_lays 57 = .ok (.iconst 1, 1) := dk_4 (dk_at dksX9_lays_2 9 rfl rfl)
theorem dX9_lays_58 : decode cX9_lays 58 = .ok (.iaload, 1) := dk_46 (dk_at dksX9_lays_2 10 rfl rfl)
theorem dX9_lays_59 : decode cX9_lays 59 = .ok (.iconst 1, 1) := dk_4 (dk_at dksX9_lays_2 11 rfl rfl)
theorem dX9_lays_60 : decode cX9_lays 60 = .ok (.isub, 1) := dk_100 (dk_at dksX9_lays_2 12 rfl rfl)
theorem dX9_lays_61 : decode cX9_lays 61 = .ok (.ireturn, 1) := dk_172 (dk_at dksX9_lays_2 13 rfl rfl)
abbrev cX9_readsCat : ByteArray := prog_11_method_67_code
def yX9_readsCat : MethodName := ⟨RX9, "readsCat", "()Z"⟩
def dkwX9_readsCat_2 : List UInt8 := [42, 180, 0, 42, 5, 46, 182, 0, 131, 87, 4, 172]
abbrev dktX9_readsCat_2 : List UInt8 := dkwX9_readsCat_2 ++ []
def dkwX9_readsCat_1 : List UInt8 := [182, 0, 213, 182, 0, 194, 154, 0, 5, 3, 172, 42, 42, 180, 0, 42, 3, 46, 42, 180, 0, 42, 4, 46]
abbrev dktX9_readsCat_1 : List UInt8 := dkwX9_readsCat_1 ++ dktX9_readsCat_2
def dkwX9_readsCat_0 : List UInt8 := [42, 3, 182, 0, 201, 153, 0, 28, 42, 4, 182, 0, 210, 153, 0, 20, 42, 42, 42, 180, 0, 42, 3, 46]
abbrev dktX9_readsCat_0 : List UInt8 := dkwX9_readsCat_0 ++ dktX9_readsCat_1
theorem dksX9_readsCat_0 : cX9_readsCat.data.toList.drop 0 = dktX9_readsCat_0 := by decide +kernel
theorem dksX9_readsCat_1 : cX9_readsCat.data.toList.drop 24 = dktX9_readsCat_1 := dk_seg dksX9_readsCat_0 24 rfl rfl
theorem dksX9_readsCat_2 : cX9_readsCat.data.toList.drop 48 = dktX9_readsCat_2 := dk_seg dksX9_readsCat_1 24 rfl rfl
theorem dX9_readsCat_0 : decode cX9_readsCat 0 = .ok (.aload_n 0, 1) := dk_42 (dk_at dksX9_readsCat_0 0 rfl rfl)
theorem dX9_readsCat_1 : decode cX9_readsCat 1 = .ok (.iconst 0, 1) := dk_3 (dk_at dksX9_readsCat_0 1 rfl rfl)
theorem dX9_readsCat_2 : decode cX9_readsCat 2 = .ok (.invokevirtual 201, 3) := dk_182 0 201 (dk_at dksX9_readsCat_0 2 rfl rfl)
theorem dX9_readsCat_5 : decode cX9_readsCat 5 = .ok (.ifCond .eq 28, 3) := dk_153 0 28 (dk_at dksX9_readsCat_0 5 rfl rfl)
theorem dX9_readsCat_8 : decode cX9_readsCat 8 = .ok (.aload_n 0, 1) := dk_42 (dk_at dksX9_readsCat_0 8 rfl rfl)
theorem dX9_readsCat_9 : decode cX9_readsCat 9 = .ok (.iconst 1, 1) := dk_4 (dk_at dksX9_readsCat_0 9 rfl rfl)
theorem dX9_readsCat_10 : decode cX9_readsCat 10 = .ok (.invokevirtual 210, 3) := dk_182 0 210 (dk_at dksX9_readsCat_0 10 rfl rfl)
theorem dX9_readsCat_13 : decode cX9_readsCat 13 = .ok (.ifCond .eq 20, 3) := dk_153 0 20 (dk_at dksX9_readsCat_0 13 rfl rfl)
theorem dX9_readsCat_16 : decode cX9_readsCat 16 = .ok (.aload_n 0, 1) := dk_42 (dk_at dksX9_readsCat_0 16 rfl rfl)
theorem dX9_readsCat_17 : decode cX9_readsCat 17 = .ok (.aload_n 0, 1) := dk_42 (dk_at dksX9_readsCat_0 17 rfl rfl)
theorem dX9_readsCat_18 : decode cX9_readsCat 18 = .ok (.aload_n 0, 1) := dk_42 (dk_at dksX9_readsCat_0 18 rfl rfl)
theorem dX9_readsCat_19 : decode cX9_readsCat 19 = .ok (.getfield 42, 3) := dk_180 0 42 (dk_at dksX9_readsCat_0 19 rfl rfl)
theorem dX9_readsCat_22 : decode cX9_readsCat 22 = .ok (.iconst 0, 1) := dk_3 (dk_at dksX9_readsCat_0 22 rfl rfl)
theorem dX9_readsCat_23 : decode cX9_readsCat 23 = .ok (.iaload, 1) := dk_46 (dk_at dksX9_readsCat_0 23 rfl rfl)
theorem dX9_readsCat_24 : decode cX9_readsCat 24 = .ok (.invokevirtual 213, 3) := dk_182 0 213 (dk_at dksX9_readsCat_1 0 rfl rfl)
theorem dX9_readsCat_27 : decode cX9_readsCat 27 = .ok (.invokevirtual 194, 3) := dk_182 0 194 (dk_at dksX9_readsCat_1 3 rfl rfl)
theorem dX9_readsCat_30 : decode cX9_readsCat 30 = .ok (.ifCond .ne 5, 3) := dk_154 0 5 (dk_at dksX9_readsCat_1 6 rfl rfl)
theorem dX9_readsCat_33 : decode cX9_readsCat 33 = .ok (.iconst 0, 1) := dk_3 (dk_at dksX9_readsCat_1 9 rfl rfl)
theorem dX9_readsCat_34 : decode cX9_readsCat 34 = .ok (.ireturn, 1) := dk_172 (dk_at dksX9_readsCat_1 10 rfl rfl)
theorem dX9_readsCat_35 : decode cX9_readsCat 35 = .ok (.aload_n 0, 1) := dk_42 (dk_at dksX9_readsCat_1 11 rfl rfl)
theorem dX9_readsCat_36 : decode cX9_readsCat 36 = .ok (.aload_n 0, 1) := dk_42 (dk_at dksX9_readsCat_1 12 rfl rfl)
theorem dX9_readsCat_37 : decode cX9_readsCat 37 = .ok (.getfield 42, 3) := dk_180 0 42 (dk_at dksX9_readsCat_1 13 rfl rfl)
theorem dX9_readsCat_40 : decode cX9_readsCat 40 = .ok (.iconst 0, 1) := dk_3 (dk_at dksX9_readsCat_1 16 rfl rfl)
theorem dX9_readsCat_41 : decode cX9_readsCat 41 = .ok (.iaload, 1) := dk_46 (dk_at dksX9_readsCat_1 17 rfl rfl)
theorem dX9_readsCat_42 : decode cX9_readsCat 42 = .ok (.aload_n 0, 1) := dk_42 (dk_at dksX9_readsCat_1 18 rfl rfl)
theorem dX9_readsCat_43 : decode cX9_readsCat 43 = .ok (.getfield 42, 3) := dk_180 0 42 (dk_at dksX9_readsCat_1 19 rfl rfl)
theorem dX9_readsCat_46 : decode cX9_readsCat 46 = .ok (.iconst 1, 1) := dk_4 (dk_at dksX9_readsCat_1 22 rfl rfl)
theorem dX9_readsCat_47 : decode cX9_readsCat 47 = .ok (.iaload, 1) := dk_46 (dk_at dksX9_readsCat_1 23 rfl rfl)
theorem dX9_readsCat_48 : decode cX9_readsCat 48 = .ok (.aload_n 0, 1) := dk_42 (dk_at dksX9_readsCat_2 0 rfl rfl)
theorem dX9_readsCat_49 : decode cX9_readsCat 49 = .ok (.getfield 42, 3) := dk_180 0 42 (dk_at dksX9_readsCat_2 1 rfl rfl)
theorem dX9_readsCat_52 : decode cX9_readsCat 52 = .ok (.iconst 2, 1) := dk_5 (dk_at dksX9_readsCat_2 4 rfl rfl)
theorem dX9_readsCat_53 : decode cX9_readsCat 53 = .ok (.iaload, 1) := dk_46 (dk_at dksX9_readsCat_2 5 rfl rfl)
theorem dX9_readsCat_54 : decode cX9_readsCat 54 = .ok (.invokevirtual 131, 3) := dk_182 0 131 (dk_at dksX9_readsCat_2 6 rfl rfl)
theorem dX9_readsCat_57 : decode cX9_readsCat 57 = .ok (.pop, 1) := dk_87 (dk_at dksX9_readsCat_2 9 rfl rfl)
theorem dX9_readsCat_58 : decode cX9_readsCat 58 = .ok (.iconst 1, 1) := dk_4 (dk_at dksX9_readsCat_2 10 rfl rfl)
theorem dX9_readsCat_59 : decode cX9_readsCat 59 = .ok (.ireturn, 1) := dk_172 (dk_at dksX9_readsCat_2 11 rfl rfl)
abbrev cX9_sizesAt : ByteArray := prog_11_method_63_code
def yX9_sizesAt : MethodName := ⟨RX9, "sizesAt", "(I)Z"⟩
def dkwX9_sizesAt_1 : List UInt8 := [4, 167, 0, 4, 3, 172]
abbrev dktX9_sizesAt_1 : List UInt8 := dkwX9_sizesAt_1 ++ []
def dkwX9_sizesAt_0 : List UInt8 := [42, 27, 4, 16, 9, 182, 0, 191, 153, 0, 20, 42, 27, 4, 96, 4, 16, 9, 182, 0, 191, 153, 0, 7]
abbrev dktX9_sizesAt_0 : List UInt8 := dkwX9_sizesAt_0 ++ dktX9_sizesAt_1
theorem dksX9_sizesAt_0 : cX9_sizesAt.data.toList.drop 0 = dktX9_sizesAt_0 := by decide +kernel
theorem dksX9_sizesAt_1 : cX9_sizesAt.data.toList.drop 24 = dktX9_sizesAt_1 := dk_seg dksX9_sizesAt_0 24 rfl rfl
theorem dX9_sizesAt_0 : decode cX9_sizesAt 0 = .ok (.aload_n 0, 1) := dk_42 (dk_at dksX9_sizesAt_0 0 rfl rfl)
theorem dX9_sizesAt_1 : decode cX9_sizesAt 1 = .ok (.iload_n 1, 1) := dk_27 (dk_at dksX9_sizesAt_0 1 rfl rfl)
theorem dX9_sizesAt_2 : decode cX9_sizesAt 2 = .ok (.iconst 1, 1) := dk_4 (dk_at dksX9_sizesAt_0 2 rfl rfl)
theorem dX9_sizesAt_3 : decode cX9_sizesAt 3 = .ok (.bipush 9, 2) := dk_16 9 (dk_at dksX9_sizesAt_0 3 rfl rfl)
theorem dX9_sizesAt_5 : decode cX9_sizesAt 5 = .ok (.invokevirtual 191, 3) := dk_182 0 191 (dk_at dksX9_sizesAt_0 5 rfl rfl)
theorem dX9_sizesAt_8 : decode cX9_sizesAt 8 = .ok (.ifCond .eq 20, 3) := dk_153 0 20 (dk_at dksX9_sizesAt_0 8 rfl rfl)
theorem dX9_sizesAt_11 : decode cX9_sizesAt 11 = .ok (.aload_n 0, 1) := dk_42 (dk_at dksX9_sizesAt_0 11 rfl rfl)
theorem dX9_sizesAt_12 : decode cX9_sizesAt 12 = .ok (.iload_n 1, 1) := dk_27 (dk_at dksX9_sizesAt_0 12 rfl rfl)
theorem dX9_sizesAt_13 : decode cX9_sizesAt 13 = .ok (.iconst 1, 1) := dk_4 (dk_at dksX9_sizesAt_0 13 rfl rfl)
theorem dX9_sizesAt_14 : decode cX9_sizesAt 14 = .ok (.iadd, 1) := dk_96 (dk_at dksX9_sizesAt_0 14 rfl rfl)
theorem dX9_sizesAt_15 : decode cX9_sizesAt 15 = .ok (.iconst 1, 1) := dk_4 (dk_at dksX9_sizesAt_0 15 rfl rfl)
theorem dX9_sizesAt_16 : decode cX9_sizesAt 16 = .ok (.bipush 9, 2) := dk_16 9 (dk_at dksX9_sizesAt_0 16 rfl rfl)
theorem dX9_sizesAt_18 : decode cX9_sizesAt 18 = .ok (.invokevirtual 191, 3) := dk_182 0 191 (dk_at dksX9_sizesAt_0 18 rfl rfl)
theorem dX9_sizesAt_21 : decode cX9_sizesAt 21 = .ok (.ifCond .eq 7, 3) := dk_153 0 7 (dk_at dksX9_sizesAt_0 21 rfl rfl)
theorem dX9_sizesAt_24 : decode cX9_sizesAt 24 = .ok (.iconst 1, 1) := dk_4 (dk_at dksX9_sizesAt_1 0 rfl rfl)
theorem dX9_sizesAt_25 : decode cX9_sizesAt 25 = .ok (.goto 4, 3) := dk_167 0 4 (dk_at dksX9_sizesAt_1 1 rfl rfl)
theorem dX9_sizesAt_28 : decode cX9_sizesAt 28 = .ok (.iconst 0, 1) := dk_3 (dk_at dksX9_sizesAt_1 4 rfl rfl)
theorem dX9_sizesAt_29 : decode cX9_sizesAt 29 = .ok (.ireturn, 1) := dk_172 (dk_at dksX9_sizesAt_1 5 rfl rfl)
abbrev cX9_canEnter : ByteArray := prog_11_method_36_code
def yX9_canEnter : MethodName := ⟨RX9, "canEnter", "(I)Z"⟩
def dkwX9_canEnter_1 : List UInt8 := [3, 172]
abbrev dktX9_canEnter_1 : List UInt8 := dkwX9_canEnter_1 ++ []
def dkwX9_canEnter_0 : List UInt8 := [42, 180, 0, 7, 5, 46, 16, 8, 162, 0, 16, 42, 27, 182, 0, 87, 2, 160, 0, 7, 4, 167, 0, 4]
abbrev dktX9_canEnter_0 : List UInt8 := dkwX9_canEnter_0 ++ dktX9_canEnter_1
theorem dksX9_canEnter_0 : cX9_canEnter.data.toList.drop 0 = dktX9_canEnter_0 := by decide +kernel
theorem dksX9_canEnter_1 : cX9_canEnter.data.toList.drop 24 = dktX9_canEnter_1 := dk_seg dksX9_canEnter_0 24 rfl rfl
theorem dX9_canEnter_0 : decode cX9_canEnter 0 = .ok (.aload_n 0, 1) := dk_42 (dk_at dksX9_canEnter_0 0 rfl rfl)
theorem dX9_canEnter_1 : decode cX9_canEnter 1 = .ok (.getfield 7, 3) := dk_180 0 7 (dk_at dksX9_canEnter_0 1 rfl rfl)
theorem dX9_canEnter_4 : decode cX9_canEnter 4 = .ok (.iconst 2, 1) := dk_5 (dk_at dksX9_canEnter_0 4 rfl rfl)
theorem dX9_canEnter_5 : decode cX9_canEnter 5 = .ok (.iaload, 1) := dk_46 (dk_at dksX9_canEnter_0 5 rfl rfl)
theorem dX9_canEnter_6 : decode cX9_canEnter 6 = .ok (.bipush 8, 2) := dk_16 8 (dk_at dksX9_canEnter_0 6 rfl rfl)
theorem dX9_canEnter_8 : decode cX9_canEnter 8 = .ok (.if_icmp .ge 16, 3) := dk_162 0 16 (dk_at dksX9_canEnter_0 8 rfl rfl)
theorem dX9_canEnter_11 : decode cX9_canEnter 11 = .ok (.aload_n 0, 1) := dk_42 (dk_at dksX9_canEnter_0 11 rfl rfl)
theorem dX9_canEnter_12 : decode cX9_canEnter 12 = .ok (.iload_n 1, 1) := dk_27 (dk_at dksX9_canEnter_0 12 rfl rfl)
theorem dX9_canEnter_13 : decode cX9_canEnter 13 = .ok (.invokevirtual 87, 3) := dk_182 0 87 (dk_at dksX9_canEnter_0 13 rfl rfl)
theorem dX9_canEnter_16 : decode cX9_canEnter 16 = .ok (.iconst (-1), 1) := dk_2 (dk_at dksX9_canEnter_0 16 rfl rfl)
theorem dX9_canEnter_17 : decode cX9_canEnter 17 = .ok (.if_icmp .ne 7, 3) := dk_160 0 7 (dk_at dksX9_canEnter_0 17 rfl rfl)
theorem dX9_canEnter_20 : decode cX9_canEnter 20 = .ok (.iconst 1, 1) := dk_4 (dk_at dksX9_canEnter_0 20 rfl rfl)
theorem dX9_canEnter_21 : decode cX9_canEnter 21 = .ok (.goto 4, 3) := dk_167 0 4 (dk_at dksX9_canEnter_0 21 rfl rfl)
theorem dX9_canEnter_24 : decode cX9_canEnter 24 = .ok (.iconst 0, 1) := dk_3 (dk_at dksX9_canEnter_1 0 rfl rfl)
theorem dX9_canEnter_25 : decode cX9_canEnter 25 = .ok (.ireturn, 1) := dk_172 (dk_at dksX9_canEnter_1 1 rfl rfl)
abbrev cX9_sitter : ByteArray := prog_11_method_14_code
def yX9_sitter : MethodName := ⟨RX9, "sitter", "(I)I"⟩
def dkwX9_sitter_1 : List UInt8 := [132, 2, 1, 167, 255, 231, 2, 172]
abbrev dktX9_sitter_1 : List UInt8 := dkwX9_sitter_1 ++ []
def dkwX9_sitter_0 : List UInt8 := [3, 61, 28, 42, 180, 0, 7, 5, 46, 162, 0, 21, 42, 28, 6, 182, 0, 64, 27, 160, 0, 5, 28, 172]
abbrev dktX9_sitter_0 : List UInt8 := dkwX9_sitter_0 ++ dktX9_sitter_1
theorem dksX9_sitter_0 : cX9_sitter.data.toList.drop 0 = dktX9_sitter_0 := by decide +kernel
theorem dksX9_sitter_1 : cX9_sitter.data.toList.drop 24 = dktX9_sitter_1 := dk_seg dksX9_sitter_0 24 rfl rfl
theorem dX9_sitter_0 : decode cX9_sitter 0 = .ok (.iconst 0, 1) := dk_3 (dk_at dksX9_sitter_0 0 rfl rfl)
theorem dX9_sitter_1 : decode cX9_sitter 1 = .ok (.istore_n 2, 1) := dk_61 (dk_at dksX9_sitter_0 1 rfl rfl)
theorem dX9_sitter_2 : decode cX9_sitter 2 = .ok (.iload_n 2, 1) := dk_28 (dk_at dksX9_sitter_0 2 rfl rfl)
theorem dX9_sitter_3 : decode cX9_sitter 3 = .ok (.aload_n 0, 1) := dk_42 (dk_at dksX9_sitter_0 3 rfl rfl)
theorem dX9_sitter_4 : decode cX9_sitter 4 = .ok (.getfield 7, 3) := dk_180 0 7 (dk_at dksX9_sitter_0 4 rfl rfl)
theorem dX9_sitter_7 : decode cX9_sitter 7 = .ok (.iconst 2, 1) := dk_5 (dk_at dksX9_sitter_0 7 rfl rfl)
theorem dX9_sitter_8 : decode cX9_sitter 8 = .ok (.iaload, 1) := dk_46 (dk_at dksX9_sitter_0 8 rfl rfl)
theorem dX9_sitter_9 : decode cX9_sitter 9 = .ok (.if_icmp .ge 21, 3) := dk_162 0 21 (dk_at dksX9_sitter_0 9 rfl rfl)
theorem dX9_sitter_12 : decode cX9_sitter 12 = .ok (.aload_n 0, 1) := dk_42 (dk_at dksX9_sitter_0 12 rfl rfl)
theorem dX9_sitter_13 : decode cX9_sitter 13 = .ok (.iload_n 2, 1) := dk_28 (dk_at dksX9_sitter_0 13 rfl rfl)
theorem dX9_sitter_14 : decode cX9_sitter 14 = .ok (.iconst 3, 1) := dk_6 (dk_at dksX9_sitter_0 14 rfl rfl)
theorem dX9_sitter_15 : decode cX9_sitter 15 = .ok (.invokevirtual 64, 3) := dk_182 0 64 (dk_at dksX9_sitter_0 15 rfl rfl)
theorem dX9_sitter_18 : decode cX9_sitter 18 = .ok (.iload_n 1, 1) := dk_27 (dk_at dksX9_sitter_0 18 rfl rfl)
theorem dX9_sitter_19 : decode cX9_sitter 19 = .ok (.if_icmp .ne 5, 3) := dk_160 0 5 (dk_at dksX9_sitter_0 19 rfl rfl)
theorem dX9_sitter_22 : decode cX9_sitter 22 = .ok (.iload_n 2, 1) := dk_28 (dk_at dksX9_sitter_0 22 rfl rfl)
theorem dX9_sitter_23 : decode cX9_sitter 23 = .ok (.ireturn, 1) := dk_172 (dk_at dksX9_sitter_0 23 rfl rfl)
theorem dX9_sitter_24 : decode cX9_sitter 24 = .ok (.iinc 2 1, 3) := dk_132 2 1 (dk_at dksX9_sitter_1 0 rfl rfl)
theorem dX9_sitter_27 : decode cX9_sitter 27 = .ok (.goto (-25), 3) := dk_167 255 231 (dk_at dksX9_sitter_1 3 rfl rfl)
theorem dX9_sitter_30 : decode cX9_sitter 30 = .ok (.iconst (-1), 1) := dk_2 (dk_at dksX9_sitter_1 6 rfl rfl)
theorem dX9_sitter_31 : decode cX9_sitter 31 = .ok (.ireturn, 1) := dk_172 (dk_at dksX9_sitter_1 7 rfl rfl)
abbrev cX9_of : ByteArray := prog_11_method_11_code
def yX9_of : MethodName := ⟨RX9, "of", "(II)I"⟩
def dkwX9_of_0 : List UInt8 := [42, 180, 0, 7, 16, 90, 7, 27, 104, 96, 28, 96, 46, 172]
abbrev dktX9_of_0 : List UInt8 := dkwX9_of_0 ++ []
theorem dksX9_of_0 : cX9_of.data.toList.drop 0 = dktX9_of_0 := by decide +kernel
theorem dX9_of_0 : decode cX9_of 0 = .ok (.aload_n 0, 1) := dk_42 (dk_at dksX9_of_0 0 rfl rfl)
theorem dX9_of_1 : decode cX9_of 1 = .ok (.getfield 7, 3) := dk_180 0 7 (dk_at dksX9_of_0 1 rfl rfl)
theorem dX9_of_4 : decode cX9_of 4 = .ok (.bipush 90, 2) := dk_16 90 (dk_at dksX9_of_0 4 rfl rfl)
theorem dX9_of_6 : decode cX9_of 6 = .ok (.iconst 4, 1) := dk_7 (dk_at dksX9_of_0 6 rfl rfl)
theorem dX9_of_7 : decode cX9_of 7 = .ok (.iload_n 1, 1) := dk_27 (dk_at dksX9_of_0 7 rfl rfl)
theorem dX9_of_8 : decode cX9_of 8 = .ok (.imul, 1) := dk_104 (dk_at dksX9_of_0 8 rfl rfl)
theorem dX9_of_9 : decode cX9_of 9 = .ok (.iadd, 1) := dk_96 (dk_at dksX9_of_0 9 rfl rfl)
theorem dX9_of_10 : decode cX9_of 10 = .ok (.iload_n 2, 1) := dk_28 (dk_at dksX9_of_0 10 rfl rfl)
theorem dX9_of_11 : decode cX9_of 11 = .ok (.iadd, 1) := dk_96 (dk_at dksX9_of_0 11 rfl rfl)
theorem dX9_of_12 : decode cX9_of 12 = .ok (.iaload, 1) := dk_46 (dk_at dksX9_of_0 12 rfl rfl)
theorem dX9_of_13 : decode cX9_of 13 = .ok (.ireturn, 1) := dk_172 (dk_at dksX9_of_0 13 rfl rfl)
abbrev cX9_enters : ByteArray := prog_11_method_35_code
def yX9_enters : MethodName := ⟨RX9, "enters", "(III)I"⟩
def dkwX9_enters_2 : List UInt8 := [182, 0, 118, 21, 4, 172]
abbrev dktX9_enters_2 : List UInt8 := dkwX9_enters_2 ++ []
def dkwX9_enters_1 : List UInt8 := [182, 0, 118, 42, 21, 4, 4, 29, 182, 0, 118, 42, 21, 4, 5, 8, 182, 0, 118, 42, 21, 4, 6, 27]
abbrev dktX9_enters_1 : List UInt8 := dkwX9_enters_1 ++ dktX9_enters_2
def dkwX9_enters_0 : List UInt8 := [42, 180, 0, 7, 5, 46, 54, 4, 42, 180, 0, 7, 5, 92, 46, 4, 96, 79, 42, 21, 4, 3, 28]
abbrev dktX9_enters_0 : List UInt8 := dkwX9_enters_0 ++ dktX9_enters_1
theorem dksX9_enters_0 : cX9_enters.data.toList.drop 0 = dktX9_enters_0 := by decide +kernel
theorem dksX9_enters_1 : cX9_enters.data.toList.drop 23 = dktX9_enters_1 := dk_seg dksX9_enters_0 23 rfl rfl
theorem dksX9_enters_2 : cX9_enters.data.toList.drop 47 = dktX9_enters_2 := dk_seg dksX9_enters_1 24 rfl rfl
theorem dX9_enters_0 : decode cX9_enters 0 = .ok (.aload_n 0, 1) := dk_42 (dk_at dksX9_enters_0 0 rfl rfl)
theorem dX9_enters_1 : decode cX9_enters 1 = .ok (.getfield 7, 3) := dk_180 0 7 (dk_at dksX9_enters_0 1 rfl rfl)
theorem dX9_enters_4 : decode cX9_enters 4 = .ok (.iconst 2, 1) := dk_5 (dk_at dksX9_enters_0 4 rfl rfl)
theorem dX9_enters_5 : decode cX9_enters 5 = .ok (.iaload, 1) := dk_46 (dk_at dksX9_enters_0 5 rfl rfl)
theorem dX9_enters_6 : decode cX9_enters 6 = .ok (.istore 4, 2) := dk_54 4 (dk_at dksX9_enters_0 6 rfl rfl)
theorem dX9_enters_8 : decode cX9_enters 8 = .ok (.aload_n 0, 1) := dk_42 (dk_at dksX9_enters_0 8 rfl rfl)
theorem dX9_enters_9 : decode cX9_enters 9 = .ok (.getfield 7, 3) := dk_180 0 7 (dk_at dksX9_enters_0 9 rfl rfl)
theorem dX9_enters_12 : decode cX9_enters 12 = .ok (.iconst 2, 1) := dk_5 (dk_at dksX9_enters_0 12 rfl rfl)
theorem dX9_enters_13 : decode cX9_enters 13 = .ok (.dup2, 1) := dk_92 (dk_at dksX9_enters_0 13 rfl rfl)
theorem dX9_enters_14 : decode cX9_enters 14 = .ok (.iaload, 1) := dk_46 (dk_at dksX9_enters_0 14 rfl rfl)
theorem dX9_enters_15 : decode cX9_enters 15 = .ok (.iconst 1, 1) := dk_4 (dk_at dksX9_enters_0 15 rfl rfl)
theorem dX9_enters_16 : decode cX9_enters 16 = .ok (.iadd, 1) := dk_96 (dk_at dksX9_enters_0 16 rfl rfl)
theorem dX9_enters_17 : decode cX9_enters 17 = .ok (.iastore, 1) := dk_79 (dk_at dksX9_enters_0 17 rfl rfl)
theorem dX9_enters_18 : decode cX9_enters 18 = .ok (.aload_n 0, 1) := dk_42 (dk_at dksX9_enters_0 18 rfl rfl)
theorem dX9_enters_19 : decode cX9_enters 19 = .ok (.iload 4, 2) := dk_21 4 (dk_at dksX9_enters_0 19 rfl rfl)
theorem dX9_enters_21 : decode cX9_enters 21 = .ok (.iconst 0, 1) := dk_3 (dk_at dksX9_enters_0 21 rfl rfl)
theorem dX9_enters_22 : decode cX9_enters 22 = .ok (.iload_n 2, 1) := dk_28 (dk_at dksX9_enters_0 22 rfl rfl)
theorem dX9_enters_23 : decode cX9_enters 23 = .ok (.invokevirtual 118, 3) := dk_182 0 118 (dk_at dksX9_enters_1 0 rfl rfl)
theorem dX9_enters_26 : decode cX9_enters 26 = .ok (.aload_n 0, 1) := dk_42 (dk_at dksX9_enters_1 3 rfl rfl)
theorem dX9_enters_27 : decode cX9_enters 27 = .ok (.iload 4, 2) := dk_21 4 (dk_at dksX9_enters_1 4 rfl rfl)
theorem dX9_enters_29 : decode cX9_enters 29 = .ok (.iconst 1, 1) := dk_4 (dk_at dksX9_enters_1 6 rfl rfl)
theorem dX9_enters_30 : decode cX9_enters 30 = .ok (.iload_n 3, 1) := dk_29 (dk_at dksX9_enters_1 7 rfl rfl)
theorem dX9_enters_31 : decode cX9_enters 31 = .ok (.invokevirtual 118, 3) := dk_182 0 118 (dk_at dksX9_enters_1 8 rfl rfl)
theorem dX9_enters_34 : decode cX9_enters 34 = .ok (.aload_n 0, 1) := dk_42 (dk_at dksX9_enters_1 11 rfl rfl)
theorem dX9_enters_35 : decode cX9_enters 35 = .ok (.iload 4, 2) := dk_21 4 (dk_at dksX9_enters_1 12 rfl rfl)
theorem dX9_enters_37 : decode cX9_enters 37 = .ok (.iconst 2, 1) := dk_5 (dk_at dksX9_enters_1 14 rfl rfl)
theorem dX9_enters_38 : decode cX9_enters 38 = .ok (.iconst 5, 1) := dk_8 (dk_at dksX9_enters_1 15 rfl rfl)
theorem dX9_enters_39 : decode cX9_enters 39 = .ok (.invokevirtual 118, 3) := dk_182 0 118 (dk_at dksX9_enters_1 16 rfl rfl)
theorem dX9_enters_42 : decode cX9_enters 42 = .ok (.aload_n 0, 1) := dk_42 (dk_at dksX9_enters_1 19 rfl rfl)
theorem dX9_enters_43 : decode cX9_enters 43 = .ok (.iload 4, 2) := dk_21 4 (dk_at dksX9_enters_1 20 rfl rfl)
theorem dX9_enters_45 : decode cX9_enters 45 = .ok (.iconst 3, 1) := dk_6 (dk_at dksX9_enters_1 22 rfl rfl)
theorem dX9_enters_46 : decode cX9_enters 46 = .ok (.iload_n 1, 1) := dk_27 (dk_at dksX9_enters_1 23 rfl rfl)
theorem dX9_enters_47 : decode cX9_enters 47 = .ok (.invokevirtual 118, 3) := dk_182 0 118 (dk_at dksX9_enters_2 0 rfl rfl)
theorem dX9_enters_50 : decode cX9_enters 50 = .ok (.iload 4, 2) := dk_21 4 (dk_at dksX9_enters_2 3 rfl rfl)
theorem dX9_enters_52 : decode cX9_enters 52 = .ok (.ireturn, 1) := dk_172 (dk_at dksX9_enters_2 5 rfl rfl)
abbrev cX9_to : ByteArray := prog_11_method_12_code
def yX9_to : MethodName := ⟨RX9, "to", "(III)V"⟩
def dkwX9_to_0 : List UInt8 := [42, 180, 0, 7, 16, 90, 7, 27, 104, 96, 28, 96, 29, 79, 177]
abbrev dktX9_to_0 : List UInt8 := dkwX9_to_0 ++ []
theorem dksX9_to_0 : cX9_to.data.toList.drop 0 = dktX9_to_0 := by decide +kernel
theorem dX9_to_0 : decode cX9_to 0 = .ok (.aload_n 0, 1) := dk_42 (dk_at dksX9_to_0 0 rfl rfl)
theorem dX9_to_1 : decode cX9_to 1 = .ok (.getfield 7, 3) := dk_180 0 7 (dk_at dksX9_to_0 1 rfl rfl)
theorem dX9_to_4 : decode cX9_to 4 = .ok (.bipush 90, 2) := dk_16 90 (dk_at dksX9_to_0 4 rfl rfl)
theorem dX9_to_6 : decode cX9_to 6 = .ok (.iconst 4, 1) := dk_7 (dk_at dksX9_to_0 6 rfl rfl)
theorem dX9_to_7 : decode cX9_to 7 = .ok (.iload_n 1, 1) := dk_27 (dk_at dksX9_to_0 7 rfl rfl)
theorem dX9_to_8 : decode cX9_to 8 = .ok (.imul, 1) := dk_104 (dk_at dksX9_to_0 8 rfl rfl)
theorem dX9_to_9 : decode cX9_to 9 = .ok (.iadd, 1) := dk_96 (dk_at dksX9_to_0 9 rfl rfl)
theorem dX9_to_10 : decode cX9_to 10 = .ok (.iload_n 2, 1) := dk_28 (dk_at dksX9_to_0 10 rfl rfl)
theorem dX9_to_11 : decode cX9_to 11 = .ok (.iadd, 1) := dk_96 (dk_at dksX9_to_0 11 rfl rfl)
theorem dX9_to_12 : decode cX9_to 12 = .ok (.iload_n 3, 1) := dk_29 (dk_at dksX9_to_0 12 rfl rfl)
theorem dX9_to_13 : decode cX9_to 13 = .ok (.iastore, 1) := dk_79 (dk_at dksX9_to_0 13 rfl rfl)
theorem dX9_to_14 : decode cX9_to 14 = .ok (.return_, 1) := dk_177 (dk_at dksX9_to_0 14 rfl rfl)
abbrev cX9_readsStep : ByteArray := prog_11_method_68_code
def yX9_readsStep : MethodName := ⟨RX9, "readsStep", "()Z"⟩
def dkwX9_readsStep_3 : List UInt8 := [46, 182, 0, 222, 87, 4, 172]
abbrev dktX9_readsStep_3 : List UInt8 := dkwX9_readsStep_3 ++ []
def dkwX9_readsStep_2 : List UInt8 := [167, 0, 4, 3, 182, 0, 194, 154, 0, 5, 3, 172, 42, 42, 180, 0, 42, 3, 46, 42, 180, 0, 42, 4]
abbrev dktX9_readsStep_2 : List UInt8 := dkwX9_readsStep_2 ++ dktX9_readsStep_3
def dkwX9_readsStep_1 : List UInt8 := [153, 0, 34, 42, 42, 42, 180, 0, 42, 3, 46, 42, 180, 0, 42, 4, 46, 182, 0, 219, 154, 0, 7, 4]
abbrev dktX9_readsStep_1 : List UInt8 := dkwX9_readsStep_1 ++ dktX9_readsStep_2
def dkwX9_readsStep_0 : List UInt8 := [42, 3, 182, 0, 216, 153, 0, 51, 42, 4, 3, 42, 180, 0, 7, 4, 46, 4, 100, 182, 0, 191]
abbrev dktX9_readsStep_0 : List UInt8 := dkwX9_readsStep_0 ++ dktX9_readsStep_1
theorem dksX9_readsStep_0 : cX9_readsStep.data.toList.drop 0 = dktX9_readsStep_0 := by decide +kernel
theorem dksX9_readsStep_1 : cX9_readsStep.data.toList.drop 22 = dktX9_readsStep_1 := dk_seg dksX9_readsStep_0 22 rfl rfl
theorem dksX9_readsStep_2 : cX9_readsStep.data.toList.drop 46 = dktX9_readsStep_2 := dk_seg dksX9_readsStep_1 24 rfl rfl
theorem dksX9_readsStep_3 : cX9_readsStep.data.toList.drop 70 = dktX9_readsStep_3 := dk_seg dksX9_readsStep_2 24 rfl rfl
theorem dX9_readsStep_0 : decode cX9_readsStep 0 = .ok (.aload_n 0, 1) := dk_42 (dk_at dksX9_readsStep_0 0 rfl rfl)
theorem dX9_readsStep_1 : decode cX9_readsStep 1 = .ok (.iconst 0, 1) := dk_3 (dk_at dksX9_readsStep_0 1 rfl rfl)
theorem dX9_readsStep_2 : decode cX9_readsStep 2 = .ok (.invokevirtual 216, 3) := dk_182 0 216 (dk_at dksX9_readsStep_0 2 rfl rfl)
theorem dX9_readsStep_5 : decode cX9_readsStep 5 = .ok (.ifCond .eq 51, 3) := dk_153 0 51 (dk_at dksX9_readsStep_0 5 rfl rfl)
theorem dX9_readsStep_8 : decode cX9_readsStep 8 = .ok (.aload_n 0, 1) := dk_42 (dk_at dksX9_readsStep_0 8 rfl rfl)
theorem dX9_readsStep_9 : decode cX9_readsStep 9 = .ok (.iconst 1, 1) := dk_4 (dk_at dksX9_readsStep_0 9 rfl rfl)
theorem dX9_readsStep_10 : decode cX9_readsStep 10 = .ok (.iconst 0, 1) := dk_3 (dk_at dksX9_readsStep_0 10 rfl rfl)
theorem dX9_readsStep_11 : decode cX9_readsStep 11 = .ok (.aload_n 0, 1) := dk_42 (dk_at dksX9_readsStep_0 11 rfl rfl)
theorem dX9_readsStep_12 : decode cX9_readsStep 12 = .ok (.getfield 7, 3) := dk_180 0 7 (dk_at dksX9_readsStep_0 12 rfl rfl)
theorem dX9_readsStep_15 : decode cX9_readsStep 15 = .ok (.iconst 1, 1) := dk_4 (dk_at dksX9_readsStep_0 15 rfl rfl)
theorem dX9_readsStep_16 : decode cX9_readsStep 16 = .ok (.iaload, 1) := dk_46 (dk_at dksX9_readsStep_0 16 rfl rfl)
theorem dX9_readsStep_17 : decode cX9_readsStep 17 = .ok (.iconst 1, 1) := dk_4 (dk_at dksX9_readsStep_0 17 rfl rfl)
theorem dX9_readsStep_18 : decode cX9_readsStep 18 = .ok (.isub, 1) := dk_100 (dk_at dksX9_readsStep_0 18 rfl rfl)
theorem dX9_readsStep_19 : decode cX9_readsStep 19 = .ok (.invokevirtual 191, 3) := dk_182 0 191 (dk_at dksX9_readsStep_0 19 rfl rfl)
theorem dX9_readsStep_22 : decode cX9_readsStep 22 = .ok (.ifCond .eq 34, 3) := dk_153 0 34 (dk_at dksX9_readsStep_1 0 rfl rfl)
theorem dX9_readsStep_25 : decode cX9_readsStep 25 = .ok (.aload_n 0, 1) := dk_42 (dk_at dksX9_readsStep_1 3 rfl rfl)
theorem dX9_readsStep_26 : decode cX9_readsStep 26 = .ok (.aload_n 0, 1) := dk_42 (dk_at dksX9_readsStep_1 4 rfl rfl)
theorem dX9_readsStep_27 : decode cX9_readsStep 27 = .ok (.aload_n 0, 1) := dk_42 (dk_at dksX9_readsStep_1 5 rfl rfl)
theorem dX9_readsStep_28 : decode cX9_readsStep 28 = .ok (.getfield 42, 3) := dk_180 0 42 (dk_at dksX9_readsStep_1 6 rfl rfl)
theorem dX9_readsStep_31 : decode cX9_readsStep 31 = .ok (.iconst 0, 1) := dk_3 (dk_at dksX9_readsStep_1 9 rfl rfl)
theorem dX9_readsStep_32 : decode cX9_readsStep 32 = .ok (.iaload, 1) := dk_46 (dk_at dksX9_readsStep_1 10 rfl rfl)
theorem dX9_readsStep_33 : decode cX9_readsStep 33 = .ok (.aload_n 0, 1) := dk_42 (dk_at dksX9_readsStep_1 11 rfl rfl)
theorem dX9_readsStep_34 : decode cX9_readsStep 34 = .ok (.getfield 42, 3) := dk_180 0 42 (dk_at dksX9_readsStep_1 12 rfl rfl)
theorem dX9_readsStep_37 : decode cX9_readsStep 37 = .ok (.iconst 1, 1) := dk_4 (dk_at dksX9_readsStep_1 15 rfl rfl)
theorem dX9_readsStep_38 : decode cX9_readsStep 38 = .ok (.iaload, 1) := dk_46 (dk_at dksX9_readsStep_1 16 rfl rfl)
theorem dX9_readsStep_39 : decode cX9_readsStep 39 = .ok (.invokevirtual 219, 3) := dk_182 0 219 (dk_at dksX9_readsStep_1 17 rfl rfl)
theorem dX9_readsStep_42 : decode cX9_readsStep 42 = .ok (.ifCond .ne 7, 3) := dk_154 0 7 (dk_at dksX9_readsStep_1 20 rfl rfl)
theorem dX9_readsStep_45 : decode cX9_readsStep 45 = .ok (.iconst 1, 1) := dk_4 (dk_at dksX9_readsStep_1 23 rfl rfl)
theorem dX9_readsStep_46 : decode cX9_readsStep 46 = .ok (.goto 4, 3) := dk_167 0 4 (dk_at dksX9_readsStep_2 0 rfl rfl)
theorem dX9_readsStep_49 : decode cX9_readsStep 49 = .ok (.iconst 0, 1) := dk_3 (dk_at dksX9_readsStep_2 3 rfl rfl)
theorem dX9_readsStep_50 : decode cX9_readsStep 50 = .ok (.invokevirtual 194, 3) := dk_182 0 194 (dk_at dksX9_readsStep_2 4 rfl rfl)
theorem dX9_readsStep_53 : decode cX9_readsStep 53 = .ok (.ifCond .ne 5, 3) := dk_154 0 5 (dk_at dksX9_readsStep_2 7 rfl rfl)
theorem dX9_readsStep_56 : decode cX9_readsStep 56 = .ok (.iconst 0, 1) := dk_3 (dk_at dksX9_readsStep_2 10 rfl rfl)
theorem dX9_readsStep_57 : decode cX9_readsStep 57 = .ok (.ireturn, 1) := dk_172 (dk_at dksX9_readsStep_2 11 rfl rfl)
theorem dX9_readsStep_58 : decode cX9_readsStep 58 = .ok (.aload_n 0, 1) := dk_42 (dk_at dksX9_readsStep_2 12 rfl rfl)
theorem dX9_readsStep_59 : decode cX9_readsStep 59 = .ok (.aload_n 0, 1) := dk_42 (dk_at dksX9_readsStep_2 13 rfl rfl)
theorem dX9_readsStep_60 : decode cX9_readsStep 60 = .ok (.getfield 42, 3) := dk_180 0 42 (dk_at dksX9_readsStep_2 14 rfl rfl)
theorem dX9_readsStep_63 : decode cX9_readsStep 63 = .ok (.iconst 0, 1) := dk_3 (dk_at dksX9_readsStep_2 17 rfl rfl)
theorem dX9_readsStep_64 : decode cX9_readsStep 64 = .ok (.iaload, 1) := dk_46 (dk_at dksX9_readsStep_2 18 rfl rfl)
theorem dX9_readsStep_65 : decode cX9_readsStep 65 = .ok (.aload_n 0, 1) := dk_42 (dk_at dksX9_readsStep_2 19 rfl rfl)
theorem dX9_readsStep_66 : decode cX9_readsStep 66 = .ok (.getfield 42, 3) := dk_180 0 42 (dk_at dksX9_readsStep_2 20 rfl rfl)
theorem dX9_readsStep_69 : decode cX9_readsStep 69 = .ok (.iconst 1, 1) := dk_4 (dk_at dksX9_readsStep_2 23 rfl rfl)
theorem dX9_readsStep_70 : decode cX9_readsStep 70 = .ok (.iaload, 1) := dk_46 (dk_at dksX9_readsStep_3 0 rfl rfl)
theorem dX9_readsStep_71 : decode cX9_readsStep 71 = .ok (.invokevirtual 222, 3) := dk_182 0 222 (dk_at dksX9_readsStep_3 1 rfl rfl)
theorem dX9_readsStep_74 : decode cX9_readsStep 74 = .ok (.pop, 1) := dk_87 (dk_at dksX9_readsStep_3 4 rfl rfl)
theorem dX9_readsStep_75 : decode cX9_readsStep 75 = .ok (.iconst 1, 1) := dk_4 (dk_at dksX9_readsStep_3 5 rfl rfl)
theorem dX9_readsStep_76 : decode cX9_readsStep 76 = .ok (.ireturn, 1) := dk_172 (dk_at dksX9_readsStep_3 6 rfl rfl)
abbrev cX9_catAt : ByteArray := prog_11_method_61_code
def yX9_catAt : MethodName := ⟨RX9, "catAt", "(I)Z"⟩
def dkwX9_catAt_0 : List UInt8 := [42, 27, 3, 42, 180, 0, 7, 5, 46, 4, 100, 182, 0, 191, 172]
abbrev dktX9_catAt_0 : List UInt8 := dkwX9_catAt_0 ++ []
theorem dksX9_catAt_0 : cX9_catAt.data.toList.drop 0 = dktX9_catAt_0 := by decide +kernel
theorem dX9_catAt_0 : decode cX9_catAt 0 = .ok (.aload_n 0, 1) := dk_42 (dk_at dksX9_catAt_0 0 rfl rfl)
theorem dX9_catAt_1 : decode cX9_catAt 1 = .ok (.iload_n 1, 1) := dk_27 (dk_at dksX9_catAt_0 1 rfl rfl)
theorem dX9_catAt_2 : decode cX9_catAt 2 = .ok (.iconst 0, 1) := dk_3 (dk_at dksX9_catAt_0 2 rfl rfl)
theorem dX9_catAt_3 : decode cX9_catAt 3 = .ok (.aload_n 0, 1) := dk_42 (dk_at dksX9_catAt_0 3 rfl rfl)
theorem dX9_catAt_4 : decode cX9_catAt 4 = .ok (.getfield 7, 3) := dk_180 0 7 (dk_at dksX9_catAt_0 4 rfl rfl)
theorem dX9_catAt_7 : decode cX9_catAt 7 = .ok (.iconst 2, 1) := dk_5 (dk_at dksX9_catAt_0 7 rfl rfl)
theorem dX9_catAt_8 : decode cX9_catAt 8 = .ok (.iaload, 1) := dk_46 (dk_at dksX9_catAt_0 8 rfl rfl)
theorem dX9_catAt_9 : decode cX9_catAt 9 = .ok (.iconst 1, 1) := dk_4 (dk_at dksX9_catAt_0 9 rfl rfl)
theorem dX9_catAt_10 : decode cX9_catAt 10 = .ok (.isub, 1) := dk_100 (dk_at dksX9_catAt_0 10 rfl rfl)
theorem dX9_catAt_11 : decode cX9_catAt 11 = .ok (.invokevirtual 191, 3) := dk_182 0 191 (dk_at dksX9_catAt_0 11 rfl rfl)
theorem dX9_catAt_14 : decode cX9_catAt 14 = .ok (.ireturn, 1) := dk_172 (dk_at dksX9_catAt_0 14 rfl rfl)
abbrev cX9_whyStays : ByteArray := prog_11_method_23_code
def yX9_whyStays : MethodName := ⟨RX9, "whyStays", "(II)I"⟩
def dkwX9_whyStays_1 : List UInt8 := [182, 0, 81, 42, 27, 3, 182, 0, 64, 162, 0, 7, 5, 167, 0, 9, 42, 27, 29, 182, 0, 96, 172]
abbrev dktX9_whyStays_1 : List UInt8 := dkwX9_whyStays_1 ++ []
def dkwX9_whyStays_0 : List UInt8 := [42, 28, 42, 27, 6, 182, 0, 64, 182, 0, 93, 62, 29, 2, 160, 0, 5, 4, 172, 42, 28, 5]
abbrev dktX9_whyStays_0 : List UInt8 := dkwX9_whyStays_0 ++ dktX9_whyStays_1
theorem dksX9_whyStays_0 : cX9_whyStays.data.toList.drop 0 = dktX9_whyStays_0 := by decide +kernel
theorem dksX9_whyStays_1 : cX9_whyStays.data.toList.drop 22 = dktX9_whyStays_1 := dk_seg dksX9_whyStays_0 22 rfl rfl
theorem dX9_whyStays_0 : decode cX9_whyStays 0 = .ok (.aload_n 0, 1) := dk_42 (dk_at dksX9_whyStays_0 0 rfl rfl)
theorem dX9_whyStays_1 : decode cX9_whyStays 1 = .ok (.iload_n 2, 1) := dk_28 (dk_at dksX9_whyStays_0 1 rfl rfl)
theorem dX9_whyStays_2 : decode cX9_whyStays 2 = .ok (.aload_n 0, 1) := dk_42 (dk_at dksX9_whyStays_0 2 rfl rfl)
theorem dX9_whyStays_3 : decode cX9_whyStays 3 = .ok (.iload_n 1, 1) := dk_27 (dk_at dksX9_whyStays_0 3 rfl rfl)
theorem dX9_whyStays_4 : decode cX9_whyStays 4 = .ok (.iconst 3, 1) := dk_6 (dk_at dksX9_whyStays_0 4 rfl rfl)
theorem dX9_whyStays_5 : decode cX9_whyStays 5 = .ok (.invokevirtual 64, 3) := dk_182 0 64 (dk_at dksX9_whyStays_0 5 rfl rfl)
theorem dX9_whyStays_8 : decode cX9_whyStays 8 = .ok (.invokevirtual 93, 3) := dk_182 0 93 (dk_at dksX9_whyStays_0 8 rfl rfl)
theorem dX9_whyStays_11 : decode cX9_whyStays 11 = .ok (.istore_n 3, 1) := dk_62 (dk_at dksX9_whyStays_0 11 rfl rfl)
theorem dX9_whyStays_12 : decode cX9_whyStays 12 = .ok (.iload_n 3, 1) := dk_29 (dk_at dksX9_whyStays_0 12 rfl rfl)
theorem dX9_whyStays_13 : decode cX9_whyStays 13 = .ok (.iconst (-1), 1) := dk_2 (dk_at dksX9_whyStays_0 13 rfl rfl)
theorem dX9_whyStays_14 : decode cX9_whyStays 14 = .ok (.if_icmp .ne 5, 3) := dk_160 0 5 (dk_at dksX9_whyStays_0 14 rfl rfl)
theorem dX9_whyStays_17 : decode cX9_whyStays 17 = .ok (.iconst 1, 1) := dk_4 (dk_at dksX9_whyStays_0 17 rfl rfl)
theorem dX9_whyStays_18 : decode cX9_whyStays 18 = .ok (.ireturn, 1) := dk_172 (dk_at dksX9_whyStays_0 18 rfl rfl)
theorem dX9_whyStays_19 : decode cX9_whyStays 19 = .ok (.aload_n 0, 1) := dk_42 (dk_at dksX9_whyStays_0 19 rfl rfl)
theorem dX9_whyStays_20 : decode cX9_whyStays 20 = .ok (.iload_n 2, 1) := dk_28 (dk_at dksX9_whyStays_0 20 rfl rfl)
theorem dX9_whyStays_21 : decode cX9_whyStays 21 = .ok (.iconst 2, 1) := dk_5 (dk_at dksX9_whyStays_0 21 rfl rfl)
theorem dX9_whyStays_22 : decode cX9_whyStays 22 = .ok (.invokevirtual 81, 3) := dk_182 0 81 (dk_at dksX9_whyStays_1 0 rfl rfl)
theorem dX9_whyStays_25 : decode cX9_whyStays 25 = .ok (.aload_n 0, 1) := dk_42 (dk_at dksX9_whyStays_1 3 rfl rfl)
theorem dX9_whyStays_26 : decode cX9_whyStays 26 = .ok (.iload_n 1, 1) := dk_27 (dk_at dksX9_whyStays_1 4 rfl rfl)
theorem dX9_whyStays_27 : decode cX9_whyStays 27 = .ok (.iconst 0, 1) := dk_3 (dk_at dksX9_whyStays_1 5 rfl rfl)
theorem dX9_whyStays_28 : decode cX9_whyStays 28 = .ok (.invokevirtual 64, 3) := dk_182 0 64 (dk_at dksX9_whyStays_1 6 rfl rfl)
theorem dX9_whyStays_31 : decode cX9_whyStays 31 = .ok (.if_icmp .ge 7, 3) := dk_162 0 7 (dk_at dksX9_whyStays_1 9 rfl rfl)
theorem dX9_whyStays_34 : decode cX9_whyStays 34 = .ok (.iconst 2, 1) := dk_5 (dk_at dksX9_whyStays_1 12 rfl rfl)
theorem dX9_whyStays_35 : decode cX9_whyStays 35 = .ok (.goto 9, 3) := dk_167 0 9 (dk_at dksX9_whyStays_1 13 rfl rfl)
theorem dX9_whyStays_38 : decode cX9_whyStays 38 = .ok (.aload_n 0, 1) := dk_42 (dk_at dksX9_whyStays_1 16 rfl rfl)
theorem dX9_whyStays_39 : decode cX9_whyStays 39 = .ok (.iload_n 1, 1) := dk_27 (dk_at dksX9_whyStays_1 17 rfl rfl)
theorem dX9_whyStays_40 : decode cX9_whyStays 40 = .ok (.iload_n 3, 1) := dk_29 (dk_at dksX9_whyStays_1 18 rfl rfl)
theorem dX9_whyStays_41 : decode cX9_whyStays 41 = .ok (.invokevirtual 96, 3) := dk_182 0 96 (dk_at dksX9_whyStays_1 19 rfl rfl)
theorem dX9_whyStays_44 : decode cX9_whyStays 44 = .ok (.ireturn, 1) := dk_172 (dk_at dksX9_whyStays_1 22 rfl rfl)
abbrev cX9_across : ByteArray := prog_11_method_20_code
def yX9_across : MethodName := ⟨RX9, "across", "(II)I"⟩
def dkwX9_across_1 : List UInt8 := [182, 0, 81, 28, 160, 0, 12, 42, 27, 3, 182, 0, 81, 167, 0, 4, 2, 172]
abbrev dktX9_across_1 : List UInt8 := dkwX9_across_1 ++ []
def dkwX9_across_0 : List UInt8 := [42, 27, 3, 182, 0, 81, 28, 160, 0, 12, 42, 27, 4, 182, 0, 81, 167, 0, 23, 42, 27, 4]
abbrev dktX9_across_0 : List UInt8 := dkwX9_across_0 ++ dktX9_across_1
theorem dksX9_across_0 : cX9_across.data.toList.drop 0 = dktX9_across_0 := by decide +kernel
theorem dksX9_across_1 : cX9_across.data.toList.drop 22 = dktX9_across_1 := dk_seg dksX9_across_0 22 rfl rfl
theorem dX9_across_0 : decode cX9_across 0 = .ok (.aload_n 0, 1) := dk_42 (dk_at dksX9_across_0 0 rfl rfl)
theorem dX9_across_1 : decode cX9_across 1 = .ok (.iload_n 1, 1) := dk_27 (dk_at dksX9_across_0 1 rfl rfl)
theorem dX9_across_2 : decode cX9_across 2 = .ok (.iconst 0, 1) := dk_3 (dk_at dksX9_across_0 2 rfl rfl)
theorem dX9_across_3 : decode cX9_across 3 = .ok (.invokevirtual 81, 3) := dk_182 0 81 (dk_at dksX9_across_0 3 rfl rfl)
theorem dX9_across_6 : decode cX9_across 6 = .ok (.iload_n 2, 1) := dk_28 (dk_at dksX9_across_0 6 rfl rfl)
theorem dX9_across_7 : decode cX9_across 7 = .ok (.if_icmp .ne 12, 3) := dk_160 0 12 (dk_at dksX9_across_0 7 rfl rfl)
theorem dX9_across_10 : decode cX9_across 10 = .ok (.aload_n 0, 1) := dk_42 (dk_at dksX9_across_0 10 rfl rfl)
theorem dX9_across_11 : decode cX9_across 11 = .ok (.iload_n 1, 1) := dk_27 (dk_at dksX9_across_0 11 rfl rfl)
theorem dX9_across_12 : decode cX9_across 12 = .ok (.iconst 1, 1) := dk_4 (dk_at dksX9_across_0 12 rfl rfl)
theorem dX9_across_13 : decode cX9_across 13 = .ok (.invokevirtual 81, 3) := dk_182 0 81 (dk_at dksX9_across_0 13 rfl rfl)
theorem dX9_across_16 : decode cX9_across 16 = .ok (.goto 23, 3) := dk_167 0 23 (dk_at dksX9_across_0 16 rfl rfl)
theorem dX9_across_19 : decode cX9_across 19 = .ok (.aload_n 0, 1) := dk_42 (dk_at dksX9_across_0 19 rfl rfl)
theorem dX9_across_20 : decode cX9_across 20 = .ok (.iload_n 1, 1) := dk_27 (dk_at dksX9_across_0 20 rfl rfl)
theorem dX9_across_21 : decode cX9_across 21 = .ok (.iconst 1, 1) := dk_4 (dk_at dksX9_across_0 21 rfl rfl)
theorem dX9_across_22 : decode cX9_across 22 = .ok (.invokevirtual 81, 3) := dk_182 0 81 (dk_at dksX9_across_1 0 rfl rfl)
theorem dX9_across_25 : decode cX9_across 25 = .ok (.iload_n 2, 1) := dk_28 (dk_at dksX9_across_1 3 rfl rfl)
theorem dX9_across_26 : decode cX9_across 26 = .ok (.if_icmp .ne 12, 3) := dk_160 0 12 (dk_at dksX9_across_1 4 rfl rfl)
theorem dX9_across_29 : decode cX9_across 29 = .ok (.aload_n 0, 1) := dk_42 (dk_at dksX9_across_1 7 rfl rfl)
theorem dX9_across_30 : decode cX9_across 30 = .ok (.iload_n 1, 1) := dk_27 (dk_at dksX9_across_1 8 rfl rfl)
theorem dX9_across_31 : decode cX9_across 31 = .ok (.iconst 0, 1) := dk_3 (dk_at dksX9_across_1 9 rfl rfl)
theorem dX9_across_32 : decode cX9_across 32 = .ok (.invokevirtual 81, 3) := dk_182 0 81 (dk_at dksX9_across_1 10 rfl rfl)
theorem dX9_across_35 : decode cX9_across 35 = .ok (.goto 4, 3) := dk_167 0 4 (dk_at dksX9_across_1 13 rfl rfl)
theorem dX9_across_38 : decode cX9_across 38 = .ok (.iconst (-1), 1) := dk_2 (dk_at dksX9_across_1 16 rfl rfl)
theorem dX9_across_39 : decode cX9_across 39 = .ok (.ireturn, 1) := dk_172 (dk_at dksX9_across_1 17 rfl rfl)
abbrev cX9_gutter : ByteArray := prog_11_method_10_code
def yX9_gutter : MethodName := ⟨RX9, "gutter", "(II)I"⟩
def dkwX9_gutter_0 : List UInt8 := [42, 180, 0, 7, 16, 30, 6, 27, 104, 96, 28, 96, 46, 172]
abbrev dktX9_gutter_0 : List UInt8 := dkwX9_gutter_0 ++ []
theorem dksX9_gutter_0 : cX9_gutter.data.toList.drop 0 = dktX9_gutter_0 := by decide +kernel
theorem dX9_gutter_0 : decode cX9_gutter 0 = .ok (.aload_n 0, 1) := dk_42 (dk_at dksX9_gutter_0 0 rfl rfl)
theorem dX9_gutter_1 : decode cX9_gutter 1 = .ok (.getfield 7, 3) := dk_180 0 7 (dk_at dksX9_gutter_0 1 rfl rfl)
theorem dX9_gutter_4 : decode cX9_gutter 4 = .ok (.bipush 30, 2) := dk_16 30 (dk_at dksX9_gutter_0 4 rfl rfl)
theorem dX9_gutter_6 : decode cX9_gutter 6 = .ok (.iconst 3, 1) := dk_6 (dk_at dksX9_gutter_0 6 rfl rfl)
theorem dX9_gutter_7 : decode cX9_gutter 7 = .ok (.iload_n 1, 1) := dk_27 (dk_at dksX9_gutter_0 7 rfl rfl)
theorem dX9_gutter_8 : decode cX9_gutter 8 = .ok (.imul, 1) := dk_104 (dk_at dksX9_gutter_0 8 rfl rfl)
theorem dX9_gutter_9 : decode cX9_gutter 9 = .ok (.iadd, 1) := dk_96 (dk_at dksX9_gutter_0 9 rfl rfl)
theorem dX9_gutter_10 : decode cX9_gutter 10 = .ok (.iload_n 2, 1) := dk_28 (dk_at dksX9_gutter_0 10 rfl rfl)
theorem dX9_gutter_11 : decode cX9_gutter 11 = .ok (.iadd, 1) := dk_96 (dk_at dksX9_gutter_0 11 rfl rfl)
theorem dX9_gutter_12 : decode cX9_gutter 12 = .ok (.iaload, 1) := dk_46 (dk_at dksX9_gutter_0 12 rfl rfl)
theorem dX9_gutter_13 : decode cX9_gutter 13 = .ok (.ireturn, 1) := dk_172 (dk_at dksX9_gutter_0 13 rfl rfl)
abbrev cX9_whyNotIn : ByteArray := prog_11_method_22_code
def yX9_whyNotIn : MethodName := ⟨RX9, "whyNotIn", "(II)I"⟩
def dkwX9_whyNotIn_2 : List UInt8 := [7, 167, 0, 4, 3, 172]
abbrev dktX9_whyNotIn_2 : List UInt8 := dkwX9_whyNotIn_2 ++ []
def dkwX9_whyNotIn_1 : List UInt8 := [54, 4, 21, 4, 2, 159, 0, 23, 21, 4, 27, 159, 0, 17, 42, 27, 21, 4, 182, 0, 90, 154, 0, 7]
abbrev dktX9_whyNotIn_1 : List UInt8 := dkwX9_whyNotIn_1 ++ dktX9_whyNotIn_2
def dkwX9_whyNotIn_0 : List UInt8 := [42, 28, 182, 0, 87, 62, 29, 2, 159, 0, 10, 29, 27, 159, 0, 5, 6, 172, 42, 28, 182, 0, 68]
abbrev dktX9_whyNotIn_0 : List UInt8 := dkwX9_whyNotIn_0 ++ dktX9_whyNotIn_1
theorem dksX9_whyNotIn_0 : cX9_whyNotIn.data.toList.drop 0 = dktX9_whyNotIn_0 := by decide +kernel
theorem dksX9_whyNotIn_1 : cX9_whyNotIn.data.toList.drop 23 = dktX9_whyNotIn_1 := dk_seg dksX9_whyNotIn_0 23 rfl rfl
theorem dksX9_whyNotIn_2 : cX9_whyNotIn.data.toList.drop 47 = dktX9_whyNotIn_2 := dk_seg dksX9_whyNotIn_1 24 rfl rfl
theorem dX9_whyNotIn_0 : decode cX9_whyNotIn 0 = .ok (.aload_n 0, 1) := dk_42 (dk_at dksX9_whyNotIn_0 0 rfl rfl)
theorem dX9_whyNotIn_1 : decode cX9_whyNotIn 1 = .ok (.iload_n 2, 1) := dk_28 (dk_at dksX9_whyNotIn_0 1 rfl rfl)
theorem dX9_whyNotIn_2 : decode cX9_whyNotIn 2 = .ok (.invokevirtual 87, 3) := dk_182 0 87 (dk_at dksX9_whyNotIn_0 2 rfl rfl)
theorem dX9_whyNotIn_5 : decode cX9_whyNotIn 5 = .ok (.istore_n 3, 1) := dk_62 (dk_at dksX9_whyNotIn_0 5 rfl rfl)
theorem dX9_whyNotIn_6 : decode cX9_whyNotIn 6 = .ok (.iload_n 3, 1) := dk_29 (dk_at dksX9_whyNotIn_0 6 rfl rfl)
theorem dX9_whyNotIn_7 : decode cX9_whyNotIn 7 = .ok (.iconst (-1), 1) := dk_2 (dk_at dksX9_whyNotIn_0 7 rfl rfl)
theorem dX9_whyNotIn_8 : decode cX9_whyNotIn 8 = .ok (.if_icmp .eq 10, 3) := dk_159 0 10 (dk_at dksX9_whyNotIn_0 8 rfl rfl)
theorem dX9_whyNotIn_11 : decode cX9_whyNotIn 11 = .ok (.iload_n 3, 1) := dk_29 (dk_at dksX9_whyNotIn_0 11 rfl rfl)
theorem dX9_whyNotIn_12 : decode cX9_whyNotIn 12 = .ok (.iload_n 1, 1) := dk_27 (dk_at dksX9_whyNotIn_0 12 rfl rfl)
theorem dX9_whyNotIn_13 : decode cX9_whyNotIn 13 = .ok (.if_icmp .eq 5, 3) := dk_159 0 5 (dk_at dksX9_whyNotIn_0 13 rfl rfl)
theorem dX9_whyNotIn_16 : decode cX9_whyNotIn 16 = .ok (.iconst 3, 1) := dk_6 (dk_at dksX9_whyNotIn_0 16 rfl rfl)
theorem dX9_whyNotIn_17 : decode cX9_whyNotIn 17 = .ok (.ireturn, 1) := dk_172 (dk_at dksX9_whyNotIn_0 17 rfl rfl)
theorem dX9_whyNotIn_18 : decode cX9_whyNotIn 18 = .ok (.aload_n 0, 1) := dk_42 (dk_at dksX9_whyNotIn_0 18 rfl rfl)
theorem dX9_whyNotIn_19 : decode cX9_whyNotIn 19 = .ok (.iload_n 2, 1) := dk_28 (dk_at dksX9_whyNotIn_0 19 rfl rfl)
theorem dX9_whyNotIn_20 : decode cX9_whyNotIn 20 = .ok (.invokevirtual 68, 3) := dk_182 0 68 (dk_at dksX9_whyNotIn_0 20 rfl rfl)
theorem dX9_whyNotIn_23 : decode cX9_whyNotIn 23 = .ok (.istore 4, 2) := dk_54 4 (dk_at dksX9_whyNotIn_1 0 rfl rfl)
theorem dX9_whyNotIn_25 : decode cX9_whyNotIn 25 = .ok (.iload 4, 2) := dk_21 4 (dk_at dksX9_whyNotIn_1 2 rfl rfl)
theorem dX9_whyNotIn_27 : decode cX9_whyNotIn 27 = .ok (.iconst (-1), 1) := dk_2 (dk_at dksX9_whyNotIn_1 4 rfl rfl)
theorem dX9_whyNotIn_28 : decode cX9_whyNotIn 28 = .ok (.if_icmp .eq 23, 3) := dk_159 0 23 (dk_at dksX9_whyNotIn_1 5 rfl rfl)
theorem dX9_whyNotIn_31 : decode cX9_whyNotIn 31 = .ok (.iload 4, 2) := dk_21 4 (dk_at dksX9_whyNotIn_1 8 rfl rfl)
theorem dX9_whyNotIn_33 : decode cX9_whyNotIn 33 = .ok (.iload_n 1, 1) := dk_27 (dk_at dksX9_whyNotIn_1 10 rfl rfl)
theorem dX9_whyNotIn_34 : decode cX9_whyNotIn 34 = .ok (.if_icmp .eq 17, 3) := dk_159 0 17 (dk_at dksX9_whyNotIn_1 11 rfl rfl)
theorem dX9_whyNotIn_37 : decode cX9_whyNotIn 37 = .ok (.aload_n 0, 1) := dk_42 (dk_at dksX9_whyNotIn_1 14 rfl rfl)
theorem dX9_whyNotIn_38 : decode cX9_whyNotIn 38 = .ok (.iload_n 1, 1) := dk_27 (dk_at dksX9_whyNotIn_1 15 rfl rfl)
theorem dX9_whyNotIn_39 : decode cX9_whyNotIn 39 = .ok (.iload 4, 2) := dk_21 4 (dk_at dksX9_whyNotIn_1 16 rfl rfl)
theorem dX9_whyNotIn_41 : decode cX9_whyNotIn 41 = .ok (.invokevirtual 90, 3) := dk_182 0 90 (dk_at dksX9_whyNotIn_1 18 rfl rfl)
theorem dX9_whyNotIn_44 : decode cX9_whyNotIn 44 = .ok (.ifCond .ne 7, 3) := dk_154 0 7 (dk_at dksX9_whyNotIn_1 21 rfl rfl)
theorem dX9_whyNotIn_47 : decode cX9_whyNotIn 47 = .ok (.iconst 4, 1) := dk_7 (dk_at dksX9_whyNotIn_2 0 rfl rfl)
theorem dX9_whyNotIn_48 : decode cX9_whyNotIn 48 = .ok (.goto 4, 3) := dk_167 0 4 (dk_at dksX9_whyNotIn_2 1 rfl rfl)
theorem dX9_whyNotIn_51 : decode cX9_whyNotIn 51 = .ok (.iconst 0, 1) := dk_3 (dk_at dksX9_whyNotIn_2 4 rfl rfl)
theorem dX9_whyNotIn_52 : decode cX9_whyNotIn 52 = .ok (.ireturn, 1) := dk_172 (dk_at dksX9_whyNotIn_2 5 rfl rfl)
abbrev cX9_owner : ByteArray := prog_11_method_13_code
def yX9_owner : MethodName := ⟨RX9, "owner", "(I)I"⟩
def dkwX9_owner_0 : List UInt8 := [42, 180, 0, 7, 16, 20, 27, 96, 46, 172]
abbrev dktX9_owner_0 : List UInt8 := dkwX9_owner_0 ++ []
theorem dksX9_owner_0 : cX9_owner.data.toList.drop 0 = dktX9_owner_0 := by decide +kernel
theorem dX9_owner_0 : decode cX9_owner 0 = .ok (.aload_n 0, 1) := dk_42 (dk_at dksX9_owner_0 0 rfl rfl)
theorem dX9_owner_1 : decode cX9_owner 1 = .ok (.getfield 7, 3) := dk_180 0 7 (dk_at dksX9_owner_0 1 rfl rfl)
theorem dX9_owner_4 : decode cX9_owner 4 = .ok (.bipush 20, 2) := dk_16 20 (dk_at dksX9_owner_0 4 rfl rfl)
theorem dX9_owner_6 : decode cX9_owner 6 = .ok (.iload_n 1, 1) := dk_27 (dk_at dksX9_owner_0 6 rfl rfl)
theorem dX9_owner_7 : decode cX9_owner 7 = .ok (.iadd, 1) := dk_96 (dk_at dksX9_owner_0 7 rfl rfl)
theorem dX9_owner_8 : decode cX9_owner 8 = .ok (.iaload, 1) := dk_46 (dk_at dksX9_owner_0 8 rfl rfl)
theorem dX9_owner_9 : decode cX9_owner 9 = .ok (.ireturn, 1) := dk_172 (dk_at dksX9_owner_0 9 rfl rfl)
abbrev cX9_truceLeft : ByteArray := prog_11_method_18_code
def yX9_truceLeft : MethodName := ⟨RX9, "truceLeft", "(II)I"⟩
def dkwX9_truceLeft_1 : List UInt8 := [184, 0, 76, 172]
abbrev dktX9_truceLeft_1 : List UInt8 := dkwX9_truceLeft_1 ++ []
def dkwX9_truceLeft_0 : List UInt8 := [3, 42, 180, 0, 7, 16, 122, 16, 8, 27, 104, 96, 28, 96, 46, 42, 180, 0, 7, 6, 46, 100]
abbrev dktX9_truceLeft_0 : List UInt8 := dkwX9_truceLeft_0 ++ dktX9_truceLeft_1
theorem dksX9_truceLeft_0 : cX9_truceLeft.data.toList.drop 0 = dktX9_truceLeft_0 := by decide +kernel
theorem dksX9_truceLeft_1 : cX9_truceLeft.data.toList.drop 22 = dktX9_truceLeft_1 := dk_seg dksX9_truceLeft_0 22 rfl rfl
theorem dX9_truceLeft_0 : decode cX9_truceLeft 0 = .ok (.iconst 0, 1) := dk_3 (dk_at dksX9_truceLeft_0 0 rfl rfl)
theorem dX9_truceLeft_1 : decode cX9_truceLeft 1 = .ok (.aload_n 0, 1) := dk_42 (dk_at dksX9_truceLeft_0 1 rfl rfl)
theorem dX9_truceLeft_2 : decode cX9_truceLeft 2 = .ok (.getfield 7, 3) := dk_180 0 7 (dk_at dksX9_truceLeft_0 2 rfl rfl)
theorem dX9_truceLeft_5 : decode cX9_truceLeft 5 = .ok (.bipush 122, 2) := dk_16 122 (dk_at dksX9_truceLeft_0 5 rfl rfl)
theorem dX9_truceLeft_7 : decode cX9_truceLeft 7 = .ok (.bipush 8, 2) := dk_16 8 (dk_at dksX9_truceLeft_0 7 rfl rfl)
theorem dX9_truceLeft_9 : decode cX9_truceLeft 9 = .ok (.iload_n 1, 1) := dk_27 (dk_at dksX9_truceLeft_0 9 rfl rfl)
theorem dX9_truceLeft_10 : decode cX9_truceLeft 10 = .ok (.imul, 1) := dk_104 (dk_at dksX9_truceLeft_0 10 rfl rfl)
theorem dX9_truceLeft_11 : decode cX9_truceLeft 11 = .ok (.iadd, 1) := dk_96 (dk_at dksX9_truceLeft_0 11 rfl rfl)
theorem dX9_truceLeft_12 : decode cX9_truceLeft 12 = .ok (.iload_n 2, 1) := dk_28 (dk_at dksX9_truceLeft_0 12 rfl rfl)
theorem dX9_truceLeft_13 : decode cX9_truceLeft 13 = .ok (.iadd, 1) := dk_96 (dk_at dksX9_truceLeft_0 13 rfl rfl)
theorem dX9_truceLeft_14 : decode cX9_truceLeft 14 = .ok (.iaload, 1) := dk_46 (dk_at dksX9_truceLeft_0 14 rfl rfl)
theorem dX9_truceLeft_15 : decode cX9_truceLeft 15 = .ok (.aload_n 0, 1) := dk_42 (dk_at dksX9_truceLeft_0 15 rfl rfl)
theorem dX9_truceLeft_16 : decode cX9_truceLeft 16 = .ok (.getfield 7, 3) := dk_180 0 7 (dk_at dksX9_truceLeft_0 16 rfl rfl)
theorem dX9_truceLeft_19 : decode cX9_truceLeft 19 = .ok (.iconst 3, 1) := dk_6 (dk_at dksX9_truceLeft_0 19 rfl rfl)
theorem dX9_truceLeft_20 : decode cX9_truceLeft 20 = .ok (.iaload, 1) := dk_46 (dk_at dksX9_truceLeft_0 20 rfl rfl)
theorem dX9_truceLeft_21 : decode cX9_truceLeft 21 = .ok (.isub, 1) := dk_100 (dk_at dksX9_truceLeft_0 21 rfl rfl)
theorem dX9_truceLeft_22 : decode cX9_truceLeft 22 = .ok (.invokestatic 76, 3) := dk_184 0 76 (dk_at dksX9_truceLeft_1 0 rfl rfl)
theorem dX9_truceLeft_25 : decode cX9_truceLeft 25 = .ok (.ireturn, 1) := dk_172 (dk_at dksX9_truceLeft_1 3 rfl rfl)
abbrev cX9_goes : ByteArray := prog_11_method_37_code
def yX9_goes : MethodName := ⟨RX9, "goes", "(II)I"⟩
def dkwX9_goes_0 : List UInt8 := [42, 27, 6, 42, 28, 42, 27, 6, 182, 0, 64, 182, 0, 93, 182, 0, 118, 42, 27, 6, 182, 0, 64, 172]
abbrev dktX9_goes_0 : List UInt8 := dkwX9_goes_0 ++ []
theorem dksX9_goes_0 : cX9_goes.data.toList.drop 0 = dktX9_goes_0 := by decide +kernel
theorem dX9_goes_0 : decode cX9_goes 0 = .ok (.aload_n 0, 1) := dk_42 (dk_at dksX9_goes_0 0 rfl rfl)
theorem dX9_goes_1 : decode cX9_goes 1 = .ok (.iload_n 1, 1) := dk_27 (dk_at dksX9_goes_0 1 rfl rfl)
theorem dX9_goes_2 : decode cX9_goes 2 = .ok (.iconst 3, 1) := dk_6 (dk_at dksX9_goes_0 2 rfl rfl)
theorem dX9_goes_3 : decode cX9_goes 3 = .ok (.aload_n 0, 1) := dk_42 (dk_at dksX9_goes_0 3 rfl rfl)
theorem dX9_goes_4 : decode cX9_goes 4 = .ok (.iload_n 2, 1) := dk_28 (dk_at dksX9_goes_0 4 rfl rfl)
theorem dX9_goes_5 : decode cX9_goes 5 = .ok (.aload_n 0, 1) := dk_42 (dk_at dksX9_goes_0 5 rfl rfl)
theorem dX9_goes_6 : decode cX9_goes 6 = .ok (.iload_n 1, 1) := dk_27 (dk_at dksX9_goes_0 6 rfl rfl)
theorem dX9_goes_7 : decode cX9_goes 7 = .ok (.iconst 3, 1) := dk_6 (dk_at dksX9_goes_0 7 rfl rfl)
theorem dX9_goes_8 : decode cX9_goes 8 = .ok (.invokevirtual 64, 3) := dk_182 0 64 (dk_at dksX9_goes_0 8 rfl rfl)
theorem dX9_goes_11 : decode cX9_goes 11 = .ok (.invokevirtual 93, 3) := dk_182 0 93 (dk_at dksX9_goes_0 11 rfl rfl)
theorem dX9_goes_14 : decode cX9_goes 14 = .ok (.invokevirtual 118, 3) := dk_182 0 118 (dk_at dksX9_goes_0 14 rfl rfl)
theorem dX9_goes_17 : decode cX9_goes 17 = .ok (.aload_n 0, 1) := dk_42 (dk_at dksX9_goes_0 17 rfl rfl)
theorem dX9_goes_18 : decode cX9_goes 18 = .ok (.iload_n 1, 1) := dk_27 (dk_at dksX9_goes_0 18 rfl rfl)
theorem dX9_goes_19 : decode cX9_goes 19 = .ok (.iconst 3, 1) := dk_6 (dk_at dksX9_goes_0 19 rfl rfl)
theorem dX9_goes_20 : decode cX9_goes 20 = .ok (.invokevirtual 64, 3) := dk_182 0 64 (dk_at dksX9_goes_0 20 rfl rfl)
theorem dX9_goes_23 : decode cX9_goes 23 = .ok (.ireturn, 1) := dk_172 (dk_at dksX9_goes_0 23 rfl rfl)
abbrev cX9_readsClaim : ByteArray := prog_11_method_69_code
def yX9_readsClaim : MethodName := ⟨RX9, "readsClaim", "()Z"⟩
def dkwX9_readsClaim_2 : List UInt8 := [172]
abbrev dktX9_readsClaim_2 : List UInt8 := dkwX9_readsClaim_2 ++ []
def dkwX9_readsClaim_1 : List UInt8 := [167, 0, 4, 3, 182, 0, 194, 154, 0, 5, 3, 172, 42, 42, 180, 0, 42, 3, 46, 182, 0, 228, 87, 4]
abbrev dktX9_readsClaim_1 : List UInt8 := dkwX9_readsClaim_1 ++ dktX9_readsClaim_2
def dkwX9_readsClaim_0 : List UInt8 := [42, 3, 182, 0, 216, 153, 0, 28, 42, 42, 42, 180, 0, 42, 3, 46, 182, 0, 225, 154, 0, 7, 4]
abbrev dktX9_readsClaim_0 : List UInt8 := dkwX9_readsClaim_0 ++ dktX9_readsClaim_1
theorem dksX9_readsClaim_0 : cX9_readsClaim.data.toList.drop 0 = dktX9_readsClaim_0 := by decide +kernel
theorem dksX9_readsClaim_1 : cX9_readsClaim.data.toList.drop 23 = dktX9_readsClaim_1 := dk_seg dksX9_readsClaim_0 23 rfl rfl
theorem dksX9_readsClaim_2 : cX9_readsClaim.data.toList.drop 47 = dktX9_readsClaim_2 := dk_seg dksX9_readsClaim_1 24 rfl rfl
theorem dX9_readsClaim_0 : decode cX9_readsClaim 0 = .ok (.aload_n 0, 1) := dk_42 (dk_at dksX9_readsClaim_0 0 rfl rfl)
theorem dX9_readsClaim_1 : decode cX9_readsClaim 1 = .ok (.iconst 0, 1) := dk_3 (dk_at dksX9_readsClaim_0 1 rfl rfl)
theorem dX9_readsClaim_2 : decode cX9_readsClaim 2 = .ok (.invokevirtual 216, 3) := dk_182 0 216 (dk_at dksX9_readsClaim_0 2 rfl rfl)
theorem dX9_readsClaim_5 : decode cX9_readsClaim 5 = .ok (.ifCond .eq 28, 3) := dk_153 0 28 (dk_at dksX9_readsClaim_0 5 rfl rfl)
theorem dX9_readsClaim_8 : decode cX9_readsClaim 8 = .ok (.aload_n 0, 1) := dk_42 (dk_at dksX9_readsClaim_0 8 rfl rfl)
theorem dX9_readsClaim_9 : decode cX9_readsClaim 9 = .ok (.aload_n 0, 1) := dk_42 (dk_at dksX9_readsClaim_0 9 rfl rfl)
theorem dX9_readsClaim_10 : decode cX9_readsClaim 10 = .ok (.aload_n 0, 1) := dk_42 (dk_at dksX9_readsClaim_0 10 rfl rfl)
theorem dX9_readsClaim_11 : decode cX9_readsClaim 11 = .ok (.getfield 42, 3) := dk_180 0 42 (dk_at dksX9_readsClaim_0 11 rfl rfl)
theorem dX9_readsClaim_14 : decode cX9_readsClaim 14 = .ok (.iconst 0, 1) := dk_3 (dk_at dksX9_readsClaim_0 14 rfl rfl)
theorem dX9_readsClaim_15 : decode cX9_readsClaim 15 = .ok (.iaload, 1) := dk_46 (dk_at dksX9_readsClaim_0 15 rfl rfl)
theorem dX9_readsClaim_16 : decode cX9_readsClaim 16 = .ok (.invokevirtual 225, 3) := dk_182 0 225 (dk_at dksX9_readsClaim_0 16 rfl rfl)
theorem dX9_readsClaim_19 : decode cX9_readsClaim 19 = .ok (.ifCond .ne 7, 3) := dk_154 0 7 (dk_at dksX9_readsClaim_0 19 rfl rfl)
theorem dX9_readsClaim_22 : decode cX9_readsClaim 22 = .ok (.iconst 1, 1) := dk_4 (dk_at dksX9_readsClaim_0 22 rfl rfl)
theorem dX9_readsClaim_23 : decode cX9_readsClaim 23 = .ok (.goto 4, 3) := dk_167 0 4 (dk_at dksX9_readsClaim_1 0 rfl rfl)
theorem dX9_readsClaim_26 : decode cX9_readsClaim 26 = .ok (.iconst 0, 1) := dk_3 (dk_at dksX9_readsClaim_1 3 rfl rfl)
theorem dX9_readsClaim_27 : decode cX9_readsClaim 27 = .ok (.invokevirtual 194, 3) := dk_182 0 194 (dk_at dksX9_readsClaim_1 4 rfl rfl)
theorem dX9_readsClaim_30 : decode cX9_readsClaim 30 = .ok (.ifCond .ne 5, 3) := dk_154 0 5 (dk_at dksX9_readsClaim_1 7 rfl rfl)
theorem dX9_readsClaim_33 : decode cX9_readsClaim 33 = .ok (.iconst 0, 1) := dk_3 (dk_at dksX9_readsClaim_1 10 rfl rfl)
theorem dX9_readsClaim_34 : decode cX9_readsClaim 34 = .ok (.ireturn, 1) := dk_172 (dk_at dksX9_readsClaim_1 11 rfl rfl)
theorem dX9_readsClaim_35 : decode cX9_readsClaim 35 = .ok (.aload_n 0, 1) := dk_42 (dk_at dksX9_readsClaim_1 12 rfl rfl)
theorem dX9_readsClaim_36 : decode cX9_readsClaim 36 = .ok (.aload_n 0, 1) := dk_42 (dk_at dksX9_readsClaim_1 13 rfl rfl)
theorem dX9_readsClaim_37 : decode cX9_readsClaim 37 = .ok (.getfield 42, 3) := dk_180 0 42 (dk_at dksX9_readsClaim_1 14 rfl rfl)
theorem dX9_readsClaim_40 : decode cX9_readsClaim 40 = .ok (.iconst 0, 1) := dk_3 (dk_at dksX9_readsClaim_1 17 rfl rfl)
theorem dX9_readsClaim_41 : decode cX9_readsClaim 41 = .ok (.iaload, 1) := dk_46 (dk_at dksX9_readsClaim_1 18 rfl rfl)
theorem dX9_readsClaim_42 : decode cX9_readsClaim 42 = .ok (.invokevirtual 228, 3) := dk_182 0 228 (dk_at dksX9_readsClaim_1 19 rfl rfl)
theorem dX9_readsClaim_45 : decode cX9_readsClaim 45 = .ok (.pop, 1) := dk_87 (dk_at dksX9_readsClaim_1 22 rfl rfl)
theorem dX9_readsClaim_46 : decode cX9_readsClaim 46 = .ok (.iconst 1, 1) := dk_4 (dk_at dksX9_readsClaim_1 23 rfl rfl)
theorem dX9_readsClaim_47 : decode cX9_readsClaim 47 = .ok (.ireturn, 1) := dk_172 (dk_at dksX9_readsClaim_2 0 rfl rfl)
abbrev cX9_whyLeaves : ByteArray := prog_11_method_24_code
def yX9_whyLeaves : MethodName := ⟨RX9, "whyLeaves", "(I)I"⟩
def dkwX9_whyLeaves_1 : List UInt8 := [160, 0, 8, 16, 6, 167, 0, 4, 3, 172]
abbrev dktX9_whyLeaves_1 : List UInt8 := dkwX9_whyLeaves_1 ++ []
def dkwX9_whyLeaves_0 : List UInt8 := [42, 42, 27, 6, 182, 0, 64, 182, 0, 68, 2, 159, 0, 5, 8, 172, 42, 27, 182, 0, 99, 7]
abbrev dktX9_whyLeaves_0 : List UInt8 := dkwX9_whyLeaves_0 ++ dktX9_whyLeaves_1
theorem dksX9_whyLeaves_0 : cX9_whyLeaves.data.toList.drop 0 = dktX9_whyLeaves_0 := by decide +kernel
theorem dksX9_whyLeaves_1 : cX9_whyLeaves.data.toList.drop 22 = dktX9_whyLeaves_1 := dk_seg dksX9_whyLeaves_0 22 rfl rfl
theorem dX9_whyLeaves_0 : decode cX9_whyLeaves 0 = .ok (.aload_n 0, 1) := dk_42 (dk_at dksX9_whyLeaves_0 0 rfl rfl)
theorem dX9_whyLeaves_1 : decode cX9_whyLeaves 1 = .ok (.aload_n 0, 1) := dk_42 (dk_at dksX9_whyLeaves_0 1 rfl rfl)
theorem dX9_whyLeaves_2 : decode cX9_whyLeaves 2 = .ok (.iload_n 1, 1) := dk_27 (dk_at dksX9_whyLeaves_0 2 rfl rfl)
theorem dX9_whyLeaves_3 : decode cX9_whyLeaves 3 = .ok (.iconst 3, 1) := dk_6 (dk_at dksX9_whyLeaves_0 3 rfl rfl)
theorem dX9_whyLeaves_4 : decode cX9_whyLeaves 4 = .ok (.invokevirtual 64, 3) := dk_182 0 64 (dk_at dksX9_whyLeaves_0 4 rfl rfl)
theorem dX9_whyLeaves_7 : decode cX9_whyLeaves 7 = .ok (.invokevirtual 68, 3) := dk_182 0 68 (dk_at dksX9_whyLeaves_0 7 rfl rfl)
theorem dX9_whyLeaves_10 : decode cX9_whyLeaves 10 = .ok (.iconst (-1), 1) := dk_2 (dk_at dksX9_whyLeaves_0 10 rfl rfl)
theorem dX9_whyLeaves_11 : decode cX9_whyLeaves 11 = .ok (.if_icmp .eq 5, 3) := dk_159 0 5 (dk_at dksX9_whyLeaves_0 11 rfl rfl)
theorem dX9_whyLeaves_14 : decode cX9_whyLeaves 14 = .ok (.iconst 5, 1) := dk_8 (dk_at dksX9_whyLeaves_0 14 rfl rfl)
theorem dX9_whyLeaves_15 : decode cX9_whyLeaves 15 = .ok (.ireturn, 1) := dk_172 (dk_at dksX9_whyLeaves_0 15 rfl rfl)
theorem dX9_whyLeaves_16 : decode cX9_whyLeaves 16 = .ok (.aload_n 0, 1) := dk_42 (dk_at dksX9_whyLeaves_0 16 rfl rfl)
theorem dX9_whyLeaves_17 : decode cX9_whyLeaves 17 = .ok (.iload_n 1, 1) := dk_27 (dk_at dksX9_whyLeaves_0 17 rfl rfl)
theorem dX9_whyLeaves_18 : decode cX9_whyLeaves 18 = .ok (.invokevirtual 99, 3) := dk_182 0 99 (dk_at dksX9_whyLeaves_0 18 rfl rfl)
theorem dX9_whyLeaves_21 : decode cX9_whyLeaves 21 = .ok (.iconst 4, 1) := dk_7 (dk_at dksX9_whyLeaves_0 21 rfl rfl)
theorem dX9_whyLeaves_22 : decode cX9_whyLeaves 22 = .ok (.if_icmp .ne 8, 3) := dk_160 0 8 (dk_at dksX9_whyLeaves_1 0 rfl rfl)
theorem dX9_whyLeaves_25 : decode cX9_whyLeaves 25 = .ok (.bipush 6, 2) := dk_16 6 (dk_at dksX9_whyLeaves_1 3 rfl rfl)
theorem dX9_whyLeaves_27 : decode cX9_whyLeaves 27 = .ok (.goto 4, 3) := dk_167 0 4 (dk_at dksX9_whyLeaves_1 5 rfl rfl)
theorem dX9_whyLeaves_30 : decode cX9_whyLeaves 30 = .ok (.iconst 0, 1) := dk_3 (dk_at dksX9_whyLeaves_1 8 rfl rfl)
theorem dX9_whyLeaves_31 : decode cX9_whyLeaves 31 = .ok (.ireturn, 1) := dk_172 (dk_at dksX9_whyLeaves_1 9 rfl rfl)
abbrev cX9_owns : ByteArray := prog_11_method_15_code
def yX9_owns : MethodName := ⟨RX9, "owns", "(I)I"⟩
def dkwX9_owns_1 : List UInt8 := [4, 167, 0, 4, 3, 96, 61, 132, 3, 1, 167, 255, 226, 28, 172]
abbrev dktX9_owns_1 : List UInt8 := dkwX9_owns_1 ++ []
def dkwX9_owns_0 : List UInt8 := [3, 61, 3, 62, 29, 42, 180, 0, 7, 3, 46, 162, 0, 26, 28, 42, 29, 182, 0, 68, 27, 160, 0, 7]
abbrev dktX9_owns_0 : List UInt8 := dkwX9_owns_0 ++ dktX9_owns_1
theorem dksX9_owns_0 : cX9_owns.data.toList.drop 0 = dktX9_owns_0 := by decide +kernel
theorem dksX9_owns_1 : cX9_owns.data.toList.drop 24 = dktX9_owns_1 := dk_seg dksX9_owns_0 24 rfl rfl
theorem dX9_owns_0 : decode cX9_owns 0 = .ok (.iconst 0, 1) := dk_3 (dk_at dksX9_owns_0 0 rfl rfl)
theorem dX9_owns_1 : decode cX9_owns 1 = .ok (.istore_n 2, 1) := dk_61 (dk_at dksX9_owns_0 1 rfl rfl)
theorem dX9_owns_2 : decode cX9_owns 2 = .ok (.iconst 0, 1) := dk_3 (dk_at dksX9_owns_0 2 rfl rfl)
theorem dX9_owns_3 : decode cX9_owns 3 = .ok (.istore_n 3, 1) := dk_62 (dk_at dksX9_owns_0 3 rfl rfl)
theorem dX9_owns_4 : decode cX9_owns 4 = .ok (.iload_n 3, 1) := dk_29 (dk_at dksX9_owns_0 4 rfl rfl)
theorem dX9_owns_5 : decode cX9_owns 5 = .ok (.aload_n 0, 1) := dk_42 (dk_at dksX9_owns_0 5 rfl rfl)
theorem dX9_owns_6 : decode cX9_owns 6 = .ok (.getfield 7, 3) := dk_180 0 7 (dk_at dksX9_owns_0 6 rfl rfl)
theorem dX9_owns_9 : decode cX9_owns 9 = .ok (.iconst 0, 1) := dk_3 (dk_at dksX9_owns_0 9 rfl rfl)
theorem dX9_owns_10 : decode cX9_owns 10 = .ok (.iaload, 1) := dk_46 (dk_at dksX9_owns_0 10 rfl rfl)
theorem dX9_owns_11 : decode cX9_owns 11 = .ok (.if_icmp .ge 26, 3) := dk_162 0 26 (dk_at dksX9_owns_0 11 rfl rfl)
theorem dX9_owns_14 : decode cX9_owns 14 = .ok (.iload_n 2, 1) := dk_28 (dk_at dksX9_owns_0 14 rfl rfl)
theorem dX9_owns_15 : decode cX9_owns 15 = .ok (.aload_n 0, 1) := dk_42 (dk_at dksX9_owns_0 15 rfl rfl)
theorem dX9_owns_16 : decode cX9_owns 16 = .ok (.iload_n 3, 1) := dk_29 (dk_at dksX9_owns_0 16 rfl rfl)
theorem dX9_owns_17 : decode cX9_owns 17 = .ok (.invokevirtual 68, 3) := dk_182 0 68 (dk_at dksX9_owns_0 17 rfl rfl)
theorem dX9_owns_20 : decode cX9_owns 20 = .ok (.iload_n 1, 1) := dk_27 (dk_at dksX9_owns_0 20 rfl rfl)
theorem dX9_owns_21 : decode cX9_owns 21 = .ok (.if_icmp .ne 7, 3) := dk_160 0 7 (dk_at dksX9_owns_0 21 rfl rfl)
theorem dX9_owns_24 : decode cX9_owns 24 = .ok (.iconst 1, 1) := dk_4 (dk_at dksX9_owns_1 0 rfl rfl)
theorem dX9_owns_25 : decode cX9_owns 25 = .ok (.goto 4, 3) := dk_167 0 4 (dk_at dksX9_owns_1 1 rfl rfl)
theorem dX9_owns_28 : decode cX9_owns 28 = .ok (.iconst 0, 1) := dk_3 (dk_at dksX9_owns_1 4 rfl rfl)
theorem dX9_owns_29 : decode cX9_owns 29 = .ok (.iadd, 1) := dk_96 (dk_at dksX9_owns_1 5 rfl rfl)
theorem dX9_owns_30 : decode cX9_owns 30 = .ok (.istore_n 2, 1) := dk_61 (dk_at dksX9_owns_1 6 rfl rfl)
theorem dX9_owns_31 : decode cX9_owns 31 = .ok (.iinc 3 1, 3) := dk_132 3 1 (dk_at dksX9_owns_1 7 rfl rfl)
theorem dX9_owns_34 : decode cX9_owns 34 = .ok (.goto (-30), 3) := dk_167 255 226 (dk_at dksX9_owns_1 10 rfl rfl)
theorem dX9_owns_37 : decode cX9_owns 37 = .ok (.iload_n 2, 1) := dk_28 (dk_at dksX9_owns_1 13 rfl rfl)
theorem dX9_owns_38 : decode cX9_owns 38 = .ok (.ireturn, 1) := dk_172 (dk_at dksX9_owns_1 14 rfl rfl)
abbrev cX9_claims : ByteArray := prog_11_method_38_code
def yX9_claims : MethodName := ⟨RX9, "claims", "(I)I"⟩
def dkwX9_claims_0 : List UInt8 := [42, 180, 0, 7, 16, 20, 42, 27, 6, 182, 0, 64, 96, 27, 79, 42, 27, 182, 0, 99, 172]
abbrev dktX9_claims_0 : List UInt8 := dkwX9_claims_0 ++ []
theorem dksX9_claims_0 : cX9_claims.data.toList.drop 0 = dktX9_claims_0 := by decide +kernel
theorem dX9_claims_0 : decode cX9_claims 0 = .ok (.aload_n 0, 1) := dk_42 (dk_at dksX9_claims_0 0 rfl rfl)
theorem dX9_claims_1 : decode cX9_claims 1 = .ok (.getfield 7, 3) := dk_180 0 7 (dk_at dksX9_claims_0 1 rfl rfl)
theorem dX9_claims_4 : decode cX9_claims 4 = .ok (.bipush 20, 2) := dk_16 20 (dk_at dksX9_claims_0 4 rfl rfl)
theorem dX9_claims_6 : decode cX9_claims 6 = .ok (.aload_n 0, 1) := dk_42 (dk_at dksX9_claims_0 6 rfl rfl)
theorem dX9_claims_7 : decode cX9_claims 7 = .ok (.iload_n 1, 1) := dk_27 (dk_at dksX9_claims_0 7 rfl rfl)
theorem dX9_claims_8 : decode cX9_claims 8 = .ok (.iconst 3, 1) := dk_6 (dk_at dksX9_claims_0 8 rfl rfl)
theorem dX9_claims_9 : decode cX9_claims 9 = .ok (.invokevirtual 64, 3) := dk_182 0 64 (dk_at dksX9_claims_0 9 rfl rfl)
theorem dX9_claims_12 : decode cX9_claims 12 = .ok (.iadd, 1) := dk_96 (dk_at dksX9_claims_0 12 rfl rfl)
theorem dX9_claims_13 : decode cX9_claims 13 = .ok (.iload_n 1, 1) := dk_27 (dk_at dksX9_claims_0 13 rfl rfl)
theorem dX9_claims_14 : decode cX9_claims 14 = .ok (.iastore, 1) := dk_79 (dk_at dksX9_claims_0 14 rfl rfl)
theorem dX9_claims_15 : decode cX9_claims 15 = .ok (.aload_n 0, 1) := dk_42 (dk_at dksX9_claims_0 15 rfl rfl)
theorem dX9_claims_16 : decode cX9_claims 16 = .ok (.iload_n 1, 1) := dk_27 (dk_at dksX9_claims_0 16 rfl rfl)
theorem dX9_claims_17 : decode cX9_claims 17 = .ok (.invokevirtual 99, 3) := dk_182 0 99 (dk_at dksX9_claims_0 17 rfl rfl)
theorem dX9_claims_20 : decode cX9_claims 20 = .ok (.ireturn, 1) := dk_172 (dk_at dksX9_claims_0 20 rfl rfl)
abbrev cX9_readsAbandon : ByteArray := prog_11_method_70_code
def yX9_readsAbandon : MethodName := ⟨RX9, "readsAbandon", "()Z"⟩
def dkwX9_readsAbandon_2 : List UInt8 := [172]
abbrev dktX9_readsAbandon_2 : List UInt8 := dkwX9_readsAbandon_2 ++ []
def dkwX9_readsAbandon_1 : List UInt8 := [167, 0, 4, 3, 182, 0, 194, 154, 0, 5, 3, 172, 42, 42, 180, 0, 42, 3, 46, 182, 0, 231, 87, 4]
abbrev dktX9_readsAbandon_1 : List UInt8 := dkwX9_readsAbandon_1 ++ dktX9_readsAbandon_2
def dkwX9_readsAbandon_0 : List UInt8 := [42, 3, 182, 0, 201, 153, 0, 29, 42, 42, 42, 180, 0, 42, 3, 46, 182, 0, 68, 2, 159, 0, 7, 4]
abbrev dktX9_readsAbandon_0 : List UInt8 := dkwX9_readsAbandon_0 ++ dktX9_readsAbandon_1
theorem dksX9_readsAbandon_0 : cX9_readsAbandon.data.toList.drop 0 = dktX9_readsAbandon_0 := by decide +kernel
theorem dksX9_readsAbandon_1 : cX9_readsAbandon.data.toList.drop 24 = dktX9_readsAbandon_1 := dk_seg dksX9_readsAbandon_0 24 rfl rfl
theorem dksX9_readsAbandon_2 : cX9_readsAbandon.data.toList.drop 48 = dktX9_readsAbandon_2 := dk_seg dksX9_readsAbandon_1 24 rfl rfl
theorem dX9_readsAbandon_0 : decode cX9_readsAbandon 0 = .ok (.aload_n 0, 1) := dk_42 (dk_at dksX9_readsAbandon_0 0 rfl rfl)
theorem dX9_readsAbandon_1 : decode cX9_readsAbandon 1 = .ok (.iconst 0, 1) := dk_3 (dk_at dksX9_readsAbandon_0 1 rfl rfl)
theorem dX9_readsAbandon_2 : decode cX9_readsAbandon 2 = .ok (.invokevirtual 201, 3) := dk_182 0 201 (dk_at dksX9_readsAbandon_0 2 rfl rfl)
theorem dX9_readsAbandon_5 : decode cX9_readsAbandon 5 = .ok (.ifCond .eq 29, 3) := dk_153 0 29 (dk_at dksX9_readsAbandon_0 5 rfl rfl)
theorem dX9_readsAbandon_8 : decode cX9_readsAbandon 8 = .ok (.aload_n 0, 1) := dk_42 (dk_at dksX9_readsAbandon_0 8 rfl rfl)
theorem dX9_readsAbandon_9 : decode cX9_readsAbandon 9 = .ok (.aload_n 0, 1) := dk_42 (dk_at dksX9_readsAbandon_0 9 rfl rfl)
theorem dX9_readsAbandon_10 : decode cX9_readsAbandon 10 = .ok (.aload_n 0, 1) := dk_42 (dk_at dksX9_readsAbandon_0 10 rfl rfl)
theorem dX9_readsAbandon_11 : decode cX9_readsAbandon 11 = .ok (.getfield 42, 3) := dk_180 0 42 (dk_at dksX9_readsAbandon_0 11 rfl rfl)
theorem dX9_readsAbandon_14 : decode cX9_readsAbandon 14 = .ok (.iconst 0, 1) := dk_3 (dk_at dksX9_readsAbandon_0 14 rfl rfl)
theorem dX9_readsAbandon_15 : decode cX9_readsAbandon 15 = .ok (.iaload, 1) := dk_46 (dk_at dksX9_readsAbandon_0 15 rfl rfl)
theorem dX9_readsAbandon_16 : decode cX9_readsAbandon 16 = .ok (.invokevirtual 68, 3) := dk_182 0 68 (dk_at dksX9_readsAbandon_0 16 rfl rfl)
theorem dX9_readsAbandon_19 : decode cX9_readsAbandon 19 = .ok (.iconst (-1), 1) := dk_2 (dk_at dksX9_readsAbandon_0 19 rfl rfl)
theorem dX9_readsAbandon_20 : decode cX9_readsAbandon 20 = .ok (.if_icmp .eq 7, 3) := dk_159 0 7 (dk_at dksX9_readsAbandon_0 20 rfl rfl)
theorem dX9_readsAbandon_23 : decode cX9_readsAbandon 23 = .ok (.iconst 1, 1) := dk_4 (dk_at dksX9_readsAbandon_0 23 rfl rfl)
theorem dX9_readsAbandon_24 : decode cX9_readsAbandon 24 = .ok (.goto 4, 3) := dk_167 0 4 (dk_at dksX9_readsAbandon_1 0 rfl rfl)
theorem dX9_readsAbandon_27 : decode cX9_readsAbandon 27 = .ok (.iconst 0, 1) := dk_3 (dk_at dksX9_readsAbandon_1 3 rfl rfl)
theorem dX9_readsAbandon_28 : decode cX9_readsAbandon 28 = .ok (.invokevirtual 194, 3) := dk_182 0 194 (dk_at dksX9_readsAbandon_1 4 rfl rfl)
theorem dX9_readsAbandon_31 : decode cX9_readsAbandon 31 = .ok (.ifCond .ne 5, 3) := dk_154 0 5 (dk_at dksX9_readsAbandon_1 7 rfl rfl)
theorem dX9_readsAbandon_34 : decode cX9_readsAbandon 34 = .ok (.iconst 0, 1) := dk_3 (dk_at dksX9_readsAbandon_1 10 rfl rfl)
theorem dX9_readsAbandon_35 : decode cX9_readsAbandon 35 = .ok (.ireturn, 1) := dk_172 (dk_at dksX9_readsAbandon_1 11 rfl rfl)
theorem dX9_readsAbandon_36 : decode cX9_readsAbandon 36 = .ok (.aload_n 0, 1) := dk_42 (dk_at dksX9_readsAbandon_1 12 rfl rfl)
theorem dX9_readsAbandon_37 : decode cX9_readsAbandon 37 = .ok (.aload_n 0, 1) := dk_42 (dk_at dksX9_readsAbandon_1 13 rfl rfl)
theorem dX9_readsAbandon_38 : decode cX9_readsAbandon 38 = .ok (.getfield 42, 3) := dk_180 0 42 (dk_at dksX9_readsAbandon_1 14 rfl rfl)
theorem dX9_readsAbandon_41 : decode cX9_readsAbandon 41 = .ok (.iconst 0, 1) := dk_3 (dk_at dksX9_readsAbandon_1 17 rfl rfl)
theorem dX9_readsAbandon_42 : decode cX9_readsAbandon 42 = .ok (.iaload, 1) := dk_46 (dk_at dksX9_readsAbandon_1 18 rfl rfl)
theorem dX9_readsAbandon_43 : decode cX9_readsAbandon 43 = .ok (.invokevirtual 231, 3) := dk_182 0 231 (dk_at dksX9_readsAbandon_1 19 rfl rfl)
theorem dX9_readsAbandon_46 : decode cX9_readsAbandon 46 = .ok (.pop, 1) := dk_87 (dk_at dksX9_readsAbandon_1 22 rfl rfl)
theorem dX9_readsAbandon_47 : decode cX9_readsAbandon 47 = .ok (.iconst 1, 1) := dk_4 (dk_at dksX9_readsAbandon_1 23 rfl rfl)
theorem dX9_readsAbandon_48 : decode cX9_readsAbandon 48 = .ok (.ireturn, 1) := dk_172 (dk_at dksX9_readsAbandon_2 0 rfl rfl)
abbrev cX9_leaves : ByteArray := prog_11_method_39_code
def yX9_leaves : MethodName := ⟨RX9, "leaves", "(I)I"⟩
def dkwX9_leaves_0 : List UInt8 := [42, 27, 182, 0, 68, 61, 42, 180, 0, 7, 16, 20, 27, 96, 2, 79, 28, 172]
abbrev dktX9_leaves_0 : List UInt8 := dkwX9_leaves_0 ++ []
theorem dksX9_leaves_0 : cX9_leaves.data.toList.drop 0 = dktX9_leaves_0 := by decide +kernel
theorem dX9_leaves_0 : decode cX9_leaves 0 = .ok (.aload_n 0, 1) := dk_42 (dk_at dksX9_leaves_0 0 rfl rfl)
theorem dX9_leaves_1 : decode cX9_leaves 1 = .ok (.iload_n 1, 1) := dk_27 (dk_at dksX9_leaves_0 1 rfl rfl)
theorem dX9_leaves_2 : decode cX9_leaves 2 = .ok (.invokevirtual 68, 3) := dk_182 0 68 (dk_at dksX9_leaves_0 2 rfl rfl)
theorem dX9_leaves_5 : decode cX9_leaves 5 = .ok (.istore_n 2, 1) := dk_61 (dk_at dksX9_leaves_0 5 rfl rfl)
theorem dX9_leaves_6 : decode cX9_leaves 6 = .ok (.aload_n 0, 1) := dk_42 (dk_at dksX9_leaves_0 6 rfl rfl)
theorem dX9_leaves_7 : decode cX9_leaves 7 = .ok (.getfield 7, 3) := dk_180 0 7 (dk_at dksX9_leaves_0 7 rfl rfl)
theorem dX9_leaves_10 : decode cX9_leaves 10 = .ok (.bipush 20, 2) := dk_16 20 (dk_at dksX9_leaves_0 10 rfl rfl)
theorem dX9_leaves_12 : decode cX9_leaves 12 = .ok (.iload_n 1, 1) := dk_27 (dk_at dksX9_leaves_0 12 rfl rfl)
theorem dX9_leaves_13 : decode cX9_leaves 13 = .ok (.iadd, 1) := dk_96 (dk_at dksX9_leaves_0 13 rfl rfl)
theorem dX9_leaves_14 : decode cX9_leaves 14 = .ok (.iconst (-1), 1) := dk_2 (dk_at dksX9_leaves_0 14 rfl rfl)
theorem dX9_leaves_15 : decode cX9_leaves 15 = .ok (.iastore, 1) := dk_79 (dk_at dksX9_leaves_0 15 rfl rfl)
theorem dX9_leaves_16 : decode cX9_leaves 16 = .ok (.iload_n 2, 1) := dk_28 (dk_at dksX9_leaves_0 16 rfl rfl)
theorem dX9_leaves_17 : decode cX9_leaves 17 = .ok (.ireturn, 1) := dk_172 (dk_at dksX9_leaves_0 17 rfl rfl)
abbrev cX9_readsChase : ByteArray := prog_11_method_71_code
def yX9_readsChase : MethodName := ⟨RX9, "readsChase", "()Z"⟩
def dkwX9_readsChase_3 : List UInt8 := [87, 4, 172]
abbrev dktX9_readsChase_3 : List UInt8 := dkwX9_readsChase_3 ++ []
def dkwX9_readsChase_2 : List UInt8 := [182, 0, 194, 154, 0, 5, 3, 172, 42, 42, 180, 0, 42, 3, 46, 42, 180, 0, 42, 4, 46, 182, 0, 237]
abbrev dktX9_readsChase_2 : List UInt8 := dkwX9_readsChase_2 ++ dktX9_readsChase_3
def dkwX9_readsChase_1 : List UInt8 := [42, 42, 180, 0, 42, 3, 46, 42, 180, 0, 42, 4, 46, 182, 0, 234, 154, 0, 7, 4, 167, 0, 4, 3]
abbrev dktX9_readsChase_1 : List UInt8 := dkwX9_readsChase_1 ++ dktX9_readsChase_2
def dkwX9_readsChase_0 : List UInt8 := [42, 3, 182, 0, 216, 153, 0, 49, 42, 42, 180, 0, 7, 5, 46, 4, 100, 182, 0, 204, 153, 0, 34, 42]
abbrev dktX9_readsChase_0 : List UInt8 := dkwX9_readsChase_0 ++ dktX9_readsChase_1
theorem dksX9_readsChase_0 : cX9_readsChase.data.toList.drop 0 = dktX9_readsChase_0 := by decide +kernel
theorem dksX9_readsChase_1 : cX9_readsChase.data.toList.drop 24 = dktX9_readsChase_1 := dk_seg dksX9_readsChase_0 24 rfl rfl
theorem dksX9_readsChase_2 : cX9_readsChase.data.toList.drop 48 = dktX9_readsChase_2 := dk_seg dksX9_readsChase_1 24 rfl rfl
theorem dksX9_readsChase_3 : cX9_readsChase.data.toList.drop 72 = dktX9_readsChase_3 := dk_seg dksX9_readsChase_2 24 rfl rfl
theorem dX9_readsChase_0 : decode cX9_readsChase 0 = .ok (.aload_n 0, 1) := dk_42 (dk_at dksX9_readsChase_0 0 rfl rfl)
theorem dX9_readsChase_1 : decode cX9_readsChase 1 = .ok (.iconst 0, 1) := dk_3 (dk_at dksX9_readsChase_0 1 rfl rfl)
theorem dX9_readsChase_2 : decode cX9_readsChase 2 = .ok (.invokevirtual 216, 3) := dk_182 0 216 (dk_at dksX9_readsChase_0 2 rfl rfl)
theorem dX9_readsChase_5 : decode cX9_readsChase 5 = .ok (.ifCond .eq 49, 3) := dk_153 0 49 (dk_at dksX9_readsChase_0 5 rfl rfl)
theorem dX9_readsChase_8 : decode cX9_readsChase 8 = .ok (.aload_n 0, 1) := dk_42 (dk_at dksX9_readsChase_0 8 rfl rfl)
theorem dX9_readsChase_9 : decode cX9_readsChase 9 = .ok (.aload_n 0, 1) := dk_42 (dk_at dksX9_readsChase_0 9 rfl rfl)
theorem dX9_readsChase_10 : decode cX9_readsChase 10 = .ok (.getfield 7, 3) := dk_180 0 7 (dk_at dksX9_readsChase_0 10 rfl rfl)
theorem dX9_readsChase_13 : decode cX9_readsChase 13 = .ok (.iconst 2, 1) := dk_5 (dk_at dksX9_readsChase_0 13 rfl rfl)
theorem dX9_readsChase_14 : decode cX9_readsChase 14 = .ok (.iaload, 1) := dk_46 (dk_at dksX9_readsChase_0 14 rfl rfl)
theorem dX9_readsChase_15 : decode cX9_readsChase 15 = .ok (.iconst 1, 1) := dk_4 (dk_at dksX9_readsChase_0 15 rfl rfl)
theorem dX9_readsChase_16 : decode cX9_readsChase 16 = .ok (.isub, 1) := dk_100 (dk_at dksX9_readsChase_0 16 rfl rfl)
theorem dX9_readsChase_17 : decode cX9_readsChase 17 = .ok (.invokevirtual 204, 3) := dk_182 0 204 (dk_at dksX9_readsChase_0 17 rfl rfl)
theorem dX9_readsChase_20 : decode cX9_readsChase 20 = .ok (.ifCond .eq 34, 3) := dk_153 0 34 (dk_at dksX9_readsChase_0 20 rfl rfl)
theorem dX9_readsChase_23 : decode cX9_readsChase 23 = .ok (.aload_n 0, 1) := dk_42 (dk_at dksX9_readsChase_0 23 rfl rfl)
theorem dX9_readsChase_24 : decode cX9_readsChase 24 = .ok (.aload_n 0, 1) := dk_42 (dk_at dksX9_readsChase_1 0 rfl rfl)
theorem dX9_readsChase_25 : decode cX9_readsChase 25 = .ok (.aload_n 0, 1) := dk_42 (dk_at dksX9_readsChase_1 1 rfl rfl)
theorem dX9_readsChase_26 : decode cX9_readsChase 26 = .ok (.getfield 42, 3) := dk_180 0 42 (dk_at dksX9_readsChase_1 2 rfl rfl)
theorem dX9_readsChase_29 : decode cX9_readsChase 29 = .ok (.iconst 0, 1) := dk_3 (dk_at dksX9_readsChase_1 5 rfl rfl)
theorem dX9_readsChase_30 : decode cX9_readsChase 30 = .ok (.iaload, 1) := dk_46 (dk_at dksX9_readsChase_1 6 rfl rfl)
theorem dX9_readsChase_31 : decode cX9_readsChase 31 = .ok (.aload_n 0, 1) := dk_42 (dk_at dksX9_readsChase_1 7 rfl rfl)
theorem dX9_readsChase_32 : decode cX9_readsChase 32 = .ok (.getfield 42, 3) := dk_180 0 42 (dk_at dksX9_readsChase_1 8 rfl rfl)
theorem dX9_readsChase_35 : decode cX9_readsChase 35 = .ok (.iconst 1, 1) := dk_4 (dk_at dksX9_readsChase_1 11 rfl rfl)
theorem dX9_readsChase_36 : decode cX9_readsChase 36 = .ok (.iaload, 1) := dk_46 (dk_at dksX9_readsChase_1 12 rfl rfl)
theorem dX9_readsChase_37 : decode cX9_readsChase 37 = .ok (.invokevirtual 234, 3) := dk_182 0 234 (dk_at dksX9_readsChase_1 13 rfl rfl)
theorem dX9_readsChase_40 : decode cX9_readsChase 40 = .ok (.ifCond .ne 7, 3) := dk_154 0 7 (dk_at dksX9_readsChase_1 16 rfl rfl)
theorem dX9_readsChase_43 : decode cX9_readsChase 43 = .ok (.iconst 1, 1) := dk_4 (dk_at dksX9_readsChase_1 19 rfl rfl)
theorem dX9_readsChase_44 : decode cX9_readsChase 44 = .ok (.goto 4, 3) := dk_167 0 4 (dk_at dksX9_readsChase_1 20 rfl rfl)
theorem dX9_readsChase_47 : decode cX9_readsChase 47 = .ok (.iconst 0, 1) := dk_3 (dk_at dksX9_readsChase_1 23 rfl rfl)
theorem dX9_readsChase_48 : decode cX9_readsChase 48 = .ok (.invokevirtual 194, 3) := dk_182 0 194 (dk_at dksX9_readsChase_2 0 rfl rfl)
theorem dX9_readsChase_51 : decode cX9_readsChase 51 = .ok (.ifCond .ne 5, 3) := dk_154 0 5 (dk_at dksX9_readsChase_2 3 rfl rfl)
theorem dX9_readsChase_54 : decode cX9_readsChase 54 = .ok (.iconst 0, 1) := dk_3 (dk_at dksX9_readsChase_2 6 rfl rfl)
theorem dX9_readsChase_55 : decode cX9_readsChase 55 = .ok (.ireturn, 1) := dk_172 (dk_at dksX9_readsChase_2 7 rfl rfl)
theorem dX9_readsChase_56 : decode cX9_readsChase 56 = .ok (.aload_n 0, 1) := dk_42 (dk_at dksX9_readsChase_2 8 rfl rfl)
theorem dX9_readsChase_57 : decode cX9_readsChase 57 = .ok (.aload_n 0, 1) := dk_42 (dk_at dksX9_readsChase_2 9 rfl rfl)
theorem dX9_readsChase_58 : decode cX9_readsChase 58 = .ok (.getfield 42, 3) := dk_180 0 42 (dk_at dksX9_readsChase_2 10 rfl rfl)
theorem dX9_readsChase_61 : decode cX9_readsChase 61 = .ok (.iconst 0, 1) := dk_3 (dk_at dksX9_readsChase_2 13 rfl rfl)
theorem dX9_readsChase_62 : decode cX9_readsChase 62 = .ok (.iaload, 1) := dk_46 (dk_at dksX9_readsChase_2 14 rfl rfl)
theorem dX9_readsChase_63 : decode cX9_readsChase 63 = .ok (.aload_n 0, 1) := dk_42 (dk_at dksX9_readsChase_2 15 rfl rfl)
theorem dX9_readsChase_64 : decode cX9_readsChase 64 = .ok (.getfield 42, 3) := dk_180 0 42 (dk_at dksX9_readsChase_2 16 rfl rfl)
theorem dX9_readsChase_67 : decode cX9_readsChase 67 = .ok (.iconst 1, 1) := dk_4 (dk_at dksX9_readsChase_2 19 rfl rfl)
theorem dX9_readsChase_68 : decode cX9_readsChase 68 = .ok (.iaload, 1) := dk_46 (dk_at dksX9_readsChase_2 20 rfl rfl)
theorem dX9_readsChase_69 : decode cX9_readsChase 69 = .ok (.invokevirtual 237, 3) := dk_182 0 237 (dk_at dksX9_readsChase_2 21 rfl rfl)
theorem dX9_readsChase_72 : decode cX9_readsChase 72 = .ok (.pop, 1) := dk_87 (dk_at dksX9_readsChase_3 0 rfl rfl)
theorem dX9_readsChase_73 : decode cX9_readsChase 73 = .ok (.iconst 1, 1) := dk_4 (dk_at dksX9_readsChase_3 1 rfl rfl)
theorem dX9_readsChase_74 : decode cX9_readsChase 74 = .ok (.ireturn, 1) := dk_172 (dk_at dksX9_readsChase_3 2 rfl rfl)
abbrev cX9_whySpares : ByteArray := prog_11_method_25_code
def yX9_whySpares : MethodName := ⟨RX9, "whySpares", "(II)I"⟩
def dkwX9_whySpares_2 : List UInt8 := [28, 182, 0, 105, 163, 0, 8, 16, 9, 167, 0, 4, 3, 172]
abbrev dktX9_whySpares_2 : List UInt8 := dkwX9_whySpares_2 ++ []
def dkwX9_whySpares_1 : List UInt8 := [162, 0, 6, 16, 7, 172, 42, 27, 28, 182, 0, 90, 158, 0, 6, 16, 8, 172, 42, 27, 182, 0, 105, 42]
abbrev dktX9_whySpares_1 : List UInt8 := dkwX9_whySpares_1 ++ dktX9_whySpares_2
def dkwX9_whySpares_0 : List UInt8 := [42, 42, 27, 6, 182, 0, 64, 42, 28, 6, 182, 0, 64, 182, 0, 102, 42, 27, 3, 182, 0, 64]
abbrev dktX9_whySpares_0 : List UInt8 := dkwX9_whySpares_0 ++ dktX9_whySpares_1
theorem dksX9_whySpares_0 : cX9_whySpares.data.toList.drop 0 = dktX9_whySpares_0 := by decide +kernel
theorem dksX9_whySpares_1 : cX9_whySpares.data.toList.drop 22 = dktX9_whySpares_1 := dk_seg dksX9_whySpares_0 22 rfl rfl
theorem dksX9_whySpares_2 : cX9_whySpares.data.toList.drop 46 = dktX9_whySpares_2 := dk_seg dksX9_whySpares_1 24 rfl rfl
theorem dX9_whySpares_0 : decode cX9_whySpares 0 = .ok (.aload_n 0, 1) := dk_42 (dk_at dksX9_whySpares_0 0 rfl rfl)
theorem dX9_whySpares_1 : decode cX9_whySpares 1 = .ok (.aload_n 0, 1) := dk_42 (dk_at dksX9_whySpares_0 1 rfl rfl)
theorem dX9_whySpares_2 : decode cX9_whySpares 2 = .ok (.iload_n 1, 1) := dk_27 (dk_at dksX9_whySpares_0 2 rfl rfl)
theorem dX9_whySpares_3 : decode cX9_whySpares 3 = .ok (.iconst 3, 1) := dk_6 (dk_at dksX9_whySpares_0 3 rfl rfl)
theorem dX9_whySpares_4 : decode cX9_whySpares 4 = .ok (.invokevirtual 64, 3) := dk_182 0 64 (dk_at dksX9_whySpares_0 4 rfl rfl)
theorem dX9_whySpares_7 : decode cX9_whySpares 7 = .ok (.aload_n 0, 1) := dk_42 (dk_at dksX9_whySpares_0 7 rfl rfl)
theorem dX9_whySpares_8 : decode cX9_whySpares 8 = .ok (.iload_n 2, 1) := dk_28 (dk_at dksX9_whySpares_0 8 rfl rfl)
theorem dX9_whySpares_9 : decode cX9_whySpares 9 = .ok (.iconst 3, 1) := dk_6 (dk_at dksX9_whySpares_0 9 rfl rfl)
theorem dX9_whySpares_10 : decode cX9_whySpares 10 = .ok (.invokevirtual 64, 3) := dk_182 0 64 (dk_at dksX9_whySpares_0 10 rfl rfl)
theorem dX9_whySpares_13 : decode cX9_whySpares 13 = .ok (.invokevirtual 102, 3) := dk_182 0 102 (dk_at dksX9_whySpares_0 13 rfl rfl)
theorem dX9_whySpares_16 : decode cX9_whySpares 16 = .ok (.aload_n 0, 1) := dk_42 (dk_at dksX9_whySpares_0 16 rfl rfl)
theorem dX9_whySpares_17 : decode cX9_whySpares 17 = .ok (.iload_n 1, 1) := dk_27 (dk_at dksX9_whySpares_0 17 rfl rfl)
theorem dX9_whySpares_18 : decode cX9_whySpares 18 = .ok (.iconst 0, 1) := dk_3 (dk_at dksX9_whySpares_0 18 rfl rfl)
theorem dX9_whySpares_19 : decode cX9_whySpares 19 = .ok (.invokevirtual 64, 3) := dk_182 0 64 (dk_at dksX9_whySpares_0 19 rfl rfl)
theorem dX9_whySpares_22 : decode cX9_whySpares 22 = .ok (.if_icmp .ge 6, 3) := dk_162 0 6 (dk_at dksX9_whySpares_1 0 rfl rfl)
theorem dX9_whySpares_25 : decode cX9_whySpares 25 = .ok (.bipush 7, 2) := dk_16 7 (dk_at dksX9_whySpares_1 3 rfl rfl)
theorem dX9_whySpares_27 : decode cX9_whySpares 27 = .ok (.ireturn, 1) := dk_172 (dk_at dksX9_whySpares_1 5 rfl rfl)
theorem dX9_whySpares_28 : decode cX9_whySpares 28 = .ok (.aload_n 0, 1) := dk_42 (dk_at dksX9_whySpares_1 6 rfl rfl)
theorem dX9_whySpares_29 : decode cX9_whySpares 29 = .ok (.iload_n 1, 1) := dk_27 (dk_at dksX9_whySpares_1 7 rfl rfl)
theorem dX9_whySpares_30 : decode cX9_whySpares 30 = .ok (.iload_n 2, 1) := dk_28 (dk_at dksX9_whySpares_1 8 rfl rfl)
theorem dX9_whySpares_31 : decode cX9_whySpares 31 = .ok (.invokevirtual 90, 3) := dk_182 0 90 (dk_at dksX9_whySpares_1 9 rfl rfl)
theorem dX9_whySpares_34 : decode cX9_whySpares 34 = .ok (.ifCond .le 6, 3) := dk_158 0 6 (dk_at dksX9_whySpares_1 12 rfl rfl)
theorem dX9_whySpares_37 : decode cX9_whySpares 37 = .ok (.bipush 8, 2) := dk_16 8 (dk_at dksX9_whySpares_1 15 rfl rfl)
theorem dX9_whySpares_39 : decode cX9_whySpares 39 = .ok (.ireturn, 1) := dk_172 (dk_at dksX9_whySpares_1 17 rfl rfl)
theorem dX9_whySpares_40 : decode cX9_whySpares 40 = .ok (.aload_n 0, 1) := dk_42 (dk_at dksX9_whySpares_1 18 rfl rfl)
theorem dX9_whySpares_41 : decode cX9_whySpares 41 = .ok (.iload_n 1, 1) := dk_27 (dk_at dksX9_whySpares_1 19 rfl rfl)
theorem dX9_whySpares_42 : decode cX9_whySpares 42 = .ok (.invokevirtual 105, 3) := dk_182 0 105 (dk_at dksX9_whySpares_1 20 rfl rfl)
theorem dX9_whySpares_45 : decode cX9_whySpares 45 = .ok (.aload_n 0, 1) := dk_42 (dk_at dksX9_whySpares_1 23 rfl rfl)
theorem dX9_whySpares_46 : decode cX9_whySpares 46 = .ok (.iload_n 2, 1) := dk_28 (dk_at dksX9_whySpares_2 0 rfl rfl)
theorem dX9_whySpares_47 : decode cX9_whySpares 47 = .ok (.invokevirtual 105, 3) := dk_182 0 105 (dk_at dksX9_whySpares_2 1 rfl rfl)
theorem dX9_whySpares_50 : decode cX9_whySpares 50 = .ok (.if_icmp .gt 8, 3) := dk_163 0 8 (dk_at dksX9_whySpares_2 4 rfl rfl)
theorem dX9_whySpares_53 : decode cX9_whySpares 53 = .ok (.bipush 9, 2) := dk_16 9 (dk_at dksX9_whySpares_2 7 rfl rfl)
theorem dX9_whySpares_55 : decode cX9_whySpares 55 = .ok (.goto 4, 3) := dk_167 0 4 (dk_at dksX9_whySpares_2 9 rfl rfl)
theorem dX9_whySpares_58 : decode cX9_whySpares 58 = .ok (.iconst 0, 1) := dk_3 (dk_at dksX9_whySpares_2 12 rfl rfl)
theorem dX9_whySpares_59 : decode cX9_whySpares 59 = .ok (.ireturn, 1) := dk_172 (dk_at dksX9_whySpares_2 13 rfl rfl)
abbrev cX9_widestBetween : ByteArray := prog_11_method_21_code
def yX9_widestBetween : MethodName := ⟨RX9, "widestBetween", "(II)I"⟩
def dkwX9_widestBetween_2 : List UInt8 := [167, 255, 215, 29, 172]
abbrev dktX9_widestBetween_2 : List UInt8 := dkwX9_widestBetween_2 ++ []
def dkwX9_widestBetween_1 : List UInt8 := [153, 0, 17, 29, 42, 21, 4, 5, 182, 0, 81, 184, 0, 76, 167, 0, 4, 29, 62, 132, 4, 1]
abbrev dktX9_widestBetween_1 : List UInt8 := dkwX9_widestBetween_1 ++ dktX9_widestBetween_2
def dkwX9_widestBetween_0 : List UInt8 := [3, 62, 3, 54, 4, 21, 4, 42, 180, 0, 7, 4, 46, 162, 0, 36, 42, 21, 4, 27, 28, 182, 0, 84]
abbrev dktX9_widestBetween_0 : List UInt8 := dkwX9_widestBetween_0 ++ dktX9_widestBetween_1
theorem dksX9_widestBetween_0 : cX9_widestBetween.data.toList.drop 0 = dktX9_widestBetween_0 := by decide +kernel
theorem dksX9_widestBetween_1 : cX9_widestBetween.data.toList.drop 24 = dktX9_widestBetween_1 := dk_seg dksX9_widestBetween_0 24 rfl rfl
theorem dksX9_widestBetween_2 : cX9_widestBetween.data.toList.drop 46 = dktX9_widestBetween_2 := dk_seg dksX9_widestBetween_1 22 rfl rfl
theorem dX9_widestBetween_0 : decode cX9_widestBetween 0 = .ok (.iconst 0, 1) := dk_3 (dk_at dksX9_widestBetween_0 0 rfl rfl)
theorem dX9_widestBetween_1 : decode cX9_widestBetween 1 = .ok (.istore_n 3, 1) := dk_62 (dk_at dksX9_widestBetween_0 1 rfl rfl)
theorem dX9_widestBetween_2 : decode cX9_widestBetween 2 = .ok (.iconst 0, 1) := dk_3 (dk_at dksX9_widestBetween_0 2 rfl rfl)
theorem dX9_widestBetween_3 : decode cX9_widestBetween 3 = .ok (.istore 4, 2) := dk_54 4 (dk_at dksX9_widestBetween_0 3 rfl rfl)
theorem dX9_widestBetween_5 : decode cX9_widestBetween 5 = .ok (.iload 4, 2) := dk_21 4 (dk_at dksX9_widestBetween_0 5 rfl rfl)
theorem dX9_widestBetween_7 : decode cX9_widestBetween 7 = .ok (.aload_n 0, 1) := dk_42 (dk_at dksX9_widestBetween_0 7 rfl rfl)
theorem dX9_widestBetween_8 : decode cX9_widestBetween 8 = .ok (.getfield 7, 3) := dk_180 0 7 (dk_at dksX9_widestBetween_0 8 rfl rfl)
theorem dX9_widestBetween_11 : decode cX9_widestBetween 11 = .ok (.iconst 1, 1) := dk_4 (dk_at dksX9_widestBetween_0 11 rfl rfl)
theorem dX9_widestBetween_12 : decode cX9_widestBetween 12 = .ok (.iaload, 1) := dk_46 (dk_at dksX9_widestBetween_0 12 rfl rfl)
theorem dX9_widestBetween_13 : decode cX9_widestBetween 13 = .ok (.if_icmp .ge 36, 3) := dk_162 0 36 (dk_at dksX9_widestBetween_0 13 rfl rfl)
theorem dX9_widestBetween_16 : decode cX9_widestBetween 16 = .ok (.aload_n 0, 1) := dk_42 (dk_at dksX9_widestBetween_0 16 rfl rfl)
theorem dX9_widestBetween_17 : decode cX9_widestBetween 17 = .ok (.iload 4, 2) := dk_21 4 (dk_at dksX9_widestBetween_0 17 rfl rfl)
theorem dX9_widestBetween_19 : decode cX9_widestBetween 19 = .ok (.iload_n 1, 1) := dk_27 (dk_at dksX9_widestBetween_0 19 rfl rfl)
theorem dX9_widestBetween_20 : decode cX9_widestBetween 20 = .ok (.iload_n 2, 1) := dk_28 (dk_at dksX9_widestBetween_0 20 rfl rfl)
theorem dX9_widestBetween_21 : decode cX9_widestBetween 21 = .ok (.invokevirtual 84, 3) := dk_182 0 84 (dk_at dksX9_widestBetween_0 21 rfl rfl)
theorem dX9_widestBetween_24 : decode cX9_widestBetween 24 = .ok (.ifCond .eq 17, 3) := dk_153 0 17 (dk_at dksX9_widestBetween_1 0 rfl rfl)
theorem dX9_widestBetween_27 : decode cX9_widestBetween 27 = .ok (.iload_n 3, 1) := dk_29 (dk_at dksX9_widestBetween_1 3 rfl rfl)
theorem dX9_widestBetween_28 : decode cX9_widestBetween 28 = .ok (.aload_n 0, 1) := dk_42 (dk_at dksX9_widestBetween_1 4 rfl rfl)
theorem dX9_widestBetween_29 : decode cX9_widestBetween 29 = .ok (.iload 4, 2) := dk_21 4 (dk_at dksX9_widestBetween_1 5 rfl rfl)
theorem dX9_widestBetween_31 : decode cX9_widestBetween 31 = .ok (.iconst 2, 1) := dk_5 (dk_at dksX9_widestBetween_1 7 rfl rfl)
theorem dX9_widestBetween_32 : decode cX9_widestBetween 32 = .ok (.invokevirtual 81, 3) := dk_182 0 81 (dk_at dksX9_widestBetween_1 8 rfl rfl)
theorem dX9_widestBetween_35 : decode cX9_widestBetween 35 = .ok (.invokestatic 76, 3) := dk_184 0 76 (dk_at dksX9_widestBetween_1 11 rfl rfl)
theorem dX9_widestBetween_38 : decode cX9_widestBetween 38 = .ok (.goto 4, 3) := dk_167 0 4 (dk_at dksX9_widestBetween_1 14 rfl rfl)
theorem dX9_widestBetween_41 : decode cX9_widestBetween 41 = .ok (.iload_n 3, 1) := dk_29 (dk_at dksX9_widestBetween_1 17 rfl rfl)
theorem dX9_widestBetween_42 : decode cX9_widestBetween 42 = .ok (.istore_n 3, 1) := dk_62 (dk_at dksX9_widestBetween_1 18 rfl rfl)
theorem dX9_widestBetween_43 : decode cX9_widestBetween 43 = .ok (.iinc 4 1, 3) := dk_132 4 1 (dk_at dksX9_widestBetween_1 19 rfl rfl)
theorem dX9_widestBetween_46 : decode cX9_widestBetween 46 = .ok (.goto (-41), 3) := dk_167 255 215 (dk_at dksX9_widestBetween_2 0 rfl rfl)
theorem dX9_widestBetween_49 : decode cX9_widestBetween 49 = .ok (.iload_n 3, 1) := dk_29 (dk_at dksX9_widestBetween_2 3 rfl rfl)
theorem dX9_widestBetween_50 : decode cX9_widestBetween 50 = .ok (.ireturn, 1) := dk_172 (dk_at dksX9_widestBetween_2 4 rfl rfl)
abbrev cX9_joins : ByteArray := prog_11_method_19_code
def yX9_joins : MethodName := ⟨RX9, "joins", "(III)Z"⟩
def dkwX9_joins_1 : List UInt8 := [182, 0, 81, 29, 160, 0, 17, 42, 27, 4, 182, 0, 81, 28, 160, 0, 7, 4, 167, 0, 4, 3, 172]
abbrev dktX9_joins_1 : List UInt8 := dkwX9_joins_1 ++ []
def dkwX9_joins_0 : List UInt8 := [42, 27, 3, 182, 0, 81, 28, 160, 0, 13, 42, 27, 4, 182, 0, 81, 29, 159, 0, 23, 42, 27, 3]
abbrev dktX9_joins_0 : List UInt8 := dkwX9_joins_0 ++ dktX9_joins_1
theorem dksX9_joins_0 : cX9_joins.data.toList.drop 0 = dktX9_joins_0 := by decide +kernel
theorem dksX9_joins_1 : cX9_joins.data.toList.drop 23 = dktX9_joins_1 := dk_seg dksX9_joins_0 23 rfl rfl
theorem dX9_joins_0 : decode cX9_joins 0 = .ok (.aload_n 0, 1) := dk_42 (dk_at dksX9_joins_0 0 rfl rfl)
theorem dX9_joins_1 : decode cX9_joins 1 = .ok (.iload_n 1, 1) := dk_27 (dk_at dksX9_joins_0 1 rfl rfl)
theorem dX9_joins_2 : decode cX9_joins 2 = .ok (.iconst 0, 1) := dk_3 (dk_at dksX9_joins_0 2 rfl rfl)
theorem dX9_joins_3 : decode cX9_joins 3 = .ok (.invokevirtual 81, 3) := dk_182 0 81 (dk_at dksX9_joins_0 3 rfl rfl)
theorem dX9_joins_6 : decode cX9_joins 6 = .ok (.iload_n 2, 1) := dk_28 (dk_at dksX9_joins_0 6 rfl rfl)
theorem dX9_joins_7 : decode cX9_joins 7 = .ok (.if_icmp .ne 13, 3) := dk_160 0 13 (dk_at dksX9_joins_0 7 rfl rfl)
theorem dX9_joins_10 : decode cX9_joins 10 = .ok (.aload_n 0, 1) := dk_42 (dk_at dksX9_joins_0 10 rfl rfl)
theorem dX9_joins_11 : decode cX9_joins 11 = .ok (.iload_n 1, 1) := dk_27 (dk_at dksX9_joins_0 11 rfl rfl)
theorem dX9_joins_12 : decode cX9_joins 12 = .ok (.iconst 1, 1) := dk_4 (dk_at dksX9_joins_0 12 rfl rfl)
theorem dX9_joins_13 : decode cX9_joins 13 = .ok (.invokevirtual 81, 3) := dk_182 0 81 (dk_at dksX9_joins_0 13 rfl rfl)
theorem dX9_joins_16 : decode cX9_joins 16 = .ok (.iload_n 3, 1) := dk_29 (dk_at dksX9_joins_0 16 rfl rfl)
theorem dX9_joins_17 : decode cX9_joins 17 = .ok (.if_icmp .eq 23, 3) := dk_159 0 23 (dk_at dksX9_joins_0 17 rfl rfl)
theorem dX9_joins_20 : decode cX9_joins 20 = .ok (.aload_n 0, 1) := dk_42 (dk_at dksX9_joins_0 20 rfl rfl)
theorem dX9_joins_21 : decode cX9_joins 21 = .ok (.iload_n 1, 1) := dk_27 (dk_at dksX9_joins_0 21 rfl rfl)
theorem dX9_joins_22 : decode cX9_joins 22 = .ok (.iconst 0, 1) := dk_3 (dk_at dksX9_joins_0 22 rfl rfl)
theorem dX9_joins_23 : decode cX9_joins 23 = .ok (.invokevirtual 81, 3) := dk_182 0 81 (dk_at dksX9_joins_1 0 rfl rfl)
theorem dX9_joins_26 : decode cX9_joins 26 = .ok (.iload_n 3, 1) := dk_29 (dk_at dksX9_joins_1 3 rfl rfl)
theorem dX9_joins_27 : decode cX9_joins 27 = .ok (.if_icmp .ne 17, 3) := dk_160 0 17 (dk_at dksX9_joins_1 4 rfl rfl)
theorem dX9_joins_30 : decode cX9_joins 30 = .ok (.aload_n 0, 1) := dk_42 (dk_at dksX9_joins_1 7 rfl rfl)
theorem dX9_joins_31 : decode cX9_joins 31 = .ok (.iload_n 1, 1) := dk_27 (dk_at dksX9_joins_1 8 rfl rfl)
theorem dX9_joins_32 : decode cX9_joins 32 = .ok (.iconst 1, 1) := dk_4 (dk_at dksX9_joins_1 9 rfl rfl)
theorem dX9_joins_33 : decode cX9_joins 33 = .ok (.invokevirtual 81, 3) := dk_182 0 81 (dk_at dksX9_joins_1 10 rfl rfl)
theorem dX9_joins_36 : decode cX9_joins 36 = .ok (.iload_n 2, 1) := dk_28 (dk_at dksX9_joins_1 13 rfl rfl)
theorem dX9_joins_37 : decode cX9_joins 37 = .ok (.if_icmp .ne 7, 3) := dk_160 0 7 (dk_at dksX9_joins_1 14 rfl rfl)
theorem dX9_joins_40 : decode cX9_joins 40 = .ok (.iconst 1, 1) := dk_4 (dk_at dksX9_joins_1 17 rfl rfl)
theorem dX9_joins_41 : decode cX9_joins 41 = .ok (.goto 4, 3) := dk_167 0 4 (dk_at dksX9_joins_1 18 rfl rfl)
theorem dX9_joins_44 : decode cX9_joins 44 = .ok (.iconst 0, 1) := dk_3 (dk_at dksX9_joins_1 21 rfl rfl)
theorem dX9_joins_45 : decode cX9_joins 45 = .ok (.ireturn, 1) := dk_172 (dk_at dksX9_joins_1 22 rfl rfl)
abbrev cX9_powerOf : ByteArray := prog_11_method_17_code
def yX9_powerOf : MethodName := ⟨RX9, "powerOf", "(I)I"⟩
def dkwX9_powerOf_0 : List UInt8 := [42, 27, 4, 182, 0, 64, 42, 27, 182, 0, 72, 153, 0, 7, 5, 167, 0, 4, 3, 96, 172]
abbrev dktX9_powerOf_0 : List UInt8 := dkwX9_powerOf_0 ++ []
theorem dksX9_powerOf_0 : cX9_powerOf.data.toList.drop 0 = dktX9_powerOf_0 := by decide +kernel
theorem dX9_powerOf_0 : decode cX9_powerOf 0 = .ok (.aload_n 0, 1) := dk_42 (dk_at dksX9_powerOf_0 0 rfl rfl)
theorem dX9_powerOf_1 : decode cX9_powerOf 1 = .ok (.iload_n 1, 1) := dk_27 (dk_at dksX9_powerOf_0 1 rfl rfl)
theorem dX9_powerOf_2 : decode cX9_powerOf 2 = .ok (.iconst 1, 1) := dk_4 (dk_at dksX9_powerOf_0 2 rfl rfl)
theorem dX9_powerOf_3 : decode cX9_powerOf 3 = .ok (.invokevirtual 64, 3) := dk_182 0 64 (dk_at dksX9_powerOf_0 3 rfl rfl)
theorem dX9_powerOf_6 : decode cX9_powerOf 6 = .ok (.aload_n 0, 1) := dk_42 (dk_at dksX9_powerOf_0 6 rfl rfl)
theorem dX9_powerOf_7 : decode cX9_powerOf 7 = .ok (.iload_n 1, 1) := dk_27 (dk_at dksX9_powerOf_0 7 rfl rfl)
theorem dX9_powerOf_8 : decode cX9_powerOf 8 = .ok (.invokevirtual 72, 3) := dk_182 0 72 (dk_at dksX9_powerOf_0 8 rfl rfl)
theorem dX9_powerOf_11 : decode cX9_powerOf 11 = .ok (.ifCond .eq 7, 3) := dk_153 0 7 (dk_at dksX9_powerOf_0 11 rfl rfl)
theorem dX9_powerOf_14 : decode cX9_powerOf 14 = .ok (.iconst 2, 1) := dk_5 (dk_at dksX9_powerOf_0 14 rfl rfl)
theorem dX9_powerOf_15 : decode cX9_powerOf 15 = .ok (.goto 4, 3) := dk_167 0 4 (dk_at dksX9_powerOf_0 15 rfl rfl)
theorem dX9_powerOf_18 : decode cX9_powerOf 18 = .ok (.iconst 0, 1) := dk_3 (dk_at dksX9_powerOf_0 18 rfl rfl)
theorem dX9_powerOf_19 : decode cX9_powerOf 19 = .ok (.iadd, 1) := dk_96 (dk_at dksX9_powerOf_0 19 rfl rfl)
theorem dX9_powerOf_20 : decode cX9_powerOf 20 = .ok (.ireturn, 1) := dk_172 (dk_at dksX9_powerOf_0 20 rfl rfl)
abbrev cX9_isHome : ByteArray := prog_11_method_16_code
def yX9_isHome : MethodName := ⟨RX9, "isHome", "(I)Z"⟩
def dkwX9_isHome_0 : List UInt8 := [42, 42, 27, 6, 182, 0, 64, 182, 0, 68, 27, 160, 0, 7, 4, 167, 0, 4, 3, 172]
abbrev dktX9_isHome_0 : List UInt8 := dkwX9_isHome_0 ++ []
theorem dksX9_isHome_0 : cX9_isHome.data.toList.drop 0 = dktX9_isHome_0 := by decide +kernel
theorem dX9_isHome_0 : decode cX9_isHome 0 = .ok (.aload_n 0, 1) := dk_42 (dk_at dksX9_isHome_0 0 rfl rfl)
theorem dX9_isHome_1 : decode cX9_isHome 1 = .ok (.aload_n 0, 1) := dk_42 (dk_at dksX9_isHome_0 1 rfl rfl)
theorem dX9_isHome_2 : decode cX9_isHome 2 = .ok (.iload_n 1, 1) := dk_27 (dk_at dksX9_isHome_0 2 rfl rfl)
theorem dX9_isHome_3 : decode cX9_isHome 3 = .ok (.iconst 3, 1) := dk_6 (dk_at dksX9_isHome_0 3 rfl rfl)
theorem dX9_isHome_4 : decode cX9_isHome 4 = .ok (.invokevirtual 64, 3) := dk_182 0 64 (dk_at dksX9_isHome_0 4 rfl rfl)
theorem dX9_isHome_7 : decode cX9_isHome 7 = .ok (.invokevirtual 68, 3) := dk_182 0 68 (dk_at dksX9_isHome_0 7 rfl rfl)
theorem dX9_isHome_10 : decode cX9_isHome 10 = .ok (.iload_n 1, 1) := dk_27 (dk_at dksX9_isHome_0 10 rfl rfl)
theorem dX9_isHome_11 : decode cX9_isHome 11 = .ok (.if_icmp .ne 7, 3) := dk_160 0 7 (dk_at dksX9_isHome_0 11 rfl rfl)
theorem dX9_isHome_14 : decode cX9_isHome 14 = .ok (.iconst 1, 1) := dk_4 (dk_at dksX9_isHome_0 14 rfl rfl)
theorem dX9_isHome_15 : decode cX9_isHome 15 = .ok (.goto 4, 3) := dk_167 0 4 (dk_at dksX9_isHome_0 15 rfl rfl)
theorem dX9_isHome_18 : decode cX9_isHome 18 = .ok (.iconst 0, 1) := dk_3 (dk_at dksX9_isHome_0 18 rfl rfl)
theorem dX9_isHome_19 : decode cX9_isHome 19 = .ok (.ireturn, 1) := dk_172 (dk_at dksX9_isHome_0 19 rfl rfl)
abbrev cX9_chases : ByteArray := prog_11_method_40_code
def yX9_chases : MethodName := ⟨RX9, "chases", "(II)Z"⟩
def dkwX9_chases_5 : List UInt8 := [21, 4, 182, 0, 68, 27, 160, 0, 7, 4, 167, 0, 4, 3, 172]
abbrev dktX9_chases_5 : List UInt8 := dkwX9_chases_5 ++ []
def dkwX9_chases_4 : List UInt8 := [182, 0, 64, 4, 100, 182, 0, 118, 42, 27, 5, 42, 27, 5, 182, 0, 64, 4, 96, 182, 0, 118, 42]
abbrev dktX9_chases_4 : List UInt8 := dkwX9_chases_4 ++ dktX9_chases_5
def dkwX9_chases_3 : List UInt8 := [182, 0, 64, 158, 0, 42, 42, 27, 5, 182, 0, 64, 16, 99, 162, 0, 31, 42, 28, 5, 42, 28, 5]
abbrev dktX9_chases_3 : List UInt8 := dkwX9_chases_3 ++ dktX9_chases_4
def dkwX9_chases_2 : List UInt8 := [167, 0, 4, 2, 79, 42, 27, 6, 21, 4, 182, 0, 118, 42, 28, 6, 29, 182, 0, 118, 42, 28, 5]
abbrev dktX9_chases_2 : List UInt8 := dkwX9_chases_2 ++ dktX9_chases_3
def dkwX9_chases_1 : List UInt8 := [160, 0, 27, 42, 180, 0, 7, 16, 20, 21, 4, 96, 42, 27, 182, 0, 99, 7, 162, 0, 7, 27]
abbrev dktX9_chases_1 : List UInt8 := dkwX9_chases_1 ++ dktX9_chases_2
def dkwX9_chases_0 : List UInt8 := [42, 27, 6, 182, 0, 64, 62, 42, 28, 6, 182, 0, 64, 54, 4, 42, 21, 4, 182, 0, 68, 28]
abbrev dktX9_chases_0 : List UInt8 := dkwX9_chases_0 ++ dktX9_chases_1
theorem dksX9_chases_0 : cX9_chases.data.toList.drop 0 = dktX9_chases_0 := by decide +kernel
theorem dksX9_chases_1 : cX9_chases.data.toList.drop 22 = dktX9_chases_1 := dk_seg dksX9_chases_0 22 rfl rfl
theorem dksX9_chases_2 : cX9_chases.data.toList.drop 44 = dktX9_chases_2 := dk_seg dksX9_chases_1 22 rfl rfl
theorem dksX9_chases_3 : cX9_chases.data.toList.drop 67 = dktX9_chases_3 := dk_seg dksX9_chases_2 23 rfl rfl
theorem dksX9_chases_4 : cX9_chases.data.toList.drop 90 = dktX9_chases_4 := dk_seg dksX9_chases_3 23 rfl rfl
theorem dksX9_chases_5 : cX9_chases.data.toList.drop 113 = dktX9_chases_5 := dk_seg dksX9_chases_4 23 rfl rfl
theorem dX9_chases_0 : decode cX9_chases 0 = .ok (.aload_n 0, 1) := dk_42 (dk_at dksX9_chases_0 0 rfl rfl)
theorem dX9_chases_1 : decode cX9_chases 1 = .ok (.iload_n 1, 1) := dk_27 (dk_at dksX9_chases_0 1 rfl rfl)
theorem dX9_chases_2 : decode cX9_chases 2 = .ok (.iconst 3, 1) := dk_6 (dk_at dksX9_chases_0 2 rfl rfl)
theorem dX9_chases_3 : decode cX9_chases 3 = .ok (.invokevirtual 64, 3) := dk_182 0 64 (dk_at dksX9_chases_0 3 rfl rfl)
theorem dX9_chases_6 : decode cX9_chases 6 = .ok (.istore_n 3, 1) := dk_62 (dk_at dksX9_chases_0 6 rfl rfl)
theorem dX9_chases_7 : decode cX9_chases 7 = .ok (.aload_n 0, 1) := dk_42 (dk_at dksX9_chases_0 7 rfl rfl)
theorem dX9_chases_8 : decode cX9_chases 8 = .ok (.iload_n 2, 1) := dk_28 (dk_at dksX9_chases_0 8 rfl rfl)
theorem dX9_chases_9 : decode cX9_chases 9 = .ok (.iconst 3, 1) := dk_6 (dk_at dksX9_chases_0 9 rfl rfl)
theorem dX9_chases_10 : decode cX9_chases 10 = .ok (.invokevirtual 64, 3) := dk_182 0 64 (dk_at dksX9_chases_0 10 rfl rfl)
theorem dX9_chases_13 : decode cX9_chases 13 = .ok (.istore 4, 2) := dk_54 4 (dk_at dksX9_chases_0 13 rfl rfl)
theorem dX9_chases_15 : decode cX9_chases 15 = .ok (.aload_n 0, 1) := dk_42 (dk_at dksX9_chases_0 15 rfl rfl)
theorem dX9_chases_16 : decode cX9_chases 16 = .ok (.iload 4, 2) := dk_21 4 (dk_at dksX9_chases_0 16 rfl rfl)
theorem dX9_chases_18 : decode cX9_chases 18 = .ok (.invokevirtual 68, 3) := dk_182 0 68 (dk_at dksX9_chases_0 18 rfl rfl)
theorem dX9_chases_21 : decode cX9_chases 21 = .ok (.iload_n 2, 1) := dk_28 (dk_at dksX9_chases_0 21 rfl rfl)
theorem dX9_chases_22 : decode cX9_chases 22 = .ok (.if_icmp .ne 27, 3) := dk_160 0 27 (dk_at dksX9_chases_1 0 rfl rfl)
theorem dX9_chases_25 : decode cX9_chases 25 = .ok (.aload_n 0, 1) := dk_42 (dk_at dksX9_chases_1 3 rfl rfl)
theorem dX9_chases_26 : decode cX9_chases 26 = .ok (.getfield 7, 3) := dk_180 0 7 (dk_at dksX9_chases_1 4 rfl rfl)
theorem dX9_chases_29 : decode cX9_chases 29 = .ok (.bipush 20, 2) := dk_16 20 (dk_at dksX9_chases_1 7 rfl rfl)
theorem dX9_chases_31 : decode cX9_chases 31 = .ok (.iload 4, 2) := dk_21 4 (dk_at dksX9_chases_1 9 rfl rfl)
theorem dX9_chases_33 : decode cX9_chases 33 = .ok (.iadd, 1) := dk_96 (dk_at dksX9_chases_1 11 rfl rfl)
theorem dX9_chases_34 : decode cX9_chases 34 = .ok (.aload_n 0, 1) := dk_42 (dk_at dksX9_chases_1 12 rfl rfl)
theorem dX9_chases_35 : decode cX9_chases 35 = .ok (.iload_n 1, 1) := dk_27 (dk_at dksX9_chases_1 13 rfl rfl)
theorem dX9_chases_36 : decode cX9_chases 36 = .ok (.invokevirtual 99, 3) := dk_182 0 99 (dk_at dksX9_chases_1 14 rfl rfl)
theorem dX9_chases_39 : decode cX9_chases 39 = .ok (.iconst 4, 1) := dk_7 (dk_at dksX9_chases_1 17 rfl rfl)
theorem dX9_chases_40 : decode cX9_chases 40 = .ok (.if_icmp .ge 7, 3) := dk_162 0 7 (dk_at dksX9_chases_1 18 rfl rfl)
theorem dX9_chases_43 : decode cX9_chases 43 = .ok (.iload_n 1, 1) := dk_27 (dk_at dksX9_chases_1 21 rfl rfl)
theorem dX9_chases_44 : decode cX9_chases 44 = .ok (.goto 4, 3) := dk_167 0 4 (dk_at dksX9_chases_2 0 rfl rfl)
theorem dX9_chases_47 : decode cX9_chases 47 = .ok (.iconst (-1), 1) := dk_2 (dk_at dksX9_chases_2 3 rfl rfl)
theorem dX9_chases_48 : decode cX9_chases 48 = .ok (.iastore, 1) := dk_79 (dk_at dksX9_chases_2 4 rfl rfl)
theorem dX9_chases_49 : decode cX9_chases 49 = .ok (.aload_n 0, 1) := dk_42 (dk_at dksX9_chases_2 5 rfl rfl)
theorem dX9_chases_50 : decode cX9_chases 50 = .ok (.iload_n 1, 1) := dk_27 (dk_at dksX9_chases_2 6 rfl rfl)
theorem dX9_chases_51 : decode cX9_chases 51 = .ok (.iconst 3, 1) := dk_6 (dk_at dksX9_chases_2 7 rfl rfl)
theorem dX9_chases_52 : decode cX9_chases 52 = .ok (.iload 4, 2) := dk_21 4 (dk_at dksX9_chases_2 8 rfl rfl)
theorem dX9_chases_54 : decode cX9_chases 54 = .ok (.invokevirtual 118, 3) := dk_182 0 118 (dk_at dksX9_chases_2 10 rfl rfl)
theorem dX9_chases_57 : decode cX9_chases 57 = .ok (.aload_n 0, 1) := dk_42 (dk_at dksX9_chases_2 13 rfl rfl)
theorem dX9_chases_58 : decode cX9_chases 58 = .ok (.iload_n 2, 1) := dk_28 (dk_at dksX9_chases_2 14 rfl rfl)
theorem dX9_chases_59 : decode cX9_chases 59 = .ok (.iconst 3, 1) := dk_6 (dk_at dksX9_chases_2 15 rfl rfl)
theorem dX9_chases_60 : decode cX9_chases 60 = .ok (.iload_n 3, 1) := dk_29 (dk_at dksX9_chases_2 16 rfl rfl)
theorem dX9_chases_61 : decode cX9_chases 61 = .ok (.invokevirtual 118, 3) := dk_182 0 118 (dk_at dksX9_chases_2 17 rfl rfl)
theorem dX9_chases_64 : decode cX9_chases 64 = .ok (.aload_n 0, 1) := dk_42 (dk_at dksX9_chases_2 20 rfl rfl)
theorem dX9_chases_65 : decode cX9_chases 65 = .ok (.iload_n 2, 1) := dk_28 (dk_at dksX9_chases_2 21 rfl rfl)
theorem dX9_chases_66 : decode cX9_chases 66 = .ok (.iconst 2, 1) := dk_5 (dk_at dksX9_chases_2 22 rfl rfl)
theorem dX9_chases_67 : decode cX9_chases 67 = .ok (.invokevirtual 64, 3) := dk_182 0 64 (dk_at dksX9_chases_3 0 rfl rfl)
theorem dX9_chases_70 : decode cX9_chases 70 = .ok (.ifCond .le 42, 3) := dk_158 0 42 (dk_at dksX9_chases_3 3 rfl rfl)
theorem dX9_chases_73 : decode cX9_chases 73 = .ok (.aload_n 0, 1) := dk_42 (dk_at dksX9_chases_3 6 rfl rfl)
theorem dX9_chases_74 : decode cX9_chases 74 = .ok (.iload_n 1, 1) := dk_27 (dk_at dksX9_chases_3 7 rfl rfl)
theorem dX9_chases_75 : decode cX9_chases 75 = .ok (.iconst 2, 1) := dk_5 (dk_at dksX9_chases_3 8 rfl rfl)
theorem dX9_chases_76 : decode cX9_chases 76 = .ok (.invokevirtual 64, 3) := dk_182 0 64 (dk_at dksX9_chases_3 9 rfl rfl)
theorem dX9_chases_79 : decode cX9_chases 79 = .ok (.bipush 99, 2) := dk_16 99 (dk_at dksX9_chases_3 12 rfl rfl)
theorem dX9_chases_81 : decode cX9_chases 81 = .ok (.if_icmp .ge 31, 3) := dk_162 0 31 (dk_at dksX9_chases_3 14 rfl rfl)
theorem dX9_chases_84 : decode cX9_chases 84 = .ok (.aload_n 0, 1) := dk_42 (dk_at dksX9_chases_3 17 rfl rfl)
theorem dX9_chases_85 : decode cX9_chases 85 = .ok (.iload_n 2, 1) := dk_28 (dk_at dksX9_chases_3 18 rfl rfl)
theorem dX9_chases_86 : decode cX9_chases 86 = .ok (.iconst 2, 1) := dk_5 (dk_at dksX9_chases_3 19 rfl rfl)
theorem dX9_chases_87 : decode cX9_chases 87 = .ok (.aload_n 0, 1) := dk_42 (dk_at dksX9_chases_3 20 rfl rfl)
theorem dX9_chases_88 : decode cX9_chases 88 = .ok (.iload_n 2, 1) := dk_28 (dk_at dksX9_chases_3 21 rfl rfl)
theorem dX9_chases_89 : decode cX9_chases 89 = .ok (.iconst 2, 1) := dk_5 (dk_at dksX9_chases_3 22 rfl rfl)
theorem dX9_chases_90 : decode cX9_chases 90 = .ok (.invokevirtual 64, 3) := dk_182 0 64 (dk_at dksX9_chases_4 0 rfl rfl)
theorem dX9_chases_93 : decode cX9_chases 93 = .ok (.iconst 1, 1) := dk_4 (dk_at dksX9_chases_4 3 rfl rfl)
theorem dX9_chases_94 : decode cX9_chases 94 = .ok (.isub, 1) := dk_100 (dk_at dksX9_chases_4 4 rfl rfl)
theorem dX9_chases_95 : decode cX9_chases 95 = .ok (.invokevirtual 118, 3) := dk_182 0 118 (dk_at dksX9_chases_4 5 rfl rfl)
theorem dX9_chases_98 : decode cX9_chases 98 = .ok (.aload_n 0, 1) := dk_42 (dk_at dksX9_chases_4 8 rfl rfl)
theorem dX9_chases_99 : decode cX9_chases 99 = .ok (.iload_n 1, 1) := dk_27 (dk_at dksX9_chases_4 9 rfl rfl)
theorem dX9_chases_100 : decode cX9_chases 100 = .ok (.iconst 2, 1) := dk_5 (dk_at dksX9_chases_4 10 rfl rfl)
theorem dX9_chases_101 : decode cX9_chases 101 = .ok (.aload_n 0, 1) := dk_42 (dk_at dksX9_chases_4 11 rfl rfl)
theorem dX9_chases_102 : decode cX9_chases 102 = .ok (.iload_n 1, 1) := dk_27 (dk_at dksX9_chases_4 12 rfl rfl)
theorem dX9_chases_103 : decode cX9_chases 103 = .ok (.iconst 2, 1) := dk_5 (dk_at dksX9_chases_4 13 rfl rfl)
theorem dX9_chases_104 : decode cX9_chases 104 = .ok (.invokevirtual 64, 3) := dk_182 0 64 (dk_at dksX9_chases_4 14 rfl rfl)
theorem dX9_chases_107 : decode cX9_chases 107 = .ok (.iconst 1, 1) := dk_4 (dk_at dksX9_chases_4 17 rfl rfl)
theorem dX9_chases_108 : decode cX9_chases 108 = .ok (.iadd, 1) := dk_96 (dk_at dksX9_chases_4 18 rfl rfl)
theorem dX9_chases_109 : decode cX9_chases 109 = .ok (.invokevirtual 118, 3) := dk_182 0 118 (dk_at dksX9_chases_4 19 rfl rfl)
theorem dX9_chases_112 : decode cX9_chases 112 = .ok (.aload_n 0, 1) := dk_42 (dk_at dksX9_chases_4 22 rfl rfl)
theorem dX9_chases_113 : decode cX9_chases 113 = .ok (.iload 4, 2) := dk_21 4 (dk_at dksX9_chases_5 0 rfl rfl)
theorem dX9_chases_115 : decode cX9_chases 115 = .ok (.invokevirtual 68, 3) := dk_182 0 68 (dk_at dksX9_chases_5 2 rfl rfl)
theorem dX9_chases_118 : decode cX9_chases 118 = .ok (.iload_n 1, 1) := dk_27 (dk_at dksX9_chases_5 5 rfl rfl)
theorem dX9_chases_119 : decode cX9_chases 119 = .ok (.if_icmp .ne 7, 3) := dk_160 0 7 (dk_at dksX9_chases_5 6 rfl rfl)
theorem dX9_chases_122 : decode cX9_chases 122 = .ok (.iconst 1, 1) := dk_4 (dk_at dksX9_chases_5 9 rfl rfl)
theorem dX9_chases_123 : decode cX9_chases 123 = .ok (.goto 4, 3) := dk_167 0 4 (dk_at dksX9_chases_5 10 rfl rfl)
theorem dX9_chases_126 : decode cX9_chases 126 = .ok (.iconst 0, 1) := dk_3 (dk_at dksX9_chases_5 13 rfl rfl)
theorem dX9_chases_127 : decode cX9_chases 127 = .ok (.ireturn, 1) := dk_172 (dk_at dksX9_chases_5 14 rfl rfl)
abbrev cX9_readsTruce : ByteArray := prog_11_method_72_code
def yX9_readsTruce : MethodName := ⟨RX9, "readsTruce", "()Z"⟩
def dkwX9_readsTruce_4 : List UInt8 := [42, 180, 0, 42, 6, 46, 182, 0, 244, 87, 4, 172]
abbrev dktX9_readsTruce_4 : List UInt8 := dkwX9_readsTruce_4 ++ []
def dkwX9_readsTruce_3 : List UInt8 := [154, 0, 5, 3, 172, 42, 42, 180, 0, 42, 3, 46, 42, 180, 0, 42, 4, 46, 42, 180, 0, 42, 5, 46]
abbrev dktX9_readsTruce_3 : List UInt8 := dkwX9_readsTruce_3 ++ dktX9_readsTruce_4
def dkwX9_readsTruce_2 : List UInt8 := [180, 0, 42, 3, 46, 42, 180, 0, 42, 4, 46, 42, 180, 0, 42, 5, 46, 182, 0, 241, 182, 0, 194]
abbrev dktX9_readsTruce_2 : List UInt8 := dkwX9_readsTruce_2 ++ dktX9_readsTruce_3
def dkwX9_readsTruce_1 : List UInt8 := [5, 4, 16, 9, 182, 0, 191, 153, 0, 43, 42, 6, 4, 16, 20, 182, 0, 191, 153, 0, 32, 42, 42, 42]
abbrev dktX9_readsTruce_1 : List UInt8 := dkwX9_readsTruce_1 ++ dktX9_readsTruce_2
def dkwX9_readsTruce_0 : List UInt8 := [42, 3, 182, 0, 216, 153, 0, 69, 42, 42, 180, 0, 7, 5, 46, 4, 100, 182, 0, 204, 153, 0, 54, 42]
abbrev dktX9_readsTruce_0 : List UInt8 := dkwX9_readsTruce_0 ++ dktX9_readsTruce_1
theorem dksX9_readsTruce_0 : cX9_readsTruce.data.toList.drop 0 = dktX9_readsTruce_0 := by decide +kernel
theorem dksX9_readsTruce_1 : cX9_readsTruce.data.toList.drop 24 = dktX9_readsTruce_1 := dk_seg dksX9_readsTruce_0 24 rfl rfl
theorem dksX9_readsTruce_2 : cX9_readsTruce.data.toList.drop 48 = dktX9_readsTruce_2 := dk_seg dksX9_readsTruce_1 24 rfl rfl
theorem dksX9_readsTruce_3 : cX9_readsTruce.data.toList.drop 71 = dktX9_readsTruce_3 := dk_seg dksX9_readsTruce_2 23 rfl rfl
theorem dksX9_readsTruce_4 : cX9_readsTruce.data.toList.drop 95 = dktX9_readsTruce_4 := dk_seg dksX9_readsTruce_3 24 rfl rfl
theorem dX9_readsTruce_0 : decode cX9_readsTruce 0 = .ok (.aload_n 0, 1) := dk_42 (dk_at dksX9_readsTruce_0 0 rfl rfl)
theorem dX9_readsTruce_1 : decode cX9_readsTruce 1 = .ok (.iconst 0, 1) := dk_3 (dk_at dksX9_readsTruce_0 1 rfl rfl)
theorem dX9_readsTruce_2 : decode cX9_readsTruce 2 = .ok (.invokevirtual 216, 3) := dk_182 0 216 (dk_at dksX9_readsTruce_0 2 rfl rfl)
theorem dX9_readsTruce_5 : decode cX9_readsTruce 5 = .ok (.ifCond .eq 69, 3) := dk_153 0 69 (dk_at dksX9_readsTruce_0 5 rfl rfl)
theorem dX9_readsTruce_8 : decode cX9_readsTruce 8 = .ok (.aload_n 0, 1) := dk_42 (dk_at dksX9_readsTruce_0 8 rfl rfl)
theorem dX9_readsTruce_9 : decode cX9_readsTruce 9 = .ok (.aload_n 0, 1) := dk_42 (dk_at dksX9_readsTruce_0 9 rfl rfl)
theorem dX9_readsTruce_10 : decode cX9_readsTruce 10 = .ok (.getfield 7, 3) := dk_180 0 7 (dk_at dksX9_readsTruce_0 10 rfl rfl)
theorem dX9_readsTruce_13 : decode cX9_readsTruce 13 = .ok (.iconst 2, 1) := dk_5 (dk_at dksX9_readsTruce_0 13 rfl rfl)
theorem dX9_readsTruce_14 : decode cX9_readsTruce 14 = .ok (.iaload, 1) := dk_46 (dk_at dksX9_readsTruce_0 14 rfl rfl)
theorem dX9_readsTruce_15 : decode cX9_readsTruce 15 = .ok (.iconst 1, 1) := dk_4 (dk_at dksX9_readsTruce_0 15 rfl rfl)
theorem dX9_readsTruce_16 : decode cX9_readsTruce 16 = .ok (.isub, 1) := dk_100 (dk_at dksX9_readsTruce_0 16 rfl rfl)
theorem dX9_readsTruce_17 : decode cX9_readsTruce 17 = .ok (.invokevirtual 204, 3) := dk_182 0 204 (dk_at dksX9_readsTruce_0 17 rfl rfl)
theorem dX9_readsTruce_20 : decode cX9_readsTruce 20 = .ok (.ifCond .eq 54, 3) := dk_153 0 54 (dk_at dksX9_readsTruce_0 20 rfl rfl)
theorem dX9_readsTruce_23 : decode cX9_readsTruce 23 = .ok (.aload_n 0, 1) := dk_42 (dk_at dksX9_readsTruce_0 23 rfl rfl)
theorem dX9_readsTruce_24 : decode cX9_readsTruce 24 = .ok (.iconst 2, 1) := dk_5 (dk_at dksX9_readsTruce_1 0 rfl rfl)
theorem dX9_readsTruce_25 : decode cX9_readsTruce 25 = .ok (.iconst 1, 1) := dk_4 (dk_at dksX9_readsTruce_1 1 rfl rfl)
theorem dX9_readsTruce_26 : decode cX9_readsTruce 26 = .ok (.bipush 9, 2) := dk_16 9 (dk_at dksX9_readsTruce_1 2 rfl rfl)
theorem dX9_readsTruce_28 : decode cX9_readsTruce 28 = .ok (.invokevirtual 191, 3) := dk_182 0 191 (dk_at dksX9_readsTruce_1 4 rfl rfl)
theorem dX9_readsTruce_31 : decode cX9_readsTruce 31 = .ok (.ifCond .eq 43, 3) := dk_153 0 43 (dk_at dksX9_readsTruce_1 7 rfl rfl)
theorem dX9_readsTruce_34 : decode cX9_readsTruce 34 = .ok (.aload_n 0, 1) := dk_42 (dk_at dksX9_readsTruce_1 10 rfl rfl)
theorem dX9_readsTruce_35 : decode cX9_readsTruce 35 = .ok (.iconst 3, 1) := dk_6 (dk_at dksX9_readsTruce_1 11 rfl rfl)
theorem dX9_readsTruce_36 : decode cX9_readsTruce 36 = .ok (.iconst 1, 1) := dk_4 (dk_at dksX9_readsTruce_1 12 rfl rfl)
theorem dX9_readsTruce_37 : decode cX9_readsTruce 37 = .ok (.bipush 20, 2) := dk_16 20 (dk_at dksX9_readsTruce_1 13 rfl rfl)
theorem dX9_readsTruce_39 : decode cX9_readsTruce 39 = .ok (.invokevirtual 191, 3) := dk_182 0 191 (dk_at dksX9_readsTruce_1 15 rfl rfl)
theorem dX9_readsTruce_42 : decode cX9_readsTruce 42 = .ok (.ifCond .eq 32, 3) := dk_153 0 32 (dk_at dksX9_readsTruce_1 18 rfl rfl)
theorem dX9_readsTruce_45 : decode cX9_readsTruce 45 = .ok (.aload_n 0, 1) := dk_42 (dk_at dksX9_readsTruce_1 21 rfl rfl)
theorem dX9_readsTruce_46 : decode cX9_readsTruce 46 = .ok (.aload_n 0, 1) := dk_42 (dk_at dksX9_readsTruce_1 22 rfl rfl)
theorem dX9_readsTruce_47 : decode cX9_readsTruce 47 = .ok (.aload_n 0, 1) := dk_42 (dk_at dksX9_readsTruce_1 23 rfl rfl)
theorem dX9_readsTruce_48 : decode cX9_readsTruce 48 = .ok (.getfield 42, 3) := dk_180 0 42 (dk_at dksX9_readsTruce_2 0 rfl rfl)
theorem dX9_readsTruce_51 : decode cX9_readsTruce 51 = .ok (.iconst 0, 1) := dk_3 (dk_at dksX9_readsTruce_2 3 rfl rfl)
theorem dX9_readsTruce_52 : decode cX9_readsTruce 52 = .ok (.iaload, 1) := dk_46 (dk_at dksX9_readsTruce_2 4 rfl rfl)
theorem dX9_readsTruce_53 : decode cX9_readsTruce 53 = .ok (.aload_n 0, 1) := dk_42 (dk_at dksX9_readsTruce_2 5 rfl rfl)
theorem dX9_readsTruce_54 : decode cX9_readsTruce 54 = .ok (.getfield 42, 3) := dk_180 0 42 (dk_at dksX9_readsTruce_2 6 rfl rfl)
theorem dX9_readsTruce_57 : decode cX9_readsTruce 57 = .ok (.iconst 1, 1) := dk_4 (dk_at dksX9_readsTruce_2 9 rfl rfl)
theorem dX9_readsTruce_58 : decode cX9_readsTruce 58 = .ok (.iaload, 1) := dk_46 (dk_at dksX9_readsTruce_2 10 rfl rfl)
theorem dX9_readsTruce_59 : decode cX9_readsTruce 59 = .ok (.aload_n 0, 1) := dk_42 (dk_at dksX9_readsTruce_2 11 rfl rfl)
theorem dX9_readsTruce_60 : decode cX9_readsTruce 60 = .ok (.getfield 42, 3) := dk_180 0 42 (dk_at dksX9_readsTruce_2 12 rfl rfl)
theorem dX9_readsTruce_63 : decode cX9_readsTruce 63 = .ok (.iconst 2, 1) := dk_5 (dk_at dksX9_readsTruce_2 15 rfl rfl)
theorem dX9_readsTruce_64 : decode cX9_readsTruce 64 = .ok (.iaload, 1) := dk_46 (dk_at dksX9_readsTruce_2 16 rfl rfl)
theorem dX9_readsTruce_65 : decode cX9_readsTruce 65 = .ok (.invokevirtual 241, 3) := dk_182 0 241 (dk_at dksX9_readsTruce_2 17 rfl rfl)
theorem dX9_readsTruce_68 : decode cX9_readsTruce 68 = .ok (.invokevirtual 194, 3) := dk_182 0 194 (dk_at dksX9_readsTruce_2 20 rfl rfl)
theorem dX9_readsTruce_71 : decode cX9_readsTruce 71 = .ok (.ifCond .ne 5, 3) := dk_154 0 5 (dk_at dksX9_readsTruce_3 0 rfl rfl)
theorem dX9_readsTruce_74 : decode cX9_readsTruce 74 = .ok (.iconst 0, 1) := dk_3 (dk_at dksX9_readsTruce_3 3 rfl rfl)
theorem dX9_readsTruce_75 : decode cX9_readsTruce 75 = .ok (.ireturn, 1) := dk_172 (dk_at dksX9_readsTruce_3 4 rfl rfl)
theorem dX9_readsTruce_76 : decode cX9_readsTruce 76 = .ok (.aload_n 0, 1) := dk_42 (dk_at dksX9_readsTruce_3 5 rfl rfl)
theorem dX9_readsTruce_77 : decode cX9_readsTruce 77 = .ok (.aload_n 0, 1) := dk_42 (dk_at dksX9_readsTruce_3 6 rfl rfl)
theorem dX9_readsTruce_78 : decode cX9_readsTruce 78 = .ok (.getfield 42, 3) := dk_180 0 42 (dk_at dksX9_readsTruce_3 7 rfl rfl)
theorem dX9_readsTruce_81 : decode cX9_readsTruce 81 = .ok (.iconst 0, 1) := dk_3 (dk_at dksX9_readsTruce_3 10 rfl rfl)
theorem dX9_readsTruce_82 : decode cX9_readsTruce 82 = .ok (.iaload, 1) := dk_46 (dk_at dksX9_readsTruce_3 11 rfl rfl)
theorem dX9_readsTruce_83 : decode cX9_readsTruce 83 = .ok (.aload_n 0, 1) := dk_42 (dk_at dksX9_readsTruce_3 12 rfl rfl)
theorem dX9_readsTruce_84 : decode cX9_readsTruce 84 = .ok (.getfield 42, 3) := dk_180 0 42 (dk_at dksX9_readsTruce_3 13 rfl rfl)
theorem dX9_readsTruce_87 : decode cX9_readsTruce 87 = .ok (.iconst 1, 1) := dk_4 (dk_at dksX9_readsTruce_3 16 rfl rfl)
theorem dX9_readsTruce_88 : decode cX9_readsTruce 88 = .ok (.iaload, 1) := dk_46 (dk_at dksX9_readsTruce_3 17 rfl rfl)
theorem dX9_readsTruce_89 : decode cX9_readsTruce 89 = .ok (.aload_n 0, 1) := dk_42 (dk_at dksX9_readsTruce_3 18 rfl rfl)
theorem dX9_readsTruce_90 : decode cX9_readsTruce 90 = .ok (.getfield 42, 3) := dk_180 0 42 (dk_at dksX9_readsTruce_3 19 rfl rfl)
theorem dX9_readsTruce_93 : decode cX9_readsTruce 93 = .ok (.iconst 2, 1) := dk_5 (dk_at dksX9_readsTruce_3 22 rfl rfl)
theorem dX9_readsTruce_94 : decode cX9_readsTruce 94 = .ok (.iaload, 1) := dk_46 (dk_at dksX9_readsTruce_3 23 rfl rfl)
theorem dX9_readsTruce_95 : decode cX9_readsTruce 95 = .ok (.aload_n 0, 1) := dk_42 (dk_at dksX9_readsTruce_4 0 rfl rfl)
theorem dX9_readsTruce_96 : decode cX9_readsTruce 96 = .ok (.getfield 42, 3) := dk_180 0 42 (dk_at dksX9_readsTruce_4 1 rfl rfl)
theorem dX9_readsTruce_99 : decode cX9_readsTruce 99 = .ok (.iconst 3, 1) := dk_6 (dk_at dksX9_readsTruce_4 4 rfl rfl)
theorem dX9_readsTruce_100 : decode cX9_readsTruce 100 = .ok (.iaload, 1) := dk_46 (dk_at dksX9_readsTruce_4 5 rfl rfl)
theorem dX9_readsTruce_101 : decode cX9_readsTruce 101 = .ok (.invokevirtual 244, 3) := dk_182 0 244 (dk_at dksX9_readsTruce_4 6 rfl rfl)
theorem dX9_readsTruce_104 : decode cX9_readsTruce 104 = .ok (.pop, 1) := dk_87 (dk_at dksX9_readsTruce_4 9 rfl rfl)
theorem dX9_readsTruce_105 : decode cX9_readsTruce 105 = .ok (.iconst 1, 1) := dk_4 (dk_at dksX9_readsTruce_4 10 rfl rfl)
theorem dX9_readsTruce_106 : decode cX9_readsTruce 106 = .ok (.ireturn, 1) := dk_172 (dk_at dksX9_readsTruce_4 11 rfl rfl)
abbrev cX9_canBuy : ByteArray := prog_11_method_41_code
def yX9_canBuy : MethodName := ⟨RX9, "canBuy", "(III)Z"⟩
def dkwX9_canBuy_1 : List UInt8 := [182, 0, 64, 29, 96, 16, 99, 163, 0, 7, 4, 167, 0, 4, 3, 172]
abbrev dktX9_canBuy_1 : List UInt8 := dkwX9_canBuy_1 ++ []
def dkwX9_canBuy_0 : List UInt8 := [42, 27, 28, 182, 0, 90, 154, 0, 30, 42, 27, 5, 182, 0, 64, 29, 161, 0, 20, 42, 28, 5]
abbrev dktX9_canBuy_0 : List UInt8 := dkwX9_canBuy_0 ++ dktX9_canBuy_1
theorem dksX9_canBuy_0 : cX9_canBuy.data.toList.drop 0 = dktX9_canBuy_0 := by decide +kernel
theorem dksX9_canBuy_1 : cX9_canBuy.data.toList.drop 22 = dktX9_canBuy_1 := dk_seg dksX9_canBuy_0 22 rfl rfl
theorem dX9_canBuy_0 : decode cX9_canBuy 0 = .ok (.aload_n 0, 1) := dk_42 (dk_at dksX9_canBuy_0 0 rfl rfl)
theorem dX9_canBuy_1 : decode cX9_canBuy 1 = .ok (.iload_n 1, 1) := dk_27 (dk_at dksX9_canBuy_0 1 rfl rfl)
theorem dX9_canBuy_2 : decode cX9_canBuy 2 = .ok (.iload_n 2, 1) := dk_28 (dk_at dksX9_canBuy_0 2 rfl rfl)
theorem dX9_canBuy_3 : decode cX9_canBuy 3 = .ok (.invokevirtual 90, 3) := dk_182 0 90 (dk_at dksX9_canBuy_0 3 rfl rfl)
theorem dX9_canBuy_6 : decode cX9_canBuy 6 = .ok (.ifCond .ne 30, 3) := dk_154 0 30 (dk_at dksX9_canBuy_0 6 rfl rfl)
theorem dX9_canBuy_9 : decode cX9_canBuy 9 = .ok (.aload_n 0, 1) := dk_42 (dk_at dksX9_canBuy_0 9 rfl rfl)
theorem dX9_canBuy_10 : decode cX9_canBuy 10 = .ok (.iload_n 1, 1) := dk_27 (dk_at dksX9_canBuy_0 10 rfl rfl)
theorem dX9_canBuy_11 : decode cX9_canBuy 11 = .ok (.iconst 2, 1) := dk_5 (dk_at dksX9_canBuy_0 11 rfl rfl)
theorem dX9_canBuy_12 : decode cX9_canBuy 12 = .ok (.invokevirtual 64, 3) := dk_182 0 64 (dk_at dksX9_canBuy_0 12 rfl rfl)
theorem dX9_canBuy_15 : decode cX9_canBuy 15 = .ok (.iload_n 3, 1) := dk_29 (dk_at dksX9_canBuy_0 15 rfl rfl)
theorem dX9_canBuy_16 : decode cX9_canBuy 16 = .ok (.if_icmp .lt 20, 3) := dk_161 0 20 (dk_at dksX9_canBuy_0 16 rfl rfl)
theorem dX9_canBuy_19 : decode cX9_canBuy 19 = .ok (.aload_n 0, 1) := dk_42 (dk_at dksX9_canBuy_0 19 rfl rfl)
theorem dX9_canBuy_20 : decode cX9_canBuy 20 = .ok (.iload_n 2, 1) := dk_28 (dk_at dksX9_canBuy_0 20 rfl rfl)
theorem dX9_canBuy_21 : decode cX9_canBuy 21 = .ok (.iconst 2, 1) := dk_5 (dk_at dksX9_canBuy_0 21 rfl rfl)
theorem dX9_canBuy_22 : decode cX9_canBuy 22 = .ok (.invokevirtual 64, 3) := dk_182 0 64 (dk_at dksX9_canBuy_1 0 rfl rfl)
theorem dX9_canBuy_25 : decode cX9_canBuy 25 = .ok (.iload_n 3, 1) := dk_29 (dk_at dksX9_canBuy_1 3 rfl rfl)
theorem dX9_canBuy_26 : decode cX9_canBuy 26 = .ok (.iadd, 1) := dk_96 (dk_at dksX9_canBuy_1 4 rfl rfl)
theorem dX9_canBuy_27 : decode cX9_canBuy 27 = .ok (.bipush 99, 2) := dk_16 99 (dk_at dksX9_canBuy_1 5 rfl rfl)
theorem dX9_canBuy_29 : decode cX9_canBuy 29 = .ok (.if_icmp .gt 7, 3) := dk_163 0 7 (dk_at dksX9_canBuy_1 7 rfl rfl)
theorem dX9_canBuy_32 : decode cX9_canBuy 32 = .ok (.iconst 1, 1) := dk_4 (dk_at dksX9_canBuy_1 10 rfl rfl)
theorem dX9_canBuy_33 : decode cX9_canBuy 33 = .ok (.goto 4, 3) := dk_167 0 4 (dk_at dksX9_canBuy_1 11 rfl rfl)
theorem dX9_canBuy_36 : decode cX9_canBuy 36 = .ok (.iconst 0, 1) := dk_3 (dk_at dksX9_canBuy_1 14 rfl rfl)
theorem dX9_canBuy_37 : decode cX9_canBuy 37 = .ok (.ireturn, 1) := dk_172 (dk_at dksX9_canBuy_1 15 rfl rfl)
abbrev cX9_buys : ByteArray := prog_11_method_42_code
def yX9_buys : MethodName := ⟨RX9, "buys", "(IIII)I"⟩
def dkwX9_buys_3 : List UInt8 := [21, 4, 96, 79, 42, 180, 0, 7, 6, 46, 21, 4, 96, 172]
abbrev dktX9_buys_3 : List UInt8 := dkwX9_buys_3 ++ []
def dkwX9_buys_2 : List UInt8 := [21, 4, 96, 79, 42, 180, 0, 7, 16, 122, 16, 8, 28, 104, 96, 27, 96, 42, 180, 0, 7, 6, 46]
abbrev dktX9_buys_2 : List UInt8 := dkwX9_buys_2 ++ dktX9_buys_3
def dkwX9_buys_1 : List UInt8 := [96, 182, 0, 118, 42, 180, 0, 7, 16, 122, 16, 8, 27, 104, 96, 28, 96, 42, 180, 0, 7, 6, 46]
abbrev dktX9_buys_1 : List UInt8 := dkwX9_buys_1 ++ dktX9_buys_2
def dkwX9_buys_0 : List UInt8 := [42, 27, 5, 42, 27, 5, 182, 0, 64, 29, 100, 182, 0, 118, 42, 28, 5, 42, 28, 5, 182, 0, 64, 29]
abbrev dktX9_buys_0 : List UInt8 := dkwX9_buys_0 ++ dktX9_buys_1
theorem dksX9_buys_0 : cX9_buys.data.toList.drop 0 = dktX9_buys_0 := by decide +kernel
theorem dksX9_buys_1 : cX9_buys.data.toList.drop 24 = dktX9_buys_1 := dk_seg dksX9_buys_0 24 rfl rfl
theorem dksX9_buys_2 : cX9_buys.data.toList.drop 47 = dktX9_buys_2 := dk_seg dksX9_buys_1 23 rfl rfl
theorem dksX9_buys_3 : cX9_buys.data.toList.drop 70 = dktX9_buys_3 := dk_seg dksX9_buys_2 23 rfl rfl
theorem dX9_buys_0 : decode cX9_buys 0 = .ok (.aload_n 0, 1) := dk_42 (dk_at dksX9_buys_0 0 rfl rfl)
theorem dX9_buys_1 : decode cX9_buys 1 = .ok (.iload_n 1, 1) := dk_27 (dk_at dksX9_buys_0 1 rfl rfl)
theorem dX9_buys_2 : decode cX9_buys 2 = .ok (.iconst 2, 1) := dk_5 (dk_at dksX9_buys_0 2 rfl rfl)
theorem dX9_buys_3 : decode cX9_buys 3 = .ok (.aload_n 0, 1) := dk_42 (dk_at dksX9_buys_0 3 rfl rfl)
theorem dX9_buys_4 : decode cX9_buys 4 = .ok (.iload_n 1, 1) := dk_27 (dk_at dksX9_buys_0 4 rfl rfl)
theorem dX9_buys_5 : decode cX9_buys 5 = .ok (.iconst 2, 1) := dk_5 (dk_at dksX9_buys_0 5 rfl rfl)
theorem dX9_buys_6 : decode cX9_buys 6 = .ok (.invokevirtual 64, 3) := dk_182 0 64 (dk_at dksX9_buys_0 6 rfl rfl)
theorem dX9_buys_9 : decode cX9_buys 9 = .ok (.iload_n 3, 1) := dk_29 (dk_at dksX9_buys_0 9 rfl rfl)
theorem dX9_buys_10 : decode cX9_buys 10 = .ok (.isub, 1) := dk_100 (dk_at dksX9_buys_0 10 rfl rfl)
theorem dX9_buys_11 : decode cX9_buys 11 = .ok (.invokevirtual 118, 3) := dk_182 0 118 (dk_at dksX9_buys_0 11 rfl rfl)
theorem dX9_buys_14 : decode cX9_buys 14 = .ok (.aload_n 0, 1) := dk_42 (dk_at dksX9_buys_0 14 rfl rfl)
theorem dX9_buys_15 : decode cX9_buys 15 = .ok (.iload_n 2, 1) := dk_28 (dk_at dksX9_buys_0 15 rfl rfl)
theorem dX9_buys_16 : decode cX9_buys 16 = .ok (.iconst 2, 1) := dk_5 (dk_at dksX9_buys_0 16 rfl rfl)
theorem dX9_buys_17 : decode cX9_buys 17 = .ok (.aload_n 0, 1) := dk_42 (dk_at dksX9_buys_0 17 rfl rfl)
theorem dX9_buys_18 : decode cX9_buys 18 = .ok (.iload_n 2, 1) := dk_28 (dk_at dksX9_buys_0 18 rfl rfl)
theorem dX9_buys_19 : decode cX9_buys 19 = .ok (.iconst 2, 1) := dk_5 (dk_at dksX9_buys_0 19 rfl rfl)
theorem dX9_buys_20 : decode cX9_buys 20 = .ok (.invokevirtual 64, 3) := dk_182 0 64 (dk_at dksX9_buys_0 20 rfl rfl)
theorem dX9_buys_23 : decode cX9_buys 23 = .ok (.iload_n 3, 1) := dk_29 (dk_at dksX9_buys_0 23 rfl rfl)
theorem dX9_buys_24 : decode cX9_buys 24 = .ok (.iadd, 1) := dk_96 (dk_at dksX9_buys_1 0 rfl rfl)
theorem dX9_buys_25 : decode cX9_buys 25 = .ok (.invokevirtual 118, 3) := dk_182 0 118 (dk_at dksX9_buys_1 1 rfl rfl)
theorem dX9_buys_28 : decode cX9_buys 28 = .ok (.aload_n 0, 1) := dk_42 (dk_at dksX9_buys_1 4 rfl rfl)
theorem dX9_buys_29 : decode cX9_buys 29 = .ok (.getfield 7, 3) := dk_180 0 7 (dk_at dksX9_buys_1 5 rfl rfl)
theorem dX9_buys_32 : decode cX9_buys 32 = .ok (.bipush 122, 2) := dk_16 122 (dk_at dksX9_buys_1 8 rfl rfl)
theorem dX9_buys_34 : decode cX9_buys 34 = .ok (.bipush 8, 2) := dk_16 8 (dk_at dksX9_buys_1 10 rfl rfl)
theorem dX9_buys_36 : decode cX9_buys 36 = .ok (.iload_n 1, 1) := dk_27 (dk_at dksX9_buys_1 12 rfl rfl)
theorem dX9_buys_37 : decode cX9_buys 37 = .ok (.imul, 1) := dk_104 (dk_at dksX9_buys_1 13 rfl rfl)
theorem dX9_buys_38 : decode cX9_buys 38 = .ok (.iadd, 1) := dk_96 (dk_at dksX9_buys_1 14 rfl rfl)
theorem dX9_buys_39 : decode cX9_buys 39 = .ok (.iload_n 2, 1) := dk_28 (dk_at dksX9_buys_1 15 rfl rfl)
theorem dX9_buys_40 : decode cX9_buys 40 = .ok (.iadd, 1) := dk_96 (dk_at dksX9_buys_1 16 rfl rfl)
theorem dX9_buys_41 : decode cX9_buys 41 = .ok (.aload_n 0, 1) := dk_42 (dk_at dksX9_buys_1 17 rfl rfl)
theorem dX9_buys_42 : decode cX9_buys 42 = .ok (.getfield 7, 3) := dk_180 0 7 (dk_at dksX9_buys_1 18 rfl rfl)
theorem dX9_buys_45 : decode cX9_buys 45 = .ok (.iconst 3, 1) := dk_6 (dk_at dksX9_buys_1 21 rfl rfl)
theorem dX9_buys_46 : decode cX9_buys 46 = .ok (.iaload, 1) := dk_46 (dk_at dksX9_buys_1 22 rfl rfl)
theorem dX9_buys_47 : decode cX9_buys 47 = .ok (.iload 4, 2) := dk_21 4 (dk_at dksX9_buys_2 0 rfl rfl)
theorem dX9_buys_49 : decode cX9_buys 49 = .ok (.iadd, 1) := dk_96 (dk_at dksX9_buys_2 2 rfl rfl)
theorem dX9_buys_50 : decode cX9_buys 50 = .ok (.iastore, 1) := dk_79 (dk_at dksX9_buys_2 3 rfl rfl)
theorem dX9_buys_51 : decode cX9_buys 51 = .ok (.aload_n 0, 1) := dk_42 (dk_at dksX9_buys_2 4 rfl rfl)
theorem dX9_buys_52 : decode cX9_buys 52 = .ok (.getfield 7, 3) := dk_180 0 7 (dk_at dksX9_buys_2 5 rfl rfl)
theorem dX9_buys_55 : decode cX9_buys 55 = .ok (.bipush 122, 2) := dk_16 122 (dk_at dksX9_buys_2 8 rfl rfl)
theorem dX9_buys_57 : decode cX9_buys 57 = .ok (.bipush 8, 2) := dk_16 8 (dk_at dksX9_buys_2 10 rfl rfl)
theorem dX9_buys_59 : decode cX9_buys 59 = .ok (.iload_n 2, 1) := dk_28 (dk_at dksX9_buys_2 12 rfl rfl)
theorem dX9_buys_60 : decode cX9_buys 60 = .ok (.imul, 1) := dk_104 (dk_at dksX9_buys_2 13 rfl rfl)
theorem dX9_buys_61 : decode cX9_buys 61 = .ok (.iadd, 1) := dk_96 (dk_at dksX9_buys_2 14 rfl rfl)
theorem dX9_buys_62 : decode cX9_buys 62 = .ok (.iload_n 1, 1) := dk_27 (dk_at dksX9_buys_2 15 rfl rfl)
theorem dX9_buys_63 : decode cX9_buys 63 = .ok (.iadd, 1) := dk_96 (dk_at dksX9_buys_2 16 rfl rfl)
theorem dX9_buys_64 : decode cX9_buys 64 = .ok (.aload_n 0, 1) := dk_42 (dk_at dksX9_buys_2 17 rfl rfl)
theorem dX9_buys_65 : decode cX9_buys 65 = .ok (.getfield 7, 3) := dk_180 0 7 (dk_at dksX9_buys_2 18 rfl rfl)
theorem dX9_buys_68 : decode cX9_buys 68 = .ok (.iconst 3, 1) := dk_6 (dk_at dksX9_buys_2 21 rfl rfl)
theorem dX9_buys_69 : decode cX9_buys 69 = .ok (.iaload, 1) := dk_46 (dk_at dksX9_buys_2 22 rfl rfl)
theorem dX9_buys_70 : decode cX9_buys 70 = .ok (.iload 4, 2) := dk_21 4 (dk_at dksX9_buys_3 0 rfl rfl)
theorem dX9_buys_72 : decode cX9_buys 72 = .ok (.iadd, 1) := dk_96 (dk_at dksX9_buys_3 2 rfl rfl)
theorem dX9_buys_73 : decode cX9_buys 73 = .ok (.iastore, 1) := dk_79 (dk_at dksX9_buys_3 3 rfl rfl)
theorem dX9_buys_74 : decode cX9_buys 74 = .ok (.aload_n 0, 1) := dk_42 (dk_at dksX9_buys_3 4 rfl rfl)
theorem dX9_buys_75 : decode cX9_buys 75 = .ok (.getfield 7, 3) := dk_180 0 7 (dk_at dksX9_buys_3 5 rfl rfl)
theorem dX9_buys_78 : decode cX9_buys 78 = .ok (.iconst 3, 1) := dk_6 (dk_at dksX9_buys_3 8 rfl rfl)
theorem dX9_buys_79 : decode cX9_buys 79 = .ok (.iaload, 1) := dk_46 (dk_at dksX9_buys_3 9 rfl rfl)
theorem dX9_buys_80 : decode cX9_buys 80 = .ok (.iload 4, 2) := dk_21 4 (dk_at dksX9_buys_3 10 rfl rfl)
theorem dX9_buys_82 : decode cX9_buys 82 = .ok (.iadd, 1) := dk_96 (dk_at dksX9_buys_3 12 rfl rfl)
theorem dX9_buys_83 : decode cX9_buys 83 = .ok (.ireturn, 1) := dk_172 (dk_at dksX9_buys_3 13 rfl rfl)
abbrev cX9_readsKitten : ByteArray := prog_11_method_73_code
def yX9_readsKitten : MethodName := ⟨RX9, "readsKitten", "()Z"⟩
def dkwX9_readsKitten_1 : List UInt8 := [180, 0, 42, 3, 46, 42, 180, 0, 42, 4, 46, 182, 0, 251, 87, 4, 172]
abbrev dktX9_readsKitten_1 : List UInt8 := dkwX9_readsKitten_1 ++ []
def dkwX9_readsKitten_0 : List UInt8 := [42, 3, 182, 0, 210, 153, 0, 14, 42, 42, 182, 0, 248, 182, 0, 194, 154, 0, 5, 3, 172, 42, 42]
abbrev dktX9_readsKitten_0 : List UInt8 := dkwX9_readsKitten_0 ++ dktX9_readsKitten_1
theorem dksX9_readsKitten_0 : cX9_readsKitten.data.toList.drop 0 = dktX9_readsKitten_0 := by decide +kernel
theorem dksX9_readsKitten_1 : cX9_readsKitten.data.toList.drop 23 = dktX9_readsKitten_1 := dk_seg dksX9_readsKitten_0 23 rfl rfl
theorem dX9_readsKitten_0 : decode cX9_readsKitten 0 = .ok (.aload_n 0, 1) := dk_42 (dk_at dksX9_readsKitten_0 0 rfl rfl)
theorem dX9_readsKitten_1 : decode cX9_readsKitten 1 = .ok (.iconst 0, 1) := dk_3 (dk_at dksX9_readsKitten_0 1 rfl rfl)
theorem dX9_readsKitten_2 : decode cX9_readsKitten 2 = .ok (.invokevirtual 210, 3) := dk_182 0 210 (dk_at dksX9_readsKitten_0 2 rfl rfl)
theorem dX9_readsKitten_5 : decode cX9_readsKitten 5 = .ok (.ifCond .eq 14, 3) := dk_153 0 14 (dk_at dksX9_readsKitten_0 5 rfl rfl)
theorem dX9_readsKitten_8 : decode cX9_readsKitten 8 = .ok (.aload_n 0, 1) := dk_42 (dk_at dksX9_readsKitten_0 8 rfl rfl)
theorem dX9_readsKitten_9 : decode cX9_readsKitten 9 = .ok (.aload_n 0, 1) := dk_42 (dk_at dksX9_readsKitten_0 9 rfl rfl)
theorem dX9_readsKitten_10 : decode cX9_readsKitten 10 = .ok (.invokevirtual 248, 3) := dk_182 0 248 (dk_at dksX9_readsKitten_0 10 rfl rfl)
theorem dX9_readsKitten_13 : decode cX9_readsKitten 13 = .ok (.invokevirtual 194, 3) := dk_182 0 194 (dk_at dksX9_readsKitten_0 13 rfl rfl)
theorem dX9_readsKitten_16 : decode cX9_readsKitten 16 = .ok (.ifCond .ne 5, 3) := dk_154 0 5 (dk_at dksX9_readsKitten_0 16 rfl rfl)
theorem dX9_readsKitten_19 : decode cX9_readsKitten 19 = .ok (.iconst 0, 1) := dk_3 (dk_at dksX9_readsKitten_0 19 rfl rfl)
theorem dX9_readsKitten_20 : decode cX9_readsKitten 20 = .ok (.ireturn, 1) := dk_172 (dk_at dksX9_readsKitten_0 20 rfl rfl)
theorem dX9_readsKitten_21 : decode cX9_readsKitten 21 = .ok (.aload_n 0, 1) := dk_42 (dk_at dksX9_readsKitten_0 21 rfl rfl)
theorem dX9_readsKitten_22 : decode cX9_readsKitten 22 = .ok (.aload_n 0, 1) := dk_42 (dk_at dksX9_readsKitten_0 22 rfl rfl)
theorem dX9_readsKitten_23 : decode cX9_readsKitten 23 = .ok (.getfield 42, 3) := dk_180 0 42 (dk_at dksX9_readsKitten_1 0 rfl rfl)
theorem dX9_readsKitten_26 : decode cX9_readsKitten 26 = .ok (.iconst 0, 1) := dk_3 (dk_at dksX9_readsKitten_1 3 rfl rfl)
theorem dX9_readsKitten_27 : decode cX9_readsKitten 27 = .ok (.iaload, 1) := dk_46 (dk_at dksX9_readsKitten_1 4 rfl rfl)
theorem dX9_readsKitten_28 : decode cX9_readsKitten 28 = .ok (.aload_n 0, 1) := dk_42 (dk_at dksX9_readsKitten_1 5 rfl rfl)
theorem dX9_readsKitten_29 : decode cX9_readsKitten 29 = .ok (.getfield 42, 3) := dk_180 0 42 (dk_at dksX9_readsKitten_1 6 rfl rfl)
theorem dX9_readsKitten_32 : decode cX9_readsKitten 32 = .ok (.iconst 1, 1) := dk_4 (dk_at dksX9_readsKitten_1 9 rfl rfl)
theorem dX9_readsKitten_33 : decode cX9_readsKitten 33 = .ok (.iaload, 1) := dk_46 (dk_at dksX9_readsKitten_1 10 rfl rfl)
theorem dX9_readsKitten_34 : decode cX9_readsKitten 34 = .ok (.invokevirtual 251, 3) := dk_182 0 251 (dk_at dksX9_readsKitten_1 11 rfl rfl)
theorem dX9_readsKitten_37 : decode cX9_readsKitten 37 = .ok (.pop, 1) := dk_87 (dk_at dksX9_readsKitten_1 14 rfl rfl)
theorem dX9_readsKitten_38 : decode cX9_readsKitten 38 = .ok (.iconst 1, 1) := dk_4 (dk_at dksX9_readsKitten_1 15 rfl rfl)
theorem dX9_readsKitten_39 : decode cX9_readsKitten 39 = .ok (.ireturn, 1) := dk_172 (dk_at dksX9_readsKitten_1 16 rfl rfl)
abbrev cX9_canNominate : ByteArray := prog_11_method_44_code
def yX9_canNominate : MethodName := ⟨RX9, "canNominate", "()Z"⟩
def dkwX9_canNominate_1 : List UInt8 := [162, 0, 7, 4, 167, 0, 4, 3, 172]
abbrev dktX9_canNominate_1 : List UInt8 := dkwX9_canNominate_1 ++ []
def dkwX9_canNominate_0 : List UInt8 := [42, 182, 0, 121, 154, 0, 27, 42, 180, 0, 7, 5, 46, 158, 0, 18, 42, 180, 0, 7, 5, 46, 16, 8]
abbrev dktX9_canNominate_0 : List UInt8 := dkwX9_canNominate_0 ++ dktX9_canNominate_1
theorem dksX9_canNominate_0 : cX9_canNominate.data.toList.drop 0 = dktX9_canNominate_0 := by decide +kernel
theorem dksX9_canNominate_1 : cX9_canNominate.data.toList.drop 24 = dktX9_canNominate_1 := dk_seg dksX9_canNominate_0 24 rfl rfl
theorem dX9_canNominate_0 : decode cX9_canNominate 0 = .ok (.aload_n 0, 1) := dk_42 (dk_at dksX9_canNominate_0 0 rfl rfl)
theorem dX9_canNominate_1 : decode cX9_canNominate 1 = .ok (.invokevirtual 121, 3) := dk_182 0 121 (dk_at dksX9_canNominate_0 1 rfl rfl)
theorem dX9_canNominate_4 : decode cX9_canNominate 4 = .ok (.ifCond .ne 27, 3) := dk_154 0 27 (dk_at dksX9_canNominate_0 4 rfl rfl)
theorem dX9_canNominate_7 : decode cX9_canNominate 7 = .ok (.aload_n 0, 1) := dk_42 (dk_at dksX9_canNominate_0 7 rfl rfl)
theorem dX9_canNominate_8 : decode cX9_canNominate 8 = .ok (.getfield 7, 3) := dk_180 0 7 (dk_at dksX9_canNominate_0 8 rfl rfl)
theorem dX9_canNominate_11 : decode cX9_canNominate 11 = .ok (.iconst 2, 1) := dk_5 (dk_at dksX9_canNominate_0 11 rfl rfl)
theorem dX9_canNominate_12 : decode cX9_canNominate 12 = .ok (.iaload, 1) := dk_46 (dk_at dksX9_canNominate_0 12 rfl rfl)
theorem dX9_canNominate_13 : decode cX9_canNominate 13 = .ok (.ifCond .le 18, 3) := dk_158 0 18 (dk_at dksX9_canNominate_0 13 rfl rfl)
theorem dX9_canNominate_16 : decode cX9_canNominate 16 = .ok (.aload_n 0, 1) := dk_42 (dk_at dksX9_canNominate_0 16 rfl rfl)
theorem dX9_canNominate_17 : decode cX9_canNominate 17 = .ok (.getfield 7, 3) := dk_180 0 7 (dk_at dksX9_canNominate_0 17 rfl rfl)
theorem dX9_canNominate_20 : decode cX9_canNominate 20 = .ok (.iconst 2, 1) := dk_5 (dk_at dksX9_canNominate_0 20 rfl rfl)
theorem dX9_canNominate_21 : decode cX9_canNominate 21 = .ok (.iaload, 1) := dk_46 (dk_at dksX9_canNominate_0 21 rfl rfl)
theorem dX9_canNominate_22 : decode cX9_canNominate 22 = .ok (.bipush 8, 2) := dk_16 8 (dk_at dksX9_canNominate_0 22 rfl rfl)
theorem dX9_canNominate_24 : decode cX9_canNominate 24 = .ok (.if_icmp .ge 7, 3) := dk_162 0 7 (dk_at dksX9_canNominate_1 0 rfl rfl)
theorem dX9_canNominate_27 : decode cX9_canNominate 27 = .ok (.iconst 1, 1) := dk_4 (dk_at dksX9_canNominate_1 3 rfl rfl)
theorem dX9_canNominate_28 : decode cX9_canNominate 28 = .ok (.goto 4, 3) := dk_167 0 4 (dk_at dksX9_canNominate_1 4 rfl rfl)
theorem dX9_canNominate_31 : decode cX9_canNominate 31 = .ok (.iconst 0, 1) := dk_3 (dk_at dksX9_canNominate_1 7 rfl rfl)
theorem dX9_canNominate_32 : decode cX9_canNominate 32 = .ok (.ireturn, 1) := dk_172 (dk_at dksX9_canNominate_1 8 rfl rfl)
abbrev cX9_waits : ByteArray := prog_11_method_43_code
def yX9_waits : MethodName := ⟨RX9, "waits", "()Z"⟩
def dkwX9_waits_0 : List UInt8 := [42, 180, 0, 7, 7, 46, 158, 0, 7, 4, 167, 0, 4, 3, 172]
abbrev dktX9_waits_0 : List UInt8 := dkwX9_waits_0 ++ []
theorem dksX9_waits_0 : cX9_waits.data.toList.drop 0 = dktX9_waits_0 := by decide +kernel
theorem dX9_waits_0 : decode cX9_waits 0 = .ok (.aload_n 0, 1) := dk_42 (dk_at dksX9_waits_0 0 rfl rfl)
theorem dX9_waits_1 : decode cX9_waits 1 = .ok (.getfield 7, 3) := dk_180 0 7 (dk_at dksX9_waits_0 1 rfl rfl)
theorem dX9_waits_4 : decode cX9_waits 4 = .ok (.iconst 4, 1) := dk_7 (dk_at dksX9_waits_0 4 rfl rfl)
theorem dX9_waits_5 : decode cX9_waits 5 = .ok (.iaload, 1) := dk_46 (dk_at dksX9_waits_0 5 rfl rfl)
theorem dX9_waits_6 : decode cX9_waits 6 = .ok (.ifCond .le 7, 3) := dk_158 0 7 (dk_at dksX9_waits_0 6 rfl rfl)
theorem dX9_waits_9 : decode cX9_waits 9 = .ok (.iconst 1, 1) := dk_4 (dk_at dksX9_waits_0 9 rfl rfl)
theorem dX9_waits_10 : decode cX9_waits 10 = .ok (.goto 4, 3) := dk_167 0 4 (dk_at dksX9_waits_0 10 rfl rfl)
theorem dX9_waits_13 : decode cX9_waits 13 = .ok (.iconst 0, 1) := dk_3 (dk_at dksX9_waits_0 13 rfl rfl)
theorem dX9_waits_14 : decode cX9_waits 14 = .ok (.ireturn, 1) := dk_172 (dk_at dksX9_waits_0 14 rfl rfl)
abbrev cX9_nominates : ByteArray := prog_11_method_45_code
def yX9_nominates : MethodName := ⟨RX9, "nominates", "(II)I"⟩
def dkwX9_nominates_1 : List UInt8 := [180, 0, 7, 16, 7, 3, 79, 42, 180, 0, 7, 5, 46, 172]
abbrev dktX9_nominates_1 : List UInt8 := dkwX9_nominates_1 ++ []
def dkwX9_nominates_0 : List UInt8 := [42, 180, 0, 7, 7, 27, 79, 42, 180, 0, 7, 8, 28, 79, 42, 180, 0, 7, 16, 6, 3, 79, 42]
abbrev dktX9_nominates_0 : List UInt8 := dkwX9_nominates_0 ++ dktX9_nominates_1
theorem dksX9_nominates_0 : cX9_nominates.data.toList.drop 0 = dktX9_nominates_0 := by decide +kernel
theorem dksX9_nominates_1 : cX9_nominates.data.toList.drop 23 = dktX9_nominates_1 := dk_seg dksX9_nominates_0 23 rfl rfl
theorem dX9_nominates_0 : decode cX9_nominates 0 = .ok (.aload_n 0, 1) := dk_42 (dk_at dksX9_nominates_0 0 rfl rfl)
theorem dX9_nominates_1 : decode cX9_nominates 1 = .ok (.getfield 7, 3) := dk_180 0 7 (dk_at dksX9_nominates_0 1 rfl rfl)
theorem dX9_nominates_4 : decode cX9_nominates 4 = .ok (.iconst 4, 1) := dk_7 (dk_at dksX9_nominates_0 4 rfl rfl)
theorem dX9_nominates_5 : decode cX9_nominates 5 = .ok (.iload_n 1, 1) := dk_27 (dk_at dksX9_nominates_0 5 rfl rfl)
theorem dX9_nominates_6 : decode cX9_nominates 6 = .ok (.iastore, 1) := dk_79 (dk_at dksX9_nominates_0 6 rfl rfl)
theorem dX9_nominates_7 : decode cX9_nominates 7 = .ok (.aload_n 0, 1) := dk_42 (dk_at dksX9_nominates_0 7 rfl rfl)
theorem dX9_nominates_8 : decode cX9_nominates 8 = .ok (.getfield 7, 3) := dk_180 0 7 (dk_at dksX9_nominates_0 8 rfl rfl)
theorem dX9_nominates_11 : decode cX9_nominates 11 = .ok (.iconst 5, 1) := dk_8 (dk_at dksX9_nominates_0 11 rfl rfl)
theorem dX9_nominates_12 : decode cX9_nominates 12 = .ok (.iload_n 2, 1) := dk_28 (dk_at dksX9_nominates_0 12 rfl rfl)
theorem dX9_nominates_13 : decode cX9_nominates 13 = .ok (.iastore, 1) := dk_79 (dk_at dksX9_nominates_0 13 rfl rfl)
theorem dX9_nominates_14 : decode cX9_nominates 14 = .ok (.aload_n 0, 1) := dk_42 (dk_at dksX9_nominates_0 14 rfl rfl)
theorem dX9_nominates_15 : decode cX9_nominates 15 = .ok (.getfield 7, 3) := dk_180 0 7 (dk_at dksX9_nominates_0 15 rfl rfl)
theorem dX9_nominates_18 : decode cX9_nominates 18 = .ok (.bipush 6, 2) := dk_16 6 (dk_at dksX9_nominates_0 18 rfl rfl)
theorem dX9_nominates_20 : decode cX9_nominates 20 = .ok (.iconst 0, 1) := dk_3 (dk_at dksX9_nominates_0 20 rfl rfl)
theorem dX9_nominates_21 : decode cX9_nominates 21 = .ok (.iastore, 1) := dk_79 (dk_at dksX9_nominates_0 21 rfl rfl)
theorem dX9_nominates_22 : decode cX9_nominates 22 = .ok (.aload_n 0, 1) := dk_42 (dk_at dksX9_nominates_0 22 rfl rfl)
theorem dX9_nominates_23 : decode cX9_nominates 23 = .ok (.getfield 7, 3) := dk_180 0 7 (dk_at dksX9_nominates_1 0 rfl rfl)
theorem dX9_nominates_26 : decode cX9_nominates 26 = .ok (.bipush 7, 2) := dk_16 7 (dk_at dksX9_nominates_1 3 rfl rfl)
theorem dX9_nominates_28 : decode cX9_nominates 28 = .ok (.iconst 0, 1) := dk_3 (dk_at dksX9_nominates_1 5 rfl rfl)
theorem dX9_nominates_29 : decode cX9_nominates 29 = .ok (.iastore, 1) := dk_79 (dk_at dksX9_nominates_1 6 rfl rfl)
theorem dX9_nominates_30 : decode cX9_nominates 30 = .ok (.aload_n 0, 1) := dk_42 (dk_at dksX9_nominates_1 7 rfl rfl)
theorem dX9_nominates_31 : decode cX9_nominates 31 = .ok (.getfield 7, 3) := dk_180 0 7 (dk_at dksX9_nominates_1 8 rfl rfl)
theorem dX9_nominates_34 : decode cX9_nominates 34 = .ok (.iconst 2, 1) := dk_5 (dk_at dksX9_nominates_1 11 rfl rfl)
theorem dX9_nominates_35 : decode cX9_nominates 35 = .ok (.iaload, 1) := dk_46 (dk_at dksX9_nominates_1 12 rfl rfl)
theorem dX9_nominates_36 : decode cX9_nominates 36 = .ok (.ireturn, 1) := dk_172 (dk_at dksX9_nominates_1 13 rfl rfl)
abbrev cX9_readsVote : ByteArray := prog_11_method_74_code
def yX9_readsVote : MethodName := ⟨RX9, "readsVote", "(Z)Z"⟩
def dkwX9_readsVote_1 : List UInt8 := [154, 0, 5, 3, 172, 42, 42, 180, 0, 42, 3, 46, 27, 182, 1, 1, 87, 4, 172]
abbrev dktX9_readsVote_1 : List UInt8 := dkwX9_readsVote_1 ++ []
def dkwX9_readsVote_0 : List UInt8 := [42, 3, 182, 0, 216, 153, 0, 20, 42, 42, 42, 180, 0, 42, 3, 46, 182, 0, 254, 182, 0, 194]
abbrev dktX9_readsVote_0 : List UInt8 := dkwX9_readsVote_0 ++ dktX9_readsVote_1
theorem dksX9_readsVote_0 : cX9_readsVote.data.toList.drop 0 = dktX9_readsVote_0 := by decide +kernel
theorem dksX9_readsVote_1 : cX9_readsVote.data.toList.drop 22 = dktX9_readsVote_1 := dk_seg dksX9_readsVote_0 22 rfl rfl
theorem dX9_readsVote_0 : decode cX9_readsVote 0 = .ok (.aload_n 0, 1) := dk_42 (dk_at dksX9_readsVote_0 0 rfl rfl)
theorem dX9_readsVote_1 : decode cX9_readsVote 1 = .ok (.iconst 0, 1) := dk_3 (dk_at dksX9_readsVote_0 1 rfl rfl)
theorem dX9_readsVote_2 : decode cX9_readsVote 2 = .ok (.invokevirtual 216, 3) := dk_182 0 216 (dk_at dksX9_readsVote_0 2 rfl rfl)
theorem dX9_readsVote_5 : decode cX9_readsVote 5 = .ok (.ifCond .eq 20, 3) := dk_153 0 20 (dk_at dksX9_readsVote_0 5 rfl rfl)
theorem dX9_readsVote_8 : decode cX9_readsVote 8 = .ok (.aload_n 0, 1) := dk_42 (dk_at dksX9_readsVote_0 8 rfl rfl)
theorem dX9_readsVote_9 : decode cX9_readsVote 9 = .ok (.aload_n 0, 1) := dk_42 (dk_at dksX9_readsVote_0 9 rfl rfl)
theorem dX9_readsVote_10 : decode cX9_readsVote 10 = .ok (.aload_n 0, 1) := dk_42 (dk_at dksX9_readsVote_0 10 rfl rfl)
theorem dX9_readsVote_11 : decode cX9_readsVote 11 = .ok (.getfield 42, 3) := dk_180 0 42 (dk_at dksX9_readsVote_0 11 rfl rfl)
theorem dX9_readsVote_14 : decode cX9_readsVote 14 = .ok (.iconst 0, 1) := dk_3 (dk_at dksX9_readsVote_0 14 rfl rfl)
theorem dX9_readsVote_15 : decode cX9_readsVote 15 = .ok (.iaload, 1) := dk_46 (dk_at dksX9_readsVote_0 15 rfl rfl)
theorem dX9_readsVote_16 : decode cX9_readsVote 16 = .ok (.invokevirtual 254, 3) := dk_182 0 254 (dk_at dksX9_readsVote_0 16 rfl rfl)
theorem dX9_readsVote_19 : decode cX9_readsVote 19 = .ok (.invokevirtual 194, 3) := dk_182 0 194 (dk_at dksX9_readsVote_0 19 rfl rfl)
theorem dX9_readsVote_22 : decode cX9_readsVote 22 = .ok (.ifCond .ne 5, 3) := dk_154 0 5 (dk_at dksX9_readsVote_1 0 rfl rfl)
theorem dX9_readsVote_25 : decode cX9_readsVote 25 = .ok (.iconst 0, 1) := dk_3 (dk_at dksX9_readsVote_1 3 rfl rfl)
theorem dX9_readsVote_26 : decode cX9_readsVote 26 = .ok (.ireturn, 1) := dk_172 (dk_at dksX9_readsVote_1 4 rfl rfl)
theorem dX9_readsVote_27 : decode cX9_readsVote 27 = .ok (.aload_n 0, 1) := dk_42 (dk_at dksX9_readsVote_1 5 rfl rfl)
theorem dX9_readsVote_28 : decode cX9_readsVote 28 = .ok (.aload_n 0, 1) := dk_42 (dk_at dksX9_readsVote_1 6 rfl rfl)
theorem dX9_readsVote_29 : decode cX9_readsVote 29 = .ok (.getfield 42, 3) := dk_180 0 42 (dk_at dksX9_readsVote_1 7 rfl rfl)
theorem dX9_readsVote_32 : decode cX9_readsVote 32 = .ok (.iconst 0, 1) := dk_3 (dk_at dksX9_readsVote_1 10 rfl rfl)
theorem dX9_readsVote_33 : decode cX9_readsVote 33 = .ok (.iaload, 1) := dk_46 (dk_at dksX9_readsVote_1 11 rfl rfl)
theorem dX9_readsVote_34 : decode cX9_readsVote 34 = .ok (.iload_n 1, 1) := dk_27 (dk_at dksX9_readsVote_1 12 rfl rfl)
theorem dX9_readsVote_35 : decode cX9_readsVote 35 = .ok (.invokevirtual 257, 3) := dk_182 1 1 (dk_at dksX9_readsVote_1 13 rfl rfl)
theorem dX9_readsVote_38 : decode cX9_readsVote 38 = .ok (.pop, 1) := dk_87 (dk_at dksX9_readsVote_1 16 rfl rfl)
theorem dX9_readsVote_39 : decode cX9_readsVote 39 = .ok (.iconst 1, 1) := dk_4 (dk_at dksX9_readsVote_1 17 rfl rfl)
theorem dX9_readsVote_40 : decode cX9_readsVote 40 = .ok (.ireturn, 1) := dk_172 (dk_at dksX9_readsVote_1 18 rfl rfl)
abbrev cX9_canVote : ByteArray := prog_11_method_46_code
def yX9_canVote : MethodName := ⟨RX9, "canVote", "(I)Z"⟩
def dkwX9_canVote_1 : List UInt8 := [167, 0, 4, 3, 172]
abbrev dktX9_canVote_1 : List UInt8 := dkwX9_canVote_1 ++ []
def dkwX9_canVote_0 : List UInt8 := [42, 182, 0, 121, 153, 0, 21, 42, 180, 0, 7, 16, 6, 46, 27, 122, 4, 126, 154, 0, 7, 4]
abbrev dktX9_canVote_0 : List UInt8 := dkwX9_canVote_0 ++ dktX9_canVote_1
theorem dksX9_canVote_0 : cX9_canVote.data.toList.drop 0 = dktX9_canVote_0 := by decide +kernel
theorem dksX9_canVote_1 : cX9_canVote.data.toList.drop 22 = dktX9_canVote_1 := dk_seg dksX9_canVote_0 22 rfl rfl
theorem dX9_canVote_0 : decode cX9_canVote 0 = .ok (.aload_n 0, 1) := dk_42 (dk_at dksX9_canVote_0 0 rfl rfl)
theorem dX9_canVote_1 : decode cX9_canVote 1 = .ok (.invokevirtual 121, 3) := dk_182 0 121 (dk_at dksX9_canVote_0 1 rfl rfl)
theorem dX9_canVote_4 : decode cX9_canVote 4 = .ok (.ifCond .eq 21, 3) := dk_153 0 21 (dk_at dksX9_canVote_0 4 rfl rfl)
theorem dX9_canVote_7 : decode cX9_canVote 7 = .ok (.aload_n 0, 1) := dk_42 (dk_at dksX9_canVote_0 7 rfl rfl)
theorem dX9_canVote_8 : decode cX9_canVote 8 = .ok (.getfield 7, 3) := dk_180 0 7 (dk_at dksX9_canVote_0 8 rfl rfl)
theorem dX9_canVote_11 : decode cX9_canVote 11 = .ok (.bipush 6, 2) := dk_16 6 (dk_at dksX9_canVote_0 11 rfl rfl)
theorem dX9_canVote_13 : decode cX9_canVote 13 = .ok (.iaload, 1) := dk_46 (dk_at dksX9_canVote_0 13 rfl rfl)
theorem dX9_canVote_14 : decode cX9_canVote 14 = .ok (.iload_n 1, 1) := dk_27 (dk_at dksX9_canVote_0 14 rfl rfl)
theorem dX9_canVote_15 : decode cX9_canVote 15 = .ok (.ishr, 1) := dk_122 (dk_at dksX9_canVote_0 15 rfl rfl)
theorem dX9_canVote_16 : decode cX9_canVote 16 = .ok (.iconst 1, 1) := dk_4 (dk_at dksX9_canVote_0 16 rfl rfl)
theorem dX9_canVote_17 : decode cX9_canVote 17 = .ok (.iand, 1) := dk_126 (dk_at dksX9_canVote_0 17 rfl rfl)
theorem dX9_canVote_18 : decode cX9_canVote 18 = .ok (.ifCond .ne 7, 3) := dk_154 0 7 (dk_at dksX9_canVote_0 18 rfl rfl)
theorem dX9_canVote_21 : decode cX9_canVote 21 = .ok (.iconst 1, 1) := dk_4 (dk_at dksX9_canVote_0 21 rfl rfl)
theorem dX9_canVote_22 : decode cX9_canVote 22 = .ok (.goto 4, 3) := dk_167 0 4 (dk_at dksX9_canVote_1 0 rfl rfl)
theorem dX9_canVote_25 : decode cX9_canVote 25 = .ok (.iconst 0, 1) := dk_3 (dk_at dksX9_canVote_1 3 rfl rfl)
theorem dX9_canVote_26 : decode cX9_canVote 26 = .ok (.ireturn, 1) := dk_172 (dk_at dksX9_canVote_1 4 rfl rfl)
abbrev cX9_votes : ByteArray := prog_11_method_47_code
def yX9_votes : MethodName := ⟨RX9, "votes", "(IZ)Z"⟩
def dkwX9_votes_2 : List UInt8 := [5, 46, 120, 4, 100, 160, 0, 14, 42, 182, 0, 124, 153, 0, 7, 4, 167, 0, 4, 3, 172]
abbrev dktX9_votes_2 : List UInt8 := dkwX9_votes_2 ++ []
def dkwX9_votes_1 : List UInt8 := [153, 0, 9, 4, 27, 120, 167, 0, 4, 3, 128, 79, 42, 180, 0, 7, 16, 6, 46, 4, 42, 180, 0, 7]
abbrev dktX9_votes_1 : List UInt8 := dkwX9_votes_1 ++ dktX9_votes_2
def dkwX9_votes_0 : List UInt8 := [42, 180, 0, 7, 16, 6, 92, 46, 4, 27, 120, 128, 79, 42, 180, 0, 7, 16, 7, 92, 46, 28]
abbrev dktX9_votes_0 : List UInt8 := dkwX9_votes_0 ++ dktX9_votes_1
theorem dksX9_votes_0 : cX9_votes.data.toList.drop 0 = dktX9_votes_0 := by decide +kernel
theorem dksX9_votes_1 : cX9_votes.data.toList.drop 22 = dktX9_votes_1 := dk_seg dksX9_votes_0 22 rfl rfl
theorem dksX9_votes_2 : cX9_votes.data.toList.drop 46 = dktX9_votes_2 := dk_seg dksX9_votes_1 24 rfl rfl
theorem dX9_votes_0 : decode cX9_votes 0 = .ok (.aload_n 0, 1) := dk_42 (dk_at dksX9_votes_0 0 rfl rfl)
theorem dX9_votes_1 : decode cX9_votes 1 = .ok (.getfield 7, 3) := dk_180 0 7 (dk_at dksX9_votes_0 1 rfl rfl)
theorem dX9_votes_4 : decode cX9_votes 4 = .ok (.bipush 6, 2) := dk_16 6 (dk_at dksX9_votes_0 4 rfl rfl)
theorem dX9_votes_6 : decode cX9_votes 6 = .ok (.dup2, 1) := dk_92 (dk_at dksX9_votes_0 6 rfl rfl)
theorem dX9_votes_7 : decode cX9_votes 7 = .ok (.iaload, 1) := dk_46 (dk_at dksX9_votes_0 7 rfl rfl)
theorem dX9_votes_8 : decode cX9_votes 8 = .ok (.iconst 1, 1) := dk_4 (dk_at dksX9_votes_0 8 rfl rfl)
theorem dX9_votes_9 : decode cX9_votes 9 = .ok (.iload_n 1, 1) := dk_27 (dk_at dksX9_votes_0 9 rfl rfl)
theorem dX9_votes_10 : decode cX9_votes 10 = .ok (.ishl, 1) := dk_120 (dk_at dksX9_votes_0 10 rfl rfl)
theorem dX9_votes_11 : decode cX9_votes 11 = .ok (.ior, 1) := dk_128 (dk_at dksX9_votes_0 11 rfl rfl)
theorem dX9_votes_12 : decode cX9_votes 12 = .ok (.iastore, 1) := dk_79 (dk_at dksX9_votes_0 12 rfl rfl)
theorem dX9_votes_13 : decode cX9_votes 13 = .ok (.aload_n 0, 1) := dk_42 (dk_at dksX9_votes_0 13 rfl rfl)
theorem dX9_votes_14 : decode cX9_votes 14 = .ok (.getfield 7, 3) := dk_180 0 7 (dk_at dksX9_votes_0 14 rfl rfl)
theorem dX9_votes_17 : decode cX9_votes 17 = .ok (.bipush 7, 2) := dk_16 7 (dk_at dksX9_votes_0 17 rfl rfl)
theorem dX9_votes_19 : decode cX9_votes 19 = .ok (.dup2, 1) := dk_92 (dk_at dksX9_votes_0 19 rfl rfl)
theorem dX9_votes_20 : decode cX9_votes 20 = .ok (.iaload, 1) := dk_46 (dk_at dksX9_votes_0 20 rfl rfl)
theorem dX9_votes_21 : decode cX9_votes 21 = .ok (.iload_n 2, 1) := dk_28 (dk_at dksX9_votes_0 21 rfl rfl)
theorem dX9_votes_22 : decode cX9_votes 22 = .ok (.ifCond .eq 9, 3) := dk_153 0 9 (dk_at dksX9_votes_1 0 rfl rfl)
theorem dX9_votes_25 : decode cX9_votes 25 = .ok (.iconst 1, 1) := dk_4 (dk_at dksX9_votes_1 3 rfl rfl)
theorem dX9_votes_26 : decode cX9_votes 26 = .ok (.iload_n 1, 1) := dk_27 (dk_at dksX9_votes_1 4 rfl rfl)
theorem dX9_votes_27 : decode cX9_votes 27 = .ok (.ishl, 1) := dk_120 (dk_at dksX9_votes_1 5 rfl rfl)
theorem dX9_votes_28 : decode cX9_votes 28 = .ok (.goto 4, 3) := dk_167 0 4 (dk_at dksX9_votes_1 6 rfl rfl)
theorem dX9_votes_31 : decode cX9_votes 31 = .ok (.iconst 0, 1) := dk_3 (dk_at dksX9_votes_1 9 rfl rfl)
theorem dX9_votes_32 : decode cX9_votes 32 = .ok (.ior, 1) := dk_128 (dk_at dksX9_votes_1 10 rfl rfl)
theorem dX9_votes_33 : decode cX9_votes 33 = .ok (.iastore, 1) := dk_79 (dk_at dksX9_votes_1 11 rfl rfl)
theorem dX9_votes_34 : decode cX9_votes 34 = .ok (.aload_n 0, 1) := dk_42 (dk_at dksX9_votes_1 12 rfl rfl)
theorem dX9_votes_35 : decode cX9_votes 35 = .ok (.getfield 7, 3) := dk_180 0 7 (dk_at dksX9_votes_1 13 rfl rfl)
theorem dX9_votes_38 : decode cX9_votes 38 = .ok (.bipush 6, 2) := dk_16 6 (dk_at dksX9_votes_1 16 rfl rfl)
theorem dX9_votes_40 : decode cX9_votes 40 = .ok (.iaload, 1) := dk_46 (dk_at dksX9_votes_1 18 rfl rfl)
theorem dX9_votes_41 : decode cX9_votes 41 = .ok (.iconst 1, 1) := dk_4 (dk_at dksX9_votes_1 19 rfl rfl)
theorem dX9_votes_42 : decode cX9_votes 42 = .ok (.aload_n 0, 1) := dk_42 (dk_at dksX9_votes_1 20 rfl rfl)
theorem dX9_votes_43 : decode cX9_votes 43 = .ok (.getfield 7, 3) := dk_180 0 7 (dk_at dksX9_votes_1 21 rfl rfl)
theorem dX9_votes_46 : decode cX9_votes 46 = .ok (.iconst 2, 1) := dk_5 (dk_at dksX9_votes_2 0 rfl rfl)
theorem dX9_votes_47 : decode cX9_votes 47 = .ok (.iaload, 1) := dk_46 (dk_at dksX9_votes_2 1 rfl rfl)
theorem dX9_votes_48 : decode cX9_votes 48 = .ok (.ishl, 1) := dk_120 (dk_at dksX9_votes_2 2 rfl rfl)
theorem dX9_votes_49 : decode cX9_votes 49 = .ok (.iconst 1, 1) := dk_4 (dk_at dksX9_votes_2 3 rfl rfl)
theorem dX9_votes_50 : decode cX9_votes 50 = .ok (.isub, 1) := dk_100 (dk_at dksX9_votes_2 4 rfl rfl)
theorem dX9_votes_51 : decode cX9_votes 51 = .ok (.if_icmp .ne 14, 3) := dk_160 0 14 (dk_at dksX9_votes_2 5 rfl rfl)
theorem dX9_votes_54 : decode cX9_votes 54 = .ok (.aload_n 0, 1) := dk_42 (dk_at dksX9_votes_2 8 rfl rfl)
theorem dX9_votes_55 : decode cX9_votes 55 = .ok (.invokevirtual 124, 3) := dk_182 0 124 (dk_at dksX9_votes_2 9 rfl rfl)
theorem dX9_votes_58 : decode cX9_votes 58 = .ok (.ifCond .eq 7, 3) := dk_153 0 7 (dk_at dksX9_votes_2 12 rfl rfl)
theorem dX9_votes_61 : decode cX9_votes 61 = .ok (.iconst 1, 1) := dk_4 (dk_at dksX9_votes_2 15 rfl rfl)
theorem dX9_votes_62 : decode cX9_votes 62 = .ok (.goto 4, 3) := dk_167 0 4 (dk_at dksX9_votes_2 16 rfl rfl)
theorem dX9_votes_65 : decode cX9_votes 65 = .ok (.iconst 0, 1) := dk_3 (dk_at dksX9_votes_2 19 rfl rfl)
theorem dX9_votes_66 : decode cX9_votes 66 = .ok (.ireturn, 1) := dk_172 (dk_at dksX9_votes_2 20 rfl rfl)
abbrev cX9_decides : ByteArray := prog_11_method_48_code
def yX9_decides : MethodName := ⟨RX9, "decides", "()Z"⟩
def dkwX9_decides_4 : List UInt8 := [3, 79, 42, 180, 0, 7, 16, 7, 3, 79, 28, 172]
abbrev dktX9_decides_4 : List UInt8 := dkwX9_decides_4 ++ []
def dkwX9_decides_3 : List UInt8 := [182, 0, 131, 87, 42, 180, 0, 7, 7, 3, 79, 42, 180, 0, 7, 8, 3, 79, 42, 180, 0, 7, 16, 6]
abbrev dktX9_decides_3 : List UInt8 := dkwX9_decides_3 ++ dktX9_decides_4
def dkwX9_decides_2 : List UInt8 := [167, 0, 4, 3, 61, 28, 153, 0, 21, 42, 27, 42, 180, 0, 7, 7, 46, 42, 180, 0, 7, 8, 46]
abbrev dktX9_decides_2 : List UInt8 := dkwX9_decides_2 ++ dktX9_decides_3
def dkwX9_decides_1 : List UInt8 := [184, 0, 115, 164, 0, 23, 42, 180, 0, 7, 5, 46, 16, 8, 162, 0, 12, 27, 2, 159, 0, 7, 4]
abbrev dktX9_decides_1 : List UInt8 := dkwX9_decides_1 ++ dktX9_decides_2
def dkwX9_decides_0 : List UInt8 := [42, 182, 0, 127, 60, 5, 42, 180, 0, 7, 16, 7, 46, 184, 0, 115, 104, 42, 180, 0, 7, 16, 6, 46]
abbrev dktX9_decides_0 : List UInt8 := dkwX9_decides_0 ++ dktX9_decides_1
theorem dksX9_decides_0 : cX9_decides.data.toList.drop 0 = dktX9_decides_0 := by decide +kernel
theorem dksX9_decides_1 : cX9_decides.data.toList.drop 24 = dktX9_decides_1 := dk_seg dksX9_decides_0 24 rfl rfl
theorem dksX9_decides_2 : cX9_decides.data.toList.drop 47 = dktX9_decides_2 := dk_seg dksX9_decides_1 23 rfl rfl
theorem dksX9_decides_3 : cX9_decides.data.toList.drop 70 = dktX9_decides_3 := dk_seg dksX9_decides_2 23 rfl rfl
theorem dksX9_decides_4 : cX9_decides.data.toList.drop 94 = dktX9_decides_4 := dk_seg dksX9_decides_3 24 rfl rfl
theorem dX9_decides_0 : decode cX9_decides 0 = .ok (.aload_n 0, 1) := dk_42 (dk_at dksX9_decides_0 0 rfl rfl)
theorem dX9_decides_1 : decode cX9_decides 1 = .ok (.invokevirtual 127, 3) := dk_182 0 127 (dk_at dksX9_decides_0 1 rfl rfl)
theorem dX9_decides_4 : decode cX9_decides 4 = .ok (.istore_n 1, 1) := dk_60 (dk_at dksX9_decides_0 4 rfl rfl)
theorem dX9_decides_5 : decode cX9_decides 5 = .ok (.iconst 2, 1) := dk_5 (dk_at dksX9_decides_0 5 rfl rfl)
theorem dX9_decides_6 : decode cX9_decides 6 = .ok (.aload_n 0, 1) := dk_42 (dk_at dksX9_decides_0 6 rfl rfl)
theorem dX9_decides_7 : decode cX9_decides 7 = .ok (.getfield 7, 3) := dk_180 0 7 (dk_at dksX9_decides_0 7 rfl rfl)
theorem dX9_decides_10 : decode cX9_decides 10 = .ok (.bipush 7, 2) := dk_16 7 (dk_at dksX9_decides_0 10 rfl rfl)
theorem dX9_decides_12 : decode cX9_decides 12 = .ok (.iaload, 1) := dk_46 (dk_at dksX9_decides_0 12 rfl rfl)
theorem dX9_decides_13 : decode cX9_decides 13 = .ok (.invokestatic 115, 3) := dk_184 0 115 (dk_at dksX9_decides_0 13 rfl rfl)
theorem dX9_decides_16 : decode cX9_decides 16 = .ok (.imul, 1) := dk_104 (dk_at dksX9_decides_0 16 rfl rfl)
theorem dX9_decides_17 : decode cX9_decides 17 = .ok (.aload_n 0, 1) := dk_42 (dk_at dksX9_decides_0 17 rfl rfl)
theorem dX9_decides_18 : decode cX9_decides 18 = .ok (.getfield 7, 3) := dk_180 0 7 (dk_at dksX9_decides_0 18 rfl rfl)
theorem dX9_decides_21 : decode cX9_decides 21 = .ok (.bipush 6, 2) := dk_16 6 (dk_at dksX9_decides_0 21 rfl rfl)
theorem dX9_decides_23 : decode cX9_decides 23 = .ok (.iaload, 1) := dk_46 (dk_at dksX9_decides_0 23 rfl rfl)
theorem dX9_decides_24 : decode cX9_decides 24 = .ok (.invokestatic 115, 3) := dk_184 0 115 (dk_at dksX9_decides_1 0 rfl rfl)
theorem dX9_decides_27 : decode cX9_decides 27 = .ok (.if_icmp .le 23, 3) := dk_164 0 23 (dk_at dksX9_decides_1 3 rfl rfl)
theorem dX9_decides_30 : decode cX9_decides 30 = .ok (.aload_n 0, 1) := dk_42 (dk_at dksX9_decides_1 6 rfl rfl)
theorem dX9_decides_31 : decode cX9_decides 31 = .ok (.getfield 7, 3) := dk_180 0 7 (dk_at dksX9_decides_1 7 rfl rfl)
theorem dX9_decides_34 : decode cX9_decides 34 = .ok (.iconst 2, 1) := dk_5 (dk_at dksX9_decides_1 10 rfl rfl)
theorem dX9_decides_35 : decode cX9_decides 35 = .ok (.iaload, 1) := dk_46 (dk_at dksX9_decides_1 11 rfl rfl)
theorem dX9_decides_36 : decode cX9_decides 36 = .ok (.bipush 8, 2) := dk_16 8 (dk_at dksX9_decides_1 12 rfl rfl)
theorem dX9_decides_38 : decode cX9_decides 38 = .ok (.if_icmp .ge 12, 3) := dk_162 0 12 (dk_at dksX9_decides_1 14 rfl rfl)
theorem dX9_decides_41 : decode cX9_decides 41 = .ok (.iload_n 1, 1) := dk_27 (dk_at dksX9_decides_1 17 rfl rfl)
theorem dX9_decides_42 : decode cX9_decides 42 = .ok (.iconst (-1), 1) := dk_2 (dk_at dksX9_decides_1 18 rfl rfl)
theorem dX9_decides_43 : decode cX9_decides 43 = .ok (.if_icmp .eq 7, 3) := dk_159 0 7 (dk_at dksX9_decides_1 19 rfl rfl)
theorem dX9_decides_46 : decode cX9_decides 46 = .ok (.iconst 1, 1) := dk_4 (dk_at dksX9_decides_1 22 rfl rfl)
theorem dX9_decides_47 : decode cX9_decides 47 = .ok (.goto 4, 3) := dk_167 0 4 (dk_at dksX9_decides_2 0 rfl rfl)
theorem dX9_decides_50 : decode cX9_decides 50 = .ok (.iconst 0, 1) := dk_3 (dk_at dksX9_decides_2 3 rfl rfl)
theorem dX9_decides_51 : decode cX9_decides 51 = .ok (.istore_n 2, 1) := dk_61 (dk_at dksX9_decides_2 4 rfl rfl)
theorem dX9_decides_52 : decode cX9_decides 52 = .ok (.iload_n 2, 1) := dk_28 (dk_at dksX9_decides_2 5 rfl rfl)
theorem dX9_decides_53 : decode cX9_decides 53 = .ok (.ifCond .eq 21, 3) := dk_153 0 21 (dk_at dksX9_decides_2 6 rfl rfl)
theorem dX9_decides_56 : decode cX9_decides 56 = .ok (.aload_n 0, 1) := dk_42 (dk_at dksX9_decides_2 9 rfl rfl)
theorem dX9_decides_57 : decode cX9_decides 57 = .ok (.iload_n 1, 1) := dk_27 (dk_at dksX9_decides_2 10 rfl rfl)
theorem dX9_decides_58 : decode cX9_decides 58 = .ok (.aload_n 0, 1) := dk_42 (dk_at dksX9_decides_2 11 rfl rfl)
theorem dX9_decides_59 : decode cX9_decides 59 = .ok (.getfield 7, 3) := dk_180 0 7 (dk_at dksX9_decides_2 12 rfl rfl)
theorem dX9_decides_62 : decode cX9_decides 62 = .ok (.iconst 4, 1) := dk_7 (dk_at dksX9_decides_2 15 rfl rfl)
theorem dX9_decides_63 : decode cX9_decides 63 = .ok (.iaload, 1) := dk_46 (dk_at dksX9_decides_2 16 rfl rfl)
theorem dX9_decides_64 : decode cX9_decides 64 = .ok (.aload_n 0, 1) := dk_42 (dk_at dksX9_decides_2 17 rfl rfl)
theorem dX9_decides_65 : decode cX9_decides 65 = .ok (.getfield 7, 3) := dk_180 0 7 (dk_at dksX9_decides_2 18 rfl rfl)
theorem dX9_decides_68 : decode cX9_decides 68 = .ok (.iconst 5, 1) := dk_8 (dk_at dksX9_decides_2 21 rfl rfl)
theorem dX9_decides_69 : decode cX9_decides 69 = .ok (.iaload, 1) := dk_46 (dk_at dksX9_decides_2 22 rfl rfl)
theorem dX9_decides_70 : decode cX9_decides 70 = .ok (.invokevirtual 131, 3) := dk_182 0 131 (dk_at dksX9_decides_3 0 rfl rfl)
theorem dX9_decides_73 : decode cX9_decides 73 = .ok (.pop, 1) := dk_87 (dk_at dksX9_decides_3 3 rfl rfl)
theorem dX9_decides_74 : decode cX9_decides 74 = .ok (.aload_n 0, 1) := dk_42 (dk_at dksX9_decides_3 4 rfl rfl)
theorem dX9_decides_75 : decode cX9_decides 75 = .ok (.getfield 7, 3) := dk_180 0 7 (dk_at dksX9_decides_3 5 rfl rfl)
theorem dX9_decides_78 : decode cX9_decides 78 = .ok (.iconst 4, 1) := dk_7 (dk_at dksX9_decides_3 8 rfl rfl)
theorem dX9_decides_79 : decode cX9_decides 79 = .ok (.iconst 0, 1) := dk_3 (dk_at dksX9_decides_3 9 rfl rfl)
theorem dX9_decides_80 : decode cX9_decides 80 = .ok (.iastore, 1) := dk_79 (dk_at dksX9_decides_3 10 rfl rfl)
theorem dX9_decides_81 : decode cX9_decides 81 = .ok (.aload_n 0, 1) := dk_42 (dk_at dksX9_decides_3 11 rfl rfl)
theorem dX9_decides_82 : decode cX9_decides 82 = .ok (.getfield 7, 3) := dk_180 0 7 (dk_at dksX9_decides_3 12 rfl rfl)
theorem dX9_decides_85 : decode cX9_decides 85 = .ok (.iconst 5, 1) := dk_8 (dk_at dksX9_decides_3 15 rfl rfl)
theorem dX9_decides_86 : decode cX9_decides 86 = .ok (.iconst 0, 1) := dk_3 (dk_at dksX9_decides_3 16 rfl rfl)
theorem dX9_decides_87 : decode cX9_decides 87 = .ok (.iastore, 1) := dk_79 (dk_at dksX9_decides_3 17 rfl rfl)
theorem dX9_decides_88 : decode cX9_decides 88 = .ok (.aload_n 0, 1) := dk_42 (dk_at dksX9_decides_3 18 rfl rfl)
theorem dX9_decides_89 : decode cX9_decides 89 = .ok (.getfield 7, 3) := dk_180 0 7 (dk_at dksX9_decides_3 19 rfl rfl)
theorem dX9_decides_92 : decode cX9_decides 92 = .ok (.bipush 6, 2) := dk_16 6 (dk_at dksX9_decides_3 22 rfl rfl)
theorem dX9_decides_94 : decode cX9_decides 94 = .ok (.iconst 0, 1) := dk_3 (dk_at dksX9_decides_4 0 rfl rfl)
theorem dX9_decides_95 : decode cX9_decides 95 = .ok (.iastore, 1) := dk_79 (dk_at dksX9_decides_4 1 rfl rfl)
theorem dX9_decides_96 : decode cX9_decides 96 = .ok (.aload_n 0, 1) := dk_42 (dk_at dksX9_decides_4 2 rfl rfl)
theorem dX9_decides_97 : decode cX9_decides 97 = .ok (.getfield 7, 3) := dk_180 0 7 (dk_at dksX9_decides_4 3 rfl rfl)
theorem dX9_decides_100 : decode cX9_decides 100 = .ok (.bipush 7, 2) := dk_16 7 (dk_at dksX9_decides_4 6 rfl rfl)
theorem dX9_decides_102 : decode cX9_decides 102 = .ok (.iconst 0, 1) := dk_3 (dk_at dksX9_decides_4 8 rfl rfl)
theorem dX9_decides_103 : decode cX9_decides 103 = .ok (.iastore, 1) := dk_79 (dk_at dksX9_decides_4 9 rfl rfl)
theorem dX9_decides_104 : decode cX9_decides 104 = .ok (.iload_n 2, 1) := dk_28 (dk_at dksX9_decides_4 10 rfl rfl)
theorem dX9_decides_105 : decode cX9_decides 105 = .ok (.ireturn, 1) := dk_172 (dk_at dksX9_decides_4 11 rfl rfl)
abbrev cX9_warmestPlace : ByteArray := prog_11_method_32_code
def yX9_warmestPlace : MethodName := ⟨RX9, "warmestPlace", "()I"⟩
def dkwX9_warmestPlace_2 : List UInt8 := [164, 0, 5, 28, 60, 132, 2, 1, 167, 255, 206, 27, 172]
abbrev dktX9_warmestPlace_2 : List UInt8 := dkwX9_warmestPlace_2 ++ []
def dkwX9_warmestPlace_1 : List UInt8 := [2, 159, 0, 24, 42, 180, 0, 7, 16, 10, 28, 96, 46, 42, 180, 0, 7, 16, 10, 27, 96, 46]
abbrev dktX9_warmestPlace_1 : List UInt8 := dkwX9_warmestPlace_1 ++ dktX9_warmestPlace_2
def dkwX9_warmestPlace_0 : List UInt8 := [2, 60, 3, 61, 28, 42, 180, 0, 7, 3, 46, 162, 0, 46, 42, 28, 182, 0, 87, 2, 160, 0, 31, 27]
abbrev dktX9_warmestPlace_0 : List UInt8 := dkwX9_warmestPlace_0 ++ dktX9_warmestPlace_1
theorem dksX9_warmestPlace_0 : cX9_warmestPlace.data.toList.drop 0 = dktX9_warmestPlace_0 := by decide +kernel
theorem dksX9_warmestPlace_1 : cX9_warmestPlace.data.toList.drop 24 = dktX9_warmestPlace_1 := dk_seg dksX9_warmestPlace_0 24 rfl rfl
theorem dksX9_warmestPlace_2 : cX9_warmestPlace.data.toList.drop 46 = dktX9_warmestPlace_2 := dk_seg dksX9_warmestPlace_1 22 rfl rfl
theorem dX9_warmestPlace_0 : decode cX9_warmestPlace 0 = .ok (.iconst (-1), 1) := dk_2 (dk_at dksX9_warmestPlace_0 0 rfl rfl)
theorem dX9_warmestPlace_1 : decode cX9_warmestPlace 1 = .ok (.istore_n 1, 1) := dk_60 (dk_at dksX9_warmestPlace_0 1 rfl rfl)
theorem dX9_warmestPlace_2 : decode cX9_warmestPlace 2 = .ok (.iconst 0, 1) := dk_3 (dk_at dksX9_warmestPlace_0 2 rfl rfl)
theorem dX9_warmestPlace_3 : decode cX9_warmestPlace 3 = .ok (.istore_n 2, 1) := dk_61 (dk_at dksX9_warmestPlace_0 3 rfl rfl)
theorem dX9_warmestPlace_4 : decode cX9_warmestPlace 4 = .ok (.iload_n 2, 1) := dk_28 (dk_at dksX9_warmestPlace_0 4 rfl rfl)
theorem dX9_warmestPlace_5 : decode cX9_warmestPlace 5 = .ok (.aload_n 0, 1) := dk_42 (dk_at dksX9_warmestPlace_0 5 rfl rfl)
theorem dX9_warmestPlace_6 : decode cX9_warmestPlace 6 = .ok (.getfield 7, 3) := dk_180 0 7 (dk_at dksX9_warmestPlace_0 6 rfl rfl)
theorem dX9_warmestPlace_9 : decode cX9_warmestPlace 9 = .ok (.iconst 0, 1) := dk_3 (dk_at dksX9_warmestPlace_0 9 rfl rfl)
theorem dX9_warmestPlace_10 : decode cX9_warmestPlace 10 = .ok (.iaload, 1) := dk_46 (dk_at dksX9_warmestPlace_0 10 rfl rfl)
theorem dX9_warmestPlace_11 : decode cX9_warmestPlace 11 = .ok (.if_icmp .ge 46, 3) := dk_162 0 46 (dk_at dksX9_warmestPlace_0 11 rfl rfl)
theorem dX9_warmestPlace_14 : decode cX9_warmestPlace 14 = .ok (.aload_n 0, 1) := dk_42 (dk_at dksX9_warmestPlace_0 14 rfl rfl)
theorem dX9_warmestPlace_15 : decode cX9_warmestPlace 15 = .ok (.iload_n 2, 1) := dk_28 (dk_at dksX9_warmestPlace_0 15 rfl rfl)
theorem dX9_warmestPlace_16 : decode cX9_warmestPlace 16 = .ok (.invokevirtual 87, 3) := dk_182 0 87 (dk_at dksX9_warmestPlace_0 16 rfl rfl)
theorem dX9_warmestPlace_19 : decode cX9_warmestPlace 19 = .ok (.iconst (-1), 1) := dk_2 (dk_at dksX9_warmestPlace_0 19 rfl rfl)
theorem dX9_warmestPlace_20 : decode cX9_warmestPlace 20 = .ok (.if_icmp .ne 31, 3) := dk_160 0 31 (dk_at dksX9_warmestPlace_0 20 rfl rfl)
theorem dX9_warmestPlace_23 : decode cX9_warmestPlace 23 = .ok (.iload_n 1, 1) := dk_27 (dk_at dksX9_warmestPlace_0 23 rfl rfl)
theorem dX9_warmestPlace_24 : decode cX9_warmestPlace 24 = .ok (.iconst (-1), 1) := dk_2 (dk_at dksX9_warmestPlace_1 0 rfl rfl)
theorem dX9_warmestPlace_25 : decode cX9_warmestPlace 25 = .ok (.if_icmp .eq 24, 3) := dk_159 0 24 (dk_at dksX9_warmestPlace_1 1 rfl rfl)
theorem dX9_warmestPlace_28 : decode cX9_warmestPlace 28 = .ok (.aload_n 0, 1) := dk_42 (dk_at dksX9_warmestPlace_1 4 rfl rfl)
theorem dX9_warmestPlace_29 : decode cX9_warmestPlace 29 = .ok (.getfield 7, 3) := dk_180 0 7 (dk_at dksX9_warmestPlace_1 5 rfl rfl)
theorem dX9_warmestPlace_32 : decode cX9_warmestPlace 32 = .ok (.bipush 10, 2) := dk_16 10 (dk_at dksX9_warmestPlace_1 8 rfl rfl)
theorem dX9_warmestPlace_34 : decode cX9_warmestPlace 34 = .ok (.iload_n 2, 1) := dk_28 (dk_at dksX9_warmestPlace_1 10 rfl rfl)
theorem dX9_warmestPlace_35 : decode cX9_warmestPlace 35 = .ok (.iadd, 1) := dk_96 (dk_at dksX9_warmestPlace_1 11 rfl rfl)
theorem dX9_warmestPlace_36 : decode cX9_warmestPlace 36 = .ok (.iaload, 1) := dk_46 (dk_at dksX9_warmestPlace_1 12 rfl rfl)
theorem dX9_warmestPlace_37 : decode cX9_warmestPlace 37 = .ok (.aload_n 0, 1) := dk_42 (dk_at dksX9_warmestPlace_1 13 rfl rfl)
theorem dX9_warmestPlace_38 : decode cX9_warmestPlace 38 = .ok (.getfield 7, 3) := dk_180 0 7 (dk_at dksX9_warmestPlace_1 14 rfl rfl)
theorem dX9_warmestPlace_41 : decode cX9_warmestPlace 41 = .ok (.bipush 10, 2) := dk_16 10 (dk_at dksX9_warmestPlace_1 17 rfl rfl)
theorem dX9_warmestPlace_43 : decode cX9_warmestPlace 43 = .ok (.iload_n 1, 1) := dk_27 (dk_at dksX9_warmestPlace_1 19 rfl rfl)
theorem dX9_warmestPlace_44 : decode cX9_warmestPlace 44 = .ok (.iadd, 1) := dk_96 (dk_at dksX9_warmestPlace_1 20 rfl rfl)
theorem dX9_warmestPlace_45 : decode cX9_warmestPlace 45 = .ok (.iaload, 1) := dk_46 (dk_at dksX9_warmestPlace_1 21 rfl rfl)
theorem dX9_warmestPlace_46 : decode cX9_warmestPlace 46 = .ok (.if_icmp .le 5, 3) := dk_164 0 5 (dk_at dksX9_warmestPlace_2 0 rfl rfl)
theorem dX9_warmestPlace_49 : decode cX9_warmestPlace 49 = .ok (.iload_n 2, 1) := dk_28 (dk_at dksX9_warmestPlace_2 3 rfl rfl)
theorem dX9_warmestPlace_50 : decode cX9_warmestPlace 50 = .ok (.istore_n 1, 1) := dk_60 (dk_at dksX9_warmestPlace_2 4 rfl rfl)
theorem dX9_warmestPlace_51 : decode cX9_warmestPlace 51 = .ok (.iinc 2 1, 3) := dk_132 2 1 (dk_at dksX9_warmestPlace_2 5 rfl rfl)
theorem dX9_warmestPlace_54 : decode cX9_warmestPlace 54 = .ok (.goto (-50), 3) := dk_167 255 206 (dk_at dksX9_warmestPlace_2 8 rfl rfl)
theorem dX9_warmestPlace_57 : decode cX9_warmestPlace 57 = .ok (.iload_n 1, 1) := dk_27 (dk_at dksX9_warmestPlace_2 11 rfl rfl)
theorem dX9_warmestPlace_58 : decode cX9_warmestPlace 58 = .ok (.ireturn, 1) := dk_172 (dk_at dksX9_warmestPlace_2 12 rfl rfl)
abbrev cX9_bits : ByteArray := prog_11_method_30_code
def yX9_bits : MethodName := ⟨RX9, "bits", "(I)I"⟩
def dkwX9_bits_0 : List UInt8 := [3, 60, 26, 61, 28, 158, 0, 16, 27, 28, 5, 112, 96, 60, 28, 5, 108, 61, 167, 255, 242, 27, 172]
abbrev dktX9_bits_0 : List UInt8 := dkwX9_bits_0 ++ []
theorem dksX9_bits_0 : cX9_bits.data.toList.drop 0 = dktX9_bits_0 := by decide +kernel
theorem dX9_bits_0 : decode cX9_bits 0 = .ok (.iconst 0, 1) := dk_3 (dk_at dksX9_bits_0 0 rfl rfl)
theorem dX9_bits_1 : decode cX9_bits 1 = .ok (.istore_n 1, 1) := dk_60 (dk_at dksX9_bits_0 1 rfl rfl)
theorem dX9_bits_2 : decode cX9_bits 2 = .ok (.iload_n 0, 1) := dk_26 (dk_at dksX9_bits_0 2 rfl rfl)
theorem dX9_bits_3 : decode cX9_bits 3 = .ok (.istore_n 2, 1) := dk_61 (dk_at dksX9_bits_0 3 rfl rfl)
theorem dX9_bits_4 : decode cX9_bits 4 = .ok (.iload_n 2, 1) := dk_28 (dk_at dksX9_bits_0 4 rfl rfl)
theorem dX9_bits_5 : decode cX9_bits 5 = .ok (.ifCond .le 16, 3) := dk_158 0 16 (dk_at dksX9_bits_0 5 rfl rfl)
theorem dX9_bits_8 : decode cX9_bits 8 = .ok (.iload_n 1, 1) := dk_27 (dk_at dksX9_bits_0 8 rfl rfl)
theorem dX9_bits_9 : decode cX9_bits 9 = .ok (.iload_n 2, 1) := dk_28 (dk_at dksX9_bits_0 9 rfl rfl)
theorem dX9_bits_10 : decode cX9_bits 10 = .ok (.iconst 2, 1) := dk_5 (dk_at dksX9_bits_0 10 rfl rfl)
theorem dX9_bits_11 : decode cX9_bits 11 = .ok (.irem, 1) := dk_112 (dk_at dksX9_bits_0 11 rfl rfl)
theorem dX9_bits_12 : decode cX9_bits 12 = .ok (.iadd, 1) := dk_96 (dk_at dksX9_bits_0 12 rfl rfl)
theorem dX9_bits_13 : decode cX9_bits 13 = .ok (.istore_n 1, 1) := dk_60 (dk_at dksX9_bits_0 13 rfl rfl)
theorem dX9_bits_14 : decode cX9_bits 14 = .ok (.iload_n 2, 1) := dk_28 (dk_at dksX9_bits_0 14 rfl rfl)
theorem dX9_bits_15 : decode cX9_bits 15 = .ok (.iconst 2, 1) := dk_5 (dk_at dksX9_bits_0 15 rfl rfl)
theorem dX9_bits_16 : decode cX9_bits 16 = .ok (.idiv, 1) := dk_108 (dk_at dksX9_bits_0 16 rfl rfl)
theorem dX9_bits_17 : decode cX9_bits 17 = .ok (.istore_n 2, 1) := dk_61 (dk_at dksX9_bits_0 17 rfl rfl)
theorem dX9_bits_18 : decode cX9_bits 18 = .ok (.goto (-14), 3) := dk_167 255 242 (dk_at dksX9_bits_0 18 rfl rfl)
theorem dX9_bits_21 : decode cX9_bits 21 = .ok (.iload_n 1, 1) := dk_27 (dk_at dksX9_bits_0 21 rfl rfl)
theorem dX9_bits_22 : decode cX9_bits 22 = .ok (.ireturn, 1) := dk_172 (dk_at dksX9_bits_0 22 rfl rfl)
abbrev cX9_readsNights : ByteArray := prog_11_method_75_code
def yX9_readsNights : MethodName := ⟨RX9, "readsNights", "()Z"⟩
def dkwX9_readsNights_2 : List UInt8 := [180, 0, 42, 3, 46, 182, 1, 5, 87, 4, 172]
abbrev dktX9_readsNights_2 : List UInt8 := dkwX9_readsNights_2 ++ []
def dkwX9_readsNights_1 : List UInt8 := [96, 17, 3, 231, 163, 0, 7, 4, 167, 0, 4, 3, 182, 0, 194, 154, 0, 5, 3, 172, 42, 42]
abbrev dktX9_readsNights_1 : List UInt8 := dkwX9_readsNights_1 ++ dktX9_readsNights_2
def dkwX9_readsNights_0 : List UInt8 := [42, 3, 4, 16, 30, 182, 0, 191, 153, 0, 34, 42, 42, 180, 0, 7, 6, 46, 42, 180, 0, 42, 3, 46]
abbrev dktX9_readsNights_0 : List UInt8 := dkwX9_readsNights_0 ++ dktX9_readsNights_1
theorem dksX9_readsNights_0 : cX9_readsNights.data.toList.drop 0 = dktX9_readsNights_0 := by decide +kernel
theorem dksX9_readsNights_1 : cX9_readsNights.data.toList.drop 24 = dktX9_readsNights_1 := dk_seg dksX9_readsNights_0 24 rfl rfl
theorem dksX9_readsNights_2 : cX9_readsNights.data.toList.drop 46 = dktX9_readsNights_2 := dk_seg dksX9_readsNights_1 22 rfl rfl
theorem dX9_readsNights_0 : decode cX9_readsNights 0 = .ok (.aload_n 0, 1) := dk_42 (dk_at dksX9_readsNights_0 0 rfl rfl)
theorem dX9_readsNights_1 : decode cX9_readsNights 1 = .ok (.iconst 0, 1) := dk_3 (dk_at dksX9_readsNights_0 1 rfl rfl)
theorem dX9_readsNights_2 : decode cX9_readsNights 2 = .ok (.iconst 1, 1) := dk_4 (dk_at dksX9_readsNights_0 2 rfl rfl)
theorem dX9_readsNights_3 : decode cX9_readsNights 3 = .ok (.bipush 30, 2) := dk_16 30 (dk_at dksX9_readsNights_0 3 rfl rfl)
theorem dX9_readsNights_5 : decode cX9_readsNights 5 = .ok (.invokevirtual 191, 3) := dk_182 0 191 (dk_at dksX9_readsNights_0 5 rfl rfl)
theorem dX9_readsNights_8 : decode cX9_readsNights 8 = .ok (.ifCond .eq 34, 3) := dk_153 0 34 (dk_at dksX9_readsNights_0 8 rfl rfl)
theorem dX9_readsNights_11 : decode cX9_readsNights 11 = .ok (.aload_n 0, 1) := dk_42 (dk_at dksX9_readsNights_0 11 rfl rfl)
theorem dX9_readsNights_12 : decode cX9_readsNights 12 = .ok (.aload_n 0, 1) := dk_42 (dk_at dksX9_readsNights_0 12 rfl rfl)
theorem dX9_readsNights_13 : decode cX9_readsNights 13 = .ok (.getfield 7, 3) := dk_180 0 7 (dk_at dksX9_readsNights_0 13 rfl rfl)
theorem dX9_readsNights_16 : decode cX9_readsNights 16 = .ok (.iconst 3, 1) := dk_6 (dk_at dksX9_readsNights_0 16 rfl rfl)
theorem dX9_readsNights_17 : decode cX9_readsNights 17 = .ok (.iaload, 1) := dk_46 (dk_at dksX9_readsNights_0 17 rfl rfl)
theorem dX9_readsNights_18 : decode cX9_readsNights 18 = .ok (.aload_n 0, 1) := dk_42 (dk_at dksX9_readsNights_0 18 rfl rfl)
theorem dX9_readsNights_19 : decode cX9_readsNights 19 = .ok (.getfield 42, 3) := dk_180 0 42 (dk_at dksX9_readsNights_0 19 rfl rfl)
theorem dX9_readsNights_22 : decode cX9_readsNights 22 = .ok (.iconst 0, 1) := dk_3 (dk_at dksX9_readsNights_0 22 rfl rfl)
theorem dX9_readsNights_23 : decode cX9_readsNights 23 = .ok (.iaload, 1) := dk_46 (dk_at dksX9_readsNights_0 23 rfl rfl)
theorem dX9_readsNights_24 : decode cX9_readsNights 24 = .ok (.iadd, 1) := dk_96 (dk_at dksX9_readsNights_1 0 rfl rfl)
theorem dX9_readsNights_25 : decode cX9_readsNights 25 = .ok (.sipush 999, 3) := dk_17 3 231 (dk_at dksX9_readsNights_1 1 rfl rfl)
theorem dX9_readsNights_28 : decode cX9_readsNights 28 = .ok (.if_icmp .gt 7, 3) := dk_163 0 7 (dk_at dksX9_readsNights_1 4 rfl rfl)
theorem dX9_readsNights_31 : decode cX9_readsNights 31 = .ok (.iconst 1, 1) := dk_4 (dk_at dksX9_readsNights_1 7 rfl rfl)
theorem dX9_readsNights_32 : decode cX9_readsNights 32 = .ok (.goto 4, 3) := dk_167 0 4 (dk_at dksX9_readsNights_1 8 rfl rfl)
theorem dX9_readsNights_35 : decode cX9_readsNights 35 = .ok (.iconst 0, 1) := dk_3 (dk_at dksX9_readsNights_1 11 rfl rfl)
theorem dX9_readsNights_36 : decode cX9_readsNights 36 = .ok (.invokevirtual 194, 3) := dk_182 0 194 (dk_at dksX9_readsNights_1 12 rfl rfl)
theorem dX9_readsNights_39 : decode cX9_readsNights 39 = .ok (.ifCond .ne 5, 3) := dk_154 0 5 (dk_at dksX9_readsNights_1 15 rfl rfl)
theorem dX9_readsNights_42 : decode cX9_readsNights 42 = .ok (.iconst 0, 1) := dk_3 (dk_at dksX9_readsNights_1 18 rfl rfl)
theorem dX9_readsNights_43 : decode cX9_readsNights 43 = .ok (.ireturn, 1) := dk_172 (dk_at dksX9_readsNights_1 19 rfl rfl)
theorem dX9_readsNights_44 : decode cX9_readsNights 44 = .ok (.aload_n 0, 1) := dk_42 (dk_at dksX9_readsNights_1 20 rfl rfl)
theorem dX9_readsNights_45 : decode cX9_readsNights 45 = .ok (.aload_n 0, 1) := dk_42 (dk_at dksX9_readsNights_1 21 rfl rfl)
theorem dX9_readsNights_46 : decode cX9_readsNights 46 = .ok (.getfield 42, 3) := dk_180 0 42 (dk_at dksX9_readsNights_2 0 rfl rfl)
theorem dX9_readsNights_49 : decode cX9_readsNights 49 = .ok (.iconst 0, 1) := dk_3 (dk_at dksX9_readsNights_2 3 rfl rfl)
theorem dX9_readsNights_50 : decode cX9_readsNights 50 = .ok (.iaload, 1) := dk_46 (dk_at dksX9_readsNights_2 4 rfl rfl)
theorem dX9_readsNights_51 : decode cX9_readsNights 51 = .ok (.invokevirtual 261, 3) := dk_182 1 5 (dk_at dksX9_readsNights_2 5 rfl rfl)
theorem dX9_readsNights_54 : decode cX9_readsNights 54 = .ok (.pop, 1) := dk_87 (dk_at dksX9_readsNights_2 8 rfl rfl)
theorem dX9_readsNights_55 : decode cX9_readsNights 55 = .ok (.iconst 1, 1) := dk_4 (dk_at dksX9_readsNights_2 9 rfl rfl)
theorem dX9_readsNights_56 : decode cX9_readsNights 56 = .ok (.ireturn, 1) := dk_172 (dk_at dksX9_readsNights_2 10 rfl rfl)
abbrev cX9_passes : ByteArray := prog_11_method_52_code
def yX9_passes : MethodName := ⟨RX9, "passes", "(I)I"⟩
def dkwX9_passes_4 : List UInt8 := [180, 0, 7, 6, 46, 172]
abbrev dktX9_passes_4 : List UInt8 := dkwX9_passes_4 ++ []
def dkwX9_passes_3 : List UInt8 := [42, 180, 0, 7, 6, 46, 16, 8, 112, 7, 160, 0, 7, 42, 182, 0, 149, 132, 2, 1, 167, 255, 166, 42]
abbrev dktX9_passes_3 : List UInt8 := dkwX9_passes_3 ++ dktX9_passes_4
def dkwX9_passes_2 : List UInt8 := [182, 0, 64, 96, 46, 6, 108, 182, 0, 141, 167, 0, 8, 42, 29, 182, 0, 145, 132, 3, 1, 167, 255, 206]
abbrev dktX9_passes_2 : List UInt8 := dkwX9_passes_2 ++ dktX9_passes_3
def dkwX9_passes_1 : List UInt8 := [5, 46, 162, 0, 46, 42, 29, 182, 0, 72, 153, 0, 27, 42, 29, 42, 180, 0, 7, 16, 10, 42, 29, 6]
abbrev dktX9_passes_1 : List UInt8 := dkwX9_passes_1 ++ dktX9_passes_2
def dkwX9_passes_0 : List UInt8 := [3, 61, 28, 27, 162, 0, 91, 42, 180, 0, 7, 6, 92, 46, 4, 96, 79, 3, 62, 29, 42, 180, 0, 7]
abbrev dktX9_passes_0 : List UInt8 := dkwX9_passes_0 ++ dktX9_passes_1
theorem dksX9_passes_0 : cX9_passes.data.toList.drop 0 = dktX9_passes_0 := by decide +kernel
theorem dksX9_passes_1 : cX9_passes.data.toList.drop 24 = dktX9_passes_1 := dk_seg dksX9_passes_0 24 rfl rfl
theorem dksX9_passes_2 : cX9_passes.data.toList.drop 48 = dktX9_passes_2 := dk_seg dksX9_passes_1 24 rfl rfl
theorem dksX9_passes_3 : cX9_passes.data.toList.drop 72 = dktX9_passes_3 := dk_seg dksX9_passes_2 24 rfl rfl
theorem dksX9_passes_4 : cX9_passes.data.toList.drop 96 = dktX9_passes_4 := dk_seg dksX9_passes_3 24 rfl rfl
theorem dX9_passes_0 : decode cX9_passes 0 = .ok (.iconst 0, 1) := dk_3 (dk_at dksX9_passes_0 0 rfl rfl)
theorem dX9_passes_1 : decode cX9_passes 1 = .ok (.istore_n 2, 1) := dk_61 (dk_at dksX9_passes_0 1 rfl rfl)
theorem dX9_passes_2 : decode cX9_passes 2 = .ok (.iload_n 2, 1) := dk_28 (dk_at dksX9_passes_0 2 rfl rfl)
theorem dX9_passes_3 : decode cX9_passes 3 = .ok (.iload_n 1, 1) := dk_27 (dk_at dksX9_passes_0 3 rfl rfl)
theorem dX9_passes_4 : decode cX9_passes 4 = .ok (.if_icmp .ge 91, 3) := dk_162 0 91 (dk_at dksX9_passes_0 4 rfl rfl)
theorem dX9_passes_7 : decode cX9_passes 7 = .ok (.aload_n 0, 1) := dk_42 (dk_at dksX9_passes_0 7 rfl rfl)
theorem dX9_passes_8 : decode cX9_passes 8 = .ok (.getfield 7, 3) := dk_180 0 7 (dk_at dksX9_passes_0 8 rfl rfl)
theorem dX9_passes_11 : decode cX9_passes 11 = .ok (.iconst 3, 1) := dk_6 (dk_at dksX9_passes_0 11 rfl rfl)
theorem dX9_passes_12 : decode cX9_passes 12 = .ok (.dup2, 1) := dk_92 (dk_at dksX9_passes_0 12 rfl rfl)
theorem dX9_passes_13 : decode cX9_passes 13 = .ok (.iaload, 1) := dk_46 (dk_at dksX9_passes_0 13 rfl rfl)
theorem dX9_passes_14 : decode cX9_passes 14 = .ok (.iconst 1, 1) := dk_4 (dk_at dksX9_passes_0 14 rfl rfl)
theorem dX9_passes_15 : decode cX9_passes 15 = .ok (.iadd, 1) := dk_96 (dk_at dksX9_passes_0 15 rfl rfl)
theorem dX9_passes_16 : decode cX9_passes 16 = .ok (.iastore, 1) := dk_79 (dk_at dksX9_passes_0 16 rfl rfl)
theorem dX9_passes_17 : decode cX9_passes 17 = .ok (.iconst 0, 1) := dk_3 (dk_at dksX9_passes_0 17 rfl rfl)
theorem dX9_passes_18 : decode cX9_passes 18 = .ok (.istore_n 3, 1) := dk_62 (dk_at dksX9_passes_0 18 rfl rfl)
theorem dX9_passes_19 : decode cX9_passes 19 = .ok (.iload_n 3, 1) := dk_29 (dk_at dksX9_passes_0 19 rfl rfl)
theorem dX9_passes_20 : decode cX9_passes 20 = .ok (.aload_n 0, 1) := dk_42 (dk_at dksX9_passes_0 20 rfl rfl)
theorem dX9_passes_21 : decode cX9_passes 21 = .ok (.getfield 7, 3) := dk_180 0 7 (dk_at dksX9_passes_0 21 rfl rfl)
theorem dX9_passes_24 : decode cX9_passes 24 = .ok (.iconst 2, 1) := dk_5 (dk_at dksX9_passes_1 0 rfl rfl)
theorem dX9_passes_25 : decode cX9_passes 25 = .ok (.iaload, 1) := dk_46 (dk_at dksX9_passes_1 1 rfl rfl)
theorem dX9_passes_26 : decode cX9_passes 26 = .ok (.if_icmp .ge 46, 3) := dk_162 0 46 (dk_at dksX9_passes_1 2 rfl rfl)
theorem dX9_passes_29 : decode cX9_passes 29 = .ok (.aload_n 0, 1) := dk_42 (dk_at dksX9_passes_1 5 rfl rfl)
theorem dX9_passes_30 : decode cX9_passes 30 = .ok (.iload_n 3, 1) := dk_29 (dk_at dksX9_passes_1 6 rfl rfl)
theorem dX9_passes_31 : decode cX9_passes 31 = .ok (.invokevirtual 72, 3) := dk_182 0 72 (dk_at dksX9_passes_1 7 rfl rfl)
theorem dX9_passes_34 : decode cX9_passes 34 = .ok (.ifCond .eq 27, 3) := dk_153 0 27 (dk_at dksX9_passes_1 10 rfl rfl)
theorem dX9_passes_37 : decode cX9_passes 37 = .ok (.aload_n 0, 1) := dk_42 (dk_at dksX9_passes_1 13 rfl rfl)
theorem dX9_passes_38 : decode cX9_passes 38 = .ok (.iload_n 3, 1) := dk_29 (dk_at dksX9_passes_1 14 rfl rfl)
theorem dX9_passes_39 : decode cX9_passes 39 = .ok (.aload_n 0, 1) := dk_42 (dk_at dksX9_passes_1 15 rfl rfl)
theorem dX9_passes_40 : decode cX9_passes 40 = .ok (.getfield 7, 3) := dk_180 0 7 (dk_at dksX9_passes_1 16 rfl rfl)
theorem dX9_passes_43 : decode cX9_passes 43 = .ok (.bipush 10, 2) := dk_16 10 (dk_at dksX9_passes_1 19 rfl rfl)
theorem dX9_passes_45 : decode cX9_passes 45 = .ok (.aload_n 0, 1) := dk_42 (dk_at dksX9_passes_1 21 rfl rfl)
theorem dX9_passes_46 : decode cX9_passes 46 = .ok (.iload_n 3, 1) := dk_29 (dk_at dksX9_passes_1 22 rfl rfl)
theorem dX9_passes_47 : decode cX9_passes 47 = .ok (.iconst 3, 1) := dk_6 (dk_at dksX9_passes_1 23 rfl rfl)
theorem dX9_passes_48 : decode cX9_passes 48 = .ok (.invokevirtual 64, 3) := dk_182 0 64 (dk_at dksX9_passes_2 0 rfl rfl)
theorem dX9_passes_51 : decode cX9_passes 51 = .ok (.iadd, 1) := dk_96 (dk_at dksX9_passes_2 3 rfl rfl)
theorem dX9_passes_52 : decode cX9_passes 52 = .ok (.iaload, 1) := dk_46 (dk_at dksX9_passes_2 4 rfl rfl)
theorem dX9_passes_53 : decode cX9_passes 53 = .ok (.iconst 3, 1) := dk_6 (dk_at dksX9_passes_2 5 rfl rfl)
theorem dX9_passes_54 : decode cX9_passes 54 = .ok (.idiv, 1) := dk_108 (dk_at dksX9_passes_2 6 rfl rfl)
theorem dX9_passes_55 : decode cX9_passes 55 = .ok (.invokevirtual 141, 3) := dk_182 0 141 (dk_at dksX9_passes_2 7 rfl rfl)
theorem dX9_passes_58 : decode cX9_passes 58 = .ok (.goto 8, 3) := dk_167 0 8 (dk_at dksX9_passes_2 10 rfl rfl)
theorem dX9_passes_61 : decode cX9_passes 61 = .ok (.aload_n 0, 1) := dk_42 (dk_at dksX9_passes_2 13 rfl rfl)
theorem dX9_passes_62 : decode cX9_passes 62 = .ok (.iload_n 3, 1) := dk_29 (dk_at dksX9_passes_2 14 rfl rfl)
theorem dX9_passes_63 : decode cX9_passes 63 = .ok (.invokevirtual 145, 3) := dk_182 0 145 (dk_at dksX9_passes_2 15 rfl rfl)
theorem dX9_passes_66 : decode cX9_passes 66 = .ok (.iinc 3 1, 3) := dk_132 3 1 (dk_at dksX9_passes_2 18 rfl rfl)
theorem dX9_passes_69 : decode cX9_passes 69 = .ok (.goto (-50), 3) := dk_167 255 206 (dk_at dksX9_passes_2 21 rfl rfl)
theorem dX9_passes_72 : decode cX9_passes 72 = .ok (.aload_n 0, 1) := dk_42 (dk_at dksX9_passes_3 0 rfl rfl)
theorem dX9_passes_73 : decode cX9_passes 73 = .ok (.getfield 7, 3) := dk_180 0 7 (dk_at dksX9_passes_3 1 rfl rfl)
theorem dX9_passes_76 : decode cX9_passes 76 = .ok (.iconst 3, 1) := dk_6 (dk_at dksX9_passes_3 4 rfl rfl)
theorem dX9_passes_77 : decode cX9_passes 77 = .ok (.iaload, 1) := dk_46 (dk_at dksX9_passes_3 5 rfl rfl)
theorem dX9_passes_78 : decode cX9_passes 78 = .ok (.bipush 8, 2) := dk_16 8 (dk_at dksX9_passes_3 6 rfl rfl)
theorem dX9_passes_80 : decode cX9_passes 80 = .ok (.irem, 1) := dk_112 (dk_at dksX9_passes_3 8 rfl rfl)
theorem dX9_passes_81 : decode cX9_passes 81 = .ok (.iconst 4, 1) := dk_7 (dk_at dksX9_passes_3 9 rfl rfl)
theorem dX9_passes_82 : decode cX9_passes 82 = .ok (.if_icmp .ne 7, 3) := dk_160 0 7 (dk_at dksX9_passes_3 10 rfl rfl)
theorem dX9_passes_85 : decode cX9_passes 85 = .ok (.aload_n 0, 1) := dk_42 (dk_at dksX9_passes_3 13 rfl rfl)
theorem dX9_passes_86 : decode cX9_passes 86 = .ok (.invokevirtual 149, 3) := dk_182 0 149 (dk_at dksX9_passes_3 14 rfl rfl)
theorem dX9_passes_89 : decode cX9_passes 89 = .ok (.iinc 2 1, 3) := dk_132 2 1 (dk_at dksX9_passes_3 17 rfl rfl)
theorem dX9_passes_92 : decode cX9_passes 92 = .ok (.goto (-90), 3) := dk_167 255 166 (dk_at dksX9_passes_3 20 rfl rfl)
theorem dX9_passes_95 : decode cX9_passes 95 = .ok (.aload_n 0, 1) := dk_42 (dk_at dksX9_passes_3 23 rfl rfl)
theorem dX9_passes_96 : decode cX9_passes 96 = .ok (.getfield 7, 3) := dk_180 0 7 (dk_at dksX9_passes_4 0 rfl rfl)
theorem dX9_passes_99 : decode cX9_passes 99 = .ok (.iconst 3, 1) := dk_6 (dk_at dksX9_passes_4 3 rfl rfl)
theorem dX9_passes_100 : decode cX9_passes 100 = .ok (.iaload, 1) := dk_46 (dk_at dksX9_passes_4 4 rfl rfl)
theorem dX9_passes_101 : decode cX9_passes 101 = .ok (.ireturn, 1) := dk_172 (dk_at dksX9_passes_4 5 rfl rfl)
abbrev cX9_feeds : ByteArray := prog_11_method_49_code
def yX9_feeds : MethodName := ⟨RX9, "feeds", "(II)V"⟩
def dkwX9_feeds_1 : List UInt8 := [96, 182, 0, 118, 42, 180, 0, 7, 16, 8, 92, 46, 29, 96, 79, 177]
abbrev dktX9_feeds_1 : List UInt8 := dkwX9_feeds_1 ++ []
def dkwX9_feeds_0 : List UInt8 := [28, 16, 99, 42, 27, 5, 182, 0, 64, 100, 184, 0, 135, 62, 42, 27, 5, 42, 27, 5, 182, 0, 64, 29]
abbrev dktX9_feeds_0 : List UInt8 := dkwX9_feeds_0 ++ dktX9_feeds_1
theorem dksX9_feeds_0 : cX9_feeds.data.toList.drop 0 = dktX9_feeds_0 := by decide +kernel
theorem dksX9_feeds_1 : cX9_feeds.data.toList.drop 24 = dktX9_feeds_1 := dk_seg dksX9_feeds_0 24 rfl rfl
theorem dX9_feeds_0 : decode cX9_feeds 0 = .ok (.iload_n 2, 1) := dk_28 (dk_at dksX9_feeds_0 0 rfl rfl)
theorem dX9_feeds_1 : decode cX9_feeds 1 = .ok (.bipush 99, 2) := dk_16 99 (dk_at dksX9_feeds_0 1 rfl rfl)
theorem dX9_feeds_3 : decode cX9_feeds 3 = .ok (.aload_n 0, 1) := dk_42 (dk_at dksX9_feeds_0 3 rfl rfl)
theorem dX9_feeds_4 : decode cX9_feeds 4 = .ok (.iload_n 1, 1) := dk_27 (dk_at dksX9_feeds_0 4 rfl rfl)
theorem dX9_feeds_5 : decode cX9_feeds 5 = .ok (.iconst 2, 1) := dk_5 (dk_at dksX9_feeds_0 5 rfl rfl)
theorem dX9_feeds_6 : decode cX9_feeds 6 = .ok (.invokevirtual 64, 3) := dk_182 0 64 (dk_at dksX9_feeds_0 6 rfl rfl)
theorem dX9_feeds_9 : decode cX9_feeds 9 = .ok (.isub, 1) := dk_100 (dk_at dksX9_feeds_0 9 rfl rfl)
theorem dX9_feeds_10 : decode cX9_feeds 10 = .ok (.invokestatic 135, 3) := dk_184 0 135 (dk_at dksX9_feeds_0 10 rfl rfl)
theorem dX9_feeds_13 : decode cX9_feeds 13 = .ok (.istore_n 3, 1) := dk_62 (dk_at dksX9_feeds_0 13 rfl rfl)
theorem dX9_feeds_14 : decode cX9_feeds 14 = .ok (.aload_n 0, 1) := dk_42 (dk_at dksX9_feeds_0 14 rfl rfl)
theorem dX9_feeds_15 : decode cX9_feeds 15 = .ok (.iload_n 1, 1) := dk_27 (dk_at dksX9_feeds_0 15 rfl rfl)
theorem dX9_feeds_16 : decode cX9_feeds 16 = .ok (.iconst 2, 1) := dk_5 (dk_at dksX9_feeds_0 16 rfl rfl)
theorem dX9_feeds_17 : decode cX9_feeds 17 = .ok (.aload_n 0, 1) := dk_42 (dk_at dksX9_feeds_0 17 rfl rfl)
theorem dX9_feeds_18 : decode cX9_feeds 18 = .ok (.iload_n 1, 1) := dk_27 (dk_at dksX9_feeds_0 18 rfl rfl)
theorem dX9_feeds_19 : decode cX9_feeds 19 = .ok (.iconst 2, 1) := dk_5 (dk_at dksX9_feeds_0 19 rfl rfl)
theorem dX9_feeds_20 : decode cX9_feeds 20 = .ok (.invokevirtual 64, 3) := dk_182 0 64 (dk_at dksX9_feeds_0 20 rfl rfl)
theorem dX9_feeds_23 : decode cX9_feeds 23 = .ok (.iload_n 3, 1) := dk_29 (dk_at dksX9_feeds_0 23 rfl rfl)
theorem dX9_feeds_24 : decode cX9_feeds 24 = .ok (.iadd, 1) := dk_96 (dk_at dksX9_feeds_1 0 rfl rfl)
theorem dX9_feeds_25 : decode cX9_feeds 25 = .ok (.invokevirtual 118, 3) := dk_182 0 118 (dk_at dksX9_feeds_1 1 rfl rfl)
theorem dX9_feeds_28 : decode cX9_feeds 28 = .ok (.aload_n 0, 1) := dk_42 (dk_at dksX9_feeds_1 4 rfl rfl)
theorem dX9_feeds_29 : decode cX9_feeds 29 = .ok (.getfield 7, 3) := dk_180 0 7 (dk_at dksX9_feeds_1 5 rfl rfl)
theorem dX9_feeds_32 : decode cX9_feeds 32 = .ok (.bipush 8, 2) := dk_16 8 (dk_at dksX9_feeds_1 8 rfl rfl)
theorem dX9_feeds_34 : decode cX9_feeds 34 = .ok (.dup2, 1) := dk_92 (dk_at dksX9_feeds_1 10 rfl rfl)
theorem dX9_feeds_35 : decode cX9_feeds 35 = .ok (.iaload, 1) := dk_46 (dk_at dksX9_feeds_1 11 rfl rfl)
theorem dX9_feeds_36 : decode cX9_feeds 36 = .ok (.iload_n 3, 1) := dk_29 (dk_at dksX9_feeds_1 12 rfl rfl)
theorem dX9_feeds_37 : decode cX9_feeds 37 = .ok (.iadd, 1) := dk_96 (dk_at dksX9_feeds_1 13 rfl rfl)
theorem dX9_feeds_38 : decode cX9_feeds 38 = .ok (.iastore, 1) := dk_79 (dk_at dksX9_feeds_1 14 rfl rfl)
theorem dX9_feeds_39 : decode cX9_feeds 39 = .ok (.return_, 1) := dk_177 (dk_at dksX9_feeds_1 15 rfl rfl)
abbrev cX9_eats : ByteArray := prog_11_method_50_code
def yX9_eats : MethodName := ⟨RX9, "eats", "(I)V"⟩
def dkwX9_eats_1 : List UInt8 := [180, 0, 7, 16, 9, 92, 46, 4, 96, 79, 177]
abbrev dktX9_eats_1 : List UInt8 := dkwX9_eats_1 ++ []
def dkwX9_eats_0 : List UInt8 := [42, 27, 5, 182, 0, 64, 158, 0, 28, 42, 27, 5, 42, 27, 5, 182, 0, 64, 4, 100, 182, 0, 118, 42]
abbrev dktX9_eats_0 : List UInt8 := dkwX9_eats_0 ++ dktX9_eats_1
theorem dksX9_eats_0 : cX9_eats.data.toList.drop 0 = dktX9_eats_0 := by decide +kernel
theorem dksX9_eats_1 : cX9_eats.data.toList.drop 24 = dktX9_eats_1 := dk_seg dksX9_eats_0 24 rfl rfl
theorem dX9_eats_0 : decode cX9_eats 0 = .ok (.aload_n 0, 1) := dk_42 (dk_at dksX9_eats_0 0 rfl rfl)
theorem dX9_eats_1 : decode cX9_eats 1 = .ok (.iload_n 1, 1) := dk_27 (dk_at dksX9_eats_0 1 rfl rfl)
theorem dX9_eats_2 : decode cX9_eats 2 = .ok (.iconst 2, 1) := dk_5 (dk_at dksX9_eats_0 2 rfl rfl)
theorem dX9_eats_3 : decode cX9_eats 3 = .ok (.invokevirtual 64, 3) := dk_182 0 64 (dk_at dksX9_eats_0 3 rfl rfl)
theorem dX9_eats_6 : decode cX9_eats 6 = .ok (.ifCond .le 28, 3) := dk_158 0 28 (dk_at dksX9_eats_0 6 rfl rfl)
theorem dX9_eats_9 : decode cX9_eats 9 = .ok (.aload_n 0, 1) := dk_42 (dk_at dksX9_eats_0 9 rfl rfl)
theorem dX9_eats_10 : decode cX9_eats 10 = .ok (.iload_n 1, 1) := dk_27 (dk_at dksX9_eats_0 10 rfl rfl)
theorem dX9_eats_11 : decode cX9_eats 11 = .ok (.iconst 2, 1) := dk_5 (dk_at dksX9_eats_0 11 rfl rfl)
theorem dX9_eats_12 : decode cX9_eats 12 = .ok (.aload_n 0, 1) := dk_42 (dk_at dksX9_eats_0 12 rfl rfl)
theorem dX9_eats_13 : decode cX9_eats 13 = .ok (.iload_n 1, 1) := dk_27 (dk_at dksX9_eats_0 13 rfl rfl)
theorem dX9_eats_14 : decode cX9_eats 14 = .ok (.iconst 2, 1) := dk_5 (dk_at dksX9_eats_0 14 rfl rfl)
theorem dX9_eats_15 : decode cX9_eats 15 = .ok (.invokevirtual 64, 3) := dk_182 0 64 (dk_at dksX9_eats_0 15 rfl rfl)
theorem dX9_eats_18 : decode cX9_eats 18 = .ok (.iconst 1, 1) := dk_4 (dk_at dksX9_eats_0 18 rfl rfl)
theorem dX9_eats_19 : decode cX9_eats 19 = .ok (.isub, 1) := dk_100 (dk_at dksX9_eats_0 19 rfl rfl)
theorem dX9_eats_20 : decode cX9_eats 20 = .ok (.invokevirtual 118, 3) := dk_182 0 118 (dk_at dksX9_eats_0 20 rfl rfl)
theorem dX9_eats_23 : decode cX9_eats 23 = .ok (.aload_n 0, 1) := dk_42 (dk_at dksX9_eats_0 23 rfl rfl)
theorem dX9_eats_24 : decode cX9_eats 24 = .ok (.getfield 7, 3) := dk_180 0 7 (dk_at dksX9_eats_1 0 rfl rfl)
theorem dX9_eats_27 : decode cX9_eats 27 = .ok (.bipush 9, 2) := dk_16 9 (dk_at dksX9_eats_1 3 rfl rfl)
theorem dX9_eats_29 : decode cX9_eats 29 = .ok (.dup2, 1) := dk_92 (dk_at dksX9_eats_1 5 rfl rfl)
theorem dX9_eats_30 : decode cX9_eats 30 = .ok (.iaload, 1) := dk_46 (dk_at dksX9_eats_1 6 rfl rfl)
theorem dX9_eats_31 : decode cX9_eats 31 = .ok (.iconst 1, 1) := dk_4 (dk_at dksX9_eats_1 7 rfl rfl)
theorem dX9_eats_32 : decode cX9_eats 32 = .ok (.iadd, 1) := dk_96 (dk_at dksX9_eats_1 8 rfl rfl)
theorem dX9_eats_33 : decode cX9_eats 33 = .ok (.iastore, 1) := dk_79 (dk_at dksX9_eats_1 9 rfl rfl)
theorem dX9_eats_34 : decode cX9_eats 34 = .ok (.return_, 1) := dk_177 (dk_at dksX9_eats_1 10 rfl rfl)
abbrev cX9_sings : ByteArray := prog_11_method_51_code
def yX9_sings : MethodName := ⟨RX9, "sings", "()V"⟩
def dkwX9_sings_1 : List UInt8 := [160, 0, 12, 42, 28, 27, 184, 0, 115, 182, 0, 141, 132, 2, 1, 167, 255, 225, 177]
abbrev dktX9_sings_1 : List UInt8 := dkwX9_sings_1 ++ []
def dkwX9_sings_0 : List UInt8 := [42, 182, 0, 138, 60, 3, 61, 28, 42, 180, 0, 7, 5, 46, 162, 0, 27, 27, 28, 122, 4, 126, 4]
abbrev dktX9_sings_0 : List UInt8 := dkwX9_sings_0 ++ dktX9_sings_1
theorem dksX9_sings_0 : cX9_sings.data.toList.drop 0 = dktX9_sings_0 := by decide +kernel
theorem dksX9_sings_1 : cX9_sings.data.toList.drop 23 = dktX9_sings_1 := dk_seg dksX9_sings_0 23 rfl rfl
theorem dX9_sings_0 : decode cX9_sings 0 = .ok (.aload_n 0, 1) := dk_42 (dk_at dksX9_sings_0 0 rfl rfl)
theorem dX9_sings_1 : decode cX9_sings 1 = .ok (.invokevirtual 138, 3) := dk_182 0 138 (dk_at dksX9_sings_0 1 rfl rfl)
theorem dX9_sings_4 : decode cX9_sings 4 = .ok (.istore_n 1, 1) := dk_60 (dk_at dksX9_sings_0 4 rfl rfl)
theorem dX9_sings_5 : decode cX9_sings 5 = .ok (.iconst 0, 1) := dk_3 (dk_at dksX9_sings_0 5 rfl rfl)
theorem dX9_sings_6 : decode cX9_sings 6 = .ok (.istore_n 2, 1) := dk_61 (dk_at dksX9_sings_0 6 rfl rfl)
theorem dX9_sings_7 : decode cX9_sings 7 = .ok (.iload_n 2, 1) := dk_28 (dk_at dksX9_sings_0 7 rfl rfl)
theorem dX9_sings_8 : decode cX9_sings 8 = .ok (.aload_n 0, 1) := dk_42 (dk_at dksX9_sings_0 8 rfl rfl)
theorem dX9_sings_9 : decode cX9_sings 9 = .ok (.getfield 7, 3) := dk_180 0 7 (dk_at dksX9_sings_0 9 rfl rfl)
theorem dX9_sings_12 : decode cX9_sings 12 = .ok (.iconst 2, 1) := dk_5 (dk_at dksX9_sings_0 12 rfl rfl)
theorem dX9_sings_13 : decode cX9_sings 13 = .ok (.iaload, 1) := dk_46 (dk_at dksX9_sings_0 13 rfl rfl)
theorem dX9_sings_14 : decode cX9_sings 14 = .ok (.if_icmp .ge 27, 3) := dk_162 0 27 (dk_at dksX9_sings_0 14 rfl rfl)
theorem dX9_sings_17 : decode cX9_sings 17 = .ok (.iload_n 1, 1) := dk_27 (dk_at dksX9_sings_0 17 rfl rfl)
theorem dX9_sings_18 : decode cX9_sings 18 = .ok (.iload_n 2, 1) := dk_28 (dk_at dksX9_sings_0 18 rfl rfl)
theorem dX9_sings_19 : decode cX9_sings 19 = .ok (.ishr, 1) := dk_122 (dk_at dksX9_sings_0 19 rfl rfl)
theorem dX9_sings_20 : decode cX9_sings 20 = .ok (.iconst 1, 1) := dk_4 (dk_at dksX9_sings_0 20 rfl rfl)
theorem dX9_sings_21 : decode cX9_sings 21 = .ok (.iand, 1) := dk_126 (dk_at dksX9_sings_0 21 rfl rfl)
theorem dX9_sings_22 : decode cX9_sings 22 = .ok (.iconst 1, 1) := dk_4 (dk_at dksX9_sings_0 22 rfl rfl)
theorem dX9_sings_23 : decode cX9_sings 23 = .ok (.if_icmp .ne 12, 3) := dk_160 0 12 (dk_at dksX9_sings_1 0 rfl rfl)
theorem dX9_sings_26 : decode cX9_sings 26 = .ok (.aload_n 0, 1) := dk_42 (dk_at dksX9_sings_1 3 rfl rfl)
theorem dX9_sings_27 : decode cX9_sings 27 = .ok (.iload_n 2, 1) := dk_28 (dk_at dksX9_sings_1 4 rfl rfl)
theorem dX9_sings_28 : decode cX9_sings 28 = .ok (.iload_n 1, 1) := dk_27 (dk_at dksX9_sings_1 5 rfl rfl)
theorem dX9_sings_29 : decode cX9_sings 29 = .ok (.invokestatic 115, 3) := dk_184 0 115 (dk_at dksX9_sings_1 6 rfl rfl)
theorem dX9_sings_32 : decode cX9_sings 32 = .ok (.invokevirtual 141, 3) := dk_182 0 141 (dk_at dksX9_sings_1 9 rfl rfl)
theorem dX9_sings_35 : decode cX9_sings 35 = .ok (.iinc 2 1, 3) := dk_132 2 1 (dk_at dksX9_sings_1 12 rfl rfl)
theorem dX9_sings_38 : decode cX9_sings 38 = .ok (.goto (-31), 3) := dk_167 255 225 (dk_at dksX9_sings_1 15 rfl rfl)
theorem dX9_sings_41 : decode cX9_sings 41 = .ok (.return_, 1) := dk_177 (dk_at dksX9_sings_1 18 rfl rfl)
abbrev cX9_greatestChoir : ByteArray := prog_11_method_31_code
def yX9_greatestChoir : MethodName := ⟨RX9, "greatestChoir", "()I"⟩
def dkwX9_greatestChoir_1 : List UInt8 := [27, 184, 0, 115, 164, 0, 7, 29, 167, 0, 4, 27, 60, 132, 2, 1, 167, 255, 220, 27, 172]
abbrev dktX9_greatestChoir_1 : List UInt8 := dkwX9_greatestChoir_1 ++ []
def dkwX9_greatestChoir_0 : List UInt8 := [3, 60, 3, 61, 28, 42, 180, 0, 7, 5, 46, 162, 0, 32, 42, 28, 182, 0, 112, 62, 29, 184, 0, 115]
abbrev dktX9_greatestChoir_0 : List UInt8 := dkwX9_greatestChoir_0 ++ dktX9_greatestChoir_1
theorem dksX9_greatestChoir_0 : cX9_greatestChoir.data.toList.drop 0 = dktX9_greatestChoir_0 := by decide +kernel
theorem dksX9_greatestChoir_1 : cX9_greatestChoir.data.toList.drop 24 = dktX9_greatestChoir_1 := dk_seg dksX9_greatestChoir_0 24 rfl rfl
theorem dX9_greatestChoir_0 : decode cX9_greatestChoir 0 = .ok (.iconst 0, 1) := dk_3 (dk_at dksX9_greatestChoir_0 0 rfl rfl)
theorem dX9_greatestChoir_1 : decode cX9_greatestChoir 1 = .ok (.istore_n 1, 1) := dk_60 (dk_at dksX9_greatestChoir_0 1 rfl rfl)
theorem dX9_greatestChoir_2 : decode cX9_greatestChoir 2 = .ok (.iconst 0, 1) := dk_3 (dk_at dksX9_greatestChoir_0 2 rfl rfl)
theorem dX9_greatestChoir_3 : decode cX9_greatestChoir 3 = .ok (.istore_n 2, 1) := dk_61 (dk_at dksX9_greatestChoir_0 3 rfl rfl)
theorem dX9_greatestChoir_4 : decode cX9_greatestChoir 4 = .ok (.iload_n 2, 1) := dk_28 (dk_at dksX9_greatestChoir_0 4 rfl rfl)
theorem dX9_greatestChoir_5 : decode cX9_greatestChoir 5 = .ok (.aload_n 0, 1) := dk_42 (dk_at dksX9_greatestChoir_0 5 rfl rfl)
theorem dX9_greatestChoir_6 : decode cX9_greatestChoir 6 = .ok (.getfield 7, 3) := dk_180 0 7 (dk_at dksX9_greatestChoir_0 6 rfl rfl)
theorem dX9_greatestChoir_9 : decode cX9_greatestChoir 9 = .ok (.iconst 2, 1) := dk_5 (dk_at dksX9_greatestChoir_0 9 rfl rfl)
theorem dX9_greatestChoir_10 : decode cX9_greatestChoir 10 = .ok (.iaload, 1) := dk_46 (dk_at dksX9_greatestChoir_0 10 rfl rfl)
theorem dX9_greatestChoir_11 : decode cX9_greatestChoir 11 = .ok (.if_icmp .ge 32, 3) := dk_162 0 32 (dk_at dksX9_greatestChoir_0 11 rfl rfl)
theorem dX9_greatestChoir_14 : decode cX9_greatestChoir 14 = .ok (.aload_n 0, 1) := dk_42 (dk_at dksX9_greatestChoir_0 14 rfl rfl)
theorem dX9_greatestChoir_15 : decode cX9_greatestChoir 15 = .ok (.iload_n 2, 1) := dk_28 (dk_at dksX9_greatestChoir_0 15 rfl rfl)
theorem dX9_greatestChoir_16 : decode cX9_greatestChoir 16 = .ok (.invokevirtual 112, 3) := dk_182 0 112 (dk_at dksX9_greatestChoir_0 16 rfl rfl)
theorem dX9_greatestChoir_19 : decode cX9_greatestChoir 19 = .ok (.istore_n 3, 1) := dk_62 (dk_at dksX9_greatestChoir_0 19 rfl rfl)
theorem dX9_greatestChoir_20 : decode cX9_greatestChoir 20 = .ok (.iload_n 3, 1) := dk_29 (dk_at dksX9_greatestChoir_0 20 rfl rfl)
theorem dX9_greatestChoir_21 : decode cX9_greatestChoir 21 = .ok (.invokestatic 115, 3) := dk_184 0 115 (dk_at dksX9_greatestChoir_0 21 rfl rfl)
theorem dX9_greatestChoir_24 : decode cX9_greatestChoir 24 = .ok (.iload_n 1, 1) := dk_27 (dk_at dksX9_greatestChoir_1 0 rfl rfl)
theorem dX9_greatestChoir_25 : decode cX9_greatestChoir 25 = .ok (.invokestatic 115, 3) := dk_184 0 115 (dk_at dksX9_greatestChoir_1 1 rfl rfl)
theorem dX9_greatestChoir_28 : decode cX9_greatestChoir 28 = .ok (.if_icmp .le 7, 3) := dk_164 0 7 (dk_at dksX9_greatestChoir_1 4 rfl rfl)
theorem dX9_greatestChoir_31 : decode cX9_greatestChoir 31 = .ok (.iload_n 3, 1) := dk_29 (dk_at dksX9_greatestChoir_1 7 rfl rfl)
theorem dX9_greatestChoir_32 : decode cX9_greatestChoir 32 = .ok (.goto 4, 3) := dk_167 0 4 (dk_at dksX9_greatestChoir_1 8 rfl rfl)
theorem dX9_greatestChoir_35 : decode cX9_greatestChoir 35 = .ok (.iload_n 1, 1) := dk_27 (dk_at dksX9_greatestChoir_1 11 rfl rfl)
theorem dX9_greatestChoir_36 : decode cX9_greatestChoir 36 = .ok (.istore_n 1, 1) := dk_60 (dk_at dksX9_greatestChoir_1 12 rfl rfl)
theorem dX9_greatestChoir_37 : decode cX9_greatestChoir 37 = .ok (.iinc 2 1, 3) := dk_132 2 1 (dk_at dksX9_greatestChoir_1 13 rfl rfl)
theorem dX9_greatestChoir_40 : decode cX9_greatestChoir 40 = .ok (.goto (-36), 3) := dk_167 255 220 (dk_at dksX9_greatestChoir_1 16 rfl rfl)
theorem dX9_greatestChoir_43 : decode cX9_greatestChoir 43 = .ok (.iload_n 1, 1) := dk_27 (dk_at dksX9_greatestChoir_1 19 rfl rfl)
theorem dX9_greatestChoir_44 : decode cX9_greatestChoir 44 = .ok (.ireturn, 1) := dk_172 (dk_at dksX9_greatestChoir_1 20 rfl rfl)
abbrev cX9_choir : ByteArray := prog_11_method_29_code
def yX9_choir : MethodName := ⟨RX9, "choir", "(I)I"⟩
def dkwX9_choir_5 : List UInt8 := [28, 172]
abbrev dktX9_choir_5 : List UInt8 := dkwX9_choir_5 ++ []
def dkwX9_choir_4 : List UInt8 := [167, 0, 4, 3, 128, 61, 132, 5, 1, 167, 255, 188, 132, 4, 1, 167, 255, 168, 132, 3, 1, 167, 255, 149]
abbrev dktX9_choir_4 : List UInt8 := dkwX9_choir_4 ++ dktX9_choir_5
def dkwX9_choir_3 : List UInt8 := [182, 0, 102, 158, 0, 7, 4, 167, 0, 4, 3, 54, 6, 28, 21, 6, 153, 0, 10, 4, 21, 5, 120]
abbrev dktX9_choir_3 : List UInt8 := dkwX9_choir_3 ++ dktX9_choir_4
def dkwX9_choir_2 : List UInt8 := [21, 4, 122, 4, 126, 4, 160, 0, 28, 42, 42, 21, 4, 6, 182, 0, 64, 42, 21, 5, 6, 182, 0, 64]
abbrev dktX9_choir_2 : List UInt8 := dkwX9_choir_2 ++ dktX9_choir_3
def dkwX9_choir_1 : List UInt8 := [180, 0, 7, 5, 46, 162, 0, 83, 3, 54, 5, 21, 5, 42, 180, 0, 7, 5, 46, 162, 0, 63, 28]
abbrev dktX9_choir_1 : List UInt8 := dkwX9_choir_1 ++ dktX9_choir_2
def dkwX9_choir_0 : List UInt8 := [4, 27, 120, 61, 3, 62, 29, 42, 180, 0, 7, 5, 46, 162, 0, 103, 3, 54, 4, 21, 4, 42]
abbrev dktX9_choir_0 : List UInt8 := dkwX9_choir_0 ++ dktX9_choir_1
theorem dksX9_choir_0 : cX9_choir.data.toList.drop 0 = dktX9_choir_0 := by decide +kernel
theorem dksX9_choir_1 : cX9_choir.data.toList.drop 22 = dktX9_choir_1 := dk_seg dksX9_choir_0 22 rfl rfl
theorem dksX9_choir_2 : cX9_choir.data.toList.drop 45 = dktX9_choir_2 := dk_seg dksX9_choir_1 23 rfl rfl
theorem dksX9_choir_3 : cX9_choir.data.toList.drop 69 = dktX9_choir_3 := dk_seg dksX9_choir_2 24 rfl rfl
theorem dksX9_choir_4 : cX9_choir.data.toList.drop 92 = dktX9_choir_4 := dk_seg dksX9_choir_3 23 rfl rfl
theorem dksX9_choir_5 : cX9_choir.data.toList.drop 116 = dktX9_choir_5 := dk_seg dksX9_choir_4 24 rfl rfl
theorem dX9_choir_0 : decode cX9_choir 0 = .ok (.iconst 1, 1) := dk_4 (dk_at dksX9_choir_0 0 rfl rfl)
theorem dX9_choir_1 : decode cX9_choir 1 = .ok (.iload_n 1, 1) := dk_27 (dk_at dksX9_choir_0 1 rfl rfl)
theorem dX9_choir_2 : decode cX9_choir 2 = .ok (.ishl, 1) := dk_120 (dk_at dksX9_choir_0 2 rfl rfl)
theorem dX9_choir_3 : decode cX9_choir 3 = .ok (.istore_n 2, 1) := dk_61 (dk_at dksX9_choir_0 3 rfl rfl)
theorem dX9_choir_4 : decode cX9_choir 4 = .ok (.iconst 0, 1) := dk_3 (dk_at dksX9_choir_0 4 rfl rfl)
theorem dX9_choir_5 : decode cX9_choir 5 = .ok (.istore_n 3, 1) := dk_62 (dk_at dksX9_choir_0 5 rfl rfl)
theorem dX9_choir_6 : decode cX9_choir 6 = .ok (.iload_n 3, 1) := dk_29 (dk_at dksX9_choir_0 6 rfl rfl)
theorem dX9_choir_7 : decode cX9_choir 7 = .ok (.aload_n 0, 1) := dk_42 (dk_at dksX9_choir_0 7 rfl rfl)
theorem dX9_choir_8 : decode cX9_choir 8 = .ok (.getfield 7, 3) := dk_180 0 7 (dk_at dksX9_choir_0 8 rfl rfl)
theorem dX9_choir_11 : decode cX9_choir 11 = .ok (.iconst 2, 1) := dk_5 (dk_at dksX9_choir_0 11 rfl rfl)
theorem dX9_choir_12 : decode cX9_choir 12 = .ok (.iaload, 1) := dk_46 (dk_at dksX9_choir_0 12 rfl rfl)
theorem dX9_choir_13 : decode cX9_choir 13 = .ok (.if_icmp .ge 103, 3) := dk_162 0 103 (dk_at dksX9_choir_0 13 rfl rfl)
theorem dX9_choir_16 : decode cX9_choir 16 = .ok (.iconst 0, 1) := dk_3 (dk_at dksX9_choir_0 16 rfl rfl)
theorem dX9_choir_17 : decode cX9_choir 17 = .ok (.istore 4, 2) := dk_54 4 (dk_at dksX9_choir_0 17 rfl rfl)
theorem dX9_choir_19 : decode cX9_choir 19 = .ok (.iload 4, 2) := dk_21 4 (dk_at dksX9_choir_0 19 rfl rfl)
theorem dX9_choir_21 : decode cX9_choir 21 = .ok (.aload_n 0, 1) := dk_42 (dk_at dksX9_choir_0 21 rfl rfl)
theorem dX9_choir_22 : decode cX9_choir 22 = .ok (.getfield 7, 3) := dk_180 0 7 (dk_at dksX9_choir_1 0 rfl rfl)
theorem dX9_choir_25 : decode cX9_choir 25 = .ok (.iconst 2, 1) := dk_5 (dk_at dksX9_choir_1 3 rfl rfl)
theorem dX9_choir_26 : decode cX9_choir 26 = .ok (.iaload, 1) := dk_46 (dk_at dksX9_choir_1 4 rfl rfl)
theorem dX9_choir_27 : decode cX9_choir 27 = .ok (.if_icmp .ge 83, 3) := dk_162 0 83 (dk_at dksX9_choir_1 5 rfl rfl)
theorem dX9_choir_30 : decode cX9_choir 30 = .ok (.iconst 0, 1) := dk_3 (dk_at dksX9_choir_1 8 rfl rfl)
theorem dX9_choir_31 : decode cX9_choir 31 = .ok (.istore 5, 2) := dk_54 5 (dk_at dksX9_choir_1 9 rfl rfl)
theorem dX9_choir_33 : decode cX9_choir 33 = .ok (.iload 5, 2) := dk_21 5 (dk_at dksX9_choir_1 11 rfl rfl)
theorem dX9_choir_35 : decode cX9_choir 35 = .ok (.aload_n 0, 1) := dk_42 (dk_at dksX9_choir_1 13 rfl rfl)
theorem dX9_choir_36 : decode cX9_choir 36 = .ok (.getfield 7, 3) := dk_180 0 7 (dk_at dksX9_choir_1 14 rfl rfl)
theorem dX9_choir_39 : decode cX9_choir 39 = .ok (.iconst 2, 1) := dk_5 (dk_at dksX9_choir_1 17 rfl rfl)
theorem dX9_choir_40 : decode cX9_choir 40 = .ok (.iaload, 1) := dk_46 (dk_at dksX9_choir_1 18 rfl rfl)
theorem dX9_choir_41 : decode cX9_choir 41 = .ok (.if_icmp .ge 63, 3) := dk_162 0 63 (dk_at dksX9_choir_1 19 rfl rfl)
theorem dX9_choir_44 : decode cX9_choir 44 = .ok (.iload_n 2, 1) := dk_28 (dk_at dksX9_choir_1 22 rfl rfl)
theorem dX9_choir_45 : decode cX9_choir 45 = .ok (.iload 4, 2) := dk_21 4 (dk_at dksX9_choir_2 0 rfl rfl)
theorem dX9_choir_47 : decode cX9_choir 47 = .ok (.ishr, 1) := dk_122 (dk_at dksX9_choir_2 2 rfl rfl)
theorem dX9_choir_48 : decode cX9_choir 48 = .ok (.iconst 1, 1) := dk_4 (dk_at dksX9_choir_2 3 rfl rfl)
theorem dX9_choir_49 : decode cX9_choir 49 = .ok (.iand, 1) := dk_126 (dk_at dksX9_choir_2 4 rfl rfl)
theorem dX9_choir_50 : decode cX9_choir 50 = .ok (.iconst 1, 1) := dk_4 (dk_at dksX9_choir_2 5 rfl rfl)
theorem dX9_choir_51 : decode cX9_choir 51 = .ok (.if_icmp .ne 28, 3) := dk_160 0 28 (dk_at dksX9_choir_2 6 rfl rfl)
theorem dX9_choir_54 : decode cX9_choir 54 = .ok (.aload_n 0, 1) := dk_42 (dk_at dksX9_choir_2 9 rfl rfl)
theorem dX9_choir_55 : decode cX9_choir 55 = .ok (.aload_n 0, 1) := dk_42 (dk_at dksX9_choir_2 10 rfl rfl)
theorem dX9_choir_56 : decode cX9_choir 56 = .ok (.iload 4, 2) := dk_21 4 (dk_at dksX9_choir_2 11 rfl rfl)
theorem dX9_choir_58 : decode cX9_choir 58 = .ok (.iconst 3, 1) := dk_6 (dk_at dksX9_choir_2 13 rfl rfl)
theorem dX9_choir_59 : decode cX9_choir 59 = .ok (.invokevirtual 64, 3) := dk_182 0 64 (dk_at dksX9_choir_2 14 rfl rfl)
theorem dX9_choir_62 : decode cX9_choir 62 = .ok (.aload_n 0, 1) := dk_42 (dk_at dksX9_choir_2 17 rfl rfl)
theorem dX9_choir_63 : decode cX9_choir 63 = .ok (.iload 5, 2) := dk_21 5 (dk_at dksX9_choir_2 18 rfl rfl)
theorem dX9_choir_65 : decode cX9_choir 65 = .ok (.iconst 3, 1) := dk_6 (dk_at dksX9_choir_2 20 rfl rfl)
theorem dX9_choir_66 : decode cX9_choir 66 = .ok (.invokevirtual 64, 3) := dk_182 0 64 (dk_at dksX9_choir_2 21 rfl rfl)
theorem dX9_choir_69 : decode cX9_choir 69 = .ok (.invokevirtual 102, 3) := dk_182 0 102 (dk_at dksX9_choir_3 0 rfl rfl)
theorem dX9_choir_72 : decode cX9_choir 72 = .ok (.ifCond .le 7, 3) := dk_158 0 7 (dk_at dksX9_choir_3 3 rfl rfl)
theorem dX9_choir_75 : decode cX9_choir 75 = .ok (.iconst 1, 1) := dk_4 (dk_at dksX9_choir_3 6 rfl rfl)
theorem dX9_choir_76 : decode cX9_choir 76 = .ok (.goto 4, 3) := dk_167 0 4 (dk_at dksX9_choir_3 7 rfl rfl)
theorem dX9_choir_79 : decode cX9_choir 79 = .ok (.iconst 0, 1) := dk_3 (dk_at dksX9_choir_3 10 rfl rfl)
theorem dX9_choir_80 : decode cX9_choir 80 = .ok (.istore 6, 2) := dk_54 6 (dk_at dksX9_choir_3 11 rfl rfl)
theorem dX9_choir_82 : decode cX9_choir 82 = .ok (.iload_n 2, 1) := dk_28 (dk_at dksX9_choir_3 13 rfl rfl)
theorem dX9_choir_83 : decode cX9_choir 83 = .ok (.iload 6, 2) := dk_21 6 (dk_at dksX9_choir_3 14 rfl rfl)
theorem dX9_choir_85 : decode cX9_choir 85 = .ok (.ifCond .eq 10, 3) := dk_153 0 10 (dk_at dksX9_choir_3 16 rfl rfl)
theorem dX9_choir_88 : decode cX9_choir 88 = .ok (.iconst 1, 1) := dk_4 (dk_at dksX9_choir_3 19 rfl rfl)
theorem dX9_choir_89 : decode cX9_choir 89 = .ok (.iload 5, 2) := dk_21 5 (dk_at dksX9_choir_3 20 rfl rfl)
theorem dX9_choir_91 : decode cX9_choir 91 = .ok (.ishl, 1) := dk_120 (dk_at dksX9_choir_3 22 rfl rfl)
theorem dX9_choir_92 : decode cX9_choir 92 = .ok (.goto 4, 3) := dk_167 0 4 (dk_at dksX9_choir_4 0 rfl rfl)
theorem dX9_choir_95 : decode cX9_choir 95 = .ok (.iconst 0, 1) := dk_3 (dk_at dksX9_choir_4 3 rfl rfl)
theorem dX9_choir_96 : decode cX9_choir 96 = .ok (.ior, 1) := dk_128 (dk_at dksX9_choir_4 4 rfl rfl)
theorem dX9_choir_97 : decode cX9_choir 97 = .ok (.istore_n 2, 1) := dk_61 (dk_at dksX9_choir_4 5 rfl rfl)
theorem dX9_choir_98 : decode cX9_choir 98 = .ok (.iinc 5 1, 3) := dk_132 5 1 (dk_at dksX9_choir_4 6 rfl rfl)
theorem dX9_choir_101 : decode cX9_choir 101 = .ok (.goto (-68), 3) := dk_167 255 188 (dk_at dksX9_choir_4 9 rfl rfl)
theorem dX9_choir_104 : decode cX9_choir 104 = .ok (.iinc 4 1, 3) := dk_132 4 1 (dk_at dksX9_choir_4 12 rfl rfl)
theorem dX9_choir_107 : decode cX9_choir 107 = .ok (.goto (-88), 3) := dk_167 255 168 (dk_at dksX9_choir_4 15 rfl rfl)
theorem dX9_choir_110 : decode cX9_choir 110 = .ok (.iinc 3 1, 3) := dk_132 3 1 (dk_at dksX9_choir_4 18 rfl rfl)
theorem dX9_choir_113 : decode cX9_choir 113 = .ok (.goto (-107), 3) := dk_167 255 149 (dk_at dksX9_choir_4 21 rfl rfl)
theorem dX9_choir_116 : decode cX9_choir 116 = .ok (.iload_n 2, 1) := dk_28 (dk_at dksX9_choir_5 0 rfl rfl)
theorem dX9_choir_117 : decode cX9_choir 117 = .ok (.ireturn, 1) := dk_172 (dk_at dksX9_choir_5 1 rfl rfl)
abbrev cX9_thrown : ByteArray := prog_11_method_2_code
def yX9_thrown : MethodName := ⟨RX9, "thrown", "()I"⟩
theorem dX9_thrown_0 : decode cX9_thrown 0 = .ok (.aload_n 0, 1) := by decide +kernel
theorem dX9_thrown_1 : decode cX9_thrown 1 = .ok (.getfield 57, 3) := by decide +kernel
theorem dX9_thrown_4 : decode cX9_thrown 4 = .ok (.ireturn, 1) := by decide +kernel
abbrev cX9_append : ByteArray := prog_11_method_83_code
def yX9_append : MethodName := ⟨RX9, "append", "(IIIII)I"⟩
def dkwX9_append_2 : List UInt8 := [182, 1, 96, 42, 180, 1, 93, 172]
abbrev dktX9_append_2 : List UInt8 := dkwX9_append_2 ++ []
def dkwX9_append_1 : List UInt8 := [182, 1, 96, 42, 28, 182, 1, 96, 42, 29, 182, 1, 96, 42, 21, 4, 182, 1, 96, 42, 21, 5]
abbrev dktX9_append_1 : List UInt8 := dkwX9_append_1 ++ dktX9_append_2
def dkwX9_append_0 : List UInt8 := [42, 3, 181, 0, 57, 42, 180, 1, 93, 16, 20, 96, 17, 2, 88, 164, 0, 5, 2, 172, 42, 27]
abbrev dktX9_append_0 : List UInt8 := dkwX9_append_0 ++ dktX9_append_1
theorem dksX9_append_0 : cX9_append.data.toList.drop 0 = dktX9_append_0 := by decide +kernel
theorem dksX9_append_1 : cX9_append.data.toList.drop 22 = dktX9_append_1 := dk_seg dksX9_append_0 22 rfl rfl
theorem dksX9_append_2 : cX9_append.data.toList.drop 44 = dktX9_append_2 := dk_seg dksX9_append_1 22 rfl rfl
theorem dX9_append_0 : decode cX9_append 0 = .ok (.aload_n 0, 1) := dk_42 (dk_at dksX9_append_0 0 rfl rfl)
theorem dX9_append_1 : decode cX9_append 1 = .ok (.iconst 0, 1) := dk_3 (dk_at dksX9_append_0 1 rfl rfl)
theorem dX9_append_2 : decode cX9_append 2 = .ok (.putfield 57, 3) := dk_181 0 57 (dk_at dksX9_append_0 2 rfl rfl)
theorem dX9_append_5 : decode cX9_append 5 = .ok (.aload_n 0, 1) := dk_42 (dk_at dksX9_append_0 5 rfl rfl)
theorem dX9_append_6 : decode cX9_append 6 = .ok (.getfield 349, 3) := dk_180 1 93 (dk_at dksX9_append_0 6 rfl rfl)
theorem dX9_append_9 : decode cX9_append 9 = .ok (.bipush 20, 2) := dk_16 20 (dk_at dksX9_append_0 9 rfl rfl)
theorem dX9_append_11 : decode cX9_append 11 = .ok (.iadd, 1) := dk_96 (dk_at dksX9_append_0 11 rfl rfl)
theorem dX9_append_12 : decode cX9_append 12 = .ok (.sipush 600, 3) := dk_17 2 88 (dk_at dksX9_append_0 12 rfl rfl)
theorem dX9_append_15 : decode cX9_append 15 = .ok (.if_icmp .le 5, 3) := dk_164 0 5 (dk_at dksX9_append_0 15 rfl rfl)
theorem dX9_append_18 : decode cX9_append 18 = .ok (.iconst (-1), 1) := dk_2 (dk_at dksX9_append_0 18 rfl rfl)
theorem dX9_append_19 : decode cX9_append 19 = .ok (.ireturn, 1) := dk_172 (dk_at dksX9_append_0 19 rfl rfl)
theorem dX9_append_20 : decode cX9_append 20 = .ok (.aload_n 0, 1) := dk_42 (dk_at dksX9_append_0 20 rfl rfl)
theorem dX9_append_21 : decode cX9_append 21 = .ok (.iload_n 1, 1) := dk_27 (dk_at dksX9_append_0 21 rfl rfl)
theorem dX9_append_22 : decode cX9_append 22 = .ok (.invokevirtual 352, 3) := dk_182 1 96 (dk_at dksX9_append_1 0 rfl rfl)
theorem dX9_append_25 : decode cX9_append 25 = .ok (.aload_n 0, 1) := dk_42 (dk_at dksX9_append_1 3 rfl rfl)
theorem dX9_append_26 : decode cX9_append 26 = .ok (.iload_n 2, 1) := dk_28 (dk_at dksX9_append_1 4 rfl rfl)
theorem dX9_append_27 : decode cX9_append 27 = .ok (.invokevirtual 352, 3) := dk_182 1 96 (dk_at dksX9_append_1 5 rfl rfl)
theorem dX9_append_30 : decode cX9_append 30 = .ok (.aload_n 0, 1) := dk_42 (dk_at dksX9_append_1 8 rfl rfl)
theorem dX9_append_31 : decode cX9_append 31 = .ok (.iload_n 3, 1) := dk_29 (dk_at dksX9_append_1 9 rfl rfl)
theorem dX9_append_32 : decode cX9_append 32 = .ok (.invokevirtual 352, 3) := dk_182 1 96 (dk_at dksX9_append_1 10 rfl rfl)
theorem dX9_append_35 : decode cX9_append 35 = .ok (.aload_n 0, 1) := dk_42 (dk_at dksX9_append_1 13 rfl rfl)
theorem dX9_append_36 : decode cX9_append 36 = .ok (.iload 4, 2) := dk_21 4 (dk_at dksX9_append_1 14 rfl rfl)
theorem dX9_append_38 : decode cX9_append 38 = .ok (.invokevirtual 352, 3) := dk_182 1 96 (dk_at dksX9_append_1 16 rfl rfl)
theorem dX9_append_41 : decode cX9_append 41 = .ok (.aload_n 0, 1) := dk_42 (dk_at dksX9_append_1 19 rfl rfl)
theorem dX9_append_42 : decode cX9_append 42 = .ok (.iload 5, 2) := dk_21 5 (dk_at dksX9_append_1 20 rfl rfl)
theorem dX9_append_44 : decode cX9_append 44 = .ok (.invokevirtual 352, 3) := dk_182 1 96 (dk_at dksX9_append_2 0 rfl rfl)
theorem dX9_append_47 : decode cX9_append 47 = .ok (.aload_n 0, 1) := dk_42 (dk_at dksX9_append_2 3 rfl rfl)
theorem dX9_append_48 : decode cX9_append 48 = .ok (.getfield 349, 3) := dk_180 1 93 (dk_at dksX9_append_2 4 rfl rfl)
theorem dX9_append_51 : decode cX9_append 51 = .ok (.ireturn, 1) := dk_172 (dk_at dksX9_append_2 7 rfl rfl)
abbrev cX9_type : ByteArray := prog_11_method_84_code
def yX9_type : MethodName := ⟨RX9, "type", "(I)V"⟩
def dkwX9_type_1 : List UInt8 := [89, 180, 1, 93, 4, 96, 181, 1, 93, 132, 2, 248, 167, 255, 223, 177]
abbrev dktX9_type_1 : List UInt8 := dkwX9_type_1 ++ []
def dkwX9_type_0 : List UInt8 := [16, 24, 61, 28, 155, 0, 35, 42, 180, 0, 25, 42, 180, 1, 93, 27, 28, 122, 17, 0, 255, 126, 79, 42]
abbrev dktX9_type_0 : List UInt8 := dkwX9_type_0 ++ dktX9_type_1
theorem dksX9_type_0 : cX9_type.data.toList.drop 0 = dktX9_type_0 := by decide +kernel
theorem dksX9_type_1 : cX9_type.data.toList.drop 24 = dktX9_type_1 := dk_seg dksX9_type_0 24 rfl rfl
theorem dX9_type_0 : decode cX9_type 0 = .ok (.bipush 24, 2) := dk_16 24 (dk_at dksX9_type_0 0 rfl rfl)
theorem dX9_type_2 : decode cX9_type 2 = .ok (.istore_n 2, 1) := dk_61 (dk_at dksX9_type_0 2 rfl rfl)
theorem dX9_type_3 : decode cX9_type 3 = .ok (.iload_n 2, 1) := dk_28 (dk_at dksX9_type_0 3 rfl rfl)
theorem dX9_type_4 : decode cX9_type 4 = .ok (.ifCond .lt 35, 3) := dk_155 0 35 (dk_at dksX9_type_0 4 rfl rfl)
theorem dX9_type_7 : decode cX9_type 7 = .ok (.aload_n 0, 1) := dk_42 (dk_at dksX9_type_0 7 rfl rfl)
theorem dX9_type_8 : decode cX9_type 8 = .ok (.getfield 25, 3) := dk_180 0 25 (dk_at dksX9_type_0 8 rfl rfl)
theorem dX9_type_11 : decode cX9_type 11 = .ok (.aload_n 0, 1) := dk_42 (dk_at dksX9_type_0 11 rfl rfl)
theorem dX9_type_12 : decode cX9_type 12 = .ok (.getfield 349, 3) := dk_180 1 93 (dk_at dksX9_type_0 12 rfl rfl)
theorem dX9_type_15 : decode cX9_type 15 = .ok (.iload_n 1, 1) := dk_27 (dk_at dksX9_type_0 15 rfl rfl)
theorem dX9_type_16 : decode cX9_type 16 = .ok (.iload_n 2, 1) := dk_28 (dk_at dksX9_type_0 16 rfl rfl)
theorem dX9_type_17 : decode cX9_type 17 = .ok (.ishr, 1) := dk_122 (dk_at dksX9_type_0 17 rfl rfl)
theorem dX9_type_18 : decode cX9_type 18 = .ok (.sipush 255, 3) := dk_17 0 255 (dk_at dksX9_type_0 18 rfl rfl)
theorem dX9_type_21 : decode cX9_type 21 = .ok (.iand, 1) := dk_126 (dk_at dksX9_type_0 21 rfl rfl)
theorem dX9_type_22 : decode cX9_type 22 = .ok (.iastore, 1) := dk_79 (dk_at dksX9_type_0 22 rfl rfl)
theorem dX9_type_23 : decode cX9_type 23 = .ok (.aload_n 0, 1) := dk_42 (dk_at dksX9_type_0 23 rfl rfl)
theorem dX9_type_24 : decode cX9_type 24 = .ok (.dup, 1) := dk_89 (dk_at dksX9_type_1 0 rfl rfl)
theorem dX9_type_25 : decode cX9_type 25 = .ok (.getfield 349, 3) := dk_180 1 93 (dk_at dksX9_type_1 1 rfl rfl)
theorem dX9_type_28 : decode cX9_type 28 = .ok (.iconst 1, 1) := dk_4 (dk_at dksX9_type_1 4 rfl rfl)
theorem dX9_type_29 : decode cX9_type 29 = .ok (.iadd, 1) := dk_96 (dk_at dksX9_type_1 5 rfl rfl)
theorem dX9_type_30 : decode cX9_type 30 = .ok (.putfield 349, 3) := dk_181 1 93 (dk_at dksX9_type_1 6 rfl rfl)
theorem dX9_type_33 : decode cX9_type 33 = .ok (.iinc 2 (-8), 3) := dk_132 2 248 (dk_at dksX9_type_1 9 rfl rfl)
theorem dX9_type_36 : decode cX9_type 36 = .ok (.goto (-33), 3) := dk_167 255 223 (dk_at dksX9_type_1 12 rfl rfl)
theorem dX9_type_39 : decode cX9_type 39 = .ok (.return_, 1) := dk_177 (dk_at dksX9_type_1 15 rfl rfl)
abbrev cX9_truncateInput : ByteArray := prog_11_method_85_code
def yX9_truncateInput : MethodName := ⟨RX9, "truncateInput", "(I)I"⟩
def dkwX9_truncateInput_1 : List UInt8 := [3, 172, 42, 27, 181, 1, 93, 27, 172]
abbrev dktX9_truncateInput_1 : List UInt8 := dkwX9_truncateInput_1 ++ []
def dkwX9_truncateInput_0 : List UInt8 := [42, 27, 3, 42, 180, 1, 93, 184, 0, 60, 154, 0, 7, 4, 167, 0, 4, 3, 182, 1, 99, 153, 0, 5]
abbrev dktX9_truncateInput_0 : List UInt8 := dkwX9_truncateInput_0 ++ dktX9_truncateInput_1
theorem dksX9_truncateInput_0 : cX9_truncateInput.data.toList.drop 0 = dktX9_truncateInput_0 := by decide +kernel
theorem dksX9_truncateInput_1 : cX9_truncateInput.data.toList.drop 24 = dktX9_truncateInput_1 := dk_seg dksX9_truncateInput_0 24 rfl rfl
theorem dX9_truncateInput_0 : decode cX9_truncateInput 0 = .ok (.aload_n 0, 1) := dk_42 (dk_at dksX9_truncateInput_0 0 rfl rfl)
theorem dX9_truncateInput_1 : decode cX9_truncateInput 1 = .ok (.iload_n 1, 1) := dk_27 (dk_at dksX9_truncateInput_0 1 rfl rfl)
theorem dX9_truncateInput_2 : decode cX9_truncateInput 2 = .ok (.iconst 0, 1) := dk_3 (dk_at dksX9_truncateInput_0 2 rfl rfl)
theorem dX9_truncateInput_3 : decode cX9_truncateInput 3 = .ok (.aload_n 0, 1) := dk_42 (dk_at dksX9_truncateInput_0 3 rfl rfl)
theorem dX9_truncateInput_4 : decode cX9_truncateInput 4 = .ok (.getfield 349, 3) := dk_180 1 93 (dk_at dksX9_truncateInput_0 4 rfl rfl)
theorem dX9_truncateInput_7 : decode cX9_truncateInput 7 = .ok (.invokestatic 60, 3) := dk_184 0 60 (dk_at dksX9_truncateInput_0 7 rfl rfl)
theorem dX9_truncateInput_10 : decode cX9_truncateInput 10 = .ok (.ifCond .ne 7, 3) := dk_154 0 7 (dk_at dksX9_truncateInput_0 10 rfl rfl)
theorem dX9_truncateInput_13 : decode cX9_truncateInput 13 = .ok (.iconst 1, 1) := dk_4 (dk_at dksX9_truncateInput_0 13 rfl rfl)
theorem dX9_truncateInput_14 : decode cX9_truncateInput 14 = .ok (.goto 4, 3) := dk_167 0 4 (dk_at dksX9_truncateInput_0 14 rfl rfl)
theorem dX9_truncateInput_17 : decode cX9_truncateInput 17 = .ok (.iconst 0, 1) := dk_3 (dk_at dksX9_truncateInput_0 17 rfl rfl)
theorem dX9_truncateInput_18 : decode cX9_truncateInput 18 = .ok (.invokevirtual 355, 3) := dk_182 1 99 (dk_at dksX9_truncateInput_0 18 rfl rfl)
theorem dX9_truncateInput_21 : decode cX9_truncateInput 21 = .ok (.ifCond .eq 5, 3) := dk_153 0 5 (dk_at dksX9_truncateInput_0 21 rfl rfl)
theorem dX9_truncateInput_24 : decode cX9_truncateInput 24 = .ok (.iconst 0, 1) := dk_3 (dk_at dksX9_truncateInput_1 0 rfl rfl)
theorem dX9_truncateInput_25 : decode cX9_truncateInput 25 = .ok (.ireturn, 1) := dk_172 (dk_at dksX9_truncateInput_1 1 rfl rfl)
theorem dX9_truncateInput_26 : decode cX9_truncateInput 26 = .ok (.aload_n 0, 1) := dk_42 (dk_at dksX9_truncateInput_1 2 rfl rfl)
theorem dX9_truncateInput_27 : decode cX9_truncateInput 27 = .ok (.iload_n 1, 1) := dk_27 (dk_at dksX9_truncateInput_1 3 rfl rfl)
theorem dX9_truncateInput_28 : decode cX9_truncateInput 28 = .ok (.putfield 349, 3) := dk_181 1 93 (dk_at dksX9_truncateInput_1 4 rfl rfl)
theorem dX9_truncateInput_31 : decode cX9_truncateInput 31 = .ok (.iload_n 1, 1) := dk_27 (dk_at dksX9_truncateInput_1 7 rfl rfl)
theorem dX9_truncateInput_32 : decode cX9_truncateInput 32 = .ok (.ireturn, 1) := dk_172 (dk_at dksX9_truncateInput_1 8 rfl rfl)
abbrev cX9_throwsOne : ByteArray := prog_11_method_4_code
def yX9_throwsOne : MethodName := ⟨RX9, "throwsOne", "(Z)Z"⟩
def dkwX9_throwsOne_0 : List UInt8 := [42, 27, 153, 0, 7, 4, 167, 0, 4, 3, 181, 0, 57, 27, 172]
abbrev dktX9_throwsOne_0 : List UInt8 := dkwX9_throwsOne_0 ++ []
theorem dksX9_throwsOne_0 : cX9_throwsOne.data.toList.drop 0 = dktX9_throwsOne_0 := by decide +kernel
theorem dX9_throwsOne_0 : decode cX9_throwsOne 0 = .ok (.aload_n 0, 1) := dk_42 (dk_at dksX9_throwsOne_0 0 rfl rfl)
theorem dX9_throwsOne_1 : decode cX9_throwsOne 1 = .ok (.iload_n 1, 1) := dk_27 (dk_at dksX9_throwsOne_0 1 rfl rfl)
theorem dX9_throwsOne_2 : decode cX9_throwsOne 2 = .ok (.ifCond .eq 7, 3) := dk_153 0 7 (dk_at dksX9_throwsOne_0 2 rfl rfl)
theorem dX9_throwsOne_5 : decode cX9_throwsOne 5 = .ok (.iconst 1, 1) := dk_4 (dk_at dksX9_throwsOne_0 5 rfl rfl)
theorem dX9_throwsOne_6 : decode cX9_throwsOne 6 = .ok (.goto 4, 3) := dk_167 0 4 (dk_at dksX9_throwsOne_0 6 rfl rfl)
theorem dX9_throwsOne_9 : decode cX9_throwsOne 9 = .ok (.iconst 0, 1) := dk_3 (dk_at dksX9_throwsOne_0 9 rfl rfl)
theorem dX9_throwsOne_10 : decode cX9_throwsOne 10 = .ok (.putfield 57, 3) := dk_181 0 57 (dk_at dksX9_throwsOne_0 10 rfl rfl)
theorem dX9_throwsOne_13 : decode cX9_throwsOne 13 = .ok (.iload_n 1, 1) := dk_27 (dk_at dksX9_throwsOne_0 13 rfl rfl)
theorem dX9_throwsOne_14 : decode cX9_throwsOne 14 = .ok (.ireturn, 1) := dk_172 (dk_at dksX9_throwsOne_0 14 rfl rfl)
abbrev cX9_runScript : ByteArray := prog_11_method_88_code
def yX9_runScript : MethodName := ⟨RX9, "runScript", "()I"⟩
def dkwX9_runScript_4 : List UInt8 := [182, 1, 108, 172]
abbrev dktX9_runScript_4 : List UInt8 := dkwX9_runScript_4 ++ []
def dkwX9_runScript_3 : List UInt8 := [42, 180, 0, 13, 27, 46, 79, 132, 1, 1, 167, 255, 234, 2, 172, 42, 42, 180, 0, 7, 5, 46]
abbrev dktX9_runScript_3 : List UInt8 := dkwX9_runScript_3 ++ dktX9_runScript_4
def dkwX9_runScript_2 : List UInt8 := [182, 1, 105, 42, 182, 0, 53, 154, 0, 32, 3, 60, 27, 17, 0, 186, 162, 0, 21, 42, 180, 0, 7, 27]
abbrev dktX9_runScript_2 : List UInt8 := dkwX9_runScript_2 ++ dktX9_runScript_3
def dkwX9_runScript_1 : List UInt8 := [27, 46, 79, 132, 1, 1, 167, 255, 233, 42, 42, 180, 1, 93, 181, 0, 157, 42, 3, 181, 1, 93, 42]
abbrev dktX9_runScript_1 : List UInt8 := dkwX9_runScript_1 ++ dktX9_runScript_2
def dkwX9_runScript_0 : List UInt8 := [42, 3, 181, 0, 57, 3, 60, 27, 42, 180, 1, 93, 162, 0, 21, 42, 180, 0, 28, 27, 42, 180, 0, 25]
abbrev dktX9_runScript_0 : List UInt8 := dkwX9_runScript_0 ++ dktX9_runScript_1
theorem dksX9_runScript_0 : cX9_runScript.data.toList.drop 0 = dktX9_runScript_0 := by decide +kernel
theorem dksX9_runScript_1 : cX9_runScript.data.toList.drop 24 = dktX9_runScript_1 := dk_seg dksX9_runScript_0 24 rfl rfl
theorem dksX9_runScript_2 : cX9_runScript.data.toList.drop 47 = dktX9_runScript_2 := dk_seg dksX9_runScript_1 23 rfl rfl
theorem dksX9_runScript_3 : cX9_runScript.data.toList.drop 71 = dktX9_runScript_3 := dk_seg dksX9_runScript_2 24 rfl rfl
theorem dksX9_runScript_4 : cX9_runScript.data.toList.drop 93 = dktX9_runScript_4 := dk_seg dksX9_runScript_3 22 rfl rfl
theorem dX9_runScript_0 : decode cX9_runScript 0 = .ok (.aload_n 0, 1) := dk_42 (dk_at dksX9_runScript_0 0 rfl rfl)
theorem dX9_runScript_1 : decode cX9_runScript 1 = .ok (.iconst 0, 1) := dk_3 (dk_at dksX9_runScript_0 1 rfl rfl)
theorem dX9_runScript_2 : decode cX9_runScript 2 = .ok (.putfield 57, 3) := dk_181 0 57 (dk_at dksX9_runScript_0 2 rfl rfl)
theorem dX9_runScript_5 : decode cX9_runScript 5 = .ok (.iconst 0, 1) := dk_3 (dk_at dksX9_runScript_0 5 rfl rfl)
theorem dX9_runScript_6 : decode cX9_runScript 6 = .ok (.istore_n 1, 1) := dk_60 (dk_at dksX9_runScript_0 6 rfl rfl)
theorem dX9_runScript_7 : decode cX9_runScript 7 = .ok (.iload_n 1, 1) := dk_27 (dk_at dksX9_runScript_0 7 rfl rfl)
theorem dX9_runScript_8 : decode cX9_runScript 8 = .ok (.aload_n 0, 1) := dk_42 (dk_at dksX9_runScript_0 8 rfl rfl)
theorem dX9_runScript_9 : decode cX9_runScript 9 = .ok (.getfield 349, 3) := dk_180 1 93 (dk_at dksX9_runScript_0 9 rfl rfl)
theorem dX9_runScript_12 : decode cX9_runScript 12 = .ok (.if_icmp .ge 21, 3) := dk_162 0 21 (dk_at dksX9_runScript_0 12 rfl rfl)
theorem dX9_runScript_15 : decode cX9_runScript 15 = .ok (.aload_n 0, 1) := dk_42 (dk_at dksX9_runScript_0 15 rfl rfl)
theorem dX9_runScript_16 : decode cX9_runScript 16 = .ok (.getfield 28, 3) := dk_180 0 28 (dk_at dksX9_runScript_0 16 rfl rfl)
theorem dX9_runScript_19 : decode cX9_runScript 19 = .ok (.iload_n 1, 1) := dk_27 (dk_at dksX9_runScript_0 19 rfl rfl)
theorem dX9_runScript_20 : decode cX9_runScript 20 = .ok (.aload_n 0, 1) := dk_42 (dk_at dksX9_runScript_0 20 rfl rfl)
theorem dX9_runScript_21 : decode cX9_runScript 21 = .ok (.getfield 25, 3) := dk_180 0 25 (dk_at dksX9_runScript_0 21 rfl rfl)
theorem dX9_runScript_24 : decode cX9_runScript 24 = .ok (.iload_n 1, 1) := dk_27 (dk_at dksX9_runScript_1 0 rfl rfl)
theorem dX9_runScript_25 : decode cX9_runScript 25 = .ok (.iaload, 1) := dk_46 (dk_at dksX9_runScript_1 1 rfl rfl)
theorem dX9_runScript_26 : decode cX9_runScript 26 = .ok (.iastore, 1) := dk_79 (dk_at dksX9_runScript_1 2 rfl rfl)
theorem dX9_runScript_27 : decode cX9_runScript 27 = .ok (.iinc 1 1, 3) := dk_132 1 1 (dk_at dksX9_runScript_1 3 rfl rfl)
theorem dX9_runScript_30 : decode cX9_runScript 30 = .ok (.goto (-23), 3) := dk_167 255 233 (dk_at dksX9_runScript_1 6 rfl rfl)
theorem dX9_runScript_33 : decode cX9_runScript 33 = .ok (.aload_n 0, 1) := dk_42 (dk_at dksX9_runScript_1 9 rfl rfl)
theorem dX9_runScript_34 : decode cX9_runScript 34 = .ok (.aload_n 0, 1) := dk_42 (dk_at dksX9_runScript_1 10 rfl rfl)
theorem dX9_runScript_35 : decode cX9_runScript 35 = .ok (.getfield 349, 3) := dk_180 1 93 (dk_at dksX9_runScript_1 11 rfl rfl)
theorem dX9_runScript_38 : decode cX9_runScript 38 = .ok (.putfield 157, 3) := dk_181 0 157 (dk_at dksX9_runScript_1 14 rfl rfl)
theorem dX9_runScript_41 : decode cX9_runScript 41 = .ok (.aload_n 0, 1) := dk_42 (dk_at dksX9_runScript_1 17 rfl rfl)
theorem dX9_runScript_42 : decode cX9_runScript 42 = .ok (.iconst 0, 1) := dk_3 (dk_at dksX9_runScript_1 18 rfl rfl)
theorem dX9_runScript_43 : decode cX9_runScript 43 = .ok (.putfield 349, 3) := dk_181 1 93 (dk_at dksX9_runScript_1 19 rfl rfl)
theorem dX9_runScript_46 : decode cX9_runScript 46 = .ok (.aload_n 0, 1) := dk_42 (dk_at dksX9_runScript_1 22 rfl rfl)
theorem dX9_runScript_47 : decode cX9_runScript 47 = .ok (.invokevirtual 361, 3) := dk_182 1 105 (dk_at dksX9_runScript_2 0 rfl rfl)
theorem dX9_runScript_50 : decode cX9_runScript 50 = .ok (.aload_n 0, 1) := dk_42 (dk_at dksX9_runScript_2 3 rfl rfl)
theorem dX9_runScript_51 : decode cX9_runScript 51 = .ok (.invokevirtual 53, 3) := dk_182 0 53 (dk_at dksX9_runScript_2 4 rfl rfl)
theorem dX9_runScript_54 : decode cX9_runScript 54 = .ok (.ifCond .ne 32, 3) := dk_154 0 32 (dk_at dksX9_runScript_2 7 rfl rfl)
theorem dX9_runScript_57 : decode cX9_runScript 57 = .ok (.iconst 0, 1) := dk_3 (dk_at dksX9_runScript_2 10 rfl rfl)
theorem dX9_runScript_58 : decode cX9_runScript 58 = .ok (.istore_n 1, 1) := dk_60 (dk_at dksX9_runScript_2 11 rfl rfl)
theorem dX9_runScript_59 : decode cX9_runScript 59 = .ok (.iload_n 1, 1) := dk_27 (dk_at dksX9_runScript_2 12 rfl rfl)
theorem dX9_runScript_60 : decode cX9_runScript 60 = .ok (.sipush 186, 3) := dk_17 0 186 (dk_at dksX9_runScript_2 13 rfl rfl)
theorem dX9_runScript_63 : decode cX9_runScript 63 = .ok (.if_icmp .ge 21, 3) := dk_162 0 21 (dk_at dksX9_runScript_2 16 rfl rfl)
theorem dX9_runScript_66 : decode cX9_runScript 66 = .ok (.aload_n 0, 1) := dk_42 (dk_at dksX9_runScript_2 19 rfl rfl)
theorem dX9_runScript_67 : decode cX9_runScript 67 = .ok (.getfield 7, 3) := dk_180 0 7 (dk_at dksX9_runScript_2 20 rfl rfl)
theorem dX9_runScript_70 : decode cX9_runScript 70 = .ok (.iload_n 1, 1) := dk_27 (dk_at dksX9_runScript_2 23 rfl rfl)
theorem dX9_runScript_71 : decode cX9_runScript 71 = .ok (.aload_n 0, 1) := dk_42 (dk_at dksX9_runScript_3 0 rfl rfl)
theorem dX9_runScript_72 : decode cX9_runScript 72 = .ok (.getfield 13, 3) := dk_180 0 13 (dk_at dksX9_runScript_3 1 rfl rfl)
theorem dX9_runScript_75 : decode cX9_runScript 75 = .ok (.iload_n 1, 1) := dk_27 (dk_at dksX9_runScript_3 4 rfl rfl)
theorem dX9_runScript_76 : decode cX9_runScript 76 = .ok (.iaload, 1) := dk_46 (dk_at dksX9_runScript_3 5 rfl rfl)
theorem dX9_runScript_77 : decode cX9_runScript 77 = .ok (.iastore, 1) := dk_79 (dk_at dksX9_runScript_3 6 rfl rfl)
theorem dX9_runScript_78 : decode cX9_runScript 78 = .ok (.iinc 1 1, 3) := dk_132 1 1 (dk_at dksX9_runScript_3 7 rfl rfl)
theorem dX9_runScript_81 : decode cX9_runScript 81 = .ok (.goto (-22), 3) := dk_167 255 234 (dk_at dksX9_runScript_3 10 rfl rfl)
theorem dX9_runScript_84 : decode cX9_runScript 84 = .ok (.iconst (-1), 1) := dk_2 (dk_at dksX9_runScript_3 13 rfl rfl)
theorem dX9_runScript_85 : decode cX9_runScript 85 = .ok (.ireturn, 1) := dk_172 (dk_at dksX9_runScript_3 14 rfl rfl)
theorem dX9_runScript_86 : decode cX9_runScript 86 = .ok (.aload_n 0, 1) := dk_42 (dk_at dksX9_runScript_3 15 rfl rfl)
theorem dX9_runScript_87 : decode cX9_runScript 87 = .ok (.aload_n 0, 1) := dk_42 (dk_at dksX9_runScript_3 16 rfl rfl)
theorem dX9_runScript_88 : decode cX9_runScript 88 = .ok (.getfield 7, 3) := dk_180 0 7 (dk_at dksX9_runScript_3 17 rfl rfl)
theorem dX9_runScript_91 : decode cX9_runScript 91 = .ok (.iconst 2, 1) := dk_5 (dk_at dksX9_runScript_3 20 rfl rfl)
theorem dX9_runScript_92 : decode cX9_runScript 92 = .ok (.iaload, 1) := dk_46 (dk_at dksX9_runScript_3 21 rfl rfl)
theorem dX9_runScript_93 : decode cX9_runScript 93 = .ok (.invokevirtual 364, 3) := dk_182 1 108 (dk_at dksX9_runScript_4 0 rfl rfl)
theorem dX9_runScript_96 : decode cX9_runScript 96 = .ok (.ireturn, 1) := dk_172 (dk_at dksX9_runScript_4 3 rfl rfl)
abbrev cX9_begins : ByteArray := prog_11_method_86_code
def yX9_begins : MethodName := ⟨RX9, "begins", "()V"⟩
def dkwX9_begins_1 : List UInt8 := [167, 255, 234, 177]
abbrev dktX9_begins_1 : List UInt8 := dkwX9_begins_1 ++ []
def dkwX9_begins_0 : List UInt8 := [3, 60, 27, 17, 0, 186, 162, 0, 21, 42, 180, 0, 13, 27, 42, 180, 0, 7, 27, 46, 79, 132, 1, 1]
abbrev dktX9_begins_0 : List UInt8 := dkwX9_begins_0 ++ dktX9_begins_1
theorem dksX9_begins_0 : cX9_begins.data.toList.drop 0 = dktX9_begins_0 := by decide +kernel
theorem dksX9_begins_1 : cX9_begins.data.toList.drop 24 = dktX9_begins_1 := dk_seg dksX9_begins_0 24 rfl rfl
theorem dX9_begins_0 : decode cX9_begins 0 = .ok (.iconst 0, 1) := dk_3 (dk_at dksX9_begins_0 0 rfl rfl)
theorem dX9_begins_1 : decode cX9_begins 1 = .ok (.istore_n 1, 1) := dk_60 (dk_at dksX9_begins_0 1 rfl rfl)
theorem dX9_begins_2 : decode cX9_begins 2 = .ok (.iload_n 1, 1) := dk_27 (dk_at dksX9_begins_0 2 rfl rfl)
theorem dX9_begins_3 : decode cX9_begins 3 = .ok (.sipush 186, 3) := dk_17 0 186 (dk_at dksX9_begins_0 3 rfl rfl)
theorem dX9_begins_6 : decode cX9_begins 6 = .ok (.if_icmp .ge 21, 3) := dk_162 0 21 (dk_at dksX9_begins_0 6 rfl rfl)
theorem dX9_begins_9 : decode cX9_begins 9 = .ok (.aload_n 0, 1) := dk_42 (dk_at dksX9_begins_0 9 rfl rfl)
theorem dX9_begins_10 : decode cX9_begins 10 = .ok (.getfield 13, 3) := dk_180 0 13 (dk_at dksX9_begins_0 10 rfl rfl)
theorem dX9_begins_13 : decode cX9_begins 13 = .ok (.iload_n 1, 1) := dk_27 (dk_at dksX9_begins_0 13 rfl rfl)
theorem dX9_begins_14 : decode cX9_begins 14 = .ok (.aload_n 0, 1) := dk_42 (dk_at dksX9_begins_0 14 rfl rfl)
theorem dX9_begins_15 : decode cX9_begins 15 = .ok (.getfield 7, 3) := dk_180 0 7 (dk_at dksX9_begins_0 15 rfl rfl)
theorem dX9_begins_18 : decode cX9_begins 18 = .ok (.iload_n 1, 1) := dk_27 (dk_at dksX9_begins_0 18 rfl rfl)
theorem dX9_begins_19 : decode cX9_begins 19 = .ok (.iaload, 1) := dk_46 (dk_at dksX9_begins_0 19 rfl rfl)
theorem dX9_begins_20 : decode cX9_begins 20 = .ok (.iastore, 1) := dk_79 (dk_at dksX9_begins_0 20 rfl rfl)
theorem dX9_begins_21 : decode cX9_begins 21 = .ok (.iinc 1 1, 3) := dk_132 1 1 (dk_at dksX9_begins_0 21 rfl rfl)
theorem dX9_begins_24 : decode cX9_begins 24 = .ok (.goto (-22), 3) := dk_167 255 234 (dk_at dksX9_begins_1 0 rfl rfl)
theorem dX9_begins_27 : decode cX9_begins 27 = .ok (.return_, 1) := dk_177 (dk_at dksX9_begins_1 3 rfl rfl)
abbrev cX9_remember : ByteArray := prog_11_method_87_code
def yX9_remember : MethodName := ⟨RX9, "remember", "(I)I"⟩
def dkwX9_remember_4 : List UInt8 := [181, 1, 102, 27, 172]
abbrev dktX9_remember_4 : List UInt8 := dkwX9_remember_4 ++ []
def dkwX9_remember_3 : List UInt8 := [104, 28, 96, 42, 180, 0, 13, 28, 46, 79, 132, 2, 1, 167, 255, 225, 42, 89, 180, 1, 102, 4, 96]
abbrev dktX9_remember_3 : List UInt8 := dkwX9_remember_3 ++ dktX9_remember_4
def dkwX9_remember_2 : List UInt8 := [100, 181, 1, 102, 3, 61, 28, 17, 0, 186, 162, 0, 30, 42, 180, 0, 19, 17, 0, 186, 42, 180, 1, 102]
abbrev dktX9_remember_2 : List UInt8 := dkwX9_remember_2 ++ dktX9_remember_3
def dkwX9_remember_1 : List UInt8 := [28, 17, 0, 186, 100, 42, 180, 0, 19, 28, 46, 79, 132, 2, 1, 167, 255, 230, 42, 89, 180, 1, 102, 4]
abbrev dktX9_remember_1 : List UInt8 := dkwX9_remember_1 ++ dktX9_remember_2
def dkwX9_remember_0 : List UInt8 := [42, 180, 1, 102, 16, 8, 160, 0, 46, 17, 0, 186, 61, 28, 17, 5, 208, 162, 0, 25, 42, 180, 0, 19]
abbrev dktX9_remember_0 : List UInt8 := dkwX9_remember_0 ++ dktX9_remember_1
theorem dksX9_remember_0 : cX9_remember.data.toList.drop 0 = dktX9_remember_0 := by decide +kernel
theorem dksX9_remember_1 : cX9_remember.data.toList.drop 24 = dktX9_remember_1 := dk_seg dksX9_remember_0 24 rfl rfl
theorem dksX9_remember_2 : cX9_remember.data.toList.drop 48 = dktX9_remember_2 := dk_seg dksX9_remember_1 24 rfl rfl
theorem dksX9_remember_3 : cX9_remember.data.toList.drop 72 = dktX9_remember_3 := dk_seg dksX9_remember_2 24 rfl rfl
theorem dksX9_remember_4 : cX9_remember.data.toList.drop 95 = dktX9_remember_4 := dk_seg dksX9_remember_3 23 rfl rfl
theorem dX9_remember_0 : decode cX9_remember 0 = .ok (.aload_n 0, 1) := dk_42 (dk_at dksX9_remember_0 0 rfl rfl)
theorem dX9_remember_1 : decode cX9_remember 1 = .ok (.getfield 358, 3) := dk_180 1 102 (dk_at dksX9_remember_0 1 rfl rfl)
theorem dX9_remember_4 : decode cX9_remember 4 = .ok (.bipush 8, 2) := dk_16 8 (dk_at dksX9_remember_0 4 rfl rfl)
theorem dX9_remember_6 : decode cX9_remember 6 = .ok (.if_icmp .ne 46, 3) := dk_160 0 46 (dk_at dksX9_remember_0 6 rfl rfl)
theorem dX9_remember_9 : decode cX9_remember 9 = .ok (.sipush 186, 3) := dk_17 0 186 (dk_at dksX9_remember_0 9 rfl rfl)
theorem dX9_remember_12 : decode cX9_remember 12 = .ok (.istore_n 2, 1) := dk_61 (dk_at dksX9_remember_0 12 rfl rfl)
theorem dX9_remember_13 : decode cX9_remember 13 = .ok (.iload_n 2, 1) := dk_28 (dk_at dksX9_remember_0 13 rfl rfl)
theorem dX9_remember_14 : decode cX9_remember 14 = .ok (.sipush 1488, 3) := dk_17 5 208 (dk_at dksX9_remember_0 14 rfl rfl)
theorem dX9_remember_17 : decode cX9_remember 17 = .ok (.if_icmp .ge 25, 3) := dk_162 0 25 (dk_at dksX9_remember_0 17 rfl rfl)
theorem dX9_remember_20 : decode cX9_remember 20 = .ok (.aload_n 0, 1) := dk_42 (dk_at dksX9_remember_0 20 rfl rfl)
theorem dX9_remember_21 : decode cX9_remember 21 = .ok (.getfield 19, 3) := dk_180 0 19 (dk_at dksX9_remember_0 21 rfl rfl)
theorem dX9_remember_24 : decode cX9_remember 24 = .ok (.iload_n 2, 1) := dk_28 (dk_at dksX9_remember_1 0 rfl rfl)
theorem dX9_remember_25 : decode cX9_remember 25 = .ok (.sipush 186, 3) := dk_17 0 186 (dk_at dksX9_remember_1 1 rfl rfl)
theorem dX9_remember_28 : decode cX9_remember 28 = .ok (.isub, 1) := dk_100 (dk_at dksX9_remember_1 4 rfl rfl)
theorem dX9_remember_29 : decode cX9_remember 29 = .ok (.aload_n 0, 1) := dk_42 (dk_at dksX9_remember_1 5 rfl rfl)
theorem dX9_remember_30 : decode cX9_remember 30 = .ok (.getfield 19, 3) := dk_180 0 19 (dk_at dksX9_remember_1 6 rfl rfl)
theorem dX9_remember_33 : decode cX9_remember 33 = .ok (.iload_n 2, 1) := dk_28 (dk_at dksX9_remember_1 9 rfl rfl)
theorem dX9_remember_34 : decode cX9_remember 34 = .ok (.iaload, 1) := dk_46 (dk_at dksX9_remember_1 10 rfl rfl)
theorem dX9_remember_35 : decode cX9_remember 35 = .ok (.iastore, 1) := dk_79 (dk_at dksX9_remember_1 11 rfl rfl)
theorem dX9_remember_36 : decode cX9_remember 36 = .ok (.iinc 2 1, 3) := dk_132 2 1 (dk_at dksX9_remember_1 12 rfl rfl)
theorem dX9_remember_39 : decode cX9_remember 39 = .ok (.goto (-26), 3) := dk_167 255 230 (dk_at dksX9_remember_1 15 rfl rfl)
theorem dX9_remember_42 : decode cX9_remember 42 = .ok (.aload_n 0, 1) := dk_42 (dk_at dksX9_remember_1 18 rfl rfl)
theorem dX9_remember_43 : decode cX9_remember 43 = .ok (.dup, 1) := dk_89 (dk_at dksX9_remember_1 19 rfl rfl)
theorem dX9_remember_44 : decode cX9_remember 44 = .ok (.getfield 358, 3) := dk_180 1 102 (dk_at dksX9_remember_1 20 rfl rfl)
theorem dX9_remember_47 : decode cX9_remember 47 = .ok (.iconst 1, 1) := dk_4 (dk_at dksX9_remember_1 23 rfl rfl)
theorem dX9_remember_48 : decode cX9_remember 48 = .ok (.isub, 1) := dk_100 (dk_at dksX9_remember_2 0 rfl rfl)
theorem dX9_remember_49 : decode cX9_remember 49 = .ok (.putfield 358, 3) := dk_181 1 102 (dk_at dksX9_remember_2 1 rfl rfl)
theorem dX9_remember_52 : decode cX9_remember 52 = .ok (.iconst 0, 1) := dk_3 (dk_at dksX9_remember_2 4 rfl rfl)
theorem dX9_remember_53 : decode cX9_remember 53 = .ok (.istore_n 2, 1) := dk_61 (dk_at dksX9_remember_2 5 rfl rfl)
theorem dX9_remember_54 : decode cX9_remember 54 = .ok (.iload_n 2, 1) := dk_28 (dk_at dksX9_remember_2 6 rfl rfl)
theorem dX9_remember_55 : decode cX9_remember 55 = .ok (.sipush 186, 3) := dk_17 0 186 (dk_at dksX9_remember_2 7 rfl rfl)
theorem dX9_remember_58 : decode cX9_remember 58 = .ok (.if_icmp .ge 30, 3) := dk_162 0 30 (dk_at dksX9_remember_2 10 rfl rfl)
theorem dX9_remember_61 : decode cX9_remember 61 = .ok (.aload_n 0, 1) := dk_42 (dk_at dksX9_remember_2 13 rfl rfl)
theorem dX9_remember_62 : decode cX9_remember 62 = .ok (.getfield 19, 3) := dk_180 0 19 (dk_at dksX9_remember_2 14 rfl rfl)
theorem dX9_remember_65 : decode cX9_remember 65 = .ok (.sipush 186, 3) := dk_17 0 186 (dk_at dksX9_remember_2 17 rfl rfl)
theorem dX9_remember_68 : decode cX9_remember 68 = .ok (.aload_n 0, 1) := dk_42 (dk_at dksX9_remember_2 20 rfl rfl)
theorem dX9_remember_69 : decode cX9_remember 69 = .ok (.getfield 358, 3) := dk_180 1 102 (dk_at dksX9_remember_2 21 rfl rfl)
theorem dX9_remember_72 : decode cX9_remember 72 = .ok (.imul, 1) := dk_104 (dk_at dksX9_remember_3 0 rfl rfl)
theorem dX9_remember_73 : decode cX9_remember 73 = .ok (.iload_n 2, 1) := dk_28 (dk_at dksX9_remember_3 1 rfl rfl)
theorem dX9_remember_74 : decode cX9_remember 74 = .ok (.iadd, 1) := dk_96 (dk_at dksX9_remember_3 2 rfl rfl)
theorem dX9_remember_75 : decode cX9_remember 75 = .ok (.aload_n 0, 1) := dk_42 (dk_at dksX9_remember_3 3 rfl rfl)
theorem dX9_remember_76 : decode cX9_remember 76 = .ok (.getfield 13, 3) := dk_180 0 13 (dk_at dksX9_remember_3 4 rfl rfl)
theorem dX9_remember_79 : decode cX9_remember 79 = .ok (.iload_n 2, 1) := dk_28 (dk_at dksX9_remember_3 7 rfl rfl)
theorem dX9_remember_80 : decode cX9_remember 80 = .ok (.iaload, 1) := dk_46 (dk_at dksX9_remember_3 8 rfl rfl)
theorem dX9_remember_81 : decode cX9_remember 81 = .ok (.iastore, 1) := dk_79 (dk_at dksX9_remember_3 9 rfl rfl)
theorem dX9_remember_82 : decode cX9_remember 82 = .ok (.iinc 2 1, 3) := dk_132 2 1 (dk_at dksX9_remember_3 10 rfl rfl)
theorem dX9_remember_85 : decode cX9_remember 85 = .ok (.goto (-31), 3) := dk_167 255 225 (dk_at dksX9_remember_3 13 rfl rfl)
theorem dX9_remember_88 : decode cX9_remember 88 = .ok (.aload_n 0, 1) := dk_42 (dk_at dksX9_remember_3 16 rfl rfl)
theorem dX9_remember_89 : decode cX9_remember 89 = .ok (.dup, 1) := dk_89 (dk_at dksX9_remember_3 17 rfl rfl)
theorem dX9_remember_90 : decode cX9_remember 90 = .ok (.getfield 358, 3) := dk_180 1 102 (dk_at dksX9_remember_3 18 rfl rfl)
theorem dX9_remember_93 : decode cX9_remember 93 = .ok (.iconst 1, 1) := dk_4 (dk_at dksX9_remember_3 21 rfl rfl)
theorem dX9_remember_94 : decode cX9_remember 94 = .ok (.iadd, 1) := dk_96 (dk_at dksX9_remember_3 22 rfl rfl)
theorem dX9_remember_95 : decode cX9_remember 95 = .ok (.putfield 358, 3) := dk_181 1 102 (dk_at dksX9_remember_4 0 rfl rfl)
theorem dX9_remember_98 : decode cX9_remember 98 = .ok (.iload_n 1, 1) := dk_27 (dk_at dksX9_remember_4 3 rfl rfl)
theorem dX9_remember_99 : decode cX9_remember 99 = .ok (.ireturn, 1) := dk_172 (dk_at dksX9_remember_4 4 rfl rfl)
abbrev cX9_addChimney : ByteArray := prog_11_method_89_code
def yX9_addChimney : MethodName := ⟨RX9, "addChimney", "(I)I"⟩
def dkwX9_addChimney_2 : List UInt8 := [182, 0, 198, 182, 1, 108, 172]
abbrev dktX9_addChimney_2 : List UInt8 := dkwX9_addChimney_2 ++ []
def dkwX9_addChimney_1 : List UInt8 := [160, 0, 7, 4, 167, 0, 4, 3, 182, 1, 111, 153, 0, 5, 3, 172, 42, 182, 1, 105, 42, 42, 27]
abbrev dktX9_addChimney_1 : List UInt8 := dkwX9_addChimney_1 ++ dktX9_addChimney_2
def dkwX9_addChimney_0 : List UInt8 := [42, 27, 3, 16, 9, 184, 0, 60, 154, 0, 7, 4, 167, 0, 4, 3, 42, 180, 0, 7, 3, 46, 16, 10]
abbrev dktX9_addChimney_0 : List UInt8 := dkwX9_addChimney_0 ++ dktX9_addChimney_1
theorem dksX9_addChimney_0 : cX9_addChimney.data.toList.drop 0 = dktX9_addChimney_0 := by decide +kernel
theorem dksX9_addChimney_1 : cX9_addChimney.data.toList.drop 24 = dktX9_addChimney_1 := dk_seg dksX9_addChimney_0 24 rfl rfl
theorem dksX9_addChimney_2 : cX9_addChimney.data.toList.drop 47 = dktX9_addChimney_2 := dk_seg dksX9_addChimney_1 23 rfl rfl
theorem dX9_addChimney_0 : decode cX9_addChimney 0 = .ok (.aload_n 0, 1) := dk_42 (dk_at dksX9_addChimney_0 0 rfl rfl)
theorem dX9_addChimney_1 : decode cX9_addChimney 1 = .ok (.iload_n 1, 1) := dk_27 (dk_at dksX9_addChimney_0 1 rfl rfl)
theorem dX9_addChimney_2 : decode cX9_addChimney 2 = .ok (.iconst 0, 1) := dk_3 (dk_at dksX9_addChimney_0 2 rfl rfl)
theorem dX9_addChimney_3 : decode cX9_addChimney 3 = .ok (.bipush 9, 2) := dk_16 9 (dk_at dksX9_addChimney_0 3 rfl rfl)
theorem dX9_addChimney_5 : decode cX9_addChimney 5 = .ok (.invokestatic 60, 3) := dk_184 0 60 (dk_at dksX9_addChimney_0 5 rfl rfl)
theorem dX9_addChimney_8 : decode cX9_addChimney 8 = .ok (.ifCond .ne 7, 3) := dk_154 0 7 (dk_at dksX9_addChimney_0 8 rfl rfl)
theorem dX9_addChimney_11 : decode cX9_addChimney 11 = .ok (.iconst 1, 1) := dk_4 (dk_at dksX9_addChimney_0 11 rfl rfl)
theorem dX9_addChimney_12 : decode cX9_addChimney 12 = .ok (.goto 4, 3) := dk_167 0 4 (dk_at dksX9_addChimney_0 12 rfl rfl)
theorem dX9_addChimney_15 : decode cX9_addChimney 15 = .ok (.iconst 0, 1) := dk_3 (dk_at dksX9_addChimney_0 15 rfl rfl)
theorem dX9_addChimney_16 : decode cX9_addChimney 16 = .ok (.aload_n 0, 1) := dk_42 (dk_at dksX9_addChimney_0 16 rfl rfl)
theorem dX9_addChimney_17 : decode cX9_addChimney 17 = .ok (.getfield 7, 3) := dk_180 0 7 (dk_at dksX9_addChimney_0 17 rfl rfl)
theorem dX9_addChimney_20 : decode cX9_addChimney 20 = .ok (.iconst 0, 1) := dk_3 (dk_at dksX9_addChimney_0 20 rfl rfl)
theorem dX9_addChimney_21 : decode cX9_addChimney 21 = .ok (.iaload, 1) := dk_46 (dk_at dksX9_addChimney_0 21 rfl rfl)
theorem dX9_addChimney_22 : decode cX9_addChimney 22 = .ok (.bipush 10, 2) := dk_16 10 (dk_at dksX9_addChimney_0 22 rfl rfl)
theorem dX9_addChimney_24 : decode cX9_addChimney 24 = .ok (.if_icmp .ne 7, 3) := dk_160 0 7 (dk_at dksX9_addChimney_1 0 rfl rfl)
theorem dX9_addChimney_27 : decode cX9_addChimney 27 = .ok (.iconst 1, 1) := dk_4 (dk_at dksX9_addChimney_1 3 rfl rfl)
theorem dX9_addChimney_28 : decode cX9_addChimney 28 = .ok (.goto 4, 3) := dk_167 0 4 (dk_at dksX9_addChimney_1 4 rfl rfl)
theorem dX9_addChimney_31 : decode cX9_addChimney 31 = .ok (.iconst 0, 1) := dk_3 (dk_at dksX9_addChimney_1 7 rfl rfl)
theorem dX9_addChimney_32 : decode cX9_addChimney 32 = .ok (.invokevirtual 367, 3) := dk_182 1 111 (dk_at dksX9_addChimney_1 8 rfl rfl)
theorem dX9_addChimney_35 : decode cX9_addChimney 35 = .ok (.ifCond .eq 5, 3) := dk_153 0 5 (dk_at dksX9_addChimney_1 11 rfl rfl)
theorem dX9_addChimney_38 : decode cX9_addChimney 38 = .ok (.iconst 0, 1) := dk_3 (dk_at dksX9_addChimney_1 14 rfl rfl)
theorem dX9_addChimney_39 : decode cX9_addChimney 39 = .ok (.ireturn, 1) := dk_172 (dk_at dksX9_addChimney_1 15 rfl rfl)
theorem dX9_addChimney_40 : decode cX9_addChimney 40 = .ok (.aload_n 0, 1) := dk_42 (dk_at dksX9_addChimney_1 16 rfl rfl)
theorem dX9_addChimney_41 : decode cX9_addChimney 41 = .ok (.invokevirtual 361, 3) := dk_182 1 105 (dk_at dksX9_addChimney_1 17 rfl rfl)
theorem dX9_addChimney_44 : decode cX9_addChimney 44 = .ok (.aload_n 0, 1) := dk_42 (dk_at dksX9_addChimney_1 20 rfl rfl)
theorem dX9_addChimney_45 : decode cX9_addChimney 45 = .ok (.aload_n 0, 1) := dk_42 (dk_at dksX9_addChimney_1 21 rfl rfl)
theorem dX9_addChimney_46 : decode cX9_addChimney 46 = .ok (.iload_n 1, 1) := dk_27 (dk_at dksX9_addChimney_1 22 rfl rfl)
theorem dX9_addChimney_47 : decode cX9_addChimney 47 = .ok (.invokevirtual 198, 3) := dk_182 0 198 (dk_at dksX9_addChimney_2 0 rfl rfl)
theorem dX9_addChimney_50 : decode cX9_addChimney 50 = .ok (.invokevirtual 364, 3) := dk_182 1 108 (dk_at dksX9_addChimney_2 3 rfl rfl)
theorem dX9_addChimney_53 : decode cX9_addChimney 53 = .ok (.ireturn, 1) := dk_172 (dk_at dksX9_addChimney_2 6 rfl rfl)
abbrev cX9_throwsOne_2 : ByteArray := prog_11_method_5_code
def yX9_throwsOne_2 : MethodName := ⟨RX9, "throwsOne", "(ZZ)Z"⟩
def dkwX9_throwsOne_2_1 : List UInt8 := [154, 0, 7, 28, 153, 0, 7, 4, 167, 0, 4, 3, 172]
abbrev dktX9_throwsOne_2_1 : List UInt8 := dkwX9_throwsOne_2_1 ++ []
def dkwX9_throwsOne_2_0 : List UInt8 := [42, 27, 153, 0, 7, 4, 167, 0, 12, 28, 153, 0, 7, 5, 167, 0, 4, 3, 181, 0, 57, 27]
abbrev dktX9_throwsOne_2_0 : List UInt8 := dkwX9_throwsOne_2_0 ++ dktX9_throwsOne_2_1
theorem dksX9_throwsOne_2_0 : cX9_throwsOne_2.data.toList.drop 0 = dktX9_throwsOne_2_0 := by decide +kernel
theorem dksX9_throwsOne_2_1 : cX9_throwsOne_2.data.toList.drop 22 = dktX9_throwsOne_2_1 := dk_seg dksX9_throwsOne_2_0 22 rfl rfl
theorem dX9_throwsOne_2_0 : decode cX9_throwsOne_2 0 = .ok (.aload_n 0, 1) := dk_42 (dk_at dksX9_throwsOne_2_0 0 rfl rfl)
theorem dX9_throwsOne_2_1 : decode cX9_throwsOne_2 1 = .ok (.iload_n 1, 1) := dk_27 (dk_at dksX9_throwsOne_2_0 1 rfl rfl)
theorem dX9_throwsOne_2_2 : decode cX9_throwsOne_2 2 = .ok (.ifCond .eq 7, 3) := dk_153 0 7 (dk_at dksX9_throwsOne_2_0 2 rfl rfl)
theorem dX9_throwsOne_2_5 : decode cX9_throwsOne_2 5 = .ok (.iconst 1, 1) := dk_4 (dk_at dksX9_throwsOne_2_0 5 rfl rfl)
theorem dX9_throwsOne_2_6 : decode cX9_throwsOne_2 6 = .ok (.goto 12, 3) := dk_167 0 12 (dk_at dksX9_throwsOne_2_0 6 rfl rfl)
theorem dX9_throwsOne_2_9 : decode cX9_throwsOne_2 9 = .ok (.iload_n 2, 1) := dk_28 (dk_at dksX9_throwsOne_2_0 9 rfl rfl)
theorem dX9_throwsOne_2_10 : decode cX9_throwsOne_2 10 = .ok (.ifCond .eq 7, 3) := dk_153 0 7 (dk_at dksX9_throwsOne_2_0 10 rfl rfl)
theorem dX9_throwsOne_2_13 : decode cX9_throwsOne_2 13 = .ok (.iconst 2, 1) := dk_5 (dk_at dksX9_throwsOne_2_0 13 rfl rfl)
theorem dX9_throwsOne_2_14 : decode cX9_throwsOne_2 14 = .ok (.goto 4, 3) := dk_167 0 4 (dk_at dksX9_throwsOne_2_0 14 rfl rfl)
theorem dX9_throwsOne_2_17 : decode cX9_throwsOne_2 17 = .ok (.iconst 0, 1) := dk_3 (dk_at dksX9_throwsOne_2_0 17 rfl rfl)
theorem dX9_throwsOne_2_18 : decode cX9_throwsOne_2 18 = .ok (.putfield 57, 3) := dk_181 0 57 (dk_at dksX9_throwsOne_2_0 18 rfl rfl)
theorem dX9_throwsOne_2_21 : decode cX9_throwsOne_2 21 = .ok (.iload_n 1, 1) := dk_27 (dk_at dksX9_throwsOne_2_0 21 rfl rfl)
theorem dX9_throwsOne_2_22 : decode cX9_throwsOne_2 22 = .ok (.ifCond .ne 7, 3) := dk_154 0 7 (dk_at dksX9_throwsOne_2_1 0 rfl rfl)
theorem dX9_throwsOne_2_25 : decode cX9_throwsOne_2 25 = .ok (.iload_n 2, 1) := dk_28 (dk_at dksX9_throwsOne_2_1 3 rfl rfl)
theorem dX9_throwsOne_2_26 : decode cX9_throwsOne_2 26 = .ok (.ifCond .eq 7, 3) := dk_153 0 7 (dk_at dksX9_throwsOne_2_1 4 rfl rfl)
theorem dX9_throwsOne_2_29 : decode cX9_throwsOne_2 29 = .ok (.iconst 1, 1) := dk_4 (dk_at dksX9_throwsOne_2_1 7 rfl rfl)
theorem dX9_throwsOne_2_30 : decode cX9_throwsOne_2 30 = .ok (.goto 4, 3) := dk_167 0 4 (dk_at dksX9_throwsOne_2_1 8 rfl rfl)
theorem dX9_throwsOne_2_33 : decode cX9_throwsOne_2 33 = .ok (.iconst 0, 1) := dk_3 (dk_at dksX9_throwsOne_2_1 11 rfl rfl)
theorem dX9_throwsOne_2_34 : decode cX9_throwsOne_2 34 = .ok (.ireturn, 1) := dk_172 (dk_at dksX9_throwsOne_2_1 12 rfl rfl)
abbrev cX9_addGutter : ByteArray := prog_11_method_90_code
def yX9_addGutter : MethodName := ⟨RX9, "addGutter", "(III)I"⟩
def dkwX9_addGutter_3 : List UInt8 := [27, 28, 29, 182, 0, 207, 182, 1, 108, 172]
abbrev dktX9_addGutter_3 : List UInt8 := dkwX9_addGutter_3 ++ []
def dkwX9_addGutter_2 : List UInt8 := [16, 20, 160, 0, 7, 4, 167, 0, 4, 3, 182, 1, 117, 153, 0, 5, 3, 172, 42, 182, 1, 105, 42, 42]
abbrev dktX9_addGutter_2 : List UInt8 := dkwX9_addGutter_2 ++ dktX9_addGutter_3
def dkwX9_addGutter_1 : List UInt8 := [159, 0, 13, 29, 4, 16, 9, 184, 0, 60, 154, 0, 7, 4, 167, 0, 4, 3, 42, 180, 0, 7, 4, 46]
abbrev dktX9_addGutter_1 : List UInt8 := dkwX9_addGutter_1 ++ dktX9_addGutter_2
def dkwX9_addGutter_0 : List UInt8 := [42, 42, 27, 182, 1, 114, 153, 0, 11, 42, 28, 182, 1, 114, 154, 0, 7, 4, 167, 0, 4, 3, 27, 28]
abbrev dktX9_addGutter_0 : List UInt8 := dkwX9_addGutter_0 ++ dktX9_addGutter_1
theorem dksX9_addGutter_0 : cX9_addGutter.data.toList.drop 0 = dktX9_addGutter_0 := by decide +kernel
theorem dksX9_addGutter_1 : cX9_addGutter.data.toList.drop 24 = dktX9_addGutter_1 := dk_seg dksX9_addGutter_0 24 rfl rfl
theorem dksX9_addGutter_2 : cX9_addGutter.data.toList.drop 48 = dktX9_addGutter_2 := dk_seg dksX9_addGutter_1 24 rfl rfl
theorem dksX9_addGutter_3 : cX9_addGutter.data.toList.drop 72 = dktX9_addGutter_3 := dk_seg dksX9_addGutter_2 24 rfl rfl
theorem dX9_addGutter_0 : decode cX9_addGutter 0 = .ok (.aload_n 0, 1) := dk_42 (dk_at dksX9_addGutter_0 0 rfl rfl)
theorem dX9_addGutter_1 : decode cX9_addGutter 1 = .ok (.aload_n 0, 1) := dk_42 (dk_at dksX9_addGutter_0 1 rfl rfl)
theorem dX9_addGutter_2 : decode cX9_addGutter 2 = .ok (.iload_n 1, 1) := dk_27 (dk_at dksX9_addGutter_0 2 rfl rfl)
theorem dX9_addGutter_3 : decode cX9_addGutter 3 = .ok (.invokevirtual 370, 3) := dk_182 1 114 (dk_at dksX9_addGutter_0 3 rfl rfl)
theorem dX9_addGutter_6 : decode cX9_addGutter 6 = .ok (.ifCond .eq 11, 3) := dk_153 0 11 (dk_at dksX9_addGutter_0 6 rfl rfl)
theorem dX9_addGutter_9 : decode cX9_addGutter 9 = .ok (.aload_n 0, 1) := dk_42 (dk_at dksX9_addGutter_0 9 rfl rfl)
theorem dX9_addGutter_10 : decode cX9_addGutter 10 = .ok (.iload_n 2, 1) := dk_28 (dk_at dksX9_addGutter_0 10 rfl rfl)
theorem dX9_addGutter_11 : decode cX9_addGutter 11 = .ok (.invokevirtual 370, 3) := dk_182 1 114 (dk_at dksX9_addGutter_0 11 rfl rfl)
theorem dX9_addGutter_14 : decode cX9_addGutter 14 = .ok (.ifCond .ne 7, 3) := dk_154 0 7 (dk_at dksX9_addGutter_0 14 rfl rfl)
theorem dX9_addGutter_17 : decode cX9_addGutter 17 = .ok (.iconst 1, 1) := dk_4 (dk_at dksX9_addGutter_0 17 rfl rfl)
theorem dX9_addGutter_18 : decode cX9_addGutter 18 = .ok (.goto 4, 3) := dk_167 0 4 (dk_at dksX9_addGutter_0 18 rfl rfl)
theorem dX9_addGutter_21 : decode cX9_addGutter 21 = .ok (.iconst 0, 1) := dk_3 (dk_at dksX9_addGutter_0 21 rfl rfl)
theorem dX9_addGutter_22 : decode cX9_addGutter 22 = .ok (.iload_n 1, 1) := dk_27 (dk_at dksX9_addGutter_0 22 rfl rfl)
theorem dX9_addGutter_23 : decode cX9_addGutter 23 = .ok (.iload_n 2, 1) := dk_28 (dk_at dksX9_addGutter_0 23 rfl rfl)
theorem dX9_addGutter_24 : decode cX9_addGutter 24 = .ok (.if_icmp .eq 13, 3) := dk_159 0 13 (dk_at dksX9_addGutter_1 0 rfl rfl)
theorem dX9_addGutter_27 : decode cX9_addGutter 27 = .ok (.iload_n 3, 1) := dk_29 (dk_at dksX9_addGutter_1 3 rfl rfl)
theorem dX9_addGutter_28 : decode cX9_addGutter 28 = .ok (.iconst 1, 1) := dk_4 (dk_at dksX9_addGutter_1 4 rfl rfl)
theorem dX9_addGutter_29 : decode cX9_addGutter 29 = .ok (.bipush 9, 2) := dk_16 9 (dk_at dksX9_addGutter_1 5 rfl rfl)
theorem dX9_addGutter_31 : decode cX9_addGutter 31 = .ok (.invokestatic 60, 3) := dk_184 0 60 (dk_at dksX9_addGutter_1 7 rfl rfl)
theorem dX9_addGutter_34 : decode cX9_addGutter 34 = .ok (.ifCond .ne 7, 3) := dk_154 0 7 (dk_at dksX9_addGutter_1 10 rfl rfl)
theorem dX9_addGutter_37 : decode cX9_addGutter 37 = .ok (.iconst 1, 1) := dk_4 (dk_at dksX9_addGutter_1 13 rfl rfl)
theorem dX9_addGutter_38 : decode cX9_addGutter 38 = .ok (.goto 4, 3) := dk_167 0 4 (dk_at dksX9_addGutter_1 14 rfl rfl)
theorem dX9_addGutter_41 : decode cX9_addGutter 41 = .ok (.iconst 0, 1) := dk_3 (dk_at dksX9_addGutter_1 17 rfl rfl)
theorem dX9_addGutter_42 : decode cX9_addGutter 42 = .ok (.aload_n 0, 1) := dk_42 (dk_at dksX9_addGutter_1 18 rfl rfl)
theorem dX9_addGutter_43 : decode cX9_addGutter 43 = .ok (.getfield 7, 3) := dk_180 0 7 (dk_at dksX9_addGutter_1 19 rfl rfl)
theorem dX9_addGutter_46 : decode cX9_addGutter 46 = .ok (.iconst 1, 1) := dk_4 (dk_at dksX9_addGutter_1 22 rfl rfl)
theorem dX9_addGutter_47 : decode cX9_addGutter 47 = .ok (.iaload, 1) := dk_46 (dk_at dksX9_addGutter_1 23 rfl rfl)
theorem dX9_addGutter_48 : decode cX9_addGutter 48 = .ok (.bipush 20, 2) := dk_16 20 (dk_at dksX9_addGutter_2 0 rfl rfl)
theorem dX9_addGutter_50 : decode cX9_addGutter 50 = .ok (.if_icmp .ne 7, 3) := dk_160 0 7 (dk_at dksX9_addGutter_2 2 rfl rfl)
theorem dX9_addGutter_53 : decode cX9_addGutter 53 = .ok (.iconst 1, 1) := dk_4 (dk_at dksX9_addGutter_2 5 rfl rfl)
theorem dX9_addGutter_54 : decode cX9_addGutter 54 = .ok (.goto 4, 3) := dk_167 0 4 (dk_at dksX9_addGutter_2 6 rfl rfl)
theorem dX9_addGutter_57 : decode cX9_addGutter 57 = .ok (.iconst 0, 1) := dk_3 (dk_at dksX9_addGutter_2 9 rfl rfl)
theorem dX9_addGutter_58 : decode cX9_addGutter 58 = .ok (.invokevirtual 373, 3) := dk_182 1 117 (dk_at dksX9_addGutter_2 10 rfl rfl)
theorem dX9_addGutter_61 : decode cX9_addGutter 61 = .ok (.ifCond .eq 5, 3) := dk_153 0 5 (dk_at dksX9_addGutter_2 13 rfl rfl)
theorem dX9_addGutter_64 : decode cX9_addGutter 64 = .ok (.iconst 0, 1) := dk_3 (dk_at dksX9_addGutter_2 16 rfl rfl)
theorem dX9_addGutter_65 : decode cX9_addGutter 65 = .ok (.ireturn, 1) := dk_172 (dk_at dksX9_addGutter_2 17 rfl rfl)
theorem dX9_addGutter_66 : decode cX9_addGutter 66 = .ok (.aload_n 0, 1) := dk_42 (dk_at dksX9_addGutter_2 18 rfl rfl)
theorem dX9_addGutter_67 : decode cX9_addGutter 67 = .ok (.invokevirtual 361, 3) := dk_182 1 105 (dk_at dksX9_addGutter_2 19 rfl rfl)
theorem dX9_addGutter_70 : decode cX9_addGutter 70 = .ok (.aload_n 0, 1) := dk_42 (dk_at dksX9_addGutter_2 22 rfl rfl)
theorem dX9_addGutter_71 : decode cX9_addGutter 71 = .ok (.aload_n 0, 1) := dk_42 (dk_at dksX9_addGutter_2 23 rfl rfl)
theorem dX9_addGutter_72 : decode cX9_addGutter 72 = .ok (.iload_n 1, 1) := dk_27 (dk_at dksX9_addGutter_3 0 rfl rfl)
theorem dX9_addGutter_73 : decode cX9_addGutter 73 = .ok (.iload_n 2, 1) := dk_28 (dk_at dksX9_addGutter_3 1 rfl rfl)
theorem dX9_addGutter_74 : decode cX9_addGutter 74 = .ok (.iload_n 3, 1) := dk_29 (dk_at dksX9_addGutter_3 2 rfl rfl)
theorem dX9_addGutter_75 : decode cX9_addGutter 75 = .ok (.invokevirtual 207, 3) := dk_182 0 207 (dk_at dksX9_addGutter_3 3 rfl rfl)
theorem dX9_addGutter_78 : decode cX9_addGutter 78 = .ok (.invokevirtual 364, 3) := dk_182 1 108 (dk_at dksX9_addGutter_3 6 rfl rfl)
theorem dX9_addGutter_81 : decode cX9_addGutter 81 = .ok (.ireturn, 1) := dk_172 (dk_at dksX9_addGutter_3 9 rfl rfl)
abbrev cX9_isChimney : ByteArray := prog_11_method_7_code
def yX9_isChimney : MethodName := ⟨RX9, "isChimney", "(I)Z"⟩
def dkwX9_isChimney_0 : List UInt8 := [27, 3, 42, 180, 0, 7, 3, 46, 4, 100, 184, 0, 60, 172]
abbrev dktX9_isChimney_0 : List UInt8 := dkwX9_isChimney_0 ++ []
theorem dksX9_isChimney_0 : cX9_isChimney.data.toList.drop 0 = dktX9_isChimney_0 := by decide +kernel
theorem dX9_isChimney_0 : decode cX9_isChimney 0 = .ok (.iload_n 1, 1) := dk_27 (dk_at dksX9_isChimney_0 0 rfl rfl)
theorem dX9_isChimney_1 : decode cX9_isChimney 1 = .ok (.iconst 0, 1) := dk_3 (dk_at dksX9_isChimney_0 1 rfl rfl)
theorem dX9_isChimney_2 : decode cX9_isChimney 2 = .ok (.aload_n 0, 1) := dk_42 (dk_at dksX9_isChimney_0 2 rfl rfl)
theorem dX9_isChimney_3 : decode cX9_isChimney 3 = .ok (.getfield 7, 3) := dk_180 0 7 (dk_at dksX9_isChimney_0 3 rfl rfl)
theorem dX9_isChimney_6 : decode cX9_isChimney 6 = .ok (.iconst 0, 1) := dk_3 (dk_at dksX9_isChimney_0 6 rfl rfl)
theorem dX9_isChimney_7 : decode cX9_isChimney 7 = .ok (.iaload, 1) := dk_46 (dk_at dksX9_isChimney_0 7 rfl rfl)
theorem dX9_isChimney_8 : decode cX9_isChimney 8 = .ok (.iconst 1, 1) := dk_4 (dk_at dksX9_isChimney_0 8 rfl rfl)
theorem dX9_isChimney_9 : decode cX9_isChimney 9 = .ok (.isub, 1) := dk_100 (dk_at dksX9_isChimney_0 9 rfl rfl)
theorem dX9_isChimney_10 : decode cX9_isChimney 10 = .ok (.invokestatic 60, 3) := dk_184 0 60 (dk_at dksX9_isChimney_0 10 rfl rfl)
theorem dX9_isChimney_13 : decode cX9_isChimney 13 = .ok (.ireturn, 1) := dk_172 (dk_at dksX9_isChimney_0 13 rfl rfl)
abbrev cX9_throwsOne_3 : ByteArray := prog_11_method_6_code
def yX9_throwsOne_3 : MethodName := ⟨RX9, "throwsOne", "(ZZZ)Z"⟩
def dkwX9_throwsOne_3_2 : List UInt8 := [172]
abbrev dktX9_throwsOne_3_2 : List UInt8 := dkwX9_throwsOne_3_2 ++ []
def dkwX9_throwsOne_3_1 : List UInt8 := [167, 0, 4, 3, 181, 0, 57, 27, 154, 0, 11, 28, 154, 0, 7, 29, 153, 0, 7, 4, 167, 0, 4, 3]
abbrev dktX9_throwsOne_3_1 : List UInt8 := dkwX9_throwsOne_3_1 ++ dktX9_throwsOne_3_2
def dkwX9_throwsOne_3_0 : List UInt8 := [42, 27, 153, 0, 7, 4, 167, 0, 20, 28, 153, 0, 7, 5, 167, 0, 12, 29, 153, 0, 7, 6]
abbrev dktX9_throwsOne_3_0 : List UInt8 := dkwX9_throwsOne_3_0 ++ dktX9_throwsOne_3_1
theorem dksX9_throwsOne_3_0 : cX9_throwsOne_3.data.toList.drop 0 = dktX9_throwsOne_3_0 := by decide +kernel
theorem dksX9_throwsOne_3_1 : cX9_throwsOne_3.data.toList.drop 22 = dktX9_throwsOne_3_1 := dk_seg dksX9_throwsOne_3_0 22 rfl rfl
theorem dksX9_throwsOne_3_2 : cX9_throwsOne_3.data.toList.drop 46 = dktX9_throwsOne_3_2 := dk_seg dksX9_throwsOne_3_1 24 rfl rfl
theorem dX9_throwsOne_3_0 : decode cX9_throwsOne_3 0 = .ok (.aload_n 0, 1) := dk_42 (dk_at dksX9_throwsOne_3_0 0 rfl rfl)
theorem dX9_throwsOne_3_1 : decode cX9_throwsOne_3 1 = .ok (.iload_n 1, 1) := dk_27 (dk_at dksX9_throwsOne_3_0 1 rfl rfl)
theorem dX9_throwsOne_3_2 : decode cX9_throwsOne_3 2 = .ok (.ifCond .eq 7, 3) := dk_153 0 7 (dk_at dksX9_throwsOne_3_0 2 rfl rfl)
theorem dX9_throwsOne_3_5 : decode cX9_throwsOne_3 5 = .ok (.iconst 1, 1) := dk_4 (dk_at dksX9_throwsOne_3_0 5 rfl rfl)
theorem dX9_throwsOne_3_6 : decode cX9_throwsOne_3 6 = .ok (.goto 20, 3) := dk_167 0 20 (dk_at dksX9_throwsOne_3_0 6 rfl rfl)
theorem dX9_throwsOne_3_9 : decode cX9_throwsOne_3 9 = .ok (.iload_n 2, 1) := dk_28 (dk_at dksX9_throwsOne_3_0 9 rfl rfl)
theorem dX9_throwsOne_3_10 : decode cX9_throwsOne_3 10 = .ok (.ifCond .eq 7, 3) := dk_153 0 7 (dk_at dksX9_throwsOne_3_0 10 rfl rfl)
theorem dX9_throwsOne_3_13 : decode cX9_throwsOne_3 13 = .ok (.iconst 2, 1) := dk_5 (dk_at dksX9_throwsOne_3_0 13 rfl rfl)
theorem dX9_throwsOne_3_14 : decode cX9_throwsOne_3 14 = .ok (.goto 12, 3) := dk_167 0 12 (dk_at dksX9_throwsOne_3_0 14 rfl rfl)
theorem dX9_throwsOne_3_17 : decode cX9_throwsOne_3 17 = .ok (.iload_n 3, 1) := dk_29 (dk_at dksX9_throwsOne_3_0 17 rfl rfl)
theorem dX9_throwsOne_3_18 : decode cX9_throwsOne_3 18 = .ok (.ifCond .eq 7, 3) := dk_153 0 7 (dk_at dksX9_throwsOne_3_0 18 rfl rfl)
theorem dX9_throwsOne_3_21 : decode cX9_throwsOne_3 21 = .ok (.iconst 3, 1) := dk_6 (dk_at dksX9_throwsOne_3_0 21 rfl rfl)
theorem dX9_throwsOne_3_22 : decode cX9_throwsOne_3 22 = .ok (.goto 4, 3) := dk_167 0 4 (dk_at dksX9_throwsOne_3_1 0 rfl rfl)
theorem dX9_throwsOne_3_25 : decode cX9_throwsOne_3 25 = .ok (.iconst 0, 1) := dk_3 (dk_at dksX9_throwsOne_3_1 3 rfl rfl)
theorem dX9_throwsOne_3_26 : decode cX9_throwsOne_3 26 = .ok (.putfield 57, 3) := dk_181 0 57 (dk_at dksX9_throwsOne_3_1 4 rfl rfl)
theorem dX9_throwsOne_3_29 : decode cX9_throwsOne_3 29 = .ok (.iload_n 1, 1) := dk_27 (dk_at dksX9_throwsOne_3_1 7 rfl rfl)
theorem dX9_throwsOne_3_30 : decode cX9_throwsOne_3 30 = .ok (.ifCond .ne 11, 3) := dk_154 0 11 (dk_at dksX9_throwsOne_3_1 8 rfl rfl)
theorem dX9_throwsOne_3_33 : decode cX9_throwsOne_3 33 = .ok (.iload_n 2, 1) := dk_28 (dk_at dksX9_throwsOne_3_1 11 rfl rfl)
theorem dX9_throwsOne_3_34 : decode cX9_throwsOne_3 34 = .ok (.ifCond .ne 7, 3) := dk_154 0 7 (dk_at dksX9_throwsOne_3_1 12 rfl rfl)
theorem dX9_throwsOne_3_37 : decode cX9_throwsOne_3 37 = .ok (.iload_n 3, 1) := dk_29 (dk_at dksX9_throwsOne_3_1 15 rfl rfl)
theorem dX9_throwsOne_3_38 : decode cX9_throwsOne_3 38 = .ok (.ifCond .eq 7, 3) := dk_153 0 7 (dk_at dksX9_throwsOne_3_1 16 rfl rfl)
theorem dX9_throwsOne_3_41 : decode cX9_throwsOne_3 41 = .ok (.iconst 1, 1) := dk_4 (dk_at dksX9_throwsOne_3_1 19 rfl rfl)
theorem dX9_throwsOne_3_42 : decode cX9_throwsOne_3 42 = .ok (.goto 4, 3) := dk_167 0 4 (dk_at dksX9_throwsOne_3_1 20 rfl rfl)
theorem dX9_throwsOne_3_45 : decode cX9_throwsOne_3 45 = .ok (.iconst 0, 1) := dk_3 (dk_at dksX9_throwsOne_3_1 23 rfl rfl)
theorem dX9_throwsOne_3_46 : decode cX9_throwsOne_3 46 = .ok (.ireturn, 1) := dk_172 (dk_at dksX9_throwsOne_3_2 0 rfl rfl)
abbrev cX9_addCat : ByteArray := prog_11_method_92_code
def yX9_addCat : MethodName := ⟨RX9, "addCat", "(III)I"⟩
def dkwX9_addCat_3 : List UInt8 := [182, 1, 108, 172]
abbrev dktX9_addCat_3 : List UInt8 := dkwX9_addCat_3 ++ []
def dkwX9_addCat_2 : List UInt8 := [167, 0, 4, 3, 182, 1, 117, 153, 0, 5, 3, 172, 42, 182, 1, 105, 42, 42, 27, 28, 29, 182, 0, 131]
abbrev dktX9_addCat_2 : List UInt8 := dkwX9_addCat_2 ++ dktX9_addCat_3
def dkwX9_addCat_1 : List UInt8 := [154, 0, 7, 4, 167, 0, 4, 3, 21, 4, 153, 0, 15, 42, 27, 182, 0, 213, 154, 0, 7, 4]
abbrev dktX9_addCat_1 : List UInt8 := dkwX9_addCat_1 ++ dktX9_addCat_2
def dkwX9_addCat_0 : List UInt8 := [42, 27, 182, 1, 114, 54, 4, 42, 21, 4, 154, 0, 7, 4, 167, 0, 4, 3, 28, 29, 184, 1, 120]
abbrev dktX9_addCat_0 : List UInt8 := dkwX9_addCat_0 ++ dktX9_addCat_1
theorem dksX9_addCat_0 : cX9_addCat.data.toList.drop 0 = dktX9_addCat_0 := by decide +kernel
theorem dksX9_addCat_1 : cX9_addCat.data.toList.drop 23 = dktX9_addCat_1 := dk_seg dksX9_addCat_0 23 rfl rfl
theorem dksX9_addCat_2 : cX9_addCat.data.toList.drop 45 = dktX9_addCat_2 := dk_seg dksX9_addCat_1 22 rfl rfl
theorem dksX9_addCat_3 : cX9_addCat.data.toList.drop 69 = dktX9_addCat_3 := dk_seg dksX9_addCat_2 24 rfl rfl
theorem dX9_addCat_0 : decode cX9_addCat 0 = .ok (.aload_n 0, 1) := dk_42 (dk_at dksX9_addCat_0 0 rfl rfl)
theorem dX9_addCat_1 : decode cX9_addCat 1 = .ok (.iload_n 1, 1) := dk_27 (dk_at dksX9_addCat_0 1 rfl rfl)
theorem dX9_addCat_2 : decode cX9_addCat 2 = .ok (.invokevirtual 370, 3) := dk_182 1 114 (dk_at dksX9_addCat_0 2 rfl rfl)
theorem dX9_addCat_5 : decode cX9_addCat 5 = .ok (.istore 4, 2) := dk_54 4 (dk_at dksX9_addCat_0 5 rfl rfl)
theorem dX9_addCat_7 : decode cX9_addCat 7 = .ok (.aload_n 0, 1) := dk_42 (dk_at dksX9_addCat_0 7 rfl rfl)
theorem dX9_addCat_8 : decode cX9_addCat 8 = .ok (.iload 4, 2) := dk_21 4 (dk_at dksX9_addCat_0 8 rfl rfl)
theorem dX9_addCat_10 : decode cX9_addCat 10 = .ok (.ifCond .ne 7, 3) := dk_154 0 7 (dk_at dksX9_addCat_0 10 rfl rfl)
theorem dX9_addCat_13 : decode cX9_addCat 13 = .ok (.iconst 1, 1) := dk_4 (dk_at dksX9_addCat_0 13 rfl rfl)
theorem dX9_addCat_14 : decode cX9_addCat 14 = .ok (.goto 4, 3) := dk_167 0 4 (dk_at dksX9_addCat_0 14 rfl rfl)
theorem dX9_addCat_17 : decode cX9_addCat 17 = .ok (.iconst 0, 1) := dk_3 (dk_at dksX9_addCat_0 17 rfl rfl)
theorem dX9_addCat_18 : decode cX9_addCat 18 = .ok (.iload_n 2, 1) := dk_28 (dk_at dksX9_addCat_0 18 rfl rfl)
theorem dX9_addCat_19 : decode cX9_addCat 19 = .ok (.iload_n 3, 1) := dk_29 (dk_at dksX9_addCat_0 19 rfl rfl)
theorem dX9_addCat_20 : decode cX9_addCat 20 = .ok (.invokestatic 376, 3) := dk_184 1 120 (dk_at dksX9_addCat_0 20 rfl rfl)
theorem dX9_addCat_23 : decode cX9_addCat 23 = .ok (.ifCond .ne 7, 3) := dk_154 0 7 (dk_at dksX9_addCat_1 0 rfl rfl)
theorem dX9_addCat_26 : decode cX9_addCat 26 = .ok (.iconst 1, 1) := dk_4 (dk_at dksX9_addCat_1 3 rfl rfl)
theorem dX9_addCat_27 : decode cX9_addCat 27 = .ok (.goto 4, 3) := dk_167 0 4 (dk_at dksX9_addCat_1 4 rfl rfl)
theorem dX9_addCat_30 : decode cX9_addCat 30 = .ok (.iconst 0, 1) := dk_3 (dk_at dksX9_addCat_1 7 rfl rfl)
theorem dX9_addCat_31 : decode cX9_addCat 31 = .ok (.iload 4, 2) := dk_21 4 (dk_at dksX9_addCat_1 8 rfl rfl)
theorem dX9_addCat_33 : decode cX9_addCat 33 = .ok (.ifCond .eq 15, 3) := dk_153 0 15 (dk_at dksX9_addCat_1 10 rfl rfl)
theorem dX9_addCat_36 : decode cX9_addCat 36 = .ok (.aload_n 0, 1) := dk_42 (dk_at dksX9_addCat_1 13 rfl rfl)
theorem dX9_addCat_37 : decode cX9_addCat 37 = .ok (.iload_n 1, 1) := dk_27 (dk_at dksX9_addCat_1 14 rfl rfl)
theorem dX9_addCat_38 : decode cX9_addCat 38 = .ok (.invokevirtual 213, 3) := dk_182 0 213 (dk_at dksX9_addCat_1 15 rfl rfl)
theorem dX9_addCat_41 : decode cX9_addCat 41 = .ok (.ifCond .ne 7, 3) := dk_154 0 7 (dk_at dksX9_addCat_1 18 rfl rfl)
theorem dX9_addCat_44 : decode cX9_addCat 44 = .ok (.iconst 1, 1) := dk_4 (dk_at dksX9_addCat_1 21 rfl rfl)
theorem dX9_addCat_45 : decode cX9_addCat 45 = .ok (.goto 4, 3) := dk_167 0 4 (dk_at dksX9_addCat_2 0 rfl rfl)
theorem dX9_addCat_48 : decode cX9_addCat 48 = .ok (.iconst 0, 1) := dk_3 (dk_at dksX9_addCat_2 3 rfl rfl)
theorem dX9_addCat_49 : decode cX9_addCat 49 = .ok (.invokevirtual 373, 3) := dk_182 1 117 (dk_at dksX9_addCat_2 4 rfl rfl)
theorem dX9_addCat_52 : decode cX9_addCat 52 = .ok (.ifCond .eq 5, 3) := dk_153 0 5 (dk_at dksX9_addCat_2 7 rfl rfl)
theorem dX9_addCat_55 : decode cX9_addCat 55 = .ok (.iconst 0, 1) := dk_3 (dk_at dksX9_addCat_2 10 rfl rfl)
theorem dX9_addCat_56 : decode cX9_addCat 56 = .ok (.ireturn, 1) := dk_172 (dk_at dksX9_addCat_2 11 rfl rfl)
theorem dX9_addCat_57 : decode cX9_addCat 57 = .ok (.aload_n 0, 1) := dk_42 (dk_at dksX9_addCat_2 12 rfl rfl)
theorem dX9_addCat_58 : decode cX9_addCat 58 = .ok (.invokevirtual 361, 3) := dk_182 1 105 (dk_at dksX9_addCat_2 13 rfl rfl)
theorem dX9_addCat_61 : decode cX9_addCat 61 = .ok (.aload_n 0, 1) := dk_42 (dk_at dksX9_addCat_2 16 rfl rfl)
theorem dX9_addCat_62 : decode cX9_addCat 62 = .ok (.aload_n 0, 1) := dk_42 (dk_at dksX9_addCat_2 17 rfl rfl)
theorem dX9_addCat_63 : decode cX9_addCat 63 = .ok (.iload_n 1, 1) := dk_27 (dk_at dksX9_addCat_2 18 rfl rfl)
theorem dX9_addCat_64 : decode cX9_addCat 64 = .ok (.iload_n 2, 1) := dk_28 (dk_at dksX9_addCat_2 19 rfl rfl)
theorem dX9_addCat_65 : decode cX9_addCat 65 = .ok (.iload_n 3, 1) := dk_29 (dk_at dksX9_addCat_2 20 rfl rfl)
theorem dX9_addCat_66 : decode cX9_addCat 66 = .ok (.invokevirtual 131, 3) := dk_182 0 131 (dk_at dksX9_addCat_2 21 rfl rfl)
theorem dX9_addCat_69 : decode cX9_addCat 69 = .ok (.invokevirtual 364, 3) := dk_182 1 108 (dk_at dksX9_addCat_3 0 rfl rfl)
theorem dX9_addCat_72 : decode cX9_addCat 72 = .ok (.ireturn, 1) := dk_172 (dk_at dksX9_addCat_3 3 rfl rfl)
abbrev cX9_areSizes : ByteArray := prog_11_method_91_code
def yX9_areSizes : MethodName := ⟨RX9, "areSizes", "(II)Z"⟩
def dkwX9_areSizes_1 : List UInt8 := [3, 172]
abbrev dktX9_areSizes_1 : List UInt8 := dkwX9_areSizes_1 ++ []
def dkwX9_areSizes_0 : List UInt8 := [26, 4, 16, 9, 184, 0, 60, 153, 0, 17, 27, 4, 16, 9, 184, 0, 60, 153, 0, 7, 4, 167, 0, 4]
abbrev dktX9_areSizes_0 : List UInt8 := dkwX9_areSizes_0 ++ dktX9_areSizes_1
theorem dksX9_areSizes_0 : cX9_areSizes.data.toList.drop 0 = dktX9_areSizes_0 := by decide +kernel
theorem dksX9_areSizes_1 : cX9_areSizes.data.toList.drop 24 = dktX9_areSizes_1 := dk_seg dksX9_areSizes_0 24 rfl rfl
theorem dX9_areSizes_0 : decode cX9_areSizes 0 = .ok (.iload_n 0, 1) := dk_26 (dk_at dksX9_areSizes_0 0 rfl rfl)
theorem dX9_areSizes_1 : decode cX9_areSizes 1 = .ok (.iconst 1, 1) := dk_4 (dk_at dksX9_areSizes_0 1 rfl rfl)
theorem dX9_areSizes_2 : decode cX9_areSizes 2 = .ok (.bipush 9, 2) := dk_16 9 (dk_at dksX9_areSizes_0 2 rfl rfl)
theorem dX9_areSizes_4 : decode cX9_areSizes 4 = .ok (.invokestatic 60, 3) := dk_184 0 60 (dk_at dksX9_areSizes_0 4 rfl rfl)
theorem dX9_areSizes_7 : decode cX9_areSizes 7 = .ok (.ifCond .eq 17, 3) := dk_153 0 17 (dk_at dksX9_areSizes_0 7 rfl rfl)
theorem dX9_areSizes_10 : decode cX9_areSizes 10 = .ok (.iload_n 1, 1) := dk_27 (dk_at dksX9_areSizes_0 10 rfl rfl)
theorem dX9_areSizes_11 : decode cX9_areSizes 11 = .ok (.iconst 1, 1) := dk_4 (dk_at dksX9_areSizes_0 11 rfl rfl)
theorem dX9_areSizes_12 : decode cX9_areSizes 12 = .ok (.bipush 9, 2) := dk_16 9 (dk_at dksX9_areSizes_0 12 rfl rfl)
theorem dX9_areSizes_14 : decode cX9_areSizes 14 = .ok (.invokestatic 60, 3) := dk_184 0 60 (dk_at dksX9_areSizes_0 14 rfl rfl)
theorem dX9_areSizes_17 : decode cX9_areSizes 17 = .ok (.ifCond .eq 7, 3) := dk_153 0 7 (dk_at dksX9_areSizes_0 17 rfl rfl)
theorem dX9_areSizes_20 : decode cX9_areSizes 20 = .ok (.iconst 1, 1) := dk_4 (dk_at dksX9_areSizes_0 20 rfl rfl)
theorem dX9_areSizes_21 : decode cX9_areSizes 21 = .ok (.goto 4, 3) := dk_167 0 4 (dk_at dksX9_areSizes_0 21 rfl rfl)
theorem dX9_areSizes_24 : decode cX9_areSizes 24 = .ok (.iconst 0, 1) := dk_3 (dk_at dksX9_areSizes_1 0 rfl rfl)
theorem dX9_areSizes_25 : decode cX9_areSizes 25 = .ok (.ireturn, 1) := dk_172 (dk_at dksX9_areSizes_1 1 rfl rfl)
abbrev cX9_step : ByteArray := prog_11_method_93_code
def yX9_step : MethodName := ⟨RX9, "step", "(II)I"⟩
def dkwX9_step_3 : List UInt8 := [182, 1, 108, 172]
abbrev dktX9_step_3 : List UInt8 := dkwX9_step_3 ++ []
def dkwX9_step_2 : List UInt8 := [167, 0, 4, 3, 182, 1, 111, 153, 0, 5, 3, 172, 42, 182, 1, 105, 42, 42, 27, 28, 182, 0, 222]
abbrev dktX9_step_2 : List UInt8 := dkwX9_step_2 ++ dktX9_step_3
def dkwX9_step_1 : List UInt8 := [154, 0, 7, 4, 167, 0, 4, 3, 29, 153, 0, 16, 42, 27, 28, 182, 0, 219, 153, 0, 7, 4]
abbrev dktX9_step_1 : List UInt8 := dkwX9_step_1 ++ dktX9_step_2
def dkwX9_step_0 : List UInt8 := [42, 27, 182, 1, 123, 153, 0, 15, 42, 28, 182, 1, 126, 153, 0, 7, 4, 167, 0, 4, 3, 62, 42, 29]
abbrev dktX9_step_0 : List UInt8 := dkwX9_step_0 ++ dktX9_step_1
theorem dksX9_step_0 : cX9_step.data.toList.drop 0 = dktX9_step_0 := by decide +kernel
theorem dksX9_step_1 : cX9_step.data.toList.drop 24 = dktX9_step_1 := dk_seg dksX9_step_0 24 rfl rfl
theorem dksX9_step_2 : cX9_step.data.toList.drop 46 = dktX9_step_2 := dk_seg dksX9_step_1 22 rfl rfl
theorem dksX9_step_3 : cX9_step.data.toList.drop 69 = dktX9_step_3 := dk_seg dksX9_step_2 23 rfl rfl
theorem dX9_step_0 : decode cX9_step 0 = .ok (.aload_n 0, 1) := dk_42 (dk_at dksX9_step_0 0 rfl rfl)
theorem dX9_step_1 : decode cX9_step 1 = .ok (.iload_n 1, 1) := dk_27 (dk_at dksX9_step_0 1 rfl rfl)
theorem dX9_step_2 : decode cX9_step 2 = .ok (.invokevirtual 379, 3) := dk_182 1 123 (dk_at dksX9_step_0 2 rfl rfl)
theorem dX9_step_5 : decode cX9_step 5 = .ok (.ifCond .eq 15, 3) := dk_153 0 15 (dk_at dksX9_step_0 5 rfl rfl)
theorem dX9_step_8 : decode cX9_step 8 = .ok (.aload_n 0, 1) := dk_42 (dk_at dksX9_step_0 8 rfl rfl)
theorem dX9_step_9 : decode cX9_step 9 = .ok (.iload_n 2, 1) := dk_28 (dk_at dksX9_step_0 9 rfl rfl)
theorem dX9_step_10 : decode cX9_step 10 = .ok (.invokevirtual 382, 3) := dk_182 1 126 (dk_at dksX9_step_0 10 rfl rfl)
theorem dX9_step_13 : decode cX9_step 13 = .ok (.ifCond .eq 7, 3) := dk_153 0 7 (dk_at dksX9_step_0 13 rfl rfl)
theorem dX9_step_16 : decode cX9_step 16 = .ok (.iconst 1, 1) := dk_4 (dk_at dksX9_step_0 16 rfl rfl)
theorem dX9_step_17 : decode cX9_step 17 = .ok (.goto 4, 3) := dk_167 0 4 (dk_at dksX9_step_0 17 rfl rfl)
theorem dX9_step_20 : decode cX9_step 20 = .ok (.iconst 0, 1) := dk_3 (dk_at dksX9_step_0 20 rfl rfl)
theorem dX9_step_21 : decode cX9_step 21 = .ok (.istore_n 3, 1) := dk_62 (dk_at dksX9_step_0 21 rfl rfl)
theorem dX9_step_22 : decode cX9_step 22 = .ok (.aload_n 0, 1) := dk_42 (dk_at dksX9_step_0 22 rfl rfl)
theorem dX9_step_23 : decode cX9_step 23 = .ok (.iload_n 3, 1) := dk_29 (dk_at dksX9_step_0 23 rfl rfl)
theorem dX9_step_24 : decode cX9_step 24 = .ok (.ifCond .ne 7, 3) := dk_154 0 7 (dk_at dksX9_step_1 0 rfl rfl)
theorem dX9_step_27 : decode cX9_step 27 = .ok (.iconst 1, 1) := dk_4 (dk_at dksX9_step_1 3 rfl rfl)
theorem dX9_step_28 : decode cX9_step 28 = .ok (.goto 4, 3) := dk_167 0 4 (dk_at dksX9_step_1 4 rfl rfl)
theorem dX9_step_31 : decode cX9_step 31 = .ok (.iconst 0, 1) := dk_3 (dk_at dksX9_step_1 7 rfl rfl)
theorem dX9_step_32 : decode cX9_step 32 = .ok (.iload_n 3, 1) := dk_29 (dk_at dksX9_step_1 8 rfl rfl)
theorem dX9_step_33 : decode cX9_step 33 = .ok (.ifCond .eq 16, 3) := dk_153 0 16 (dk_at dksX9_step_1 9 rfl rfl)
theorem dX9_step_36 : decode cX9_step 36 = .ok (.aload_n 0, 1) := dk_42 (dk_at dksX9_step_1 12 rfl rfl)
theorem dX9_step_37 : decode cX9_step 37 = .ok (.iload_n 1, 1) := dk_27 (dk_at dksX9_step_1 13 rfl rfl)
theorem dX9_step_38 : decode cX9_step 38 = .ok (.iload_n 2, 1) := dk_28 (dk_at dksX9_step_1 14 rfl rfl)
theorem dX9_step_39 : decode cX9_step 39 = .ok (.invokevirtual 219, 3) := dk_182 0 219 (dk_at dksX9_step_1 15 rfl rfl)
theorem dX9_step_42 : decode cX9_step 42 = .ok (.ifCond .eq 7, 3) := dk_153 0 7 (dk_at dksX9_step_1 18 rfl rfl)
theorem dX9_step_45 : decode cX9_step 45 = .ok (.iconst 1, 1) := dk_4 (dk_at dksX9_step_1 21 rfl rfl)
theorem dX9_step_46 : decode cX9_step 46 = .ok (.goto 4, 3) := dk_167 0 4 (dk_at dksX9_step_2 0 rfl rfl)
theorem dX9_step_49 : decode cX9_step 49 = .ok (.iconst 0, 1) := dk_3 (dk_at dksX9_step_2 3 rfl rfl)
theorem dX9_step_50 : decode cX9_step 50 = .ok (.invokevirtual 367, 3) := dk_182 1 111 (dk_at dksX9_step_2 4 rfl rfl)
theorem dX9_step_53 : decode cX9_step 53 = .ok (.ifCond .eq 5, 3) := dk_153 0 5 (dk_at dksX9_step_2 7 rfl rfl)
theorem dX9_step_56 : decode cX9_step 56 = .ok (.iconst 0, 1) := dk_3 (dk_at dksX9_step_2 10 rfl rfl)
theorem dX9_step_57 : decode cX9_step 57 = .ok (.ireturn, 1) := dk_172 (dk_at dksX9_step_2 11 rfl rfl)
theorem dX9_step_58 : decode cX9_step 58 = .ok (.aload_n 0, 1) := dk_42 (dk_at dksX9_step_2 12 rfl rfl)
theorem dX9_step_59 : decode cX9_step 59 = .ok (.invokevirtual 361, 3) := dk_182 1 105 (dk_at dksX9_step_2 13 rfl rfl)
theorem dX9_step_62 : decode cX9_step 62 = .ok (.aload_n 0, 1) := dk_42 (dk_at dksX9_step_2 16 rfl rfl)
theorem dX9_step_63 : decode cX9_step 63 = .ok (.aload_n 0, 1) := dk_42 (dk_at dksX9_step_2 17 rfl rfl)
theorem dX9_step_64 : decode cX9_step 64 = .ok (.iload_n 1, 1) := dk_27 (dk_at dksX9_step_2 18 rfl rfl)
theorem dX9_step_65 : decode cX9_step 65 = .ok (.iload_n 2, 1) := dk_28 (dk_at dksX9_step_2 19 rfl rfl)
theorem dX9_step_66 : decode cX9_step 66 = .ok (.invokevirtual 222, 3) := dk_182 0 222 (dk_at dksX9_step_2 20 rfl rfl)
theorem dX9_step_69 : decode cX9_step 69 = .ok (.invokevirtual 364, 3) := dk_182 1 108 (dk_at dksX9_step_3 0 rfl rfl)
theorem dX9_step_72 : decode cX9_step 72 = .ok (.ireturn, 1) := dk_172 (dk_at dksX9_step_3 3 rfl rfl)
abbrev cX9_isCat : ByteArray := prog_11_method_9_code
def yX9_isCat : MethodName := ⟨RX9, "isCat", "(I)Z"⟩
def dkwX9_isCat_0 : List UInt8 := [27, 3, 42, 180, 0, 7, 5, 46, 4, 100, 184, 0, 60, 172]
abbrev dktX9_isCat_0 : List UInt8 := dkwX9_isCat_0 ++ []
theorem dksX9_isCat_0 : cX9_isCat.data.toList.drop 0 = dktX9_isCat_0 := by decide +kernel
theorem dX9_isCat_0 : decode cX9_isCat 0 = .ok (.iload_n 1, 1) := dk_27 (dk_at dksX9_isCat_0 0 rfl rfl)
theorem dX9_isCat_1 : decode cX9_isCat 1 = .ok (.iconst 0, 1) := dk_3 (dk_at dksX9_isCat_0 1 rfl rfl)
theorem dX9_isCat_2 : decode cX9_isCat 2 = .ok (.aload_n 0, 1) := dk_42 (dk_at dksX9_isCat_0 2 rfl rfl)
theorem dX9_isCat_3 : decode cX9_isCat 3 = .ok (.getfield 7, 3) := dk_180 0 7 (dk_at dksX9_isCat_0 3 rfl rfl)
theorem dX9_isCat_6 : decode cX9_isCat 6 = .ok (.iconst 2, 1) := dk_5 (dk_at dksX9_isCat_0 6 rfl rfl)
theorem dX9_isCat_7 : decode cX9_isCat 7 = .ok (.iaload, 1) := dk_46 (dk_at dksX9_isCat_0 7 rfl rfl)
theorem dX9_isCat_8 : decode cX9_isCat 8 = .ok (.iconst 1, 1) := dk_4 (dk_at dksX9_isCat_0 8 rfl rfl)
theorem dX9_isCat_9 : decode cX9_isCat 9 = .ok (.isub, 1) := dk_100 (dk_at dksX9_isCat_0 9 rfl rfl)
theorem dX9_isCat_10 : decode cX9_isCat 10 = .ok (.invokestatic 60, 3) := dk_184 0 60 (dk_at dksX9_isCat_0 10 rfl rfl)
theorem dX9_isCat_13 : decode cX9_isCat 13 = .ok (.ireturn, 1) := dk_172 (dk_at dksX9_isCat_0 13 rfl rfl)
abbrev cX9_isGutter : ByteArray := prog_11_method_8_code
def yX9_isGutter : MethodName := ⟨RX9, "isGutter", "(I)Z"⟩
def dkwX9_isGutter_0 : List UInt8 := [27, 3, 42, 180, 0, 7, 4, 46, 4, 100, 184, 0, 60, 172]
abbrev dktX9_isGutter_0 : List UInt8 := dkwX9_isGutter_0 ++ []
theorem dksX9_isGutter_0 : cX9_isGutter.data.toList.drop 0 = dktX9_isGutter_0 := by decide +kernel
theorem dX9_isGutter_0 : decode cX9_isGutter 0 = .ok (.iload_n 1, 1) := dk_27 (dk_at dksX9_isGutter_0 0 rfl rfl)
theorem dX9_isGutter_1 : decode cX9_isGutter 1 = .ok (.iconst 0, 1) := dk_3 (dk_at dksX9_isGutter_0 1 rfl rfl)
theorem dX9_isGutter_2 : decode cX9_isGutter 2 = .ok (.aload_n 0, 1) := dk_42 (dk_at dksX9_isGutter_0 2 rfl rfl)
theorem dX9_isGutter_3 : decode cX9_isGutter 3 = .ok (.getfield 7, 3) := dk_180 0 7 (dk_at dksX9_isGutter_0 3 rfl rfl)
theorem dX9_isGutter_6 : decode cX9_isGutter 6 = .ok (.iconst 1, 1) := dk_4 (dk_at dksX9_isGutter_0 6 rfl rfl)
theorem dX9_isGutter_7 : decode cX9_isGutter 7 = .ok (.iaload, 1) := dk_46 (dk_at dksX9_isGutter_0 7 rfl rfl)
theorem dX9_isGutter_8 : decode cX9_isGutter 8 = .ok (.iconst 1, 1) := dk_4 (dk_at dksX9_isGutter_0 8 rfl rfl)
theorem dX9_isGutter_9 : decode cX9_isGutter 9 = .ok (.isub, 1) := dk_100 (dk_at dksX9_isGutter_0 9 rfl rfl)
theorem dX9_isGutter_10 : decode cX9_isGutter 10 = .ok (.invokestatic 60, 3) := dk_184 0 60 (dk_at dksX9_isGutter_0 10 rfl rfl)
theorem dX9_isGutter_13 : decode cX9_isGutter 13 = .ok (.ireturn, 1) := dk_172 (dk_at dksX9_isGutter_0 13 rfl rfl)
abbrev cX9_claim : ByteArray := prog_11_method_94_code
def yX9_claim : MethodName := ⟨RX9, "claim", "(I)I"⟩
def dkwX9_claim_2 : List UInt8 := [42, 27, 182, 0, 228, 182, 1, 108, 172]
abbrev dktX9_claim_2 : List UInt8 := dkwX9_claim_2 ++ []
def dkwX9_claim_1 : List UInt8 := [182, 0, 225, 153, 0, 7, 4, 167, 0, 4, 3, 182, 1, 111, 153, 0, 5, 3, 172, 42, 182, 1, 105, 42]
abbrev dktX9_claim_1 : List UInt8 := dkwX9_claim_1 ++ dktX9_claim_2
def dkwX9_claim_0 : List UInt8 := [42, 27, 182, 1, 123, 61, 42, 28, 154, 0, 7, 4, 167, 0, 4, 3, 28, 153, 0, 15, 42, 27]
abbrev dktX9_claim_0 : List UInt8 := dkwX9_claim_0 ++ dktX9_claim_1
theorem dksX9_claim_0 : cX9_claim.data.toList.drop 0 = dktX9_claim_0 := by decide +kernel
theorem dksX9_claim_1 : cX9_claim.data.toList.drop 22 = dktX9_claim_1 := dk_seg dksX9_claim_0 22 rfl rfl
theorem dksX9_claim_2 : cX9_claim.data.toList.drop 46 = dktX9_claim_2 := dk_seg dksX9_claim_1 24 rfl rfl
theorem dX9_claim_0 : decode cX9_claim 0 = .ok (.aload_n 0, 1) := dk_42 (dk_at dksX9_claim_0 0 rfl rfl)
theorem dX9_claim_1 : decode cX9_claim 1 = .ok (.iload_n 1, 1) := dk_27 (dk_at dksX9_claim_0 1 rfl rfl)
theorem dX9_claim_2 : decode cX9_claim 2 = .ok (.invokevirtual 379, 3) := dk_182 1 123 (dk_at dksX9_claim_0 2 rfl rfl)
theorem dX9_claim_5 : decode cX9_claim 5 = .ok (.istore_n 2, 1) := dk_61 (dk_at dksX9_claim_0 5 rfl rfl)
theorem dX9_claim_6 : decode cX9_claim 6 = .ok (.aload_n 0, 1) := dk_42 (dk_at dksX9_claim_0 6 rfl rfl)
theorem dX9_claim_7 : decode cX9_claim 7 = .ok (.iload_n 2, 1) := dk_28 (dk_at dksX9_claim_0 7 rfl rfl)
theorem dX9_claim_8 : decode cX9_claim 8 = .ok (.ifCond .ne 7, 3) := dk_154 0 7 (dk_at dksX9_claim_0 8 rfl rfl)
theorem dX9_claim_11 : decode cX9_claim 11 = .ok (.iconst 1, 1) := dk_4 (dk_at dksX9_claim_0 11 rfl rfl)
theorem dX9_claim_12 : decode cX9_claim 12 = .ok (.goto 4, 3) := dk_167 0 4 (dk_at dksX9_claim_0 12 rfl rfl)
theorem dX9_claim_15 : decode cX9_claim 15 = .ok (.iconst 0, 1) := dk_3 (dk_at dksX9_claim_0 15 rfl rfl)
theorem dX9_claim_16 : decode cX9_claim 16 = .ok (.iload_n 2, 1) := dk_28 (dk_at dksX9_claim_0 16 rfl rfl)
theorem dX9_claim_17 : decode cX9_claim 17 = .ok (.ifCond .eq 15, 3) := dk_153 0 15 (dk_at dksX9_claim_0 17 rfl rfl)
theorem dX9_claim_20 : decode cX9_claim 20 = .ok (.aload_n 0, 1) := dk_42 (dk_at dksX9_claim_0 20 rfl rfl)
theorem dX9_claim_21 : decode cX9_claim 21 = .ok (.iload_n 1, 1) := dk_27 (dk_at dksX9_claim_0 21 rfl rfl)
theorem dX9_claim_22 : decode cX9_claim 22 = .ok (.invokevirtual 225, 3) := dk_182 0 225 (dk_at dksX9_claim_1 0 rfl rfl)
theorem dX9_claim_25 : decode cX9_claim 25 = .ok (.ifCond .eq 7, 3) := dk_153 0 7 (dk_at dksX9_claim_1 3 rfl rfl)
theorem dX9_claim_28 : decode cX9_claim 28 = .ok (.iconst 1, 1) := dk_4 (dk_at dksX9_claim_1 6 rfl rfl)
theorem dX9_claim_29 : decode cX9_claim 29 = .ok (.goto 4, 3) := dk_167 0 4 (dk_at dksX9_claim_1 7 rfl rfl)
theorem dX9_claim_32 : decode cX9_claim 32 = .ok (.iconst 0, 1) := dk_3 (dk_at dksX9_claim_1 10 rfl rfl)
theorem dX9_claim_33 : decode cX9_claim 33 = .ok (.invokevirtual 367, 3) := dk_182 1 111 (dk_at dksX9_claim_1 11 rfl rfl)
theorem dX9_claim_36 : decode cX9_claim 36 = .ok (.ifCond .eq 5, 3) := dk_153 0 5 (dk_at dksX9_claim_1 14 rfl rfl)
theorem dX9_claim_39 : decode cX9_claim 39 = .ok (.iconst 0, 1) := dk_3 (dk_at dksX9_claim_1 17 rfl rfl)
theorem dX9_claim_40 : decode cX9_claim 40 = .ok (.ireturn, 1) := dk_172 (dk_at dksX9_claim_1 18 rfl rfl)
theorem dX9_claim_41 : decode cX9_claim 41 = .ok (.aload_n 0, 1) := dk_42 (dk_at dksX9_claim_1 19 rfl rfl)
theorem dX9_claim_42 : decode cX9_claim 42 = .ok (.invokevirtual 361, 3) := dk_182 1 105 (dk_at dksX9_claim_1 20 rfl rfl)
theorem dX9_claim_45 : decode cX9_claim 45 = .ok (.aload_n 0, 1) := dk_42 (dk_at dksX9_claim_1 23 rfl rfl)
theorem dX9_claim_46 : decode cX9_claim 46 = .ok (.aload_n 0, 1) := dk_42 (dk_at dksX9_claim_2 0 rfl rfl)
theorem dX9_claim_47 : decode cX9_claim 47 = .ok (.iload_n 1, 1) := dk_27 (dk_at dksX9_claim_2 1 rfl rfl)
theorem dX9_claim_48 : decode cX9_claim 48 = .ok (.invokevirtual 228, 3) := dk_182 0 228 (dk_at dksX9_claim_2 2 rfl rfl)
theorem dX9_claim_51 : decode cX9_claim 51 = .ok (.invokevirtual 364, 3) := dk_182 1 108 (dk_at dksX9_claim_2 5 rfl rfl)
theorem dX9_claim_54 : decode cX9_claim 54 = .ok (.ireturn, 1) := dk_172 (dk_at dksX9_claim_2 8 rfl rfl)
abbrev cX9_abandon : ByteArray := prog_11_method_95_code
def yX9_abandon : MethodName := ⟨RX9, "abandon", "(I)I"⟩
def dkwX9_abandon_2 : List UInt8 := [42, 42, 27, 182, 0, 231, 182, 1, 108, 172]
abbrev dktX9_abandon_2 : List UInt8 := dkwX9_abandon_2 ++ []
def dkwX9_abandon_1 : List UInt8 := [182, 0, 68, 2, 160, 0, 7, 4, 167, 0, 4, 3, 182, 1, 111, 153, 0, 5, 3, 172, 42, 182, 1, 105]
abbrev dktX9_abandon_1 : List UInt8 := dkwX9_abandon_1 ++ dktX9_abandon_2
def dkwX9_abandon_0 : List UInt8 := [42, 27, 182, 1, 114, 61, 42, 28, 154, 0, 7, 4, 167, 0, 4, 3, 28, 153, 0, 16, 42, 27]
abbrev dktX9_abandon_0 : List UInt8 := dkwX9_abandon_0 ++ dktX9_abandon_1
theorem dksX9_abandon_0 : cX9_abandon.data.toList.drop 0 = dktX9_abandon_0 := by decide +kernel
theorem dksX9_abandon_1 : cX9_abandon.data.toList.drop 22 = dktX9_abandon_1 := dk_seg dksX9_abandon_0 22 rfl rfl
theorem dksX9_abandon_2 : cX9_abandon.data.toList.drop 46 = dktX9_abandon_2 := dk_seg dksX9_abandon_1 24 rfl rfl
theorem dX9_abandon_0 : decode cX9_abandon 0 = .ok (.aload_n 0, 1) := dk_42 (dk_at dksX9_abandon_0 0 rfl rfl)
theorem dX9_abandon_1 : decode cX9_abandon 1 = .ok (.iload_n 1, 1) := dk_27 (dk_at dksX9_abandon_0 1 rfl rfl)
theorem dX9_abandon_2 : decode cX9_abandon 2 = .ok (.invokevirtual 370, 3) := dk_182 1 114 (dk_at dksX9_abandon_0 2 rfl rfl)
theorem dX9_abandon_5 : decode cX9_abandon 5 = .ok (.istore_n 2, 1) := dk_61 (dk_at dksX9_abandon_0 5 rfl rfl)
theorem dX9_abandon_6 : decode cX9_abandon 6 = .ok (.aload_n 0, 1) := dk_42 (dk_at dksX9_abandon_0 6 rfl rfl)
theorem dX9_abandon_7 : decode cX9_abandon 7 = .ok (.iload_n 2, 1) := dk_28 (dk_at dksX9_abandon_0 7 rfl rfl)
theorem dX9_abandon_8 : decode cX9_abandon 8 = .ok (.ifCond .ne 7, 3) := dk_154 0 7 (dk_at dksX9_abandon_0 8 rfl rfl)
theorem dX9_abandon_11 : decode cX9_abandon 11 = .ok (.iconst 1, 1) := dk_4 (dk_at dksX9_abandon_0 11 rfl rfl)
theorem dX9_abandon_12 : decode cX9_abandon 12 = .ok (.goto 4, 3) := dk_167 0 4 (dk_at dksX9_abandon_0 12 rfl rfl)
theorem dX9_abandon_15 : decode cX9_abandon 15 = .ok (.iconst 0, 1) := dk_3 (dk_at dksX9_abandon_0 15 rfl rfl)
theorem dX9_abandon_16 : decode cX9_abandon 16 = .ok (.iload_n 2, 1) := dk_28 (dk_at dksX9_abandon_0 16 rfl rfl)
theorem dX9_abandon_17 : decode cX9_abandon 17 = .ok (.ifCond .eq 16, 3) := dk_153 0 16 (dk_at dksX9_abandon_0 17 rfl rfl)
theorem dX9_abandon_20 : decode cX9_abandon 20 = .ok (.aload_n 0, 1) := dk_42 (dk_at dksX9_abandon_0 20 rfl rfl)
theorem dX9_abandon_21 : decode cX9_abandon 21 = .ok (.iload_n 1, 1) := dk_27 (dk_at dksX9_abandon_0 21 rfl rfl)
theorem dX9_abandon_22 : decode cX9_abandon 22 = .ok (.invokevirtual 68, 3) := dk_182 0 68 (dk_at dksX9_abandon_1 0 rfl rfl)
theorem dX9_abandon_25 : decode cX9_abandon 25 = .ok (.iconst (-1), 1) := dk_2 (dk_at dksX9_abandon_1 3 rfl rfl)
theorem dX9_abandon_26 : decode cX9_abandon 26 = .ok (.if_icmp .ne 7, 3) := dk_160 0 7 (dk_at dksX9_abandon_1 4 rfl rfl)
theorem dX9_abandon_29 : decode cX9_abandon 29 = .ok (.iconst 1, 1) := dk_4 (dk_at dksX9_abandon_1 7 rfl rfl)
theorem dX9_abandon_30 : decode cX9_abandon 30 = .ok (.goto 4, 3) := dk_167 0 4 (dk_at dksX9_abandon_1 8 rfl rfl)
theorem dX9_abandon_33 : decode cX9_abandon 33 = .ok (.iconst 0, 1) := dk_3 (dk_at dksX9_abandon_1 11 rfl rfl)
theorem dX9_abandon_34 : decode cX9_abandon 34 = .ok (.invokevirtual 367, 3) := dk_182 1 111 (dk_at dksX9_abandon_1 12 rfl rfl)
theorem dX9_abandon_37 : decode cX9_abandon 37 = .ok (.ifCond .eq 5, 3) := dk_153 0 5 (dk_at dksX9_abandon_1 15 rfl rfl)
theorem dX9_abandon_40 : decode cX9_abandon 40 = .ok (.iconst 0, 1) := dk_3 (dk_at dksX9_abandon_1 18 rfl rfl)
theorem dX9_abandon_41 : decode cX9_abandon 41 = .ok (.ireturn, 1) := dk_172 (dk_at dksX9_abandon_1 19 rfl rfl)
theorem dX9_abandon_42 : decode cX9_abandon 42 = .ok (.aload_n 0, 1) := dk_42 (dk_at dksX9_abandon_1 20 rfl rfl)
theorem dX9_abandon_43 : decode cX9_abandon 43 = .ok (.invokevirtual 361, 3) := dk_182 1 105 (dk_at dksX9_abandon_1 21 rfl rfl)
theorem dX9_abandon_46 : decode cX9_abandon 46 = .ok (.aload_n 0, 1) := dk_42 (dk_at dksX9_abandon_2 0 rfl rfl)
theorem dX9_abandon_47 : decode cX9_abandon 47 = .ok (.aload_n 0, 1) := dk_42 (dk_at dksX9_abandon_2 1 rfl rfl)
theorem dX9_abandon_48 : decode cX9_abandon 48 = .ok (.iload_n 1, 1) := dk_27 (dk_at dksX9_abandon_2 2 rfl rfl)
theorem dX9_abandon_49 : decode cX9_abandon 49 = .ok (.invokevirtual 231, 3) := dk_182 0 231 (dk_at dksX9_abandon_2 3 rfl rfl)
theorem dX9_abandon_52 : decode cX9_abandon 52 = .ok (.invokevirtual 364, 3) := dk_182 1 108 (dk_at dksX9_abandon_2 6 rfl rfl)
theorem dX9_abandon_55 : decode cX9_abandon 55 = .ok (.ireturn, 1) := dk_172 (dk_at dksX9_abandon_2 9 rfl rfl)
abbrev cX9_chase : ByteArray := prog_11_method_97_code
def yX9_chase : MethodName := ⟨RX9, "chase", "(II)Z"⟩
def dkwX9_chase_3 : List UInt8 := [153, 0, 7, 4, 167, 0, 4, 3, 182, 1, 108, 4, 160, 0, 7, 4, 167, 0, 4, 3, 172]
abbrev dktX9_chase_3 : List UInt8 := dkwX9_chase_3 ++ []
def dkwX9_chase_2 : List UInt8 := [167, 0, 4, 3, 182, 1, 117, 153, 0, 5, 3, 172, 42, 182, 1, 105, 42, 42, 27, 28, 182, 0, 237]
abbrev dktX9_chase_2 : List UInt8 := dkwX9_chase_2 ++ dktX9_chase_3
def dkwX9_chase_1 : List UInt8 := [167, 0, 4, 3, 29, 153, 0, 21, 27, 28, 159, 0, 16, 42, 27, 28, 182, 0, 234, 153, 0, 7, 4]
abbrev dktX9_chase_1 : List UInt8 := dkwX9_chase_1 ++ dktX9_chase_2
def dkwX9_chase_0 : List UInt8 := [42, 27, 28, 182, 1, 129, 62, 42, 29, 154, 0, 7, 4, 167, 0, 4, 3, 27, 28, 160, 0, 7, 4]
abbrev dktX9_chase_0 : List UInt8 := dkwX9_chase_0 ++ dktX9_chase_1
theorem dksX9_chase_0 : cX9_chase.data.toList.drop 0 = dktX9_chase_0 := by decide +kernel
theorem dksX9_chase_1 : cX9_chase.data.toList.drop 23 = dktX9_chase_1 := dk_seg dksX9_chase_0 23 rfl rfl
theorem dksX9_chase_2 : cX9_chase.data.toList.drop 46 = dktX9_chase_2 := dk_seg dksX9_chase_1 23 rfl rfl
theorem dksX9_chase_3 : cX9_chase.data.toList.drop 69 = dktX9_chase_3 := dk_seg dksX9_chase_2 23 rfl rfl
theorem dX9_chase_0 : decode cX9_chase 0 = .ok (.aload_n 0, 1) := dk_42 (dk_at dksX9_chase_0 0 rfl rfl)
theorem dX9_chase_1 : decode cX9_chase 1 = .ok (.iload_n 1, 1) := dk_27 (dk_at dksX9_chase_0 1 rfl rfl)
theorem dX9_chase_2 : decode cX9_chase 2 = .ok (.iload_n 2, 1) := dk_28 (dk_at dksX9_chase_0 2 rfl rfl)
theorem dX9_chase_3 : decode cX9_chase 3 = .ok (.invokevirtual 385, 3) := dk_182 1 129 (dk_at dksX9_chase_0 3 rfl rfl)
theorem dX9_chase_6 : decode cX9_chase 6 = .ok (.istore_n 3, 1) := dk_62 (dk_at dksX9_chase_0 6 rfl rfl)
theorem dX9_chase_7 : decode cX9_chase 7 = .ok (.aload_n 0, 1) := dk_42 (dk_at dksX9_chase_0 7 rfl rfl)
theorem dX9_chase_8 : decode cX9_chase 8 = .ok (.iload_n 3, 1) := dk_29 (dk_at dksX9_chase_0 8 rfl rfl)
theorem dX9_chase_9 : decode cX9_chase 9 = .ok (.ifCond .ne 7, 3) := dk_154 0 7 (dk_at dksX9_chase_0 9 rfl rfl)
theorem dX9_chase_12 : decode cX9_chase 12 = .ok (.iconst 1, 1) := dk_4 (dk_at dksX9_chase_0 12 rfl rfl)
theorem dX9_chase_13 : decode cX9_chase 13 = .ok (.goto 4, 3) := dk_167 0 4 (dk_at dksX9_chase_0 13 rfl rfl)
theorem dX9_chase_16 : decode cX9_chase 16 = .ok (.iconst 0, 1) := dk_3 (dk_at dksX9_chase_0 16 rfl rfl)
theorem dX9_chase_17 : decode cX9_chase 17 = .ok (.iload_n 1, 1) := dk_27 (dk_at dksX9_chase_0 17 rfl rfl)
theorem dX9_chase_18 : decode cX9_chase 18 = .ok (.iload_n 2, 1) := dk_28 (dk_at dksX9_chase_0 18 rfl rfl)
theorem dX9_chase_19 : decode cX9_chase 19 = .ok (.if_icmp .ne 7, 3) := dk_160 0 7 (dk_at dksX9_chase_0 19 rfl rfl)
theorem dX9_chase_22 : decode cX9_chase 22 = .ok (.iconst 1, 1) := dk_4 (dk_at dksX9_chase_0 22 rfl rfl)
theorem dX9_chase_23 : decode cX9_chase 23 = .ok (.goto 4, 3) := dk_167 0 4 (dk_at dksX9_chase_1 0 rfl rfl)
theorem dX9_chase_26 : decode cX9_chase 26 = .ok (.iconst 0, 1) := dk_3 (dk_at dksX9_chase_1 3 rfl rfl)
theorem dX9_chase_27 : decode cX9_chase 27 = .ok (.iload_n 3, 1) := dk_29 (dk_at dksX9_chase_1 4 rfl rfl)
theorem dX9_chase_28 : decode cX9_chase 28 = .ok (.ifCond .eq 21, 3) := dk_153 0 21 (dk_at dksX9_chase_1 5 rfl rfl)
theorem dX9_chase_31 : decode cX9_chase 31 = .ok (.iload_n 1, 1) := dk_27 (dk_at dksX9_chase_1 8 rfl rfl)
theorem dX9_chase_32 : decode cX9_chase 32 = .ok (.iload_n 2, 1) := dk_28 (dk_at dksX9_chase_1 9 rfl rfl)
theorem dX9_chase_33 : decode cX9_chase 33 = .ok (.if_icmp .eq 16, 3) := dk_159 0 16 (dk_at dksX9_chase_1 10 rfl rfl)
theorem dX9_chase_36 : decode cX9_chase 36 = .ok (.aload_n 0, 1) := dk_42 (dk_at dksX9_chase_1 13 rfl rfl)
theorem dX9_chase_37 : decode cX9_chase 37 = .ok (.iload_n 1, 1) := dk_27 (dk_at dksX9_chase_1 14 rfl rfl)
theorem dX9_chase_38 : decode cX9_chase 38 = .ok (.iload_n 2, 1) := dk_28 (dk_at dksX9_chase_1 15 rfl rfl)
theorem dX9_chase_39 : decode cX9_chase 39 = .ok (.invokevirtual 234, 3) := dk_182 0 234 (dk_at dksX9_chase_1 16 rfl rfl)
theorem dX9_chase_42 : decode cX9_chase 42 = .ok (.ifCond .eq 7, 3) := dk_153 0 7 (dk_at dksX9_chase_1 19 rfl rfl)
theorem dX9_chase_45 : decode cX9_chase 45 = .ok (.iconst 1, 1) := dk_4 (dk_at dksX9_chase_1 22 rfl rfl)
theorem dX9_chase_46 : decode cX9_chase 46 = .ok (.goto 4, 3) := dk_167 0 4 (dk_at dksX9_chase_2 0 rfl rfl)
theorem dX9_chase_49 : decode cX9_chase 49 = .ok (.iconst 0, 1) := dk_3 (dk_at dksX9_chase_2 3 rfl rfl)
theorem dX9_chase_50 : decode cX9_chase 50 = .ok (.invokevirtual 373, 3) := dk_182 1 117 (dk_at dksX9_chase_2 4 rfl rfl)
theorem dX9_chase_53 : decode cX9_chase 53 = .ok (.ifCond .eq 5, 3) := dk_153 0 5 (dk_at dksX9_chase_2 7 rfl rfl)
theorem dX9_chase_56 : decode cX9_chase 56 = .ok (.iconst 0, 1) := dk_3 (dk_at dksX9_chase_2 10 rfl rfl)
theorem dX9_chase_57 : decode cX9_chase 57 = .ok (.ireturn, 1) := dk_172 (dk_at dksX9_chase_2 11 rfl rfl)
theorem dX9_chase_58 : decode cX9_chase 58 = .ok (.aload_n 0, 1) := dk_42 (dk_at dksX9_chase_2 12 rfl rfl)
theorem dX9_chase_59 : decode cX9_chase 59 = .ok (.invokevirtual 361, 3) := dk_182 1 105 (dk_at dksX9_chase_2 13 rfl rfl)
theorem dX9_chase_62 : decode cX9_chase 62 = .ok (.aload_n 0, 1) := dk_42 (dk_at dksX9_chase_2 16 rfl rfl)
theorem dX9_chase_63 : decode cX9_chase 63 = .ok (.aload_n 0, 1) := dk_42 (dk_at dksX9_chase_2 17 rfl rfl)
theorem dX9_chase_64 : decode cX9_chase 64 = .ok (.iload_n 1, 1) := dk_27 (dk_at dksX9_chase_2 18 rfl rfl)
theorem dX9_chase_65 : decode cX9_chase 65 = .ok (.iload_n 2, 1) := dk_28 (dk_at dksX9_chase_2 19 rfl rfl)
theorem dX9_chase_66 : decode cX9_chase 66 = .ok (.invokevirtual 237, 3) := dk_182 0 237 (dk_at dksX9_chase_2 20 rfl rfl)
theorem dX9_chase_69 : decode cX9_chase 69 = .ok (.ifCond .eq 7, 3) := dk_153 0 7 (dk_at dksX9_chase_3 0 rfl rfl)
theorem dX9_chase_72 : decode cX9_chase 72 = .ok (.iconst 1, 1) := dk_4 (dk_at dksX9_chase_3 3 rfl rfl)
theorem dX9_chase_73 : decode cX9_chase 73 = .ok (.goto 4, 3) := dk_167 0 4 (dk_at dksX9_chase_3 4 rfl rfl)
theorem dX9_chase_76 : decode cX9_chase 76 = .ok (.iconst 0, 1) := dk_3 (dk_at dksX9_chase_3 7 rfl rfl)
theorem dX9_chase_77 : decode cX9_chase 77 = .ok (.invokevirtual 364, 3) := dk_182 1 108 (dk_at dksX9_chase_3 8 rfl rfl)
theorem dX9_chase_80 : decode cX9_chase 80 = .ok (.iconst 1, 1) := dk_4 (dk_at dksX9_chase_3 11 rfl rfl)
theorem dX9_chase_81 : decode cX9_chase 81 = .ok (.if_icmp .ne 7, 3) := dk_160 0 7 (dk_at dksX9_chase_3 12 rfl rfl)
theorem dX9_chase_84 : decode cX9_chase 84 = .ok (.iconst 1, 1) := dk_4 (dk_at dksX9_chase_3 15 rfl rfl)
theorem dX9_chase_85 : decode cX9_chase 85 = .ok (.goto 4, 3) := dk_167 0 4 (dk_at dksX9_chase_3 16 rfl rfl)
theorem dX9_chase_88 : decode cX9_chase 88 = .ok (.iconst 0, 1) := dk_3 (dk_at dksX9_chase_3 19 rfl rfl)
theorem dX9_chase_89 : decode cX9_chase 89 = .ok (.ireturn, 1) := dk_172 (dk_at dksX9_chase_3 20 rfl rfl)
abbrev cX9_areCats : ByteArray := prog_11_method_96_code
def yX9_areCats : MethodName := ⟨RX9, "areCats", "(II)Z"⟩
def dkwX9_areCats_0 : List UInt8 := [42, 27, 182, 1, 123, 153, 0, 15, 42, 28, 182, 1, 123, 153, 0, 7, 4, 167, 0, 4, 3, 172]
abbrev dktX9_areCats_0 : List UInt8 := dkwX9_areCats_0 ++ []
theorem dksX9_areCats_0 : cX9_areCats.data.toList.drop 0 = dktX9_areCats_0 := by decide +kernel
theorem dX9_areCats_0 : decode cX9_areCats 0 = .ok (.aload_n 0, 1) := dk_42 (dk_at dksX9_areCats_0 0 rfl rfl)
theorem dX9_areCats_1 : decode cX9_areCats 1 = .ok (.iload_n 1, 1) := dk_27 (dk_at dksX9_areCats_0 1 rfl rfl)
theorem dX9_areCats_2 : decode cX9_areCats 2 = .ok (.invokevirtual 379, 3) := dk_182 1 123 (dk_at dksX9_areCats_0 2 rfl rfl)
theorem dX9_areCats_5 : decode cX9_areCats 5 = .ok (.ifCond .eq 15, 3) := dk_153 0 15 (dk_at dksX9_areCats_0 5 rfl rfl)
theorem dX9_areCats_8 : decode cX9_areCats 8 = .ok (.aload_n 0, 1) := dk_42 (dk_at dksX9_areCats_0 8 rfl rfl)
theorem dX9_areCats_9 : decode cX9_areCats 9 = .ok (.iload_n 2, 1) := dk_28 (dk_at dksX9_areCats_0 9 rfl rfl)
theorem dX9_areCats_10 : decode cX9_areCats 10 = .ok (.invokevirtual 379, 3) := dk_182 1 123 (dk_at dksX9_areCats_0 10 rfl rfl)
theorem dX9_areCats_13 : decode cX9_areCats 13 = .ok (.ifCond .eq 7, 3) := dk_153 0 7 (dk_at dksX9_areCats_0 13 rfl rfl)
theorem dX9_areCats_16 : decode cX9_areCats 16 = .ok (.iconst 1, 1) := dk_4 (dk_at dksX9_areCats_0 16 rfl rfl)
theorem dX9_areCats_17 : decode cX9_areCats 17 = .ok (.goto 4, 3) := dk_167 0 4 (dk_at dksX9_areCats_0 17 rfl rfl)
theorem dX9_areCats_20 : decode cX9_areCats 20 = .ok (.iconst 0, 1) := dk_3 (dk_at dksX9_areCats_0 20 rfl rfl)
theorem dX9_areCats_21 : decode cX9_areCats 21 = .ok (.ireturn, 1) := dk_172 (dk_at dksX9_areCats_0 21 rfl rfl)
abbrev cX9_buyTruce : ByteArray := prog_11_method_98_code
def yX9_buyTruce : MethodName := ⟨RX9, "buyTruce", "(IIII)I"⟩
def dkwX9_buyTruce_4 : List UInt8 := [29, 21, 4, 182, 0, 244, 182, 1, 108, 172]
abbrev dktX9_buyTruce_4 : List UInt8 := dkwX9_buyTruce_4 ++ []
def dkwX9_buyTruce_3 : List UInt8 := [154, 0, 7, 4, 167, 0, 4, 3, 182, 1, 117, 153, 0, 5, 3, 172, 42, 182, 1, 105, 42, 42, 27, 28]
abbrev dktX9_buyTruce_3 : List UInt8 := dkwX9_buyTruce_3 ++ dktX9_buyTruce_4
def dkwX9_buyTruce_2 : List UInt8 := [4, 167, 0, 4, 3, 21, 6, 21, 5, 153, 0, 22, 21, 6, 154, 0, 17, 42, 27, 28, 29, 182, 0, 241]
abbrev dktX9_buyTruce_2 : List UInt8 := dkwX9_buyTruce_2 ++ dktX9_buyTruce_3
def dkwX9_buyTruce_1 : List UInt8 := [21, 4, 4, 16, 20, 184, 0, 60, 154, 0, 7, 4, 167, 0, 4, 3, 54, 6, 42, 21, 5, 154, 0, 7]
abbrev dktX9_buyTruce_1 : List UInt8 := dkwX9_buyTruce_1 ++ dktX9_buyTruce_2
def dkwX9_buyTruce_0 : List UInt8 := [42, 27, 28, 182, 1, 129, 54, 5, 27, 28, 159, 0, 24, 29, 4, 16, 9, 184, 0, 60, 153, 0, 14]
abbrev dktX9_buyTruce_0 : List UInt8 := dkwX9_buyTruce_0 ++ dktX9_buyTruce_1
theorem dksX9_buyTruce_0 : cX9_buyTruce.data.toList.drop 0 = dktX9_buyTruce_0 := by decide +kernel
theorem dksX9_buyTruce_1 : cX9_buyTruce.data.toList.drop 23 = dktX9_buyTruce_1 := dk_seg dksX9_buyTruce_0 23 rfl rfl
theorem dksX9_buyTruce_2 : cX9_buyTruce.data.toList.drop 47 = dktX9_buyTruce_2 := dk_seg dksX9_buyTruce_1 24 rfl rfl
theorem dksX9_buyTruce_3 : cX9_buyTruce.data.toList.drop 71 = dktX9_buyTruce_3 := dk_seg dksX9_buyTruce_2 24 rfl rfl
theorem dksX9_buyTruce_4 : cX9_buyTruce.data.toList.drop 95 = dktX9_buyTruce_4 := dk_seg dksX9_buyTruce_3 24 rfl rfl
theorem dX9_buyTruce_0 : decode cX9_buyTruce 0 = .ok (.aload_n 0, 1) := dk_42 (dk_at dksX9_buyTruce_0 0 rfl rfl)
theorem dX9_buyTruce_1 : decode cX9_buyTruce 1 = .ok (.iload_n 1, 1) := dk_27 (dk_at dksX9_buyTruce_0 1 rfl rfl)
theorem dX9_buyTruce_2 : decode cX9_buyTruce 2 = .ok (.iload_n 2, 1) := dk_28 (dk_at dksX9_buyTruce_0 2 rfl rfl)
theorem dX9_buyTruce_3 : decode cX9_buyTruce 3 = .ok (.invokevirtual 385, 3) := dk_182 1 129 (dk_at dksX9_buyTruce_0 3 rfl rfl)
theorem dX9_buyTruce_6 : decode cX9_buyTruce 6 = .ok (.istore 5, 2) := dk_54 5 (dk_at dksX9_buyTruce_0 6 rfl rfl)
theorem dX9_buyTruce_8 : decode cX9_buyTruce 8 = .ok (.iload_n 1, 1) := dk_27 (dk_at dksX9_buyTruce_0 8 rfl rfl)
theorem dX9_buyTruce_9 : decode cX9_buyTruce 9 = .ok (.iload_n 2, 1) := dk_28 (dk_at dksX9_buyTruce_0 9 rfl rfl)
theorem dX9_buyTruce_10 : decode cX9_buyTruce 10 = .ok (.if_icmp .eq 24, 3) := dk_159 0 24 (dk_at dksX9_buyTruce_0 10 rfl rfl)
theorem dX9_buyTruce_13 : decode cX9_buyTruce 13 = .ok (.iload_n 3, 1) := dk_29 (dk_at dksX9_buyTruce_0 13 rfl rfl)
theorem dX9_buyTruce_14 : decode cX9_buyTruce 14 = .ok (.iconst 1, 1) := dk_4 (dk_at dksX9_buyTruce_0 14 rfl rfl)
theorem dX9_buyTruce_15 : decode cX9_buyTruce 15 = .ok (.bipush 9, 2) := dk_16 9 (dk_at dksX9_buyTruce_0 15 rfl rfl)
theorem dX9_buyTruce_17 : decode cX9_buyTruce 17 = .ok (.invokestatic 60, 3) := dk_184 0 60 (dk_at dksX9_buyTruce_0 17 rfl rfl)
theorem dX9_buyTruce_20 : decode cX9_buyTruce 20 = .ok (.ifCond .eq 14, 3) := dk_153 0 14 (dk_at dksX9_buyTruce_0 20 rfl rfl)
theorem dX9_buyTruce_23 : decode cX9_buyTruce 23 = .ok (.iload 4, 2) := dk_21 4 (dk_at dksX9_buyTruce_1 0 rfl rfl)
theorem dX9_buyTruce_25 : decode cX9_buyTruce 25 = .ok (.iconst 1, 1) := dk_4 (dk_at dksX9_buyTruce_1 2 rfl rfl)
theorem dX9_buyTruce_26 : decode cX9_buyTruce 26 = .ok (.bipush 20, 2) := dk_16 20 (dk_at dksX9_buyTruce_1 3 rfl rfl)
theorem dX9_buyTruce_28 : decode cX9_buyTruce 28 = .ok (.invokestatic 60, 3) := dk_184 0 60 (dk_at dksX9_buyTruce_1 5 rfl rfl)
theorem dX9_buyTruce_31 : decode cX9_buyTruce 31 = .ok (.ifCond .ne 7, 3) := dk_154 0 7 (dk_at dksX9_buyTruce_1 8 rfl rfl)
theorem dX9_buyTruce_34 : decode cX9_buyTruce 34 = .ok (.iconst 1, 1) := dk_4 (dk_at dksX9_buyTruce_1 11 rfl rfl)
theorem dX9_buyTruce_35 : decode cX9_buyTruce 35 = .ok (.goto 4, 3) := dk_167 0 4 (dk_at dksX9_buyTruce_1 12 rfl rfl)
theorem dX9_buyTruce_38 : decode cX9_buyTruce 38 = .ok (.iconst 0, 1) := dk_3 (dk_at dksX9_buyTruce_1 15 rfl rfl)
theorem dX9_buyTruce_39 : decode cX9_buyTruce 39 = .ok (.istore 6, 2) := dk_54 6 (dk_at dksX9_buyTruce_1 16 rfl rfl)
theorem dX9_buyTruce_41 : decode cX9_buyTruce 41 = .ok (.aload_n 0, 1) := dk_42 (dk_at dksX9_buyTruce_1 18 rfl rfl)
theorem dX9_buyTruce_42 : decode cX9_buyTruce 42 = .ok (.iload 5, 2) := dk_21 5 (dk_at dksX9_buyTruce_1 19 rfl rfl)
theorem dX9_buyTruce_44 : decode cX9_buyTruce 44 = .ok (.ifCond .ne 7, 3) := dk_154 0 7 (dk_at dksX9_buyTruce_1 21 rfl rfl)
theorem dX9_buyTruce_47 : decode cX9_buyTruce 47 = .ok (.iconst 1, 1) := dk_4 (dk_at dksX9_buyTruce_2 0 rfl rfl)
theorem dX9_buyTruce_48 : decode cX9_buyTruce 48 = .ok (.goto 4, 3) := dk_167 0 4 (dk_at dksX9_buyTruce_2 1 rfl rfl)
theorem dX9_buyTruce_51 : decode cX9_buyTruce 51 = .ok (.iconst 0, 1) := dk_3 (dk_at dksX9_buyTruce_2 4 rfl rfl)
theorem dX9_buyTruce_52 : decode cX9_buyTruce 52 = .ok (.iload 6, 2) := dk_21 6 (dk_at dksX9_buyTruce_2 5 rfl rfl)
theorem dX9_buyTruce_54 : decode cX9_buyTruce 54 = .ok (.iload 5, 2) := dk_21 5 (dk_at dksX9_buyTruce_2 7 rfl rfl)
theorem dX9_buyTruce_56 : decode cX9_buyTruce 56 = .ok (.ifCond .eq 22, 3) := dk_153 0 22 (dk_at dksX9_buyTruce_2 9 rfl rfl)
theorem dX9_buyTruce_59 : decode cX9_buyTruce 59 = .ok (.iload 6, 2) := dk_21 6 (dk_at dksX9_buyTruce_2 12 rfl rfl)
theorem dX9_buyTruce_61 : decode cX9_buyTruce 61 = .ok (.ifCond .ne 17, 3) := dk_154 0 17 (dk_at dksX9_buyTruce_2 14 rfl rfl)
theorem dX9_buyTruce_64 : decode cX9_buyTruce 64 = .ok (.aload_n 0, 1) := dk_42 (dk_at dksX9_buyTruce_2 17 rfl rfl)
theorem dX9_buyTruce_65 : decode cX9_buyTruce 65 = .ok (.iload_n 1, 1) := dk_27 (dk_at dksX9_buyTruce_2 18 rfl rfl)
theorem dX9_buyTruce_66 : decode cX9_buyTruce 66 = .ok (.iload_n 2, 1) := dk_28 (dk_at dksX9_buyTruce_2 19 rfl rfl)
theorem dX9_buyTruce_67 : decode cX9_buyTruce 67 = .ok (.iload_n 3, 1) := dk_29 (dk_at dksX9_buyTruce_2 20 rfl rfl)
theorem dX9_buyTruce_68 : decode cX9_buyTruce 68 = .ok (.invokevirtual 241, 3) := dk_182 0 241 (dk_at dksX9_buyTruce_2 21 rfl rfl)
theorem dX9_buyTruce_71 : decode cX9_buyTruce 71 = .ok (.ifCond .ne 7, 3) := dk_154 0 7 (dk_at dksX9_buyTruce_3 0 rfl rfl)
theorem dX9_buyTruce_74 : decode cX9_buyTruce 74 = .ok (.iconst 1, 1) := dk_4 (dk_at dksX9_buyTruce_3 3 rfl rfl)
theorem dX9_buyTruce_75 : decode cX9_buyTruce 75 = .ok (.goto 4, 3) := dk_167 0 4 (dk_at dksX9_buyTruce_3 4 rfl rfl)
theorem dX9_buyTruce_78 : decode cX9_buyTruce 78 = .ok (.iconst 0, 1) := dk_3 (dk_at dksX9_buyTruce_3 7 rfl rfl)
theorem dX9_buyTruce_79 : decode cX9_buyTruce 79 = .ok (.invokevirtual 373, 3) := dk_182 1 117 (dk_at dksX9_buyTruce_3 8 rfl rfl)
theorem dX9_buyTruce_82 : decode cX9_buyTruce 82 = .ok (.ifCond .eq 5, 3) := dk_153 0 5 (dk_at dksX9_buyTruce_3 11 rfl rfl)
theorem dX9_buyTruce_85 : decode cX9_buyTruce 85 = .ok (.iconst 0, 1) := dk_3 (dk_at dksX9_buyTruce_3 14 rfl rfl)
theorem dX9_buyTruce_86 : decode cX9_buyTruce 86 = .ok (.ireturn, 1) := dk_172 (dk_at dksX9_buyTruce_3 15 rfl rfl)
theorem dX9_buyTruce_87 : decode cX9_buyTruce 87 = .ok (.aload_n 0, 1) := dk_42 (dk_at dksX9_buyTruce_3 16 rfl rfl)
theorem dX9_buyTruce_88 : decode cX9_buyTruce 88 = .ok (.invokevirtual 361, 3) := dk_182 1 105 (dk_at dksX9_buyTruce_3 17 rfl rfl)
theorem dX9_buyTruce_91 : decode cX9_buyTruce 91 = .ok (.aload_n 0, 1) := dk_42 (dk_at dksX9_buyTruce_3 20 rfl rfl)
theorem dX9_buyTruce_92 : decode cX9_buyTruce 92 = .ok (.aload_n 0, 1) := dk_42 (dk_at dksX9_buyTruce_3 21 rfl rfl)
theorem dX9_buyTruce_93 : decode cX9_buyTruce 93 = .ok (.iload_n 1, 1) := dk_27 (dk_at dksX9_buyTruce_3 22 rfl rfl)
theorem dX9_buyTruce_94 : decode cX9_buyTruce 94 = .ok (.iload_n 2, 1) := dk_28 (dk_at dksX9_buyTruce_3 23 rfl rfl)
theorem dX9_buyTruce_95 : decode cX9_buyTruce 95 = .ok (.iload_n 3, 1) := dk_29 (dk_at dksX9_buyTruce_4 0 rfl rfl)
theorem dX9_buyTruce_96 : decode cX9_buyTruce 96 = .ok (.iload 4, 2) := dk_21 4 (dk_at dksX9_buyTruce_4 1 rfl rfl)
theorem dX9_buyTruce_98 : decode cX9_buyTruce 98 = .ok (.invokevirtual 244, 3) := dk_182 0 244 (dk_at dksX9_buyTruce_4 3 rfl rfl)
theorem dX9_buyTruce_101 : decode cX9_buyTruce 101 = .ok (.invokevirtual 364, 3) := dk_182 1 108 (dk_at dksX9_buyTruce_4 6 rfl rfl)
theorem dX9_buyTruce_104 : decode cX9_buyTruce 104 = .ok (.ireturn, 1) := dk_172 (dk_at dksX9_buyTruce_4 9 rfl rfl)
abbrev cX9_nominate : ByteArray := prog_11_method_99_code
def yX9_nominate : MethodName := ⟨RX9, "nominate", "(II)I"⟩
def dkwX9_nominate_2 : List UInt8 := [182, 1, 108, 172]
abbrev dktX9_nominate_2 : List UInt8 := dkwX9_nominate_2 ++ []
def dkwX9_nominate_1 : List UInt8 := [167, 0, 4, 3, 182, 1, 111, 153, 0, 5, 3, 172, 42, 182, 1, 105, 42, 42, 27, 28, 182, 0, 251]
abbrev dktX9_nominate_1 : List UInt8 := dkwX9_nominate_1 ++ dktX9_nominate_2
def dkwX9_nominate_0 : List UInt8 := [42, 27, 28, 184, 1, 120, 154, 0, 7, 4, 167, 0, 4, 3, 42, 182, 0, 248, 154, 0, 7, 4]
abbrev dktX9_nominate_0 : List UInt8 := dkwX9_nominate_0 ++ dktX9_nominate_1
theorem dksX9_nominate_0 : cX9_nominate.data.toList.drop 0 = dktX9_nominate_0 := by decide +kernel
theorem dksX9_nominate_1 : cX9_nominate.data.toList.drop 22 = dktX9_nominate_1 := dk_seg dksX9_nominate_0 22 rfl rfl
theorem dksX9_nominate_2 : cX9_nominate.data.toList.drop 45 = dktX9_nominate_2 := dk_seg dksX9_nominate_1 23 rfl rfl
theorem dX9_nominate_0 : decode cX9_nominate 0 = .ok (.aload_n 0, 1) := dk_42 (dk_at dksX9_nominate_0 0 rfl rfl)
theorem dX9_nominate_1 : decode cX9_nominate 1 = .ok (.iload_n 1, 1) := dk_27 (dk_at dksX9_nominate_0 1 rfl rfl)
theorem dX9_nominate_2 : decode cX9_nominate 2 = .ok (.iload_n 2, 1) := dk_28 (dk_at dksX9_nominate_0 2 rfl rfl)
theorem dX9_nominate_3 : decode cX9_nominate 3 = .ok (.invokestatic 376, 3) := dk_184 1 120 (dk_at dksX9_nominate_0 3 rfl rfl)
theorem dX9_nominate_6 : decode cX9_nominate 6 = .ok (.ifCond .ne 7, 3) := dk_154 0 7 (dk_at dksX9_nominate_0 6 rfl rfl)
theorem dX9_nominate_9 : decode cX9_nominate 9 = .ok (.iconst 1, 1) := dk_4 (dk_at dksX9_nominate_0 9 rfl rfl)
theorem dX9_nominate_10 : decode cX9_nominate 10 = .ok (.goto 4, 3) := dk_167 0 4 (dk_at dksX9_nominate_0 10 rfl rfl)
theorem dX9_nominate_13 : decode cX9_nominate 13 = .ok (.iconst 0, 1) := dk_3 (dk_at dksX9_nominate_0 13 rfl rfl)
theorem dX9_nominate_14 : decode cX9_nominate 14 = .ok (.aload_n 0, 1) := dk_42 (dk_at dksX9_nominate_0 14 rfl rfl)
theorem dX9_nominate_15 : decode cX9_nominate 15 = .ok (.invokevirtual 248, 3) := dk_182 0 248 (dk_at dksX9_nominate_0 15 rfl rfl)
theorem dX9_nominate_18 : decode cX9_nominate 18 = .ok (.ifCond .ne 7, 3) := dk_154 0 7 (dk_at dksX9_nominate_0 18 rfl rfl)
theorem dX9_nominate_21 : decode cX9_nominate 21 = .ok (.iconst 1, 1) := dk_4 (dk_at dksX9_nominate_0 21 rfl rfl)
theorem dX9_nominate_22 : decode cX9_nominate 22 = .ok (.goto 4, 3) := dk_167 0 4 (dk_at dksX9_nominate_1 0 rfl rfl)
theorem dX9_nominate_25 : decode cX9_nominate 25 = .ok (.iconst 0, 1) := dk_3 (dk_at dksX9_nominate_1 3 rfl rfl)
theorem dX9_nominate_26 : decode cX9_nominate 26 = .ok (.invokevirtual 367, 3) := dk_182 1 111 (dk_at dksX9_nominate_1 4 rfl rfl)
theorem dX9_nominate_29 : decode cX9_nominate 29 = .ok (.ifCond .eq 5, 3) := dk_153 0 5 (dk_at dksX9_nominate_1 7 rfl rfl)
theorem dX9_nominate_32 : decode cX9_nominate 32 = .ok (.iconst 0, 1) := dk_3 (dk_at dksX9_nominate_1 10 rfl rfl)
theorem dX9_nominate_33 : decode cX9_nominate 33 = .ok (.ireturn, 1) := dk_172 (dk_at dksX9_nominate_1 11 rfl rfl)
theorem dX9_nominate_34 : decode cX9_nominate 34 = .ok (.aload_n 0, 1) := dk_42 (dk_at dksX9_nominate_1 12 rfl rfl)
theorem dX9_nominate_35 : decode cX9_nominate 35 = .ok (.invokevirtual 361, 3) := dk_182 1 105 (dk_at dksX9_nominate_1 13 rfl rfl)
theorem dX9_nominate_38 : decode cX9_nominate 38 = .ok (.aload_n 0, 1) := dk_42 (dk_at dksX9_nominate_1 16 rfl rfl)
theorem dX9_nominate_39 : decode cX9_nominate 39 = .ok (.aload_n 0, 1) := dk_42 (dk_at dksX9_nominate_1 17 rfl rfl)
theorem dX9_nominate_40 : decode cX9_nominate 40 = .ok (.iload_n 1, 1) := dk_27 (dk_at dksX9_nominate_1 18 rfl rfl)
theorem dX9_nominate_41 : decode cX9_nominate 41 = .ok (.iload_n 2, 1) := dk_28 (dk_at dksX9_nominate_1 19 rfl rfl)
theorem dX9_nominate_42 : decode cX9_nominate 42 = .ok (.invokevirtual 251, 3) := dk_182 0 251 (dk_at dksX9_nominate_1 20 rfl rfl)
theorem dX9_nominate_45 : decode cX9_nominate 45 = .ok (.invokevirtual 364, 3) := dk_182 1 108 (dk_at dksX9_nominate_2 0 rfl rfl)
theorem dX9_nominate_48 : decode cX9_nominate 48 = .ok (.ireturn, 1) := dk_172 (dk_at dksX9_nominate_2 3 rfl rfl)
abbrev cX9_vote : ByteArray := prog_11_method_100_code
def yX9_vote : MethodName := ⟨RX9, "vote", "(IZ)Z"⟩
def dkwX9_vote_3 : List UInt8 := [167, 0, 4, 3, 172]
abbrev dktX9_vote_3 : List UInt8 := dkwX9_vote_3 ++ []
def dkwX9_vote_2 : List UInt8 := [42, 27, 28, 182, 1, 1, 153, 0, 7, 4, 167, 0, 4, 3, 182, 1, 108, 4, 160, 0, 7, 4]
abbrev dktX9_vote_2 : List UInt8 := dkwX9_vote_2 ++ dktX9_vote_3
def dkwX9_vote_1 : List UInt8 := [182, 0, 254, 154, 0, 7, 4, 167, 0, 4, 3, 182, 1, 111, 153, 0, 5, 3, 172, 42, 182, 1, 105, 42]
abbrev dktX9_vote_1 : List UInt8 := dkwX9_vote_1 ++ dktX9_vote_2
def dkwX9_vote_0 : List UInt8 := [42, 27, 182, 1, 123, 62, 42, 29, 154, 0, 7, 4, 167, 0, 4, 3, 29, 153, 0, 15, 42, 27]
abbrev dktX9_vote_0 : List UInt8 := dkwX9_vote_0 ++ dktX9_vote_1
theorem dksX9_vote_0 : cX9_vote.data.toList.drop 0 = dktX9_vote_0 := by decide +kernel
theorem dksX9_vote_1 : cX9_vote.data.toList.drop 22 = dktX9_vote_1 := dk_seg dksX9_vote_0 22 rfl rfl
theorem dksX9_vote_2 : cX9_vote.data.toList.drop 46 = dktX9_vote_2 := dk_seg dksX9_vote_1 24 rfl rfl
theorem dksX9_vote_3 : cX9_vote.data.toList.drop 68 = dktX9_vote_3 := dk_seg dksX9_vote_2 22 rfl rfl
theorem dX9_vote_0 : decode cX9_vote 0 = .ok (.aload_n 0, 1) := dk_42 (dk_at dksX9_vote_0 0 rfl rfl)
theorem dX9_vote_1 : decode cX9_vote 1 = .ok (.iload_n 1, 1) := dk_27 (dk_at dksX9_vote_0 1 rfl rfl)
theorem dX9_vote_2 : decode cX9_vote 2 = .ok (.invokevirtual 379, 3) := dk_182 1 123 (dk_at dksX9_vote_0 2 rfl rfl)
theorem dX9_vote_5 : decode cX9_vote 5 = .ok (.istore_n 3, 1) := dk_62 (dk_at dksX9_vote_0 5 rfl rfl)
theorem dX9_vote_6 : decode cX9_vote 6 = .ok (.aload_n 0, 1) := dk_42 (dk_at dksX9_vote_0 6 rfl rfl)
theorem dX9_vote_7 : decode cX9_vote 7 = .ok (.iload_n 3, 1) := dk_29 (dk_at dksX9_vote_0 7 rfl rfl)
theorem dX9_vote_8 : decode cX9_vote 8 = .ok (.ifCond .ne 7, 3) := dk_154 0 7 (dk_at dksX9_vote_0 8 rfl rfl)
theorem dX9_vote_11 : decode cX9_vote 11 = .ok (.iconst 1, 1) := dk_4 (dk_at dksX9_vote_0 11 rfl rfl)
theorem dX9_vote_12 : decode cX9_vote 12 = .ok (.goto 4, 3) := dk_167 0 4 (dk_at dksX9_vote_0 12 rfl rfl)
theorem dX9_vote_15 : decode cX9_vote 15 = .ok (.iconst 0, 1) := dk_3 (dk_at dksX9_vote_0 15 rfl rfl)
theorem dX9_vote_16 : decode cX9_vote 16 = .ok (.iload_n 3, 1) := dk_29 (dk_at dksX9_vote_0 16 rfl rfl)
theorem dX9_vote_17 : decode cX9_vote 17 = .ok (.ifCond .eq 15, 3) := dk_153 0 15 (dk_at dksX9_vote_0 17 rfl rfl)
theorem dX9_vote_20 : decode cX9_vote 20 = .ok (.aload_n 0, 1) := dk_42 (dk_at dksX9_vote_0 20 rfl rfl)
theorem dX9_vote_21 : decode cX9_vote 21 = .ok (.iload_n 1, 1) := dk_27 (dk_at dksX9_vote_0 21 rfl rfl)
theorem dX9_vote_22 : decode cX9_vote 22 = .ok (.invokevirtual 254, 3) := dk_182 0 254 (dk_at dksX9_vote_1 0 rfl rfl)
theorem dX9_vote_25 : decode cX9_vote 25 = .ok (.ifCond .ne 7, 3) := dk_154 0 7 (dk_at dksX9_vote_1 3 rfl rfl)
theorem dX9_vote_28 : decode cX9_vote 28 = .ok (.iconst 1, 1) := dk_4 (dk_at dksX9_vote_1 6 rfl rfl)
theorem dX9_vote_29 : decode cX9_vote 29 = .ok (.goto 4, 3) := dk_167 0 4 (dk_at dksX9_vote_1 7 rfl rfl)
theorem dX9_vote_32 : decode cX9_vote 32 = .ok (.iconst 0, 1) := dk_3 (dk_at dksX9_vote_1 10 rfl rfl)
theorem dX9_vote_33 : decode cX9_vote 33 = .ok (.invokevirtual 367, 3) := dk_182 1 111 (dk_at dksX9_vote_1 11 rfl rfl)
theorem dX9_vote_36 : decode cX9_vote 36 = .ok (.ifCond .eq 5, 3) := dk_153 0 5 (dk_at dksX9_vote_1 14 rfl rfl)
theorem dX9_vote_39 : decode cX9_vote 39 = .ok (.iconst 0, 1) := dk_3 (dk_at dksX9_vote_1 17 rfl rfl)
theorem dX9_vote_40 : decode cX9_vote 40 = .ok (.ireturn, 1) := dk_172 (dk_at dksX9_vote_1 18 rfl rfl)
theorem dX9_vote_41 : decode cX9_vote 41 = .ok (.aload_n 0, 1) := dk_42 (dk_at dksX9_vote_1 19 rfl rfl)
theorem dX9_vote_42 : decode cX9_vote 42 = .ok (.invokevirtual 361, 3) := dk_182 1 105 (dk_at dksX9_vote_1 20 rfl rfl)
theorem dX9_vote_45 : decode cX9_vote 45 = .ok (.aload_n 0, 1) := dk_42 (dk_at dksX9_vote_1 23 rfl rfl)
theorem dX9_vote_46 : decode cX9_vote 46 = .ok (.aload_n 0, 1) := dk_42 (dk_at dksX9_vote_2 0 rfl rfl)
theorem dX9_vote_47 : decode cX9_vote 47 = .ok (.iload_n 1, 1) := dk_27 (dk_at dksX9_vote_2 1 rfl rfl)
theorem dX9_vote_48 : decode cX9_vote 48 = .ok (.iload_n 2, 1) := dk_28 (dk_at dksX9_vote_2 2 rfl rfl)
theorem dX9_vote_49 : decode cX9_vote 49 = .ok (.invokevirtual 257, 3) := dk_182 1 1 (dk_at dksX9_vote_2 3 rfl rfl)
theorem dX9_vote_52 : decode cX9_vote 52 = .ok (.ifCond .eq 7, 3) := dk_153 0 7 (dk_at dksX9_vote_2 6 rfl rfl)
theorem dX9_vote_55 : decode cX9_vote 55 = .ok (.iconst 1, 1) := dk_4 (dk_at dksX9_vote_2 9 rfl rfl)
theorem dX9_vote_56 : decode cX9_vote 56 = .ok (.goto 4, 3) := dk_167 0 4 (dk_at dksX9_vote_2 10 rfl rfl)
theorem dX9_vote_59 : decode cX9_vote 59 = .ok (.iconst 0, 1) := dk_3 (dk_at dksX9_vote_2 13 rfl rfl)
theorem dX9_vote_60 : decode cX9_vote 60 = .ok (.invokevirtual 364, 3) := dk_182 1 108 (dk_at dksX9_vote_2 14 rfl rfl)
theorem dX9_vote_63 : decode cX9_vote 63 = .ok (.iconst 1, 1) := dk_4 (dk_at dksX9_vote_2 17 rfl rfl)
theorem dX9_vote_64 : decode cX9_vote 64 = .ok (.if_icmp .ne 7, 3) := dk_160 0 7 (dk_at dksX9_vote_2 18 rfl rfl)
theorem dX9_vote_67 : decode cX9_vote 67 = .ok (.iconst 1, 1) := dk_4 (dk_at dksX9_vote_2 21 rfl rfl)
theorem dX9_vote_68 : decode cX9_vote 68 = .ok (.goto 4, 3) := dk_167 0 4 (dk_at dksX9_vote_3 0 rfl rfl)
theorem dX9_vote_71 : decode cX9_vote 71 = .ok (.iconst 0, 1) := dk_3 (dk_at dksX9_vote_3 3 rfl rfl)
theorem dX9_vote_72 : decode cX9_vote 72 = .ok (.ireturn, 1) := dk_172 (dk_at dksX9_vote_3 4 rfl rfl)
abbrev cX9_passNights : ByteArray := prog_11_method_101_code
def yX9_passNights : MethodName := ⟨RX9, "passNights", "(I)I"⟩
def dkwX9_passNights_2 : List UInt8 := [3, 172, 42, 182, 1, 105, 42, 42, 27, 182, 1, 5, 182, 1, 108, 172]
abbrev dktX9_passNights_2 : List UInt8 := dkwX9_passNights_2 ++ []
def dkwX9_passNights_1 : List UInt8 := [180, 0, 7, 6, 46, 27, 96, 17, 3, 231, 164, 0, 7, 4, 167, 0, 4, 3, 182, 1, 111, 153, 0, 5]
abbrev dktX9_passNights_1 : List UInt8 := dkwX9_passNights_1 ++ dktX9_passNights_2
def dkwX9_passNights_0 : List UInt8 := [27, 4, 16, 30, 184, 0, 60, 154, 0, 7, 4, 167, 0, 4, 3, 61, 42, 28, 28, 154, 0, 21, 42]
abbrev dktX9_passNights_0 : List UInt8 := dkwX9_passNights_0 ++ dktX9_passNights_1
theorem dksX9_passNights_0 : cX9_passNights.data.toList.drop 0 = dktX9_passNights_0 := by decide +kernel
theorem dksX9_passNights_1 : cX9_passNights.data.toList.drop 23 = dktX9_passNights_1 := dk_seg dksX9_passNights_0 23 rfl rfl
theorem dksX9_passNights_2 : cX9_passNights.data.toList.drop 47 = dktX9_passNights_2 := dk_seg dksX9_passNights_1 24 rfl rfl
theorem dX9_passNights_0 : decode cX9_passNights 0 = .ok (.iload_n 1, 1) := dk_27 (dk_at dksX9_passNights_0 0 rfl rfl)
theorem dX9_passNights_1 : decode cX9_passNights 1 = .ok (.iconst 1, 1) := dk_4 (dk_at dksX9_passNights_0 1 rfl rfl)
theorem dX9_passNights_2 : decode cX9_passNights 2 = .ok (.bipush 30, 2) := dk_16 30 (dk_at dksX9_passNights_0 2 rfl rfl)
theorem dX9_passNights_4 : decode cX9_passNights 4 = .ok (.invokestatic 60, 3) := dk_184 0 60 (dk_at dksX9_passNights_0 4 rfl rfl)
theorem dX9_passNights_7 : decode cX9_passNights 7 = .ok (.ifCond .ne 7, 3) := dk_154 0 7 (dk_at dksX9_passNights_0 7 rfl rfl)
theorem dX9_passNights_10 : decode cX9_passNights 10 = .ok (.iconst 1, 1) := dk_4 (dk_at dksX9_passNights_0 10 rfl rfl)
theorem dX9_passNights_11 : decode cX9_passNights 11 = .ok (.goto 4, 3) := dk_167 0 4 (dk_at dksX9_passNights_0 11 rfl rfl)
theorem dX9_passNights_14 : decode cX9_passNights 14 = .ok (.iconst 0, 1) := dk_3 (dk_at dksX9_passNights_0 14 rfl rfl)
theorem dX9_passNights_15 : decode cX9_passNights 15 = .ok (.istore_n 2, 1) := dk_61 (dk_at dksX9_passNights_0 15 rfl rfl)
theorem dX9_passNights_16 : decode cX9_passNights 16 = .ok (.aload_n 0, 1) := dk_42 (dk_at dksX9_passNights_0 16 rfl rfl)
theorem dX9_passNights_17 : decode cX9_passNights 17 = .ok (.iload_n 2, 1) := dk_28 (dk_at dksX9_passNights_0 17 rfl rfl)
theorem dX9_passNights_18 : decode cX9_passNights 18 = .ok (.iload_n 2, 1) := dk_28 (dk_at dksX9_passNights_0 18 rfl rfl)
theorem dX9_passNights_19 : decode cX9_passNights 19 = .ok (.ifCond .ne 21, 3) := dk_154 0 21 (dk_at dksX9_passNights_0 19 rfl rfl)
theorem dX9_passNights_22 : decode cX9_passNights 22 = .ok (.aload_n 0, 1) := dk_42 (dk_at dksX9_passNights_0 22 rfl rfl)
theorem dX9_passNights_23 : decode cX9_passNights 23 = .ok (.getfield 7, 3) := dk_180 0 7 (dk_at dksX9_passNights_1 0 rfl rfl)
theorem dX9_passNights_26 : decode cX9_passNights 26 = .ok (.iconst 3, 1) := dk_6 (dk_at dksX9_passNights_1 3 rfl rfl)
theorem dX9_passNights_27 : decode cX9_passNights 27 = .ok (.iaload, 1) := dk_46 (dk_at dksX9_passNights_1 4 rfl rfl)
theorem dX9_passNights_28 : decode cX9_passNights 28 = .ok (.iload_n 1, 1) := dk_27 (dk_at dksX9_passNights_1 5 rfl rfl)
theorem dX9_passNights_29 : decode cX9_passNights 29 = .ok (.iadd, 1) := dk_96 (dk_at dksX9_passNights_1 6 rfl rfl)
theorem dX9_passNights_30 : decode cX9_passNights 30 = .ok (.sipush 999, 3) := dk_17 3 231 (dk_at dksX9_passNights_1 7 rfl rfl)
theorem dX9_passNights_33 : decode cX9_passNights 33 = .ok (.if_icmp .le 7, 3) := dk_164 0 7 (dk_at dksX9_passNights_1 10 rfl rfl)
theorem dX9_passNights_36 : decode cX9_passNights 36 = .ok (.iconst 1, 1) := dk_4 (dk_at dksX9_passNights_1 13 rfl rfl)
theorem dX9_passNights_37 : decode cX9_passNights 37 = .ok (.goto 4, 3) := dk_167 0 4 (dk_at dksX9_passNights_1 14 rfl rfl)
theorem dX9_passNights_40 : decode cX9_passNights 40 = .ok (.iconst 0, 1) := dk_3 (dk_at dksX9_passNights_1 17 rfl rfl)
theorem dX9_passNights_41 : decode cX9_passNights 41 = .ok (.invokevirtual 367, 3) := dk_182 1 111 (dk_at dksX9_passNights_1 18 rfl rfl)
theorem dX9_passNights_44 : decode cX9_passNights 44 = .ok (.ifCond .eq 5, 3) := dk_153 0 5 (dk_at dksX9_passNights_1 21 rfl rfl)
theorem dX9_passNights_47 : decode cX9_passNights 47 = .ok (.iconst 0, 1) := dk_3 (dk_at dksX9_passNights_2 0 rfl rfl)
theorem dX9_passNights_48 : decode cX9_passNights 48 = .ok (.ireturn, 1) := dk_172 (dk_at dksX9_passNights_2 1 rfl rfl)
theorem dX9_passNights_49 : decode cX9_passNights 49 = .ok (.aload_n 0, 1) := dk_42 (dk_at dksX9_passNights_2 2 rfl rfl)
theorem dX9_passNights_50 : decode cX9_passNights 50 = .ok (.invokevirtual 361, 3) := dk_182 1 105 (dk_at dksX9_passNights_2 3 rfl rfl)
theorem dX9_passNights_53 : decode cX9_passNights 53 = .ok (.aload_n 0, 1) := dk_42 (dk_at dksX9_passNights_2 6 rfl rfl)
theorem dX9_passNights_54 : decode cX9_passNights 54 = .ok (.aload_n 0, 1) := dk_42 (dk_at dksX9_passNights_2 7 rfl rfl)
theorem dX9_passNights_55 : decode cX9_passNights 55 = .ok (.iload_n 1, 1) := dk_27 (dk_at dksX9_passNights_2 8 rfl rfl)
theorem dX9_passNights_56 : decode cX9_passNights 56 = .ok (.invokevirtual 261, 3) := dk_182 1 5 (dk_at dksX9_passNights_2 9 rfl rfl)
theorem dX9_passNights_59 : decode cX9_passNights 59 = .ok (.invokevirtual 364, 3) := dk_182 1 108 (dk_at dksX9_passNights_2 12 rfl rfl)
theorem dX9_passNights_62 : decode cX9_passNights 62 = .ok (.ireturn, 1) := dk_172 (dk_at dksX9_passNights_2 15 rfl rfl)
abbrev cX9_undo : ByteArray := prog_11_method_102_code
def yX9_undo : MethodName := ⟨RX9, "undo", "()I"⟩
def dkwX9_undo_2 : List UInt8 := [180, 1, 102, 104, 27, 96, 46, 79, 132, 1, 1, 167, 255, 225, 42, 180, 1, 102, 172]
abbrev dktX9_undo_2 : List UInt8 := dkwX9_undo_2 ++ []
def dkwX9_undo_1 : List UInt8 := [3, 60, 27, 17, 0, 186, 162, 0, 30, 42, 180, 0, 7, 27, 42, 180, 0, 19, 17, 0, 186, 42]
abbrev dktX9_undo_1 : List UInt8 := dkwX9_undo_1 ++ dktX9_undo_2
def dkwX9_undo_0 : List UInt8 := [42, 3, 181, 0, 57, 42, 180, 1, 102, 154, 0, 5, 2, 172, 42, 89, 180, 1, 102, 4, 100, 181, 1, 102]
abbrev dktX9_undo_0 : List UInt8 := dkwX9_undo_0 ++ dktX9_undo_1
theorem dksX9_undo_0 : cX9_undo.data.toList.drop 0 = dktX9_undo_0 := by decide +kernel
theorem dksX9_undo_1 : cX9_undo.data.toList.drop 24 = dktX9_undo_1 := dk_seg dksX9_undo_0 24 rfl rfl
theorem dksX9_undo_2 : cX9_undo.data.toList.drop 46 = dktX9_undo_2 := dk_seg dksX9_undo_1 22 rfl rfl
theorem dX9_undo_0 : decode cX9_undo 0 = .ok (.aload_n 0, 1) := dk_42 (dk_at dksX9_undo_0 0 rfl rfl)
theorem dX9_undo_1 : decode cX9_undo 1 = .ok (.iconst 0, 1) := dk_3 (dk_at dksX9_undo_0 1 rfl rfl)
theorem dX9_undo_2 : decode cX9_undo 2 = .ok (.putfield 57, 3) := dk_181 0 57 (dk_at dksX9_undo_0 2 rfl rfl)
theorem dX9_undo_5 : decode cX9_undo 5 = .ok (.aload_n 0, 1) := dk_42 (dk_at dksX9_undo_0 5 rfl rfl)
theorem dX9_undo_6 : decode cX9_undo 6 = .ok (.getfield 358, 3) := dk_180 1 102 (dk_at dksX9_undo_0 6 rfl rfl)
theorem dX9_undo_9 : decode cX9_undo 9 = .ok (.ifCond .ne 5, 3) := dk_154 0 5 (dk_at dksX9_undo_0 9 rfl rfl)
theorem dX9_undo_12 : decode cX9_undo 12 = .ok (.iconst (-1), 1) := dk_2 (dk_at dksX9_undo_0 12 rfl rfl)
theorem dX9_undo_13 : decode cX9_undo 13 = .ok (.ireturn, 1) := dk_172 (dk_at dksX9_undo_0 13 rfl rfl)
theorem dX9_undo_14 : decode cX9_undo 14 = .ok (.aload_n 0, 1) := dk_42 (dk_at dksX9_undo_0 14 rfl rfl)
theorem dX9_undo_15 : decode cX9_undo 15 = .ok (.dup, 1) := dk_89 (dk_at dksX9_undo_0 15 rfl rfl)
theorem dX9_undo_16 : decode cX9_undo 16 = .ok (.getfield 358, 3) := dk_180 1 102 (dk_at dksX9_undo_0 16 rfl rfl)
theorem dX9_undo_19 : decode cX9_undo 19 = .ok (.iconst 1, 1) := dk_4 (dk_at dksX9_undo_0 19 rfl rfl)
theorem dX9_undo_20 : decode cX9_undo 20 = .ok (.isub, 1) := dk_100 (dk_at dksX9_undo_0 20 rfl rfl)
theorem dX9_undo_21 : decode cX9_undo 21 = .ok (.putfield 358, 3) := dk_181 1 102 (dk_at dksX9_undo_0 21 rfl rfl)
theorem dX9_undo_24 : decode cX9_undo 24 = .ok (.iconst 0, 1) := dk_3 (dk_at dksX9_undo_1 0 rfl rfl)
theorem dX9_undo_25 : decode cX9_undo 25 = .ok (.istore_n 1, 1) := dk_60 (dk_at dksX9_undo_1 1 rfl rfl)
theorem dX9_undo_26 : decode cX9_undo 26 = .ok (.iload_n 1, 1) := dk_27 (dk_at dksX9_undo_1 2 rfl rfl)
theorem dX9_undo_27 : decode cX9_undo 27 = .ok (.sipush 186, 3) := dk_17 0 186 (dk_at dksX9_undo_1 3 rfl rfl)
theorem dX9_undo_30 : decode cX9_undo 30 = .ok (.if_icmp .ge 30, 3) := dk_162 0 30 (dk_at dksX9_undo_1 6 rfl rfl)
theorem dX9_undo_33 : decode cX9_undo 33 = .ok (.aload_n 0, 1) := dk_42 (dk_at dksX9_undo_1 9 rfl rfl)
theorem dX9_undo_34 : decode cX9_undo 34 = .ok (.getfield 7, 3) := dk_180 0 7 (dk_at dksX9_undo_1 10 rfl rfl)
theorem dX9_undo_37 : decode cX9_undo 37 = .ok (.iload_n 1, 1) := dk_27 (dk_at dksX9_undo_1 13 rfl rfl)
theorem dX9_undo_38 : decode cX9_undo 38 = .ok (.aload_n 0, 1) := dk_42 (dk_at dksX9_undo_1 14 rfl rfl)
theorem dX9_undo_39 : decode cX9_undo 39 = .ok (.getfield 19, 3) := dk_180 0 19 (dk_at dksX9_undo_1 15 rfl rfl)
theorem dX9_undo_42 : decode cX9_undo 42 = .ok (.sipush 186, 3) := dk_17 0 186 (dk_at dksX9_undo_1 18 rfl rfl)
theorem dX9_undo_45 : decode cX9_undo 45 = .ok (.aload_n 0, 1) := dk_42 (dk_at dksX9_undo_1 21 rfl rfl)
theorem dX9_undo_46 : decode cX9_undo 46 = .ok (.getfield 358, 3) := dk_180 1 102 (dk_at dksX9_undo_2 0 rfl rfl)
theorem dX9_undo_49 : decode cX9_undo 49 = .ok (.imul, 1) := dk_104 (dk_at dksX9_undo_2 3 rfl rfl)
theorem dX9_undo_50 : decode cX9_undo 50 = .ok (.iload_n 1, 1) := dk_27 (dk_at dksX9_undo_2 4 rfl rfl)
theorem dX9_undo_51 : decode cX9_undo 51 = .ok (.iadd, 1) := dk_96 (dk_at dksX9_undo_2 5 rfl rfl)
theorem dX9_undo_52 : decode cX9_undo 52 = .ok (.iaload, 1) := dk_46 (dk_at dksX9_undo_2 6 rfl rfl)
theorem dX9_undo_53 : decode cX9_undo 53 = .ok (.iastore, 1) := dk_79 (dk_at dksX9_undo_2 7 rfl rfl)
theorem dX9_undo_54 : decode cX9_undo 54 = .ok (.iinc 1 1, 3) := dk_132 1 1 (dk_at dksX9_undo_2 8 rfl rfl)
theorem dX9_undo_57 : decode cX9_undo 57 = .ok (.goto (-31), 3) := dk_167 255 225 (dk_at dksX9_undo_2 11 rfl rfl)
theorem dX9_undo_60 : decode cX9_undo 60 = .ok (.aload_n 0, 1) := dk_42 (dk_at dksX9_undo_2 14 rfl rfl)
theorem dX9_undo_61 : decode cX9_undo 61 = .ok (.getfield 358, 3) := dk_180 1 102 (dk_at dksX9_undo_2 15 rfl rfl)
theorem dX9_undo_64 : decode cX9_undo 64 = .ok (.ireturn, 1) := dk_172 (dk_at dksX9_undo_2 18 rfl rfl)
abbrev cX9_undoCount : ByteArray := prog_11_method_103_code
def yX9_undoCount : MethodName := ⟨RX9, "undoCount", "()I"⟩
def dkwX9_undoCount_0 : List UInt8 := [42, 3, 181, 0, 57, 42, 180, 1, 102, 172]
abbrev dktX9_undoCount_0 : List UInt8 := dkwX9_undoCount_0 ++ []
theorem dksX9_undoCount_0 : cX9_undoCount.data.toList.drop 0 = dktX9_undoCount_0 := by decide +kernel
theorem dX9_undoCount_0 : decode cX9_undoCount 0 = .ok (.aload_n 0, 1) := dk_42 (dk_at dksX9_undoCount_0 0 rfl rfl)
theorem dX9_undoCount_1 : decode cX9_undoCount 1 = .ok (.iconst 0, 1) := dk_3 (dk_at dksX9_undoCount_0 1 rfl rfl)
theorem dX9_undoCount_2 : decode cX9_undoCount 2 = .ok (.putfield 57, 3) := dk_181 0 57 (dk_at dksX9_undoCount_0 2 rfl rfl)
theorem dX9_undoCount_5 : decode cX9_undoCount 5 = .ok (.aload_n 0, 1) := dk_42 (dk_at dksX9_undoCount_0 5 rfl rfl)
theorem dX9_undoCount_6 : decode cX9_undoCount 6 = .ok (.getfield 358, 3) := dk_180 1 102 (dk_at dksX9_undoCount_0 6 rfl rfl)
theorem dX9_undoCount_9 : decode cX9_undoCount 9 = .ok (.ireturn, 1) := dk_172 (dk_at dksX9_undoCount_0 9 rfl rfl)
abbrev cX9_saveSnapshot : ByteArray := prog_11_method_104_code
def yX9_saveSnapshot : MethodName := ⟨RX9, "saveSnapshot", "()I"⟩
def dkwX9_saveSnapshot_1 : List UInt8 := [42, 180, 0, 7, 27, 46, 79, 132, 1, 1, 167, 255, 234, 42, 180, 0, 7, 6, 46, 172]
abbrev dktX9_saveSnapshot_1 : List UInt8 := dkwX9_saveSnapshot_1 ++ []
def dkwX9_saveSnapshot_0 : List UInt8 := [42, 3, 181, 0, 57, 42, 4, 181, 1, 132, 3, 60, 27, 17, 0, 186, 162, 0, 21, 42, 180, 0, 22, 27]
abbrev dktX9_saveSnapshot_0 : List UInt8 := dkwX9_saveSnapshot_0 ++ dktX9_saveSnapshot_1
theorem dksX9_saveSnapshot_0 : cX9_saveSnapshot.data.toList.drop 0 = dktX9_saveSnapshot_0 := by decide +kernel
theorem dksX9_saveSnapshot_1 : cX9_saveSnapshot.data.toList.drop 24 = dktX9_saveSnapshot_1 := dk_seg dksX9_saveSnapshot_0 24 rfl rfl
theorem dX9_saveSnapshot_0 : decode cX9_saveSnapshot 0 = .ok (.aload_n 0, 1) := dk_42 (dk_at dksX9_saveSnapshot_0 0 rfl rfl)
theorem dX9_saveSnapshot_1 : decode cX9_saveSnapshot 1 = .ok (.iconst 0, 1) := dk_3 (dk_at dksX9_saveSnapshot_0 1 rfl rfl)
theorem dX9_saveSnapshot_2 : decode cX9_saveSnapshot 2 = .ok (.putfield 57, 3) := dk_181 0 57 (dk_at dksX9_saveSnapshot_0 2 rfl rfl)
theorem dX9_saveSnapshot_5 : decode cX9_saveSnapshot 5 = .ok (.aload_n 0, 1) := dk_42 (dk_at dksX9_saveSnapshot_0 5 rfl rfl)
theorem dX9_saveSnapshot_6 : decode cX9_saveSnapshot 6 = .ok (.iconst 1, 1) := dk_4 (dk_at dksX9_saveSnapshot_0 6 rfl rfl)
theorem dX9_saveSnapshot_7 : decode cX9_saveSnapshot 7 = .ok (.putfield 388, 3) := dk_181 1 132 (dk_at dksX9_saveSnapshot_0 7 rfl rfl)
theorem dX9_saveSnapshot_10 : decode cX9_saveSnapshot 10 = .ok (.iconst 0, 1) := dk_3 (dk_at dksX9_saveSnapshot_0 10 rfl rfl)
theorem dX9_saveSnapshot_11 : decode cX9_saveSnapshot 11 = .ok (.istore_n 1, 1) := dk_60 (dk_at dksX9_saveSnapshot_0 11 rfl rfl)
theorem dX9_saveSnapshot_12 : decode cX9_saveSnapshot 12 = .ok (.iload_n 1, 1) := dk_27 (dk_at dksX9_saveSnapshot_0 12 rfl rfl)
theorem dX9_saveSnapshot_13 : decode cX9_saveSnapshot 13 = .ok (.sipush 186, 3) := dk_17 0 186 (dk_at dksX9_saveSnapshot_0 13 rfl rfl)
theorem dX9_saveSnapshot_16 : decode cX9_saveSnapshot 16 = .ok (.if_icmp .ge 21, 3) := dk_162 0 21 (dk_at dksX9_saveSnapshot_0 16 rfl rfl)
theorem dX9_saveSnapshot_19 : decode cX9_saveSnapshot 19 = .ok (.aload_n 0, 1) := dk_42 (dk_at dksX9_saveSnapshot_0 19 rfl rfl)
theorem dX9_saveSnapshot_20 : decode cX9_saveSnapshot 20 = .ok (.getfield 22, 3) := dk_180 0 22 (dk_at dksX9_saveSnapshot_0 20 rfl rfl)
theorem dX9_saveSnapshot_23 : decode cX9_saveSnapshot 23 = .ok (.iload_n 1, 1) := dk_27 (dk_at dksX9_saveSnapshot_0 23 rfl rfl)
theorem dX9_saveSnapshot_24 : decode cX9_saveSnapshot 24 = .ok (.aload_n 0, 1) := dk_42 (dk_at dksX9_saveSnapshot_1 0 rfl rfl)
theorem dX9_saveSnapshot_25 : decode cX9_saveSnapshot 25 = .ok (.getfield 7, 3) := dk_180 0 7 (dk_at dksX9_saveSnapshot_1 1 rfl rfl)
theorem dX9_saveSnapshot_28 : decode cX9_saveSnapshot 28 = .ok (.iload_n 1, 1) := dk_27 (dk_at dksX9_saveSnapshot_1 4 rfl rfl)
theorem dX9_saveSnapshot_29 : decode cX9_saveSnapshot 29 = .ok (.iaload, 1) := dk_46 (dk_at dksX9_saveSnapshot_1 5 rfl rfl)
theorem dX9_saveSnapshot_30 : decode cX9_saveSnapshot 30 = .ok (.iastore, 1) := dk_79 (dk_at dksX9_saveSnapshot_1 6 rfl rfl)
theorem dX9_saveSnapshot_31 : decode cX9_saveSnapshot 31 = .ok (.iinc 1 1, 3) := dk_132 1 1 (dk_at dksX9_saveSnapshot_1 7 rfl rfl)
theorem dX9_saveSnapshot_34 : decode cX9_saveSnapshot 34 = .ok (.goto (-22), 3) := dk_167 255 234 (dk_at dksX9_saveSnapshot_1 10 rfl rfl)
theorem dX9_saveSnapshot_37 : decode cX9_saveSnapshot 37 = .ok (.aload_n 0, 1) := dk_42 (dk_at dksX9_saveSnapshot_1 13 rfl rfl)
theorem dX9_saveSnapshot_38 : decode cX9_saveSnapshot 38 = .ok (.getfield 7, 3) := dk_180 0 7 (dk_at dksX9_saveSnapshot_1 14 rfl rfl)
theorem dX9_saveSnapshot_41 : decode cX9_saveSnapshot 41 = .ok (.iconst 3, 1) := dk_6 (dk_at dksX9_saveSnapshot_1 17 rfl rfl)
theorem dX9_saveSnapshot_42 : decode cX9_saveSnapshot 42 = .ok (.iaload, 1) := dk_46 (dk_at dksX9_saveSnapshot_1 18 rfl rfl)
theorem dX9_saveSnapshot_43 : decode cX9_saveSnapshot 43 = .ok (.ireturn, 1) := dk_172 (dk_at dksX9_saveSnapshot_1 19 rfl rfl)
abbrev cX9_restoreSnapshot : ByteArray := prog_11_method_105_code
def yX9_restoreSnapshot : MethodName := ⟨RX9, "restoreSnapshot", "()I"⟩
def dkwX9_restoreSnapshot_2 : List UInt8 := [42, 3, 181, 1, 102, 42, 180, 0, 7, 6, 46, 172]
abbrev dktX9_restoreSnapshot_2 : List UInt8 := dkwX9_restoreSnapshot_2 ++ []
def dkwX9_restoreSnapshot_1 : List UInt8 := [17, 0, 186, 162, 0, 21, 42, 180, 0, 7, 27, 42, 180, 0, 22, 27, 46, 79, 132, 1, 1, 167, 255, 234]
abbrev dktX9_restoreSnapshot_1 : List UInt8 := dkwX9_restoreSnapshot_1 ++ dktX9_restoreSnapshot_2
def dkwX9_restoreSnapshot_0 : List UInt8 := [42, 42, 180, 1, 132, 154, 0, 7, 4, 167, 0, 4, 3, 182, 1, 99, 153, 0, 5, 3, 172, 3, 60, 27]
abbrev dktX9_restoreSnapshot_0 : List UInt8 := dkwX9_restoreSnapshot_0 ++ dktX9_restoreSnapshot_1
theorem dksX9_restoreSnapshot_0 : cX9_restoreSnapshot.data.toList.drop 0 = dktX9_restoreSnapshot_0 := by decide +kernel
theorem dksX9_restoreSnapshot_1 : cX9_restoreSnapshot.data.toList.drop 24 = dktX9_restoreSnapshot_1 := dk_seg dksX9_restoreSnapshot_0 24 rfl rfl
theorem dksX9_restoreSnapshot_2 : cX9_restoreSnapshot.data.toList.drop 48 = dktX9_restoreSnapshot_2 := dk_seg dksX9_restoreSnapshot_1 24 rfl rfl
theorem dX9_restoreSnapshot_0 : decode cX9_restoreSnapshot 0 = .ok (.aload_n 0, 1) := dk_42 (dk_at dksX9_restoreSnapshot_0 0 rfl rfl)
theorem dX9_restoreSnapshot_1 : decode cX9_restoreSnapshot 1 = .ok (.aload_n 0, 1) := dk_42 (dk_at dksX9_restoreSnapshot_0 1 rfl rfl)
theorem dX9_restoreSnapshot_2 : decode cX9_restoreSnapshot 2 = .ok (.getfield 388, 3) := dk_180 1 132 (dk_at dksX9_restoreSnapshot_0 2 rfl rfl)
theorem dX9_restoreSnapshot_5 : decode cX9_restoreSnapshot 5 = .ok (.ifCond .ne 7, 3) := dk_154 0 7 (dk_at dksX9_restoreSnapshot_0 5 rfl rfl)
theorem dX9_restoreSnapshot_8 : decode cX9_restoreSnapshot 8 = .ok (.iconst 1, 1) := dk_4 (dk_at dksX9_restoreSnapshot_0 8 rfl rfl)
theorem dX9_restoreSnapshot_9 : decode cX9_restoreSnapshot 9 = .ok (.goto 4, 3) := dk_167 0 4 (dk_at dksX9_restoreSnapshot_0 9 rfl rfl)
theorem dX9_restoreSnapshot_12 : decode cX9_restoreSnapshot 12 = .ok (.iconst 0, 1) := dk_3 (dk_at dksX9_restoreSnapshot_0 12 rfl rfl)
theorem dX9_restoreSnapshot_13 : decode cX9_restoreSnapshot 13 = .ok (.invokevirtual 355, 3) := dk_182 1 99 (dk_at dksX9_restoreSnapshot_0 13 rfl rfl)
theorem dX9_restoreSnapshot_16 : decode cX9_restoreSnapshot 16 = .ok (.ifCond .eq 5, 3) := dk_153 0 5 (dk_at dksX9_restoreSnapshot_0 16 rfl rfl)
theorem dX9_restoreSnapshot_19 : decode cX9_restoreSnapshot 19 = .ok (.iconst 0, 1) := dk_3 (dk_at dksX9_restoreSnapshot_0 19 rfl rfl)
theorem dX9_restoreSnapshot_20 : decode cX9_restoreSnapshot 20 = .ok (.ireturn, 1) := dk_172 (dk_at dksX9_restoreSnapshot_0 20 rfl rfl)
theorem dX9_restoreSnapshot_21 : decode cX9_restoreSnapshot 21 = .ok (.iconst 0, 1) := dk_3 (dk_at dksX9_restoreSnapshot_0 21 rfl rfl)
theorem dX9_restoreSnapshot_22 : decode cX9_restoreSnapshot 22 = .ok (.istore_n 1, 1) := dk_60 (dk_at dksX9_restoreSnapshot_0 22 rfl rfl)
theorem dX9_restoreSnapshot_23 : decode cX9_restoreSnapshot 23 = .ok (.iload_n 1, 1) := dk_27 (dk_at dksX9_restoreSnapshot_0 23 rfl rfl)
theorem dX9_restoreSnapshot_24 : decode cX9_restoreSnapshot 24 = .ok (.sipush 186, 3) := dk_17 0 186 (dk_at dksX9_restoreSnapshot_1 0 rfl rfl)
theorem dX9_restoreSnapshot_27 : decode cX9_restoreSnapshot 27 = .ok (.if_icmp .ge 21, 3) := dk_162 0 21 (dk_at dksX9_restoreSnapshot_1 3 rfl rfl)
theorem dX9_restoreSnapshot_30 : decode cX9_restoreSnapshot 30 = .ok (.aload_n 0, 1) := dk_42 (dk_at dksX9_restoreSnapshot_1 6 rfl rfl)
theorem dX9_restoreSnapshot_31 : decode cX9_restoreSnapshot 31 = .ok (.getfield 7, 3) := dk_180 0 7 (dk_at dksX9_restoreSnapshot_1 7 rfl rfl)
theorem dX9_restoreSnapshot_34 : decode cX9_restoreSnapshot 34 = .ok (.iload_n 1, 1) := dk_27 (dk_at dksX9_restoreSnapshot_1 10 rfl rfl)
theorem dX9_restoreSnapshot_35 : decode cX9_restoreSnapshot 35 = .ok (.aload_n 0, 1) := dk_42 (dk_at dksX9_restoreSnapshot_1 11 rfl rfl)
theorem dX9_restoreSnapshot_36 : decode cX9_restoreSnapshot 36 = .ok (.getfield 22, 3) := dk_180 0 22 (dk_at dksX9_restoreSnapshot_1 12 rfl rfl)
theorem dX9_restoreSnapshot_39 : decode cX9_restoreSnapshot 39 = .ok (.iload_n 1, 1) := dk_27 (dk_at dksX9_restoreSnapshot_1 15 rfl rfl)
theorem dX9_restoreSnapshot_40 : decode cX9_restoreSnapshot 40 = .ok (.iaload, 1) := dk_46 (dk_at dksX9_restoreSnapshot_1 16 rfl rfl)
theorem dX9_restoreSnapshot_41 : decode cX9_restoreSnapshot 41 = .ok (.iastore, 1) := dk_79 (dk_at dksX9_restoreSnapshot_1 17 rfl rfl)
theorem dX9_restoreSnapshot_42 : decode cX9_restoreSnapshot 42 = .ok (.iinc 1 1, 3) := dk_132 1 1 (dk_at dksX9_restoreSnapshot_1 18 rfl rfl)
theorem dX9_restoreSnapshot_45 : decode cX9_restoreSnapshot 45 = .ok (.goto (-22), 3) := dk_167 255 234 (dk_at dksX9_restoreSnapshot_1 21 rfl rfl)
theorem dX9_restoreSnapshot_48 : decode cX9_restoreSnapshot 48 = .ok (.aload_n 0, 1) := dk_42 (dk_at dksX9_restoreSnapshot_2 0 rfl rfl)
theorem dX9_restoreSnapshot_49 : decode cX9_restoreSnapshot 49 = .ok (.iconst 0, 1) := dk_3 (dk_at dksX9_restoreSnapshot_2 1 rfl rfl)
theorem dX9_restoreSnapshot_50 : decode cX9_restoreSnapshot 50 = .ok (.putfield 358, 3) := dk_181 1 102 (dk_at dksX9_restoreSnapshot_2 2 rfl rfl)
theorem dX9_restoreSnapshot_53 : decode cX9_restoreSnapshot 53 = .ok (.aload_n 0, 1) := dk_42 (dk_at dksX9_restoreSnapshot_2 5 rfl rfl)
theorem dX9_restoreSnapshot_54 : decode cX9_restoreSnapshot 54 = .ok (.getfield 7, 3) := dk_180 0 7 (dk_at dksX9_restoreSnapshot_2 6 rfl rfl)
theorem dX9_restoreSnapshot_57 : decode cX9_restoreSnapshot 57 = .ok (.iconst 3, 1) := dk_6 (dk_at dksX9_restoreSnapshot_2 9 rfl rfl)
theorem dX9_restoreSnapshot_58 : decode cX9_restoreSnapshot 58 = .ok (.iaload, 1) := dk_46 (dk_at dksX9_restoreSnapshot_2 10 rfl rfl)
theorem dX9_restoreSnapshot_59 : decode cX9_restoreSnapshot 59 = .ok (.ireturn, 1) := dk_172 (dk_at dksX9_restoreSnapshot_2 11 rfl rfl)
abbrev cX9_scriptErrorKind : ByteArray := prog_11_method_106_code
def yX9_scriptErrorKind : MethodName := ⟨RX9, "scriptErrorKind", "()I"⟩
def dkwX9_scriptErrorKind_0 : List UInt8 := [42, 3, 181, 0, 57, 42, 180, 0, 179, 172]
abbrev dktX9_scriptErrorKind_0 : List UInt8 := dkwX9_scriptErrorKind_0 ++ []
theorem dksX9_scriptErrorKind_0 : cX9_scriptErrorKind.data.toList.drop 0 = dktX9_scriptErrorKind_0 := by decide +kernel
theorem dX9_scriptErrorKind_0 : decode cX9_scriptErrorKind 0 = .ok (.aload_n 0, 1) := dk_42 (dk_at dksX9_scriptErrorKind_0 0 rfl rfl)
theorem dX9_scriptErrorKind_1 : decode cX9_scriptErrorKind 1 = .ok (.iconst 0, 1) := dk_3 (dk_at dksX9_scriptErrorKind_0 1 rfl rfl)
theorem dX9_scriptErrorKind_2 : decode cX9_scriptErrorKind 2 = .ok (.putfield 57, 3) := dk_181 0 57 (dk_at dksX9_scriptErrorKind_0 2 rfl rfl)
theorem dX9_scriptErrorKind_5 : decode cX9_scriptErrorKind 5 = .ok (.aload_n 0, 1) := dk_42 (dk_at dksX9_scriptErrorKind_0 5 rfl rfl)
theorem dX9_scriptErrorKind_6 : decode cX9_scriptErrorKind 6 = .ok (.getfield 179, 3) := dk_180 0 179 (dk_at dksX9_scriptErrorKind_0 6 rfl rfl)
theorem dX9_scriptErrorKind_9 : decode cX9_scriptErrorKind 9 = .ok (.ireturn, 1) := dk_172 (dk_at dksX9_scriptErrorKind_0 9 rfl rfl)
abbrev cX9_scriptErrorOffset : ByteArray := prog_11_method_107_code
def yX9_scriptErrorOffset : MethodName := ⟨RX9, "scriptErrorOffset", "()I"⟩
def dkwX9_scriptErrorOffset_0 : List UInt8 := [42, 3, 181, 0, 57, 42, 180, 0, 34, 172]
abbrev dktX9_scriptErrorOffset_0 : List UInt8 := dkwX9_scriptErrorOffset_0 ++ []
theorem dksX9_scriptErrorOffset_0 : cX9_scriptErrorOffset.data.toList.drop 0 = dktX9_scriptErrorOffset_0 := by decide +kernel
theorem dX9_scriptErrorOffset_0 : decode cX9_scriptErrorOffset 0 = .ok (.aload_n 0, 1) := dk_42 (dk_at dksX9_scriptErrorOffset_0 0 rfl rfl)
theorem dX9_scriptErrorOffset_1 : decode cX9_scriptErrorOffset 1 = .ok (.iconst 0, 1) := dk_3 (dk_at dksX9_scriptErrorOffset_0 1 rfl rfl)
theorem dX9_scriptErrorOffset_2 : decode cX9_scriptErrorOffset 2 = .ok (.putfield 57, 3) := dk_181 0 57 (dk_at dksX9_scriptErrorOffset_0 2 rfl rfl)
theorem dX9_scriptErrorOffset_5 : decode cX9_scriptErrorOffset 5 = .ok (.aload_n 0, 1) := dk_42 (dk_at dksX9_scriptErrorOffset_0 5 rfl rfl)
theorem dX9_scriptErrorOffset_6 : decode cX9_scriptErrorOffset 6 = .ok (.getfield 34, 3) := dk_180 0 34 (dk_at dksX9_scriptErrorOffset_0 6 rfl rfl)
theorem dX9_scriptErrorOffset_9 : decode cX9_scriptErrorOffset 9 = .ok (.ireturn, 1) := dk_172 (dk_at dksX9_scriptErrorOffset_0 9 rfl rfl)
abbrev cX9_chimneyCount : ByteArray := prog_11_method_109_code
def yX9_chimneyCount : MethodName := ⟨RX9, "chimneyCount", "()I"⟩
def dkwX9_chimneyCount_0 : List UInt8 := [42, 3, 182, 1, 136, 172]
abbrev dktX9_chimneyCount_0 : List UInt8 := dkwX9_chimneyCount_0 ++ []
theorem dksX9_chimneyCount_0 : cX9_chimneyCount.data.toList.drop 0 = dktX9_chimneyCount_0 := by decide +kernel
theorem dX9_chimneyCount_0 : decode cX9_chimneyCount 0 = .ok (.aload_n 0, 1) := dk_42 (dk_at dksX9_chimneyCount_0 0 rfl rfl)
theorem dX9_chimneyCount_1 : decode cX9_chimneyCount 1 = .ok (.iconst 0, 1) := dk_3 (dk_at dksX9_chimneyCount_0 1 rfl rfl)
theorem dX9_chimneyCount_2 : decode cX9_chimneyCount 2 = .ok (.invokevirtual 392, 3) := dk_182 1 136 (dk_at dksX9_chimneyCount_0 2 rfl rfl)
theorem dX9_chimneyCount_5 : decode cX9_chimneyCount 5 = .ok (.ireturn, 1) := dk_172 (dk_at dksX9_chimneyCount_0 5 rfl rfl)
abbrev cX9_told : ByteArray := prog_11_method_108_code
def yX9_told : MethodName := ⟨RX9, "told", "(I)I"⟩
def dkwX9_told_0 : List UInt8 := [42, 3, 181, 0, 57, 42, 180, 0, 7, 27, 46, 172]
abbrev dktX9_told_0 : List UInt8 := dkwX9_told_0 ++ []
theorem dksX9_told_0 : cX9_told.data.toList.drop 0 = dktX9_told_0 := by decide +kernel
theorem dX9_told_0 : decode cX9_told 0 = .ok (.aload_n 0, 1) := dk_42 (dk_at dksX9_told_0 0 rfl rfl)
theorem dX9_told_1 : decode cX9_told 1 = .ok (.iconst 0, 1) := dk_3 (dk_at dksX9_told_0 1 rfl rfl)
theorem dX9_told_2 : decode cX9_told 2 = .ok (.putfield 57, 3) := dk_181 0 57 (dk_at dksX9_told_0 2 rfl rfl)
theorem dX9_told_5 : decode cX9_told 5 = .ok (.aload_n 0, 1) := dk_42 (dk_at dksX9_told_0 5 rfl rfl)
theorem dX9_told_6 : decode cX9_told 6 = .ok (.getfield 7, 3) := dk_180 0 7 (dk_at dksX9_told_0 6 rfl rfl)
theorem dX9_told_9 : decode cX9_told 9 = .ok (.iload_n 1, 1) := dk_27 (dk_at dksX9_told_0 9 rfl rfl)
theorem dX9_told_10 : decode cX9_told 10 = .ok (.iaload, 1) := dk_46 (dk_at dksX9_told_0 10 rfl rfl)
theorem dX9_told_11 : decode cX9_told 11 = .ok (.ireturn, 1) := dk_172 (dk_at dksX9_told_0 11 rfl rfl)
abbrev cX9_gutterCount : ByteArray := prog_11_method_110_code
def yX9_gutterCount : MethodName := ⟨RX9, "gutterCount", "()I"⟩
def dkwX9_gutterCount_0 : List UInt8 := [42, 4, 182, 1, 136, 172]
abbrev dktX9_gutterCount_0 : List UInt8 := dkwX9_gutterCount_0 ++ []
theorem dksX9_gutterCount_0 : cX9_gutterCount.data.toList.drop 0 = dktX9_gutterCount_0 := by decide +kernel
theorem dX9_gutterCount_0 : decode cX9_gutterCount 0 = .ok (.aload_n 0, 1) := dk_42 (dk_at dksX9_gutterCount_0 0 rfl rfl)
theorem dX9_gutterCount_1 : decode cX9_gutterCount 1 = .ok (.iconst 1, 1) := dk_4 (dk_at dksX9_gutterCount_0 1 rfl rfl)
theorem dX9_gutterCount_2 : decode cX9_gutterCount 2 = .ok (.invokevirtual 392, 3) := dk_182 1 136 (dk_at dksX9_gutterCount_0 2 rfl rfl)
theorem dX9_gutterCount_5 : decode cX9_gutterCount 5 = .ok (.ireturn, 1) := dk_172 (dk_at dksX9_gutterCount_0 5 rfl rfl)
abbrev cX9_catCount : ByteArray := prog_11_method_111_code
def yX9_catCount : MethodName := ⟨RX9, "catCount", "()I"⟩
def dkwX9_catCount_0 : List UInt8 := [42, 5, 182, 1, 136, 172]
abbrev dktX9_catCount_0 : List UInt8 := dkwX9_catCount_0 ++ []
theorem dksX9_catCount_0 : cX9_catCount.data.toList.drop 0 = dktX9_catCount_0 := by decide +kernel
theorem dX9_catCount_0 : decode cX9_catCount 0 = .ok (.aload_n 0, 1) := dk_42 (dk_at dksX9_catCount_0 0 rfl rfl)
theorem dX9_catCount_1 : decode cX9_catCount 1 = .ok (.iconst 2, 1) := dk_5 (dk_at dksX9_catCount_0 1 rfl rfl)
theorem dX9_catCount_2 : decode cX9_catCount 2 = .ok (.invokevirtual 392, 3) := dk_182 1 136 (dk_at dksX9_catCount_0 2 rfl rfl)
theorem dX9_catCount_5 : decode cX9_catCount 5 = .ok (.ireturn, 1) := dk_172 (dk_at dksX9_catCount_0 5 rfl rfl)
abbrev cX9_night : ByteArray := prog_11_method_112_code
def yX9_night : MethodName := ⟨RX9, "night", "()I"⟩
def dkwX9_night_0 : List UInt8 := [42, 6, 182, 1, 136, 172]
abbrev dktX9_night_0 : List UInt8 := dkwX9_night_0 ++ []
theorem dksX9_night_0 : cX9_night.data.toList.drop 0 = dktX9_night_0 := by decide +kernel
theorem dX9_night_0 : decode cX9_night 0 = .ok (.aload_n 0, 1) := dk_42 (dk_at dksX9_night_0 0 rfl rfl)
theorem dX9_night_1 : decode cX9_night 1 = .ok (.iconst 3, 1) := dk_6 (dk_at dksX9_night_0 1 rfl rfl)
theorem dX9_night_2 : decode cX9_night 2 = .ok (.invokevirtual 392, 3) := dk_182 1 136 (dk_at dksX9_night_0 2 rfl rfl)
theorem dX9_night_5 : decode cX9_night 5 = .ok (.ireturn, 1) := dk_172 (dk_at dksX9_night_0 5 rfl rfl)
abbrev cX9_moonPhase : ByteArray := prog_11_method_113_code
def yX9_moonPhase : MethodName := ⟨RX9, "moonPhase", "()I"⟩
def dkwX9_moonPhase_0 : List UInt8 := [42, 6, 182, 1, 136, 16, 8, 112, 172]
abbrev dktX9_moonPhase_0 : List UInt8 := dkwX9_moonPhase_0 ++ []
theorem dksX9_moonPhase_0 : cX9_moonPhase.data.toList.drop 0 = dktX9_moonPhase_0 := by decide +kernel
theorem dX9_moonPhase_0 : decode cX9_moonPhase 0 = .ok (.aload_n 0, 1) := dk_42 (dk_at dksX9_moonPhase_0 0 rfl rfl)
theorem dX9_moonPhase_1 : decode cX9_moonPhase 1 = .ok (.iconst 3, 1) := dk_6 (dk_at dksX9_moonPhase_0 1 rfl rfl)
theorem dX9_moonPhase_2 : decode cX9_moonPhase 2 = .ok (.invokevirtual 392, 3) := dk_182 1 136 (dk_at dksX9_moonPhase_0 2 rfl rfl)
theorem dX9_moonPhase_5 : decode cX9_moonPhase 5 = .ok (.bipush 8, 2) := dk_16 8 (dk_at dksX9_moonPhase_0 5 rfl rfl)
theorem dX9_moonPhase_7 : decode cX9_moonPhase 7 = .ok (.irem, 1) := dk_112 (dk_at dksX9_moonPhase_0 7 rfl rfl)
theorem dX9_moonPhase_8 : decode cX9_moonPhase 8 = .ok (.ireturn, 1) := dk_172 (dk_at dksX9_moonPhase_0 8 rfl rfl)
abbrev cX9_warmth : ByteArray := prog_11_method_114_code
def yX9_warmth : MethodName := ⟨RX9, "warmth", "(I)I"⟩
def dkwX9_warmth_1 : List UInt8 := [42, 180, 0, 7, 16, 10, 27, 96, 46, 172]
abbrev dktX9_warmth_1 : List UInt8 := dkwX9_warmth_1 ++ []
def dkwX9_warmth_0 : List UInt8 := [42, 42, 27, 182, 1, 114, 154, 0, 7, 4, 167, 0, 4, 3, 182, 1, 99, 153, 0, 7, 3, 167, 0, 12]
abbrev dktX9_warmth_0 : List UInt8 := dkwX9_warmth_0 ++ dktX9_warmth_1
theorem dksX9_warmth_0 : cX9_warmth.data.toList.drop 0 = dktX9_warmth_0 := by decide +kernel
theorem dksX9_warmth_1 : cX9_warmth.data.toList.drop 24 = dktX9_warmth_1 := dk_seg dksX9_warmth_0 24 rfl rfl
theorem dX9_warmth_0 : decode cX9_warmth 0 = .ok (.aload_n 0, 1) := dk_42 (dk_at dksX9_warmth_0 0 rfl rfl)
theorem dX9_warmth_1 : decode cX9_warmth 1 = .ok (.aload_n 0, 1) := dk_42 (dk_at dksX9_warmth_0 1 rfl rfl)
theorem dX9_warmth_2 : decode cX9_warmth 2 = .ok (.iload_n 1, 1) := dk_27 (dk_at dksX9_warmth_0 2 rfl rfl)
theorem dX9_warmth_3 : decode cX9_warmth 3 = .ok (.invokevirtual 370, 3) := dk_182 1 114 (dk_at dksX9_warmth_0 3 rfl rfl)
theorem dX9_warmth_6 : decode cX9_warmth 6 = .ok (.ifCond .ne 7, 3) := dk_154 0 7 (dk_at dksX9_warmth_0 6 rfl rfl)
theorem dX9_warmth_9 : decode cX9_warmth 9 = .ok (.iconst 1, 1) := dk_4 (dk_at dksX9_warmth_0 9 rfl rfl)
theorem dX9_warmth_10 : decode cX9_warmth 10 = .ok (.goto 4, 3) := dk_167 0 4 (dk_at dksX9_warmth_0 10 rfl rfl)
theorem dX9_warmth_13 : decode cX9_warmth 13 = .ok (.iconst 0, 1) := dk_3 (dk_at dksX9_warmth_0 13 rfl rfl)
theorem dX9_warmth_14 : decode cX9_warmth 14 = .ok (.invokevirtual 355, 3) := dk_182 1 99 (dk_at dksX9_warmth_0 14 rfl rfl)
theorem dX9_warmth_17 : decode cX9_warmth 17 = .ok (.ifCond .eq 7, 3) := dk_153 0 7 (dk_at dksX9_warmth_0 17 rfl rfl)
theorem dX9_warmth_20 : decode cX9_warmth 20 = .ok (.iconst 0, 1) := dk_3 (dk_at dksX9_warmth_0 20 rfl rfl)
theorem dX9_warmth_21 : decode cX9_warmth 21 = .ok (.goto 12, 3) := dk_167 0 12 (dk_at dksX9_warmth_0 21 rfl rfl)
theorem dX9_warmth_24 : decode cX9_warmth 24 = .ok (.aload_n 0, 1) := dk_42 (dk_at dksX9_warmth_1 0 rfl rfl)
theorem dX9_warmth_25 : decode cX9_warmth 25 = .ok (.getfield 7, 3) := dk_180 0 7 (dk_at dksX9_warmth_1 1 rfl rfl)
theorem dX9_warmth_28 : decode cX9_warmth 28 = .ok (.bipush 10, 2) := dk_16 10 (dk_at dksX9_warmth_1 4 rfl rfl)
theorem dX9_warmth_30 : decode cX9_warmth 30 = .ok (.iload_n 1, 1) := dk_27 (dk_at dksX9_warmth_1 6 rfl rfl)
theorem dX9_warmth_31 : decode cX9_warmth 31 = .ok (.iadd, 1) := dk_96 (dk_at dksX9_warmth_1 7 rfl rfl)
theorem dX9_warmth_32 : decode cX9_warmth 32 = .ok (.iaload, 1) := dk_46 (dk_at dksX9_warmth_1 8 rfl rfl)
theorem dX9_warmth_33 : decode cX9_warmth 33 = .ok (.ireturn, 1) := dk_172 (dk_at dksX9_warmth_1 9 rfl rfl)
abbrev cX9_ownerOf : ByteArray := prog_11_method_115_code
def yX9_ownerOf : MethodName := ⟨RX9, "ownerOf", "(I)I"⟩
def dkwX9_ownerOf_1 : List UInt8 := [42, 27, 182, 0, 68, 172]
abbrev dktX9_ownerOf_1 : List UInt8 := dkwX9_ownerOf_1 ++ []
def dkwX9_ownerOf_0 : List UInt8 := [42, 42, 27, 182, 1, 114, 154, 0, 7, 4, 167, 0, 4, 3, 182, 1, 99, 153, 0, 7, 3, 167, 0, 8]
abbrev dktX9_ownerOf_0 : List UInt8 := dkwX9_ownerOf_0 ++ dktX9_ownerOf_1
theorem dksX9_ownerOf_0 : cX9_ownerOf.data.toList.drop 0 = dktX9_ownerOf_0 := by decide +kernel
theorem dksX9_ownerOf_1 : cX9_ownerOf.data.toList.drop 24 = dktX9_ownerOf_1 := dk_seg dksX9_ownerOf_0 24 rfl rfl
theorem dX9_ownerOf_0 : decode cX9_ownerOf 0 = .ok (.aload_n 0, 1) := dk_42 (dk_at dksX9_ownerOf_0 0 rfl rfl)
theorem dX9_ownerOf_1 : decode cX9_ownerOf 1 = .ok (.aload_n 0, 1) := dk_42 (dk_at dksX9_ownerOf_0 1 rfl rfl)
theorem dX9_ownerOf_2 : decode cX9_ownerOf 2 = .ok (.iload_n 1, 1) := dk_27 (dk_at dksX9_ownerOf_0 2 rfl rfl)
theorem dX9_ownerOf_3 : decode cX9_ownerOf 3 = .ok (.invokevirtual 370, 3) := dk_182 1 114 (dk_at dksX9_ownerOf_0 3 rfl rfl)
theorem dX9_ownerOf_6 : decode cX9_ownerOf 6 = .ok (.ifCond .ne 7, 3) := dk_154 0 7 (dk_at dksX9_ownerOf_0 6 rfl rfl)
theorem dX9_ownerOf_9 : decode cX9_ownerOf 9 = .ok (.iconst 1, 1) := dk_4 (dk_at dksX9_ownerOf_0 9 rfl rfl)
theorem dX9_ownerOf_10 : decode cX9_ownerOf 10 = .ok (.goto 4, 3) := dk_167 0 4 (dk_at dksX9_ownerOf_0 10 rfl rfl)
theorem dX9_ownerOf_13 : decode cX9_ownerOf 13 = .ok (.iconst 0, 1) := dk_3 (dk_at dksX9_ownerOf_0 13 rfl rfl)
theorem dX9_ownerOf_14 : decode cX9_ownerOf 14 = .ok (.invokevirtual 355, 3) := dk_182 1 99 (dk_at dksX9_ownerOf_0 14 rfl rfl)
theorem dX9_ownerOf_17 : decode cX9_ownerOf 17 = .ok (.ifCond .eq 7, 3) := dk_153 0 7 (dk_at dksX9_ownerOf_0 17 rfl rfl)
theorem dX9_ownerOf_20 : decode cX9_ownerOf 20 = .ok (.iconst 0, 1) := dk_3 (dk_at dksX9_ownerOf_0 20 rfl rfl)
theorem dX9_ownerOf_21 : decode cX9_ownerOf 21 = .ok (.goto 8, 3) := dk_167 0 8 (dk_at dksX9_ownerOf_0 21 rfl rfl)
theorem dX9_ownerOf_24 : decode cX9_ownerOf 24 = .ok (.aload_n 0, 1) := dk_42 (dk_at dksX9_ownerOf_1 0 rfl rfl)
theorem dX9_ownerOf_25 : decode cX9_ownerOf 25 = .ok (.iload_n 1, 1) := dk_27 (dk_at dksX9_ownerOf_1 1 rfl rfl)
theorem dX9_ownerOf_26 : decode cX9_ownerOf 26 = .ok (.invokevirtual 68, 3) := dk_182 0 68 (dk_at dksX9_ownerOf_1 2 rfl rfl)
theorem dX9_ownerOf_29 : decode cX9_ownerOf 29 = .ok (.ireturn, 1) := dk_172 (dk_at dksX9_ownerOf_1 5 rfl rfl)
abbrev cX9_catOn : ByteArray := prog_11_method_116_code
def yX9_catOn : MethodName := ⟨RX9, "catOn", "(I)I"⟩
def dkwX9_catOn_1 : List UInt8 := [42, 27, 182, 0, 87, 172]
abbrev dktX9_catOn_1 : List UInt8 := dkwX9_catOn_1 ++ []
def dkwX9_catOn_0 : List UInt8 := [42, 42, 27, 182, 1, 114, 154, 0, 7, 4, 167, 0, 4, 3, 182, 1, 99, 153, 0, 7, 3, 167, 0, 8]
abbrev dktX9_catOn_0 : List UInt8 := dkwX9_catOn_0 ++ dktX9_catOn_1
theorem dksX9_catOn_0 : cX9_catOn.data.toList.drop 0 = dktX9_catOn_0 := by decide +kernel
theorem dksX9_catOn_1 : cX9_catOn.data.toList.drop 24 = dktX9_catOn_1 := dk_seg dksX9_catOn_0 24 rfl rfl
theorem dX9_catOn_0 : decode cX9_catOn 0 = .ok (.aload_n 0, 1) := dk_42 (dk_at dksX9_catOn_0 0 rfl rfl)
theorem dX9_catOn_1 : decode cX9_catOn 1 = .ok (.aload_n 0, 1) := dk_42 (dk_at dksX9_catOn_0 1 rfl rfl)
theorem dX9_catOn_2 : decode cX9_catOn 2 = .ok (.iload_n 1, 1) := dk_27 (dk_at dksX9_catOn_0 2 rfl rfl)
theorem dX9_catOn_3 : decode cX9_catOn 3 = .ok (.invokevirtual 370, 3) := dk_182 1 114 (dk_at dksX9_catOn_0 3 rfl rfl)
theorem dX9_catOn_6 : decode cX9_catOn 6 = .ok (.ifCond .ne 7, 3) := dk_154 0 7 (dk_at dksX9_catOn_0 6 rfl rfl)
theorem dX9_catOn_9 : decode cX9_catOn 9 = .ok (.iconst 1, 1) := dk_4 (dk_at dksX9_catOn_0 9 rfl rfl)
theorem dX9_catOn_10 : decode cX9_catOn 10 = .ok (.goto 4, 3) := dk_167 0 4 (dk_at dksX9_catOn_0 10 rfl rfl)
theorem dX9_catOn_13 : decode cX9_catOn 13 = .ok (.iconst 0, 1) := dk_3 (dk_at dksX9_catOn_0 13 rfl rfl)
theorem dX9_catOn_14 : decode cX9_catOn 14 = .ok (.invokevirtual 355, 3) := dk_182 1 99 (dk_at dksX9_catOn_0 14 rfl rfl)
theorem dX9_catOn_17 : decode cX9_catOn 17 = .ok (.ifCond .eq 7, 3) := dk_153 0 7 (dk_at dksX9_catOn_0 17 rfl rfl)
theorem dX9_catOn_20 : decode cX9_catOn 20 = .ok (.iconst 0, 1) := dk_3 (dk_at dksX9_catOn_0 20 rfl rfl)
theorem dX9_catOn_21 : decode cX9_catOn 21 = .ok (.goto 8, 3) := dk_167 0 8 (dk_at dksX9_catOn_0 21 rfl rfl)
theorem dX9_catOn_24 : decode cX9_catOn 24 = .ok (.aload_n 0, 1) := dk_42 (dk_at dksX9_catOn_1 0 rfl rfl)
theorem dX9_catOn_25 : decode cX9_catOn 25 = .ok (.iload_n 1, 1) := dk_27 (dk_at dksX9_catOn_1 1 rfl rfl)
theorem dX9_catOn_26 : decode cX9_catOn 26 = .ok (.invokevirtual 87, 3) := dk_182 0 87 (dk_at dksX9_catOn_1 2 rfl rfl)
theorem dX9_catOn_29 : decode cX9_catOn 29 = .ok (.ireturn, 1) := dk_172 (dk_at dksX9_catOn_1 5 rfl rfl)
abbrev cX9_gutterEnds : ByteArray := prog_11_method_117_code
def yX9_gutterEnds : MethodName := ⟨RX9, "gutterEnds", "(I)I"⟩
def dkwX9_gutterEnds_1 : List UInt8 := [4, 42, 27, 3, 182, 0, 81, 120, 4, 42, 27, 4, 182, 0, 81, 120, 128, 172]
abbrev dktX9_gutterEnds_1 : List UInt8 := dkwX9_gutterEnds_1 ++ []
def dkwX9_gutterEnds_0 : List UInt8 := [42, 42, 27, 182, 1, 126, 154, 0, 7, 4, 167, 0, 4, 3, 182, 1, 99, 153, 0, 7, 3, 167, 0, 20]
abbrev dktX9_gutterEnds_0 : List UInt8 := dkwX9_gutterEnds_0 ++ dktX9_gutterEnds_1
theorem dksX9_gutterEnds_0 : cX9_gutterEnds.data.toList.drop 0 = dktX9_gutterEnds_0 := by decide +kernel
theorem dksX9_gutterEnds_1 : cX9_gutterEnds.data.toList.drop 24 = dktX9_gutterEnds_1 := dk_seg dksX9_gutterEnds_0 24 rfl rfl
theorem dX9_gutterEnds_0 : decode cX9_gutterEnds 0 = .ok (.aload_n 0, 1) := dk_42 (dk_at dksX9_gutterEnds_0 0 rfl rfl)
theorem dX9_gutterEnds_1 : decode cX9_gutterEnds 1 = .ok (.aload_n 0, 1) := dk_42 (dk_at dksX9_gutterEnds_0 1 rfl rfl)
theorem dX9_gutterEnds_2 : decode cX9_gutterEnds 2 = .ok (.iload_n 1, 1) := dk_27 (dk_at dksX9_gutterEnds_0 2 rfl rfl)
theorem dX9_gutterEnds_3 : decode cX9_gutterEnds 3 = .ok (.invokevirtual 382, 3) := dk_182 1 126 (dk_at dksX9_gutterEnds_0 3 rfl rfl)
theorem dX9_gutterEnds_6 : decode cX9_gutterEnds 6 = .ok (.ifCond .ne 7, 3) := dk_154 0 7 (dk_at dksX9_gutterEnds_0 6 rfl rfl)
theorem dX9_gutterEnds_9 : decode cX9_gutterEnds 9 = .ok (.iconst 1, 1) := dk_4 (dk_at dksX9_gutterEnds_0 9 rfl rfl)
theorem dX9_gutterEnds_10 : decode cX9_gutterEnds 10 = .ok (.goto 4, 3) := dk_167 0 4 (dk_at dksX9_gutterEnds_0 10 rfl rfl)
theorem dX9_gutterEnds_13 : decode cX9_gutterEnds 13 = .ok (.iconst 0, 1) := dk_3 (dk_at dksX9_gutterEnds_0 13 rfl rfl)
theorem dX9_gutterEnds_14 : decode cX9_gutterEnds 14 = .ok (.invokevirtual 355, 3) := dk_182 1 99 (dk_at dksX9_gutterEnds_0 14 rfl rfl)
theorem dX9_gutterEnds_17 : decode cX9_gutterEnds 17 = .ok (.ifCond .eq 7, 3) := dk_153 0 7 (dk_at dksX9_gutterEnds_0 17 rfl rfl)
theorem dX9_gutterEnds_20 : decode cX9_gutterEnds 20 = .ok (.iconst 0, 1) := dk_3 (dk_at dksX9_gutterEnds_0 20 rfl rfl)
theorem dX9_gutterEnds_21 : decode cX9_gutterEnds 21 = .ok (.goto 20, 3) := dk_167 0 20 (dk_at dksX9_gutterEnds_0 21 rfl rfl)
theorem dX9_gutterEnds_24 : decode cX9_gutterEnds 24 = .ok (.iconst 1, 1) := dk_4 (dk_at dksX9_gutterEnds_1 0 rfl rfl)
theorem dX9_gutterEnds_25 : decode cX9_gutterEnds 25 = .ok (.aload_n 0, 1) := dk_42 (dk_at dksX9_gutterEnds_1 1 rfl rfl)
theorem dX9_gutterEnds_26 : decode cX9_gutterEnds 26 = .ok (.iload_n 1, 1) := dk_27 (dk_at dksX9_gutterEnds_1 2 rfl rfl)
theorem dX9_gutterEnds_27 : decode cX9_gutterEnds 27 = .ok (.iconst 0, 1) := dk_3 (dk_at dksX9_gutterEnds_1 3 rfl rfl)
theorem dX9_gutterEnds_28 : decode cX9_gutterEnds 28 = .ok (.invokevirtual 81, 3) := dk_182 0 81 (dk_at dksX9_gutterEnds_1 4 rfl rfl)
theorem dX9_gutterEnds_31 : decode cX9_gutterEnds 31 = .ok (.ishl, 1) := dk_120 (dk_at dksX9_gutterEnds_1 7 rfl rfl)
theorem dX9_gutterEnds_32 : decode cX9_gutterEnds 32 = .ok (.iconst 1, 1) := dk_4 (dk_at dksX9_gutterEnds_1 8 rfl rfl)
theorem dX9_gutterEnds_33 : decode cX9_gutterEnds 33 = .ok (.aload_n 0, 1) := dk_42 (dk_at dksX9_gutterEnds_1 9 rfl rfl)
theorem dX9_gutterEnds_34 : decode cX9_gutterEnds 34 = .ok (.iload_n 1, 1) := dk_27 (dk_at dksX9_gutterEnds_1 10 rfl rfl)
theorem dX9_gutterEnds_35 : decode cX9_gutterEnds 35 = .ok (.iconst 1, 1) := dk_4 (dk_at dksX9_gutterEnds_1 11 rfl rfl)
theorem dX9_gutterEnds_36 : decode cX9_gutterEnds 36 = .ok (.invokevirtual 81, 3) := dk_182 0 81 (dk_at dksX9_gutterEnds_1 12 rfl rfl)
theorem dX9_gutterEnds_39 : decode cX9_gutterEnds 39 = .ok (.ishl, 1) := dk_120 (dk_at dksX9_gutterEnds_1 15 rfl rfl)
theorem dX9_gutterEnds_40 : decode cX9_gutterEnds 40 = .ok (.ior, 1) := dk_128 (dk_at dksX9_gutterEnds_1 16 rfl rfl)
theorem dX9_gutterEnds_41 : decode cX9_gutterEnds 41 = .ok (.ireturn, 1) := dk_172 (dk_at dksX9_gutterEnds_1 17 rfl rfl)
abbrev cX9_width : ByteArray := prog_11_method_118_code
def yX9_width : MethodName := ⟨RX9, "width", "(I)I"⟩
def dkwX9_width_1 : List UInt8 := [42, 27, 5, 182, 0, 81, 172]
abbrev dktX9_width_1 : List UInt8 := dkwX9_width_1 ++ []
def dkwX9_width_0 : List UInt8 := [42, 42, 27, 182, 1, 126, 154, 0, 7, 4, 167, 0, 4, 3, 182, 1, 99, 153, 0, 7, 3, 167, 0, 9]
abbrev dktX9_width_0 : List UInt8 := dkwX9_width_0 ++ dktX9_width_1
theorem dksX9_width_0 : cX9_width.data.toList.drop 0 = dktX9_width_0 := by decide +kernel
theorem dksX9_width_1 : cX9_width.data.toList.drop 24 = dktX9_width_1 := dk_seg dksX9_width_0 24 rfl rfl
theorem dX9_width_0 : decode cX9_width 0 = .ok (.aload_n 0, 1) := dk_42 (dk_at dksX9_width_0 0 rfl rfl)
theorem dX9_width_1 : decode cX9_width 1 = .ok (.aload_n 0, 1) := dk_42 (dk_at dksX9_width_0 1 rfl rfl)
theorem dX9_width_2 : decode cX9_width 2 = .ok (.iload_n 1, 1) := dk_27 (dk_at dksX9_width_0 2 rfl rfl)
theorem dX9_width_3 : decode cX9_width 3 = .ok (.invokevirtual 382, 3) := dk_182 1 126 (dk_at dksX9_width_0 3 rfl rfl)
theorem dX9_width_6 : decode cX9_width 6 = .ok (.ifCond .ne 7, 3) := dk_154 0 7 (dk_at dksX9_width_0 6 rfl rfl)
theorem dX9_width_9 : decode cX9_width 9 = .ok (.iconst 1, 1) := dk_4 (dk_at dksX9_width_0 9 rfl rfl)
theorem dX9_width_10 : decode cX9_width 10 = .ok (.goto 4, 3) := dk_167 0 4 (dk_at dksX9_width_0 10 rfl rfl)
theorem dX9_width_13 : decode cX9_width 13 = .ok (.iconst 0, 1) := dk_3 (dk_at dksX9_width_0 13 rfl rfl)
theorem dX9_width_14 : decode cX9_width 14 = .ok (.invokevirtual 355, 3) := dk_182 1 99 (dk_at dksX9_width_0 14 rfl rfl)
theorem dX9_width_17 : decode cX9_width 17 = .ok (.ifCond .eq 7, 3) := dk_153 0 7 (dk_at dksX9_width_0 17 rfl rfl)
theorem dX9_width_20 : decode cX9_width 20 = .ok (.iconst 0, 1) := dk_3 (dk_at dksX9_width_0 20 rfl rfl)
theorem dX9_width_21 : decode cX9_width 21 = .ok (.goto 9, 3) := dk_167 0 9 (dk_at dksX9_width_0 21 rfl rfl)
theorem dX9_width_24 : decode cX9_width 24 = .ok (.aload_n 0, 1) := dk_42 (dk_at dksX9_width_1 0 rfl rfl)
theorem dX9_width_25 : decode cX9_width 25 = .ok (.iload_n 1, 1) := dk_27 (dk_at dksX9_width_1 1 rfl rfl)
theorem dX9_width_26 : decode cX9_width 26 = .ok (.iconst 2, 1) := dk_5 (dk_at dksX9_width_1 2 rfl rfl)
theorem dX9_width_27 : decode cX9_width 27 = .ok (.invokevirtual 81, 3) := dk_182 0 81 (dk_at dksX9_width_1 3 rfl rfl)
theorem dX9_width_30 : decode cX9_width 30 = .ok (.ireturn, 1) := dk_172 (dk_at dksX9_width_1 6 rfl rfl)
abbrev cX9_widestWay : ByteArray := prog_11_method_119_code
def yX9_widestWay : MethodName := ⟨RX9, "widestWay", "(II)I"⟩
def dkwX9_widestWay_2 : List UInt8 := [126, 4, 160, 0, 5, 29, 172, 132, 3, 255, 167, 255, 233, 2, 172]
abbrev dktX9_widestWay_2 : List UInt8 := dkwX9_widestWay_2 ++ []
def dkwX9_widestWay_1 : List UInt8 := [182, 1, 99, 153, 0, 5, 3, 172, 16, 9, 62, 29, 158, 0, 25, 42, 29, 27, 182, 1, 139, 28, 122, 4]
abbrev dktX9_widestWay_1 : List UInt8 := dkwX9_widestWay_1 ++ dktX9_widestWay_2
def dkwX9_widestWay_0 : List UInt8 := [42, 42, 27, 182, 1, 114, 153, 0, 11, 42, 28, 182, 1, 114, 154, 0, 7, 4, 167, 0, 4, 3]
abbrev dktX9_widestWay_0 : List UInt8 := dkwX9_widestWay_0 ++ dktX9_widestWay_1
theorem dksX9_widestWay_0 : cX9_widestWay.data.toList.drop 0 = dktX9_widestWay_0 := by decide +kernel
theorem dksX9_widestWay_1 : cX9_widestWay.data.toList.drop 22 = dktX9_widestWay_1 := dk_seg dksX9_widestWay_0 22 rfl rfl
theorem dksX9_widestWay_2 : cX9_widestWay.data.toList.drop 46 = dktX9_widestWay_2 := dk_seg dksX9_widestWay_1 24 rfl rfl
theorem dX9_widestWay_0 : decode cX9_widestWay 0 = .ok (.aload_n 0, 1) := dk_42 (dk_at dksX9_widestWay_0 0 rfl rfl)
theorem dX9_widestWay_1 : decode cX9_widestWay 1 = .ok (.aload_n 0, 1) := dk_42 (dk_at dksX9_widestWay_0 1 rfl rfl)
theorem dX9_widestWay_2 : decode cX9_widestWay 2 = .ok (.iload_n 1, 1) := dk_27 (dk_at dksX9_widestWay_0 2 rfl rfl)
theorem dX9_widestWay_3 : decode cX9_widestWay 3 = .ok (.invokevirtual 370, 3) := dk_182 1 114 (dk_at dksX9_widestWay_0 3 rfl rfl)
theorem dX9_widestWay_6 : decode cX9_widestWay 6 = .ok (.ifCond .eq 11, 3) := dk_153 0 11 (dk_at dksX9_widestWay_0 6 rfl rfl)
theorem dX9_widestWay_9 : decode cX9_widestWay 9 = .ok (.aload_n 0, 1) := dk_42 (dk_at dksX9_widestWay_0 9 rfl rfl)
theorem dX9_widestWay_10 : decode cX9_widestWay 10 = .ok (.iload_n 2, 1) := dk_28 (dk_at dksX9_widestWay_0 10 rfl rfl)
theorem dX9_widestWay_11 : decode cX9_widestWay 11 = .ok (.invokevirtual 370, 3) := dk_182 1 114 (dk_at dksX9_widestWay_0 11 rfl rfl)
theorem dX9_widestWay_14 : decode cX9_widestWay 14 = .ok (.ifCond .ne 7, 3) := dk_154 0 7 (dk_at dksX9_widestWay_0 14 rfl rfl)
theorem dX9_widestWay_17 : decode cX9_widestWay 17 = .ok (.iconst 1, 1) := dk_4 (dk_at dksX9_widestWay_0 17 rfl rfl)
theorem dX9_widestWay_18 : decode cX9_widestWay 18 = .ok (.goto 4, 3) := dk_167 0 4 (dk_at dksX9_widestWay_0 18 rfl rfl)
theorem dX9_widestWay_21 : decode cX9_widestWay 21 = .ok (.iconst 0, 1) := dk_3 (dk_at dksX9_widestWay_0 21 rfl rfl)
theorem dX9_widestWay_22 : decode cX9_widestWay 22 = .ok (.invokevirtual 355, 3) := dk_182 1 99 (dk_at dksX9_widestWay_1 0 rfl rfl)
theorem dX9_widestWay_25 : decode cX9_widestWay 25 = .ok (.ifCond .eq 5, 3) := dk_153 0 5 (dk_at dksX9_widestWay_1 3 rfl rfl)
theorem dX9_widestWay_28 : decode cX9_widestWay 28 = .ok (.iconst 0, 1) := dk_3 (dk_at dksX9_widestWay_1 6 rfl rfl)
theorem dX9_widestWay_29 : decode cX9_widestWay 29 = .ok (.ireturn, 1) := dk_172 (dk_at dksX9_widestWay_1 7 rfl rfl)
theorem dX9_widestWay_30 : decode cX9_widestWay 30 = .ok (.bipush 9, 2) := dk_16 9 (dk_at dksX9_widestWay_1 8 rfl rfl)
theorem dX9_widestWay_32 : decode cX9_widestWay 32 = .ok (.istore_n 3, 1) := dk_62 (dk_at dksX9_widestWay_1 10 rfl rfl)
theorem dX9_widestWay_33 : decode cX9_widestWay 33 = .ok (.iload_n 3, 1) := dk_29 (dk_at dksX9_widestWay_1 11 rfl rfl)
theorem dX9_widestWay_34 : decode cX9_widestWay 34 = .ok (.ifCond .le 25, 3) := dk_158 0 25 (dk_at dksX9_widestWay_1 12 rfl rfl)
theorem dX9_widestWay_37 : decode cX9_widestWay 37 = .ok (.aload_n 0, 1) := dk_42 (dk_at dksX9_widestWay_1 15 rfl rfl)
theorem dX9_widestWay_38 : decode cX9_widestWay 38 = .ok (.iload_n 3, 1) := dk_29 (dk_at dksX9_widestWay_1 16 rfl rfl)
theorem dX9_widestWay_39 : decode cX9_widestWay 39 = .ok (.iload_n 1, 1) := dk_27 (dk_at dksX9_widestWay_1 17 rfl rfl)
theorem dX9_widestWay_40 : decode cX9_widestWay 40 = .ok (.invokevirtual 395, 3) := dk_182 1 139 (dk_at dksX9_widestWay_1 18 rfl rfl)
theorem dX9_widestWay_43 : decode cX9_widestWay 43 = .ok (.iload_n 2, 1) := dk_28 (dk_at dksX9_widestWay_1 21 rfl rfl)
theorem dX9_widestWay_44 : decode cX9_widestWay 44 = .ok (.ishr, 1) := dk_122 (dk_at dksX9_widestWay_1 22 rfl rfl)
theorem dX9_widestWay_45 : decode cX9_widestWay 45 = .ok (.iconst 1, 1) := dk_4 (dk_at dksX9_widestWay_1 23 rfl rfl)
theorem dX9_widestWay_46 : decode cX9_widestWay 46 = .ok (.iand, 1) := dk_126 (dk_at dksX9_widestWay_2 0 rfl rfl)
theorem dX9_widestWay_47 : decode cX9_widestWay 47 = .ok (.iconst 1, 1) := dk_4 (dk_at dksX9_widestWay_2 1 rfl rfl)
theorem dX9_widestWay_48 : decode cX9_widestWay 48 = .ok (.if_icmp .ne 5, 3) := dk_160 0 5 (dk_at dksX9_widestWay_2 2 rfl rfl)
theorem dX9_widestWay_51 : decode cX9_widestWay 51 = .ok (.iload_n 3, 1) := dk_29 (dk_at dksX9_widestWay_2 5 rfl rfl)
theorem dX9_widestWay_52 : decode cX9_widestWay 52 = .ok (.ireturn, 1) := dk_172 (dk_at dksX9_widestWay_2 6 rfl rfl)
theorem dX9_widestWay_53 : decode cX9_widestWay 53 = .ok (.iinc 3 (-1), 3) := dk_132 3 255 (dk_at dksX9_widestWay_2 7 rfl rfl)
theorem dX9_widestWay_56 : decode cX9_widestWay 56 = .ok (.goto (-23), 3) := dk_167 255 233 (dk_at dksX9_widestWay_2 10 rfl rfl)
theorem dX9_widestWay_59 : decode cX9_widestWay 59 = .ok (.iconst (-1), 1) := dk_2 (dk_at dksX9_widestWay_2 13 rfl rfl)
theorem dX9_widestWay_60 : decode cX9_widestWay 60 = .ok (.ireturn, 1) := dk_172 (dk_at dksX9_widestWay_2 14 rfl rfl)
abbrev cX9_reachedBy : ByteArray := prog_11_method_28_code
def yX9_reachedBy : MethodName := ⟨RX9, "reachedBy", "(II)I"⟩
def dkwX9_reachedBy_4 : List UInt8 := [172]
abbrev dktX9_reachedBy_4 : List UInt8 := dkwX9_reachedBy_4 ++ []
def dkwX9_reachedBy_3 : List UInt8 := [153, 0, 8, 21, 6, 167, 0, 4, 3, 128, 62, 132, 5, 1, 167, 255, 194, 132, 4, 1, 167, 255, 174, 29]
abbrev dktX9_reachedBy_3 : List UInt8 := dkwX9_reachedBy_3 ++ dktX9_reachedBy_4
def dkwX9_reachedBy_2 : List UInt8 := [182, 0, 81, 120, 128, 54, 6, 29, 42, 21, 5, 5, 182, 0, 81, 27, 161, 0, 15, 29, 21, 6, 126]
abbrev dktX9_reachedBy_2 : List UInt8 := dkwX9_reachedBy_2 ++ dktX9_reachedBy_3
def dkwX9_reachedBy_1 : List UInt8 := [180, 0, 7, 4, 46, 162, 0, 57, 4, 42, 21, 5, 3, 182, 0, 81, 120, 4, 42, 21, 5, 4]
abbrev dktX9_reachedBy_1 : List UInt8 := dkwX9_reachedBy_1 ++ dktX9_reachedBy_2
def dkwX9_reachedBy_0 : List UInt8 := [4, 28, 120, 62, 3, 54, 4, 21, 4, 42, 180, 0, 7, 3, 46, 162, 0, 77, 3, 54, 5, 21, 5, 42]
abbrev dktX9_reachedBy_0 : List UInt8 := dkwX9_reachedBy_0 ++ dktX9_reachedBy_1
theorem dksX9_reachedBy_0 : cX9_reachedBy.data.toList.drop 0 = dktX9_reachedBy_0 := by decide +kernel
theorem dksX9_reachedBy_1 : cX9_reachedBy.data.toList.drop 24 = dktX9_reachedBy_1 := dk_seg dksX9_reachedBy_0 24 rfl rfl
theorem dksX9_reachedBy_2 : cX9_reachedBy.data.toList.drop 46 = dktX9_reachedBy_2 := dk_seg dksX9_reachedBy_1 22 rfl rfl
theorem dksX9_reachedBy_3 : cX9_reachedBy.data.toList.drop 69 = dktX9_reachedBy_3 := dk_seg dksX9_reachedBy_2 23 rfl rfl
theorem dksX9_reachedBy_4 : cX9_reachedBy.data.toList.drop 93 = dktX9_reachedBy_4 := dk_seg dksX9_reachedBy_3 24 rfl rfl
theorem dX9_reachedBy_0 : decode cX9_reachedBy 0 = .ok (.iconst 1, 1) := dk_4 (dk_at dksX9_reachedBy_0 0 rfl rfl)
theorem dX9_reachedBy_1 : decode cX9_reachedBy 1 = .ok (.iload_n 2, 1) := dk_28 (dk_at dksX9_reachedBy_0 1 rfl rfl)
theorem dX9_reachedBy_2 : decode cX9_reachedBy 2 = .ok (.ishl, 1) := dk_120 (dk_at dksX9_reachedBy_0 2 rfl rfl)
theorem dX9_reachedBy_3 : decode cX9_reachedBy 3 = .ok (.istore_n 3, 1) := dk_62 (dk_at dksX9_reachedBy_0 3 rfl rfl)
theorem dX9_reachedBy_4 : decode cX9_reachedBy 4 = .ok (.iconst 0, 1) := dk_3 (dk_at dksX9_reachedBy_0 4 rfl rfl)
theorem dX9_reachedBy_5 : decode cX9_reachedBy 5 = .ok (.istore 4, 2) := dk_54 4 (dk_at dksX9_reachedBy_0 5 rfl rfl)
theorem dX9_reachedBy_7 : decode cX9_reachedBy 7 = .ok (.iload 4, 2) := dk_21 4 (dk_at dksX9_reachedBy_0 7 rfl rfl)
theorem dX9_reachedBy_9 : decode cX9_reachedBy 9 = .ok (.aload_n 0, 1) := dk_42 (dk_at dksX9_reachedBy_0 9 rfl rfl)
theorem dX9_reachedBy_10 : decode cX9_reachedBy 10 = .ok (.getfield 7, 3) := dk_180 0 7 (dk_at dksX9_reachedBy_0 10 rfl rfl)
theorem dX9_reachedBy_13 : decode cX9_reachedBy 13 = .ok (.iconst 0, 1) := dk_3 (dk_at dksX9_reachedBy_0 13 rfl rfl)
theorem dX9_reachedBy_14 : decode cX9_reachedBy 14 = .ok (.iaload, 1) := dk_46 (dk_at dksX9_reachedBy_0 14 rfl rfl)
theorem dX9_reachedBy_15 : decode cX9_reachedBy 15 = .ok (.if_icmp .ge 77, 3) := dk_162 0 77 (dk_at dksX9_reachedBy_0 15 rfl rfl)
theorem dX9_reachedBy_18 : decode cX9_reachedBy 18 = .ok (.iconst 0, 1) := dk_3 (dk_at dksX9_reachedBy_0 18 rfl rfl)
theorem dX9_reachedBy_19 : decode cX9_reachedBy 19 = .ok (.istore 5, 2) := dk_54 5 (dk_at dksX9_reachedBy_0 19 rfl rfl)
theorem dX9_reachedBy_21 : decode cX9_reachedBy 21 = .ok (.iload 5, 2) := dk_21 5 (dk_at dksX9_reachedBy_0 21 rfl rfl)
theorem dX9_reachedBy_23 : decode cX9_reachedBy 23 = .ok (.aload_n 0, 1) := dk_42 (dk_at dksX9_reachedBy_0 23 rfl rfl)
theorem dX9_reachedBy_24 : decode cX9_reachedBy 24 = .ok (.getfield 7, 3) := dk_180 0 7 (dk_at dksX9_reachedBy_1 0 rfl rfl)
theorem dX9_reachedBy_27 : decode cX9_reachedBy 27 = .ok (.iconst 1, 1) := dk_4 (dk_at dksX9_reachedBy_1 3 rfl rfl)
theorem dX9_reachedBy_28 : decode cX9_reachedBy 28 = .ok (.iaload, 1) := dk_46 (dk_at dksX9_reachedBy_1 4 rfl rfl)
theorem dX9_reachedBy_29 : decode cX9_reachedBy 29 = .ok (.if_icmp .ge 57, 3) := dk_162 0 57 (dk_at dksX9_reachedBy_1 5 rfl rfl)
theorem dX9_reachedBy_32 : decode cX9_reachedBy 32 = .ok (.iconst 1, 1) := dk_4 (dk_at dksX9_reachedBy_1 8 rfl rfl)
theorem dX9_reachedBy_33 : decode cX9_reachedBy 33 = .ok (.aload_n 0, 1) := dk_42 (dk_at dksX9_reachedBy_1 9 rfl rfl)
theorem dX9_reachedBy_34 : decode cX9_reachedBy 34 = .ok (.iload 5, 2) := dk_21 5 (dk_at dksX9_reachedBy_1 10 rfl rfl)
theorem dX9_reachedBy_36 : decode cX9_reachedBy 36 = .ok (.iconst 0, 1) := dk_3 (dk_at dksX9_reachedBy_1 12 rfl rfl)
theorem dX9_reachedBy_37 : decode cX9_reachedBy 37 = .ok (.invokevirtual 81, 3) := dk_182 0 81 (dk_at dksX9_reachedBy_1 13 rfl rfl)
theorem dX9_reachedBy_40 : decode cX9_reachedBy 40 = .ok (.ishl, 1) := dk_120 (dk_at dksX9_reachedBy_1 16 rfl rfl)
theorem dX9_reachedBy_41 : decode cX9_reachedBy 41 = .ok (.iconst 1, 1) := dk_4 (dk_at dksX9_reachedBy_1 17 rfl rfl)
theorem dX9_reachedBy_42 : decode cX9_reachedBy 42 = .ok (.aload_n 0, 1) := dk_42 (dk_at dksX9_reachedBy_1 18 rfl rfl)
theorem dX9_reachedBy_43 : decode cX9_reachedBy 43 = .ok (.iload 5, 2) := dk_21 5 (dk_at dksX9_reachedBy_1 19 rfl rfl)
theorem dX9_reachedBy_45 : decode cX9_reachedBy 45 = .ok (.iconst 1, 1) := dk_4 (dk_at dksX9_reachedBy_1 21 rfl rfl)
theorem dX9_reachedBy_46 : decode cX9_reachedBy 46 = .ok (.invokevirtual 81, 3) := dk_182 0 81 (dk_at dksX9_reachedBy_2 0 rfl rfl)
theorem dX9_reachedBy_49 : decode cX9_reachedBy 49 = .ok (.ishl, 1) := dk_120 (dk_at dksX9_reachedBy_2 3 rfl rfl)
theorem dX9_reachedBy_50 : decode cX9_reachedBy 50 = .ok (.ior, 1) := dk_128 (dk_at dksX9_reachedBy_2 4 rfl rfl)
theorem dX9_reachedBy_51 : decode cX9_reachedBy 51 = .ok (.istore 6, 2) := dk_54 6 (dk_at dksX9_reachedBy_2 5 rfl rfl)
theorem dX9_reachedBy_53 : decode cX9_reachedBy 53 = .ok (.iload_n 3, 1) := dk_29 (dk_at dksX9_reachedBy_2 7 rfl rfl)
theorem dX9_reachedBy_54 : decode cX9_reachedBy 54 = .ok (.aload_n 0, 1) := dk_42 (dk_at dksX9_reachedBy_2 8 rfl rfl)
theorem dX9_reachedBy_55 : decode cX9_reachedBy 55 = .ok (.iload 5, 2) := dk_21 5 (dk_at dksX9_reachedBy_2 9 rfl rfl)
theorem dX9_reachedBy_57 : decode cX9_reachedBy 57 = .ok (.iconst 2, 1) := dk_5 (dk_at dksX9_reachedBy_2 11 rfl rfl)
theorem dX9_reachedBy_58 : decode cX9_reachedBy 58 = .ok (.invokevirtual 81, 3) := dk_182 0 81 (dk_at dksX9_reachedBy_2 12 rfl rfl)
theorem dX9_reachedBy_61 : decode cX9_reachedBy 61 = .ok (.iload_n 1, 1) := dk_27 (dk_at dksX9_reachedBy_2 15 rfl rfl)
theorem dX9_reachedBy_62 : decode cX9_reachedBy 62 = .ok (.if_icmp .lt 15, 3) := dk_161 0 15 (dk_at dksX9_reachedBy_2 16 rfl rfl)
theorem dX9_reachedBy_65 : decode cX9_reachedBy 65 = .ok (.iload_n 3, 1) := dk_29 (dk_at dksX9_reachedBy_2 19 rfl rfl)
theorem dX9_reachedBy_66 : decode cX9_reachedBy 66 = .ok (.iload 6, 2) := dk_21 6 (dk_at dksX9_reachedBy_2 20 rfl rfl)
theorem dX9_reachedBy_68 : decode cX9_reachedBy 68 = .ok (.iand, 1) := dk_126 (dk_at dksX9_reachedBy_2 22 rfl rfl)
theorem dX9_reachedBy_69 : decode cX9_reachedBy 69 = .ok (.ifCond .eq 8, 3) := dk_153 0 8 (dk_at dksX9_reachedBy_3 0 rfl rfl)
theorem dX9_reachedBy_72 : decode cX9_reachedBy 72 = .ok (.iload 6, 2) := dk_21 6 (dk_at dksX9_reachedBy_3 3 rfl rfl)
theorem dX9_reachedBy_74 : decode cX9_reachedBy 74 = .ok (.goto 4, 3) := dk_167 0 4 (dk_at dksX9_reachedBy_3 5 rfl rfl)
theorem dX9_reachedBy_77 : decode cX9_reachedBy 77 = .ok (.iconst 0, 1) := dk_3 (dk_at dksX9_reachedBy_3 8 rfl rfl)
theorem dX9_reachedBy_78 : decode cX9_reachedBy 78 = .ok (.ior, 1) := dk_128 (dk_at dksX9_reachedBy_3 9 rfl rfl)
theorem dX9_reachedBy_79 : decode cX9_reachedBy 79 = .ok (.istore_n 3, 1) := dk_62 (dk_at dksX9_reachedBy_3 10 rfl rfl)
theorem dX9_reachedBy_80 : decode cX9_reachedBy 80 = .ok (.iinc 5 1, 3) := dk_132 5 1 (dk_at dksX9_reachedBy_3 11 rfl rfl)
theorem dX9_reachedBy_83 : decode cX9_reachedBy 83 = .ok (.goto (-62), 3) := dk_167 255 194 (dk_at dksX9_reachedBy_3 14 rfl rfl)
theorem dX9_reachedBy_86 : decode cX9_reachedBy 86 = .ok (.iinc 4 1, 3) := dk_132 4 1 (dk_at dksX9_reachedBy_3 17 rfl rfl)
theorem dX9_reachedBy_89 : decode cX9_reachedBy 89 = .ok (.goto (-82), 3) := dk_167 255 174 (dk_at dksX9_reachedBy_3 20 rfl rfl)
theorem dX9_reachedBy_92 : decode cX9_reachedBy 92 = .ok (.iload_n 3, 1) := dk_29 (dk_at dksX9_reachedBy_3 23 rfl rfl)
theorem dX9_reachedBy_93 : decode cX9_reachedBy 93 = .ok (.ireturn, 1) := dk_172 (dk_at dksX9_reachedBy_4 0 rfl rfl)
abbrev cX9_warmestFree : ByteArray := prog_11_method_120_code
def yX9_warmestFree : MethodName := ⟨RX9, "warmestFree", "()I"⟩
def dkwX9_warmestFree_0 : List UInt8 := [42, 3, 181, 0, 57, 42, 182, 0, 127, 172]
abbrev dktX9_warmestFree_0 : List UInt8 := dkwX9_warmestFree_0 ++ []
theorem dksX9_warmestFree_0 : cX9_warmestFree.data.toList.drop 0 = dktX9_warmestFree_0 := by decide +kernel
theorem dX9_warmestFree_0 : decode cX9_warmestFree 0 = .ok (.aload_n 0, 1) := dk_42 (dk_at dksX9_warmestFree_0 0 rfl rfl)
theorem dX9_warmestFree_1 : decode cX9_warmestFree 1 = .ok (.iconst 0, 1) := dk_3 (dk_at dksX9_warmestFree_0 1 rfl rfl)
theorem dX9_warmestFree_2 : decode cX9_warmestFree 2 = .ok (.putfield 57, 3) := dk_181 0 57 (dk_at dksX9_warmestFree_0 2 rfl rfl)
theorem dX9_warmestFree_5 : decode cX9_warmestFree 5 = .ok (.aload_n 0, 1) := dk_42 (dk_at dksX9_warmestFree_0 5 rfl rfl)
theorem dX9_warmestFree_6 : decode cX9_warmestFree 6 = .ok (.invokevirtual 127, 3) := dk_182 0 127 (dk_at dksX9_warmestFree_0 6 rfl rfl)
theorem dX9_warmestFree_9 : decode cX9_warmestFree 9 = .ok (.ireturn, 1) := dk_172 (dk_at dksX9_warmestFree_0 9 rfl rfl)
abbrev cX9_girth : ByteArray := prog_11_method_122_code
def yX9_girth : MethodName := ⟨RX9, "girth", "(I)I"⟩
def dkwX9_girth_0 : List UInt8 := [42, 27, 3, 182, 1, 142, 172]
abbrev dktX9_girth_0 : List UInt8 := dkwX9_girth_0 ++ []
theorem dksX9_girth_0 : cX9_girth.data.toList.drop 0 = dktX9_girth_0 := by decide +kernel
theorem dX9_girth_0 : decode cX9_girth 0 = .ok (.aload_n 0, 1) := dk_42 (dk_at dksX9_girth_0 0 rfl rfl)
theorem dX9_girth_1 : decode cX9_girth 1 = .ok (.iload_n 1, 1) := dk_27 (dk_at dksX9_girth_0 1 rfl rfl)
theorem dX9_girth_2 : decode cX9_girth 2 = .ok (.iconst 0, 1) := dk_3 (dk_at dksX9_girth_0 2 rfl rfl)
theorem dX9_girth_3 : decode cX9_girth 3 = .ok (.invokevirtual 398, 3) := dk_182 1 142 (dk_at dksX9_girth_0 3 rfl rfl)
theorem dX9_girth_6 : decode cX9_girth 6 = .ok (.ireturn, 1) := dk_172 (dk_at dksX9_girth_0 6 rfl rfl)
abbrev cX9_catTold : ByteArray := prog_11_method_121_code
def yX9_catTold : MethodName := ⟨RX9, "catTold", "(II)I"⟩
def dkwX9_catTold_1 : List UInt8 := [42, 27, 28, 182, 0, 64, 172]
abbrev dktX9_catTold_1 : List UInt8 := dkwX9_catTold_1 ++ []
def dkwX9_catTold_0 : List UInt8 := [42, 42, 27, 182, 1, 123, 154, 0, 7, 4, 167, 0, 4, 3, 182, 1, 99, 153, 0, 7, 3, 167, 0, 9]
abbrev dktX9_catTold_0 : List UInt8 := dkwX9_catTold_0 ++ dktX9_catTold_1
theorem dksX9_catTold_0 : cX9_catTold.data.toList.drop 0 = dktX9_catTold_0 := by decide +kernel
theorem dksX9_catTold_1 : cX9_catTold.data.toList.drop 24 = dktX9_catTold_1 := dk_seg dksX9_catTold_0 24 rfl rfl
theorem dX9_catTold_0 : decode cX9_catTold 0 = .ok (.aload_n 0, 1) := dk_42 (dk_at dksX9_catTold_0 0 rfl rfl)
theorem dX9_catTold_1 : decode cX9_catTold 1 = .ok (.aload_n 0, 1) := dk_42 (dk_at dksX9_catTold_0 1 rfl rfl)
theorem dX9_catTold_2 : decode cX9_catTold 2 = .ok (.iload_n 1, 1) := dk_27 (dk_at dksX9_catTold_0 2 rfl rfl)
theorem dX9_catTold_3 : decode cX9_catTold 3 = .ok (.invokevirtual 379, 3) := dk_182 1 123 (dk_at dksX9_catTold_0 3 rfl rfl)
theorem dX9_catTold_6 : decode cX9_catTold 6 = .ok (.ifCond .ne 7, 3) := dk_154 0 7 (dk_at dksX9_catTold_0 6 rfl rfl)
theorem dX9_catTold_9 : decode cX9_catTold 9 = .ok (.iconst 1, 1) := dk_4 (dk_at dksX9_catTold_0 9 rfl rfl)
theorem dX9_catTold_10 : decode cX9_catTold 10 = .ok (.goto 4, 3) := dk_167 0 4 (dk_at dksX9_catTold_0 10 rfl rfl)
theorem dX9_catTold_13 : decode cX9_catTold 13 = .ok (.iconst 0, 1) := dk_3 (dk_at dksX9_catTold_0 13 rfl rfl)
theorem dX9_catTold_14 : decode cX9_catTold 14 = .ok (.invokevirtual 355, 3) := dk_182 1 99 (dk_at dksX9_catTold_0 14 rfl rfl)
theorem dX9_catTold_17 : decode cX9_catTold 17 = .ok (.ifCond .eq 7, 3) := dk_153 0 7 (dk_at dksX9_catTold_0 17 rfl rfl)
theorem dX9_catTold_20 : decode cX9_catTold 20 = .ok (.iconst 0, 1) := dk_3 (dk_at dksX9_catTold_0 20 rfl rfl)
theorem dX9_catTold_21 : decode cX9_catTold 21 = .ok (.goto 9, 3) := dk_167 0 9 (dk_at dksX9_catTold_0 21 rfl rfl)
theorem dX9_catTold_24 : decode cX9_catTold 24 = .ok (.aload_n 0, 1) := dk_42 (dk_at dksX9_catTold_1 0 rfl rfl)
theorem dX9_catTold_25 : decode cX9_catTold 25 = .ok (.iload_n 1, 1) := dk_27 (dk_at dksX9_catTold_1 1 rfl rfl)
theorem dX9_catTold_26 : decode cX9_catTold 26 = .ok (.iload_n 2, 1) := dk_28 (dk_at dksX9_catTold_1 2 rfl rfl)
theorem dX9_catTold_27 : decode cX9_catTold 27 = .ok (.invokevirtual 64, 3) := dk_182 0 64 (dk_at dksX9_catTold_1 3 rfl rfl)
theorem dX9_catTold_30 : decode cX9_catTold 30 = .ok (.ireturn, 1) := dk_172 (dk_at dksX9_catTold_1 6 rfl rfl)
abbrev cX9_power : ByteArray := prog_11_method_123_code
def yX9_power : MethodName := ⟨RX9, "power", "(I)I"⟩
def dkwX9_power_1 : List UInt8 := [42, 27, 182, 0, 105, 172]
abbrev dktX9_power_1 : List UInt8 := dkwX9_power_1 ++ []
def dkwX9_power_0 : List UInt8 := [42, 42, 27, 182, 1, 123, 154, 0, 7, 4, 167, 0, 4, 3, 182, 1, 99, 153, 0, 7, 3, 167, 0, 8]
abbrev dktX9_power_0 : List UInt8 := dkwX9_power_0 ++ dktX9_power_1
theorem dksX9_power_0 : cX9_power.data.toList.drop 0 = dktX9_power_0 := by decide +kernel
theorem dksX9_power_1 : cX9_power.data.toList.drop 24 = dktX9_power_1 := dk_seg dksX9_power_0 24 rfl rfl
theorem dX9_power_0 : decode cX9_power 0 = .ok (.aload_n 0, 1) := dk_42 (dk_at dksX9_power_0 0 rfl rfl)
theorem dX9_power_1 : decode cX9_power 1 = .ok (.aload_n 0, 1) := dk_42 (dk_at dksX9_power_0 1 rfl rfl)
theorem dX9_power_2 : decode cX9_power 2 = .ok (.iload_n 1, 1) := dk_27 (dk_at dksX9_power_0 2 rfl rfl)
theorem dX9_power_3 : decode cX9_power 3 = .ok (.invokevirtual 379, 3) := dk_182 1 123 (dk_at dksX9_power_0 3 rfl rfl)
theorem dX9_power_6 : decode cX9_power 6 = .ok (.ifCond .ne 7, 3) := dk_154 0 7 (dk_at dksX9_power_0 6 rfl rfl)
theorem dX9_power_9 : decode cX9_power 9 = .ok (.iconst 1, 1) := dk_4 (dk_at dksX9_power_0 9 rfl rfl)
theorem dX9_power_10 : decode cX9_power 10 = .ok (.goto 4, 3) := dk_167 0 4 (dk_at dksX9_power_0 10 rfl rfl)
theorem dX9_power_13 : decode cX9_power 13 = .ok (.iconst 0, 1) := dk_3 (dk_at dksX9_power_0 13 rfl rfl)
theorem dX9_power_14 : decode cX9_power 14 = .ok (.invokevirtual 355, 3) := dk_182 1 99 (dk_at dksX9_power_0 14 rfl rfl)
theorem dX9_power_17 : decode cX9_power 17 = .ok (.ifCond .eq 7, 3) := dk_153 0 7 (dk_at dksX9_power_0 17 rfl rfl)
theorem dX9_power_20 : decode cX9_power 20 = .ok (.iconst 0, 1) := dk_3 (dk_at dksX9_power_0 20 rfl rfl)
theorem dX9_power_21 : decode cX9_power 21 = .ok (.goto 8, 3) := dk_167 0 8 (dk_at dksX9_power_0 21 rfl rfl)
theorem dX9_power_24 : decode cX9_power 24 = .ok (.aload_n 0, 1) := dk_42 (dk_at dksX9_power_1 0 rfl rfl)
theorem dX9_power_25 : decode cX9_power 25 = .ok (.iload_n 1, 1) := dk_27 (dk_at dksX9_power_1 1 rfl rfl)
theorem dX9_power_26 : decode cX9_power 26 = .ok (.invokevirtual 105, 3) := dk_182 0 105 (dk_at dksX9_power_1 2 rfl rfl)
theorem dX9_power_29 : decode cX9_power 29 = .ok (.ireturn, 1) := dk_172 (dk_at dksX9_power_1 5 rfl rfl)
abbrev cX9_fish : ByteArray := prog_11_method_124_code
def yX9_fish : MethodName := ⟨RX9, "fish", "(I)I"⟩
def dkwX9_fish_0 : List UInt8 := [42, 27, 5, 182, 1, 142, 172]
abbrev dktX9_fish_0 : List UInt8 := dkwX9_fish_0 ++ []
theorem dksX9_fish_0 : cX9_fish.data.toList.drop 0 = dktX9_fish_0 := by decide +kernel
theorem dX9_fish_0 : decode cX9_fish 0 = .ok (.aload_n 0, 1) := dk_42 (dk_at dksX9_fish_0 0 rfl rfl)
theorem dX9_fish_1 : decode cX9_fish 1 = .ok (.iload_n 1, 1) := dk_27 (dk_at dksX9_fish_0 1 rfl rfl)
theorem dX9_fish_2 : decode cX9_fish 2 = .ok (.iconst 2, 1) := dk_5 (dk_at dksX9_fish_0 2 rfl rfl)
theorem dX9_fish_3 : decode cX9_fish 3 = .ok (.invokevirtual 398, 3) := dk_182 1 142 (dk_at dksX9_fish_0 3 rfl rfl)
theorem dX9_fish_6 : decode cX9_fish 6 = .ok (.ireturn, 1) := dk_172 (dk_at dksX9_fish_0 6 rfl rfl)
abbrev cX9_chimneyOf : ByteArray := prog_11_method_125_code
def yX9_chimneyOf : MethodName := ⟨RX9, "chimneyOf", "(I)I"⟩
def dkwX9_chimneyOf_0 : List UInt8 := [42, 27, 6, 182, 1, 142, 172]
abbrev dktX9_chimneyOf_0 : List UInt8 := dkwX9_chimneyOf_0 ++ []
theorem dksX9_chimneyOf_0 : cX9_chimneyOf.data.toList.drop 0 = dktX9_chimneyOf_0 := by decide +kernel
theorem dX9_chimneyOf_0 : decode cX9_chimneyOf 0 = .ok (.aload_n 0, 1) := dk_42 (dk_at dksX9_chimneyOf_0 0 rfl rfl)
theorem dX9_chimneyOf_1 : decode cX9_chimneyOf 1 = .ok (.iload_n 1, 1) := dk_27 (dk_at dksX9_chimneyOf_0 1 rfl rfl)
theorem dX9_chimneyOf_2 : decode cX9_chimneyOf 2 = .ok (.iconst 3, 1) := dk_6 (dk_at dksX9_chimneyOf_0 2 rfl rfl)
theorem dX9_chimneyOf_3 : decode cX9_chimneyOf 3 = .ok (.invokevirtual 398, 3) := dk_182 1 142 (dk_at dksX9_chimneyOf_0 3 rfl rfl)
theorem dX9_chimneyOf_6 : decode cX9_chimneyOf 6 = .ok (.ireturn, 1) := dk_172 (dk_at dksX9_chimneyOf_0 6 rfl rfl)
abbrev cX9_ownedChimneys : ByteArray := prog_11_method_126_code
def yX9_ownedChimneys : MethodName := ⟨RX9, "ownedChimneys", "(I)I"⟩
def dkwX9_ownedChimneys_2 : List UInt8 := [120, 167, 0, 4, 3, 128, 61, 132, 3, 1, 167, 255, 224, 28, 172]
abbrev dktX9_ownedChimneys_2 : List UInt8 := dkwX9_ownedChimneys_2 ++ []
def dkwX9_ownedChimneys_1 : List UInt8 := [3, 62, 29, 42, 180, 0, 7, 3, 46, 162, 0, 28, 28, 42, 29, 182, 0, 68, 27, 160, 0, 9, 4, 29]
abbrev dktX9_ownedChimneys_1 : List UInt8 := dkwX9_ownedChimneys_1 ++ dktX9_ownedChimneys_2
def dkwX9_ownedChimneys_0 : List UInt8 := [42, 42, 27, 182, 1, 123, 154, 0, 7, 4, 167, 0, 4, 3, 182, 1, 99, 153, 0, 5, 3, 172, 3, 61]
abbrev dktX9_ownedChimneys_0 : List UInt8 := dkwX9_ownedChimneys_0 ++ dktX9_ownedChimneys_1
theorem dksX9_ownedChimneys_0 : cX9_ownedChimneys.data.toList.drop 0 = dktX9_ownedChimneys_0 := by decide +kernel
theorem dksX9_ownedChimneys_1 : cX9_ownedChimneys.data.toList.drop 24 = dktX9_ownedChimneys_1 := dk_seg dksX9_ownedChimneys_0 24 rfl rfl
theorem dksX9_ownedChimneys_2 : cX9_ownedChimneys.data.toList.drop 48 = dktX9_ownedChimneys_2 := dk_seg dksX9_ownedChimneys_1 24 rfl rfl
theorem dX9_ownedChimneys_0 : decode cX9_ownedChimneys 0 = .ok (.aload_n 0, 1) := dk_42 (dk_at dksX9_ownedChimneys_0 0 rfl rfl)
theorem dX9_ownedChimneys_1 : decode cX9_ownedChimneys 1 = .ok (.aload_n 0, 1) := dk_42 (dk_at dksX9_ownedChimneys_0 1 rfl rfl)
theorem dX9_ownedChimneys_2 : decode cX9_ownedChimneys 2 = .ok (.iload_n 1, 1) := dk_27 (dk_at dksX9_ownedChimneys_0 2 rfl rfl)
theorem dX9_ownedChimneys_3 : decode cX9_ownedChimneys 3 = .ok (.invokevirtual 379, 3) := dk_182 1 123 (dk_at dksX9_ownedChimneys_0 3 rfl rfl)
theorem dX9_ownedChimneys_6 : decode cX9_ownedChimneys 6 = .ok (.ifCond .ne 7, 3) := dk_154 0 7 (dk_at dksX9_ownedChimneys_0 6 rfl rfl)
theorem dX9_ownedChimneys_9 : decode cX9_ownedChimneys 9 = .ok (.iconst 1, 1) := dk_4 (dk_at dksX9_ownedChimneys_0 9 rfl rfl)
theorem dX9_ownedChimneys_10 : decode cX9_ownedChimneys 10 = .ok (.goto 4, 3) := dk_167 0 4 (dk_at dksX9_ownedChimneys_0 10 rfl rfl)
theorem dX9_ownedChimneys_13 : decode cX9_ownedChimneys 13 = .ok (.iconst 0, 1) := dk_3 (dk_at dksX9_ownedChimneys_0 13 rfl rfl)
theorem dX9_ownedChimneys_14 : decode cX9_ownedChimneys 14 = .ok (.invokevirtual 355, 3) := dk_182 1 99 (dk_at dksX9_ownedChimneys_0 14 rfl rfl)
theorem dX9_ownedChimneys_17 : decode cX9_ownedChimneys 17 = .ok (.ifCond .eq 5, 3) := dk_153 0 5 (dk_at dksX9_ownedChimneys_0 17 rfl rfl)
theorem dX9_ownedChimneys_20 : decode cX9_ownedChimneys 20 = .ok (.iconst 0, 1) := dk_3 (dk_at dksX9_ownedChimneys_0 20 rfl rfl)
theorem dX9_ownedChimneys_21 : decode cX9_ownedChimneys 21 = .ok (.ireturn, 1) := dk_172 (dk_at dksX9_ownedChimneys_0 21 rfl rfl)
theorem dX9_ownedChimneys_22 : decode cX9_ownedChimneys 22 = .ok (.iconst 0, 1) := dk_3 (dk_at dksX9_ownedChimneys_0 22 rfl rfl)
theorem dX9_ownedChimneys_23 : decode cX9_ownedChimneys 23 = .ok (.istore_n 2, 1) := dk_61 (dk_at dksX9_ownedChimneys_0 23 rfl rfl)
theorem dX9_ownedChimneys_24 : decode cX9_ownedChimneys 24 = .ok (.iconst 0, 1) := dk_3 (dk_at dksX9_ownedChimneys_1 0 rfl rfl)
theorem dX9_ownedChimneys_25 : decode cX9_ownedChimneys 25 = .ok (.istore_n 3, 1) := dk_62 (dk_at dksX9_ownedChimneys_1 1 rfl rfl)
theorem dX9_ownedChimneys_26 : decode cX9_ownedChimneys 26 = .ok (.iload_n 3, 1) := dk_29 (dk_at dksX9_ownedChimneys_1 2 rfl rfl)
theorem dX9_ownedChimneys_27 : decode cX9_ownedChimneys 27 = .ok (.aload_n 0, 1) := dk_42 (dk_at dksX9_ownedChimneys_1 3 rfl rfl)
theorem dX9_ownedChimneys_28 : decode cX9_ownedChimneys 28 = .ok (.getfield 7, 3) := dk_180 0 7 (dk_at dksX9_ownedChimneys_1 4 rfl rfl)
theorem dX9_ownedChimneys_31 : decode cX9_ownedChimneys 31 = .ok (.iconst 0, 1) := dk_3 (dk_at dksX9_ownedChimneys_1 7 rfl rfl)
theorem dX9_ownedChimneys_32 : decode cX9_ownedChimneys 32 = .ok (.iaload, 1) := dk_46 (dk_at dksX9_ownedChimneys_1 8 rfl rfl)
theorem dX9_ownedChimneys_33 : decode cX9_ownedChimneys 33 = .ok (.if_icmp .ge 28, 3) := dk_162 0 28 (dk_at dksX9_ownedChimneys_1 9 rfl rfl)
theorem dX9_ownedChimneys_36 : decode cX9_ownedChimneys 36 = .ok (.iload_n 2, 1) := dk_28 (dk_at dksX9_ownedChimneys_1 12 rfl rfl)
theorem dX9_ownedChimneys_37 : decode cX9_ownedChimneys 37 = .ok (.aload_n 0, 1) := dk_42 (dk_at dksX9_ownedChimneys_1 13 rfl rfl)
theorem dX9_ownedChimneys_38 : decode cX9_ownedChimneys 38 = .ok (.iload_n 3, 1) := dk_29 (dk_at dksX9_ownedChimneys_1 14 rfl rfl)
theorem dX9_ownedChimneys_39 : decode cX9_ownedChimneys 39 = .ok (.invokevirtual 68, 3) := dk_182 0 68 (dk_at dksX9_ownedChimneys_1 15 rfl rfl)
theorem dX9_ownedChimneys_42 : decode cX9_ownedChimneys 42 = .ok (.iload_n 1, 1) := dk_27 (dk_at dksX9_ownedChimneys_1 18 rfl rfl)
theorem dX9_ownedChimneys_43 : decode cX9_ownedChimneys 43 = .ok (.if_icmp .ne 9, 3) := dk_160 0 9 (dk_at dksX9_ownedChimneys_1 19 rfl rfl)
theorem dX9_ownedChimneys_46 : decode cX9_ownedChimneys 46 = .ok (.iconst 1, 1) := dk_4 (dk_at dksX9_ownedChimneys_1 22 rfl rfl)
theorem dX9_ownedChimneys_47 : decode cX9_ownedChimneys 47 = .ok (.iload_n 3, 1) := dk_29 (dk_at dksX9_ownedChimneys_1 23 rfl rfl)
theorem dX9_ownedChimneys_48 : decode cX9_ownedChimneys 48 = .ok (.ishl, 1) := dk_120 (dk_at dksX9_ownedChimneys_2 0 rfl rfl)
theorem dX9_ownedChimneys_49 : decode cX9_ownedChimneys 49 = .ok (.goto 4, 3) := dk_167 0 4 (dk_at dksX9_ownedChimneys_2 1 rfl rfl)
theorem dX9_ownedChimneys_52 : decode cX9_ownedChimneys 52 = .ok (.iconst 0, 1) := dk_3 (dk_at dksX9_ownedChimneys_2 4 rfl rfl)
theorem dX9_ownedChimneys_53 : decode cX9_ownedChimneys 53 = .ok (.ior, 1) := dk_128 (dk_at dksX9_ownedChimneys_2 5 rfl rfl)
theorem dX9_ownedChimneys_54 : decode cX9_ownedChimneys 54 = .ok (.istore_n 2, 1) := dk_61 (dk_at dksX9_ownedChimneys_2 6 rfl rfl)
theorem dX9_ownedChimneys_55 : decode cX9_ownedChimneys 55 = .ok (.iinc 3 1, 3) := dk_132 3 1 (dk_at dksX9_ownedChimneys_2 7 rfl rfl)
theorem dX9_ownedChimneys_58 : decode cX9_ownedChimneys 58 = .ok (.goto (-32), 3) := dk_167 255 224 (dk_at dksX9_ownedChimneys_2 10 rfl rfl)
theorem dX9_ownedChimneys_61 : decode cX9_ownedChimneys 61 = .ok (.iload_n 2, 1) := dk_28 (dk_at dksX9_ownedChimneys_2 13 rfl rfl)
theorem dX9_ownedChimneys_62 : decode cX9_ownedChimneys 62 = .ok (.ireturn, 1) := dk_172 (dk_at dksX9_ownedChimneys_2 14 rfl rfl)
abbrev cX9_truceNights : ByteArray := prog_11_method_127_code
def yX9_truceNights : MethodName := ⟨RX9, "truceNights", "(II)I"⟩
def dkwX9_truceNights_1 : List UInt8 := [3, 182, 1, 111, 153, 0, 7, 3, 167, 0, 9, 42, 27, 28, 182, 0, 90, 172]
abbrev dktX9_truceNights_1 : List UInt8 := dkwX9_truceNights_1 ++ []
def dkwX9_truceNights_0 : List UInt8 := [42, 42, 27, 28, 182, 1, 129, 154, 0, 7, 4, 167, 0, 4, 3, 27, 28, 160, 0, 7, 4, 167, 0, 4]
abbrev dktX9_truceNights_0 : List UInt8 := dkwX9_truceNights_0 ++ dktX9_truceNights_1
theorem dksX9_truceNights_0 : cX9_truceNights.data.toList.drop 0 = dktX9_truceNights_0 := by decide +kernel
theorem dksX9_truceNights_1 : cX9_truceNights.data.toList.drop 24 = dktX9_truceNights_1 := dk_seg dksX9_truceNights_0 24 rfl rfl
theorem dX9_truceNights_0 : decode cX9_truceNights 0 = .ok (.aload_n 0, 1) := dk_42 (dk_at dksX9_truceNights_0 0 rfl rfl)
theorem dX9_truceNights_1 : decode cX9_truceNights 1 = .ok (.aload_n 0, 1) := dk_42 (dk_at dksX9_truceNights_0 1 rfl rfl)
theorem dX9_truceNights_2 : decode cX9_truceNights 2 = .ok (.iload_n 1, 1) := dk_27 (dk_at dksX9_truceNights_0 2 rfl rfl)
theorem dX9_truceNights_3 : decode cX9_truceNights 3 = .ok (.iload_n 2, 1) := dk_28 (dk_at dksX9_truceNights_0 3 rfl rfl)
theorem dX9_truceNights_4 : decode cX9_truceNights 4 = .ok (.invokevirtual 385, 3) := dk_182 1 129 (dk_at dksX9_truceNights_0 4 rfl rfl)
theorem dX9_truceNights_7 : decode cX9_truceNights 7 = .ok (.ifCond .ne 7, 3) := dk_154 0 7 (dk_at dksX9_truceNights_0 7 rfl rfl)
theorem dX9_truceNights_10 : decode cX9_truceNights 10 = .ok (.iconst 1, 1) := dk_4 (dk_at dksX9_truceNights_0 10 rfl rfl)
theorem dX9_truceNights_11 : decode cX9_truceNights 11 = .ok (.goto 4, 3) := dk_167 0 4 (dk_at dksX9_truceNights_0 11 rfl rfl)
theorem dX9_truceNights_14 : decode cX9_truceNights 14 = .ok (.iconst 0, 1) := dk_3 (dk_at dksX9_truceNights_0 14 rfl rfl)
theorem dX9_truceNights_15 : decode cX9_truceNights 15 = .ok (.iload_n 1, 1) := dk_27 (dk_at dksX9_truceNights_0 15 rfl rfl)
theorem dX9_truceNights_16 : decode cX9_truceNights 16 = .ok (.iload_n 2, 1) := dk_28 (dk_at dksX9_truceNights_0 16 rfl rfl)
theorem dX9_truceNights_17 : decode cX9_truceNights 17 = .ok (.if_icmp .ne 7, 3) := dk_160 0 7 (dk_at dksX9_truceNights_0 17 rfl rfl)
theorem dX9_truceNights_20 : decode cX9_truceNights 20 = .ok (.iconst 1, 1) := dk_4 (dk_at dksX9_truceNights_0 20 rfl rfl)
theorem dX9_truceNights_21 : decode cX9_truceNights 21 = .ok (.goto 4, 3) := dk_167 0 4 (dk_at dksX9_truceNights_0 21 rfl rfl)
theorem dX9_truceNights_24 : decode cX9_truceNights 24 = .ok (.iconst 0, 1) := dk_3 (dk_at dksX9_truceNights_1 0 rfl rfl)
theorem dX9_truceNights_25 : decode cX9_truceNights 25 = .ok (.invokevirtual 367, 3) := dk_182 1 111 (dk_at dksX9_truceNights_1 1 rfl rfl)
theorem dX9_truceNights_28 : decode cX9_truceNights 28 = .ok (.ifCond .eq 7, 3) := dk_153 0 7 (dk_at dksX9_truceNights_1 4 rfl rfl)
theorem dX9_truceNights_31 : decode cX9_truceNights 31 = .ok (.iconst 0, 1) := dk_3 (dk_at dksX9_truceNights_1 7 rfl rfl)
theorem dX9_truceNights_32 : decode cX9_truceNights 32 = .ok (.goto 9, 3) := dk_167 0 9 (dk_at dksX9_truceNights_1 8 rfl rfl)
theorem dX9_truceNights_35 : decode cX9_truceNights 35 = .ok (.aload_n 0, 1) := dk_42 (dk_at dksX9_truceNights_1 11 rfl rfl)
theorem dX9_truceNights_36 : decode cX9_truceNights 36 = .ok (.iload_n 1, 1) := dk_27 (dk_at dksX9_truceNights_1 12 rfl rfl)
theorem dX9_truceNights_37 : decode cX9_truceNights 37 = .ok (.iload_n 2, 1) := dk_28 (dk_at dksX9_truceNights_1 13 rfl rfl)
theorem dX9_truceNights_38 : decode cX9_truceNights 38 = .ok (.invokevirtual 90, 3) := dk_182 0 90 (dk_at dksX9_truceNights_1 14 rfl rfl)
theorem dX9_truceNights_41 : decode cX9_truceNights 41 = .ok (.ireturn, 1) := dk_172 (dk_at dksX9_truceNights_1 17 rfl rfl)
abbrev cX9_reachable : ByteArray := prog_11_method_128_code
def yX9_reachable : MethodName := ⟨RX9, "reachable", "(I)I"⟩
def dkwX9_reachable_2 : List UInt8 := [2, 160, 0, 7, 3, 167, 0, 6, 4, 29, 120, 128, 61, 132, 3, 1, 167, 255, 223, 28, 172]
abbrev dktX9_reachable_2 : List UInt8 := dkwX9_reachable_2 ++ []
def dkwX9_reachable_1 : List UInt8 := [182, 1, 145, 3, 61, 3, 62, 29, 42, 180, 0, 7, 3, 46, 162, 0, 29, 28, 42, 180, 0, 31, 29, 46]
abbrev dktX9_reachable_1 : List UInt8 := dkwX9_reachable_1 ++ dktX9_reachable_2
def dkwX9_reachable_0 : List UInt8 := [42, 42, 27, 182, 1, 123, 154, 0, 7, 4, 167, 0, 4, 3, 182, 1, 99, 153, 0, 5, 3, 172, 42, 27]
abbrev dktX9_reachable_0 : List UInt8 := dkwX9_reachable_0 ++ dktX9_reachable_1
theorem dksX9_reachable_0 : cX9_reachable.data.toList.drop 0 = dktX9_reachable_0 := by decide +kernel
theorem dksX9_reachable_1 : cX9_reachable.data.toList.drop 24 = dktX9_reachable_1 := dk_seg dksX9_reachable_0 24 rfl rfl
theorem dksX9_reachable_2 : cX9_reachable.data.toList.drop 48 = dktX9_reachable_2 := dk_seg dksX9_reachable_1 24 rfl rfl
theorem dX9_reachable_0 : decode cX9_reachable 0 = .ok (.aload_n 0, 1) := dk_42 (dk_at dksX9_reachable_0 0 rfl rfl)
theorem dX9_reachable_1 : decode cX9_reachable 1 = .ok (.aload_n 0, 1) := dk_42 (dk_at dksX9_reachable_0 1 rfl rfl)
theorem dX9_reachable_2 : decode cX9_reachable 2 = .ok (.iload_n 1, 1) := dk_27 (dk_at dksX9_reachable_0 2 rfl rfl)
theorem dX9_reachable_3 : decode cX9_reachable 3 = .ok (.invokevirtual 379, 3) := dk_182 1 123 (dk_at dksX9_reachable_0 3 rfl rfl)
theorem dX9_reachable_6 : decode cX9_reachable 6 = .ok (.ifCond .ne 7, 3) := dk_154 0 7 (dk_at dksX9_reachable_0 6 rfl rfl)
theorem dX9_reachable_9 : decode cX9_reachable 9 = .ok (.iconst 1, 1) := dk_4 (dk_at dksX9_reachable_0 9 rfl rfl)
theorem dX9_reachable_10 : decode cX9_reachable 10 = .ok (.goto 4, 3) := dk_167 0 4 (dk_at dksX9_reachable_0 10 rfl rfl)
theorem dX9_reachable_13 : decode cX9_reachable 13 = .ok (.iconst 0, 1) := dk_3 (dk_at dksX9_reachable_0 13 rfl rfl)
theorem dX9_reachable_14 : decode cX9_reachable 14 = .ok (.invokevirtual 355, 3) := dk_182 1 99 (dk_at dksX9_reachable_0 14 rfl rfl)
theorem dX9_reachable_17 : decode cX9_reachable 17 = .ok (.ifCond .eq 5, 3) := dk_153 0 5 (dk_at dksX9_reachable_0 17 rfl rfl)
theorem dX9_reachable_20 : decode cX9_reachable 20 = .ok (.iconst 0, 1) := dk_3 (dk_at dksX9_reachable_0 20 rfl rfl)
theorem dX9_reachable_21 : decode cX9_reachable 21 = .ok (.ireturn, 1) := dk_172 (dk_at dksX9_reachable_0 21 rfl rfl)
theorem dX9_reachable_22 : decode cX9_reachable 22 = .ok (.aload_n 0, 1) := dk_42 (dk_at dksX9_reachable_0 22 rfl rfl)
theorem dX9_reachable_23 : decode cX9_reachable 23 = .ok (.iload_n 1, 1) := dk_27 (dk_at dksX9_reachable_0 23 rfl rfl)
theorem dX9_reachable_24 : decode cX9_reachable 24 = .ok (.invokevirtual 401, 3) := dk_182 1 145 (dk_at dksX9_reachable_1 0 rfl rfl)
theorem dX9_reachable_27 : decode cX9_reachable 27 = .ok (.iconst 0, 1) := dk_3 (dk_at dksX9_reachable_1 3 rfl rfl)
theorem dX9_reachable_28 : decode cX9_reachable 28 = .ok (.istore_n 2, 1) := dk_61 (dk_at dksX9_reachable_1 4 rfl rfl)
theorem dX9_reachable_29 : decode cX9_reachable 29 = .ok (.iconst 0, 1) := dk_3 (dk_at dksX9_reachable_1 5 rfl rfl)
theorem dX9_reachable_30 : decode cX9_reachable 30 = .ok (.istore_n 3, 1) := dk_62 (dk_at dksX9_reachable_1 6 rfl rfl)
theorem dX9_reachable_31 : decode cX9_reachable 31 = .ok (.iload_n 3, 1) := dk_29 (dk_at dksX9_reachable_1 7 rfl rfl)
theorem dX9_reachable_32 : decode cX9_reachable 32 = .ok (.aload_n 0, 1) := dk_42 (dk_at dksX9_reachable_1 8 rfl rfl)
theorem dX9_reachable_33 : decode cX9_reachable 33 = .ok (.getfield 7, 3) := dk_180 0 7 (dk_at dksX9_reachable_1 9 rfl rfl)
theorem dX9_reachable_36 : decode cX9_reachable 36 = .ok (.iconst 0, 1) := dk_3 (dk_at dksX9_reachable_1 12 rfl rfl)
theorem dX9_reachable_37 : decode cX9_reachable 37 = .ok (.iaload, 1) := dk_46 (dk_at dksX9_reachable_1 13 rfl rfl)
theorem dX9_reachable_38 : decode cX9_reachable 38 = .ok (.if_icmp .ge 29, 3) := dk_162 0 29 (dk_at dksX9_reachable_1 14 rfl rfl)
theorem dX9_reachable_41 : decode cX9_reachable 41 = .ok (.iload_n 2, 1) := dk_28 (dk_at dksX9_reachable_1 17 rfl rfl)
theorem dX9_reachable_42 : decode cX9_reachable 42 = .ok (.aload_n 0, 1) := dk_42 (dk_at dksX9_reachable_1 18 rfl rfl)
theorem dX9_reachable_43 : decode cX9_reachable 43 = .ok (.getfield 31, 3) := dk_180 0 31 (dk_at dksX9_reachable_1 19 rfl rfl)
theorem dX9_reachable_46 : decode cX9_reachable 46 = .ok (.iload_n 3, 1) := dk_29 (dk_at dksX9_reachable_1 22 rfl rfl)
theorem dX9_reachable_47 : decode cX9_reachable 47 = .ok (.iaload, 1) := dk_46 (dk_at dksX9_reachable_1 23 rfl rfl)
theorem dX9_reachable_48 : decode cX9_reachable 48 = .ok (.iconst (-1), 1) := dk_2 (dk_at dksX9_reachable_2 0 rfl rfl)
theorem dX9_reachable_49 : decode cX9_reachable 49 = .ok (.if_icmp .ne 7, 3) := dk_160 0 7 (dk_at dksX9_reachable_2 1 rfl rfl)
theorem dX9_reachable_52 : decode cX9_reachable 52 = .ok (.iconst 0, 1) := dk_3 (dk_at dksX9_reachable_2 4 rfl rfl)
theorem dX9_reachable_53 : decode cX9_reachable 53 = .ok (.goto 6, 3) := dk_167 0 6 (dk_at dksX9_reachable_2 5 rfl rfl)
theorem dX9_reachable_56 : decode cX9_reachable 56 = .ok (.iconst 1, 1) := dk_4 (dk_at dksX9_reachable_2 8 rfl rfl)
theorem dX9_reachable_57 : decode cX9_reachable 57 = .ok (.iload_n 3, 1) := dk_29 (dk_at dksX9_reachable_2 9 rfl rfl)
theorem dX9_reachable_58 : decode cX9_reachable 58 = .ok (.ishl, 1) := dk_120 (dk_at dksX9_reachable_2 10 rfl rfl)
theorem dX9_reachable_59 : decode cX9_reachable 59 = .ok (.ior, 1) := dk_128 (dk_at dksX9_reachable_2 11 rfl rfl)
theorem dX9_reachable_60 : decode cX9_reachable 60 = .ok (.istore_n 2, 1) := dk_61 (dk_at dksX9_reachable_2 12 rfl rfl)
theorem dX9_reachable_61 : decode cX9_reachable 61 = .ok (.iinc 3 1, 3) := dk_132 3 1 (dk_at dksX9_reachable_2 13 rfl rfl)
theorem dX9_reachable_64 : decode cX9_reachable 64 = .ok (.goto (-33), 3) := dk_167 255 223 (dk_at dksX9_reachable_2 16 rfl rfl)
theorem dX9_reachable_67 : decode cX9_reachable 67 = .ok (.iload_n 2, 1) := dk_28 (dk_at dksX9_reachable_2 19 rfl rfl)
theorem dX9_reachable_68 : decode cX9_reachable 68 = .ok (.ireturn, 1) := dk_172 (dk_at dksX9_reachable_2 20 rfl rfl)
abbrev cX9_walks : ByteArray := prog_11_method_26_code
def yX9_walks : MethodName := ⟨RX9, "walks", "(I)V"⟩
def dkwX9_walks_3 : List UInt8 := [28, 4, 96, 182, 0, 108, 132, 3, 1, 167, 255, 224, 132, 2, 1, 167, 255, 206, 177]
abbrev dktX9_walks_3 : List UInt8 := dkwX9_walks_3 ++ []
def dkwX9_walks_2 : List UInt8 := [62, 29, 42, 180, 0, 7, 3, 46, 162, 0, 28, 42, 180, 0, 31, 29, 46, 28, 160, 0, 12, 42, 27, 29]
abbrev dktX9_walks_2 : List UInt8 := dkwX9_walks_2 ++ dktX9_walks_3
def dkwX9_walks_1 : List UInt8 := [180, 0, 31, 42, 27, 6, 182, 0, 64, 3, 79, 3, 61, 28, 42, 180, 0, 7, 3, 46, 162, 0, 46, 3]
abbrev dktX9_walks_1 : List UInt8 := dkwX9_walks_1 ++ dktX9_walks_2
def dkwX9_walks_0 : List UInt8 := [3, 61, 28, 16, 10, 162, 0, 16, 42, 180, 0, 31, 28, 2, 79, 132, 2, 1, 167, 255, 240, 42]
abbrev dktX9_walks_0 : List UInt8 := dkwX9_walks_0 ++ dktX9_walks_1
theorem dksX9_walks_0 : cX9_walks.data.toList.drop 0 = dktX9_walks_0 := by decide +kernel
theorem dksX9_walks_1 : cX9_walks.data.toList.drop 22 = dktX9_walks_1 := dk_seg dksX9_walks_0 22 rfl rfl
theorem dksX9_walks_2 : cX9_walks.data.toList.drop 46 = dktX9_walks_2 := dk_seg dksX9_walks_1 24 rfl rfl
theorem dksX9_walks_3 : cX9_walks.data.toList.drop 70 = dktX9_walks_3 := dk_seg dksX9_walks_2 24 rfl rfl
theorem dX9_walks_0 : decode cX9_walks 0 = .ok (.iconst 0, 1) := dk_3 (dk_at dksX9_walks_0 0 rfl rfl)
theorem dX9_walks_1 : decode cX9_walks 1 = .ok (.istore_n 2, 1) := dk_61 (dk_at dksX9_walks_0 1 rfl rfl)
theorem dX9_walks_2 : decode cX9_walks 2 = .ok (.iload_n 2, 1) := dk_28 (dk_at dksX9_walks_0 2 rfl rfl)
theorem dX9_walks_3 : decode cX9_walks 3 = .ok (.bipush 10, 2) := dk_16 10 (dk_at dksX9_walks_0 3 rfl rfl)
theorem dX9_walks_5 : decode cX9_walks 5 = .ok (.if_icmp .ge 16, 3) := dk_162 0 16 (dk_at dksX9_walks_0 5 rfl rfl)
theorem dX9_walks_8 : decode cX9_walks 8 = .ok (.aload_n 0, 1) := dk_42 (dk_at dksX9_walks_0 8 rfl rfl)
theorem dX9_walks_9 : decode cX9_walks 9 = .ok (.getfield 31, 3) := dk_180 0 31 (dk_at dksX9_walks_0 9 rfl rfl)
theorem dX9_walks_12 : decode cX9_walks 12 = .ok (.iload_n 2, 1) := dk_28 (dk_at dksX9_walks_0 12 rfl rfl)
theorem dX9_walks_13 : decode cX9_walks 13 = .ok (.iconst (-1), 1) := dk_2 (dk_at dksX9_walks_0 13 rfl rfl)
theorem dX9_walks_14 : decode cX9_walks 14 = .ok (.iastore, 1) := dk_79 (dk_at dksX9_walks_0 14 rfl rfl)
theorem dX9_walks_15 : decode cX9_walks 15 = .ok (.iinc 2 1, 3) := dk_132 2 1 (dk_at dksX9_walks_0 15 rfl rfl)
theorem dX9_walks_18 : decode cX9_walks 18 = .ok (.goto (-16), 3) := dk_167 255 240 (dk_at dksX9_walks_0 18 rfl rfl)
theorem dX9_walks_21 : decode cX9_walks 21 = .ok (.aload_n 0, 1) := dk_42 (dk_at dksX9_walks_0 21 rfl rfl)
theorem dX9_walks_22 : decode cX9_walks 22 = .ok (.getfield 31, 3) := dk_180 0 31 (dk_at dksX9_walks_1 0 rfl rfl)
theorem dX9_walks_25 : decode cX9_walks 25 = .ok (.aload_n 0, 1) := dk_42 (dk_at dksX9_walks_1 3 rfl rfl)
theorem dX9_walks_26 : decode cX9_walks 26 = .ok (.iload_n 1, 1) := dk_27 (dk_at dksX9_walks_1 4 rfl rfl)
theorem dX9_walks_27 : decode cX9_walks 27 = .ok (.iconst 3, 1) := dk_6 (dk_at dksX9_walks_1 5 rfl rfl)
theorem dX9_walks_28 : decode cX9_walks 28 = .ok (.invokevirtual 64, 3) := dk_182 0 64 (dk_at dksX9_walks_1 6 rfl rfl)
theorem dX9_walks_31 : decode cX9_walks 31 = .ok (.iconst 0, 1) := dk_3 (dk_at dksX9_walks_1 9 rfl rfl)
theorem dX9_walks_32 : decode cX9_walks 32 = .ok (.iastore, 1) := dk_79 (dk_at dksX9_walks_1 10 rfl rfl)
theorem dX9_walks_33 : decode cX9_walks 33 = .ok (.iconst 0, 1) := dk_3 (dk_at dksX9_walks_1 11 rfl rfl)
theorem dX9_walks_34 : decode cX9_walks 34 = .ok (.istore_n 2, 1) := dk_61 (dk_at dksX9_walks_1 12 rfl rfl)
theorem dX9_walks_35 : decode cX9_walks 35 = .ok (.iload_n 2, 1) := dk_28 (dk_at dksX9_walks_1 13 rfl rfl)
theorem dX9_walks_36 : decode cX9_walks 36 = .ok (.aload_n 0, 1) := dk_42 (dk_at dksX9_walks_1 14 rfl rfl)
theorem dX9_walks_37 : decode cX9_walks 37 = .ok (.getfield 7, 3) := dk_180 0 7 (dk_at dksX9_walks_1 15 rfl rfl)
theorem dX9_walks_40 : decode cX9_walks 40 = .ok (.iconst 0, 1) := dk_3 (dk_at dksX9_walks_1 18 rfl rfl)
theorem dX9_walks_41 : decode cX9_walks 41 = .ok (.iaload, 1) := dk_46 (dk_at dksX9_walks_1 19 rfl rfl)
theorem dX9_walks_42 : decode cX9_walks 42 = .ok (.if_icmp .ge 46, 3) := dk_162 0 46 (dk_at dksX9_walks_1 20 rfl rfl)
theorem dX9_walks_45 : decode cX9_walks 45 = .ok (.iconst 0, 1) := dk_3 (dk_at dksX9_walks_1 23 rfl rfl)
theorem dX9_walks_46 : decode cX9_walks 46 = .ok (.istore_n 3, 1) := dk_62 (dk_at dksX9_walks_2 0 rfl rfl)
theorem dX9_walks_47 : decode cX9_walks 47 = .ok (.iload_n 3, 1) := dk_29 (dk_at dksX9_walks_2 1 rfl rfl)
theorem dX9_walks_48 : decode cX9_walks 48 = .ok (.aload_n 0, 1) := dk_42 (dk_at dksX9_walks_2 2 rfl rfl)
theorem dX9_walks_49 : decode cX9_walks 49 = .ok (.getfield 7, 3) := dk_180 0 7 (dk_at dksX9_walks_2 3 rfl rfl)
theorem dX9_walks_52 : decode cX9_walks 52 = .ok (.iconst 0, 1) := dk_3 (dk_at dksX9_walks_2 6 rfl rfl)
theorem dX9_walks_53 : decode cX9_walks 53 = .ok (.iaload, 1) := dk_46 (dk_at dksX9_walks_2 7 rfl rfl)
theorem dX9_walks_54 : decode cX9_walks 54 = .ok (.if_icmp .ge 28, 3) := dk_162 0 28 (dk_at dksX9_walks_2 8 rfl rfl)
theorem dX9_walks_57 : decode cX9_walks 57 = .ok (.aload_n 0, 1) := dk_42 (dk_at dksX9_walks_2 11 rfl rfl)
theorem dX9_walks_58 : decode cX9_walks 58 = .ok (.getfield 31, 3) := dk_180 0 31 (dk_at dksX9_walks_2 12 rfl rfl)
theorem dX9_walks_61 : decode cX9_walks 61 = .ok (.iload_n 3, 1) := dk_29 (dk_at dksX9_walks_2 15 rfl rfl)
theorem dX9_walks_62 : decode cX9_walks 62 = .ok (.iaload, 1) := dk_46 (dk_at dksX9_walks_2 16 rfl rfl)
theorem dX9_walks_63 : decode cX9_walks 63 = .ok (.iload_n 2, 1) := dk_28 (dk_at dksX9_walks_2 17 rfl rfl)
theorem dX9_walks_64 : decode cX9_walks 64 = .ok (.if_icmp .ne 12, 3) := dk_160 0 12 (dk_at dksX9_walks_2 18 rfl rfl)
theorem dX9_walks_67 : decode cX9_walks 67 = .ok (.aload_n 0, 1) := dk_42 (dk_at dksX9_walks_2 21 rfl rfl)
theorem dX9_walks_68 : decode cX9_walks 68 = .ok (.iload_n 1, 1) := dk_27 (dk_at dksX9_walks_2 22 rfl rfl)
theorem dX9_walks_69 : decode cX9_walks 69 = .ok (.iload_n 3, 1) := dk_29 (dk_at dksX9_walks_2 23 rfl rfl)
theorem dX9_walks_70 : decode cX9_walks 70 = .ok (.iload_n 2, 1) := dk_28 (dk_at dksX9_walks_3 0 rfl rfl)
theorem dX9_walks_71 : decode cX9_walks 71 = .ok (.iconst 1, 1) := dk_4 (dk_at dksX9_walks_3 1 rfl rfl)
theorem dX9_walks_72 : decode cX9_walks 72 = .ok (.iadd, 1) := dk_96 (dk_at dksX9_walks_3 2 rfl rfl)
theorem dX9_walks_73 : decode cX9_walks 73 = .ok (.invokevirtual 108, 3) := dk_182 0 108 (dk_at dksX9_walks_3 3 rfl rfl)
theorem dX9_walks_76 : decode cX9_walks 76 = .ok (.iinc 3 1, 3) := dk_132 3 1 (dk_at dksX9_walks_3 6 rfl rfl)
theorem dX9_walks_79 : decode cX9_walks 79 = .ok (.goto (-32), 3) := dk_167 255 224 (dk_at dksX9_walks_3 9 rfl rfl)
theorem dX9_walks_82 : decode cX9_walks 82 = .ok (.iinc 2 1, 3) := dk_132 2 1 (dk_at dksX9_walks_3 12 rfl rfl)
theorem dX9_walks_85 : decode cX9_walks 85 = .ok (.goto (-50), 3) := dk_167 255 206 (dk_at dksX9_walks_3 15 rfl rfl)
theorem dX9_walks_88 : decode cX9_walks 88 = .ok (.return_, 1) := dk_177 (dk_at dksX9_walks_3 18 rfl rfl)
abbrev cX9_spreads : ByteArray := prog_11_method_27_code
def yX9_spreads : MethodName := ⟨RX9, "spreads", "(III)V"⟩
def dkwX9_spreads_3 : List UInt8 := [21, 5, 29, 79, 132, 4, 1, 167, 255, 182, 177]
abbrev dktX9_spreads_3 : List UInt8 := dkwX9_spreads_3 ++ []
def dkwX9_spreads_2 : List UInt8 := [42, 27, 3, 182, 0, 64, 161, 0, 21, 42, 27, 21, 5, 182, 0, 96, 154, 0, 11, 42, 180, 0, 31]
abbrev dktX9_spreads_2 : List UInt8 := dkwX9_spreads_2 ++ dktX9_spreads_3
def dkwX9_spreads_1 : List UInt8 := [21, 5, 2, 159, 0, 48, 42, 180, 0, 31, 21, 5, 46, 2, 160, 0, 37, 42, 21, 4, 5, 182, 0, 81]
abbrev dktX9_spreads_1 : List UInt8 := dkwX9_spreads_1 ++ dktX9_spreads_2
def dkwX9_spreads_0 : List UInt8 := [3, 54, 4, 21, 4, 42, 180, 0, 7, 4, 46, 162, 0, 69, 42, 21, 4, 28, 182, 0, 93, 54, 5]
abbrev dktX9_spreads_0 : List UInt8 := dkwX9_spreads_0 ++ dktX9_spreads_1
theorem dksX9_spreads_0 : cX9_spreads.data.toList.drop 0 = dktX9_spreads_0 := by decide +kernel
theorem dksX9_spreads_1 : cX9_spreads.data.toList.drop 23 = dktX9_spreads_1 := dk_seg dksX9_spreads_0 23 rfl rfl
theorem dksX9_spreads_2 : cX9_spreads.data.toList.drop 47 = dktX9_spreads_2 := dk_seg dksX9_spreads_1 24 rfl rfl
theorem dksX9_spreads_3 : cX9_spreads.data.toList.drop 70 = dktX9_spreads_3 := dk_seg dksX9_spreads_2 23 rfl rfl
theorem dX9_spreads_0 : decode cX9_spreads 0 = .ok (.iconst 0, 1) := dk_3 (dk_at dksX9_spreads_0 0 rfl rfl)
theorem dX9_spreads_1 : decode cX9_spreads 1 = .ok (.istore 4, 2) := dk_54 4 (dk_at dksX9_spreads_0 1 rfl rfl)
theorem dX9_spreads_3 : decode cX9_spreads 3 = .ok (.iload 4, 2) := dk_21 4 (dk_at dksX9_spreads_0 3 rfl rfl)
theorem dX9_spreads_5 : decode cX9_spreads 5 = .ok (.aload_n 0, 1) := dk_42 (dk_at dksX9_spreads_0 5 rfl rfl)
theorem dX9_spreads_6 : decode cX9_spreads 6 = .ok (.getfield 7, 3) := dk_180 0 7 (dk_at dksX9_spreads_0 6 rfl rfl)
theorem dX9_spreads_9 : decode cX9_spreads 9 = .ok (.iconst 1, 1) := dk_4 (dk_at dksX9_spreads_0 9 rfl rfl)
theorem dX9_spreads_10 : decode cX9_spreads 10 = .ok (.iaload, 1) := dk_46 (dk_at dksX9_spreads_0 10 rfl rfl)
theorem dX9_spreads_11 : decode cX9_spreads 11 = .ok (.if_icmp .ge 69, 3) := dk_162 0 69 (dk_at dksX9_spreads_0 11 rfl rfl)
theorem dX9_spreads_14 : decode cX9_spreads 14 = .ok (.aload_n 0, 1) := dk_42 (dk_at dksX9_spreads_0 14 rfl rfl)
theorem dX9_spreads_15 : decode cX9_spreads 15 = .ok (.iload 4, 2) := dk_21 4 (dk_at dksX9_spreads_0 15 rfl rfl)
theorem dX9_spreads_17 : decode cX9_spreads 17 = .ok (.iload_n 2, 1) := dk_28 (dk_at dksX9_spreads_0 17 rfl rfl)
theorem dX9_spreads_18 : decode cX9_spreads 18 = .ok (.invokevirtual 93, 3) := dk_182 0 93 (dk_at dksX9_spreads_0 18 rfl rfl)
theorem dX9_spreads_21 : decode cX9_spreads 21 = .ok (.istore 5, 2) := dk_54 5 (dk_at dksX9_spreads_0 21 rfl rfl)
theorem dX9_spreads_23 : decode cX9_spreads 23 = .ok (.iload 5, 2) := dk_21 5 (dk_at dksX9_spreads_1 0 rfl rfl)
theorem dX9_spreads_25 : decode cX9_spreads 25 = .ok (.iconst (-1), 1) := dk_2 (dk_at dksX9_spreads_1 2 rfl rfl)
theorem dX9_spreads_26 : decode cX9_spreads 26 = .ok (.if_icmp .eq 48, 3) := dk_159 0 48 (dk_at dksX9_spreads_1 3 rfl rfl)
theorem dX9_spreads_29 : decode cX9_spreads 29 = .ok (.aload_n 0, 1) := dk_42 (dk_at dksX9_spreads_1 6 rfl rfl)
theorem dX9_spreads_30 : decode cX9_spreads 30 = .ok (.getfield 31, 3) := dk_180 0 31 (dk_at dksX9_spreads_1 7 rfl rfl)
theorem dX9_spreads_33 : decode cX9_spreads 33 = .ok (.iload 5, 2) := dk_21 5 (dk_at dksX9_spreads_1 10 rfl rfl)
theorem dX9_spreads_35 : decode cX9_spreads 35 = .ok (.iaload, 1) := dk_46 (dk_at dksX9_spreads_1 12 rfl rfl)
theorem dX9_spreads_36 : decode cX9_spreads 36 = .ok (.iconst (-1), 1) := dk_2 (dk_at dksX9_spreads_1 13 rfl rfl)
theorem dX9_spreads_37 : decode cX9_spreads 37 = .ok (.if_icmp .ne 37, 3) := dk_160 0 37 (dk_at dksX9_spreads_1 14 rfl rfl)
theorem dX9_spreads_40 : decode cX9_spreads 40 = .ok (.aload_n 0, 1) := dk_42 (dk_at dksX9_spreads_1 17 rfl rfl)
theorem dX9_spreads_41 : decode cX9_spreads 41 = .ok (.iload 4, 2) := dk_21 4 (dk_at dksX9_spreads_1 18 rfl rfl)
theorem dX9_spreads_43 : decode cX9_spreads 43 = .ok (.iconst 2, 1) := dk_5 (dk_at dksX9_spreads_1 20 rfl rfl)
theorem dX9_spreads_44 : decode cX9_spreads 44 = .ok (.invokevirtual 81, 3) := dk_182 0 81 (dk_at dksX9_spreads_1 21 rfl rfl)
theorem dX9_spreads_47 : decode cX9_spreads 47 = .ok (.aload_n 0, 1) := dk_42 (dk_at dksX9_spreads_2 0 rfl rfl)
theorem dX9_spreads_48 : decode cX9_spreads 48 = .ok (.iload_n 1, 1) := dk_27 (dk_at dksX9_spreads_2 1 rfl rfl)
theorem dX9_spreads_49 : decode cX9_spreads 49 = .ok (.iconst 0, 1) := dk_3 (dk_at dksX9_spreads_2 2 rfl rfl)
theorem dX9_spreads_50 : decode cX9_spreads 50 = .ok (.invokevirtual 64, 3) := dk_182 0 64 (dk_at dksX9_spreads_2 3 rfl rfl)
theorem dX9_spreads_53 : decode cX9_spreads 53 = .ok (.if_icmp .lt 21, 3) := dk_161 0 21 (dk_at dksX9_spreads_2 6 rfl rfl)
theorem dX9_spreads_56 : decode cX9_spreads 56 = .ok (.aload_n 0, 1) := dk_42 (dk_at dksX9_spreads_2 9 rfl rfl)
theorem dX9_spreads_57 : decode cX9_spreads 57 = .ok (.iload_n 1, 1) := dk_27 (dk_at dksX9_spreads_2 10 rfl rfl)
theorem dX9_spreads_58 : decode cX9_spreads 58 = .ok (.iload 5, 2) := dk_21 5 (dk_at dksX9_spreads_2 11 rfl rfl)
theorem dX9_spreads_60 : decode cX9_spreads 60 = .ok (.invokevirtual 96, 3) := dk_182 0 96 (dk_at dksX9_spreads_2 13 rfl rfl)
theorem dX9_spreads_63 : decode cX9_spreads 63 = .ok (.ifCond .ne 11, 3) := dk_154 0 11 (dk_at dksX9_spreads_2 16 rfl rfl)
theorem dX9_spreads_66 : decode cX9_spreads 66 = .ok (.aload_n 0, 1) := dk_42 (dk_at dksX9_spreads_2 19 rfl rfl)
theorem dX9_spreads_67 : decode cX9_spreads 67 = .ok (.getfield 31, 3) := dk_180 0 31 (dk_at dksX9_spreads_2 20 rfl rfl)
theorem dX9_spreads_70 : decode cX9_spreads 70 = .ok (.iload 5, 2) := dk_21 5 (dk_at dksX9_spreads_3 0 rfl rfl)
theorem dX9_spreads_72 : decode cX9_spreads 72 = .ok (.iload_n 3, 1) := dk_29 (dk_at dksX9_spreads_3 2 rfl rfl)
theorem dX9_spreads_73 : decode cX9_spreads 73 = .ok (.iastore, 1) := dk_79 (dk_at dksX9_spreads_3 3 rfl rfl)
theorem dX9_spreads_74 : decode cX9_spreads 74 = .ok (.iinc 4 1, 3) := dk_132 4 1 (dk_at dksX9_spreads_3 4 rfl rfl)
theorem dX9_spreads_77 : decode cX9_spreads 77 = .ok (.goto (-74), 3) := dk_167 255 182 (dk_at dksX9_spreads_3 7 rfl rfl)
theorem dX9_spreads_80 : decode cX9_spreads 80 = .ok (.return_, 1) := dk_177 (dk_at dksX9_spreads_3 10 rfl rfl)
abbrev cX9_stepsTo : ByteArray := prog_11_method_129_code
def yX9_stepsTo : MethodName := ⟨RX9, "stepsTo", "(II)I"⟩
def dkwX9_stepsTo_1 : List UInt8 := [182, 1, 99, 153, 0, 5, 3, 172, 42, 27, 182, 1, 145, 42, 180, 0, 31, 28, 46, 172]
abbrev dktX9_stepsTo_1 : List UInt8 := dkwX9_stepsTo_1 ++ []
def dkwX9_stepsTo_0 : List UInt8 := [42, 42, 27, 182, 1, 123, 153, 0, 11, 42, 28, 182, 1, 114, 154, 0, 7, 4, 167, 0, 4, 3]
abbrev dktX9_stepsTo_0 : List UInt8 := dkwX9_stepsTo_0 ++ dktX9_stepsTo_1
theorem dksX9_stepsTo_0 : cX9_stepsTo.data.toList.drop 0 = dktX9_stepsTo_0 := by decide +kernel
theorem dksX9_stepsTo_1 : cX9_stepsTo.data.toList.drop 22 = dktX9_stepsTo_1 := dk_seg dksX9_stepsTo_0 22 rfl rfl
theorem dX9_stepsTo_0 : decode cX9_stepsTo 0 = .ok (.aload_n 0, 1) := dk_42 (dk_at dksX9_stepsTo_0 0 rfl rfl)
theorem dX9_stepsTo_1 : decode cX9_stepsTo 1 = .ok (.aload_n 0, 1) := dk_42 (dk_at dksX9_stepsTo_0 1 rfl rfl)
theorem dX9_stepsTo_2 : decode cX9_stepsTo 2 = .ok (.iload_n 1, 1) := dk_27 (dk_at dksX9_stepsTo_0 2 rfl rfl)
theorem dX9_stepsTo_3 : decode cX9_stepsTo 3 = .ok (.invokevirtual 379, 3) := dk_182 1 123 (dk_at dksX9_stepsTo_0 3 rfl rfl)
theorem dX9_stepsTo_6 : decode cX9_stepsTo 6 = .ok (.ifCond .eq 11, 3) := dk_153 0 11 (dk_at dksX9_stepsTo_0 6 rfl rfl)
theorem dX9_stepsTo_9 : decode cX9_stepsTo 9 = .ok (.aload_n 0, 1) := dk_42 (dk_at dksX9_stepsTo_0 9 rfl rfl)
theorem dX9_stepsTo_10 : decode cX9_stepsTo 10 = .ok (.iload_n 2, 1) := dk_28 (dk_at dksX9_stepsTo_0 10 rfl rfl)
theorem dX9_stepsTo_11 : decode cX9_stepsTo 11 = .ok (.invokevirtual 370, 3) := dk_182 1 114 (dk_at dksX9_stepsTo_0 11 rfl rfl)
theorem dX9_stepsTo_14 : decode cX9_stepsTo 14 = .ok (.ifCond .ne 7, 3) := dk_154 0 7 (dk_at dksX9_stepsTo_0 14 rfl rfl)
theorem dX9_stepsTo_17 : decode cX9_stepsTo 17 = .ok (.iconst 1, 1) := dk_4 (dk_at dksX9_stepsTo_0 17 rfl rfl)
theorem dX9_stepsTo_18 : decode cX9_stepsTo 18 = .ok (.goto 4, 3) := dk_167 0 4 (dk_at dksX9_stepsTo_0 18 rfl rfl)
theorem dX9_stepsTo_21 : decode cX9_stepsTo 21 = .ok (.iconst 0, 1) := dk_3 (dk_at dksX9_stepsTo_0 21 rfl rfl)
theorem dX9_stepsTo_22 : decode cX9_stepsTo 22 = .ok (.invokevirtual 355, 3) := dk_182 1 99 (dk_at dksX9_stepsTo_1 0 rfl rfl)
theorem dX9_stepsTo_25 : decode cX9_stepsTo 25 = .ok (.ifCond .eq 5, 3) := dk_153 0 5 (dk_at dksX9_stepsTo_1 3 rfl rfl)
theorem dX9_stepsTo_28 : decode cX9_stepsTo 28 = .ok (.iconst 0, 1) := dk_3 (dk_at dksX9_stepsTo_1 6 rfl rfl)
theorem dX9_stepsTo_29 : decode cX9_stepsTo 29 = .ok (.ireturn, 1) := dk_172 (dk_at dksX9_stepsTo_1 7 rfl rfl)
theorem dX9_stepsTo_30 : decode cX9_stepsTo 30 = .ok (.aload_n 0, 1) := dk_42 (dk_at dksX9_stepsTo_1 8 rfl rfl)
theorem dX9_stepsTo_31 : decode cX9_stepsTo 31 = .ok (.iload_n 1, 1) := dk_27 (dk_at dksX9_stepsTo_1 9 rfl rfl)
theorem dX9_stepsTo_32 : decode cX9_stepsTo 32 = .ok (.invokevirtual 401, 3) := dk_182 1 145 (dk_at dksX9_stepsTo_1 10 rfl rfl)
theorem dX9_stepsTo_35 : decode cX9_stepsTo 35 = .ok (.aload_n 0, 1) := dk_42 (dk_at dksX9_stepsTo_1 13 rfl rfl)
theorem dX9_stepsTo_36 : decode cX9_stepsTo 36 = .ok (.getfield 31, 3) := dk_180 0 31 (dk_at dksX9_stepsTo_1 14 rfl rfl)
theorem dX9_stepsTo_39 : decode cX9_stepsTo 39 = .ok (.iload_n 2, 1) := dk_28 (dk_at dksX9_stepsTo_1 17 rfl rfl)
theorem dX9_stepsTo_40 : decode cX9_stepsTo 40 = .ok (.iaload, 1) := dk_46 (dk_at dksX9_stepsTo_1 18 rfl rfl)
theorem dX9_stepsTo_41 : decode cX9_stepsTo 41 = .ok (.ireturn, 1) := dk_172 (dk_at dksX9_stepsTo_1 19 rfl rfl)
abbrev cX9_openGutters : ByteArray := prog_11_method_130_code
def yX9_openGutters : MethodName := ⟨RX9, "openGutters", "(I)I"⟩
def dkwX9_openGutters_2 : List UInt8 := [120, 167, 0, 4, 3, 128, 61, 132, 3, 1, 167, 255, 224, 28, 172]
abbrev dktX9_openGutters_2 : List UInt8 := dkwX9_openGutters_2 ++ []
def dkwX9_openGutters_1 : List UInt8 := [3, 62, 29, 42, 180, 0, 7, 4, 46, 162, 0, 28, 28, 42, 27, 29, 182, 0, 219, 154, 0, 9, 4, 29]
abbrev dktX9_openGutters_1 : List UInt8 := dkwX9_openGutters_1 ++ dktX9_openGutters_2
def dkwX9_openGutters_0 : List UInt8 := [42, 42, 27, 182, 1, 123, 154, 0, 7, 4, 167, 0, 4, 3, 182, 1, 99, 153, 0, 5, 3, 172, 3, 61]
abbrev dktX9_openGutters_0 : List UInt8 := dkwX9_openGutters_0 ++ dktX9_openGutters_1
theorem dksX9_openGutters_0 : cX9_openGutters.data.toList.drop 0 = dktX9_openGutters_0 := by decide +kernel
theorem dksX9_openGutters_1 : cX9_openGutters.data.toList.drop 24 = dktX9_openGutters_1 := dk_seg dksX9_openGutters_0 24 rfl rfl
theorem dksX9_openGutters_2 : cX9_openGutters.data.toList.drop 48 = dktX9_openGutters_2 := dk_seg dksX9_openGutters_1 24 rfl rfl
theorem dX9_openGutters_0 : decode cX9_openGutters 0 = .ok (.aload_n 0, 1) := dk_42 (dk_at dksX9_openGutters_0 0 rfl rfl)
theorem dX9_openGutters_1 : decode cX9_openGutters 1 = .ok (.aload_n 0, 1) := dk_42 (dk_at dksX9_openGutters_0 1 rfl rfl)
theorem dX9_openGutters_2 : decode cX9_openGutters 2 = .ok (.iload_n 1, 1) := dk_27 (dk_at dksX9_openGutters_0 2 rfl rfl)
theorem dX9_openGutters_3 : decode cX9_openGutters 3 = .ok (.invokevirtual 379, 3) := dk_182 1 123 (dk_at dksX9_openGutters_0 3 rfl rfl)
theorem dX9_openGutters_6 : decode cX9_openGutters 6 = .ok (.ifCond .ne 7, 3) := dk_154 0 7 (dk_at dksX9_openGutters_0 6 rfl rfl)
theorem dX9_openGutters_9 : decode cX9_openGutters 9 = .ok (.iconst 1, 1) := dk_4 (dk_at dksX9_openGutters_0 9 rfl rfl)
theorem dX9_openGutters_10 : decode cX9_openGutters 10 = .ok (.goto 4, 3) := dk_167 0 4 (dk_at dksX9_openGutters_0 10 rfl rfl)
theorem dX9_openGutters_13 : decode cX9_openGutters 13 = .ok (.iconst 0, 1) := dk_3 (dk_at dksX9_openGutters_0 13 rfl rfl)
theorem dX9_openGutters_14 : decode cX9_openGutters 14 = .ok (.invokevirtual 355, 3) := dk_182 1 99 (dk_at dksX9_openGutters_0 14 rfl rfl)
theorem dX9_openGutters_17 : decode cX9_openGutters 17 = .ok (.ifCond .eq 5, 3) := dk_153 0 5 (dk_at dksX9_openGutters_0 17 rfl rfl)
theorem dX9_openGutters_20 : decode cX9_openGutters 20 = .ok (.iconst 0, 1) := dk_3 (dk_at dksX9_openGutters_0 20 rfl rfl)
theorem dX9_openGutters_21 : decode cX9_openGutters 21 = .ok (.ireturn, 1) := dk_172 (dk_at dksX9_openGutters_0 21 rfl rfl)
theorem dX9_openGutters_22 : decode cX9_openGutters 22 = .ok (.iconst 0, 1) := dk_3 (dk_at dksX9_openGutters_0 22 rfl rfl)
theorem dX9_openGutters_23 : decode cX9_openGutters 23 = .ok (.istore_n 2, 1) := dk_61 (dk_at dksX9_openGutters_0 23 rfl rfl)
theorem dX9_openGutters_24 : decode cX9_openGutters 24 = .ok (.iconst 0, 1) := dk_3 (dk_at dksX9_openGutters_1 0 rfl rfl)
theorem dX9_openGutters_25 : decode cX9_openGutters 25 = .ok (.istore_n 3, 1) := dk_62 (dk_at dksX9_openGutters_1 1 rfl rfl)
theorem dX9_openGutters_26 : decode cX9_openGutters 26 = .ok (.iload_n 3, 1) := dk_29 (dk_at dksX9_openGutters_1 2 rfl rfl)
theorem dX9_openGutters_27 : decode cX9_openGutters 27 = .ok (.aload_n 0, 1) := dk_42 (dk_at dksX9_openGutters_1 3 rfl rfl)
theorem dX9_openGutters_28 : decode cX9_openGutters 28 = .ok (.getfield 7, 3) := dk_180 0 7 (dk_at dksX9_openGutters_1 4 rfl rfl)
theorem dX9_openGutters_31 : decode cX9_openGutters 31 = .ok (.iconst 1, 1) := dk_4 (dk_at dksX9_openGutters_1 7 rfl rfl)
theorem dX9_openGutters_32 : decode cX9_openGutters 32 = .ok (.iaload, 1) := dk_46 (dk_at dksX9_openGutters_1 8 rfl rfl)
theorem dX9_openGutters_33 : decode cX9_openGutters 33 = .ok (.if_icmp .ge 28, 3) := dk_162 0 28 (dk_at dksX9_openGutters_1 9 rfl rfl)
theorem dX9_openGutters_36 : decode cX9_openGutters 36 = .ok (.iload_n 2, 1) := dk_28 (dk_at dksX9_openGutters_1 12 rfl rfl)
theorem dX9_openGutters_37 : decode cX9_openGutters 37 = .ok (.aload_n 0, 1) := dk_42 (dk_at dksX9_openGutters_1 13 rfl rfl)
theorem dX9_openGutters_38 : decode cX9_openGutters 38 = .ok (.iload_n 1, 1) := dk_27 (dk_at dksX9_openGutters_1 14 rfl rfl)
theorem dX9_openGutters_39 : decode cX9_openGutters 39 = .ok (.iload_n 3, 1) := dk_29 (dk_at dksX9_openGutters_1 15 rfl rfl)
theorem dX9_openGutters_40 : decode cX9_openGutters 40 = .ok (.invokevirtual 219, 3) := dk_182 0 219 (dk_at dksX9_openGutters_1 16 rfl rfl)
theorem dX9_openGutters_43 : decode cX9_openGutters 43 = .ok (.ifCond .ne 9, 3) := dk_154 0 9 (dk_at dksX9_openGutters_1 19 rfl rfl)
theorem dX9_openGutters_46 : decode cX9_openGutters 46 = .ok (.iconst 1, 1) := dk_4 (dk_at dksX9_openGutters_1 22 rfl rfl)
theorem dX9_openGutters_47 : decode cX9_openGutters 47 = .ok (.iload_n 3, 1) := dk_29 (dk_at dksX9_openGutters_1 23 rfl rfl)
theorem dX9_openGutters_48 : decode cX9_openGutters 48 = .ok (.ishl, 1) := dk_120 (dk_at dksX9_openGutters_2 0 rfl rfl)
theorem dX9_openGutters_49 : decode cX9_openGutters 49 = .ok (.goto 4, 3) := dk_167 0 4 (dk_at dksX9_openGutters_2 1 rfl rfl)
theorem dX9_openGutters_52 : decode cX9_openGutters 52 = .ok (.iconst 0, 1) := dk_3 (dk_at dksX9_openGutters_2 4 rfl rfl)
theorem dX9_openGutters_53 : decode cX9_openGutters 53 = .ok (.ior, 1) := dk_128 (dk_at dksX9_openGutters_2 5 rfl rfl)
theorem dX9_openGutters_54 : decode cX9_openGutters 54 = .ok (.istore_n 2, 1) := dk_61 (dk_at dksX9_openGutters_2 6 rfl rfl)
theorem dX9_openGutters_55 : decode cX9_openGutters 55 = .ok (.iinc 3 1, 3) := dk_132 3 1 (dk_at dksX9_openGutters_2 7 rfl rfl)
theorem dX9_openGutters_58 : decode cX9_openGutters 58 = .ok (.goto (-32), 3) := dk_167 255 224 (dk_at dksX9_openGutters_2 10 rfl rfl)
theorem dX9_openGutters_61 : decode cX9_openGutters 61 = .ok (.iload_n 2, 1) := dk_28 (dk_at dksX9_openGutters_2 13 rfl rfl)
theorem dX9_openGutters_62 : decode cX9_openGutters 62 = .ok (.ireturn, 1) := dk_172 (dk_at dksX9_openGutters_2 14 rfl rfl)
abbrev cX9_whyNoStep : ByteArray := prog_11_method_131_code
def yX9_whyNoStep : MethodName := ⟨RX9, "whyNoStep", "(II)I"⟩
def dkwX9_whyNoStep_1 : List UInt8 := [182, 1, 99, 153, 0, 7, 3, 167, 0, 9, 42, 27, 28, 182, 0, 219, 172]
abbrev dktX9_whyNoStep_1 : List UInt8 := dkwX9_whyNoStep_1 ++ []
def dkwX9_whyNoStep_0 : List UInt8 := [42, 42, 27, 182, 1, 123, 153, 0, 11, 42, 28, 182, 1, 126, 154, 0, 7, 4, 167, 0, 4, 3]
abbrev dktX9_whyNoStep_0 : List UInt8 := dkwX9_whyNoStep_0 ++ dktX9_whyNoStep_1
theorem dksX9_whyNoStep_0 : cX9_whyNoStep.data.toList.drop 0 = dktX9_whyNoStep_0 := by decide +kernel
theorem dksX9_whyNoStep_1 : cX9_whyNoStep.data.toList.drop 22 = dktX9_whyNoStep_1 := dk_seg dksX9_whyNoStep_0 22 rfl rfl
theorem dX9_whyNoStep_0 : decode cX9_whyNoStep 0 = .ok (.aload_n 0, 1) := dk_42 (dk_at dksX9_whyNoStep_0 0 rfl rfl)
theorem dX9_whyNoStep_1 : decode cX9_whyNoStep 1 = .ok (.aload_n 0, 1) := dk_42 (dk_at dksX9_whyNoStep_0 1 rfl rfl)
theorem dX9_whyNoStep_2 : decode cX9_whyNoStep 2 = .ok (.iload_n 1, 1) := dk_27 (dk_at dksX9_whyNoStep_0 2 rfl rfl)
theorem dX9_whyNoStep_3 : decode cX9_whyNoStep 3 = .ok (.invokevirtual 379, 3) := dk_182 1 123 (dk_at dksX9_whyNoStep_0 3 rfl rfl)
theorem dX9_whyNoStep_6 : decode cX9_whyNoStep 6 = .ok (.ifCond .eq 11, 3) := dk_153 0 11 (dk_at dksX9_whyNoStep_0 6 rfl rfl)
theorem dX9_whyNoStep_9 : decode cX9_whyNoStep 9 = .ok (.aload_n 0, 1) := dk_42 (dk_at dksX9_whyNoStep_0 9 rfl rfl)
theorem dX9_whyNoStep_10 : decode cX9_whyNoStep 10 = .ok (.iload_n 2, 1) := dk_28 (dk_at dksX9_whyNoStep_0 10 rfl rfl)
theorem dX9_whyNoStep_11 : decode cX9_whyNoStep 11 = .ok (.invokevirtual 382, 3) := dk_182 1 126 (dk_at dksX9_whyNoStep_0 11 rfl rfl)
theorem dX9_whyNoStep_14 : decode cX9_whyNoStep 14 = .ok (.ifCond .ne 7, 3) := dk_154 0 7 (dk_at dksX9_whyNoStep_0 14 rfl rfl)
theorem dX9_whyNoStep_17 : decode cX9_whyNoStep 17 = .ok (.iconst 1, 1) := dk_4 (dk_at dksX9_whyNoStep_0 17 rfl rfl)
theorem dX9_whyNoStep_18 : decode cX9_whyNoStep 18 = .ok (.goto 4, 3) := dk_167 0 4 (dk_at dksX9_whyNoStep_0 18 rfl rfl)
theorem dX9_whyNoStep_21 : decode cX9_whyNoStep 21 = .ok (.iconst 0, 1) := dk_3 (dk_at dksX9_whyNoStep_0 21 rfl rfl)
theorem dX9_whyNoStep_22 : decode cX9_whyNoStep 22 = .ok (.invokevirtual 355, 3) := dk_182 1 99 (dk_at dksX9_whyNoStep_1 0 rfl rfl)
theorem dX9_whyNoStep_25 : decode cX9_whyNoStep 25 = .ok (.ifCond .eq 7, 3) := dk_153 0 7 (dk_at dksX9_whyNoStep_1 3 rfl rfl)
theorem dX9_whyNoStep_28 : decode cX9_whyNoStep 28 = .ok (.iconst 0, 1) := dk_3 (dk_at dksX9_whyNoStep_1 6 rfl rfl)
theorem dX9_whyNoStep_29 : decode cX9_whyNoStep 29 = .ok (.goto 9, 3) := dk_167 0 9 (dk_at dksX9_whyNoStep_1 7 rfl rfl)
theorem dX9_whyNoStep_32 : decode cX9_whyNoStep 32 = .ok (.aload_n 0, 1) := dk_42 (dk_at dksX9_whyNoStep_1 10 rfl rfl)
theorem dX9_whyNoStep_33 : decode cX9_whyNoStep 33 = .ok (.iload_n 1, 1) := dk_27 (dk_at dksX9_whyNoStep_1 11 rfl rfl)
theorem dX9_whyNoStep_34 : decode cX9_whyNoStep 34 = .ok (.iload_n 2, 1) := dk_28 (dk_at dksX9_whyNoStep_1 12 rfl rfl)
theorem dX9_whyNoStep_35 : decode cX9_whyNoStep 35 = .ok (.invokevirtual 219, 3) := dk_182 0 219 (dk_at dksX9_whyNoStep_1 13 rfl rfl)
theorem dX9_whyNoStep_38 : decode cX9_whyNoStep 38 = .ok (.ireturn, 1) := dk_172 (dk_at dksX9_whyNoStep_1 16 rfl rfl)
abbrev cX9_whyNoClaim : ByteArray := prog_11_method_132_code
def yX9_whyNoClaim : MethodName := ⟨RX9, "whyNoClaim", "(I)I"⟩
def dkwX9_whyNoClaim_1 : List UInt8 := [42, 27, 182, 0, 225, 172]
abbrev dktX9_whyNoClaim_1 : List UInt8 := dkwX9_whyNoClaim_1 ++ []
def dkwX9_whyNoClaim_0 : List UInt8 := [42, 42, 27, 182, 1, 123, 154, 0, 7, 4, 167, 0, 4, 3, 182, 1, 99, 153, 0, 7, 3, 167, 0, 8]
abbrev dktX9_whyNoClaim_0 : List UInt8 := dkwX9_whyNoClaim_0 ++ dktX9_whyNoClaim_1
theorem dksX9_whyNoClaim_0 : cX9_whyNoClaim.data.toList.drop 0 = dktX9_whyNoClaim_0 := by decide +kernel
theorem dksX9_whyNoClaim_1 : cX9_whyNoClaim.data.toList.drop 24 = dktX9_whyNoClaim_1 := dk_seg dksX9_whyNoClaim_0 24 rfl rfl
theorem dX9_whyNoClaim_0 : decode cX9_whyNoClaim 0 = .ok (.aload_n 0, 1) := dk_42 (dk_at dksX9_whyNoClaim_0 0 rfl rfl)
theorem dX9_whyNoClaim_1 : decode cX9_whyNoClaim 1 = .ok (.aload_n 0, 1) := dk_42 (dk_at dksX9_whyNoClaim_0 1 rfl rfl)
theorem dX9_whyNoClaim_2 : decode cX9_whyNoClaim 2 = .ok (.iload_n 1, 1) := dk_27 (dk_at dksX9_whyNoClaim_0 2 rfl rfl)
theorem dX9_whyNoClaim_3 : decode cX9_whyNoClaim 3 = .ok (.invokevirtual 379, 3) := dk_182 1 123 (dk_at dksX9_whyNoClaim_0 3 rfl rfl)
theorem dX9_whyNoClaim_6 : decode cX9_whyNoClaim 6 = .ok (.ifCond .ne 7, 3) := dk_154 0 7 (dk_at dksX9_whyNoClaim_0 6 rfl rfl)
theorem dX9_whyNoClaim_9 : decode cX9_whyNoClaim 9 = .ok (.iconst 1, 1) := dk_4 (dk_at dksX9_whyNoClaim_0 9 rfl rfl)
theorem dX9_whyNoClaim_10 : decode cX9_whyNoClaim 10 = .ok (.goto 4, 3) := dk_167 0 4 (dk_at dksX9_whyNoClaim_0 10 rfl rfl)
theorem dX9_whyNoClaim_13 : decode cX9_whyNoClaim 13 = .ok (.iconst 0, 1) := dk_3 (dk_at dksX9_whyNoClaim_0 13 rfl rfl)
theorem dX9_whyNoClaim_14 : decode cX9_whyNoClaim 14 = .ok (.invokevirtual 355, 3) := dk_182 1 99 (dk_at dksX9_whyNoClaim_0 14 rfl rfl)
theorem dX9_whyNoClaim_17 : decode cX9_whyNoClaim 17 = .ok (.ifCond .eq 7, 3) := dk_153 0 7 (dk_at dksX9_whyNoClaim_0 17 rfl rfl)
theorem dX9_whyNoClaim_20 : decode cX9_whyNoClaim 20 = .ok (.iconst 0, 1) := dk_3 (dk_at dksX9_whyNoClaim_0 20 rfl rfl)
theorem dX9_whyNoClaim_21 : decode cX9_whyNoClaim 21 = .ok (.goto 8, 3) := dk_167 0 8 (dk_at dksX9_whyNoClaim_0 21 rfl rfl)
theorem dX9_whyNoClaim_24 : decode cX9_whyNoClaim 24 = .ok (.aload_n 0, 1) := dk_42 (dk_at dksX9_whyNoClaim_1 0 rfl rfl)
theorem dX9_whyNoClaim_25 : decode cX9_whyNoClaim 25 = .ok (.iload_n 1, 1) := dk_27 (dk_at dksX9_whyNoClaim_1 1 rfl rfl)
theorem dX9_whyNoClaim_26 : decode cX9_whyNoClaim 26 = .ok (.invokevirtual 225, 3) := dk_182 0 225 (dk_at dksX9_whyNoClaim_1 2 rfl rfl)
theorem dX9_whyNoClaim_29 : decode cX9_whyNoClaim 29 = .ok (.ireturn, 1) := dk_172 (dk_at dksX9_whyNoClaim_1 5 rfl rfl)
abbrev cX9_whyNoChase : ByteArray := prog_11_method_133_code
def yX9_whyNoChase : MethodName := ⟨RX9, "whyNoChase", "(II)I"⟩
def dkwX9_whyNoChase_1 : List UInt8 := [3, 182, 1, 111, 153, 0, 7, 3, 167, 0, 9, 42, 27, 28, 182, 0, 234, 172]
abbrev dktX9_whyNoChase_1 : List UInt8 := dkwX9_whyNoChase_1 ++ []
def dkwX9_whyNoChase_0 : List UInt8 := [42, 42, 27, 28, 182, 1, 129, 154, 0, 7, 4, 167, 0, 4, 3, 27, 28, 160, 0, 7, 4, 167, 0, 4]
abbrev dktX9_whyNoChase_0 : List UInt8 := dkwX9_whyNoChase_0 ++ dktX9_whyNoChase_1
theorem dksX9_whyNoChase_0 : cX9_whyNoChase.data.toList.drop 0 = dktX9_whyNoChase_0 := by decide +kernel
theorem dksX9_whyNoChase_1 : cX9_whyNoChase.data.toList.drop 24 = dktX9_whyNoChase_1 := dk_seg dksX9_whyNoChase_0 24 rfl rfl
theorem dX9_whyNoChase_0 : decode cX9_whyNoChase 0 = .ok (.aload_n 0, 1) := dk_42 (dk_at dksX9_whyNoChase_0 0 rfl rfl)
theorem dX9_whyNoChase_1 : decode cX9_whyNoChase 1 = .ok (.aload_n 0, 1) := dk_42 (dk_at dksX9_whyNoChase_0 1 rfl rfl)
theorem dX9_whyNoChase_2 : decode cX9_whyNoChase 2 = .ok (.iload_n 1, 1) := dk_27 (dk_at dksX9_whyNoChase_0 2 rfl rfl)
theorem dX9_whyNoChase_3 : decode cX9_whyNoChase 3 = .ok (.iload_n 2, 1) := dk_28 (dk_at dksX9_whyNoChase_0 3 rfl rfl)
theorem dX9_whyNoChase_4 : decode cX9_whyNoChase 4 = .ok (.invokevirtual 385, 3) := dk_182 1 129 (dk_at dksX9_whyNoChase_0 4 rfl rfl)
theorem dX9_whyNoChase_7 : decode cX9_whyNoChase 7 = .ok (.ifCond .ne 7, 3) := dk_154 0 7 (dk_at dksX9_whyNoChase_0 7 rfl rfl)
theorem dX9_whyNoChase_10 : decode cX9_whyNoChase 10 = .ok (.iconst 1, 1) := dk_4 (dk_at dksX9_whyNoChase_0 10 rfl rfl)
theorem dX9_whyNoChase_11 : decode cX9_whyNoChase 11 = .ok (.goto 4, 3) := dk_167 0 4 (dk_at dksX9_whyNoChase_0 11 rfl rfl)
theorem dX9_whyNoChase_14 : decode cX9_whyNoChase 14 = .ok (.iconst 0, 1) := dk_3 (dk_at dksX9_whyNoChase_0 14 rfl rfl)
theorem dX9_whyNoChase_15 : decode cX9_whyNoChase 15 = .ok (.iload_n 1, 1) := dk_27 (dk_at dksX9_whyNoChase_0 15 rfl rfl)
theorem dX9_whyNoChase_16 : decode cX9_whyNoChase 16 = .ok (.iload_n 2, 1) := dk_28 (dk_at dksX9_whyNoChase_0 16 rfl rfl)
theorem dX9_whyNoChase_17 : decode cX9_whyNoChase 17 = .ok (.if_icmp .ne 7, 3) := dk_160 0 7 (dk_at dksX9_whyNoChase_0 17 rfl rfl)
theorem dX9_whyNoChase_20 : decode cX9_whyNoChase 20 = .ok (.iconst 1, 1) := dk_4 (dk_at dksX9_whyNoChase_0 20 rfl rfl)
theorem dX9_whyNoChase_21 : decode cX9_whyNoChase 21 = .ok (.goto 4, 3) := dk_167 0 4 (dk_at dksX9_whyNoChase_0 21 rfl rfl)
theorem dX9_whyNoChase_24 : decode cX9_whyNoChase 24 = .ok (.iconst 0, 1) := dk_3 (dk_at dksX9_whyNoChase_1 0 rfl rfl)
theorem dX9_whyNoChase_25 : decode cX9_whyNoChase 25 = .ok (.invokevirtual 367, 3) := dk_182 1 111 (dk_at dksX9_whyNoChase_1 1 rfl rfl)
theorem dX9_whyNoChase_28 : decode cX9_whyNoChase 28 = .ok (.ifCond .eq 7, 3) := dk_153 0 7 (dk_at dksX9_whyNoChase_1 4 rfl rfl)
theorem dX9_whyNoChase_31 : decode cX9_whyNoChase 31 = .ok (.iconst 0, 1) := dk_3 (dk_at dksX9_whyNoChase_1 7 rfl rfl)
theorem dX9_whyNoChase_32 : decode cX9_whyNoChase 32 = .ok (.goto 9, 3) := dk_167 0 9 (dk_at dksX9_whyNoChase_1 8 rfl rfl)
theorem dX9_whyNoChase_35 : decode cX9_whyNoChase 35 = .ok (.aload_n 0, 1) := dk_42 (dk_at dksX9_whyNoChase_1 11 rfl rfl)
theorem dX9_whyNoChase_36 : decode cX9_whyNoChase 36 = .ok (.iload_n 1, 1) := dk_27 (dk_at dksX9_whyNoChase_1 12 rfl rfl)
theorem dX9_whyNoChase_37 : decode cX9_whyNoChase 37 = .ok (.iload_n 2, 1) := dk_28 (dk_at dksX9_whyNoChase_1 13 rfl rfl)
theorem dX9_whyNoChase_38 : decode cX9_whyNoChase 38 = .ok (.invokevirtual 234, 3) := dk_182 0 234 (dk_at dksX9_whyNoChase_1 14 rfl rfl)
theorem dX9_whyNoChase_41 : decode cX9_whyNoChase 41 = .ok (.ireturn, 1) := dk_172 (dk_at dksX9_whyNoChase_1 17 rfl rfl)
abbrev cX9_preyOf : ByteArray := prog_11_method_134_code
def yX9_preyOf : MethodName := ⟨RX9, "preyOf", "(I)I"⟩
def dkwX9_preyOf_2 : List UInt8 := [154, 0, 9, 4, 29, 120, 167, 0, 4, 3, 128, 61, 132, 3, 1, 167, 255, 219, 28, 172]
abbrev dktX9_preyOf_2 : List UInt8 := dkwX9_preyOf_2 ++ []
def dkwX9_preyOf_1 : List UInt8 := [3, 62, 29, 42, 180, 0, 7, 5, 46, 162, 0, 33, 28, 29, 27, 159, 0, 18, 42, 27, 29, 182, 0, 234]
abbrev dktX9_preyOf_1 : List UInt8 := dkwX9_preyOf_1 ++ dktX9_preyOf_2
def dkwX9_preyOf_0 : List UInt8 := [42, 42, 27, 182, 1, 123, 154, 0, 7, 4, 167, 0, 4, 3, 182, 1, 99, 153, 0, 5, 3, 172, 3, 61]
abbrev dktX9_preyOf_0 : List UInt8 := dkwX9_preyOf_0 ++ dktX9_preyOf_1
theorem dksX9_preyOf_0 : cX9_preyOf.data.toList.drop 0 = dktX9_preyOf_0 := by decide +kernel
theorem dksX9_preyOf_1 : cX9_preyOf.data.toList.drop 24 = dktX9_preyOf_1 := dk_seg dksX9_preyOf_0 24 rfl rfl
theorem dksX9_preyOf_2 : cX9_preyOf.data.toList.drop 48 = dktX9_preyOf_2 := dk_seg dksX9_preyOf_1 24 rfl rfl
theorem dX9_preyOf_0 : decode cX9_preyOf 0 = .ok (.aload_n 0, 1) := dk_42 (dk_at dksX9_preyOf_0 0 rfl rfl)
theorem dX9_preyOf_1 : decode cX9_preyOf 1 = .ok (.aload_n 0, 1) := dk_42 (dk_at dksX9_preyOf_0 1 rfl rfl)
theorem dX9_preyOf_2 : decode cX9_preyOf 2 = .ok (.iload_n 1, 1) := dk_27 (dk_at dksX9_preyOf_0 2 rfl rfl)
theorem dX9_preyOf_3 : decode cX9_preyOf 3 = .ok (.invokevirtual 379, 3) := dk_182 1 123 (dk_at dksX9_preyOf_0 3 rfl rfl)
theorem dX9_preyOf_6 : decode cX9_preyOf 6 = .ok (.ifCond .ne 7, 3) := dk_154 0 7 (dk_at dksX9_preyOf_0 6 rfl rfl)
theorem dX9_preyOf_9 : decode cX9_preyOf 9 = .ok (.iconst 1, 1) := dk_4 (dk_at dksX9_preyOf_0 9 rfl rfl)
theorem dX9_preyOf_10 : decode cX9_preyOf 10 = .ok (.goto 4, 3) := dk_167 0 4 (dk_at dksX9_preyOf_0 10 rfl rfl)
theorem dX9_preyOf_13 : decode cX9_preyOf 13 = .ok (.iconst 0, 1) := dk_3 (dk_at dksX9_preyOf_0 13 rfl rfl)
theorem dX9_preyOf_14 : decode cX9_preyOf 14 = .ok (.invokevirtual 355, 3) := dk_182 1 99 (dk_at dksX9_preyOf_0 14 rfl rfl)
theorem dX9_preyOf_17 : decode cX9_preyOf 17 = .ok (.ifCond .eq 5, 3) := dk_153 0 5 (dk_at dksX9_preyOf_0 17 rfl rfl)
theorem dX9_preyOf_20 : decode cX9_preyOf 20 = .ok (.iconst 0, 1) := dk_3 (dk_at dksX9_preyOf_0 20 rfl rfl)
theorem dX9_preyOf_21 : decode cX9_preyOf 21 = .ok (.ireturn, 1) := dk_172 (dk_at dksX9_preyOf_0 21 rfl rfl)
theorem dX9_preyOf_22 : decode cX9_preyOf 22 = .ok (.iconst 0, 1) := dk_3 (dk_at dksX9_preyOf_0 22 rfl rfl)
theorem dX9_preyOf_23 : decode cX9_preyOf 23 = .ok (.istore_n 2, 1) := dk_61 (dk_at dksX9_preyOf_0 23 rfl rfl)
theorem dX9_preyOf_24 : decode cX9_preyOf 24 = .ok (.iconst 0, 1) := dk_3 (dk_at dksX9_preyOf_1 0 rfl rfl)
theorem dX9_preyOf_25 : decode cX9_preyOf 25 = .ok (.istore_n 3, 1) := dk_62 (dk_at dksX9_preyOf_1 1 rfl rfl)
theorem dX9_preyOf_26 : decode cX9_preyOf 26 = .ok (.iload_n 3, 1) := dk_29 (dk_at dksX9_preyOf_1 2 rfl rfl)
theorem dX9_preyOf_27 : decode cX9_preyOf 27 = .ok (.aload_n 0, 1) := dk_42 (dk_at dksX9_preyOf_1 3 rfl rfl)
theorem dX9_preyOf_28 : decode cX9_preyOf 28 = .ok (.getfield 7, 3) := dk_180 0 7 (dk_at dksX9_preyOf_1 4 rfl rfl)
theorem dX9_preyOf_31 : decode cX9_preyOf 31 = .ok (.iconst 2, 1) := dk_5 (dk_at dksX9_preyOf_1 7 rfl rfl)
theorem dX9_preyOf_32 : decode cX9_preyOf 32 = .ok (.iaload, 1) := dk_46 (dk_at dksX9_preyOf_1 8 rfl rfl)
theorem dX9_preyOf_33 : decode cX9_preyOf 33 = .ok (.if_icmp .ge 33, 3) := dk_162 0 33 (dk_at dksX9_preyOf_1 9 rfl rfl)
theorem dX9_preyOf_36 : decode cX9_preyOf 36 = .ok (.iload_n 2, 1) := dk_28 (dk_at dksX9_preyOf_1 12 rfl rfl)
theorem dX9_preyOf_37 : decode cX9_preyOf 37 = .ok (.iload_n 3, 1) := dk_29 (dk_at dksX9_preyOf_1 13 rfl rfl)
theorem dX9_preyOf_38 : decode cX9_preyOf 38 = .ok (.iload_n 1, 1) := dk_27 (dk_at dksX9_preyOf_1 14 rfl rfl)
theorem dX9_preyOf_39 : decode cX9_preyOf 39 = .ok (.if_icmp .eq 18, 3) := dk_159 0 18 (dk_at dksX9_preyOf_1 15 rfl rfl)
theorem dX9_preyOf_42 : decode cX9_preyOf 42 = .ok (.aload_n 0, 1) := dk_42 (dk_at dksX9_preyOf_1 18 rfl rfl)
theorem dX9_preyOf_43 : decode cX9_preyOf 43 = .ok (.iload_n 1, 1) := dk_27 (dk_at dksX9_preyOf_1 19 rfl rfl)
theorem dX9_preyOf_44 : decode cX9_preyOf 44 = .ok (.iload_n 3, 1) := dk_29 (dk_at dksX9_preyOf_1 20 rfl rfl)
theorem dX9_preyOf_45 : decode cX9_preyOf 45 = .ok (.invokevirtual 234, 3) := dk_182 0 234 (dk_at dksX9_preyOf_1 21 rfl rfl)
theorem dX9_preyOf_48 : decode cX9_preyOf 48 = .ok (.ifCond .ne 9, 3) := dk_154 0 9 (dk_at dksX9_preyOf_2 0 rfl rfl)
theorem dX9_preyOf_51 : decode cX9_preyOf 51 = .ok (.iconst 1, 1) := dk_4 (dk_at dksX9_preyOf_2 3 rfl rfl)
theorem dX9_preyOf_52 : decode cX9_preyOf 52 = .ok (.iload_n 3, 1) := dk_29 (dk_at dksX9_preyOf_2 4 rfl rfl)
theorem dX9_preyOf_53 : decode cX9_preyOf 53 = .ok (.ishl, 1) := dk_120 (dk_at dksX9_preyOf_2 5 rfl rfl)
theorem dX9_preyOf_54 : decode cX9_preyOf 54 = .ok (.goto 4, 3) := dk_167 0 4 (dk_at dksX9_preyOf_2 6 rfl rfl)
theorem dX9_preyOf_57 : decode cX9_preyOf 57 = .ok (.iconst 0, 1) := dk_3 (dk_at dksX9_preyOf_2 9 rfl rfl)
theorem dX9_preyOf_58 : decode cX9_preyOf 58 = .ok (.ior, 1) := dk_128 (dk_at dksX9_preyOf_2 10 rfl rfl)
theorem dX9_preyOf_59 : decode cX9_preyOf 59 = .ok (.istore_n 2, 1) := dk_61 (dk_at dksX9_preyOf_2 11 rfl rfl)
theorem dX9_preyOf_60 : decode cX9_preyOf 60 = .ok (.iinc 3 1, 3) := dk_132 3 1 (dk_at dksX9_preyOf_2 12 rfl rfl)
theorem dX9_preyOf_63 : decode cX9_preyOf 63 = .ok (.goto (-37), 3) := dk_167 255 219 (dk_at dksX9_preyOf_2 15 rfl rfl)
theorem dX9_preyOf_66 : decode cX9_preyOf 66 = .ok (.iload_n 2, 1) := dk_28 (dk_at dksX9_preyOf_2 18 rfl rfl)
theorem dX9_preyOf_67 : decode cX9_preyOf 67 = .ok (.ireturn, 1) := dk_172 (dk_at dksX9_preyOf_2 19 rfl rfl)
abbrev cX9_isKittenWaiting : ByteArray := prog_11_method_135_code
def yX9_isKittenWaiting : MethodName := ⟨RX9, "isKittenWaiting", "()Z"⟩
def dkwX9_isKittenWaiting_0 : List UInt8 := [42, 3, 181, 0, 57, 42, 182, 0, 121, 172]
abbrev dktX9_isKittenWaiting_0 : List UInt8 := dkwX9_isKittenWaiting_0 ++ []
theorem dksX9_isKittenWaiting_0 : cX9_isKittenWaiting.data.toList.drop 0 = dktX9_isKittenWaiting_0 := by decide +kernel
theorem dX9_isKittenWaiting_0 : decode cX9_isKittenWaiting 0 = .ok (.aload_n 0, 1) := dk_42 (dk_at dksX9_isKittenWaiting_0 0 rfl rfl)
theorem dX9_isKittenWaiting_1 : decode cX9_isKittenWaiting 1 = .ok (.iconst 0, 1) := dk_3 (dk_at dksX9_isKittenWaiting_0 1 rfl rfl)
theorem dX9_isKittenWaiting_2 : decode cX9_isKittenWaiting 2 = .ok (.putfield 57, 3) := dk_181 0 57 (dk_at dksX9_isKittenWaiting_0 2 rfl rfl)
theorem dX9_isKittenWaiting_5 : decode cX9_isKittenWaiting 5 = .ok (.aload_n 0, 1) := dk_42 (dk_at dksX9_isKittenWaiting_0 5 rfl rfl)
theorem dX9_isKittenWaiting_6 : decode cX9_isKittenWaiting 6 = .ok (.invokevirtual 121, 3) := dk_182 0 121 (dk_at dksX9_isKittenWaiting_0 6 rfl rfl)
theorem dX9_isKittenWaiting_9 : decode cX9_isKittenWaiting 9 = .ok (.ireturn, 1) := dk_172 (dk_at dksX9_isKittenWaiting_0 9 rfl rfl)
abbrev cX9_votesFor : ByteArray := prog_11_method_136_code
def yX9_votesFor : MethodName := ⟨RX9, "votesFor", "()I"⟩
def dkwX9_votesFor_0 : List UInt8 := [42, 3, 181, 0, 57, 42, 180, 0, 7, 16, 7, 46, 184, 0, 115, 172]
abbrev dktX9_votesFor_0 : List UInt8 := dkwX9_votesFor_0 ++ []
theorem dksX9_votesFor_0 : cX9_votesFor.data.toList.drop 0 = dktX9_votesFor_0 := by decide +kernel
theorem dX9_votesFor_0 : decode cX9_votesFor 0 = .ok (.aload_n 0, 1) := dk_42 (dk_at dksX9_votesFor_0 0 rfl rfl)
theorem dX9_votesFor_1 : decode cX9_votesFor 1 = .ok (.iconst 0, 1) := dk_3 (dk_at dksX9_votesFor_0 1 rfl rfl)
theorem dX9_votesFor_2 : decode cX9_votesFor 2 = .ok (.putfield 57, 3) := dk_181 0 57 (dk_at dksX9_votesFor_0 2 rfl rfl)
theorem dX9_votesFor_5 : decode cX9_votesFor 5 = .ok (.aload_n 0, 1) := dk_42 (dk_at dksX9_votesFor_0 5 rfl rfl)
theorem dX9_votesFor_6 : decode cX9_votesFor 6 = .ok (.getfield 7, 3) := dk_180 0 7 (dk_at dksX9_votesFor_0 6 rfl rfl)
theorem dX9_votesFor_9 : decode cX9_votesFor 9 = .ok (.bipush 7, 2) := dk_16 7 (dk_at dksX9_votesFor_0 9 rfl rfl)
theorem dX9_votesFor_11 : decode cX9_votesFor 11 = .ok (.iaload, 1) := dk_46 (dk_at dksX9_votesFor_0 11 rfl rfl)
theorem dX9_votesFor_12 : decode cX9_votesFor 12 = .ok (.invokestatic 115, 3) := dk_184 0 115 (dk_at dksX9_votesFor_0 12 rfl rfl)
theorem dX9_votesFor_15 : decode cX9_votesFor 15 = .ok (.ireturn, 1) := dk_172 (dk_at dksX9_votesFor_0 15 rfl rfl)
abbrev cX9_votesAgainst : ByteArray := prog_11_method_137_code
def yX9_votesAgainst : MethodName := ⟨RX9, "votesAgainst", "()I"⟩
def dkwX9_votesAgainst_1 : List UInt8 := [184, 0, 115, 100, 172]
abbrev dktX9_votesAgainst_1 : List UInt8 := dkwX9_votesAgainst_1 ++ []
def dkwX9_votesAgainst_0 : List UInt8 := [42, 3, 181, 0, 57, 42, 180, 0, 7, 16, 6, 46, 184, 0, 115, 42, 180, 0, 7, 16, 7, 46]
abbrev dktX9_votesAgainst_0 : List UInt8 := dkwX9_votesAgainst_0 ++ dktX9_votesAgainst_1
theorem dksX9_votesAgainst_0 : cX9_votesAgainst.data.toList.drop 0 = dktX9_votesAgainst_0 := by decide +kernel
theorem dksX9_votesAgainst_1 : cX9_votesAgainst.data.toList.drop 22 = dktX9_votesAgainst_1 := dk_seg dksX9_votesAgainst_0 22 rfl rfl
theorem dX9_votesAgainst_0 : decode cX9_votesAgainst 0 = .ok (.aload_n 0, 1) := dk_42 (dk_at dksX9_votesAgainst_0 0 rfl rfl)
theorem dX9_votesAgainst_1 : decode cX9_votesAgainst 1 = .ok (.iconst 0, 1) := dk_3 (dk_at dksX9_votesAgainst_0 1 rfl rfl)
theorem dX9_votesAgainst_2 : decode cX9_votesAgainst 2 = .ok (.putfield 57, 3) := dk_181 0 57 (dk_at dksX9_votesAgainst_0 2 rfl rfl)
theorem dX9_votesAgainst_5 : decode cX9_votesAgainst 5 = .ok (.aload_n 0, 1) := dk_42 (dk_at dksX9_votesAgainst_0 5 rfl rfl)
theorem dX9_votesAgainst_6 : decode cX9_votesAgainst 6 = .ok (.getfield 7, 3) := dk_180 0 7 (dk_at dksX9_votesAgainst_0 6 rfl rfl)
theorem dX9_votesAgainst_9 : decode cX9_votesAgainst 9 = .ok (.bipush 6, 2) := dk_16 6 (dk_at dksX9_votesAgainst_0 9 rfl rfl)
theorem dX9_votesAgainst_11 : decode cX9_votesAgainst 11 = .ok (.iaload, 1) := dk_46 (dk_at dksX9_votesAgainst_0 11 rfl rfl)
theorem dX9_votesAgainst_12 : decode cX9_votesAgainst 12 = .ok (.invokestatic 115, 3) := dk_184 0 115 (dk_at dksX9_votesAgainst_0 12 rfl rfl)
theorem dX9_votesAgainst_15 : decode cX9_votesAgainst 15 = .ok (.aload_n 0, 1) := dk_42 (dk_at dksX9_votesAgainst_0 15 rfl rfl)
theorem dX9_votesAgainst_16 : decode cX9_votesAgainst 16 = .ok (.getfield 7, 3) := dk_180 0 7 (dk_at dksX9_votesAgainst_0 16 rfl rfl)
theorem dX9_votesAgainst_19 : decode cX9_votesAgainst 19 = .ok (.bipush 7, 2) := dk_16 7 (dk_at dksX9_votesAgainst_0 19 rfl rfl)
theorem dX9_votesAgainst_21 : decode cX9_votesAgainst 21 = .ok (.iaload, 1) := dk_46 (dk_at dksX9_votesAgainst_0 21 rfl rfl)
theorem dX9_votesAgainst_22 : decode cX9_votesAgainst 22 = .ok (.invokestatic 115, 3) := dk_184 0 115 (dk_at dksX9_votesAgainst_1 0 rfl rfl)
theorem dX9_votesAgainst_25 : decode cX9_votesAgainst 25 = .ok (.isub, 1) := dk_100 (dk_at dksX9_votesAgainst_1 3 rfl rfl)
theorem dX9_votesAgainst_26 : decode cX9_votesAgainst 26 = .ok (.ireturn, 1) := dk_172 (dk_at dksX9_votesAgainst_1 4 rfl rfl)
abbrev cX9_hasVoted : ByteArray := prog_11_method_138_code
def yX9_hasVoted : MethodName := ⟨RX9, "hasVoted", "(I)Z"⟩
def dkwX9_hasVoted_1 : List UInt8 := [16, 6, 46, 27, 122, 4, 126, 4, 160, 0, 7, 4, 167, 0, 4, 3, 172]
abbrev dktX9_hasVoted_1 : List UInt8 := dkwX9_hasVoted_1 ++ []
def dkwX9_hasVoted_0 : List UInt8 := [42, 42, 27, 182, 1, 123, 154, 0, 7, 4, 167, 0, 4, 3, 182, 1, 99, 154, 0, 22, 42, 180, 0, 7]
abbrev dktX9_hasVoted_0 : List UInt8 := dkwX9_hasVoted_0 ++ dktX9_hasVoted_1
theorem dksX9_hasVoted_0 : cX9_hasVoted.data.toList.drop 0 = dktX9_hasVoted_0 := by decide +kernel
theorem dksX9_hasVoted_1 : cX9_hasVoted.data.toList.drop 24 = dktX9_hasVoted_1 := dk_seg dksX9_hasVoted_0 24 rfl rfl
theorem dX9_hasVoted_0 : decode cX9_hasVoted 0 = .ok (.aload_n 0, 1) := dk_42 (dk_at dksX9_hasVoted_0 0 rfl rfl)
theorem dX9_hasVoted_1 : decode cX9_hasVoted 1 = .ok (.aload_n 0, 1) := dk_42 (dk_at dksX9_hasVoted_0 1 rfl rfl)
theorem dX9_hasVoted_2 : decode cX9_hasVoted 2 = .ok (.iload_n 1, 1) := dk_27 (dk_at dksX9_hasVoted_0 2 rfl rfl)
theorem dX9_hasVoted_3 : decode cX9_hasVoted 3 = .ok (.invokevirtual 379, 3) := dk_182 1 123 (dk_at dksX9_hasVoted_0 3 rfl rfl)
theorem dX9_hasVoted_6 : decode cX9_hasVoted 6 = .ok (.ifCond .ne 7, 3) := dk_154 0 7 (dk_at dksX9_hasVoted_0 6 rfl rfl)
theorem dX9_hasVoted_9 : decode cX9_hasVoted 9 = .ok (.iconst 1, 1) := dk_4 (dk_at dksX9_hasVoted_0 9 rfl rfl)
theorem dX9_hasVoted_10 : decode cX9_hasVoted 10 = .ok (.goto 4, 3) := dk_167 0 4 (dk_at dksX9_hasVoted_0 10 rfl rfl)
theorem dX9_hasVoted_13 : decode cX9_hasVoted 13 = .ok (.iconst 0, 1) := dk_3 (dk_at dksX9_hasVoted_0 13 rfl rfl)
theorem dX9_hasVoted_14 : decode cX9_hasVoted 14 = .ok (.invokevirtual 355, 3) := dk_182 1 99 (dk_at dksX9_hasVoted_0 14 rfl rfl)
theorem dX9_hasVoted_17 : decode cX9_hasVoted 17 = .ok (.ifCond .ne 22, 3) := dk_154 0 22 (dk_at dksX9_hasVoted_0 17 rfl rfl)
theorem dX9_hasVoted_20 : decode cX9_hasVoted 20 = .ok (.aload_n 0, 1) := dk_42 (dk_at dksX9_hasVoted_0 20 rfl rfl)
theorem dX9_hasVoted_21 : decode cX9_hasVoted 21 = .ok (.getfield 7, 3) := dk_180 0 7 (dk_at dksX9_hasVoted_0 21 rfl rfl)
theorem dX9_hasVoted_24 : decode cX9_hasVoted 24 = .ok (.bipush 6, 2) := dk_16 6 (dk_at dksX9_hasVoted_1 0 rfl rfl)
theorem dX9_hasVoted_26 : decode cX9_hasVoted 26 = .ok (.iaload, 1) := dk_46 (dk_at dksX9_hasVoted_1 2 rfl rfl)
theorem dX9_hasVoted_27 : decode cX9_hasVoted 27 = .ok (.iload_n 1, 1) := dk_27 (dk_at dksX9_hasVoted_1 3 rfl rfl)
theorem dX9_hasVoted_28 : decode cX9_hasVoted 28 = .ok (.ishr, 1) := dk_122 (dk_at dksX9_hasVoted_1 4 rfl rfl)
theorem dX9_hasVoted_29 : decode cX9_hasVoted 29 = .ok (.iconst 1, 1) := dk_4 (dk_at dksX9_hasVoted_1 5 rfl rfl)
theorem dX9_hasVoted_30 : decode cX9_hasVoted 30 = .ok (.iand, 1) := dk_126 (dk_at dksX9_hasVoted_1 6 rfl rfl)
theorem dX9_hasVoted_31 : decode cX9_hasVoted 31 = .ok (.iconst 1, 1) := dk_4 (dk_at dksX9_hasVoted_1 7 rfl rfl)
theorem dX9_hasVoted_32 : decode cX9_hasVoted 32 = .ok (.if_icmp .ne 7, 3) := dk_160 0 7 (dk_at dksX9_hasVoted_1 8 rfl rfl)
theorem dX9_hasVoted_35 : decode cX9_hasVoted 35 = .ok (.iconst 1, 1) := dk_4 (dk_at dksX9_hasVoted_1 11 rfl rfl)
theorem dX9_hasVoted_36 : decode cX9_hasVoted 36 = .ok (.goto 4, 3) := dk_167 0 4 (dk_at dksX9_hasVoted_1 12 rfl rfl)
theorem dX9_hasVoted_39 : decode cX9_hasVoted 39 = .ok (.iconst 0, 1) := dk_3 (dk_at dksX9_hasVoted_1 15 rfl rfl)
theorem dX9_hasVoted_40 : decode cX9_hasVoted 40 = .ok (.ireturn, 1) := dk_172 (dk_at dksX9_hasVoted_1 16 rfl rfl)
abbrev cX9_choirOf : ByteArray := prog_11_method_139_code
def yX9_choirOf : MethodName := ⟨RX9, "choirOf", "(I)I"⟩
def dkwX9_choirOf_1 : List UInt8 := [42, 27, 182, 0, 112, 172]
abbrev dktX9_choirOf_1 : List UInt8 := dkwX9_choirOf_1 ++ []
def dkwX9_choirOf_0 : List UInt8 := [42, 42, 27, 182, 1, 123, 154, 0, 7, 4, 167, 0, 4, 3, 182, 1, 99, 153, 0, 7, 3, 167, 0, 8]
abbrev dktX9_choirOf_0 : List UInt8 := dkwX9_choirOf_0 ++ dktX9_choirOf_1
theorem dksX9_choirOf_0 : cX9_choirOf.data.toList.drop 0 = dktX9_choirOf_0 := by decide +kernel
theorem dksX9_choirOf_1 : cX9_choirOf.data.toList.drop 24 = dktX9_choirOf_1 := dk_seg dksX9_choirOf_0 24 rfl rfl
theorem dX9_choirOf_0 : decode cX9_choirOf 0 = .ok (.aload_n 0, 1) := dk_42 (dk_at dksX9_choirOf_0 0 rfl rfl)
theorem dX9_choirOf_1 : decode cX9_choirOf 1 = .ok (.aload_n 0, 1) := dk_42 (dk_at dksX9_choirOf_0 1 rfl rfl)
theorem dX9_choirOf_2 : decode cX9_choirOf 2 = .ok (.iload_n 1, 1) := dk_27 (dk_at dksX9_choirOf_0 2 rfl rfl)
theorem dX9_choirOf_3 : decode cX9_choirOf 3 = .ok (.invokevirtual 379, 3) := dk_182 1 123 (dk_at dksX9_choirOf_0 3 rfl rfl)
theorem dX9_choirOf_6 : decode cX9_choirOf 6 = .ok (.ifCond .ne 7, 3) := dk_154 0 7 (dk_at dksX9_choirOf_0 6 rfl rfl)
theorem dX9_choirOf_9 : decode cX9_choirOf 9 = .ok (.iconst 1, 1) := dk_4 (dk_at dksX9_choirOf_0 9 rfl rfl)
theorem dX9_choirOf_10 : decode cX9_choirOf 10 = .ok (.goto 4, 3) := dk_167 0 4 (dk_at dksX9_choirOf_0 10 rfl rfl)
theorem dX9_choirOf_13 : decode cX9_choirOf 13 = .ok (.iconst 0, 1) := dk_3 (dk_at dksX9_choirOf_0 13 rfl rfl)
theorem dX9_choirOf_14 : decode cX9_choirOf 14 = .ok (.invokevirtual 355, 3) := dk_182 1 99 (dk_at dksX9_choirOf_0 14 rfl rfl)
theorem dX9_choirOf_17 : decode cX9_choirOf 17 = .ok (.ifCond .eq 7, 3) := dk_153 0 7 (dk_at dksX9_choirOf_0 17 rfl rfl)
theorem dX9_choirOf_20 : decode cX9_choirOf 20 = .ok (.iconst 0, 1) := dk_3 (dk_at dksX9_choirOf_0 20 rfl rfl)
theorem dX9_choirOf_21 : decode cX9_choirOf 21 = .ok (.goto 8, 3) := dk_167 0 8 (dk_at dksX9_choirOf_0 21 rfl rfl)
theorem dX9_choirOf_24 : decode cX9_choirOf 24 = .ok (.aload_n 0, 1) := dk_42 (dk_at dksX9_choirOf_1 0 rfl rfl)
theorem dX9_choirOf_25 : decode cX9_choirOf 25 = .ok (.iload_n 1, 1) := dk_27 (dk_at dksX9_choirOf_1 1 rfl rfl)
theorem dX9_choirOf_26 : decode cX9_choirOf 26 = .ok (.invokevirtual 112, 3) := dk_182 0 112 (dk_at dksX9_choirOf_1 2 rfl rfl)
theorem dX9_choirOf_29 : decode cX9_choirOf 29 = .ok (.ireturn, 1) := dk_172 (dk_at dksX9_choirOf_1 5 rfl rfl)
abbrev cX9_choirCount : ByteArray := prog_11_method_140_code
def yX9_choirCount : MethodName := ⟨RX9, "choirCount", "()I"⟩
def dkwX9_choirCount_2 : List UInt8 := [172]
abbrev dktX9_choirCount_2 : List UInt8 := dkwX9_choirCount_2 ++ []
def dkwX9_choirCount_1 : List UInt8 := [182, 0, 112, 4, 28, 120, 112, 154, 0, 7, 4, 167, 0, 4, 3, 96, 60, 132, 2, 1, 167, 255, 223, 27]
abbrev dktX9_choirCount_1 : List UInt8 := dkwX9_choirCount_1 ++ dktX9_choirCount_2
def dkwX9_choirCount_0 : List UInt8 := [42, 3, 181, 0, 57, 3, 60, 3, 61, 28, 42, 180, 0, 7, 5, 46, 162, 0, 29, 27, 42, 28]
abbrev dktX9_choirCount_0 : List UInt8 := dkwX9_choirCount_0 ++ dktX9_choirCount_1
theorem dksX9_choirCount_0 : cX9_choirCount.data.toList.drop 0 = dktX9_choirCount_0 := by decide +kernel
theorem dksX9_choirCount_1 : cX9_choirCount.data.toList.drop 22 = dktX9_choirCount_1 := dk_seg dksX9_choirCount_0 22 rfl rfl
theorem dksX9_choirCount_2 : cX9_choirCount.data.toList.drop 46 = dktX9_choirCount_2 := dk_seg dksX9_choirCount_1 24 rfl rfl
theorem dX9_choirCount_0 : decode cX9_choirCount 0 = .ok (.aload_n 0, 1) := dk_42 (dk_at dksX9_choirCount_0 0 rfl rfl)
theorem dX9_choirCount_1 : decode cX9_choirCount 1 = .ok (.iconst 0, 1) := dk_3 (dk_at dksX9_choirCount_0 1 rfl rfl)
theorem dX9_choirCount_2 : decode cX9_choirCount 2 = .ok (.putfield 57, 3) := dk_181 0 57 (dk_at dksX9_choirCount_0 2 rfl rfl)
theorem dX9_choirCount_5 : decode cX9_choirCount 5 = .ok (.iconst 0, 1) := dk_3 (dk_at dksX9_choirCount_0 5 rfl rfl)
theorem dX9_choirCount_6 : decode cX9_choirCount 6 = .ok (.istore_n 1, 1) := dk_60 (dk_at dksX9_choirCount_0 6 rfl rfl)
theorem dX9_choirCount_7 : decode cX9_choirCount 7 = .ok (.iconst 0, 1) := dk_3 (dk_at dksX9_choirCount_0 7 rfl rfl)
theorem dX9_choirCount_8 : decode cX9_choirCount 8 = .ok (.istore_n 2, 1) := dk_61 (dk_at dksX9_choirCount_0 8 rfl rfl)
theorem dX9_choirCount_9 : decode cX9_choirCount 9 = .ok (.iload_n 2, 1) := dk_28 (dk_at dksX9_choirCount_0 9 rfl rfl)
theorem dX9_choirCount_10 : decode cX9_choirCount 10 = .ok (.aload_n 0, 1) := dk_42 (dk_at dksX9_choirCount_0 10 rfl rfl)
theorem dX9_choirCount_11 : decode cX9_choirCount 11 = .ok (.getfield 7, 3) := dk_180 0 7 (dk_at dksX9_choirCount_0 11 rfl rfl)
theorem dX9_choirCount_14 : decode cX9_choirCount 14 = .ok (.iconst 2, 1) := dk_5 (dk_at dksX9_choirCount_0 14 rfl rfl)
theorem dX9_choirCount_15 : decode cX9_choirCount 15 = .ok (.iaload, 1) := dk_46 (dk_at dksX9_choirCount_0 15 rfl rfl)
theorem dX9_choirCount_16 : decode cX9_choirCount 16 = .ok (.if_icmp .ge 29, 3) := dk_162 0 29 (dk_at dksX9_choirCount_0 16 rfl rfl)
theorem dX9_choirCount_19 : decode cX9_choirCount 19 = .ok (.iload_n 1, 1) := dk_27 (dk_at dksX9_choirCount_0 19 rfl rfl)
theorem dX9_choirCount_20 : decode cX9_choirCount 20 = .ok (.aload_n 0, 1) := dk_42 (dk_at dksX9_choirCount_0 20 rfl rfl)
theorem dX9_choirCount_21 : decode cX9_choirCount 21 = .ok (.iload_n 2, 1) := dk_28 (dk_at dksX9_choirCount_0 21 rfl rfl)
theorem dX9_choirCount_22 : decode cX9_choirCount 22 = .ok (.invokevirtual 112, 3) := dk_182 0 112 (dk_at dksX9_choirCount_1 0 rfl rfl)
theorem dX9_choirCount_25 : decode cX9_choirCount 25 = .ok (.iconst 1, 1) := dk_4 (dk_at dksX9_choirCount_1 3 rfl rfl)
theorem dX9_choirCount_26 : decode cX9_choirCount 26 = .ok (.iload_n 2, 1) := dk_28 (dk_at dksX9_choirCount_1 4 rfl rfl)
theorem dX9_choirCount_27 : decode cX9_choirCount 27 = .ok (.ishl, 1) := dk_120 (dk_at dksX9_choirCount_1 5 rfl rfl)
theorem dX9_choirCount_28 : decode cX9_choirCount 28 = .ok (.irem, 1) := dk_112 (dk_at dksX9_choirCount_1 6 rfl rfl)
theorem dX9_choirCount_29 : decode cX9_choirCount 29 = .ok (.ifCond .ne 7, 3) := dk_154 0 7 (dk_at dksX9_choirCount_1 7 rfl rfl)
theorem dX9_choirCount_32 : decode cX9_choirCount 32 = .ok (.iconst 1, 1) := dk_4 (dk_at dksX9_choirCount_1 10 rfl rfl)
theorem dX9_choirCount_33 : decode cX9_choirCount 33 = .ok (.goto 4, 3) := dk_167 0 4 (dk_at dksX9_choirCount_1 11 rfl rfl)
theorem dX9_choirCount_36 : decode cX9_choirCount 36 = .ok (.iconst 0, 1) := dk_3 (dk_at dksX9_choirCount_1 14 rfl rfl)
theorem dX9_choirCount_37 : decode cX9_choirCount 37 = .ok (.iadd, 1) := dk_96 (dk_at dksX9_choirCount_1 15 rfl rfl)
theorem dX9_choirCount_38 : decode cX9_choirCount 38 = .ok (.istore_n 1, 1) := dk_60 (dk_at dksX9_choirCount_1 16 rfl rfl)
theorem dX9_choirCount_39 : decode cX9_choirCount 39 = .ok (.iinc 2 1, 3) := dk_132 2 1 (dk_at dksX9_choirCount_1 17 rfl rfl)
theorem dX9_choirCount_42 : decode cX9_choirCount 42 = .ok (.goto (-33), 3) := dk_167 255 223 (dk_at dksX9_choirCount_1 20 rfl rfl)
theorem dX9_choirCount_45 : decode cX9_choirCount 45 = .ok (.iload_n 1, 1) := dk_27 (dk_at dksX9_choirCount_1 23 rfl rfl)
theorem dX9_choirCount_46 : decode cX9_choirCount 46 = .ok (.ireturn, 1) := dk_172 (dk_at dksX9_choirCount_2 0 rfl rfl)
abbrev cX9_largestChoir : ByteArray := prog_11_method_141_code
def yX9_largestChoir : MethodName := ⟨RX9, "largestChoir", "()I"⟩
def dkwX9_largestChoir_0 : List UInt8 := [42, 3, 181, 0, 57, 42, 182, 0, 138, 172]
abbrev dktX9_largestChoir_0 : List UInt8 := dkwX9_largestChoir_0 ++ []
theorem dksX9_largestChoir_0 : cX9_largestChoir.data.toList.drop 0 = dktX9_largestChoir_0 := by decide +kernel
theorem dX9_largestChoir_0 : decode cX9_largestChoir 0 = .ok (.aload_n 0, 1) := dk_42 (dk_at dksX9_largestChoir_0 0 rfl rfl)
theorem dX9_largestChoir_1 : decode cX9_largestChoir 1 = .ok (.iconst 0, 1) := dk_3 (dk_at dksX9_largestChoir_0 1 rfl rfl)
theorem dX9_largestChoir_2 : decode cX9_largestChoir 2 = .ok (.putfield 57, 3) := dk_181 0 57 (dk_at dksX9_largestChoir_0 2 rfl rfl)
theorem dX9_largestChoir_5 : decode cX9_largestChoir 5 = .ok (.aload_n 0, 1) := dk_42 (dk_at dksX9_largestChoir_0 5 rfl rfl)
theorem dX9_largestChoir_6 : decode cX9_largestChoir 6 = .ok (.invokevirtual 138, 3) := dk_182 0 138 (dk_at dksX9_largestChoir_0 6 rfl rfl)
theorem dX9_largestChoir_9 : decode cX9_largestChoir 9 = .ok (.ireturn, 1) := dk_172 (dk_at dksX9_largestChoir_0 9 rfl rfl)
abbrev cX9_nightsToFullMoon : ByteArray := prog_11_method_142_code
def yX9_nightsToFullMoon : MethodName := ⟨RX9, "nightsToFullMoon", "()I"⟩
def dkwX9_nightsToFullMoon_1 : List UInt8 := [132, 1, 1, 167, 255, 238, 27, 172]
abbrev dktX9_nightsToFullMoon_1 : List UInt8 := dkwX9_nightsToFullMoon_1 ++ []
def dkwX9_nightsToFullMoon_0 : List UInt8 := [42, 3, 181, 0, 57, 4, 60, 42, 180, 0, 7, 6, 46, 27, 96, 16, 8, 112, 7, 159, 0, 9]
abbrev dktX9_nightsToFullMoon_0 : List UInt8 := dkwX9_nightsToFullMoon_0 ++ dktX9_nightsToFullMoon_1
theorem dksX9_nightsToFullMoon_0 : cX9_nightsToFullMoon.data.toList.drop 0 = dktX9_nightsToFullMoon_0 := by decide +kernel
theorem dksX9_nightsToFullMoon_1 : cX9_nightsToFullMoon.data.toList.drop 22 = dktX9_nightsToFullMoon_1 := dk_seg dksX9_nightsToFullMoon_0 22 rfl rfl
theorem dX9_nightsToFullMoon_0 : decode cX9_nightsToFullMoon 0 = .ok (.aload_n 0, 1) := dk_42 (dk_at dksX9_nightsToFullMoon_0 0 rfl rfl)
theorem dX9_nightsToFullMoon_1 : decode cX9_nightsToFullMoon 1 = .ok (.iconst 0, 1) := dk_3 (dk_at dksX9_nightsToFullMoon_0 1 rfl rfl)
theorem dX9_nightsToFullMoon_2 : decode cX9_nightsToFullMoon 2 = .ok (.putfield 57, 3) := dk_181 0 57 (dk_at dksX9_nightsToFullMoon_0 2 rfl rfl)
theorem dX9_nightsToFullMoon_5 : decode cX9_nightsToFullMoon 5 = .ok (.iconst 1, 1) := dk_4 (dk_at dksX9_nightsToFullMoon_0 5 rfl rfl)
theorem dX9_nightsToFullMoon_6 : decode cX9_nightsToFullMoon 6 = .ok (.istore_n 1, 1) := dk_60 (dk_at dksX9_nightsToFullMoon_0 6 rfl rfl)
theorem dX9_nightsToFullMoon_7 : decode cX9_nightsToFullMoon 7 = .ok (.aload_n 0, 1) := dk_42 (dk_at dksX9_nightsToFullMoon_0 7 rfl rfl)
theorem dX9_nightsToFullMoon_8 : decode cX9_nightsToFullMoon 8 = .ok (.getfield 7, 3) := dk_180 0 7 (dk_at dksX9_nightsToFullMoon_0 8 rfl rfl)
theorem dX9_nightsToFullMoon_11 : decode cX9_nightsToFullMoon 11 = .ok (.iconst 3, 1) := dk_6 (dk_at dksX9_nightsToFullMoon_0 11 rfl rfl)
theorem dX9_nightsToFullMoon_12 : decode cX9_nightsToFullMoon 12 = .ok (.iaload, 1) := dk_46 (dk_at dksX9_nightsToFullMoon_0 12 rfl rfl)
theorem dX9_nightsToFullMoon_13 : decode cX9_nightsToFullMoon 13 = .ok (.iload_n 1, 1) := dk_27 (dk_at dksX9_nightsToFullMoon_0 13 rfl rfl)
theorem dX9_nightsToFullMoon_14 : decode cX9_nightsToFullMoon 14 = .ok (.iadd, 1) := dk_96 (dk_at dksX9_nightsToFullMoon_0 14 rfl rfl)
theorem dX9_nightsToFullMoon_15 : decode cX9_nightsToFullMoon 15 = .ok (.bipush 8, 2) := dk_16 8 (dk_at dksX9_nightsToFullMoon_0 15 rfl rfl)
theorem dX9_nightsToFullMoon_17 : decode cX9_nightsToFullMoon 17 = .ok (.irem, 1) := dk_112 (dk_at dksX9_nightsToFullMoon_0 17 rfl rfl)
theorem dX9_nightsToFullMoon_18 : decode cX9_nightsToFullMoon 18 = .ok (.iconst 4, 1) := dk_7 (dk_at dksX9_nightsToFullMoon_0 18 rfl rfl)
theorem dX9_nightsToFullMoon_19 : decode cX9_nightsToFullMoon 19 = .ok (.if_icmp .eq 9, 3) := dk_159 0 9 (dk_at dksX9_nightsToFullMoon_0 19 rfl rfl)
theorem dX9_nightsToFullMoon_22 : decode cX9_nightsToFullMoon 22 = .ok (.iinc 1 1, 3) := dk_132 1 1 (dk_at dksX9_nightsToFullMoon_1 0 rfl rfl)
theorem dX9_nightsToFullMoon_25 : decode cX9_nightsToFullMoon 25 = .ok (.goto (-18), 3) := dk_167 255 238 (dk_at dksX9_nightsToFullMoon_1 3 rfl rfl)
theorem dX9_nightsToFullMoon_28 : decode cX9_nightsToFullMoon 28 = .ok (.iload_n 1, 1) := dk_27 (dk_at dksX9_nightsToFullMoon_1 6 rfl rfl)
theorem dX9_nightsToFullMoon_29 : decode cX9_nightsToFullMoon 29 = .ok (.ireturn, 1) := dk_172 (dk_at dksX9_nightsToFullMoon_1 7 rfl rfl)
abbrev cX9_fishAfter : ByteArray := prog_11_method_143_code
def yX9_fishAfter : MethodName := ⟨RX9, "fishAfter", "(II)I"⟩
def dkwX9_fishAfter_4 : List UInt8 := [180, 0, 16, 21, 4, 46, 79, 132, 4, 1, 167, 255, 231, 29, 172]
abbrev dktX9_fishAfter_4 : List UInt8 := dkwX9_fishAfter_4 ++ []
def dkwX9_fishAfter_3 : List UInt8 := [27, 5, 182, 0, 64, 62, 3, 54, 4, 21, 4, 17, 0, 186, 162, 0, 23, 42, 180, 0, 7, 21, 4, 42]
abbrev dktX9_fishAfter_3 : List UInt8 := dkwX9_fishAfter_3 ++ dktX9_fishAfter_4
def dkwX9_fishAfter_2 : List UInt8 := [180, 0, 16, 29, 42, 180, 0, 7, 29, 46, 79, 132, 3, 1, 167, 255, 234, 42, 28, 182, 1, 5, 87, 42]
abbrev dktX9_fishAfter_2 : List UInt8 := dkwX9_fishAfter_2 ++ dktX9_fishAfter_3
def dkwX9_fishAfter_1 : List UInt8 := [4, 167, 0, 4, 3, 182, 1, 111, 153, 0, 5, 3, 172, 3, 62, 29, 17, 0, 186, 162, 0, 21, 42]
abbrev dktX9_fishAfter_1 : List UInt8 := dkwX9_fishAfter_1 ++ dktX9_fishAfter_2
def dkwX9_fishAfter_0 : List UInt8 := [42, 42, 27, 182, 1, 123, 154, 0, 7, 4, 167, 0, 4, 3, 28, 3, 16, 30, 184, 0, 60, 154, 0, 7]
abbrev dktX9_fishAfter_0 : List UInt8 := dkwX9_fishAfter_0 ++ dktX9_fishAfter_1
theorem dksX9_fishAfter_0 : cX9_fishAfter.data.toList.drop 0 = dktX9_fishAfter_0 := by decide +kernel
theorem dksX9_fishAfter_1 : cX9_fishAfter.data.toList.drop 24 = dktX9_fishAfter_1 := dk_seg dksX9_fishAfter_0 24 rfl rfl
theorem dksX9_fishAfter_2 : cX9_fishAfter.data.toList.drop 47 = dktX9_fishAfter_2 := dk_seg dksX9_fishAfter_1 23 rfl rfl
theorem dksX9_fishAfter_3 : cX9_fishAfter.data.toList.drop 71 = dktX9_fishAfter_3 := dk_seg dksX9_fishAfter_2 24 rfl rfl
theorem dksX9_fishAfter_4 : cX9_fishAfter.data.toList.drop 95 = dktX9_fishAfter_4 := dk_seg dksX9_fishAfter_3 24 rfl rfl
theorem dX9_fishAfter_0 : decode cX9_fishAfter 0 = .ok (.aload_n 0, 1) := dk_42 (dk_at dksX9_fishAfter_0 0 rfl rfl)
theorem dX9_fishAfter_1 : decode cX9_fishAfter 1 = .ok (.aload_n 0, 1) := dk_42 (dk_at dksX9_fishAfter_0 1 rfl rfl)
theorem dX9_fishAfter_2 : decode cX9_fishAfter 2 = .ok (.iload_n 1, 1) := dk_27 (dk_at dksX9_fishAfter_0 2 rfl rfl)
theorem dX9_fishAfter_3 : decode cX9_fishAfter 3 = .ok (.invokevirtual 379, 3) := dk_182 1 123 (dk_at dksX9_fishAfter_0 3 rfl rfl)
theorem dX9_fishAfter_6 : decode cX9_fishAfter 6 = .ok (.ifCond .ne 7, 3) := dk_154 0 7 (dk_at dksX9_fishAfter_0 6 rfl rfl)
theorem dX9_fishAfter_9 : decode cX9_fishAfter 9 = .ok (.iconst 1, 1) := dk_4 (dk_at dksX9_fishAfter_0 9 rfl rfl)
theorem dX9_fishAfter_10 : decode cX9_fishAfter 10 = .ok (.goto 4, 3) := dk_167 0 4 (dk_at dksX9_fishAfter_0 10 rfl rfl)
theorem dX9_fishAfter_13 : decode cX9_fishAfter 13 = .ok (.iconst 0, 1) := dk_3 (dk_at dksX9_fishAfter_0 13 rfl rfl)
theorem dX9_fishAfter_14 : decode cX9_fishAfter 14 = .ok (.iload_n 2, 1) := dk_28 (dk_at dksX9_fishAfter_0 14 rfl rfl)
theorem dX9_fishAfter_15 : decode cX9_fishAfter 15 = .ok (.iconst 0, 1) := dk_3 (dk_at dksX9_fishAfter_0 15 rfl rfl)
theorem dX9_fishAfter_16 : decode cX9_fishAfter 16 = .ok (.bipush 30, 2) := dk_16 30 (dk_at dksX9_fishAfter_0 16 rfl rfl)
theorem dX9_fishAfter_18 : decode cX9_fishAfter 18 = .ok (.invokestatic 60, 3) := dk_184 0 60 (dk_at dksX9_fishAfter_0 18 rfl rfl)
theorem dX9_fishAfter_21 : decode cX9_fishAfter 21 = .ok (.ifCond .ne 7, 3) := dk_154 0 7 (dk_at dksX9_fishAfter_0 21 rfl rfl)
theorem dX9_fishAfter_24 : decode cX9_fishAfter 24 = .ok (.iconst 1, 1) := dk_4 (dk_at dksX9_fishAfter_1 0 rfl rfl)
theorem dX9_fishAfter_25 : decode cX9_fishAfter 25 = .ok (.goto 4, 3) := dk_167 0 4 (dk_at dksX9_fishAfter_1 1 rfl rfl)
theorem dX9_fishAfter_28 : decode cX9_fishAfter 28 = .ok (.iconst 0, 1) := dk_3 (dk_at dksX9_fishAfter_1 4 rfl rfl)
theorem dX9_fishAfter_29 : decode cX9_fishAfter 29 = .ok (.invokevirtual 367, 3) := dk_182 1 111 (dk_at dksX9_fishAfter_1 5 rfl rfl)
theorem dX9_fishAfter_32 : decode cX9_fishAfter 32 = .ok (.ifCond .eq 5, 3) := dk_153 0 5 (dk_at dksX9_fishAfter_1 8 rfl rfl)
theorem dX9_fishAfter_35 : decode cX9_fishAfter 35 = .ok (.iconst 0, 1) := dk_3 (dk_at dksX9_fishAfter_1 11 rfl rfl)
theorem dX9_fishAfter_36 : decode cX9_fishAfter 36 = .ok (.ireturn, 1) := dk_172 (dk_at dksX9_fishAfter_1 12 rfl rfl)
theorem dX9_fishAfter_37 : decode cX9_fishAfter 37 = .ok (.iconst 0, 1) := dk_3 (dk_at dksX9_fishAfter_1 13 rfl rfl)
theorem dX9_fishAfter_38 : decode cX9_fishAfter 38 = .ok (.istore_n 3, 1) := dk_62 (dk_at dksX9_fishAfter_1 14 rfl rfl)
theorem dX9_fishAfter_39 : decode cX9_fishAfter 39 = .ok (.iload_n 3, 1) := dk_29 (dk_at dksX9_fishAfter_1 15 rfl rfl)
theorem dX9_fishAfter_40 : decode cX9_fishAfter 40 = .ok (.sipush 186, 3) := dk_17 0 186 (dk_at dksX9_fishAfter_1 16 rfl rfl)
theorem dX9_fishAfter_43 : decode cX9_fishAfter 43 = .ok (.if_icmp .ge 21, 3) := dk_162 0 21 (dk_at dksX9_fishAfter_1 19 rfl rfl)
theorem dX9_fishAfter_46 : decode cX9_fishAfter 46 = .ok (.aload_n 0, 1) := dk_42 (dk_at dksX9_fishAfter_1 22 rfl rfl)
theorem dX9_fishAfter_47 : decode cX9_fishAfter 47 = .ok (.getfield 16, 3) := dk_180 0 16 (dk_at dksX9_fishAfter_2 0 rfl rfl)
theorem dX9_fishAfter_50 : decode cX9_fishAfter 50 = .ok (.iload_n 3, 1) := dk_29 (dk_at dksX9_fishAfter_2 3 rfl rfl)
theorem dX9_fishAfter_51 : decode cX9_fishAfter 51 = .ok (.aload_n 0, 1) := dk_42 (dk_at dksX9_fishAfter_2 4 rfl rfl)
theorem dX9_fishAfter_52 : decode cX9_fishAfter 52 = .ok (.getfield 7, 3) := dk_180 0 7 (dk_at dksX9_fishAfter_2 5 rfl rfl)
theorem dX9_fishAfter_55 : decode cX9_fishAfter 55 = .ok (.iload_n 3, 1) := dk_29 (dk_at dksX9_fishAfter_2 8 rfl rfl)
theorem dX9_fishAfter_56 : decode cX9_fishAfter 56 = .ok (.iaload, 1) := dk_46 (dk_at dksX9_fishAfter_2 9 rfl rfl)
theorem dX9_fishAfter_57 : decode cX9_fishAfter 57 = .ok (.iastore, 1) := dk_79 (dk_at dksX9_fishAfter_2 10 rfl rfl)
theorem dX9_fishAfter_58 : decode cX9_fishAfter 58 = .ok (.iinc 3 1, 3) := dk_132 3 1 (dk_at dksX9_fishAfter_2 11 rfl rfl)
theorem dX9_fishAfter_61 : decode cX9_fishAfter 61 = .ok (.goto (-22), 3) := dk_167 255 234 (dk_at dksX9_fishAfter_2 14 rfl rfl)
theorem dX9_fishAfter_64 : decode cX9_fishAfter 64 = .ok (.aload_n 0, 1) := dk_42 (dk_at dksX9_fishAfter_2 17 rfl rfl)
theorem dX9_fishAfter_65 : decode cX9_fishAfter 65 = .ok (.iload_n 2, 1) := dk_28 (dk_at dksX9_fishAfter_2 18 rfl rfl)
theorem dX9_fishAfter_66 : decode cX9_fishAfter 66 = .ok (.invokevirtual 261, 3) := dk_182 1 5 (dk_at dksX9_fishAfter_2 19 rfl rfl)
theorem dX9_fishAfter_69 : decode cX9_fishAfter 69 = .ok (.pop, 1) := dk_87 (dk_at dksX9_fishAfter_2 22 rfl rfl)
theorem dX9_fishAfter_70 : decode cX9_fishAfter 70 = .ok (.aload_n 0, 1) := dk_42 (dk_at dksX9_fishAfter_2 23 rfl rfl)
theorem dX9_fishAfter_71 : decode cX9_fishAfter 71 = .ok (.iload_n 1, 1) := dk_27 (dk_at dksX9_fishAfter_3 0 rfl rfl)
theorem dX9_fishAfter_72 : decode cX9_fishAfter 72 = .ok (.iconst 2, 1) := dk_5 (dk_at dksX9_fishAfter_3 1 rfl rfl)
theorem dX9_fishAfter_73 : decode cX9_fishAfter 73 = .ok (.invokevirtual 64, 3) := dk_182 0 64 (dk_at dksX9_fishAfter_3 2 rfl rfl)
theorem dX9_fishAfter_76 : decode cX9_fishAfter 76 = .ok (.istore_n 3, 1) := dk_62 (dk_at dksX9_fishAfter_3 5 rfl rfl)
theorem dX9_fishAfter_77 : decode cX9_fishAfter 77 = .ok (.iconst 0, 1) := dk_3 (dk_at dksX9_fishAfter_3 6 rfl rfl)
theorem dX9_fishAfter_78 : decode cX9_fishAfter 78 = .ok (.istore 4, 2) := dk_54 4 (dk_at dksX9_fishAfter_3 7 rfl rfl)
theorem dX9_fishAfter_80 : decode cX9_fishAfter 80 = .ok (.iload 4, 2) := dk_21 4 (dk_at dksX9_fishAfter_3 9 rfl rfl)
theorem dX9_fishAfter_82 : decode cX9_fishAfter 82 = .ok (.sipush 186, 3) := dk_17 0 186 (dk_at dksX9_fishAfter_3 11 rfl rfl)
theorem dX9_fishAfter_85 : decode cX9_fishAfter 85 = .ok (.if_icmp .ge 23, 3) := dk_162 0 23 (dk_at dksX9_fishAfter_3 14 rfl rfl)
theorem dX9_fishAfter_88 : decode cX9_fishAfter 88 = .ok (.aload_n 0, 1) := dk_42 (dk_at dksX9_fishAfter_3 17 rfl rfl)
theorem dX9_fishAfter_89 : decode cX9_fishAfter 89 = .ok (.getfield 7, 3) := dk_180 0 7 (dk_at dksX9_fishAfter_3 18 rfl rfl)
theorem dX9_fishAfter_92 : decode cX9_fishAfter 92 = .ok (.iload 4, 2) := dk_21 4 (dk_at dksX9_fishAfter_3 21 rfl rfl)
theorem dX9_fishAfter_94 : decode cX9_fishAfter 94 = .ok (.aload_n 0, 1) := dk_42 (dk_at dksX9_fishAfter_3 23 rfl rfl)
theorem dX9_fishAfter_95 : decode cX9_fishAfter 95 = .ok (.getfield 16, 3) := dk_180 0 16 (dk_at dksX9_fishAfter_4 0 rfl rfl)
theorem dX9_fishAfter_98 : decode cX9_fishAfter 98 = .ok (.iload 4, 2) := dk_21 4 (dk_at dksX9_fishAfter_4 3 rfl rfl)
theorem dX9_fishAfter_100 : decode cX9_fishAfter 100 = .ok (.iaload, 1) := dk_46 (dk_at dksX9_fishAfter_4 5 rfl rfl)
theorem dX9_fishAfter_101 : decode cX9_fishAfter 101 = .ok (.iastore, 1) := dk_79 (dk_at dksX9_fishAfter_4 6 rfl rfl)
theorem dX9_fishAfter_102 : decode cX9_fishAfter 102 = .ok (.iinc 4 1, 3) := dk_132 4 1 (dk_at dksX9_fishAfter_4 7 rfl rfl)
theorem dX9_fishAfter_105 : decode cX9_fishAfter 105 = .ok (.goto (-25), 3) := dk_167 255 231 (dk_at dksX9_fishAfter_4 10 rfl rfl)
theorem dX9_fishAfter_108 : decode cX9_fishAfter 108 = .ok (.iload_n 3, 1) := dk_29 (dk_at dksX9_fishAfter_4 13 rfl rfl)
theorem dX9_fishAfter_109 : decode cX9_fishAfter 109 = .ok (.ireturn, 1) := dk_172 (dk_at dksX9_fishAfter_4 14 rfl rfl)
abbrev cX9_richestCat : ByteArray := prog_11_method_144_code
def yX9_richestCat : MethodName := ⟨RX9, "richestCat", "()I"⟩
def dkwX9_richestCat_2 : List UInt8 := [172]
abbrev dktX9_richestCat_2 : List UInt8 := dkwX9_richestCat_2 ++ []
def dkwX9_richestCat_1 : List UInt8 := [42, 28, 5, 182, 0, 64, 42, 27, 5, 182, 0, 64, 164, 0, 5, 28, 60, 132, 2, 1, 167, 255, 221, 27]
abbrev dktX9_richestCat_1 : List UInt8 := dkwX9_richestCat_1 ++ dktX9_richestCat_2
def dkwX9_richestCat_0 : List UInt8 := [42, 3, 181, 0, 57, 2, 60, 3, 61, 28, 42, 180, 0, 7, 5, 46, 162, 0, 31, 27, 2, 159, 0, 18]
abbrev dktX9_richestCat_0 : List UInt8 := dkwX9_richestCat_0 ++ dktX9_richestCat_1
theorem dksX9_richestCat_0 : cX9_richestCat.data.toList.drop 0 = dktX9_richestCat_0 := by decide +kernel
theorem dksX9_richestCat_1 : cX9_richestCat.data.toList.drop 24 = dktX9_richestCat_1 := dk_seg dksX9_richestCat_0 24 rfl rfl
theorem dksX9_richestCat_2 : cX9_richestCat.data.toList.drop 48 = dktX9_richestCat_2 := dk_seg dksX9_richestCat_1 24 rfl rfl
theorem dX9_richestCat_0 : decode cX9_richestCat 0 = .ok (.aload_n 0, 1) := dk_42 (dk_at dksX9_richestCat_0 0 rfl rfl)
theorem dX9_richestCat_1 : decode cX9_richestCat 1 = .ok (.iconst 0, 1) := dk_3 (dk_at dksX9_richestCat_0 1 rfl rfl)
theorem dX9_richestCat_2 : decode cX9_richestCat 2 = .ok (.putfield 57, 3) := dk_181 0 57 (dk_at dksX9_richestCat_0 2 rfl rfl)
theorem dX9_richestCat_5 : decode cX9_richestCat 5 = .ok (.iconst (-1), 1) := dk_2 (dk_at dksX9_richestCat_0 5 rfl rfl)
theorem dX9_richestCat_6 : decode cX9_richestCat 6 = .ok (.istore_n 1, 1) := dk_60 (dk_at dksX9_richestCat_0 6 rfl rfl)
theorem dX9_richestCat_7 : decode cX9_richestCat 7 = .ok (.iconst 0, 1) := dk_3 (dk_at dksX9_richestCat_0 7 rfl rfl)
theorem dX9_richestCat_8 : decode cX9_richestCat 8 = .ok (.istore_n 2, 1) := dk_61 (dk_at dksX9_richestCat_0 8 rfl rfl)
theorem dX9_richestCat_9 : decode cX9_richestCat 9 = .ok (.iload_n 2, 1) := dk_28 (dk_at dksX9_richestCat_0 9 rfl rfl)
theorem dX9_richestCat_10 : decode cX9_richestCat 10 = .ok (.aload_n 0, 1) := dk_42 (dk_at dksX9_richestCat_0 10 rfl rfl)
theorem dX9_richestCat_11 : decode cX9_richestCat 11 = .ok (.getfield 7, 3) := dk_180 0 7 (dk_at dksX9_richestCat_0 11 rfl rfl)
theorem dX9_richestCat_14 : decode cX9_richestCat 14 = .ok (.iconst 2, 1) := dk_5 (dk_at dksX9_richestCat_0 14 rfl rfl)
theorem dX9_richestCat_15 : decode cX9_richestCat 15 = .ok (.iaload, 1) := dk_46 (dk_at dksX9_richestCat_0 15 rfl rfl)
theorem dX9_richestCat_16 : decode cX9_richestCat 16 = .ok (.if_icmp .ge 31, 3) := dk_162 0 31 (dk_at dksX9_richestCat_0 16 rfl rfl)
theorem dX9_richestCat_19 : decode cX9_richestCat 19 = .ok (.iload_n 1, 1) := dk_27 (dk_at dksX9_richestCat_0 19 rfl rfl)
theorem dX9_richestCat_20 : decode cX9_richestCat 20 = .ok (.iconst (-1), 1) := dk_2 (dk_at dksX9_richestCat_0 20 rfl rfl)
theorem dX9_richestCat_21 : decode cX9_richestCat 21 = .ok (.if_icmp .eq 18, 3) := dk_159 0 18 (dk_at dksX9_richestCat_0 21 rfl rfl)
theorem dX9_richestCat_24 : decode cX9_richestCat 24 = .ok (.aload_n 0, 1) := dk_42 (dk_at dksX9_richestCat_1 0 rfl rfl)
theorem dX9_richestCat_25 : decode cX9_richestCat 25 = .ok (.iload_n 2, 1) := dk_28 (dk_at dksX9_richestCat_1 1 rfl rfl)
theorem dX9_richestCat_26 : decode cX9_richestCat 26 = .ok (.iconst 2, 1) := dk_5 (dk_at dksX9_richestCat_1 2 rfl rfl)
theorem dX9_richestCat_27 : decode cX9_richestCat 27 = .ok (.invokevirtual 64, 3) := dk_182 0 64 (dk_at dksX9_richestCat_1 3 rfl rfl)
theorem dX9_richestCat_30 : decode cX9_richestCat 30 = .ok (.aload_n 0, 1) := dk_42 (dk_at dksX9_richestCat_1 6 rfl rfl)
theorem dX9_richestCat_31 : decode cX9_richestCat 31 = .ok (.iload_n 1, 1) := dk_27 (dk_at dksX9_richestCat_1 7 rfl rfl)
theorem dX9_richestCat_32 : decode cX9_richestCat 32 = .ok (.iconst 2, 1) := dk_5 (dk_at dksX9_richestCat_1 8 rfl rfl)
theorem dX9_richestCat_33 : decode cX9_richestCat 33 = .ok (.invokevirtual 64, 3) := dk_182 0 64 (dk_at dksX9_richestCat_1 9 rfl rfl)
theorem dX9_richestCat_36 : decode cX9_richestCat 36 = .ok (.if_icmp .le 5, 3) := dk_164 0 5 (dk_at dksX9_richestCat_1 12 rfl rfl)
theorem dX9_richestCat_39 : decode cX9_richestCat 39 = .ok (.iload_n 2, 1) := dk_28 (dk_at dksX9_richestCat_1 15 rfl rfl)
theorem dX9_richestCat_40 : decode cX9_richestCat 40 = .ok (.istore_n 1, 1) := dk_60 (dk_at dksX9_richestCat_1 16 rfl rfl)
theorem dX9_richestCat_41 : decode cX9_richestCat 41 = .ok (.iinc 2 1, 3) := dk_132 2 1 (dk_at dksX9_richestCat_1 17 rfl rfl)
theorem dX9_richestCat_44 : decode cX9_richestCat 44 = .ok (.goto (-35), 3) := dk_167 255 221 (dk_at dksX9_richestCat_1 20 rfl rfl)
theorem dX9_richestCat_47 : decode cX9_richestCat 47 = .ok (.iload_n 1, 1) := dk_27 (dk_at dksX9_richestCat_1 23 rfl rfl)
theorem dX9_richestCat_48 : decode cX9_richestCat 48 = .ok (.ireturn, 1) := dk_172 (dk_at dksX9_richestCat_2 0 rfl rfl)
abbrev cX9_totalFish : ByteArray := prog_11_method_146_code
def yX9_totalFish : MethodName := ⟨RX9, "totalFish", "()I"⟩
def dkwX9_totalFish_0 : List UInt8 := [42, 3, 181, 0, 57, 42, 182, 1, 148, 172]
abbrev dktX9_totalFish_0 : List UInt8 := dkwX9_totalFish_0 ++ []
theorem dksX9_totalFish_0 : cX9_totalFish.data.toList.drop 0 = dktX9_totalFish_0 := by decide +kernel
theorem dX9_totalFish_0 : decode cX9_totalFish 0 = .ok (.aload_n 0, 1) := dk_42 (dk_at dksX9_totalFish_0 0 rfl rfl)
theorem dX9_totalFish_1 : decode cX9_totalFish 1 = .ok (.iconst 0, 1) := dk_3 (dk_at dksX9_totalFish_0 1 rfl rfl)
theorem dX9_totalFish_2 : decode cX9_totalFish 2 = .ok (.putfield 57, 3) := dk_181 0 57 (dk_at dksX9_totalFish_0 2 rfl rfl)
theorem dX9_totalFish_5 : decode cX9_totalFish 5 = .ok (.aload_n 0, 1) := dk_42 (dk_at dksX9_totalFish_0 5 rfl rfl)
theorem dX9_totalFish_6 : decode cX9_totalFish 6 = .ok (.invokevirtual 404, 3) := dk_182 1 148 (dk_at dksX9_totalFish_0 6 rfl rfl)
theorem dX9_totalFish_9 : decode cX9_totalFish 9 = .ok (.ireturn, 1) := dk_172 (dk_at dksX9_totalFish_0 9 rfl rfl)
abbrev cX9_allFish : ByteArray := prog_11_method_145_code
def yX9_allFish : MethodName := ⟨RX9, "allFish", "()I"⟩
def dkwX9_allFish_1 : List UInt8 := [132, 2, 1, 167, 255, 234, 27, 172]
abbrev dktX9_allFish_1 : List UInt8 := dkwX9_allFish_1 ++ []
def dkwX9_allFish_0 : List UInt8 := [3, 60, 3, 61, 28, 42, 180, 0, 7, 5, 46, 162, 0, 18, 27, 42, 28, 5, 182, 0, 64, 96, 60]
abbrev dktX9_allFish_0 : List UInt8 := dkwX9_allFish_0 ++ dktX9_allFish_1
theorem dksX9_allFish_0 : cX9_allFish.data.toList.drop 0 = dktX9_allFish_0 := by decide +kernel
theorem dksX9_allFish_1 : cX9_allFish.data.toList.drop 23 = dktX9_allFish_1 := dk_seg dksX9_allFish_0 23 rfl rfl
theorem dX9_allFish_0 : decode cX9_allFish 0 = .ok (.iconst 0, 1) := dk_3 (dk_at dksX9_allFish_0 0 rfl rfl)
theorem dX9_allFish_1 : decode cX9_allFish 1 = .ok (.istore_n 1, 1) := dk_60 (dk_at dksX9_allFish_0 1 rfl rfl)
theorem dX9_allFish_2 : decode cX9_allFish 2 = .ok (.iconst 0, 1) := dk_3 (dk_at dksX9_allFish_0 2 rfl rfl)
theorem dX9_allFish_3 : decode cX9_allFish 3 = .ok (.istore_n 2, 1) := dk_61 (dk_at dksX9_allFish_0 3 rfl rfl)
theorem dX9_allFish_4 : decode cX9_allFish 4 = .ok (.iload_n 2, 1) := dk_28 (dk_at dksX9_allFish_0 4 rfl rfl)
theorem dX9_allFish_5 : decode cX9_allFish 5 = .ok (.aload_n 0, 1) := dk_42 (dk_at dksX9_allFish_0 5 rfl rfl)
theorem dX9_allFish_6 : decode cX9_allFish 6 = .ok (.getfield 7, 3) := dk_180 0 7 (dk_at dksX9_allFish_0 6 rfl rfl)
theorem dX9_allFish_9 : decode cX9_allFish 9 = .ok (.iconst 2, 1) := dk_5 (dk_at dksX9_allFish_0 9 rfl rfl)
theorem dX9_allFish_10 : decode cX9_allFish 10 = .ok (.iaload, 1) := dk_46 (dk_at dksX9_allFish_0 10 rfl rfl)
theorem dX9_allFish_11 : decode cX9_allFish 11 = .ok (.if_icmp .ge 18, 3) := dk_162 0 18 (dk_at dksX9_allFish_0 11 rfl rfl)
theorem dX9_allFish_14 : decode cX9_allFish 14 = .ok (.iload_n 1, 1) := dk_27 (dk_at dksX9_allFish_0 14 rfl rfl)
theorem dX9_allFish_15 : decode cX9_allFish 15 = .ok (.aload_n 0, 1) := dk_42 (dk_at dksX9_allFish_0 15 rfl rfl)
theorem dX9_allFish_16 : decode cX9_allFish 16 = .ok (.iload_n 2, 1) := dk_28 (dk_at dksX9_allFish_0 16 rfl rfl)
theorem dX9_allFish_17 : decode cX9_allFish 17 = .ok (.iconst 2, 1) := dk_5 (dk_at dksX9_allFish_0 17 rfl rfl)
theorem dX9_allFish_18 : decode cX9_allFish 18 = .ok (.invokevirtual 64, 3) := dk_182 0 64 (dk_at dksX9_allFish_0 18 rfl rfl)
theorem dX9_allFish_21 : decode cX9_allFish 21 = .ok (.iadd, 1) := dk_96 (dk_at dksX9_allFish_0 21 rfl rfl)
theorem dX9_allFish_22 : decode cX9_allFish 22 = .ok (.istore_n 1, 1) := dk_60 (dk_at dksX9_allFish_0 22 rfl rfl)
theorem dX9_allFish_23 : decode cX9_allFish 23 = .ok (.iinc 2 1, 3) := dk_132 2 1 (dk_at dksX9_allFish_1 0 rfl rfl)
theorem dX9_allFish_26 : decode cX9_allFish 26 = .ok (.goto (-22), 3) := dk_167 255 234 (dk_at dksX9_allFish_1 3 rfl rfl)
theorem dX9_allFish_29 : decode cX9_allFish 29 = .ok (.iload_n 1, 1) := dk_27 (dk_at dksX9_allFish_1 6 rfl rfl)
theorem dX9_allFish_30 : decode cX9_allFish 30 = .ok (.ireturn, 1) := dk_172 (dk_at dksX9_allFish_1 7 rfl rfl)
abbrev cX9_meanFish : ByteArray := prog_11_method_147_code
def yX9_meanFish : MethodName := ⟨RX9, "meanFish", "()D"⟩
def dkwX9_meanFish_1 : List UInt8 := [180, 0, 7, 5, 46, 135, 111, 175]
abbrev dktX9_meanFish_1 : List UInt8 := dkwX9_meanFish_1 ++ []
def dkwX9_meanFish_0 : List UInt8 := [42, 3, 181, 0, 57, 42, 180, 0, 7, 5, 46, 154, 0, 7, 14, 167, 0, 16, 42, 182, 1, 148, 135, 42]
abbrev dktX9_meanFish_0 : List UInt8 := dkwX9_meanFish_0 ++ dktX9_meanFish_1
theorem dksX9_meanFish_0 : cX9_meanFish.data.toList.drop 0 = dktX9_meanFish_0 := by decide +kernel
theorem dksX9_meanFish_1 : cX9_meanFish.data.toList.drop 24 = dktX9_meanFish_1 := dk_seg dksX9_meanFish_0 24 rfl rfl
theorem dX9_meanFish_0 : decode cX9_meanFish 0 = .ok (.aload_n 0, 1) := dk_42 (dk_at dksX9_meanFish_0 0 rfl rfl)
theorem dX9_meanFish_1 : decode cX9_meanFish 1 = .ok (.iconst 0, 1) := dk_3 (dk_at dksX9_meanFish_0 1 rfl rfl)
theorem dX9_meanFish_2 : decode cX9_meanFish 2 = .ok (.putfield 57, 3) := dk_181 0 57 (dk_at dksX9_meanFish_0 2 rfl rfl)
theorem dX9_meanFish_5 : decode cX9_meanFish 5 = .ok (.aload_n 0, 1) := dk_42 (dk_at dksX9_meanFish_0 5 rfl rfl)
theorem dX9_meanFish_6 : decode cX9_meanFish 6 = .ok (.getfield 7, 3) := dk_180 0 7 (dk_at dksX9_meanFish_0 6 rfl rfl)
theorem dX9_meanFish_9 : decode cX9_meanFish 9 = .ok (.iconst 2, 1) := dk_5 (dk_at dksX9_meanFish_0 9 rfl rfl)
theorem dX9_meanFish_10 : decode cX9_meanFish 10 = .ok (.iaload, 1) := dk_46 (dk_at dksX9_meanFish_0 10 rfl rfl)
theorem dX9_meanFish_11 : decode cX9_meanFish 11 = .ok (.ifCond .ne 7, 3) := dk_154 0 7 (dk_at dksX9_meanFish_0 11 rfl rfl)
theorem dX9_meanFish_14 : decode cX9_meanFish 14 = .ok (.dconst 0, 1) := dk_14 (dk_at dksX9_meanFish_0 14 rfl rfl)
theorem dX9_meanFish_15 : decode cX9_meanFish 15 = .ok (.goto 16, 3) := dk_167 0 16 (dk_at dksX9_meanFish_0 15 rfl rfl)
theorem dX9_meanFish_18 : decode cX9_meanFish 18 = .ok (.aload_n 0, 1) := dk_42 (dk_at dksX9_meanFish_0 18 rfl rfl)
theorem dX9_meanFish_19 : decode cX9_meanFish 19 = .ok (.invokevirtual 404, 3) := dk_182 1 148 (dk_at dksX9_meanFish_0 19 rfl rfl)
theorem dX9_meanFish_22 : decode cX9_meanFish 22 = .ok (.i2d, 1) := dk_135 (dk_at dksX9_meanFish_0 22 rfl rfl)
theorem dX9_meanFish_23 : decode cX9_meanFish 23 = .ok (.aload_n 0, 1) := dk_42 (dk_at dksX9_meanFish_0 23 rfl rfl)
theorem dX9_meanFish_24 : decode cX9_meanFish 24 = .ok (.getfield 7, 3) := dk_180 0 7 (dk_at dksX9_meanFish_1 0 rfl rfl)
theorem dX9_meanFish_27 : decode cX9_meanFish 27 = .ok (.iconst 2, 1) := dk_5 (dk_at dksX9_meanFish_1 3 rfl rfl)
theorem dX9_meanFish_28 : decode cX9_meanFish 28 = .ok (.iaload, 1) := dk_46 (dk_at dksX9_meanFish_1 4 rfl rfl)
theorem dX9_meanFish_29 : decode cX9_meanFish 29 = .ok (.i2d, 1) := dk_135 (dk_at dksX9_meanFish_1 5 rfl rfl)
theorem dX9_meanFish_30 : decode cX9_meanFish 30 = .ok (.ddiv, 1) := dk_111 (dk_at dksX9_meanFish_1 6 rfl rfl)
theorem dX9_meanFish_31 : decode cX9_meanFish 31 = .ok (.dreturn, 1) := dk_175 (dk_at dksX9_meanFish_1 7 rfl rfl)
abbrev cX9_ownedShare : ByteArray := prog_11_method_148_code
def yX9_ownedShare : MethodName := ⟨RX9, "ownedShare", "()F"⟩
def dkwX9_ownedShare_2 : List UInt8 := [3, 46, 154, 0, 7, 11, 167, 0, 13, 27, 134, 42, 180, 0, 7, 3, 46, 134, 110, 174]
abbrev dktX9_ownedShare_2 : List UInt8 := dkwX9_ownedShare_2 ++ []
def dkwX9_ownedShare_1 : List UInt8 := [182, 0, 68, 2, 160, 0, 7, 3, 167, 0, 4, 4, 96, 60, 132, 2, 1, 167, 255, 226, 42, 180, 0, 7]
abbrev dktX9_ownedShare_1 : List UInt8 := dkwX9_ownedShare_1 ++ dktX9_ownedShare_2
def dkwX9_ownedShare_0 : List UInt8 := [42, 3, 181, 0, 57, 3, 60, 3, 61, 28, 42, 180, 0, 7, 3, 46, 162, 0, 26, 27, 42, 28]
abbrev dktX9_ownedShare_0 : List UInt8 := dkwX9_ownedShare_0 ++ dktX9_ownedShare_1
theorem dksX9_ownedShare_0 : cX9_ownedShare.data.toList.drop 0 = dktX9_ownedShare_0 := by decide +kernel
theorem dksX9_ownedShare_1 : cX9_ownedShare.data.toList.drop 22 = dktX9_ownedShare_1 := dk_seg dksX9_ownedShare_0 22 rfl rfl
theorem dksX9_ownedShare_2 : cX9_ownedShare.data.toList.drop 46 = dktX9_ownedShare_2 := dk_seg dksX9_ownedShare_1 24 rfl rfl
theorem dX9_ownedShare_0 : decode cX9_ownedShare 0 = .ok (.aload_n 0, 1) := dk_42 (dk_at dksX9_ownedShare_0 0 rfl rfl)
theorem dX9_ownedShare_1 : decode cX9_ownedShare 1 = .ok (.iconst 0, 1) := dk_3 (dk_at dksX9_ownedShare_0 1 rfl rfl)
theorem dX9_ownedShare_2 : decode cX9_ownedShare 2 = .ok (.putfield 57, 3) := dk_181 0 57 (dk_at dksX9_ownedShare_0 2 rfl rfl)
theorem dX9_ownedShare_5 : decode cX9_ownedShare 5 = .ok (.iconst 0, 1) := dk_3 (dk_at dksX9_ownedShare_0 5 rfl rfl)
theorem dX9_ownedShare_6 : decode cX9_ownedShare 6 = .ok (.istore_n 1, 1) := dk_60 (dk_at dksX9_ownedShare_0 6 rfl rfl)
theorem dX9_ownedShare_7 : decode cX9_ownedShare 7 = .ok (.iconst 0, 1) := dk_3 (dk_at dksX9_ownedShare_0 7 rfl rfl)
theorem dX9_ownedShare_8 : decode cX9_ownedShare 8 = .ok (.istore_n 2, 1) := dk_61 (dk_at dksX9_ownedShare_0 8 rfl rfl)
theorem dX9_ownedShare_9 : decode cX9_ownedShare 9 = .ok (.iload_n 2, 1) := dk_28 (dk_at dksX9_ownedShare_0 9 rfl rfl)
theorem dX9_ownedShare_10 : decode cX9_ownedShare 10 = .ok (.aload_n 0, 1) := dk_42 (dk_at dksX9_ownedShare_0 10 rfl rfl)
theorem dX9_ownedShare_11 : decode cX9_ownedShare 11 = .ok (.getfield 7, 3) := dk_180 0 7 (dk_at dksX9_ownedShare_0 11 rfl rfl)
theorem dX9_ownedShare_14 : decode cX9_ownedShare 14 = .ok (.iconst 0, 1) := dk_3 (dk_at dksX9_ownedShare_0 14 rfl rfl)
theorem dX9_ownedShare_15 : decode cX9_ownedShare 15 = .ok (.iaload, 1) := dk_46 (dk_at dksX9_ownedShare_0 15 rfl rfl)
theorem dX9_ownedShare_16 : decode cX9_ownedShare 16 = .ok (.if_icmp .ge 26, 3) := dk_162 0 26 (dk_at dksX9_ownedShare_0 16 rfl rfl)
theorem dX9_ownedShare_19 : decode cX9_ownedShare 19 = .ok (.iload_n 1, 1) := dk_27 (dk_at dksX9_ownedShare_0 19 rfl rfl)
theorem dX9_ownedShare_20 : decode cX9_ownedShare 20 = .ok (.aload_n 0, 1) := dk_42 (dk_at dksX9_ownedShare_0 20 rfl rfl)
theorem dX9_ownedShare_21 : decode cX9_ownedShare 21 = .ok (.iload_n 2, 1) := dk_28 (dk_at dksX9_ownedShare_0 21 rfl rfl)
theorem dX9_ownedShare_22 : decode cX9_ownedShare 22 = .ok (.invokevirtual 68, 3) := dk_182 0 68 (dk_at dksX9_ownedShare_1 0 rfl rfl)
theorem dX9_ownedShare_25 : decode cX9_ownedShare 25 = .ok (.iconst (-1), 1) := dk_2 (dk_at dksX9_ownedShare_1 3 rfl rfl)
theorem dX9_ownedShare_26 : decode cX9_ownedShare 26 = .ok (.if_icmp .ne 7, 3) := dk_160 0 7 (dk_at dksX9_ownedShare_1 4 rfl rfl)
theorem dX9_ownedShare_29 : decode cX9_ownedShare 29 = .ok (.iconst 0, 1) := dk_3 (dk_at dksX9_ownedShare_1 7 rfl rfl)
theorem dX9_ownedShare_30 : decode cX9_ownedShare 30 = .ok (.goto 4, 3) := dk_167 0 4 (dk_at dksX9_ownedShare_1 8 rfl rfl)
theorem dX9_ownedShare_33 : decode cX9_ownedShare 33 = .ok (.iconst 1, 1) := dk_4 (dk_at dksX9_ownedShare_1 11 rfl rfl)
theorem dX9_ownedShare_34 : decode cX9_ownedShare 34 = .ok (.iadd, 1) := dk_96 (dk_at dksX9_ownedShare_1 12 rfl rfl)
theorem dX9_ownedShare_35 : decode cX9_ownedShare 35 = .ok (.istore_n 1, 1) := dk_60 (dk_at dksX9_ownedShare_1 13 rfl rfl)
theorem dX9_ownedShare_36 : decode cX9_ownedShare 36 = .ok (.iinc 2 1, 3) := dk_132 2 1 (dk_at dksX9_ownedShare_1 14 rfl rfl)
theorem dX9_ownedShare_39 : decode cX9_ownedShare 39 = .ok (.goto (-30), 3) := dk_167 255 226 (dk_at dksX9_ownedShare_1 17 rfl rfl)
theorem dX9_ownedShare_42 : decode cX9_ownedShare 42 = .ok (.aload_n 0, 1) := dk_42 (dk_at dksX9_ownedShare_1 20 rfl rfl)
theorem dX9_ownedShare_43 : decode cX9_ownedShare 43 = .ok (.getfield 7, 3) := dk_180 0 7 (dk_at dksX9_ownedShare_1 21 rfl rfl)
theorem dX9_ownedShare_46 : decode cX9_ownedShare 46 = .ok (.iconst 0, 1) := dk_3 (dk_at dksX9_ownedShare_2 0 rfl rfl)
theorem dX9_ownedShare_47 : decode cX9_ownedShare 47 = .ok (.iaload, 1) := dk_46 (dk_at dksX9_ownedShare_2 1 rfl rfl)
theorem dX9_ownedShare_48 : decode cX9_ownedShare 48 = .ok (.ifCond .ne 7, 3) := dk_154 0 7 (dk_at dksX9_ownedShare_2 2 rfl rfl)
theorem dX9_ownedShare_51 : decode cX9_ownedShare 51 = .ok (.fconst 0, 1) := dk_11 (dk_at dksX9_ownedShare_2 5 rfl rfl)
theorem dX9_ownedShare_52 : decode cX9_ownedShare 52 = .ok (.goto 13, 3) := dk_167 0 13 (dk_at dksX9_ownedShare_2 6 rfl rfl)
theorem dX9_ownedShare_55 : decode cX9_ownedShare 55 = .ok (.iload_n 1, 1) := dk_27 (dk_at dksX9_ownedShare_2 9 rfl rfl)
theorem dX9_ownedShare_56 : decode cX9_ownedShare 56 = .ok (.i2f, 1) := dk_134 (dk_at dksX9_ownedShare_2 10 rfl rfl)
theorem dX9_ownedShare_57 : decode cX9_ownedShare 57 = .ok (.aload_n 0, 1) := dk_42 (dk_at dksX9_ownedShare_2 11 rfl rfl)
theorem dX9_ownedShare_58 : decode cX9_ownedShare 58 = .ok (.getfield 7, 3) := dk_180 0 7 (dk_at dksX9_ownedShare_2 12 rfl rfl)
theorem dX9_ownedShare_61 : decode cX9_ownedShare 61 = .ok (.iconst 0, 1) := dk_3 (dk_at dksX9_ownedShare_2 15 rfl rfl)
theorem dX9_ownedShare_62 : decode cX9_ownedShare 62 = .ok (.iaload, 1) := dk_46 (dk_at dksX9_ownedShare_2 16 rfl rfl)
theorem dX9_ownedShare_63 : decode cX9_ownedShare 63 = .ok (.i2f, 1) := dk_134 (dk_at dksX9_ownedShare_2 17 rfl rfl)
theorem dX9_ownedShare_64 : decode cX9_ownedShare 64 = .ok (.fdiv, 1) := dk_110 (dk_at dksX9_ownedShare_2 18 rfl rfl)
theorem dX9_ownedShare_65 : decode cX9_ownedShare 65 = .ok (.freturn, 1) := dk_174 (dk_at dksX9_ownedShare_2 19 rfl rfl)
abbrev cX9_violations : ByteArray := prog_11_method_150_code
def yX9_violations : MethodName := ⟨RX9, "violations", "()I"⟩
def dkwX9_violations_5 : List UInt8 := [184, 0, 60, 153, 0, 7, 3, 167, 0, 4, 4, 96, 61, 132, 3, 1, 167, 255, 203, 28, 172]
abbrev dktX9_violations_5 : List UInt8 := dkwX9_violations_5 ++ []
def dkwX9_violations_4 : List UInt8 := [182, 0, 99, 7, 164, 0, 7, 4, 167, 0, 4, 3, 96, 61, 28, 42, 29, 5, 182, 0, 64, 3, 16, 99]
abbrev dktX9_violations_4 : List UInt8 := dkwX9_violations_4 ++ dktX9_violations_5
def dkwX9_violations_3 : List UInt8 := [96, 61, 132, 3, 1, 167, 255, 227, 3, 62, 29, 42, 180, 0, 7, 5, 46, 162, 0, 49, 28, 42, 29]
abbrev dktX9_violations_3 : List UInt8 := dkwX9_violations_3 ++ dktX9_violations_4
def dkwX9_violations_2 : List UInt8 := [29, 42, 180, 0, 7, 3, 46, 162, 0, 25, 28, 42, 29, 182, 1, 151, 153, 0, 7, 4, 167, 0, 4, 3]
abbrev dktX9_violations_2 : List UInt8 := dkwX9_violations_2 ++ dktX9_violations_3
def dkwX9_violations_1 : List UInt8 := [46, 100, 42, 180, 0, 7, 16, 9, 46, 96, 60, 27, 156, 0, 8, 27, 116, 167, 0, 4, 27, 61, 3, 62]
abbrev dktX9_violations_1 : List UInt8 := dkwX9_violations_1 ++ dktX9_violations_2
def dkwX9_violations_0 : List UInt8 := [42, 3, 181, 0, 57, 42, 182, 1, 148, 8, 42, 180, 0, 7, 5, 46, 104, 100, 42, 180, 0, 7, 16, 8]
abbrev dktX9_violations_0 : List UInt8 := dkwX9_violations_0 ++ dktX9_violations_1
theorem dksX9_violations_0 : cX9_violations.data.toList.drop 0 = dktX9_violations_0 := by decide +kernel
theorem dksX9_violations_1 : cX9_violations.data.toList.drop 24 = dktX9_violations_1 := dk_seg dksX9_violations_0 24 rfl rfl
theorem dksX9_violations_2 : cX9_violations.data.toList.drop 48 = dktX9_violations_2 := dk_seg dksX9_violations_1 24 rfl rfl
theorem dksX9_violations_3 : cX9_violations.data.toList.drop 72 = dktX9_violations_3 := dk_seg dksX9_violations_2 24 rfl rfl
theorem dksX9_violations_4 : cX9_violations.data.toList.drop 95 = dktX9_violations_4 := dk_seg dksX9_violations_3 23 rfl rfl
theorem dksX9_violations_5 : cX9_violations.data.toList.drop 119 = dktX9_violations_5 := dk_seg dksX9_violations_4 24 rfl rfl
theorem dX9_violations_0 : decode cX9_violations 0 = .ok (.aload_n 0, 1) := dk_42 (dk_at dksX9_violations_0 0 rfl rfl)
theorem dX9_violations_1 : decode cX9_violations 1 = .ok (.iconst 0, 1) := dk_3 (dk_at dksX9_violations_0 1 rfl rfl)
theorem dX9_violations_2 : decode cX9_violations 2 = .ok (.putfield 57, 3) := dk_181 0 57 (dk_at dksX9_violations_0 2 rfl rfl)
theorem dX9_violations_5 : decode cX9_violations 5 = .ok (.aload_n 0, 1) := dk_42 (dk_at dksX9_violations_0 5 rfl rfl)
theorem dX9_violations_6 : decode cX9_violations 6 = .ok (.invokevirtual 404, 3) := dk_182 1 148 (dk_at dksX9_violations_0 6 rfl rfl)
theorem dX9_violations_9 : decode cX9_violations 9 = .ok (.iconst 5, 1) := dk_8 (dk_at dksX9_violations_0 9 rfl rfl)
theorem dX9_violations_10 : decode cX9_violations 10 = .ok (.aload_n 0, 1) := dk_42 (dk_at dksX9_violations_0 10 rfl rfl)
theorem dX9_violations_11 : decode cX9_violations 11 = .ok (.getfield 7, 3) := dk_180 0 7 (dk_at dksX9_violations_0 11 rfl rfl)
theorem dX9_violations_14 : decode cX9_violations 14 = .ok (.iconst 2, 1) := dk_5 (dk_at dksX9_violations_0 14 rfl rfl)
theorem dX9_violations_15 : decode cX9_violations 15 = .ok (.iaload, 1) := dk_46 (dk_at dksX9_violations_0 15 rfl rfl)
theorem dX9_violations_16 : decode cX9_violations 16 = .ok (.imul, 1) := dk_104 (dk_at dksX9_violations_0 16 rfl rfl)
theorem dX9_violations_17 : decode cX9_violations 17 = .ok (.isub, 1) := dk_100 (dk_at dksX9_violations_0 17 rfl rfl)
theorem dX9_violations_18 : decode cX9_violations 18 = .ok (.aload_n 0, 1) := dk_42 (dk_at dksX9_violations_0 18 rfl rfl)
theorem dX9_violations_19 : decode cX9_violations 19 = .ok (.getfield 7, 3) := dk_180 0 7 (dk_at dksX9_violations_0 19 rfl rfl)
theorem dX9_violations_22 : decode cX9_violations 22 = .ok (.bipush 8, 2) := dk_16 8 (dk_at dksX9_violations_0 22 rfl rfl)
theorem dX9_violations_24 : decode cX9_violations 24 = .ok (.iaload, 1) := dk_46 (dk_at dksX9_violations_1 0 rfl rfl)
theorem dX9_violations_25 : decode cX9_violations 25 = .ok (.isub, 1) := dk_100 (dk_at dksX9_violations_1 1 rfl rfl)
theorem dX9_violations_26 : decode cX9_violations 26 = .ok (.aload_n 0, 1) := dk_42 (dk_at dksX9_violations_1 2 rfl rfl)
theorem dX9_violations_27 : decode cX9_violations 27 = .ok (.getfield 7, 3) := dk_180 0 7 (dk_at dksX9_violations_1 3 rfl rfl)
theorem dX9_violations_30 : decode cX9_violations 30 = .ok (.bipush 9, 2) := dk_16 9 (dk_at dksX9_violations_1 6 rfl rfl)
theorem dX9_violations_32 : decode cX9_violations 32 = .ok (.iaload, 1) := dk_46 (dk_at dksX9_violations_1 8 rfl rfl)
theorem dX9_violations_33 : decode cX9_violations 33 = .ok (.iadd, 1) := dk_96 (dk_at dksX9_violations_1 9 rfl rfl)
theorem dX9_violations_34 : decode cX9_violations 34 = .ok (.istore_n 1, 1) := dk_60 (dk_at dksX9_violations_1 10 rfl rfl)
theorem dX9_violations_35 : decode cX9_violations 35 = .ok (.iload_n 1, 1) := dk_27 (dk_at dksX9_violations_1 11 rfl rfl)
theorem dX9_violations_36 : decode cX9_violations 36 = .ok (.ifCond .ge 8, 3) := dk_156 0 8 (dk_at dksX9_violations_1 12 rfl rfl)
theorem dX9_violations_39 : decode cX9_violations 39 = .ok (.iload_n 1, 1) := dk_27 (dk_at dksX9_violations_1 15 rfl rfl)
theorem dX9_violations_40 : decode cX9_violations 40 = .ok (.ineg, 1) := dk_116 (dk_at dksX9_violations_1 16 rfl rfl)
theorem dX9_violations_41 : decode cX9_violations 41 = .ok (.goto 4, 3) := dk_167 0 4 (dk_at dksX9_violations_1 17 rfl rfl)
theorem dX9_violations_44 : decode cX9_violations 44 = .ok (.iload_n 1, 1) := dk_27 (dk_at dksX9_violations_1 20 rfl rfl)
theorem dX9_violations_45 : decode cX9_violations 45 = .ok (.istore_n 2, 1) := dk_61 (dk_at dksX9_violations_1 21 rfl rfl)
theorem dX9_violations_46 : decode cX9_violations 46 = .ok (.iconst 0, 1) := dk_3 (dk_at dksX9_violations_1 22 rfl rfl)
theorem dX9_violations_47 : decode cX9_violations 47 = .ok (.istore_n 3, 1) := dk_62 (dk_at dksX9_violations_1 23 rfl rfl)
theorem dX9_violations_48 : decode cX9_violations 48 = .ok (.iload_n 3, 1) := dk_29 (dk_at dksX9_violations_2 0 rfl rfl)
theorem dX9_violations_49 : decode cX9_violations 49 = .ok (.aload_n 0, 1) := dk_42 (dk_at dksX9_violations_2 1 rfl rfl)
theorem dX9_violations_50 : decode cX9_violations 50 = .ok (.getfield 7, 3) := dk_180 0 7 (dk_at dksX9_violations_2 2 rfl rfl)
theorem dX9_violations_53 : decode cX9_violations 53 = .ok (.iconst 0, 1) := dk_3 (dk_at dksX9_violations_2 5 rfl rfl)
theorem dX9_violations_54 : decode cX9_violations 54 = .ok (.iaload, 1) := dk_46 (dk_at dksX9_violations_2 6 rfl rfl)
theorem dX9_violations_55 : decode cX9_violations 55 = .ok (.if_icmp .ge 25, 3) := dk_162 0 25 (dk_at dksX9_violations_2 7 rfl rfl)
theorem dX9_violations_58 : decode cX9_violations 58 = .ok (.iload_n 2, 1) := dk_28 (dk_at dksX9_violations_2 10 rfl rfl)
theorem dX9_violations_59 : decode cX9_violations 59 = .ok (.aload_n 0, 1) := dk_42 (dk_at dksX9_violations_2 11 rfl rfl)
theorem dX9_violations_60 : decode cX9_violations 60 = .ok (.iload_n 3, 1) := dk_29 (dk_at dksX9_violations_2 12 rfl rfl)
theorem dX9_violations_61 : decode cX9_violations 61 = .ok (.invokevirtual 407, 3) := dk_182 1 151 (dk_at dksX9_violations_2 13 rfl rfl)
theorem dX9_violations_64 : decode cX9_violations 64 = .ok (.ifCond .eq 7, 3) := dk_153 0 7 (dk_at dksX9_violations_2 16 rfl rfl)
theorem dX9_violations_67 : decode cX9_violations 67 = .ok (.iconst 1, 1) := dk_4 (dk_at dksX9_violations_2 19 rfl rfl)
theorem dX9_violations_68 : decode cX9_violations 68 = .ok (.goto 4, 3) := dk_167 0 4 (dk_at dksX9_violations_2 20 rfl rfl)
theorem dX9_violations_71 : decode cX9_violations 71 = .ok (.iconst 0, 1) := dk_3 (dk_at dksX9_violations_2 23 rfl rfl)
theorem dX9_violations_72 : decode cX9_violations 72 = .ok (.iadd, 1) := dk_96 (dk_at dksX9_violations_3 0 rfl rfl)
theorem dX9_violations_73 : decode cX9_violations 73 = .ok (.istore_n 2, 1) := dk_61 (dk_at dksX9_violations_3 1 rfl rfl)
theorem dX9_violations_74 : decode cX9_violations 74 = .ok (.iinc 3 1, 3) := dk_132 3 1 (dk_at dksX9_violations_3 2 rfl rfl)
theorem dX9_violations_77 : decode cX9_violations 77 = .ok (.goto (-29), 3) := dk_167 255 227 (dk_at dksX9_violations_3 5 rfl rfl)
theorem dX9_violations_80 : decode cX9_violations 80 = .ok (.iconst 0, 1) := dk_3 (dk_at dksX9_violations_3 8 rfl rfl)
theorem dX9_violations_81 : decode cX9_violations 81 = .ok (.istore_n 3, 1) := dk_62 (dk_at dksX9_violations_3 9 rfl rfl)
theorem dX9_violations_82 : decode cX9_violations 82 = .ok (.iload_n 3, 1) := dk_29 (dk_at dksX9_violations_3 10 rfl rfl)
theorem dX9_violations_83 : decode cX9_violations 83 = .ok (.aload_n 0, 1) := dk_42 (dk_at dksX9_violations_3 11 rfl rfl)
theorem dX9_violations_84 : decode cX9_violations 84 = .ok (.getfield 7, 3) := dk_180 0 7 (dk_at dksX9_violations_3 12 rfl rfl)
theorem dX9_violations_87 : decode cX9_violations 87 = .ok (.iconst 2, 1) := dk_5 (dk_at dksX9_violations_3 15 rfl rfl)
theorem dX9_violations_88 : decode cX9_violations 88 = .ok (.iaload, 1) := dk_46 (dk_at dksX9_violations_3 16 rfl rfl)
theorem dX9_violations_89 : decode cX9_violations 89 = .ok (.if_icmp .ge 49, 3) := dk_162 0 49 (dk_at dksX9_violations_3 17 rfl rfl)
theorem dX9_violations_92 : decode cX9_violations 92 = .ok (.iload_n 2, 1) := dk_28 (dk_at dksX9_violations_3 20 rfl rfl)
theorem dX9_violations_93 : decode cX9_violations 93 = .ok (.aload_n 0, 1) := dk_42 (dk_at dksX9_violations_3 21 rfl rfl)
theorem dX9_violations_94 : decode cX9_violations 94 = .ok (.iload_n 3, 1) := dk_29 (dk_at dksX9_violations_3 22 rfl rfl)
theorem dX9_violations_95 : decode cX9_violations 95 = .ok (.invokevirtual 99, 3) := dk_182 0 99 (dk_at dksX9_violations_4 0 rfl rfl)
theorem dX9_violations_98 : decode cX9_violations 98 = .ok (.iconst 4, 1) := dk_7 (dk_at dksX9_violations_4 3 rfl rfl)
theorem dX9_violations_99 : decode cX9_violations 99 = .ok (.if_icmp .le 7, 3) := dk_164 0 7 (dk_at dksX9_violations_4 4 rfl rfl)
theorem dX9_violations_102 : decode cX9_violations 102 = .ok (.iconst 1, 1) := dk_4 (dk_at dksX9_violations_4 7 rfl rfl)
theorem dX9_violations_103 : decode cX9_violations 103 = .ok (.goto 4, 3) := dk_167 0 4 (dk_at dksX9_violations_4 8 rfl rfl)
theorem dX9_violations_106 : decode cX9_violations 106 = .ok (.iconst 0, 1) := dk_3 (dk_at dksX9_violations_4 11 rfl rfl)
theorem dX9_violations_107 : decode cX9_violations 107 = .ok (.iadd, 1) := dk_96 (dk_at dksX9_violations_4 12 rfl rfl)
theorem dX9_violations_108 : decode cX9_violations 108 = .ok (.istore_n 2, 1) := dk_61 (dk_at dksX9_violations_4 13 rfl rfl)
theorem dX9_violations_109 : decode cX9_violations 109 = .ok (.iload_n 2, 1) := dk_28 (dk_at dksX9_violations_4 14 rfl rfl)
theorem dX9_violations_110 : decode cX9_violations 110 = .ok (.aload_n 0, 1) := dk_42 (dk_at dksX9_violations_4 15 rfl rfl)
theorem dX9_violations_111 : decode cX9_violations 111 = .ok (.iload_n 3, 1) := dk_29 (dk_at dksX9_violations_4 16 rfl rfl)
theorem dX9_violations_112 : decode cX9_violations 112 = .ok (.iconst 2, 1) := dk_5 (dk_at dksX9_violations_4 17 rfl rfl)
theorem dX9_violations_113 : decode cX9_violations 113 = .ok (.invokevirtual 64, 3) := dk_182 0 64 (dk_at dksX9_violations_4 18 rfl rfl)
theorem dX9_violations_116 : decode cX9_violations 116 = .ok (.iconst 0, 1) := dk_3 (dk_at dksX9_violations_4 21 rfl rfl)
theorem dX9_violations_117 : decode cX9_violations 117 = .ok (.bipush 99, 2) := dk_16 99 (dk_at dksX9_violations_4 22 rfl rfl)
theorem dX9_violations_119 : decode cX9_violations 119 = .ok (.invokestatic 60, 3) := dk_184 0 60 (dk_at dksX9_violations_5 0 rfl rfl)
theorem dX9_violations_122 : decode cX9_violations 122 = .ok (.ifCond .eq 7, 3) := dk_153 0 7 (dk_at dksX9_violations_5 3 rfl rfl)
theorem dX9_violations_125 : decode cX9_violations 125 = .ok (.iconst 0, 1) := dk_3 (dk_at dksX9_violations_5 6 rfl rfl)
theorem dX9_violations_126 : decode cX9_violations 126 = .ok (.goto 4, 3) := dk_167 0 4 (dk_at dksX9_violations_5 7 rfl rfl)
theorem dX9_violations_129 : decode cX9_violations 129 = .ok (.iconst 1, 1) := dk_4 (dk_at dksX9_violations_5 10 rfl rfl)
theorem dX9_violations_130 : decode cX9_violations 130 = .ok (.iadd, 1) := dk_96 (dk_at dksX9_violations_5 11 rfl rfl)
theorem dX9_violations_131 : decode cX9_violations 131 = .ok (.istore_n 2, 1) := dk_61 (dk_at dksX9_violations_5 12 rfl rfl)
theorem dX9_violations_132 : decode cX9_violations 132 = .ok (.iinc 3 1, 3) := dk_132 3 1 (dk_at dksX9_violations_5 13 rfl rfl)
theorem dX9_violations_135 : decode cX9_violations 135 = .ok (.goto (-53), 3) := dk_167 255 203 (dk_at dksX9_violations_5 16 rfl rfl)
theorem dX9_violations_138 : decode cX9_violations 138 = .ok (.iload_n 2, 1) := dk_28 (dk_at dksX9_violations_5 19 rfl rfl)
theorem dX9_violations_139 : decode cX9_violations 139 = .ok (.ireturn, 1) := dk_172 (dk_at dksX9_violations_5 20 rfl rfl)
abbrev cX9_isCrowded : ByteArray := prog_11_method_149_code
def yX9_isCrowded : MethodName := ⟨RX9, "isCrowded", "(I)Z"⟩
def dkwX9_isCrowded_2 : List UInt8 := [167, 0, 4, 3, 172]
abbrev dktX9_isCrowded_2 : List UInt8 := dkwX9_isCrowded_2 ++ []
def dkwX9_isCrowded_1 : List UInt8 := [160, 0, 7, 4, 167, 0, 4, 3, 96, 61, 132, 3, 1, 167, 255, 225, 28, 4, 164, 0, 7, 4]
abbrev dktX9_isCrowded_1 : List UInt8 := dkwX9_isCrowded_1 ++ dktX9_isCrowded_2
def dkwX9_isCrowded_0 : List UInt8 := [3, 61, 3, 62, 29, 42, 180, 0, 7, 5, 46, 162, 0, 27, 28, 42, 29, 6, 182, 0, 64, 27]
abbrev dktX9_isCrowded_0 : List UInt8 := dkwX9_isCrowded_0 ++ dktX9_isCrowded_1
theorem dksX9_isCrowded_0 : cX9_isCrowded.data.toList.drop 0 = dktX9_isCrowded_0 := by decide +kernel
theorem dksX9_isCrowded_1 : cX9_isCrowded.data.toList.drop 22 = dktX9_isCrowded_1 := dk_seg dksX9_isCrowded_0 22 rfl rfl
theorem dksX9_isCrowded_2 : cX9_isCrowded.data.toList.drop 44 = dktX9_isCrowded_2 := dk_seg dksX9_isCrowded_1 22 rfl rfl
theorem dX9_isCrowded_0 : decode cX9_isCrowded 0 = .ok (.iconst 0, 1) := dk_3 (dk_at dksX9_isCrowded_0 0 rfl rfl)
theorem dX9_isCrowded_1 : decode cX9_isCrowded 1 = .ok (.istore_n 2, 1) := dk_61 (dk_at dksX9_isCrowded_0 1 rfl rfl)
theorem dX9_isCrowded_2 : decode cX9_isCrowded 2 = .ok (.iconst 0, 1) := dk_3 (dk_at dksX9_isCrowded_0 2 rfl rfl)
theorem dX9_isCrowded_3 : decode cX9_isCrowded 3 = .ok (.istore_n 3, 1) := dk_62 (dk_at dksX9_isCrowded_0 3 rfl rfl)
theorem dX9_isCrowded_4 : decode cX9_isCrowded 4 = .ok (.iload_n 3, 1) := dk_29 (dk_at dksX9_isCrowded_0 4 rfl rfl)
theorem dX9_isCrowded_5 : decode cX9_isCrowded 5 = .ok (.aload_n 0, 1) := dk_42 (dk_at dksX9_isCrowded_0 5 rfl rfl)
theorem dX9_isCrowded_6 : decode cX9_isCrowded 6 = .ok (.getfield 7, 3) := dk_180 0 7 (dk_at dksX9_isCrowded_0 6 rfl rfl)
theorem dX9_isCrowded_9 : decode cX9_isCrowded 9 = .ok (.iconst 2, 1) := dk_5 (dk_at dksX9_isCrowded_0 9 rfl rfl)
theorem dX9_isCrowded_10 : decode cX9_isCrowded 10 = .ok (.iaload, 1) := dk_46 (dk_at dksX9_isCrowded_0 10 rfl rfl)
theorem dX9_isCrowded_11 : decode cX9_isCrowded 11 = .ok (.if_icmp .ge 27, 3) := dk_162 0 27 (dk_at dksX9_isCrowded_0 11 rfl rfl)
theorem dX9_isCrowded_14 : decode cX9_isCrowded 14 = .ok (.iload_n 2, 1) := dk_28 (dk_at dksX9_isCrowded_0 14 rfl rfl)
theorem dX9_isCrowded_15 : decode cX9_isCrowded 15 = .ok (.aload_n 0, 1) := dk_42 (dk_at dksX9_isCrowded_0 15 rfl rfl)
theorem dX9_isCrowded_16 : decode cX9_isCrowded 16 = .ok (.iload_n 3, 1) := dk_29 (dk_at dksX9_isCrowded_0 16 rfl rfl)
theorem dX9_isCrowded_17 : decode cX9_isCrowded 17 = .ok (.iconst 3, 1) := dk_6 (dk_at dksX9_isCrowded_0 17 rfl rfl)
theorem dX9_isCrowded_18 : decode cX9_isCrowded 18 = .ok (.invokevirtual 64, 3) := dk_182 0 64 (dk_at dksX9_isCrowded_0 18 rfl rfl)
theorem dX9_isCrowded_21 : decode cX9_isCrowded 21 = .ok (.iload_n 1, 1) := dk_27 (dk_at dksX9_isCrowded_0 21 rfl rfl)
theorem dX9_isCrowded_22 : decode cX9_isCrowded 22 = .ok (.if_icmp .ne 7, 3) := dk_160 0 7 (dk_at dksX9_isCrowded_1 0 rfl rfl)
theorem dX9_isCrowded_25 : decode cX9_isCrowded 25 = .ok (.iconst 1, 1) := dk_4 (dk_at dksX9_isCrowded_1 3 rfl rfl)
theorem dX9_isCrowded_26 : decode cX9_isCrowded 26 = .ok (.goto 4, 3) := dk_167 0 4 (dk_at dksX9_isCrowded_1 4 rfl rfl)
theorem dX9_isCrowded_29 : decode cX9_isCrowded 29 = .ok (.iconst 0, 1) := dk_3 (dk_at dksX9_isCrowded_1 7 rfl rfl)
theorem dX9_isCrowded_30 : decode cX9_isCrowded 30 = .ok (.iadd, 1) := dk_96 (dk_at dksX9_isCrowded_1 8 rfl rfl)
theorem dX9_isCrowded_31 : decode cX9_isCrowded 31 = .ok (.istore_n 2, 1) := dk_61 (dk_at dksX9_isCrowded_1 9 rfl rfl)
theorem dX9_isCrowded_32 : decode cX9_isCrowded 32 = .ok (.iinc 3 1, 3) := dk_132 3 1 (dk_at dksX9_isCrowded_1 10 rfl rfl)
theorem dX9_isCrowded_35 : decode cX9_isCrowded 35 = .ok (.goto (-31), 3) := dk_167 255 225 (dk_at dksX9_isCrowded_1 13 rfl rfl)
theorem dX9_isCrowded_38 : decode cX9_isCrowded 38 = .ok (.iload_n 2, 1) := dk_28 (dk_at dksX9_isCrowded_1 16 rfl rfl)
theorem dX9_isCrowded_39 : decode cX9_isCrowded 39 = .ok (.iconst 1, 1) := dk_4 (dk_at dksX9_isCrowded_1 17 rfl rfl)
theorem dX9_isCrowded_40 : decode cX9_isCrowded 40 = .ok (.if_icmp .le 7, 3) := dk_164 0 7 (dk_at dksX9_isCrowded_1 18 rfl rfl)
theorem dX9_isCrowded_43 : decode cX9_isCrowded 43 = .ok (.iconst 1, 1) := dk_4 (dk_at dksX9_isCrowded_1 21 rfl rfl)
theorem dX9_isCrowded_44 : decode cX9_isCrowded 44 = .ok (.goto 4, 3) := dk_167 0 4 (dk_at dksX9_isCrowded_2 0 rfl rfl)
theorem dX9_isCrowded_47 : decode cX9_isCrowded 47 = .ok (.iconst 0, 1) := dk_3 (dk_at dksX9_isCrowded_2 3 rfl rfl)
theorem dX9_isCrowded_48 : decode cX9_isCrowded 48 = .ok (.ireturn, 1) := dk_172 (dk_at dksX9_isCrowded_2 4 rfl rfl)
abbrev cX9_writeRoof : ByteArray := prog_11_method_153_code
def yX9_writeRoof : MethodName := ⟨RX9, "writeRoof", "()I"⟩
def dkwX9_writeRoof_3 : List UInt8 := [182, 1, 160, 132, 1, 1, 167, 255, 195, 42, 180, 1, 154, 172]
abbrev dktX9_writeRoof_3 : List UInt8 := dkwX9_writeRoof_3 ++ []
def dkwX9_writeRoof_2 : List UInt8 := [182, 1, 157, 42, 16, 99, 42, 27, 182, 0, 87, 182, 1, 160, 42, 16, 111, 42, 27, 182, 0, 68]
abbrev dktX9_writeRoof_2 : List UInt8 := dkwX9_writeRoof_2 ++ dktX9_writeRoof_3
def dkwX9_writeRoof_1 : List UInt8 := [158, 0, 9, 42, 16, 32, 182, 1, 157, 42, 16, 48, 42, 180, 0, 7, 16, 10, 27, 96, 46, 96]
abbrev dktX9_writeRoof_1 : List UInt8 := dkwX9_writeRoof_1 ++ dktX9_writeRoof_2
def dkwX9_writeRoof_0 : List UInt8 := [42, 3, 181, 0, 57, 42, 3, 181, 1, 154, 3, 60, 27, 42, 180, 0, 7, 3, 46, 162, 0, 57, 27]
abbrev dktX9_writeRoof_0 : List UInt8 := dkwX9_writeRoof_0 ++ dktX9_writeRoof_1
theorem dksX9_writeRoof_0 : cX9_writeRoof.data.toList.drop 0 = dktX9_writeRoof_0 := by decide +kernel
theorem dksX9_writeRoof_1 : cX9_writeRoof.data.toList.drop 23 = dktX9_writeRoof_1 := dk_seg dksX9_writeRoof_0 23 rfl rfl
theorem dksX9_writeRoof_2 : cX9_writeRoof.data.toList.drop 45 = dktX9_writeRoof_2 := dk_seg dksX9_writeRoof_1 22 rfl rfl
theorem dksX9_writeRoof_3 : cX9_writeRoof.data.toList.drop 67 = dktX9_writeRoof_3 := dk_seg dksX9_writeRoof_2 22 rfl rfl
theorem dX9_writeRoof_0 : decode cX9_writeRoof 0 = .ok (.aload_n 0, 1) := dk_42 (dk_at dksX9_writeRoof_0 0 rfl rfl)
theorem dX9_writeRoof_1 : decode cX9_writeRoof 1 = .ok (.iconst 0, 1) := dk_3 (dk_at dksX9_writeRoof_0 1 rfl rfl)
theorem dX9_writeRoof_2 : decode cX9_writeRoof 2 = .ok (.putfield 57, 3) := dk_181 0 57 (dk_at dksX9_writeRoof_0 2 rfl rfl)
theorem dX9_writeRoof_5 : decode cX9_writeRoof 5 = .ok (.aload_n 0, 1) := dk_42 (dk_at dksX9_writeRoof_0 5 rfl rfl)
theorem dX9_writeRoof_6 : decode cX9_writeRoof 6 = .ok (.iconst 0, 1) := dk_3 (dk_at dksX9_writeRoof_0 6 rfl rfl)
theorem dX9_writeRoof_7 : decode cX9_writeRoof 7 = .ok (.putfield 410, 3) := dk_181 1 154 (dk_at dksX9_writeRoof_0 7 rfl rfl)
theorem dX9_writeRoof_10 : decode cX9_writeRoof 10 = .ok (.iconst 0, 1) := dk_3 (dk_at dksX9_writeRoof_0 10 rfl rfl)
theorem dX9_writeRoof_11 : decode cX9_writeRoof 11 = .ok (.istore_n 1, 1) := dk_60 (dk_at dksX9_writeRoof_0 11 rfl rfl)
theorem dX9_writeRoof_12 : decode cX9_writeRoof 12 = .ok (.iload_n 1, 1) := dk_27 (dk_at dksX9_writeRoof_0 12 rfl rfl)
theorem dX9_writeRoof_13 : decode cX9_writeRoof 13 = .ok (.aload_n 0, 1) := dk_42 (dk_at dksX9_writeRoof_0 13 rfl rfl)
theorem dX9_writeRoof_14 : decode cX9_writeRoof 14 = .ok (.getfield 7, 3) := dk_180 0 7 (dk_at dksX9_writeRoof_0 14 rfl rfl)
theorem dX9_writeRoof_17 : decode cX9_writeRoof 17 = .ok (.iconst 0, 1) := dk_3 (dk_at dksX9_writeRoof_0 17 rfl rfl)
theorem dX9_writeRoof_18 : decode cX9_writeRoof 18 = .ok (.iaload, 1) := dk_46 (dk_at dksX9_writeRoof_0 18 rfl rfl)
theorem dX9_writeRoof_19 : decode cX9_writeRoof 19 = .ok (.if_icmp .ge 57, 3) := dk_162 0 57 (dk_at dksX9_writeRoof_0 19 rfl rfl)
theorem dX9_writeRoof_22 : decode cX9_writeRoof 22 = .ok (.iload_n 1, 1) := dk_27 (dk_at dksX9_writeRoof_0 22 rfl rfl)
theorem dX9_writeRoof_23 : decode cX9_writeRoof 23 = .ok (.ifCond .le 9, 3) := dk_158 0 9 (dk_at dksX9_writeRoof_1 0 rfl rfl)
theorem dX9_writeRoof_26 : decode cX9_writeRoof 26 = .ok (.aload_n 0, 1) := dk_42 (dk_at dksX9_writeRoof_1 3 rfl rfl)
theorem dX9_writeRoof_27 : decode cX9_writeRoof 27 = .ok (.bipush 32, 2) := dk_16 32 (dk_at dksX9_writeRoof_1 4 rfl rfl)
theorem dX9_writeRoof_29 : decode cX9_writeRoof 29 = .ok (.invokevirtual 413, 3) := dk_182 1 157 (dk_at dksX9_writeRoof_1 6 rfl rfl)
theorem dX9_writeRoof_32 : decode cX9_writeRoof 32 = .ok (.aload_n 0, 1) := dk_42 (dk_at dksX9_writeRoof_1 9 rfl rfl)
theorem dX9_writeRoof_33 : decode cX9_writeRoof 33 = .ok (.bipush 48, 2) := dk_16 48 (dk_at dksX9_writeRoof_1 10 rfl rfl)
theorem dX9_writeRoof_35 : decode cX9_writeRoof 35 = .ok (.aload_n 0, 1) := dk_42 (dk_at dksX9_writeRoof_1 12 rfl rfl)
theorem dX9_writeRoof_36 : decode cX9_writeRoof 36 = .ok (.getfield 7, 3) := dk_180 0 7 (dk_at dksX9_writeRoof_1 13 rfl rfl)
theorem dX9_writeRoof_39 : decode cX9_writeRoof 39 = .ok (.bipush 10, 2) := dk_16 10 (dk_at dksX9_writeRoof_1 16 rfl rfl)
theorem dX9_writeRoof_41 : decode cX9_writeRoof 41 = .ok (.iload_n 1, 1) := dk_27 (dk_at dksX9_writeRoof_1 18 rfl rfl)
theorem dX9_writeRoof_42 : decode cX9_writeRoof 42 = .ok (.iadd, 1) := dk_96 (dk_at dksX9_writeRoof_1 19 rfl rfl)
theorem dX9_writeRoof_43 : decode cX9_writeRoof 43 = .ok (.iaload, 1) := dk_46 (dk_at dksX9_writeRoof_1 20 rfl rfl)
theorem dX9_writeRoof_44 : decode cX9_writeRoof 44 = .ok (.iadd, 1) := dk_96 (dk_at dksX9_writeRoof_1 21 rfl rfl)
theorem dX9_writeRoof_45 : decode cX9_writeRoof 45 = .ok (.invokevirtual 413, 3) := dk_182 1 157 (dk_at dksX9_writeRoof_2 0 rfl rfl)
theorem dX9_writeRoof_48 : decode cX9_writeRoof 48 = .ok (.aload_n 0, 1) := dk_42 (dk_at dksX9_writeRoof_2 3 rfl rfl)
theorem dX9_writeRoof_49 : decode cX9_writeRoof 49 = .ok (.bipush 99, 2) := dk_16 99 (dk_at dksX9_writeRoof_2 4 rfl rfl)
theorem dX9_writeRoof_51 : decode cX9_writeRoof 51 = .ok (.aload_n 0, 1) := dk_42 (dk_at dksX9_writeRoof_2 6 rfl rfl)
theorem dX9_writeRoof_52 : decode cX9_writeRoof 52 = .ok (.iload_n 1, 1) := dk_27 (dk_at dksX9_writeRoof_2 7 rfl rfl)
theorem dX9_writeRoof_53 : decode cX9_writeRoof 53 = .ok (.invokevirtual 87, 3) := dk_182 0 87 (dk_at dksX9_writeRoof_2 8 rfl rfl)
theorem dX9_writeRoof_56 : decode cX9_writeRoof 56 = .ok (.invokevirtual 416, 3) := dk_182 1 160 (dk_at dksX9_writeRoof_2 11 rfl rfl)
theorem dX9_writeRoof_59 : decode cX9_writeRoof 59 = .ok (.aload_n 0, 1) := dk_42 (dk_at dksX9_writeRoof_2 14 rfl rfl)
theorem dX9_writeRoof_60 : decode cX9_writeRoof 60 = .ok (.bipush 111, 2) := dk_16 111 (dk_at dksX9_writeRoof_2 15 rfl rfl)
theorem dX9_writeRoof_62 : decode cX9_writeRoof 62 = .ok (.aload_n 0, 1) := dk_42 (dk_at dksX9_writeRoof_2 17 rfl rfl)
theorem dX9_writeRoof_63 : decode cX9_writeRoof 63 = .ok (.iload_n 1, 1) := dk_27 (dk_at dksX9_writeRoof_2 18 rfl rfl)
theorem dX9_writeRoof_64 : decode cX9_writeRoof 64 = .ok (.invokevirtual 68, 3) := dk_182 0 68 (dk_at dksX9_writeRoof_2 19 rfl rfl)
theorem dX9_writeRoof_67 : decode cX9_writeRoof 67 = .ok (.invokevirtual 416, 3) := dk_182 1 160 (dk_at dksX9_writeRoof_3 0 rfl rfl)
theorem dX9_writeRoof_70 : decode cX9_writeRoof 70 = .ok (.iinc 1 1, 3) := dk_132 1 1 (dk_at dksX9_writeRoof_3 3 rfl rfl)
theorem dX9_writeRoof_73 : decode cX9_writeRoof 73 = .ok (.goto (-61), 3) := dk_167 255 195 (dk_at dksX9_writeRoof_3 6 rfl rfl)
theorem dX9_writeRoof_76 : decode cX9_writeRoof 76 = .ok (.aload_n 0, 1) := dk_42 (dk_at dksX9_writeRoof_3 9 rfl rfl)
theorem dX9_writeRoof_77 : decode cX9_writeRoof 77 = .ok (.getfield 410, 3) := dk_180 1 154 (dk_at dksX9_writeRoof_3 10 rfl rfl)
theorem dX9_writeRoof_80 : decode cX9_writeRoof 80 = .ok (.ireturn, 1) := dk_172 (dk_at dksX9_writeRoof_3 13 rfl rfl)
abbrev cX9_write : ByteArray := prog_11_method_151_code
def yX9_write : MethodName := ⟨RX9, "write", "(I)V"⟩
def dkwX9_write_0 : List UInt8 := [42, 180, 0, 38, 42, 180, 1, 154, 27, 146, 85, 42, 89, 180, 1, 154, 4, 96, 181, 1, 154, 177]
abbrev dktX9_write_0 : List UInt8 := dkwX9_write_0 ++ []
theorem dksX9_write_0 : cX9_write.data.toList.drop 0 = dktX9_write_0 := by decide +kernel
theorem dX9_write_0 : decode cX9_write 0 = .ok (.aload_n 0, 1) := dk_42 (dk_at dksX9_write_0 0 rfl rfl)
theorem dX9_write_1 : decode cX9_write 1 = .ok (.getfield 38, 3) := dk_180 0 38 (dk_at dksX9_write_0 1 rfl rfl)
theorem dX9_write_4 : decode cX9_write 4 = .ok (.aload_n 0, 1) := dk_42 (dk_at dksX9_write_0 4 rfl rfl)
theorem dX9_write_5 : decode cX9_write 5 = .ok (.getfield 410, 3) := dk_180 1 154 (dk_at dksX9_write_0 5 rfl rfl)
theorem dX9_write_8 : decode cX9_write 8 = .ok (.iload_n 1, 1) := dk_27 (dk_at dksX9_write_0 8 rfl rfl)
theorem dX9_write_9 : decode cX9_write 9 = .ok (.i2c, 1) := dk_146 (dk_at dksX9_write_0 9 rfl rfl)
theorem dX9_write_10 : decode cX9_write 10 = .ok (.castore, 1) := dk_85 (dk_at dksX9_write_0 10 rfl rfl)
theorem dX9_write_11 : decode cX9_write 11 = .ok (.aload_n 0, 1) := dk_42 (dk_at dksX9_write_0 11 rfl rfl)
theorem dX9_write_12 : decode cX9_write 12 = .ok (.dup, 1) := dk_89 (dk_at dksX9_write_0 12 rfl rfl)
theorem dX9_write_13 : decode cX9_write 13 = .ok (.getfield 410, 3) := dk_180 1 154 (dk_at dksX9_write_0 13 rfl rfl)
theorem dX9_write_16 : decode cX9_write 16 = .ok (.iconst 1, 1) := dk_4 (dk_at dksX9_write_0 16 rfl rfl)
theorem dX9_write_17 : decode cX9_write 17 = .ok (.iadd, 1) := dk_96 (dk_at dksX9_write_0 17 rfl rfl)
theorem dX9_write_18 : decode cX9_write 18 = .ok (.putfield 410, 3) := dk_181 1 154 (dk_at dksX9_write_0 18 rfl rfl)
theorem dX9_write_21 : decode cX9_write 21 = .ok (.return_, 1) := dk_177 (dk_at dksX9_write_0 21 rfl rfl)
abbrev cX9_writeCat : ByteArray := prog_11_method_152_code
def yX9_writeCat : MethodName := ⟨RX9, "writeCat", "(II)V"⟩
def dkwX9_writeCat_0 : List UInt8 := [28, 2, 159, 0, 16, 42, 27, 182, 1, 157, 42, 16, 48, 28, 96, 182, 1, 157, 177]
abbrev dktX9_writeCat_0 : List UInt8 := dkwX9_writeCat_0 ++ []
theorem dksX9_writeCat_0 : cX9_writeCat.data.toList.drop 0 = dktX9_writeCat_0 := by decide +kernel
theorem dX9_writeCat_0 : decode cX9_writeCat 0 = .ok (.iload_n 2, 1) := dk_28 (dk_at dksX9_writeCat_0 0 rfl rfl)
theorem dX9_writeCat_1 : decode cX9_writeCat 1 = .ok (.iconst (-1), 1) := dk_2 (dk_at dksX9_writeCat_0 1 rfl rfl)
theorem dX9_writeCat_2 : decode cX9_writeCat 2 = .ok (.if_icmp .eq 16, 3) := dk_159 0 16 (dk_at dksX9_writeCat_0 2 rfl rfl)
theorem dX9_writeCat_5 : decode cX9_writeCat 5 = .ok (.aload_n 0, 1) := dk_42 (dk_at dksX9_writeCat_0 5 rfl rfl)
theorem dX9_writeCat_6 : decode cX9_writeCat 6 = .ok (.iload_n 1, 1) := dk_27 (dk_at dksX9_writeCat_0 6 rfl rfl)
theorem dX9_writeCat_7 : decode cX9_writeCat 7 = .ok (.invokevirtual 413, 3) := dk_182 1 157 (dk_at dksX9_writeCat_0 7 rfl rfl)
theorem dX9_writeCat_10 : decode cX9_writeCat 10 = .ok (.aload_n 0, 1) := dk_42 (dk_at dksX9_writeCat_0 10 rfl rfl)
theorem dX9_writeCat_11 : decode cX9_writeCat 11 = .ok (.bipush 48, 2) := dk_16 48 (dk_at dksX9_writeCat_0 11 rfl rfl)
theorem dX9_writeCat_13 : decode cX9_writeCat 13 = .ok (.iload_n 2, 1) := dk_28 (dk_at dksX9_writeCat_0 13 rfl rfl)
theorem dX9_writeCat_14 : decode cX9_writeCat 14 = .ok (.iadd, 1) := dk_96 (dk_at dksX9_writeCat_0 14 rfl rfl)
theorem dX9_writeCat_15 : decode cX9_writeCat 15 = .ok (.invokevirtual 413, 3) := dk_182 1 157 (dk_at dksX9_writeCat_0 15 rfl rfl)
theorem dX9_writeCat_18 : decode cX9_writeCat 18 = .ok (.return_, 1) := dk_177 (dk_at dksX9_writeCat_0 18 rfl rfl)
abbrev cX9_reportByte : ByteArray := prog_11_method_154_code
def yX9_reportByte : MethodName := ⟨RX9, "reportByte", "(I)I"⟩
def dkwX9_reportByte_1 : List UInt8 := [52, 167, 0, 4, 2, 172]
abbrev dktX9_reportByte_1 : List UInt8 := dkwX9_reportByte_1 ++ []
def dkwX9_reportByte_0 : List UInt8 := [42, 3, 181, 0, 57, 27, 3, 42, 180, 1, 154, 4, 100, 184, 0, 60, 153, 0, 12, 42, 180, 0, 38, 27]
abbrev dktX9_reportByte_0 : List UInt8 := dkwX9_reportByte_0 ++ dktX9_reportByte_1
theorem dksX9_reportByte_0 : cX9_reportByte.data.toList.drop 0 = dktX9_reportByte_0 := by decide +kernel
theorem dksX9_reportByte_1 : cX9_reportByte.data.toList.drop 24 = dktX9_reportByte_1 := dk_seg dksX9_reportByte_0 24 rfl rfl
theorem dX9_reportByte_0 : decode cX9_reportByte 0 = .ok (.aload_n 0, 1) := dk_42 (dk_at dksX9_reportByte_0 0 rfl rfl)
theorem dX9_reportByte_1 : decode cX9_reportByte 1 = .ok (.iconst 0, 1) := dk_3 (dk_at dksX9_reportByte_0 1 rfl rfl)
theorem dX9_reportByte_2 : decode cX9_reportByte 2 = .ok (.putfield 57, 3) := dk_181 0 57 (dk_at dksX9_reportByte_0 2 rfl rfl)
theorem dX9_reportByte_5 : decode cX9_reportByte 5 = .ok (.iload_n 1, 1) := dk_27 (dk_at dksX9_reportByte_0 5 rfl rfl)
theorem dX9_reportByte_6 : decode cX9_reportByte 6 = .ok (.iconst 0, 1) := dk_3 (dk_at dksX9_reportByte_0 6 rfl rfl)
theorem dX9_reportByte_7 : decode cX9_reportByte 7 = .ok (.aload_n 0, 1) := dk_42 (dk_at dksX9_reportByte_0 7 rfl rfl)
theorem dX9_reportByte_8 : decode cX9_reportByte 8 = .ok (.getfield 410, 3) := dk_180 1 154 (dk_at dksX9_reportByte_0 8 rfl rfl)
theorem dX9_reportByte_11 : decode cX9_reportByte 11 = .ok (.iconst 1, 1) := dk_4 (dk_at dksX9_reportByte_0 11 rfl rfl)
theorem dX9_reportByte_12 : decode cX9_reportByte 12 = .ok (.isub, 1) := dk_100 (dk_at dksX9_reportByte_0 12 rfl rfl)
theorem dX9_reportByte_13 : decode cX9_reportByte 13 = .ok (.invokestatic 60, 3) := dk_184 0 60 (dk_at dksX9_reportByte_0 13 rfl rfl)
theorem dX9_reportByte_16 : decode cX9_reportByte 16 = .ok (.ifCond .eq 12, 3) := dk_153 0 12 (dk_at dksX9_reportByte_0 16 rfl rfl)
theorem dX9_reportByte_19 : decode cX9_reportByte 19 = .ok (.aload_n 0, 1) := dk_42 (dk_at dksX9_reportByte_0 19 rfl rfl)
theorem dX9_reportByte_20 : decode cX9_reportByte 20 = .ok (.getfield 38, 3) := dk_180 0 38 (dk_at dksX9_reportByte_0 20 rfl rfl)
theorem dX9_reportByte_23 : decode cX9_reportByte 23 = .ok (.iload_n 1, 1) := dk_27 (dk_at dksX9_reportByte_0 23 rfl rfl)
theorem dX9_reportByte_24 : decode cX9_reportByte 24 = .ok (.caload, 1) := dk_52 (dk_at dksX9_reportByte_1 0 rfl rfl)
theorem dX9_reportByte_25 : decode cX9_reportByte 25 = .ok (.goto 4, 3) := dk_167 0 4 (dk_at dksX9_reportByte_1 1 rfl rfl)
theorem dX9_reportByte_28 : decode cX9_reportByte 28 = .ok (.iconst (-1), 1) := dk_2 (dk_at dksX9_reportByte_1 4 rfl rfl)
theorem dX9_reportByte_29 : decode cX9_reportByte 29 = .ok (.ireturn, 1) := dk_172 (dk_at dksX9_reportByte_1 5 rfl rfl)
theorem q149 : (Jvm.Cond.initialized "RooftopCatsModel") ∈ lw_all := lw_g (lw_at lw_m1 34 rfl) rfl
theorem q883 : (Jvm.Cond.selects "RooftopCatsModel" ({ cls := "java/lang/Object", name := "getClass", desc := "()Ljava/lang/Class;" } : Jvm.MethodName) ({ cls := "java/lang/Object", name := "getClass", desc := "()Ljava/lang/Class;" } : Jvm.MethodName)) ∈ lw_all := lw_g (lw_at lw_m4 48 rfl) rfl
theorem q1999 : (Jvm.Cond.instantiable "RooftopCatsModel" (23 : Nat)) ∈ lw_all := lw_g (lw_at lw_m8 204 rfl) rfl
theorem q2001 : (Jvm.Cond.instanceMethod ({ cls := "RooftopCatsModel", name := "<init>", desc := "()V" } : Jvm.MethodName)) ∈ lw_all := lw_g (lw_at lw_m8 206 rfl) rfl
theorem q2002 : (Jvm.Cond.code ({ cls := "RooftopCatsModel", name := "<init>", desc := "()V" } : Jvm.MethodName) prog_11_method_1_code (1 : Nat) (Option.none : Option Jvm.ClassFile.FieldType)) ∈ lw_all := lw_g (lw_at lw_m8 207 rfl) rfl
theorem q2003 : (Jvm.Cond.methodLink "RooftopCatsModel" (1 : Nat) ({ cls := "java/lang/Object", name := "<init>", desc := "()V" } : Jvm.MethodName)) ∈ lw_all := lw_g (lw_at lw_m8 208 rfl) rfl
theorem q2004 : (Jvm.Cond.stringRef "RooftopCatsModel" (45 : Nat) "roof; chimney 6; chimney 3; chimney 9; chimney 0; chimney 4; gutter 0 1 5; gutter 1 2 3; gutter 2 3 7; gutter 0 3 2; gutter 3 4 9; ") ∈ lw_tbl := lw_at lw_m8 209 rfl
theorem q2005 : (Jvm.Cond.methodLink "RooftopCatsModel" (47 : Nat) ({ cls := "RooftopCatsModel", name := "tell", desc := "(Ljava/lang/String;)V" } : Jvm.MethodName)) ∈ lw_all := lw_g (lw_at lw_m8 210 rfl) rfl
theorem q2006 : (Jvm.Cond.privateMethod ({ cls := "RooftopCatsModel", name := "tell", desc := "(Ljava/lang/String;)V" } : Jvm.MethodName)) ∈ lw_tbl := lw_at lw_m8 211 rfl
theorem q2007 : (Jvm.Cond.instanceMethod ({ cls := "RooftopCatsModel", name := "tell", desc := "(Ljava/lang/String;)V" } : Jvm.MethodName)) ∈ lw_all := lw_g (lw_at lw_m8 212 rfl) rfl
theorem q2008 : (Jvm.Cond.code ({ cls := "RooftopCatsModel", name := "tell", desc := "(Ljava/lang/String;)V" } : Jvm.MethodName) prog_11_method_53_code (3 : Nat) (Option.none : Option Jvm.ClassFile.FieldType)) ∈ lw_all := lw_g (lw_at lw_m8 213 rfl) rfl
theorem q2009 : (Jvm.Cond.methodLink "RooftopCatsModel" (152 : Nat) ({ cls := "java/lang/String", name := "length", desc := "()I" } : Jvm.MethodName)) ∈ lw_all := lw_g (lw_at lw_m8 214 rfl) rfl
theorem q2010 : (Jvm.Cond.methodLink "RooftopCatsModel" (160 : Nat) ({ cls := "java/lang/String", name := "charAt", desc := "(I)C" } : Jvm.MethodName)) ∈ lw_all := lw_g (lw_at lw_m8 215 rfl) rfl
theorem q2011 : (Jvm.Cond.stringRef "RooftopCatsModel" (51 : Nat) "cat 0 4 5; cat 2 3 6; cat 4 6 3; claim 0; claim 1; truce 2 1 2 6; nights 3;") ∈ lw_tbl := lw_at lw_m8 216 rfl
theorem q2012 : (Jvm.Cond.methodLink "RooftopCatsModel" (53 : Nat) ({ cls := "RooftopCatsModel", name := "parses", desc := "()Z" } : Jvm.MethodName)) ∈ lw_all := lw_g (lw_at lw_m8 217 rfl) rfl
theorem q2013 : (Jvm.Cond.privateMethod ({ cls := "RooftopCatsModel", name := "parses", desc := "()Z" } : Jvm.MethodName)) ∈ lw_tbl := lw_at lw_m8 218 rfl
theorem q2014 : (Jvm.Cond.instanceMethod ({ cls := "RooftopCatsModel", name := "parses", desc := "()Z" } : Jvm.MethodName)) ∈ lw_all := lw_g (lw_at lw_m8 219 rfl) rfl
theorem q2015 : (Jvm.Cond.code ({ cls := "RooftopCatsModel", name := "parses", desc := "()Z" } : Jvm.MethodName) prog_11_method_82_code (2 : Nat) (Option.some Jvm.ClassFile.FieldType.boolean)) ∈ lw_all := lw_g (lw_at lw_m8 220 rfl) rfl
theorem q2016 : (Jvm.Cond.methodLink "RooftopCatsModel" (188 : Nat) ({ cls := "RooftopCatsModel", name := "next", desc := "()V" } : Jvm.MethodName)) ∈ lw_all := lw_g (lw_at lw_m8 221 rfl) rfl
theorem q2017 : (Jvm.Cond.privateMethod ({ cls := "RooftopCatsModel", name := "next", desc := "()V" } : Jvm.MethodName)) ∈ lw_tbl := lw_at lw_m8 222 rfl
theorem q2018 : (Jvm.Cond.instanceMethod ({ cls := "RooftopCatsModel", name := "next", desc := "()V" } : Jvm.MethodName)) ∈ lw_all := lw_g (lw_at lw_m8 223 rfl) rfl
theorem q2019 : (Jvm.Cond.code ({ cls := "RooftopCatsModel", name := "next", desc := "()V" } : Jvm.MethodName) prog_11_method_55_code (2 : Nat) (Option.none : Option Jvm.ClassFile.FieldType)) ∈ lw_all := lw_g (lw_at lw_m8 224 rfl) rfl
theorem q2020 : (Jvm.Cond.methodLink "RooftopCatsModel" (173 : Nat) ({ cls := "RooftopCatsModel", name := "sortOf", desc := "(I)I" } : Jvm.MethodName)) ∈ lw_all := lw_g (lw_at lw_m8 225 rfl) rfl
theorem q2021 : (Jvm.Cond.static ({ cls := "RooftopCatsModel", name := "sortOf", desc := "(I)I" } : Jvm.MethodName)) ∈ lw_all := lw_g (lw_at lw_m8 226 rfl) rfl
theorem q2022 : (Jvm.Cond.code ({ cls := "RooftopCatsModel", name := "sortOf", desc := "(I)I" } : Jvm.MethodName) prog_11_method_54_code (1 : Nat) (Option.some Jvm.ClassFile.FieldType.int)) ∈ lw_all := lw_g (lw_at lw_m8 227 rfl) rfl
theorem q2023 : (Jvm.Cond.methodLink "RooftopCatsModel" (346 : Nat) ({ cls := "RooftopCatsModel", name := "readsAll", desc := "()Z" } : Jvm.MethodName)) ∈ lw_all := lw_g (lw_at lw_m8 228 rfl) rfl
theorem q2024 : (Jvm.Cond.privateMethod ({ cls := "RooftopCatsModel", name := "readsAll", desc := "()Z" } : Jvm.MethodName)) ∈ lw_tbl := lw_at lw_m8 229 rfl
theorem q2025 : (Jvm.Cond.instanceMethod ({ cls := "RooftopCatsModel", name := "readsAll", desc := "()Z" } : Jvm.MethodName)) ∈ lw_all := lw_g (lw_at lw_m8 230 rfl) rfl
theorem q2026 : (Jvm.Cond.code ({ cls := "RooftopCatsModel", name := "readsAll", desc := "()Z" } : Jvm.MethodName) prog_11_method_81_code (1 : Nat) (Option.some Jvm.ClassFile.FieldType.boolean)) ∈ lw_all := lw_g (lw_at lw_m8 231 rfl) rfl
theorem q2027 : (Jvm.Cond.stringRef "RooftopCatsModel" (344 : Nat) "roof") ∈ lw_tbl := lw_at lw_m8 232 rfl
theorem q2028 : (Jvm.Cond.methodLink "RooftopCatsModel" (269 : Nat) ({ cls := "RooftopCatsModel", name := "says", desc := "(Ljava/lang/String;)Z" } : Jvm.MethodName)) ∈ lw_all := lw_g (lw_at lw_m8 233 rfl) rfl
theorem q2029 : (Jvm.Cond.privateMethod ({ cls := "RooftopCatsModel", name := "says", desc := "(Ljava/lang/String;)Z" } : Jvm.MethodName)) ∈ lw_tbl := lw_at lw_m8 234 rfl
theorem q2030 : (Jvm.Cond.instanceMethod ({ cls := "RooftopCatsModel", name := "says", desc := "(Ljava/lang/String;)Z" } : Jvm.MethodName)) ∈ lw_all := lw_g (lw_at lw_m8 235 rfl) rfl
theorem q2031 : (Jvm.Cond.code ({ cls := "RooftopCatsModel", name := "says", desc := "(Ljava/lang/String;)Z" } : Jvm.MethodName) prog_11_method_56_code (3 : Nat) (Option.some Jvm.ClassFile.FieldType.boolean)) ∈ lw_all := lw_g (lw_at lw_m8 236 rfl) rfl
theorem q2032 : (Jvm.Cond.methodLink "RooftopCatsModel" (182 : Nat) ({ cls := "RooftopCatsModel", name := "fail", desc := "(I)Z" } : Jvm.MethodName)) ∈ lw_all := lw_g (lw_at lw_m8 237 rfl) rfl
theorem q2033 : (Jvm.Cond.privateMethod ({ cls := "RooftopCatsModel", name := "fail", desc := "(I)Z" } : Jvm.MethodName)) ∈ lw_tbl := lw_at lw_m8 238 rfl
theorem q2034 : (Jvm.Cond.instanceMethod ({ cls := "RooftopCatsModel", name := "fail", desc := "(I)Z" } : Jvm.MethodName)) ∈ lw_all := lw_g (lw_at lw_m8 239 rfl) rfl
theorem q2035 : (Jvm.Cond.code ({ cls := "RooftopCatsModel", name := "fail", desc := "(I)Z" } : Jvm.MethodName) prog_11_method_57_code (2 : Nat) (Option.some Jvm.ClassFile.FieldType.boolean)) ∈ lw_all := lw_g (lw_at lw_m9 0 rfl) rfl
theorem q2036 : (Jvm.Cond.methodLink "RooftopCatsModel" (185 : Nat) ({ cls := "RooftopCatsModel", name := "is", desc := "(I)Z" } : Jvm.MethodName)) ∈ lw_all := lw_g (lw_at lw_m9 1 rfl) rfl
theorem q2037 : (Jvm.Cond.privateMethod ({ cls := "RooftopCatsModel", name := "is", desc := "(I)Z" } : Jvm.MethodName)) ∈ lw_tbl := lw_at lw_m9 2 rfl
theorem q2038 : (Jvm.Cond.instanceMethod ({ cls := "RooftopCatsModel", name := "is", desc := "(I)Z" } : Jvm.MethodName)) ∈ lw_all := lw_g (lw_at lw_m9 3 rfl) rfl
theorem q2039 : (Jvm.Cond.code ({ cls := "RooftopCatsModel", name := "is", desc := "(I)Z" } : Jvm.MethodName) prog_11_method_58_code (2 : Nat) (Option.some Jvm.ClassFile.FieldType.boolean)) ∈ lw_all := lw_g (lw_at lw_m9 4 rfl) rfl
theorem q2040 : (Jvm.Cond.methodLink "RooftopCatsModel" (264 : Nat) ({ cls := "RooftopCatsModel", name := "readsCommand", desc := "(I)Z" } : Jvm.MethodName)) ∈ lw_all := lw_g (lw_at lw_m9 5 rfl) rfl
theorem q2041 : (Jvm.Cond.privateMethod ({ cls := "RooftopCatsModel", name := "readsCommand", desc := "(I)Z" } : Jvm.MethodName)) ∈ lw_tbl := lw_at lw_m9 6 rfl
theorem q2042 : (Jvm.Cond.instanceMethod ({ cls := "RooftopCatsModel", name := "readsCommand", desc := "(I)Z" } : Jvm.MethodName)) ∈ lw_all := lw_g (lw_at lw_m9 7 rfl) rfl
theorem q2043 : (Jvm.Cond.code ({ cls := "RooftopCatsModel", name := "readsCommand", desc := "(I)Z" } : Jvm.MethodName) prog_11_method_79_code (3 : Nat) (Option.some Jvm.ClassFile.FieldType.boolean)) ∈ lw_all := lw_g (lw_at lw_m9 8 rfl) rfl
theorem q2044 : (Jvm.Cond.methodLink "RooftopCatsModel" (299 : Nat) ({ cls := "RooftopCatsModel", name := "wordAhead", desc := "()I" } : Jvm.MethodName)) ∈ lw_all := lw_g (lw_at lw_m9 9 rfl) rfl
theorem q2045 : (Jvm.Cond.privateMethod ({ cls := "RooftopCatsModel", name := "wordAhead", desc := "()I" } : Jvm.MethodName)) ∈ lw_tbl := lw_at lw_m9 10 rfl
theorem q2046 : (Jvm.Cond.instanceMethod ({ cls := "RooftopCatsModel", name := "wordAhead", desc := "()I" } : Jvm.MethodName)) ∈ lw_all := lw_g (lw_at lw_m9 11 rfl) rfl
theorem q2047 : (Jvm.Cond.code ({ cls := "RooftopCatsModel", name := "wordAhead", desc := "()I" } : Jvm.MethodName) prog_11_method_77_code (1 : Nat) (Option.some Jvm.ClassFile.FieldType.int)) ∈ lw_all := lw_g (lw_at lw_m9 12 rfl) rfl
theorem q2048 : (Jvm.Cond.stringRef "RooftopCatsModel" (267 : Nat) "chimney") ∈ lw_tbl := lw_at lw_m9 13 rfl
theorem q2049 : (Jvm.Cond.stringRef "RooftopCatsModel" (273 : Nat) "gutter") ∈ lw_tbl := lw_at lw_m9 14 rfl
theorem q2050 : (Jvm.Cond.stringRef "RooftopCatsModel" (274 : Nat) "cat") ∈ lw_tbl := lw_at lw_m9 15 rfl
theorem q2051 : (Jvm.Cond.stringRef "RooftopCatsModel" (276 : Nat) "step") ∈ lw_tbl := lw_at lw_m9 16 rfl
theorem q2052 : (Jvm.Cond.stringRef "RooftopCatsModel" (278 : Nat) "claim") ∈ lw_tbl := lw_at lw_m9 17 rfl
theorem q2053 : (Jvm.Cond.stringRef "RooftopCatsModel" (280 : Nat) "abandon") ∈ lw_tbl := lw_at lw_m9 18 rfl
theorem q2054 : (Jvm.Cond.methodLink "RooftopCatsModel" (282 : Nat) ({ cls := "RooftopCatsModel", name := "laterWord", desc := "()I" } : Jvm.MethodName)) ∈ lw_all := lw_g (lw_at lw_m9 19 rfl) rfl
theorem q2055 : (Jvm.Cond.privateMethod ({ cls := "RooftopCatsModel", name := "laterWord", desc := "()I" } : Jvm.MethodName)) ∈ lw_tbl := lw_at lw_m9 20 rfl
theorem q2056 : (Jvm.Cond.instanceMethod ({ cls := "RooftopCatsModel", name := "laterWord", desc := "()I" } : Jvm.MethodName)) ∈ lw_all := lw_g (lw_at lw_m9 21 rfl) rfl
theorem q2057 : (Jvm.Cond.code ({ cls := "RooftopCatsModel", name := "laterWord", desc := "()I" } : Jvm.MethodName) prog_11_method_78_code (1 : Nat) (Option.some Jvm.ClassFile.FieldType.int)) ∈ lw_all := lw_g (lw_at lw_m9 22 rfl) rfl
theorem q2058 : (Jvm.Cond.stringRef "RooftopCatsModel" (285 : Nat) "chase") ∈ lw_tbl := lw_at lw_m9 23 rfl
theorem q2059 : (Jvm.Cond.stringRef "RooftopCatsModel" (287 : Nat) "truce") ∈ lw_tbl := lw_at lw_m9 24 rfl
theorem q2060 : (Jvm.Cond.stringRef "RooftopCatsModel" (289 : Nat) "kitten") ∈ lw_tbl := lw_at lw_m9 25 rfl
theorem q2061 : (Jvm.Cond.stringRef "RooftopCatsModel" (291 : Nat) "yes") ∈ lw_tbl := lw_at lw_m9 26 rfl
theorem q2062 : (Jvm.Cond.stringRef "RooftopCatsModel" (293 : Nat) "no") ∈ lw_tbl := lw_at lw_m9 27 rfl
theorem q2063 : (Jvm.Cond.stringRef "RooftopCatsModel" (295 : Nat) "nights") ∈ lw_tbl := lw_at lw_m9 28 rfl
theorem q2064 : (Jvm.Cond.stringRef "RooftopCatsModel" (297 : Nat) "repeat") ∈ lw_tbl := lw_at lw_m9 29 rfl
theorem q2065 : (Jvm.Cond.methodLink "RooftopCatsModel" (302 : Nat) ({ cls := "RooftopCatsModel", name := "readsRepeat", desc := "(I)Z" } : Jvm.MethodName)) ∈ lw_all := lw_g (lw_at lw_m9 30 rfl) rfl
theorem q2066 : (Jvm.Cond.privateMethod ({ cls := "RooftopCatsModel", name := "readsRepeat", desc := "(I)Z" } : Jvm.MethodName)) ∈ lw_tbl := lw_at lw_m9 31 rfl
theorem q2067 : (Jvm.Cond.instanceMethod ({ cls := "RooftopCatsModel", name := "readsRepeat", desc := "(I)Z" } : Jvm.MethodName)) ∈ lw_all := lw_g (lw_at lw_m9 32 rfl) rfl
theorem q2068 : (Jvm.Cond.code ({ cls := "RooftopCatsModel", name := "readsRepeat", desc := "(I)Z" } : Jvm.MethodName) prog_11_method_76_code (5 : Nat) (Option.some Jvm.ClassFile.FieldType.boolean)) ∈ lw_all := lw_g (lw_at lw_m9 33 rfl) rfl
theorem q2069 : (Jvm.Cond.methodLink "RooftopCatsModel" (191 : Nat) ({ cls := "RooftopCatsModel", name := "number", desc := "(III)Z" } : Jvm.MethodName)) ∈ lw_all := lw_g (lw_at lw_m9 34 rfl) rfl
theorem q2070 : (Jvm.Cond.privateMethod ({ cls := "RooftopCatsModel", name := "number", desc := "(III)Z" } : Jvm.MethodName)) ∈ lw_tbl := lw_at lw_m9 35 rfl
theorem q2071 : (Jvm.Cond.instanceMethod ({ cls := "RooftopCatsModel", name := "number", desc := "(III)Z" } : Jvm.MethodName)) ∈ lw_all := lw_g (lw_at lw_m9 36 rfl) rfl
theorem q2072 : (Jvm.Cond.code ({ cls := "RooftopCatsModel", name := "number", desc := "(III)Z" } : Jvm.MethodName) prog_11_method_59_code (4 : Nat) (Option.some Jvm.ClassFile.FieldType.boolean)) ∈ lw_all := lw_g (lw_at lw_m9 37 rfl) rfl
theorem q2073 : (Jvm.Cond.methodLink "RooftopCatsModel" (60 : Nat) ({ cls := "RooftopCatsModel", name := "in", desc := "(III)Z" } : Jvm.MethodName)) ∈ lw_all := lw_g (lw_at lw_m9 38 rfl) rfl
theorem q2074 : (Jvm.Cond.static ({ cls := "RooftopCatsModel", name := "in", desc := "(III)Z" } : Jvm.MethodName)) ∈ lw_all := lw_g (lw_at lw_m9 39 rfl) rfl
theorem q2075 : (Jvm.Cond.code ({ cls := "RooftopCatsModel", name := "in", desc := "(III)Z" } : Jvm.MethodName) prog_11_method_3_code (3 : Nat) (Option.some Jvm.ClassFile.FieldType.boolean)) ∈ lw_all := lw_g (lw_at lw_m9 40 rfl) rfl
theorem q2076 : (Jvm.Cond.methodLink "RooftopCatsModel" (308 : Nat) ({ cls := "RooftopCatsModel", name := "readsWord", desc := "(I)Z" } : Jvm.MethodName)) ∈ lw_all := lw_g (lw_at lw_m9 41 rfl) rfl
theorem q2077 : (Jvm.Cond.privateMethod ({ cls := "RooftopCatsModel", name := "readsWord", desc := "(I)Z" } : Jvm.MethodName)) ∈ lw_tbl := lw_at lw_m9 42 rfl
theorem q2078 : (Jvm.Cond.instanceMethod ({ cls := "RooftopCatsModel", name := "readsWord", desc := "(I)Z" } : Jvm.MethodName)) ∈ lw_all := lw_g (lw_at lw_m9 43 rfl) rfl
theorem q2079 : (Jvm.Cond.code ({ cls := "RooftopCatsModel", name := "readsWord", desc := "(I)Z" } : Jvm.MethodName) prog_11_method_80_code (2 : Nat) (Option.some Jvm.ClassFile.FieldType.boolean)) ∈ lw_all := lw_g (lw_at lw_m9 44 rfl) rfl
theorem q2080 : (Jvm.Cond.methodLink "RooftopCatsModel" (311 : Nat) ({ cls := "RooftopCatsModel", name := "readsChimney", desc := "()Z" } : Jvm.MethodName)) ∈ lw_all := lw_g (lw_at lw_m9 45 rfl) rfl
theorem q2081 : (Jvm.Cond.privateMethod ({ cls := "RooftopCatsModel", name := "readsChimney", desc := "()Z" } : Jvm.MethodName)) ∈ lw_tbl := lw_at lw_m9 46 rfl
theorem q2082 : (Jvm.Cond.instanceMethod ({ cls := "RooftopCatsModel", name := "readsChimney", desc := "()Z" } : Jvm.MethodName)) ∈ lw_all := lw_g (lw_at lw_m9 47 rfl) rfl
theorem q2083 : (Jvm.Cond.code ({ cls := "RooftopCatsModel", name := "readsChimney", desc := "()Z" } : Jvm.MethodName) prog_11_method_65_code (1 : Nat) (Option.some Jvm.ClassFile.FieldType.boolean)) ∈ lw_all := lw_g (lw_at lw_m9 48 rfl) rfl
theorem q2084 : (Jvm.Cond.methodLink "RooftopCatsModel" (194 : Nat) ({ cls := "RooftopCatsModel", name := "stops", desc := "(Z)Z" } : Jvm.MethodName)) ∈ lw_all := lw_g (lw_at lw_m9 49 rfl) rfl
theorem q2085 : (Jvm.Cond.privateMethod ({ cls := "RooftopCatsModel", name := "stops", desc := "(Z)Z" } : Jvm.MethodName)) ∈ lw_tbl := lw_at lw_m9 50 rfl
theorem q2086 : (Jvm.Cond.instanceMethod ({ cls := "RooftopCatsModel", name := "stops", desc := "(Z)Z" } : Jvm.MethodName)) ∈ lw_all := lw_g (lw_at lw_m9 51 rfl) rfl
theorem q2087 : (Jvm.Cond.code ({ cls := "RooftopCatsModel", name := "stops", desc := "(Z)Z" } : Jvm.MethodName) prog_11_method_64_code (2 : Nat) (Option.some Jvm.ClassFile.FieldType.boolean)) ∈ lw_all := lw_g (lw_at lw_m9 52 rfl) rfl
theorem q2088 : (Jvm.Cond.methodLink "RooftopCatsModel" (198 : Nat) ({ cls := "RooftopCatsModel", name := "builds", desc := "(I)I" } : Jvm.MethodName)) ∈ lw_all := lw_g (lw_at lw_m9 53 rfl) rfl
theorem q2089 : (Jvm.Cond.privateMethod ({ cls := "RooftopCatsModel", name := "builds", desc := "(I)I" } : Jvm.MethodName)) ∈ lw_tbl := lw_at lw_m9 54 rfl
theorem q2090 : (Jvm.Cond.instanceMethod ({ cls := "RooftopCatsModel", name := "builds", desc := "(I)I" } : Jvm.MethodName)) ∈ lw_all := lw_g (lw_at lw_m9 55 rfl) rfl
theorem q2091 : (Jvm.Cond.code ({ cls := "RooftopCatsModel", name := "builds", desc := "(I)I" } : Jvm.MethodName) prog_11_method_33_code (2 : Nat) (Option.some Jvm.ClassFile.FieldType.int)) ∈ lw_all := lw_g (lw_at lw_m9 56 rfl) rfl
theorem q2092 : (Jvm.Cond.methodLink "RooftopCatsModel" (314 : Nat) ({ cls := "RooftopCatsModel", name := "readsGutter", desc := "()Z" } : Jvm.MethodName)) ∈ lw_all := lw_g (lw_at lw_m9 57 rfl) rfl
theorem q2093 : (Jvm.Cond.privateMethod ({ cls := "RooftopCatsModel", name := "readsGutter", desc := "()Z" } : Jvm.MethodName)) ∈ lw_tbl := lw_at lw_m9 58 rfl
theorem q2094 : (Jvm.Cond.instanceMethod ({ cls := "RooftopCatsModel", name := "readsGutter", desc := "()Z" } : Jvm.MethodName)) ∈ lw_all := lw_g (lw_at lw_m9 59 rfl) rfl
theorem q2095 : (Jvm.Cond.code ({ cls := "RooftopCatsModel", name := "readsGutter", desc := "()Z" } : Jvm.MethodName) prog_11_method_66_code (1 : Nat) (Option.some Jvm.ClassFile.FieldType.boolean)) ∈ lw_all := lw_g (lw_at lw_m9 60 rfl) rfl
theorem q2096 : (Jvm.Cond.methodLink "RooftopCatsModel" (201 : Nat) ({ cls := "RooftopCatsModel", name := "chimneyAt", desc := "(I)Z" } : Jvm.MethodName)) ∈ lw_all := lw_g (lw_at lw_m9 61 rfl) rfl
theorem q2097 : (Jvm.Cond.privateMethod ({ cls := "RooftopCatsModel", name := "chimneyAt", desc := "(I)Z" } : Jvm.MethodName)) ∈ lw_tbl := lw_at lw_m9 62 rfl
theorem q2098 : (Jvm.Cond.instanceMethod ({ cls := "RooftopCatsModel", name := "chimneyAt", desc := "(I)Z" } : Jvm.MethodName)) ∈ lw_all := lw_g (lw_at lw_m9 63 rfl) rfl
theorem q2099 : (Jvm.Cond.code ({ cls := "RooftopCatsModel", name := "chimneyAt", desc := "(I)Z" } : Jvm.MethodName) prog_11_method_60_code (2 : Nat) (Option.some Jvm.ClassFile.FieldType.boolean)) ∈ lw_all := lw_g (lw_at lw_m9 64 rfl) rfl
theorem q2100 : (Jvm.Cond.methodLink "RooftopCatsModel" (204 : Nat) ({ cls := "RooftopCatsModel", name := "another", desc := "(I)Z" } : Jvm.MethodName)) ∈ lw_all := lw_g (lw_at lw_m9 65 rfl) rfl
theorem q2101 : (Jvm.Cond.privateMethod ({ cls := "RooftopCatsModel", name := "another", desc := "(I)Z" } : Jvm.MethodName)) ∈ lw_tbl := lw_at lw_m9 66 rfl
theorem q2102 : (Jvm.Cond.instanceMethod ({ cls := "RooftopCatsModel", name := "another", desc := "(I)Z" } : Jvm.MethodName)) ∈ lw_all := lw_g (lw_at lw_m9 67 rfl) rfl
theorem q2103 : (Jvm.Cond.code ({ cls := "RooftopCatsModel", name := "another", desc := "(I)Z" } : Jvm.MethodName) prog_11_method_62_code (2 : Nat) (Option.some Jvm.ClassFile.FieldType.boolean)) ∈ lw_all := lw_g (lw_at lw_m9 68 rfl) rfl
theorem q2104 : (Jvm.Cond.methodLink "RooftopCatsModel" (207 : Nat) ({ cls := "RooftopCatsModel", name := "lays", desc := "(III)I" } : Jvm.MethodName)) ∈ lw_all := lw_g (lw_at lw_m9 69 rfl) rfl
theorem q2105 : (Jvm.Cond.privateMethod ({ cls := "RooftopCatsModel", name := "lays", desc := "(III)I" } : Jvm.MethodName)) ∈ lw_tbl := lw_at lw_m9 70 rfl
theorem q2106 : (Jvm.Cond.instanceMethod ({ cls := "RooftopCatsModel", name := "lays", desc := "(III)I" } : Jvm.MethodName)) ∈ lw_all := lw_g (lw_at lw_m9 71 rfl) rfl
theorem q2107 : (Jvm.Cond.code ({ cls := "RooftopCatsModel", name := "lays", desc := "(III)I" } : Jvm.MethodName) prog_11_method_34_code (5 : Nat) (Option.some Jvm.ClassFile.FieldType.int)) ∈ lw_all := lw_g (lw_at lw_m9 72 rfl) rfl
theorem q2108 : (Jvm.Cond.methodLink "RooftopCatsModel" (317 : Nat) ({ cls := "RooftopCatsModel", name := "readsCat", desc := "()Z" } : Jvm.MethodName)) ∈ lw_all := lw_g (lw_at lw_m9 73 rfl) rfl
theorem q2109 : (Jvm.Cond.privateMethod ({ cls := "RooftopCatsModel", name := "readsCat", desc := "()Z" } : Jvm.MethodName)) ∈ lw_tbl := lw_at lw_m9 74 rfl
theorem q2110 : (Jvm.Cond.instanceMethod ({ cls := "RooftopCatsModel", name := "readsCat", desc := "()Z" } : Jvm.MethodName)) ∈ lw_all := lw_g (lw_at lw_m9 75 rfl) rfl
theorem q2111 : (Jvm.Cond.code ({ cls := "RooftopCatsModel", name := "readsCat", desc := "()Z" } : Jvm.MethodName) prog_11_method_67_code (1 : Nat) (Option.some Jvm.ClassFile.FieldType.boolean)) ∈ lw_all := lw_g (lw_at lw_m9 76 rfl) rfl
theorem q2112 : (Jvm.Cond.methodLink "RooftopCatsModel" (210 : Nat) ({ cls := "RooftopCatsModel", name := "sizesAt", desc := "(I)Z" } : Jvm.MethodName)) ∈ lw_all := lw_g (lw_at lw_m9 77 rfl) rfl
theorem q2113 : (Jvm.Cond.privateMethod ({ cls := "RooftopCatsModel", name := "sizesAt", desc := "(I)Z" } : Jvm.MethodName)) ∈ lw_tbl := lw_at lw_m9 78 rfl
theorem q2114 : (Jvm.Cond.instanceMethod ({ cls := "RooftopCatsModel", name := "sizesAt", desc := "(I)Z" } : Jvm.MethodName)) ∈ lw_all := lw_g (lw_at lw_m9 79 rfl) rfl
theorem q2115 : (Jvm.Cond.code ({ cls := "RooftopCatsModel", name := "sizesAt", desc := "(I)Z" } : Jvm.MethodName) prog_11_method_63_code (2 : Nat) (Option.some Jvm.ClassFile.FieldType.boolean)) ∈ lw_all := lw_g (lw_at lw_m9 80 rfl) rfl
theorem q2116 : (Jvm.Cond.methodLink "RooftopCatsModel" (213 : Nat) ({ cls := "RooftopCatsModel", name := "canEnter", desc := "(I)Z" } : Jvm.MethodName)) ∈ lw_all := lw_g (lw_at lw_m9 81 rfl) rfl
theorem q2117 : (Jvm.Cond.privateMethod ({ cls := "RooftopCatsModel", name := "canEnter", desc := "(I)Z" } : Jvm.MethodName)) ∈ lw_tbl := lw_at lw_m9 82 rfl
theorem q2118 : (Jvm.Cond.instanceMethod ({ cls := "RooftopCatsModel", name := "canEnter", desc := "(I)Z" } : Jvm.MethodName)) ∈ lw_all := lw_g (lw_at lw_m9 83 rfl) rfl
theorem q2119 : (Jvm.Cond.code ({ cls := "RooftopCatsModel", name := "canEnter", desc := "(I)Z" } : Jvm.MethodName) prog_11_method_36_code (2 : Nat) (Option.some Jvm.ClassFile.FieldType.boolean)) ∈ lw_all := lw_g (lw_at lw_m9 84 rfl) rfl
theorem q2120 : (Jvm.Cond.methodLink "RooftopCatsModel" (87 : Nat) ({ cls := "RooftopCatsModel", name := "sitter", desc := "(I)I" } : Jvm.MethodName)) ∈ lw_all := lw_g (lw_at lw_m9 85 rfl) rfl
theorem q2121 : (Jvm.Cond.privateMethod ({ cls := "RooftopCatsModel", name := "sitter", desc := "(I)I" } : Jvm.MethodName)) ∈ lw_tbl := lw_at lw_m9 86 rfl
theorem q2122 : (Jvm.Cond.instanceMethod ({ cls := "RooftopCatsModel", name := "sitter", desc := "(I)I" } : Jvm.MethodName)) ∈ lw_all := lw_g (lw_at lw_m9 87 rfl) rfl
theorem q2123 : (Jvm.Cond.code ({ cls := "RooftopCatsModel", name := "sitter", desc := "(I)I" } : Jvm.MethodName) prog_11_method_14_code (3 : Nat) (Option.some Jvm.ClassFile.FieldType.int)) ∈ lw_all := lw_g (lw_at lw_m9 88 rfl) rfl
theorem q2124 : (Jvm.Cond.methodLink "RooftopCatsModel" (64 : Nat) ({ cls := "RooftopCatsModel", name := "of", desc := "(II)I" } : Jvm.MethodName)) ∈ lw_all := lw_g (lw_at lw_m9 89 rfl) rfl
theorem q2125 : (Jvm.Cond.privateMethod ({ cls := "RooftopCatsModel", name := "of", desc := "(II)I" } : Jvm.MethodName)) ∈ lw_tbl := lw_at lw_m9 90 rfl
theorem q2126 : (Jvm.Cond.instanceMethod ({ cls := "RooftopCatsModel", name := "of", desc := "(II)I" } : Jvm.MethodName)) ∈ lw_all := lw_g (lw_at lw_m9 91 rfl) rfl
theorem q2127 : (Jvm.Cond.code ({ cls := "RooftopCatsModel", name := "of", desc := "(II)I" } : Jvm.MethodName) prog_11_method_11_code (3 : Nat) (Option.some Jvm.ClassFile.FieldType.int)) ∈ lw_all := lw_g (lw_at lw_m9 92 rfl) rfl
theorem q2128 : (Jvm.Cond.methodLink "RooftopCatsModel" (131 : Nat) ({ cls := "RooftopCatsModel", name := "enters", desc := "(III)I" } : Jvm.MethodName)) ∈ lw_all := lw_g (lw_at lw_m9 93 rfl) rfl
theorem q2129 : (Jvm.Cond.privateMethod ({ cls := "RooftopCatsModel", name := "enters", desc := "(III)I" } : Jvm.MethodName)) ∈ lw_tbl := lw_at lw_m9 94 rfl
theorem q2130 : (Jvm.Cond.instanceMethod ({ cls := "RooftopCatsModel", name := "enters", desc := "(III)I" } : Jvm.MethodName)) ∈ lw_all := lw_g (lw_at lw_m9 95 rfl) rfl
theorem q2131 : (Jvm.Cond.code ({ cls := "RooftopCatsModel", name := "enters", desc := "(III)I" } : Jvm.MethodName) prog_11_method_35_code (5 : Nat) (Option.some Jvm.ClassFile.FieldType.int)) ∈ lw_all := lw_g (lw_at lw_m9 96 rfl) rfl
theorem q2132 : (Jvm.Cond.methodLink "RooftopCatsModel" (118 : Nat) ({ cls := "RooftopCatsModel", name := "to", desc := "(III)V" } : Jvm.MethodName)) ∈ lw_all := lw_g (lw_at lw_m9 97 rfl) rfl
theorem q2133 : (Jvm.Cond.privateMethod ({ cls := "RooftopCatsModel", name := "to", desc := "(III)V" } : Jvm.MethodName)) ∈ lw_tbl := lw_at lw_m9 98 rfl
theorem q2134 : (Jvm.Cond.instanceMethod ({ cls := "RooftopCatsModel", name := "to", desc := "(III)V" } : Jvm.MethodName)) ∈ lw_all := lw_g (lw_at lw_m9 99 rfl) rfl
theorem q2135 : (Jvm.Cond.code ({ cls := "RooftopCatsModel", name := "to", desc := "(III)V" } : Jvm.MethodName) prog_11_method_12_code (4 : Nat) (Option.none : Option Jvm.ClassFile.FieldType)) ∈ lw_all := lw_g (lw_at lw_m9 100 rfl) rfl
theorem q2136 : (Jvm.Cond.methodLink "RooftopCatsModel" (320 : Nat) ({ cls := "RooftopCatsModel", name := "readsStep", desc := "()Z" } : Jvm.MethodName)) ∈ lw_all := lw_g (lw_at lw_m9 101 rfl) rfl
theorem q2137 : (Jvm.Cond.privateMethod ({ cls := "RooftopCatsModel", name := "readsStep", desc := "()Z" } : Jvm.MethodName)) ∈ lw_tbl := lw_at lw_m9 102 rfl
theorem q2138 : (Jvm.Cond.instanceMethod ({ cls := "RooftopCatsModel", name := "readsStep", desc := "()Z" } : Jvm.MethodName)) ∈ lw_all := lw_g (lw_at lw_m9 103 rfl) rfl
theorem q2139 : (Jvm.Cond.code ({ cls := "RooftopCatsModel", name := "readsStep", desc := "()Z" } : Jvm.MethodName) prog_11_method_68_code (1 : Nat) (Option.some Jvm.ClassFile.FieldType.boolean)) ∈ lw_all := lw_g (lw_at lw_m9 104 rfl) rfl
theorem q2140 : (Jvm.Cond.methodLink "RooftopCatsModel" (216 : Nat) ({ cls := "RooftopCatsModel", name := "catAt", desc := "(I)Z" } : Jvm.MethodName)) ∈ lw_all := lw_g (lw_at lw_m9 105 rfl) rfl
theorem q2141 : (Jvm.Cond.privateMethod ({ cls := "RooftopCatsModel", name := "catAt", desc := "(I)Z" } : Jvm.MethodName)) ∈ lw_tbl := lw_at lw_m9 106 rfl
theorem q2142 : (Jvm.Cond.instanceMethod ({ cls := "RooftopCatsModel", name := "catAt", desc := "(I)Z" } : Jvm.MethodName)) ∈ lw_all := lw_g (lw_at lw_m9 107 rfl) rfl
theorem q2143 : (Jvm.Cond.code ({ cls := "RooftopCatsModel", name := "catAt", desc := "(I)Z" } : Jvm.MethodName) prog_11_method_61_code (2 : Nat) (Option.some Jvm.ClassFile.FieldType.boolean)) ∈ lw_all := lw_g (lw_at lw_m9 108 rfl) rfl
theorem q2144 : (Jvm.Cond.methodLink "RooftopCatsModel" (219 : Nat) ({ cls := "RooftopCatsModel", name := "whyStays", desc := "(II)I" } : Jvm.MethodName)) ∈ lw_all := lw_g (lw_at lw_m9 109 rfl) rfl
theorem q2145 : (Jvm.Cond.privateMethod ({ cls := "RooftopCatsModel", name := "whyStays", desc := "(II)I" } : Jvm.MethodName)) ∈ lw_tbl := lw_at lw_m9 110 rfl
theorem q2146 : (Jvm.Cond.instanceMethod ({ cls := "RooftopCatsModel", name := "whyStays", desc := "(II)I" } : Jvm.MethodName)) ∈ lw_all := lw_g (lw_at lw_m9 111 rfl) rfl
theorem q2147 : (Jvm.Cond.code ({ cls := "RooftopCatsModel", name := "whyStays", desc := "(II)I" } : Jvm.MethodName) prog_11_method_23_code (4 : Nat) (Option.some Jvm.ClassFile.FieldType.int)) ∈ lw_all := lw_g (lw_at lw_m9 112 rfl) rfl
theorem q2148 : (Jvm.Cond.methodLink "RooftopCatsModel" (93 : Nat) ({ cls := "RooftopCatsModel", name := "across", desc := "(II)I" } : Jvm.MethodName)) ∈ lw_all := lw_g (lw_at lw_m9 113 rfl) rfl
theorem q2149 : (Jvm.Cond.privateMethod ({ cls := "RooftopCatsModel", name := "across", desc := "(II)I" } : Jvm.MethodName)) ∈ lw_tbl := lw_at lw_m9 114 rfl
theorem q2150 : (Jvm.Cond.instanceMethod ({ cls := "RooftopCatsModel", name := "across", desc := "(II)I" } : Jvm.MethodName)) ∈ lw_all := lw_g (lw_at lw_m9 115 rfl) rfl
theorem q2151 : (Jvm.Cond.code ({ cls := "RooftopCatsModel", name := "across", desc := "(II)I" } : Jvm.MethodName) prog_11_method_20_code (3 : Nat) (Option.some Jvm.ClassFile.FieldType.int)) ∈ lw_all := lw_g (lw_at lw_m9 116 rfl) rfl
theorem q2152 : (Jvm.Cond.methodLink "RooftopCatsModel" (81 : Nat) ({ cls := "RooftopCatsModel", name := "gutter", desc := "(II)I" } : Jvm.MethodName)) ∈ lw_all := lw_g (lw_at lw_m9 117 rfl) rfl
theorem q2153 : (Jvm.Cond.privateMethod ({ cls := "RooftopCatsModel", name := "gutter", desc := "(II)I" } : Jvm.MethodName)) ∈ lw_tbl := lw_at lw_m9 118 rfl
theorem q2154 : (Jvm.Cond.instanceMethod ({ cls := "RooftopCatsModel", name := "gutter", desc := "(II)I" } : Jvm.MethodName)) ∈ lw_all := lw_g (lw_at lw_m9 119 rfl) rfl
theorem q2155 : (Jvm.Cond.code ({ cls := "RooftopCatsModel", name := "gutter", desc := "(II)I" } : Jvm.MethodName) prog_11_method_10_code (3 : Nat) (Option.some Jvm.ClassFile.FieldType.int)) ∈ lw_all := lw_g (lw_at lw_m9 120 rfl) rfl
theorem q2156 : (Jvm.Cond.methodLink "RooftopCatsModel" (96 : Nat) ({ cls := "RooftopCatsModel", name := "whyNotIn", desc := "(II)I" } : Jvm.MethodName)) ∈ lw_all := lw_g (lw_at lw_m9 121 rfl) rfl
theorem q2157 : (Jvm.Cond.privateMethod ({ cls := "RooftopCatsModel", name := "whyNotIn", desc := "(II)I" } : Jvm.MethodName)) ∈ lw_tbl := lw_at lw_m9 122 rfl
theorem q2158 : (Jvm.Cond.instanceMethod ({ cls := "RooftopCatsModel", name := "whyNotIn", desc := "(II)I" } : Jvm.MethodName)) ∈ lw_all := lw_g (lw_at lw_m9 123 rfl) rfl
theorem q2159 : (Jvm.Cond.code ({ cls := "RooftopCatsModel", name := "whyNotIn", desc := "(II)I" } : Jvm.MethodName) prog_11_method_22_code (5 : Nat) (Option.some Jvm.ClassFile.FieldType.int)) ∈ lw_all := lw_g (lw_at lw_m9 124 rfl) rfl
theorem q2160 : (Jvm.Cond.methodLink "RooftopCatsModel" (68 : Nat) ({ cls := "RooftopCatsModel", name := "owner", desc := "(I)I" } : Jvm.MethodName)) ∈ lw_all := lw_g (lw_at lw_m9 125 rfl) rfl
theorem q2161 : (Jvm.Cond.privateMethod ({ cls := "RooftopCatsModel", name := "owner", desc := "(I)I" } : Jvm.MethodName)) ∈ lw_tbl := lw_at lw_m9 126 rfl
theorem q2162 : (Jvm.Cond.instanceMethod ({ cls := "RooftopCatsModel", name := "owner", desc := "(I)I" } : Jvm.MethodName)) ∈ lw_all := lw_g (lw_at lw_m9 127 rfl) rfl
theorem q2163 : (Jvm.Cond.code ({ cls := "RooftopCatsModel", name := "owner", desc := "(I)I" } : Jvm.MethodName) prog_11_method_13_code (2 : Nat) (Option.some Jvm.ClassFile.FieldType.int)) ∈ lw_all := lw_g (lw_at lw_m9 128 rfl) rfl
theorem q2164 : (Jvm.Cond.methodLink "RooftopCatsModel" (90 : Nat) ({ cls := "RooftopCatsModel", name := "truceLeft", desc := "(II)I" } : Jvm.MethodName)) ∈ lw_all := lw_g (lw_at lw_m9 129 rfl) rfl
theorem q2165 : (Jvm.Cond.privateMethod ({ cls := "RooftopCatsModel", name := "truceLeft", desc := "(II)I" } : Jvm.MethodName)) ∈ lw_tbl := lw_at lw_m9 130 rfl
theorem q2166 : (Jvm.Cond.instanceMethod ({ cls := "RooftopCatsModel", name := "truceLeft", desc := "(II)I" } : Jvm.MethodName)) ∈ lw_all := lw_g (lw_at lw_m9 131 rfl) rfl
theorem q2167 : (Jvm.Cond.code ({ cls := "RooftopCatsModel", name := "truceLeft", desc := "(II)I" } : Jvm.MethodName) prog_11_method_18_code (3 : Nat) (Option.some Jvm.ClassFile.FieldType.int)) ∈ lw_all := lw_g (lw_at lw_m9 132 rfl) rfl
theorem q2168 : (Jvm.Cond.methodLink "RooftopCatsModel" (76 : Nat) ({ cls := "java/lang/Math", name := "max", desc := "(II)I" } : Jvm.MethodName)) ∈ lw_all := lw_g (lw_at lw_m9 133 rfl) rfl
theorem q2169 : (Jvm.Cond.methodLink "RooftopCatsModel" (222 : Nat) ({ cls := "RooftopCatsModel", name := "goes", desc := "(II)I" } : Jvm.MethodName)) ∈ lw_all := lw_g (lw_at lw_m9 134 rfl) rfl
theorem q2170 : (Jvm.Cond.privateMethod ({ cls := "RooftopCatsModel", name := "goes", desc := "(II)I" } : Jvm.MethodName)) ∈ lw_tbl := lw_at lw_m9 135 rfl
theorem q2171 : (Jvm.Cond.instanceMethod ({ cls := "RooftopCatsModel", name := "goes", desc := "(II)I" } : Jvm.MethodName)) ∈ lw_all := lw_g (lw_at lw_m9 136 rfl) rfl
theorem q2172 : (Jvm.Cond.code ({ cls := "RooftopCatsModel", name := "goes", desc := "(II)I" } : Jvm.MethodName) prog_11_method_37_code (3 : Nat) (Option.some Jvm.ClassFile.FieldType.int)) ∈ lw_all := lw_g (lw_at lw_m9 137 rfl) rfl
theorem q2173 : (Jvm.Cond.methodLink "RooftopCatsModel" (323 : Nat) ({ cls := "RooftopCatsModel", name := "readsClaim", desc := "()Z" } : Jvm.MethodName)) ∈ lw_all := lw_g (lw_at lw_m9 138 rfl) rfl
theorem q2174 : (Jvm.Cond.privateMethod ({ cls := "RooftopCatsModel", name := "readsClaim", desc := "()Z" } : Jvm.MethodName)) ∈ lw_tbl := lw_at lw_m9 139 rfl
theorem q2175 : (Jvm.Cond.instanceMethod ({ cls := "RooftopCatsModel", name := "readsClaim", desc := "()Z" } : Jvm.MethodName)) ∈ lw_all := lw_g (lw_at lw_m9 140 rfl) rfl
theorem q2176 : (Jvm.Cond.code ({ cls := "RooftopCatsModel", name := "readsClaim", desc := "()Z" } : Jvm.MethodName) prog_11_method_69_code (1 : Nat) (Option.some Jvm.ClassFile.FieldType.boolean)) ∈ lw_all := lw_g (lw_at lw_m9 141 rfl) rfl
theorem q2177 : (Jvm.Cond.methodLink "RooftopCatsModel" (225 : Nat) ({ cls := "RooftopCatsModel", name := "whyLeaves", desc := "(I)I" } : Jvm.MethodName)) ∈ lw_all := lw_g (lw_at lw_m9 142 rfl) rfl
theorem q2178 : (Jvm.Cond.privateMethod ({ cls := "RooftopCatsModel", name := "whyLeaves", desc := "(I)I" } : Jvm.MethodName)) ∈ lw_tbl := lw_at lw_m9 143 rfl
theorem q2179 : (Jvm.Cond.instanceMethod ({ cls := "RooftopCatsModel", name := "whyLeaves", desc := "(I)I" } : Jvm.MethodName)) ∈ lw_all := lw_g (lw_at lw_m9 144 rfl) rfl
theorem q2180 : (Jvm.Cond.code ({ cls := "RooftopCatsModel", name := "whyLeaves", desc := "(I)I" } : Jvm.MethodName) prog_11_method_24_code (2 : Nat) (Option.some Jvm.ClassFile.FieldType.int)) ∈ lw_all := lw_g (lw_at lw_m9 145 rfl) rfl
theorem q2181 : (Jvm.Cond.methodLink "RooftopCatsModel" (99 : Nat) ({ cls := "RooftopCatsModel", name := "owns", desc := "(I)I" } : Jvm.MethodName)) ∈ lw_all := lw_g (lw_at lw_m9 146 rfl) rfl
theorem q2182 : (Jvm.Cond.privateMethod ({ cls := "RooftopCatsModel", name := "owns", desc := "(I)I" } : Jvm.MethodName)) ∈ lw_tbl := lw_at lw_m9 147 rfl
theorem q2183 : (Jvm.Cond.instanceMethod ({ cls := "RooftopCatsModel", name := "owns", desc := "(I)I" } : Jvm.MethodName)) ∈ lw_all := lw_g (lw_at lw_m9 148 rfl) rfl
theorem q2184 : (Jvm.Cond.code ({ cls := "RooftopCatsModel", name := "owns", desc := "(I)I" } : Jvm.MethodName) prog_11_method_15_code (4 : Nat) (Option.some Jvm.ClassFile.FieldType.int)) ∈ lw_all := lw_g (lw_at lw_m9 149 rfl) rfl
theorem q2185 : (Jvm.Cond.methodLink "RooftopCatsModel" (228 : Nat) ({ cls := "RooftopCatsModel", name := "claims", desc := "(I)I" } : Jvm.MethodName)) ∈ lw_all := lw_g (lw_at lw_m9 150 rfl) rfl
theorem q2186 : (Jvm.Cond.privateMethod ({ cls := "RooftopCatsModel", name := "claims", desc := "(I)I" } : Jvm.MethodName)) ∈ lw_tbl := lw_at lw_m9 151 rfl
theorem q2187 : (Jvm.Cond.instanceMethod ({ cls := "RooftopCatsModel", name := "claims", desc := "(I)I" } : Jvm.MethodName)) ∈ lw_all := lw_g (lw_at lw_m9 152 rfl) rfl
theorem q2188 : (Jvm.Cond.code ({ cls := "RooftopCatsModel", name := "claims", desc := "(I)I" } : Jvm.MethodName) prog_11_method_38_code (2 : Nat) (Option.some Jvm.ClassFile.FieldType.int)) ∈ lw_all := lw_g (lw_at lw_m9 153 rfl) rfl
theorem q2189 : (Jvm.Cond.methodLink "RooftopCatsModel" (326 : Nat) ({ cls := "RooftopCatsModel", name := "readsAbandon", desc := "()Z" } : Jvm.MethodName)) ∈ lw_all := lw_g (lw_at lw_m9 154 rfl) rfl
theorem q2190 : (Jvm.Cond.privateMethod ({ cls := "RooftopCatsModel", name := "readsAbandon", desc := "()Z" } : Jvm.MethodName)) ∈ lw_tbl := lw_at lw_m9 155 rfl
theorem q2191 : (Jvm.Cond.instanceMethod ({ cls := "RooftopCatsModel", name := "readsAbandon", desc := "()Z" } : Jvm.MethodName)) ∈ lw_all := lw_g (lw_at lw_m9 156 rfl) rfl
theorem q2192 : (Jvm.Cond.code ({ cls := "RooftopCatsModel", name := "readsAbandon", desc := "()Z" } : Jvm.MethodName) prog_11_method_70_code (1 : Nat) (Option.some Jvm.ClassFile.FieldType.boolean)) ∈ lw_all := lw_g (lw_at lw_m9 157 rfl) rfl
theorem q2193 : (Jvm.Cond.methodLink "RooftopCatsModel" (231 : Nat) ({ cls := "RooftopCatsModel", name := "leaves", desc := "(I)I" } : Jvm.MethodName)) ∈ lw_all := lw_g (lw_at lw_m9 158 rfl) rfl
theorem q2194 : (Jvm.Cond.privateMethod ({ cls := "RooftopCatsModel", name := "leaves", desc := "(I)I" } : Jvm.MethodName)) ∈ lw_tbl := lw_at lw_m9 159 rfl
theorem q2195 : (Jvm.Cond.instanceMethod ({ cls := "RooftopCatsModel", name := "leaves", desc := "(I)I" } : Jvm.MethodName)) ∈ lw_all := lw_g (lw_at lw_m9 160 rfl) rfl
theorem q2196 : (Jvm.Cond.code ({ cls := "RooftopCatsModel", name := "leaves", desc := "(I)I" } : Jvm.MethodName) prog_11_method_39_code (3 : Nat) (Option.some Jvm.ClassFile.FieldType.int)) ∈ lw_all := lw_g (lw_at lw_m9 161 rfl) rfl
theorem q2197 : (Jvm.Cond.methodLink "RooftopCatsModel" (329 : Nat) ({ cls := "RooftopCatsModel", name := "readsChase", desc := "()Z" } : Jvm.MethodName)) ∈ lw_all := lw_g (lw_at lw_m9 162 rfl) rfl
theorem q2198 : (Jvm.Cond.privateMethod ({ cls := "RooftopCatsModel", name := "readsChase", desc := "()Z" } : Jvm.MethodName)) ∈ lw_tbl := lw_at lw_m9 163 rfl
theorem q2199 : (Jvm.Cond.instanceMethod ({ cls := "RooftopCatsModel", name := "readsChase", desc := "()Z" } : Jvm.MethodName)) ∈ lw_all := lw_g (lw_at lw_m9 164 rfl) rfl
theorem q2200 : (Jvm.Cond.code ({ cls := "RooftopCatsModel", name := "readsChase", desc := "()Z" } : Jvm.MethodName) prog_11_method_71_code (1 : Nat) (Option.some Jvm.ClassFile.FieldType.boolean)) ∈ lw_all := lw_g (lw_at lw_m9 165 rfl) rfl
theorem q2201 : (Jvm.Cond.methodLink "RooftopCatsModel" (234 : Nat) ({ cls := "RooftopCatsModel", name := "whySpares", desc := "(II)I" } : Jvm.MethodName)) ∈ lw_all := lw_g (lw_at lw_m9 166 rfl) rfl
theorem q2202 : (Jvm.Cond.privateMethod ({ cls := "RooftopCatsModel", name := "whySpares", desc := "(II)I" } : Jvm.MethodName)) ∈ lw_tbl := lw_at lw_m9 167 rfl
theorem q2203 : (Jvm.Cond.instanceMethod ({ cls := "RooftopCatsModel", name := "whySpares", desc := "(II)I" } : Jvm.MethodName)) ∈ lw_all := lw_g (lw_at lw_m9 168 rfl) rfl
theorem q2204 : (Jvm.Cond.code ({ cls := "RooftopCatsModel", name := "whySpares", desc := "(II)I" } : Jvm.MethodName) prog_11_method_25_code (3 : Nat) (Option.some Jvm.ClassFile.FieldType.int)) ∈ lw_all := lw_g (lw_at lw_m9 169 rfl) rfl
theorem q2205 : (Jvm.Cond.methodLink "RooftopCatsModel" (102 : Nat) ({ cls := "RooftopCatsModel", name := "widestBetween", desc := "(II)I" } : Jvm.MethodName)) ∈ lw_all := lw_g (lw_at lw_m9 170 rfl) rfl
theorem q2206 : (Jvm.Cond.privateMethod ({ cls := "RooftopCatsModel", name := "widestBetween", desc := "(II)I" } : Jvm.MethodName)) ∈ lw_tbl := lw_at lw_m9 171 rfl
theorem q2207 : (Jvm.Cond.instanceMethod ({ cls := "RooftopCatsModel", name := "widestBetween", desc := "(II)I" } : Jvm.MethodName)) ∈ lw_all := lw_g (lw_at lw_m9 172 rfl) rfl
theorem q2208 : (Jvm.Cond.code ({ cls := "RooftopCatsModel", name := "widestBetween", desc := "(II)I" } : Jvm.MethodName) prog_11_method_21_code (5 : Nat) (Option.some Jvm.ClassFile.FieldType.int)) ∈ lw_all := lw_g (lw_at lw_m9 173 rfl) rfl
theorem q2209 : (Jvm.Cond.methodLink "RooftopCatsModel" (84 : Nat) ({ cls := "RooftopCatsModel", name := "joins", desc := "(III)Z" } : Jvm.MethodName)) ∈ lw_all := lw_g (lw_at lw_m9 174 rfl) rfl
theorem q2210 : (Jvm.Cond.privateMethod ({ cls := "RooftopCatsModel", name := "joins", desc := "(III)Z" } : Jvm.MethodName)) ∈ lw_tbl := lw_at lw_m9 175 rfl
theorem q2211 : (Jvm.Cond.instanceMethod ({ cls := "RooftopCatsModel", name := "joins", desc := "(III)Z" } : Jvm.MethodName)) ∈ lw_all := lw_g (lw_at lw_m9 176 rfl) rfl
theorem q2212 : (Jvm.Cond.code ({ cls := "RooftopCatsModel", name := "joins", desc := "(III)Z" } : Jvm.MethodName) prog_11_method_19_code (4 : Nat) (Option.some Jvm.ClassFile.FieldType.boolean)) ∈ lw_all := lw_g (lw_at lw_m9 177 rfl) rfl
theorem q2213 : (Jvm.Cond.methodLink "RooftopCatsModel" (105 : Nat) ({ cls := "RooftopCatsModel", name := "powerOf", desc := "(I)I" } : Jvm.MethodName)) ∈ lw_all := lw_g (lw_at lw_m9 178 rfl) rfl
theorem q2214 : (Jvm.Cond.privateMethod ({ cls := "RooftopCatsModel", name := "powerOf", desc := "(I)I" } : Jvm.MethodName)) ∈ lw_tbl := lw_at lw_m9 179 rfl
theorem q2215 : (Jvm.Cond.instanceMethod ({ cls := "RooftopCatsModel", name := "powerOf", desc := "(I)I" } : Jvm.MethodName)) ∈ lw_all := lw_g (lw_at lw_m9 180 rfl) rfl
theorem q2216 : (Jvm.Cond.code ({ cls := "RooftopCatsModel", name := "powerOf", desc := "(I)I" } : Jvm.MethodName) prog_11_method_17_code (2 : Nat) (Option.some Jvm.ClassFile.FieldType.int)) ∈ lw_all := lw_g (lw_at lw_m9 181 rfl) rfl
theorem q2217 : (Jvm.Cond.methodLink "RooftopCatsModel" (72 : Nat) ({ cls := "RooftopCatsModel", name := "isHome", desc := "(I)Z" } : Jvm.MethodName)) ∈ lw_all := lw_g (lw_at lw_m9 182 rfl) rfl
theorem q2218 : (Jvm.Cond.privateMethod ({ cls := "RooftopCatsModel", name := "isHome", desc := "(I)Z" } : Jvm.MethodName)) ∈ lw_tbl := lw_at lw_m9 183 rfl
theorem q2219 : (Jvm.Cond.instanceMethod ({ cls := "RooftopCatsModel", name := "isHome", desc := "(I)Z" } : Jvm.MethodName)) ∈ lw_all := lw_g (lw_at lw_m9 184 rfl) rfl
theorem q2220 : (Jvm.Cond.code ({ cls := "RooftopCatsModel", name := "isHome", desc := "(I)Z" } : Jvm.MethodName) prog_11_method_16_code (2 : Nat) (Option.some Jvm.ClassFile.FieldType.boolean)) ∈ lw_all := lw_g (lw_at lw_m9 185 rfl) rfl
theorem q2221 : (Jvm.Cond.methodLink "RooftopCatsModel" (237 : Nat) ({ cls := "RooftopCatsModel", name := "chases", desc := "(II)Z" } : Jvm.MethodName)) ∈ lw_all := lw_g (lw_at lw_m9 186 rfl) rfl
theorem q2222 : (Jvm.Cond.privateMethod ({ cls := "RooftopCatsModel", name := "chases", desc := "(II)Z" } : Jvm.MethodName)) ∈ lw_tbl := lw_at lw_m9 187 rfl
theorem q2223 : (Jvm.Cond.instanceMethod ({ cls := "RooftopCatsModel", name := "chases", desc := "(II)Z" } : Jvm.MethodName)) ∈ lw_all := lw_g (lw_at lw_m9 188 rfl) rfl
theorem q2224 : (Jvm.Cond.code ({ cls := "RooftopCatsModel", name := "chases", desc := "(II)Z" } : Jvm.MethodName) prog_11_method_40_code (5 : Nat) (Option.some Jvm.ClassFile.FieldType.boolean)) ∈ lw_all := lw_g (lw_at lw_m9 189 rfl) rfl
theorem q2225 : (Jvm.Cond.methodLink "RooftopCatsModel" (332 : Nat) ({ cls := "RooftopCatsModel", name := "readsTruce", desc := "()Z" } : Jvm.MethodName)) ∈ lw_all := lw_g (lw_at lw_m9 190 rfl) rfl
theorem q2226 : (Jvm.Cond.privateMethod ({ cls := "RooftopCatsModel", name := "readsTruce", desc := "()Z" } : Jvm.MethodName)) ∈ lw_tbl := lw_at lw_m9 191 rfl
theorem q2227 : (Jvm.Cond.instanceMethod ({ cls := "RooftopCatsModel", name := "readsTruce", desc := "()Z" } : Jvm.MethodName)) ∈ lw_all := lw_g (lw_at lw_m9 192 rfl) rfl
theorem q2228 : (Jvm.Cond.code ({ cls := "RooftopCatsModel", name := "readsTruce", desc := "()Z" } : Jvm.MethodName) prog_11_method_72_code (1 : Nat) (Option.some Jvm.ClassFile.FieldType.boolean)) ∈ lw_all := lw_g (lw_at lw_m9 193 rfl) rfl
theorem q2229 : (Jvm.Cond.methodLink "RooftopCatsModel" (241 : Nat) ({ cls := "RooftopCatsModel", name := "canBuy", desc := "(III)Z" } : Jvm.MethodName)) ∈ lw_all := lw_g (lw_at lw_m9 194 rfl) rfl
theorem q2230 : (Jvm.Cond.privateMethod ({ cls := "RooftopCatsModel", name := "canBuy", desc := "(III)Z" } : Jvm.MethodName)) ∈ lw_tbl := lw_at lw_m9 195 rfl
theorem q2231 : (Jvm.Cond.instanceMethod ({ cls := "RooftopCatsModel", name := "canBuy", desc := "(III)Z" } : Jvm.MethodName)) ∈ lw_all := lw_g (lw_at lw_m9 196 rfl) rfl
theorem q2232 : (Jvm.Cond.code ({ cls := "RooftopCatsModel", name := "canBuy", desc := "(III)Z" } : Jvm.MethodName) prog_11_method_41_code (4 : Nat) (Option.some Jvm.ClassFile.FieldType.boolean)) ∈ lw_all := lw_g (lw_at lw_m9 197 rfl) rfl
theorem q2233 : (Jvm.Cond.methodLink "RooftopCatsModel" (244 : Nat) ({ cls := "RooftopCatsModel", name := "buys", desc := "(IIII)I" } : Jvm.MethodName)) ∈ lw_all := lw_g (lw_at lw_m9 198 rfl) rfl
theorem q2234 : (Jvm.Cond.privateMethod ({ cls := "RooftopCatsModel", name := "buys", desc := "(IIII)I" } : Jvm.MethodName)) ∈ lw_tbl := lw_at lw_m9 199 rfl
theorem q2235 : (Jvm.Cond.instanceMethod ({ cls := "RooftopCatsModel", name := "buys", desc := "(IIII)I" } : Jvm.MethodName)) ∈ lw_all := lw_g (lw_at lw_m9 200 rfl) rfl
theorem q2236 : (Jvm.Cond.code ({ cls := "RooftopCatsModel", name := "buys", desc := "(IIII)I" } : Jvm.MethodName) prog_11_method_42_code (5 : Nat) (Option.some Jvm.ClassFile.FieldType.int)) ∈ lw_all := lw_g (lw_at lw_m9 201 rfl) rfl
theorem q2237 : (Jvm.Cond.methodLink "RooftopCatsModel" (335 : Nat) ({ cls := "RooftopCatsModel", name := "readsKitten", desc := "()Z" } : Jvm.MethodName)) ∈ lw_all := lw_g (lw_at lw_m9 202 rfl) rfl
theorem q2238 : (Jvm.Cond.privateMethod ({ cls := "RooftopCatsModel", name := "readsKitten", desc := "()Z" } : Jvm.MethodName)) ∈ lw_tbl := lw_at lw_m9 203 rfl
theorem q2239 : (Jvm.Cond.instanceMethod ({ cls := "RooftopCatsModel", name := "readsKitten", desc := "()Z" } : Jvm.MethodName)) ∈ lw_all := lw_g (lw_at lw_m9 204 rfl) rfl
theorem q2240 : (Jvm.Cond.code ({ cls := "RooftopCatsModel", name := "readsKitten", desc := "()Z" } : Jvm.MethodName) prog_11_method_73_code (1 : Nat) (Option.some Jvm.ClassFile.FieldType.boolean)) ∈ lw_all := lw_g (lw_at lw_m9 205 rfl) rfl
theorem q2241 : (Jvm.Cond.methodLink "RooftopCatsModel" (248 : Nat) ({ cls := "RooftopCatsModel", name := "canNominate", desc := "()Z" } : Jvm.MethodName)) ∈ lw_all := lw_g (lw_at lw_m9 206 rfl) rfl
theorem q2242 : (Jvm.Cond.privateMethod ({ cls := "RooftopCatsModel", name := "canNominate", desc := "()Z" } : Jvm.MethodName)) ∈ lw_tbl := lw_at lw_m9 207 rfl
theorem q2243 : (Jvm.Cond.instanceMethod ({ cls := "RooftopCatsModel", name := "canNominate", desc := "()Z" } : Jvm.MethodName)) ∈ lw_all := lw_g (lw_at lw_m9 208 rfl) rfl
theorem q2244 : (Jvm.Cond.code ({ cls := "RooftopCatsModel", name := "canNominate", desc := "()Z" } : Jvm.MethodName) prog_11_method_44_code (1 : Nat) (Option.some Jvm.ClassFile.FieldType.boolean)) ∈ lw_all := lw_g (lw_at lw_m9 209 rfl) rfl
theorem q2245 : (Jvm.Cond.methodLink "RooftopCatsModel" (121 : Nat) ({ cls := "RooftopCatsModel", name := "waits", desc := "()Z" } : Jvm.MethodName)) ∈ lw_all := lw_g (lw_at lw_m9 210 rfl) rfl
theorem q2246 : (Jvm.Cond.privateMethod ({ cls := "RooftopCatsModel", name := "waits", desc := "()Z" } : Jvm.MethodName)) ∈ lw_tbl := lw_at lw_m9 211 rfl
theorem q2247 : (Jvm.Cond.instanceMethod ({ cls := "RooftopCatsModel", name := "waits", desc := "()Z" } : Jvm.MethodName)) ∈ lw_all := lw_g (lw_at lw_m9 212 rfl) rfl
theorem q2248 : (Jvm.Cond.code ({ cls := "RooftopCatsModel", name := "waits", desc := "()Z" } : Jvm.MethodName) prog_11_method_43_code (1 : Nat) (Option.some Jvm.ClassFile.FieldType.boolean)) ∈ lw_all := lw_g (lw_at lw_m9 213 rfl) rfl
theorem q2249 : (Jvm.Cond.methodLink "RooftopCatsModel" (251 : Nat) ({ cls := "RooftopCatsModel", name := "nominates", desc := "(II)I" } : Jvm.MethodName)) ∈ lw_all := lw_g (lw_at lw_m9 214 rfl) rfl
theorem q2250 : (Jvm.Cond.privateMethod ({ cls := "RooftopCatsModel", name := "nominates", desc := "(II)I" } : Jvm.MethodName)) ∈ lw_tbl := lw_at lw_m9 215 rfl
theorem q2251 : (Jvm.Cond.instanceMethod ({ cls := "RooftopCatsModel", name := "nominates", desc := "(II)I" } : Jvm.MethodName)) ∈ lw_all := lw_g (lw_at lw_m9 216 rfl) rfl
theorem q2252 : (Jvm.Cond.code ({ cls := "RooftopCatsModel", name := "nominates", desc := "(II)I" } : Jvm.MethodName) prog_11_method_45_code (3 : Nat) (Option.some Jvm.ClassFile.FieldType.int)) ∈ lw_all := lw_g (lw_at lw_m9 217 rfl) rfl
theorem q2253 : (Jvm.Cond.methodLink "RooftopCatsModel" (338 : Nat) ({ cls := "RooftopCatsModel", name := "readsVote", desc := "(Z)Z" } : Jvm.MethodName)) ∈ lw_all := lw_g (lw_at lw_m9 218 rfl) rfl
theorem q2254 : (Jvm.Cond.privateMethod ({ cls := "RooftopCatsModel", name := "readsVote", desc := "(Z)Z" } : Jvm.MethodName)) ∈ lw_tbl := lw_at lw_m9 219 rfl
theorem q2255 : (Jvm.Cond.instanceMethod ({ cls := "RooftopCatsModel", name := "readsVote", desc := "(Z)Z" } : Jvm.MethodName)) ∈ lw_all := lw_g (lw_at lw_m9 220 rfl) rfl
theorem q2256 : (Jvm.Cond.code ({ cls := "RooftopCatsModel", name := "readsVote", desc := "(Z)Z" } : Jvm.MethodName) prog_11_method_74_code (2 : Nat) (Option.some Jvm.ClassFile.FieldType.boolean)) ∈ lw_all := lw_g (lw_at lw_m9 221 rfl) rfl
theorem q2257 : (Jvm.Cond.methodLink "RooftopCatsModel" (254 : Nat) ({ cls := "RooftopCatsModel", name := "canVote", desc := "(I)Z" } : Jvm.MethodName)) ∈ lw_all := lw_g (lw_at lw_m9 222 rfl) rfl
theorem q2258 : (Jvm.Cond.privateMethod ({ cls := "RooftopCatsModel", name := "canVote", desc := "(I)Z" } : Jvm.MethodName)) ∈ lw_tbl := lw_at lw_m9 223 rfl
theorem q2259 : (Jvm.Cond.instanceMethod ({ cls := "RooftopCatsModel", name := "canVote", desc := "(I)Z" } : Jvm.MethodName)) ∈ lw_all := lw_g (lw_at lw_m9 224 rfl) rfl
theorem q2260 : (Jvm.Cond.code ({ cls := "RooftopCatsModel", name := "canVote", desc := "(I)Z" } : Jvm.MethodName) prog_11_method_46_code (2 : Nat) (Option.some Jvm.ClassFile.FieldType.boolean)) ∈ lw_all := lw_g (lw_at lw_m9 225 rfl) rfl
theorem q2261 : (Jvm.Cond.methodLink "RooftopCatsModel" (257 : Nat) ({ cls := "RooftopCatsModel", name := "votes", desc := "(IZ)Z" } : Jvm.MethodName)) ∈ lw_all := lw_g (lw_at lw_m9 226 rfl) rfl
theorem q2262 : (Jvm.Cond.privateMethod ({ cls := "RooftopCatsModel", name := "votes", desc := "(IZ)Z" } : Jvm.MethodName)) ∈ lw_tbl := lw_at lw_m9 227 rfl
theorem q2263 : (Jvm.Cond.instanceMethod ({ cls := "RooftopCatsModel", name := "votes", desc := "(IZ)Z" } : Jvm.MethodName)) ∈ lw_all := lw_g (lw_at lw_m9 228 rfl) rfl
theorem q2264 : (Jvm.Cond.code ({ cls := "RooftopCatsModel", name := "votes", desc := "(IZ)Z" } : Jvm.MethodName) prog_11_method_47_code (3 : Nat) (Option.some Jvm.ClassFile.FieldType.boolean)) ∈ lw_all := lw_g (lw_at lw_m9 229 rfl) rfl
theorem q2265 : (Jvm.Cond.methodLink "RooftopCatsModel" (124 : Nat) ({ cls := "RooftopCatsModel", name := "decides", desc := "()Z" } : Jvm.MethodName)) ∈ lw_all := lw_g (lw_at lw_m9 230 rfl) rfl
theorem q2266 : (Jvm.Cond.privateMethod ({ cls := "RooftopCatsModel", name := "decides", desc := "()Z" } : Jvm.MethodName)) ∈ lw_tbl := lw_at lw_m9 231 rfl
theorem q2267 : (Jvm.Cond.instanceMethod ({ cls := "RooftopCatsModel", name := "decides", desc := "()Z" } : Jvm.MethodName)) ∈ lw_all := lw_g (lw_at lw_m9 232 rfl) rfl
theorem q2268 : (Jvm.Cond.code ({ cls := "RooftopCatsModel", name := "decides", desc := "()Z" } : Jvm.MethodName) prog_11_method_48_code (3 : Nat) (Option.some Jvm.ClassFile.FieldType.boolean)) ∈ lw_all := lw_g (lw_at lw_m9 233 rfl) rfl
theorem q2269 : (Jvm.Cond.methodLink "RooftopCatsModel" (127 : Nat) ({ cls := "RooftopCatsModel", name := "warmestPlace", desc := "()I" } : Jvm.MethodName)) ∈ lw_all := lw_g (lw_at lw_m9 234 rfl) rfl
theorem q2270 : (Jvm.Cond.privateMethod ({ cls := "RooftopCatsModel", name := "warmestPlace", desc := "()I" } : Jvm.MethodName)) ∈ lw_tbl := lw_at lw_m9 235 rfl
theorem q2271 : (Jvm.Cond.instanceMethod ({ cls := "RooftopCatsModel", name := "warmestPlace", desc := "()I" } : Jvm.MethodName)) ∈ lw_all := lw_g (lw_at lw_m9 236 rfl) rfl
theorem q2272 : (Jvm.Cond.code ({ cls := "RooftopCatsModel", name := "warmestPlace", desc := "()I" } : Jvm.MethodName) prog_11_method_32_code (3 : Nat) (Option.some Jvm.ClassFile.FieldType.int)) ∈ lw_all := lw_g (lw_at lw_m9 237 rfl) rfl
theorem q2273 : (Jvm.Cond.methodLink "RooftopCatsModel" (115 : Nat) ({ cls := "RooftopCatsModel", name := "bits", desc := "(I)I" } : Jvm.MethodName)) ∈ lw_all := lw_g (lw_at lw_m9 238 rfl) rfl
theorem q2274 : (Jvm.Cond.static ({ cls := "RooftopCatsModel", name := "bits", desc := "(I)I" } : Jvm.MethodName)) ∈ lw_all := lw_g (lw_at lw_m9 239 rfl) rfl
theorem q2275 : (Jvm.Cond.code ({ cls := "RooftopCatsModel", name := "bits", desc := "(I)I" } : Jvm.MethodName) prog_11_method_30_code (3 : Nat) (Option.some Jvm.ClassFile.FieldType.int)) ∈ lw_all := lw_g (lw_at lw_m10 0 rfl) rfl
theorem q2276 : (Jvm.Cond.methodLink "RooftopCatsModel" (341 : Nat) ({ cls := "RooftopCatsModel", name := "readsNights", desc := "()Z" } : Jvm.MethodName)) ∈ lw_all := lw_g (lw_at lw_m10 1 rfl) rfl
theorem q2277 : (Jvm.Cond.privateMethod ({ cls := "RooftopCatsModel", name := "readsNights", desc := "()Z" } : Jvm.MethodName)) ∈ lw_tbl := lw_at lw_m10 2 rfl
theorem q2278 : (Jvm.Cond.instanceMethod ({ cls := "RooftopCatsModel", name := "readsNights", desc := "()Z" } : Jvm.MethodName)) ∈ lw_all := lw_g (lw_at lw_m10 3 rfl) rfl
theorem q2279 : (Jvm.Cond.code ({ cls := "RooftopCatsModel", name := "readsNights", desc := "()Z" } : Jvm.MethodName) prog_11_method_75_code (1 : Nat) (Option.some Jvm.ClassFile.FieldType.boolean)) ∈ lw_all := lw_g (lw_at lw_m10 4 rfl) rfl
theorem q2280 : (Jvm.Cond.methodLink "RooftopCatsModel" (261 : Nat) ({ cls := "RooftopCatsModel", name := "passes", desc := "(I)I" } : Jvm.MethodName)) ∈ lw_all := lw_g (lw_at lw_m10 5 rfl) rfl
theorem q2281 : (Jvm.Cond.privateMethod ({ cls := "RooftopCatsModel", name := "passes", desc := "(I)I" } : Jvm.MethodName)) ∈ lw_tbl := lw_at lw_m10 6 rfl
theorem q2282 : (Jvm.Cond.instanceMethod ({ cls := "RooftopCatsModel", name := "passes", desc := "(I)I" } : Jvm.MethodName)) ∈ lw_all := lw_g (lw_at lw_m10 7 rfl) rfl
theorem q2283 : (Jvm.Cond.code ({ cls := "RooftopCatsModel", name := "passes", desc := "(I)I" } : Jvm.MethodName) prog_11_method_52_code (4 : Nat) (Option.some Jvm.ClassFile.FieldType.int)) ∈ lw_all := lw_g (lw_at lw_m10 8 rfl) rfl
theorem q2284 : (Jvm.Cond.methodLink "RooftopCatsModel" (141 : Nat) ({ cls := "RooftopCatsModel", name := "feeds", desc := "(II)V" } : Jvm.MethodName)) ∈ lw_all := lw_g (lw_at lw_m10 9 rfl) rfl
theorem q2285 : (Jvm.Cond.privateMethod ({ cls := "RooftopCatsModel", name := "feeds", desc := "(II)V" } : Jvm.MethodName)) ∈ lw_tbl := lw_at lw_m10 10 rfl
theorem q2286 : (Jvm.Cond.instanceMethod ({ cls := "RooftopCatsModel", name := "feeds", desc := "(II)V" } : Jvm.MethodName)) ∈ lw_all := lw_g (lw_at lw_m10 11 rfl) rfl
theorem q2287 : (Jvm.Cond.code ({ cls := "RooftopCatsModel", name := "feeds", desc := "(II)V" } : Jvm.MethodName) prog_11_method_49_code (4 : Nat) (Option.none : Option Jvm.ClassFile.FieldType)) ∈ lw_all := lw_g (lw_at lw_m10 12 rfl) rfl
theorem q2288 : (Jvm.Cond.methodLink "RooftopCatsModel" (135 : Nat) ({ cls := "java/lang/Math", name := "min", desc := "(II)I" } : Jvm.MethodName)) ∈ lw_all := lw_g (lw_at lw_m10 13 rfl) rfl
theorem q2289 : (Jvm.Cond.methodLink "RooftopCatsModel" (145 : Nat) ({ cls := "RooftopCatsModel", name := "eats", desc := "(I)V" } : Jvm.MethodName)) ∈ lw_all := lw_g (lw_at lw_m10 14 rfl) rfl
theorem q2290 : (Jvm.Cond.privateMethod ({ cls := "RooftopCatsModel", name := "eats", desc := "(I)V" } : Jvm.MethodName)) ∈ lw_tbl := lw_at lw_m10 15 rfl
theorem q2291 : (Jvm.Cond.instanceMethod ({ cls := "RooftopCatsModel", name := "eats", desc := "(I)V" } : Jvm.MethodName)) ∈ lw_all := lw_g (lw_at lw_m10 16 rfl) rfl
theorem q2292 : (Jvm.Cond.code ({ cls := "RooftopCatsModel", name := "eats", desc := "(I)V" } : Jvm.MethodName) prog_11_method_50_code (2 : Nat) (Option.none : Option Jvm.ClassFile.FieldType)) ∈ lw_all := lw_g (lw_at lw_m10 17 rfl) rfl
theorem q2293 : (Jvm.Cond.methodLink "RooftopCatsModel" (149 : Nat) ({ cls := "RooftopCatsModel", name := "sings", desc := "()V" } : Jvm.MethodName)) ∈ lw_all := lw_g (lw_at lw_m10 18 rfl) rfl
theorem q2294 : (Jvm.Cond.privateMethod ({ cls := "RooftopCatsModel", name := "sings", desc := "()V" } : Jvm.MethodName)) ∈ lw_tbl := lw_at lw_m10 19 rfl
theorem q2295 : (Jvm.Cond.instanceMethod ({ cls := "RooftopCatsModel", name := "sings", desc := "()V" } : Jvm.MethodName)) ∈ lw_all := lw_g (lw_at lw_m10 20 rfl) rfl
theorem q2296 : (Jvm.Cond.code ({ cls := "RooftopCatsModel", name := "sings", desc := "()V" } : Jvm.MethodName) prog_11_method_51_code (3 : Nat) (Option.none : Option Jvm.ClassFile.FieldType)) ∈ lw_all := lw_g (lw_at lw_m10 21 rfl) rfl
theorem q2297 : (Jvm.Cond.methodLink "RooftopCatsModel" (138 : Nat) ({ cls := "RooftopCatsModel", name := "greatestChoir", desc := "()I" } : Jvm.MethodName)) ∈ lw_all := lw_g (lw_at lw_m10 22 rfl) rfl
theorem q2298 : (Jvm.Cond.privateMethod ({ cls := "RooftopCatsModel", name := "greatestChoir", desc := "()I" } : Jvm.MethodName)) ∈ lw_tbl := lw_at lw_m10 23 rfl
theorem q2299 : (Jvm.Cond.instanceMethod ({ cls := "RooftopCatsModel", name := "greatestChoir", desc := "()I" } : Jvm.MethodName)) ∈ lw_all := lw_g (lw_at lw_m10 24 rfl) rfl
theorem q2300 : (Jvm.Cond.code ({ cls := "RooftopCatsModel", name := "greatestChoir", desc := "()I" } : Jvm.MethodName) prog_11_method_31_code (4 : Nat) (Option.some Jvm.ClassFile.FieldType.int)) ∈ lw_all := lw_g (lw_at lw_m10 25 rfl) rfl
theorem q2301 : (Jvm.Cond.methodLink "RooftopCatsModel" (112 : Nat) ({ cls := "RooftopCatsModel", name := "choir", desc := "(I)I" } : Jvm.MethodName)) ∈ lw_all := lw_g (lw_at lw_m10 26 rfl) rfl
theorem q2302 : (Jvm.Cond.privateMethod ({ cls := "RooftopCatsModel", name := "choir", desc := "(I)I" } : Jvm.MethodName)) ∈ lw_tbl := lw_at lw_m10 27 rfl
theorem q2303 : (Jvm.Cond.instanceMethod ({ cls := "RooftopCatsModel", name := "choir", desc := "(I)I" } : Jvm.MethodName)) ∈ lw_all := lw_g (lw_at lw_m10 28 rfl) rfl
theorem q2304 : (Jvm.Cond.code ({ cls := "RooftopCatsModel", name := "choir", desc := "(I)I" } : Jvm.MethodName) prog_11_method_29_code (7 : Nat) (Option.some Jvm.ClassFile.FieldType.int)) ∈ lw_all := lw_g (lw_at lw_m10 29 rfl) rfl
theorem q2305 : (Jvm.Cond.fieldLink "RooftopCatsModel" (7 : Nat) "RooftopCatsModel" "w" "[I") ∈ lw_all := lw_g (lw_at lw_m10 30 rfl) rfl
theorem q2306 : (Jvm.Cond.fieldLink "RooftopCatsModel" (13 : Nat) "RooftopCatsModel" "before" "[I") ∈ lw_all := lw_g (lw_at lw_m10 31 rfl) rfl
theorem q2307 : (Jvm.Cond.fieldLink "RooftopCatsModel" (16 : Nat) "RooftopCatsModel" "aside" "[I") ∈ lw_all := lw_g (lw_at lw_m10 32 rfl) rfl
theorem q2308 : (Jvm.Cond.fieldLink "RooftopCatsModel" (19 : Nat) "RooftopCatsModel" "past" "[I") ∈ lw_all := lw_g (lw_at lw_m10 33 rfl) rfl
theorem q2309 : (Jvm.Cond.fieldLink "RooftopCatsModel" (22 : Nat) "RooftopCatsModel" "kept" "[I") ∈ lw_all := lw_g (lw_at lw_m10 34 rfl) rfl
theorem q2310 : (Jvm.Cond.fieldLink "RooftopCatsModel" (358 : Nat) "RooftopCatsModel" "pastMany" "I") ∈ lw_all := lw_g (lw_at lw_m10 35 rfl) rfl
theorem q2311 : (Jvm.Cond.fieldLink "RooftopCatsModel" (388 : Nat) "RooftopCatsModel" "isKept" "Z") ∈ lw_all := lw_g (lw_at lw_m10 36 rfl) rfl
theorem q2312 : (Jvm.Cond.fieldLink "RooftopCatsModel" (25 : Nat) "RooftopCatsModel" "buffer" "[I") ∈ lw_all := lw_g (lw_at lw_m10 37 rfl) rfl
theorem q2313 : (Jvm.Cond.fieldLink "RooftopCatsModel" (28 : Nat) "RooftopCatsModel" "text" "[I") ∈ lw_all := lw_g (lw_at lw_m10 38 rfl) rfl
theorem q2314 : (Jvm.Cond.fieldLink "RooftopCatsModel" (31 : Nat) "RooftopCatsModel" "steps" "[I") ∈ lw_all := lw_g (lw_at lw_m10 39 rfl) rfl
theorem q2315 : (Jvm.Cond.fieldLink "RooftopCatsModel" (349 : Nat) "RooftopCatsModel" "typed" "I") ∈ lw_all := lw_g (lw_at lw_m10 40 rfl) rfl
theorem q2316 : (Jvm.Cond.fieldLink "RooftopCatsModel" (157 : Nat) "RooftopCatsModel" "textLength" "I") ∈ lw_all := lw_g (lw_at lw_m10 41 rfl) rfl
theorem q2317 : (Jvm.Cond.fieldLink "RooftopCatsModel" (179 : Nat) "RooftopCatsModel" "errorKind" "I") ∈ lw_all := lw_g (lw_at lw_m10 42 rfl) rfl
theorem q2318 : (Jvm.Cond.fieldLink "RooftopCatsModel" (34 : Nat) "RooftopCatsModel" "errorOffset" "I") ∈ lw_all := lw_g (lw_at lw_m10 43 rfl) rfl
theorem q2319 : (Jvm.Cond.fieldLink "RooftopCatsModel" (38 : Nat) "RooftopCatsModel" "report" "[C") ∈ lw_all := lw_g (lw_at lw_m10 44 rfl) rfl
theorem q2320 : (Jvm.Cond.fieldLink "RooftopCatsModel" (410 : Nat) "RooftopCatsModel" "reportLength" "I") ∈ lw_all := lw_g (lw_at lw_m10 45 rfl) rfl
theorem q2321 : (Jvm.Cond.fieldLink "RooftopCatsModel" (57 : Nat) "RooftopCatsModel" "thrown" "I") ∈ lw_all := lw_g (lw_at lw_m10 46 rfl) rfl
theorem q2322 : (Jvm.Cond.fieldLink "RooftopCatsModel" (170 : Nat) "RooftopCatsModel" "kind" "I") ∈ lw_all := lw_g (lw_at lw_m10 47 rfl) rfl
theorem q2323 : (Jvm.Cond.fieldLink "RooftopCatsModel" (167 : Nat) "RooftopCatsModel" "offset" "I") ∈ lw_all := lw_g (lw_at lw_m10 48 rfl) rfl
theorem q2324 : (Jvm.Cond.fieldLink "RooftopCatsModel" (164 : Nat) "RooftopCatsModel" "tokenEnd" "I") ∈ lw_all := lw_g (lw_at lw_m10 49 rfl) rfl
theorem q2325 : (Jvm.Cond.fieldLink "RooftopCatsModel" (176 : Nat) "RooftopCatsModel" "value" "I") ∈ lw_all := lw_g (lw_at lw_m10 50 rfl) rfl
theorem q2326 : (Jvm.Cond.fieldLink "RooftopCatsModel" (305 : Nat) "RooftopCatsModel" "executed" "I") ∈ lw_all := lw_g (lw_at lw_m10 51 rfl) rfl
theorem q2327 : (Jvm.Cond.fieldLink "RooftopCatsModel" (42 : Nat) "RooftopCatsModel" "numbers" "[I") ∈ lw_all := lw_g (lw_at lw_m10 52 rfl) rfl
theorem q2328 : (Jvm.Cond.laysFinal "RooftopCatsModel" "RooftopCatsModel" "w" "[I") ∈ lw_all := lw_g (lw_at lw_m10 53 rfl) rfl
theorem q2329 : (Jvm.Cond.soleField "RooftopCatsModel" "w") ∈ lw_all := lw_g (lw_at lw_m10 54 rfl) rfl
theorem q2330 : (Jvm.Cond.laysFinal "RooftopCatsModel" "RooftopCatsModel" "before" "[I") ∈ lw_all := lw_g (lw_at lw_m10 55 rfl) rfl
theorem q2331 : (Jvm.Cond.soleField "RooftopCatsModel" "before") ∈ lw_all := lw_g (lw_at lw_m10 56 rfl) rfl
theorem q2332 : (Jvm.Cond.laysFinal "RooftopCatsModel" "RooftopCatsModel" "aside" "[I") ∈ lw_all := lw_g (lw_at lw_m10 57 rfl) rfl
theorem q2333 : (Jvm.Cond.soleField "RooftopCatsModel" "aside") ∈ lw_all := lw_g (lw_at lw_m10 58 rfl) rfl
theorem q2334 : (Jvm.Cond.laysFinal "RooftopCatsModel" "RooftopCatsModel" "past" "[I") ∈ lw_all := lw_g (lw_at lw_m10 59 rfl) rfl
theorem q2335 : (Jvm.Cond.soleField "RooftopCatsModel" "past") ∈ lw_all := lw_g (lw_at lw_m10 60 rfl) rfl
theorem q2336 : (Jvm.Cond.laysFinal "RooftopCatsModel" "RooftopCatsModel" "kept" "[I") ∈ lw_all := lw_g (lw_at lw_m10 61 rfl) rfl
theorem q2337 : (Jvm.Cond.soleField "RooftopCatsModel" "kept") ∈ lw_all := lw_g (lw_at lw_m10 62 rfl) rfl
theorem q2338 : (Jvm.Cond.lays "RooftopCatsModel" "RooftopCatsModel" "pastMany" "I") ∈ lw_all := lw_g (lw_at lw_m10 63 rfl) rfl
theorem q2339 : (Jvm.Cond.soleField "RooftopCatsModel" "pastMany") ∈ lw_all := lw_g (lw_at lw_m10 64 rfl) rfl
theorem q2340 : (Jvm.Cond.lays "RooftopCatsModel" "RooftopCatsModel" "isKept" "Z") ∈ lw_all := lw_g (lw_at lw_m10 65 rfl) rfl
theorem q2341 : (Jvm.Cond.soleField "RooftopCatsModel" "isKept") ∈ lw_all := lw_g (lw_at lw_m10 66 rfl) rfl
theorem q2342 : (Jvm.Cond.laysFinal "RooftopCatsModel" "RooftopCatsModel" "buffer" "[I") ∈ lw_all := lw_g (lw_at lw_m10 67 rfl) rfl
theorem q2343 : (Jvm.Cond.soleField "RooftopCatsModel" "buffer") ∈ lw_all := lw_g (lw_at lw_m10 68 rfl) rfl
theorem q2344 : (Jvm.Cond.laysFinal "RooftopCatsModel" "RooftopCatsModel" "text" "[I") ∈ lw_all := lw_g (lw_at lw_m10 69 rfl) rfl
theorem q2345 : (Jvm.Cond.soleField "RooftopCatsModel" "text") ∈ lw_all := lw_g (lw_at lw_m10 70 rfl) rfl
theorem q2346 : (Jvm.Cond.laysFinal "RooftopCatsModel" "RooftopCatsModel" "steps" "[I") ∈ lw_all := lw_g (lw_at lw_m10 71 rfl) rfl
theorem q2347 : (Jvm.Cond.soleField "RooftopCatsModel" "steps") ∈ lw_all := lw_g (lw_at lw_m10 72 rfl) rfl
theorem q2348 : (Jvm.Cond.lays "RooftopCatsModel" "RooftopCatsModel" "typed" "I") ∈ lw_all := lw_g (lw_at lw_m10 73 rfl) rfl
theorem q2349 : (Jvm.Cond.soleField "RooftopCatsModel" "typed") ∈ lw_all := lw_g (lw_at lw_m10 74 rfl) rfl
theorem q2350 : (Jvm.Cond.lays "RooftopCatsModel" "RooftopCatsModel" "textLength" "I") ∈ lw_all := lw_g (lw_at lw_m10 75 rfl) rfl
theorem q2351 : (Jvm.Cond.soleField "RooftopCatsModel" "textLength") ∈ lw_all := lw_g (lw_at lw_m10 76 rfl) rfl
theorem q2352 : (Jvm.Cond.lays "RooftopCatsModel" "RooftopCatsModel" "errorKind" "I") ∈ lw_all := lw_g (lw_at lw_m10 77 rfl) rfl
theorem q2353 : (Jvm.Cond.soleField "RooftopCatsModel" "errorKind") ∈ lw_all := lw_g (lw_at lw_m10 78 rfl) rfl
theorem q2354 : (Jvm.Cond.lays "RooftopCatsModel" "RooftopCatsModel" "errorOffset" "I") ∈ lw_all := lw_g (lw_at lw_m10 79 rfl) rfl
theorem q2355 : (Jvm.Cond.soleField "RooftopCatsModel" "errorOffset") ∈ lw_all := lw_g (lw_at lw_m10 80 rfl) rfl
theorem q2356 : (Jvm.Cond.laysFinal "RooftopCatsModel" "RooftopCatsModel" "report" "[C") ∈ lw_all := lw_g (lw_at lw_m10 81 rfl) rfl
theorem q2357 : (Jvm.Cond.soleField "RooftopCatsModel" "report") ∈ lw_all := lw_g (lw_at lw_m10 82 rfl) rfl
theorem q2358 : (Jvm.Cond.lays "RooftopCatsModel" "RooftopCatsModel" "reportLength" "I") ∈ lw_all := lw_g (lw_at lw_m10 83 rfl) rfl
theorem q2359 : (Jvm.Cond.soleField "RooftopCatsModel" "reportLength") ∈ lw_all := lw_g (lw_at lw_m10 84 rfl) rfl
theorem q2360 : (Jvm.Cond.lays "RooftopCatsModel" "RooftopCatsModel" "thrown" "I") ∈ lw_all := lw_g (lw_at lw_m10 85 rfl) rfl
theorem q2361 : (Jvm.Cond.soleField "RooftopCatsModel" "thrown") ∈ lw_all := lw_g (lw_at lw_m10 86 rfl) rfl
theorem q2362 : (Jvm.Cond.lays "RooftopCatsModel" "RooftopCatsModel" "kind" "I") ∈ lw_all := lw_g (lw_at lw_m10 87 rfl) rfl
theorem q2363 : (Jvm.Cond.soleField "RooftopCatsModel" "kind") ∈ lw_all := lw_g (lw_at lw_m10 88 rfl) rfl
theorem q2364 : (Jvm.Cond.lays "RooftopCatsModel" "RooftopCatsModel" "offset" "I") ∈ lw_all := lw_g (lw_at lw_m10 89 rfl) rfl
theorem q2365 : (Jvm.Cond.soleField "RooftopCatsModel" "offset") ∈ lw_all := lw_g (lw_at lw_m10 90 rfl) rfl
theorem q2366 : (Jvm.Cond.lays "RooftopCatsModel" "RooftopCatsModel" "tokenEnd" "I") ∈ lw_all := lw_g (lw_at lw_m10 91 rfl) rfl
theorem q2367 : (Jvm.Cond.soleField "RooftopCatsModel" "tokenEnd") ∈ lw_all := lw_g (lw_at lw_m10 92 rfl) rfl
theorem q2368 : (Jvm.Cond.lays "RooftopCatsModel" "RooftopCatsModel" "value" "I") ∈ lw_all := lw_g (lw_at lw_m10 93 rfl) rfl
theorem q2369 : (Jvm.Cond.soleField "RooftopCatsModel" "value") ∈ lw_all := lw_g (lw_at lw_m10 94 rfl) rfl
theorem q2370 : (Jvm.Cond.lays "RooftopCatsModel" "RooftopCatsModel" "executed" "I") ∈ lw_all := lw_g (lw_at lw_m10 95 rfl) rfl
theorem q2371 : (Jvm.Cond.soleField "RooftopCatsModel" "executed") ∈ lw_all := lw_g (lw_at lw_m10 96 rfl) rfl
theorem q2372 : (Jvm.Cond.laysFinal "RooftopCatsModel" "RooftopCatsModel" "numbers" "[I") ∈ lw_all := lw_g (lw_at lw_m10 97 rfl) rfl
theorem q2373 : (Jvm.Cond.soleField "RooftopCatsModel" "numbers") ∈ lw_all := lw_g (lw_at lw_m10 98 rfl) rfl
theorem q2374 : (Jvm.Cond.superclass "RooftopCatsModel" "java/lang/Object") ∈ lw_all := lw_g (lw_at lw_m10 99 rfl) rfl
theorem q2377 : (Jvm.Cond.instanceMethod ({ cls := "RooftopCatsModel", name := "thrown", desc := "()I" } : Jvm.MethodName)) ∈ lw_all := lw_g (lw_at lw_m10 102 rfl) rfl
theorem q2378 : (Jvm.Cond.selects "RooftopCatsModel" ({ cls := "RooftopCatsModel", name := "thrown", desc := "()I" } : Jvm.MethodName) ({ cls := "RooftopCatsModel", name := "thrown", desc := "()I" } : Jvm.MethodName)) ∈ lw_all := lw_g (lw_at lw_m10 103 rfl) rfl
theorem q2379 : (Jvm.Cond.code ({ cls := "RooftopCatsModel", name := "thrown", desc := "()I" } : Jvm.MethodName) prog_11_method_2_code (1 : Nat) (Option.some Jvm.ClassFile.FieldType.int)) ∈ lw_all := lw_g (lw_at lw_m10 104 rfl) rfl
theorem q2381 : (Jvm.Cond.instanceMethod ({ cls := "RooftopCatsModel", name := "append", desc := "(IIIII)I" } : Jvm.MethodName)) ∈ lw_all := lw_g (lw_at lw_m10 106 rfl) rfl
theorem q2382 : (Jvm.Cond.selects "RooftopCatsModel" ({ cls := "RooftopCatsModel", name := "append", desc := "(IIIII)I" } : Jvm.MethodName) ({ cls := "RooftopCatsModel", name := "append", desc := "(IIIII)I" } : Jvm.MethodName)) ∈ lw_all := lw_g (lw_at lw_m10 107 rfl) rfl
theorem q2383 : (Jvm.Cond.code ({ cls := "RooftopCatsModel", name := "append", desc := "(IIIII)I" } : Jvm.MethodName) prog_11_method_83_code (6 : Nat) (Option.some Jvm.ClassFile.FieldType.int)) ∈ lw_all := lw_g (lw_at lw_m10 108 rfl) rfl
theorem q2384 : (Jvm.Cond.methodLink "RooftopCatsModel" (352 : Nat) ({ cls := "RooftopCatsModel", name := "type", desc := "(I)V" } : Jvm.MethodName)) ∈ lw_all := lw_g (lw_at lw_m10 109 rfl) rfl
theorem q2385 : (Jvm.Cond.privateMethod ({ cls := "RooftopCatsModel", name := "type", desc := "(I)V" } : Jvm.MethodName)) ∈ lw_tbl := lw_at lw_m10 110 rfl
theorem q2386 : (Jvm.Cond.instanceMethod ({ cls := "RooftopCatsModel", name := "type", desc := "(I)V" } : Jvm.MethodName)) ∈ lw_all := lw_g (lw_at lw_m10 111 rfl) rfl
theorem q2387 : (Jvm.Cond.code ({ cls := "RooftopCatsModel", name := "type", desc := "(I)V" } : Jvm.MethodName) prog_11_method_84_code (3 : Nat) (Option.none : Option Jvm.ClassFile.FieldType)) ∈ lw_all := lw_g (lw_at lw_m10 112 rfl) rfl
theorem q2389 : (Jvm.Cond.instanceMethod ({ cls := "RooftopCatsModel", name := "truncateInput", desc := "(I)I" } : Jvm.MethodName)) ∈ lw_all := lw_g (lw_at lw_m10 114 rfl) rfl
theorem q2390 : (Jvm.Cond.selects "RooftopCatsModel" ({ cls := "RooftopCatsModel", name := "truncateInput", desc := "(I)I" } : Jvm.MethodName) ({ cls := "RooftopCatsModel", name := "truncateInput", desc := "(I)I" } : Jvm.MethodName)) ∈ lw_all := lw_g (lw_at lw_m10 115 rfl) rfl
theorem q2391 : (Jvm.Cond.code ({ cls := "RooftopCatsModel", name := "truncateInput", desc := "(I)I" } : Jvm.MethodName) prog_11_method_85_code (2 : Nat) (Option.some Jvm.ClassFile.FieldType.int)) ∈ lw_all := lw_g (lw_at lw_m10 116 rfl) rfl
theorem q2392 : (Jvm.Cond.methodLink "RooftopCatsModel" (355 : Nat) ({ cls := "RooftopCatsModel", name := "throwsOne", desc := "(Z)Z" } : Jvm.MethodName)) ∈ lw_all := lw_g (lw_at lw_m10 117 rfl) rfl
theorem q2393 : (Jvm.Cond.privateMethod ({ cls := "RooftopCatsModel", name := "throwsOne", desc := "(Z)Z" } : Jvm.MethodName)) ∈ lw_tbl := lw_at lw_m10 118 rfl
theorem q2394 : (Jvm.Cond.instanceMethod ({ cls := "RooftopCatsModel", name := "throwsOne", desc := "(Z)Z" } : Jvm.MethodName)) ∈ lw_all := lw_g (lw_at lw_m10 119 rfl) rfl
theorem q2395 : (Jvm.Cond.code ({ cls := "RooftopCatsModel", name := "throwsOne", desc := "(Z)Z" } : Jvm.MethodName) prog_11_method_4_code (2 : Nat) (Option.some Jvm.ClassFile.FieldType.boolean)) ∈ lw_all := lw_g (lw_at lw_m10 120 rfl) rfl
theorem q2397 : (Jvm.Cond.instanceMethod ({ cls := "RooftopCatsModel", name := "runScript", desc := "()I" } : Jvm.MethodName)) ∈ lw_all := lw_g (lw_at lw_m10 122 rfl) rfl
theorem q2398 : (Jvm.Cond.selects "RooftopCatsModel" ({ cls := "RooftopCatsModel", name := "runScript", desc := "()I" } : Jvm.MethodName) ({ cls := "RooftopCatsModel", name := "runScript", desc := "()I" } : Jvm.MethodName)) ∈ lw_all := lw_g (lw_at lw_m10 123 rfl) rfl
theorem q2399 : (Jvm.Cond.code ({ cls := "RooftopCatsModel", name := "runScript", desc := "()I" } : Jvm.MethodName) prog_11_method_88_code (2 : Nat) (Option.some Jvm.ClassFile.FieldType.int)) ∈ lw_all := lw_g (lw_at lw_m10 124 rfl) rfl
theorem q2400 : (Jvm.Cond.methodLink "RooftopCatsModel" (361 : Nat) ({ cls := "RooftopCatsModel", name := "begins", desc := "()V" } : Jvm.MethodName)) ∈ lw_all := lw_g (lw_at lw_m10 125 rfl) rfl
theorem q2401 : (Jvm.Cond.privateMethod ({ cls := "RooftopCatsModel", name := "begins", desc := "()V" } : Jvm.MethodName)) ∈ lw_tbl := lw_at lw_m10 126 rfl
theorem q2402 : (Jvm.Cond.instanceMethod ({ cls := "RooftopCatsModel", name := "begins", desc := "()V" } : Jvm.MethodName)) ∈ lw_all := lw_g (lw_at lw_m10 127 rfl) rfl
theorem q2403 : (Jvm.Cond.code ({ cls := "RooftopCatsModel", name := "begins", desc := "()V" } : Jvm.MethodName) prog_11_method_86_code (2 : Nat) (Option.none : Option Jvm.ClassFile.FieldType)) ∈ lw_all := lw_g (lw_at lw_m10 128 rfl) rfl
theorem q2404 : (Jvm.Cond.methodLink "RooftopCatsModel" (364 : Nat) ({ cls := "RooftopCatsModel", name := "remember", desc := "(I)I" } : Jvm.MethodName)) ∈ lw_all := lw_g (lw_at lw_m10 129 rfl) rfl
theorem q2405 : (Jvm.Cond.privateMethod ({ cls := "RooftopCatsModel", name := "remember", desc := "(I)I" } : Jvm.MethodName)) ∈ lw_tbl := lw_at lw_m10 130 rfl
theorem q2406 : (Jvm.Cond.instanceMethod ({ cls := "RooftopCatsModel", name := "remember", desc := "(I)I" } : Jvm.MethodName)) ∈ lw_all := lw_g (lw_at lw_m10 131 rfl) rfl
theorem q2407 : (Jvm.Cond.code ({ cls := "RooftopCatsModel", name := "remember", desc := "(I)I" } : Jvm.MethodName) prog_11_method_87_code (3 : Nat) (Option.some Jvm.ClassFile.FieldType.int)) ∈ lw_all := lw_g (lw_at lw_m10 132 rfl) rfl
theorem q2409 : (Jvm.Cond.instanceMethod ({ cls := "RooftopCatsModel", name := "addChimney", desc := "(I)I" } : Jvm.MethodName)) ∈ lw_all := lw_g (lw_at lw_m10 134 rfl) rfl
theorem q2410 : (Jvm.Cond.selects "RooftopCatsModel" ({ cls := "RooftopCatsModel", name := "addChimney", desc := "(I)I" } : Jvm.MethodName) ({ cls := "RooftopCatsModel", name := "addChimney", desc := "(I)I" } : Jvm.MethodName)) ∈ lw_all := lw_g (lw_at lw_m10 135 rfl) rfl
theorem q2411 : (Jvm.Cond.code ({ cls := "RooftopCatsModel", name := "addChimney", desc := "(I)I" } : Jvm.MethodName) prog_11_method_89_code (2 : Nat) (Option.some Jvm.ClassFile.FieldType.int)) ∈ lw_all := lw_g (lw_at lw_m10 136 rfl) rfl
theorem q2412 : (Jvm.Cond.methodLink "RooftopCatsModel" (367 : Nat) ({ cls := "RooftopCatsModel", name := "throwsOne", desc := "(ZZ)Z" } : Jvm.MethodName)) ∈ lw_all := lw_g (lw_at lw_m10 137 rfl) rfl
theorem q2413 : (Jvm.Cond.privateMethod ({ cls := "RooftopCatsModel", name := "throwsOne", desc := "(ZZ)Z" } : Jvm.MethodName)) ∈ lw_tbl := lw_at lw_m10 138 rfl
theorem q2414 : (Jvm.Cond.instanceMethod ({ cls := "RooftopCatsModel", name := "throwsOne", desc := "(ZZ)Z" } : Jvm.MethodName)) ∈ lw_all := lw_g (lw_at lw_m10 139 rfl) rfl
theorem q2415 : (Jvm.Cond.code ({ cls := "RooftopCatsModel", name := "throwsOne", desc := "(ZZ)Z" } : Jvm.MethodName) prog_11_method_5_code (3 : Nat) (Option.some Jvm.ClassFile.FieldType.boolean)) ∈ lw_all := lw_g (lw_at lw_m10 140 rfl) rfl
theorem q2417 : (Jvm.Cond.instanceMethod ({ cls := "RooftopCatsModel", name := "addGutter", desc := "(III)I" } : Jvm.MethodName)) ∈ lw_all := lw_g (lw_at lw_m10 142 rfl) rfl
theorem q2418 : (Jvm.Cond.selects "RooftopCatsModel" ({ cls := "RooftopCatsModel", name := "addGutter", desc := "(III)I" } : Jvm.MethodName) ({ cls := "RooftopCatsModel", name := "addGutter", desc := "(III)I" } : Jvm.MethodName)) ∈ lw_all := lw_g (lw_at lw_m10 143 rfl) rfl
theorem q2419 : (Jvm.Cond.code ({ cls := "RooftopCatsModel", name := "addGutter", desc := "(III)I" } : Jvm.MethodName) prog_11_method_90_code (4 : Nat) (Option.some Jvm.ClassFile.FieldType.int)) ∈ lw_all := lw_g (lw_at lw_m10 144 rfl) rfl
theorem q2420 : (Jvm.Cond.methodLink "RooftopCatsModel" (370 : Nat) ({ cls := "RooftopCatsModel", name := "isChimney", desc := "(I)Z" } : Jvm.MethodName)) ∈ lw_all := lw_g (lw_at lw_m10 145 rfl) rfl
theorem q2421 : (Jvm.Cond.privateMethod ({ cls := "RooftopCatsModel", name := "isChimney", desc := "(I)Z" } : Jvm.MethodName)) ∈ lw_tbl := lw_at lw_m10 146 rfl
theorem q2422 : (Jvm.Cond.instanceMethod ({ cls := "RooftopCatsModel", name := "isChimney", desc := "(I)Z" } : Jvm.MethodName)) ∈ lw_all := lw_g (lw_at lw_m10 147 rfl) rfl
theorem q2423 : (Jvm.Cond.code ({ cls := "RooftopCatsModel", name := "isChimney", desc := "(I)Z" } : Jvm.MethodName) prog_11_method_7_code (2 : Nat) (Option.some Jvm.ClassFile.FieldType.boolean)) ∈ lw_all := lw_g (lw_at lw_m10 148 rfl) rfl
theorem q2424 : (Jvm.Cond.methodLink "RooftopCatsModel" (373 : Nat) ({ cls := "RooftopCatsModel", name := "throwsOne", desc := "(ZZZ)Z" } : Jvm.MethodName)) ∈ lw_all := lw_g (lw_at lw_m10 149 rfl) rfl
theorem q2425 : (Jvm.Cond.privateMethod ({ cls := "RooftopCatsModel", name := "throwsOne", desc := "(ZZZ)Z" } : Jvm.MethodName)) ∈ lw_tbl := lw_at lw_m10 150 rfl
theorem q2426 : (Jvm.Cond.instanceMethod ({ cls := "RooftopCatsModel", name := "throwsOne", desc := "(ZZZ)Z" } : Jvm.MethodName)) ∈ lw_all := lw_g (lw_at lw_m10 151 rfl) rfl
theorem q2427 : (Jvm.Cond.code ({ cls := "RooftopCatsModel", name := "throwsOne", desc := "(ZZZ)Z" } : Jvm.MethodName) prog_11_method_6_code (4 : Nat) (Option.some Jvm.ClassFile.FieldType.boolean)) ∈ lw_all := lw_g (lw_at lw_m10 152 rfl) rfl
theorem q2429 : (Jvm.Cond.instanceMethod ({ cls := "RooftopCatsModel", name := "addCat", desc := "(III)I" } : Jvm.MethodName)) ∈ lw_all := lw_g (lw_at lw_m10 154 rfl) rfl
theorem q2430 : (Jvm.Cond.selects "RooftopCatsModel" ({ cls := "RooftopCatsModel", name := "addCat", desc := "(III)I" } : Jvm.MethodName) ({ cls := "RooftopCatsModel", name := "addCat", desc := "(III)I" } : Jvm.MethodName)) ∈ lw_all := lw_g (lw_at lw_m10 155 rfl) rfl
theorem q2431 : (Jvm.Cond.code ({ cls := "RooftopCatsModel", name := "addCat", desc := "(III)I" } : Jvm.MethodName) prog_11_method_92_code (5 : Nat) (Option.some Jvm.ClassFile.FieldType.int)) ∈ lw_all := lw_g (lw_at lw_m10 156 rfl) rfl
theorem q2432 : (Jvm.Cond.methodLink "RooftopCatsModel" (376 : Nat) ({ cls := "RooftopCatsModel", name := "areSizes", desc := "(II)Z" } : Jvm.MethodName)) ∈ lw_all := lw_g (lw_at lw_m10 157 rfl) rfl
theorem q2433 : (Jvm.Cond.static ({ cls := "RooftopCatsModel", name := "areSizes", desc := "(II)Z" } : Jvm.MethodName)) ∈ lw_all := lw_g (lw_at lw_m10 158 rfl) rfl
theorem q2434 : (Jvm.Cond.code ({ cls := "RooftopCatsModel", name := "areSizes", desc := "(II)Z" } : Jvm.MethodName) prog_11_method_91_code (2 : Nat) (Option.some Jvm.ClassFile.FieldType.boolean)) ∈ lw_all := lw_g (lw_at lw_m10 159 rfl) rfl
theorem q2436 : (Jvm.Cond.instanceMethod ({ cls := "RooftopCatsModel", name := "step", desc := "(II)I" } : Jvm.MethodName)) ∈ lw_all := lw_g (lw_at lw_m10 161 rfl) rfl
theorem q2437 : (Jvm.Cond.selects "RooftopCatsModel" ({ cls := "RooftopCatsModel", name := "step", desc := "(II)I" } : Jvm.MethodName) ({ cls := "RooftopCatsModel", name := "step", desc := "(II)I" } : Jvm.MethodName)) ∈ lw_all := lw_g (lw_at lw_m10 162 rfl) rfl
theorem q2438 : (Jvm.Cond.code ({ cls := "RooftopCatsModel", name := "step", desc := "(II)I" } : Jvm.MethodName) prog_11_method_93_code (4 : Nat) (Option.some Jvm.ClassFile.FieldType.int)) ∈ lw_all := lw_g (lw_at lw_m10 163 rfl) rfl
theorem q2439 : (Jvm.Cond.methodLink "RooftopCatsModel" (379 : Nat) ({ cls := "RooftopCatsModel", name := "isCat", desc := "(I)Z" } : Jvm.MethodName)) ∈ lw_all := lw_g (lw_at lw_m10 164 rfl) rfl
theorem q2440 : (Jvm.Cond.privateMethod ({ cls := "RooftopCatsModel", name := "isCat", desc := "(I)Z" } : Jvm.MethodName)) ∈ lw_tbl := lw_at lw_m10 165 rfl
theorem q2441 : (Jvm.Cond.instanceMethod ({ cls := "RooftopCatsModel", name := "isCat", desc := "(I)Z" } : Jvm.MethodName)) ∈ lw_all := lw_g (lw_at lw_m10 166 rfl) rfl
theorem q2442 : (Jvm.Cond.code ({ cls := "RooftopCatsModel", name := "isCat", desc := "(I)Z" } : Jvm.MethodName) prog_11_method_9_code (2 : Nat) (Option.some Jvm.ClassFile.FieldType.boolean)) ∈ lw_all := lw_g (lw_at lw_m10 167 rfl) rfl
theorem q2443 : (Jvm.Cond.methodLink "RooftopCatsModel" (382 : Nat) ({ cls := "RooftopCatsModel", name := "isGutter", desc := "(I)Z" } : Jvm.MethodName)) ∈ lw_all := lw_g (lw_at lw_m10 168 rfl) rfl
theorem q2444 : (Jvm.Cond.privateMethod ({ cls := "RooftopCatsModel", name := "isGutter", desc := "(I)Z" } : Jvm.MethodName)) ∈ lw_tbl := lw_at lw_m10 169 rfl
theorem q2445 : (Jvm.Cond.instanceMethod ({ cls := "RooftopCatsModel", name := "isGutter", desc := "(I)Z" } : Jvm.MethodName)) ∈ lw_all := lw_g (lw_at lw_m10 170 rfl) rfl
theorem q2446 : (Jvm.Cond.code ({ cls := "RooftopCatsModel", name := "isGutter", desc := "(I)Z" } : Jvm.MethodName) prog_11_method_8_code (2 : Nat) (Option.some Jvm.ClassFile.FieldType.boolean)) ∈ lw_all := lw_g (lw_at lw_m10 171 rfl) rfl
theorem q2448 : (Jvm.Cond.instanceMethod ({ cls := "RooftopCatsModel", name := "claim", desc := "(I)I" } : Jvm.MethodName)) ∈ lw_all := lw_g (lw_at lw_m10 173 rfl) rfl
theorem q2449 : (Jvm.Cond.selects "RooftopCatsModel" ({ cls := "RooftopCatsModel", name := "claim", desc := "(I)I" } : Jvm.MethodName) ({ cls := "RooftopCatsModel", name := "claim", desc := "(I)I" } : Jvm.MethodName)) ∈ lw_all := lw_g (lw_at lw_m10 174 rfl) rfl
theorem q2450 : (Jvm.Cond.code ({ cls := "RooftopCatsModel", name := "claim", desc := "(I)I" } : Jvm.MethodName) prog_11_method_94_code (3 : Nat) (Option.some Jvm.ClassFile.FieldType.int)) ∈ lw_all := lw_g (lw_at lw_m10 175 rfl) rfl
theorem q2452 : (Jvm.Cond.instanceMethod ({ cls := "RooftopCatsModel", name := "abandon", desc := "(I)I" } : Jvm.MethodName)) ∈ lw_all := lw_g (lw_at lw_m10 177 rfl) rfl
theorem q2453 : (Jvm.Cond.selects "RooftopCatsModel" ({ cls := "RooftopCatsModel", name := "abandon", desc := "(I)I" } : Jvm.MethodName) ({ cls := "RooftopCatsModel", name := "abandon", desc := "(I)I" } : Jvm.MethodName)) ∈ lw_all := lw_g (lw_at lw_m10 178 rfl) rfl
theorem q2454 : (Jvm.Cond.code ({ cls := "RooftopCatsModel", name := "abandon", desc := "(I)I" } : Jvm.MethodName) prog_11_method_95_code (3 : Nat) (Option.some Jvm.ClassFile.FieldType.int)) ∈ lw_all := lw_g (lw_at lw_m10 179 rfl) rfl
theorem q2456 : (Jvm.Cond.instanceMethod ({ cls := "RooftopCatsModel", name := "chase", desc := "(II)Z" } : Jvm.MethodName)) ∈ lw_all := lw_g (lw_at lw_m10 181 rfl) rfl
theorem q2457 : (Jvm.Cond.selects "RooftopCatsModel" ({ cls := "RooftopCatsModel", name := "chase", desc := "(II)Z" } : Jvm.MethodName) ({ cls := "RooftopCatsModel", name := "chase", desc := "(II)Z" } : Jvm.MethodName)) ∈ lw_all := lw_g (lw_at lw_m10 182 rfl) rfl
theorem q2458 : (Jvm.Cond.code ({ cls := "RooftopCatsModel", name := "chase", desc := "(II)Z" } : Jvm.MethodName) prog_11_method_97_code (4 : Nat) (Option.some Jvm.ClassFile.FieldType.boolean)) ∈ lw_all := lw_g (lw_at lw_m10 183 rfl) rfl
theorem q2459 : (Jvm.Cond.methodLink "RooftopCatsModel" (385 : Nat) ({ cls := "RooftopCatsModel", name := "areCats", desc := "(II)Z" } : Jvm.MethodName)) ∈ lw_all := lw_g (lw_at lw_m10 184 rfl) rfl
theorem q2460 : (Jvm.Cond.privateMethod ({ cls := "RooftopCatsModel", name := "areCats", desc := "(II)Z" } : Jvm.MethodName)) ∈ lw_tbl := lw_at lw_m10 185 rfl
theorem q2461 : (Jvm.Cond.instanceMethod ({ cls := "RooftopCatsModel", name := "areCats", desc := "(II)Z" } : Jvm.MethodName)) ∈ lw_all := lw_g (lw_at lw_m10 186 rfl) rfl
theorem q2462 : (Jvm.Cond.code ({ cls := "RooftopCatsModel", name := "areCats", desc := "(II)Z" } : Jvm.MethodName) prog_11_method_96_code (3 : Nat) (Option.some Jvm.ClassFile.FieldType.boolean)) ∈ lw_all := lw_g (lw_at lw_m10 187 rfl) rfl
theorem q2464 : (Jvm.Cond.instanceMethod ({ cls := "RooftopCatsModel", name := "buyTruce", desc := "(IIII)I" } : Jvm.MethodName)) ∈ lw_all := lw_g (lw_at lw_m10 189 rfl) rfl
theorem q2465 : (Jvm.Cond.selects "RooftopCatsModel" ({ cls := "RooftopCatsModel", name := "buyTruce", desc := "(IIII)I" } : Jvm.MethodName) ({ cls := "RooftopCatsModel", name := "buyTruce", desc := "(IIII)I" } : Jvm.MethodName)) ∈ lw_all := lw_g (lw_at lw_m10 190 rfl) rfl
theorem q2466 : (Jvm.Cond.code ({ cls := "RooftopCatsModel", name := "buyTruce", desc := "(IIII)I" } : Jvm.MethodName) prog_11_method_98_code (7 : Nat) (Option.some Jvm.ClassFile.FieldType.int)) ∈ lw_all := lw_g (lw_at lw_m10 191 rfl) rfl
theorem q2468 : (Jvm.Cond.instanceMethod ({ cls := "RooftopCatsModel", name := "nominate", desc := "(II)I" } : Jvm.MethodName)) ∈ lw_all := lw_g (lw_at lw_m10 193 rfl) rfl
theorem q2469 : (Jvm.Cond.selects "RooftopCatsModel" ({ cls := "RooftopCatsModel", name := "nominate", desc := "(II)I" } : Jvm.MethodName) ({ cls := "RooftopCatsModel", name := "nominate", desc := "(II)I" } : Jvm.MethodName)) ∈ lw_all := lw_g (lw_at lw_m10 194 rfl) rfl
theorem q2470 : (Jvm.Cond.code ({ cls := "RooftopCatsModel", name := "nominate", desc := "(II)I" } : Jvm.MethodName) prog_11_method_99_code (3 : Nat) (Option.some Jvm.ClassFile.FieldType.int)) ∈ lw_all := lw_g (lw_at lw_m10 195 rfl) rfl
theorem q2472 : (Jvm.Cond.instanceMethod ({ cls := "RooftopCatsModel", name := "vote", desc := "(IZ)Z" } : Jvm.MethodName)) ∈ lw_all := lw_g (lw_at lw_m10 197 rfl) rfl
theorem q2473 : (Jvm.Cond.selects "RooftopCatsModel" ({ cls := "RooftopCatsModel", name := "vote", desc := "(IZ)Z" } : Jvm.MethodName) ({ cls := "RooftopCatsModel", name := "vote", desc := "(IZ)Z" } : Jvm.MethodName)) ∈ lw_all := lw_g (lw_at lw_m10 198 rfl) rfl
theorem q2474 : (Jvm.Cond.code ({ cls := "RooftopCatsModel", name := "vote", desc := "(IZ)Z" } : Jvm.MethodName) prog_11_method_100_code (4 : Nat) (Option.some Jvm.ClassFile.FieldType.boolean)) ∈ lw_all := lw_g (lw_at lw_m10 199 rfl) rfl
theorem q2476 : (Jvm.Cond.instanceMethod ({ cls := "RooftopCatsModel", name := "passNights", desc := "(I)I" } : Jvm.MethodName)) ∈ lw_all := lw_g (lw_at lw_m10 201 rfl) rfl
theorem q2477 : (Jvm.Cond.selects "RooftopCatsModel" ({ cls := "RooftopCatsModel", name := "passNights", desc := "(I)I" } : Jvm.MethodName) ({ cls := "RooftopCatsModel", name := "passNights", desc := "(I)I" } : Jvm.MethodName)) ∈ lw_all := lw_g (lw_at lw_m10 202 rfl) rfl
theorem q2478 : (Jvm.Cond.code ({ cls := "RooftopCatsModel", name := "passNights", desc := "(I)I" } : Jvm.MethodName) prog_11_method_101_code (3 : Nat) (Option.some Jvm.ClassFile.FieldType.int)) ∈ lw_all := lw_g (lw_at lw_m10 203 rfl) rfl
theorem q2480 : (Jvm.Cond.instanceMethod ({ cls := "RooftopCatsModel", name := "undo", desc := "()I" } : Jvm.MethodName)) ∈ lw_all := lw_g (lw_at lw_m10 205 rfl) rfl
theorem q2481 : (Jvm.Cond.selects "RooftopCatsModel" ({ cls := "RooftopCatsModel", name := "undo", desc := "()I" } : Jvm.MethodName) ({ cls := "RooftopCatsModel", name := "undo", desc := "()I" } : Jvm.MethodName)) ∈ lw_all := lw_g (lw_at lw_m10 206 rfl) rfl
theorem q2482 : (Jvm.Cond.code ({ cls := "RooftopCatsModel", name := "undo", desc := "()I" } : Jvm.MethodName) prog_11_method_102_code (2 : Nat) (Option.some Jvm.ClassFile.FieldType.int)) ∈ lw_all := lw_g (lw_at lw_m10 207 rfl) rfl
theorem q2484 : (Jvm.Cond.instanceMethod ({ cls := "RooftopCatsModel", name := "undoCount", desc := "()I" } : Jvm.MethodName)) ∈ lw_all := lw_g (lw_at lw_m10 209 rfl) rfl
theorem q2485 : (Jvm.Cond.selects "RooftopCatsModel" ({ cls := "RooftopCatsModel", name := "undoCount", desc := "()I" } : Jvm.MethodName) ({ cls := "RooftopCatsModel", name := "undoCount", desc := "()I" } : Jvm.MethodName)) ∈ lw_all := lw_g (lw_at lw_m10 210 rfl) rfl
theorem q2486 : (Jvm.Cond.code ({ cls := "RooftopCatsModel", name := "undoCount", desc := "()I" } : Jvm.MethodName) prog_11_method_103_code (1 : Nat) (Option.some Jvm.ClassFile.FieldType.int)) ∈ lw_all := lw_g (lw_at lw_m10 211 rfl) rfl
theorem q2488 : (Jvm.Cond.instanceMethod ({ cls := "RooftopCatsModel", name := "saveSnapshot", desc := "()I" } : Jvm.MethodName)) ∈ lw_all := lw_g (lw_at lw_m10 213 rfl) rfl
theorem q2489 : (Jvm.Cond.selects "RooftopCatsModel" ({ cls := "RooftopCatsModel", name := "saveSnapshot", desc := "()I" } : Jvm.MethodName) ({ cls := "RooftopCatsModel", name := "saveSnapshot", desc := "()I" } : Jvm.MethodName)) ∈ lw_all := lw_g (lw_at lw_m10 214 rfl) rfl
theorem q2490 : (Jvm.Cond.code ({ cls := "RooftopCatsModel", name := "saveSnapshot", desc := "()I" } : Jvm.MethodName) prog_11_method_104_code (2 : Nat) (Option.some Jvm.ClassFile.FieldType.int)) ∈ lw_all := lw_g (lw_at lw_m10 215 rfl) rfl
theorem q2492 : (Jvm.Cond.instanceMethod ({ cls := "RooftopCatsModel", name := "restoreSnapshot", desc := "()I" } : Jvm.MethodName)) ∈ lw_all := lw_g (lw_at lw_m10 217 rfl) rfl
theorem q2493 : (Jvm.Cond.selects "RooftopCatsModel" ({ cls := "RooftopCatsModel", name := "restoreSnapshot", desc := "()I" } : Jvm.MethodName) ({ cls := "RooftopCatsModel", name := "restoreSnapshot", desc := "()I" } : Jvm.MethodName)) ∈ lw_all := lw_g (lw_at lw_m10 218 rfl) rfl
theorem q2494 : (Jvm.Cond.code ({ cls := "RooftopCatsModel", name := "restoreSnapshot", desc := "()I" } : Jvm.MethodName) prog_11_method_105_code (2 : Nat) (Option.some Jvm.ClassFile.FieldType.int)) ∈ lw_all := lw_g (lw_at lw_m10 219 rfl) rfl
theorem q2496 : (Jvm.Cond.instanceMethod ({ cls := "RooftopCatsModel", name := "scriptErrorKind", desc := "()I" } : Jvm.MethodName)) ∈ lw_all := lw_g (lw_at lw_m10 221 rfl) rfl
theorem q2497 : (Jvm.Cond.selects "RooftopCatsModel" ({ cls := "RooftopCatsModel", name := "scriptErrorKind", desc := "()I" } : Jvm.MethodName) ({ cls := "RooftopCatsModel", name := "scriptErrorKind", desc := "()I" } : Jvm.MethodName)) ∈ lw_all := lw_g (lw_at lw_m10 222 rfl) rfl
theorem q2498 : (Jvm.Cond.code ({ cls := "RooftopCatsModel", name := "scriptErrorKind", desc := "()I" } : Jvm.MethodName) prog_11_method_106_code (1 : Nat) (Option.some Jvm.ClassFile.FieldType.int)) ∈ lw_all := lw_g (lw_at lw_m10 223 rfl) rfl
theorem q2500 : (Jvm.Cond.instanceMethod ({ cls := "RooftopCatsModel", name := "scriptErrorOffset", desc := "()I" } : Jvm.MethodName)) ∈ lw_all := lw_g (lw_at lw_m10 225 rfl) rfl
theorem q2501 : (Jvm.Cond.selects "RooftopCatsModel" ({ cls := "RooftopCatsModel", name := "scriptErrorOffset", desc := "()I" } : Jvm.MethodName) ({ cls := "RooftopCatsModel", name := "scriptErrorOffset", desc := "()I" } : Jvm.MethodName)) ∈ lw_all := lw_g (lw_at lw_m10 226 rfl) rfl
theorem q2502 : (Jvm.Cond.code ({ cls := "RooftopCatsModel", name := "scriptErrorOffset", desc := "()I" } : Jvm.MethodName) prog_11_method_107_code (1 : Nat) (Option.some Jvm.ClassFile.FieldType.int)) ∈ lw_all := lw_g (lw_at lw_m10 227 rfl) rfl
theorem q2504 : (Jvm.Cond.instanceMethod ({ cls := "RooftopCatsModel", name := "chimneyCount", desc := "()I" } : Jvm.MethodName)) ∈ lw_all := lw_g (lw_at lw_m10 229 rfl) rfl
theorem q2505 : (Jvm.Cond.selects "RooftopCatsModel" ({ cls := "RooftopCatsModel", name := "chimneyCount", desc := "()I" } : Jvm.MethodName) ({ cls := "RooftopCatsModel", name := "chimneyCount", desc := "()I" } : Jvm.MethodName)) ∈ lw_all := lw_g (lw_at lw_m10 230 rfl) rfl
theorem q2506 : (Jvm.Cond.code ({ cls := "RooftopCatsModel", name := "chimneyCount", desc := "()I" } : Jvm.MethodName) prog_11_method_109_code (1 : Nat) (Option.some Jvm.ClassFile.FieldType.int)) ∈ lw_all := lw_g (lw_at lw_m10 231 rfl) rfl
theorem q2507 : (Jvm.Cond.methodLink "RooftopCatsModel" (392 : Nat) ({ cls := "RooftopCatsModel", name := "told", desc := "(I)I" } : Jvm.MethodName)) ∈ lw_all := lw_g (lw_at lw_m10 232 rfl) rfl
theorem q2508 : (Jvm.Cond.privateMethod ({ cls := "RooftopCatsModel", name := "told", desc := "(I)I" } : Jvm.MethodName)) ∈ lw_tbl := lw_at lw_m10 233 rfl
theorem q2509 : (Jvm.Cond.instanceMethod ({ cls := "RooftopCatsModel", name := "told", desc := "(I)I" } : Jvm.MethodName)) ∈ lw_all := lw_g (lw_at lw_m10 234 rfl) rfl
theorem q2510 : (Jvm.Cond.code ({ cls := "RooftopCatsModel", name := "told", desc := "(I)I" } : Jvm.MethodName) prog_11_method_108_code (2 : Nat) (Option.some Jvm.ClassFile.FieldType.int)) ∈ lw_all := lw_g (lw_at lw_m10 235 rfl) rfl
theorem q2512 : (Jvm.Cond.instanceMethod ({ cls := "RooftopCatsModel", name := "gutterCount", desc := "()I" } : Jvm.MethodName)) ∈ lw_all := lw_g (lw_at lw_m10 237 rfl) rfl
theorem q2513 : (Jvm.Cond.selects "RooftopCatsModel" ({ cls := "RooftopCatsModel", name := "gutterCount", desc := "()I" } : Jvm.MethodName) ({ cls := "RooftopCatsModel", name := "gutterCount", desc := "()I" } : Jvm.MethodName)) ∈ lw_all := lw_g (lw_at lw_m10 238 rfl) rfl
theorem q2514 : (Jvm.Cond.code ({ cls := "RooftopCatsModel", name := "gutterCount", desc := "()I" } : Jvm.MethodName) prog_11_method_110_code (1 : Nat) (Option.some Jvm.ClassFile.FieldType.int)) ∈ lw_all := lw_g (lw_at lw_m10 239 rfl) rfl
theorem q2516 : (Jvm.Cond.instanceMethod ({ cls := "RooftopCatsModel", name := "catCount", desc := "()I" } : Jvm.MethodName)) ∈ lw_all := lw_g (lw_at lw_m11 1 rfl) rfl
theorem q2517 : (Jvm.Cond.selects "RooftopCatsModel" ({ cls := "RooftopCatsModel", name := "catCount", desc := "()I" } : Jvm.MethodName) ({ cls := "RooftopCatsModel", name := "catCount", desc := "()I" } : Jvm.MethodName)) ∈ lw_all := lw_g (lw_at lw_m11 2 rfl) rfl
theorem q2518 : (Jvm.Cond.code ({ cls := "RooftopCatsModel", name := "catCount", desc := "()I" } : Jvm.MethodName) prog_11_method_111_code (1 : Nat) (Option.some Jvm.ClassFile.FieldType.int)) ∈ lw_all := lw_g (lw_at lw_m11 3 rfl) rfl
theorem q2520 : (Jvm.Cond.instanceMethod ({ cls := "RooftopCatsModel", name := "night", desc := "()I" } : Jvm.MethodName)) ∈ lw_all := lw_g (lw_at lw_m11 5 rfl) rfl
theorem q2521 : (Jvm.Cond.selects "RooftopCatsModel" ({ cls := "RooftopCatsModel", name := "night", desc := "()I" } : Jvm.MethodName) ({ cls := "RooftopCatsModel", name := "night", desc := "()I" } : Jvm.MethodName)) ∈ lw_all := lw_g (lw_at lw_m11 6 rfl) rfl
theorem q2522 : (Jvm.Cond.code ({ cls := "RooftopCatsModel", name := "night", desc := "()I" } : Jvm.MethodName) prog_11_method_112_code (1 : Nat) (Option.some Jvm.ClassFile.FieldType.int)) ∈ lw_all := lw_g (lw_at lw_m11 7 rfl) rfl
theorem q2524 : (Jvm.Cond.instanceMethod ({ cls := "RooftopCatsModel", name := "moonPhase", desc := "()I" } : Jvm.MethodName)) ∈ lw_all := lw_g (lw_at lw_m11 9 rfl) rfl
theorem q2525 : (Jvm.Cond.selects "RooftopCatsModel" ({ cls := "RooftopCatsModel", name := "moonPhase", desc := "()I" } : Jvm.MethodName) ({ cls := "RooftopCatsModel", name := "moonPhase", desc := "()I" } : Jvm.MethodName)) ∈ lw_all := lw_g (lw_at lw_m11 10 rfl) rfl
theorem q2526 : (Jvm.Cond.code ({ cls := "RooftopCatsModel", name := "moonPhase", desc := "()I" } : Jvm.MethodName) prog_11_method_113_code (1 : Nat) (Option.some Jvm.ClassFile.FieldType.int)) ∈ lw_all := lw_g (lw_at lw_m11 11 rfl) rfl
theorem q2528 : (Jvm.Cond.instanceMethod ({ cls := "RooftopCatsModel", name := "warmth", desc := "(I)I" } : Jvm.MethodName)) ∈ lw_all := lw_g (lw_at lw_m11 13 rfl) rfl
theorem q2529 : (Jvm.Cond.selects "RooftopCatsModel" ({ cls := "RooftopCatsModel", name := "warmth", desc := "(I)I" } : Jvm.MethodName) ({ cls := "RooftopCatsModel", name := "warmth", desc := "(I)I" } : Jvm.MethodName)) ∈ lw_all := lw_g (lw_at lw_m11 14 rfl) rfl
theorem q2530 : (Jvm.Cond.code ({ cls := "RooftopCatsModel", name := "warmth", desc := "(I)I" } : Jvm.MethodName) prog_11_method_114_code (2 : Nat) (Option.some Jvm.ClassFile.FieldType.int)) ∈ lw_all := lw_g (lw_at lw_m11 15 rfl) rfl
theorem q2532 : (Jvm.Cond.instanceMethod ({ cls := "RooftopCatsModel", name := "ownerOf", desc := "(I)I" } : Jvm.MethodName)) ∈ lw_all := lw_g (lw_at lw_m11 17 rfl) rfl
theorem q2533 : (Jvm.Cond.selects "RooftopCatsModel" ({ cls := "RooftopCatsModel", name := "ownerOf", desc := "(I)I" } : Jvm.MethodName) ({ cls := "RooftopCatsModel", name := "ownerOf", desc := "(I)I" } : Jvm.MethodName)) ∈ lw_all := lw_g (lw_at lw_m11 18 rfl) rfl
theorem q2534 : (Jvm.Cond.code ({ cls := "RooftopCatsModel", name := "ownerOf", desc := "(I)I" } : Jvm.MethodName) prog_11_method_115_code (2 : Nat) (Option.some Jvm.ClassFile.FieldType.int)) ∈ lw_all := lw_g (lw_at lw_m11 19 rfl) rfl
theorem q2536 : (Jvm.Cond.instanceMethod ({ cls := "RooftopCatsModel", name := "catOn", desc := "(I)I" } : Jvm.MethodName)) ∈ lw_all := lw_g (lw_at lw_m11 21 rfl) rfl
theorem q2537 : (Jvm.Cond.selects "RooftopCatsModel" ({ cls := "RooftopCatsModel", name := "catOn", desc := "(I)I" } : Jvm.MethodName) ({ cls := "RooftopCatsModel", name := "catOn", desc := "(I)I" } : Jvm.MethodName)) ∈ lw_all := lw_g (lw_at lw_m11 22 rfl) rfl
theorem q2538 : (Jvm.Cond.code ({ cls := "RooftopCatsModel", name := "catOn", desc := "(I)I" } : Jvm.MethodName) prog_11_method_116_code (2 : Nat) (Option.some Jvm.ClassFile.FieldType.int)) ∈ lw_all := lw_g (lw_at lw_m11 23 rfl) rfl
theorem q2540 : (Jvm.Cond.instanceMethod ({ cls := "RooftopCatsModel", name := "gutterEnds", desc := "(I)I" } : Jvm.MethodName)) ∈ lw_all := lw_g (lw_at lw_m11 25 rfl) rfl
theorem q2541 : (Jvm.Cond.selects "RooftopCatsModel" ({ cls := "RooftopCatsModel", name := "gutterEnds", desc := "(I)I" } : Jvm.MethodName) ({ cls := "RooftopCatsModel", name := "gutterEnds", desc := "(I)I" } : Jvm.MethodName)) ∈ lw_all := lw_g (lw_at lw_m11 26 rfl) rfl
theorem q2542 : (Jvm.Cond.code ({ cls := "RooftopCatsModel", name := "gutterEnds", desc := "(I)I" } : Jvm.MethodName) prog_11_method_117_code (2 : Nat) (Option.some Jvm.ClassFile.FieldType.int)) ∈ lw_all := lw_g (lw_at lw_m11 27 rfl) rfl
theorem q2544 : (Jvm.Cond.instanceMethod ({ cls := "RooftopCatsModel", name := "width", desc := "(I)I" } : Jvm.MethodName)) ∈ lw_all := lw_g (lw_at lw_m11 29 rfl) rfl
theorem q2545 : (Jvm.Cond.selects "RooftopCatsModel" ({ cls := "RooftopCatsModel", name := "width", desc := "(I)I" } : Jvm.MethodName) ({ cls := "RooftopCatsModel", name := "width", desc := "(I)I" } : Jvm.MethodName)) ∈ lw_all := lw_g (lw_at lw_m11 30 rfl) rfl
theorem q2546 : (Jvm.Cond.code ({ cls := "RooftopCatsModel", name := "width", desc := "(I)I" } : Jvm.MethodName) prog_11_method_118_code (2 : Nat) (Option.some Jvm.ClassFile.FieldType.int)) ∈ lw_all := lw_g (lw_at lw_m11 31 rfl) rfl
theorem q2548 : (Jvm.Cond.instanceMethod ({ cls := "RooftopCatsModel", name := "widestWay", desc := "(II)I" } : Jvm.MethodName)) ∈ lw_all := lw_g (lw_at lw_m11 33 rfl) rfl
theorem q2549 : (Jvm.Cond.selects "RooftopCatsModel" ({ cls := "RooftopCatsModel", name := "widestWay", desc := "(II)I" } : Jvm.MethodName) ({ cls := "RooftopCatsModel", name := "widestWay", desc := "(II)I" } : Jvm.MethodName)) ∈ lw_all := lw_g (lw_at lw_m11 34 rfl) rfl
theorem q2550 : (Jvm.Cond.code ({ cls := "RooftopCatsModel", name := "widestWay", desc := "(II)I" } : Jvm.MethodName) prog_11_method_119_code (4 : Nat) (Option.some Jvm.ClassFile.FieldType.int)) ∈ lw_all := lw_g (lw_at lw_m11 35 rfl) rfl
theorem q2551 : (Jvm.Cond.methodLink "RooftopCatsModel" (395 : Nat) ({ cls := "RooftopCatsModel", name := "reachedBy", desc := "(II)I" } : Jvm.MethodName)) ∈ lw_all := lw_g (lw_at lw_m11 36 rfl) rfl
theorem q2552 : (Jvm.Cond.privateMethod ({ cls := "RooftopCatsModel", name := "reachedBy", desc := "(II)I" } : Jvm.MethodName)) ∈ lw_tbl := lw_at lw_m11 37 rfl
theorem q2553 : (Jvm.Cond.instanceMethod ({ cls := "RooftopCatsModel", name := "reachedBy", desc := "(II)I" } : Jvm.MethodName)) ∈ lw_all := lw_g (lw_at lw_m11 38 rfl) rfl
theorem q2554 : (Jvm.Cond.code ({ cls := "RooftopCatsModel", name := "reachedBy", desc := "(II)I" } : Jvm.MethodName) prog_11_method_28_code (7 : Nat) (Option.some Jvm.ClassFile.FieldType.int)) ∈ lw_all := lw_g (lw_at lw_m11 39 rfl) rfl
theorem q2556 : (Jvm.Cond.instanceMethod ({ cls := "RooftopCatsModel", name := "warmestFree", desc := "()I" } : Jvm.MethodName)) ∈ lw_all := lw_g (lw_at lw_m11 41 rfl) rfl
theorem q2557 : (Jvm.Cond.selects "RooftopCatsModel" ({ cls := "RooftopCatsModel", name := "warmestFree", desc := "()I" } : Jvm.MethodName) ({ cls := "RooftopCatsModel", name := "warmestFree", desc := "()I" } : Jvm.MethodName)) ∈ lw_all := lw_g (lw_at lw_m11 42 rfl) rfl
theorem q2558 : (Jvm.Cond.code ({ cls := "RooftopCatsModel", name := "warmestFree", desc := "()I" } : Jvm.MethodName) prog_11_method_120_code (1 : Nat) (Option.some Jvm.ClassFile.FieldType.int)) ∈ lw_all := lw_g (lw_at lw_m11 43 rfl) rfl
theorem q2560 : (Jvm.Cond.instanceMethod ({ cls := "RooftopCatsModel", name := "girth", desc := "(I)I" } : Jvm.MethodName)) ∈ lw_all := lw_g (lw_at lw_m11 45 rfl) rfl
theorem q2561 : (Jvm.Cond.selects "RooftopCatsModel" ({ cls := "RooftopCatsModel", name := "girth", desc := "(I)I" } : Jvm.MethodName) ({ cls := "RooftopCatsModel", name := "girth", desc := "(I)I" } : Jvm.MethodName)) ∈ lw_all := lw_g (lw_at lw_m11 46 rfl) rfl
theorem q2562 : (Jvm.Cond.code ({ cls := "RooftopCatsModel", name := "girth", desc := "(I)I" } : Jvm.MethodName) prog_11_method_122_code (2 : Nat) (Option.some Jvm.ClassFile.FieldType.int)) ∈ lw_all := lw_g (lw_at lw_m11 47 rfl) rfl
theorem q2563 : (Jvm.Cond.methodLink "RooftopCatsModel" (398 : Nat) ({ cls := "RooftopCatsModel", name := "catTold", desc := "(II)I" } : Jvm.MethodName)) ∈ lw_all := lw_g (lw_at lw_m11 48 rfl) rfl
theorem q2564 : (Jvm.Cond.privateMethod ({ cls := "RooftopCatsModel", name := "catTold", desc := "(II)I" } : Jvm.MethodName)) ∈ lw_tbl := lw_at lw_m11 49 rfl
theorem q2565 : (Jvm.Cond.instanceMethod ({ cls := "RooftopCatsModel", name := "catTold", desc := "(II)I" } : Jvm.MethodName)) ∈ lw_all := lw_g (lw_at lw_m11 50 rfl) rfl
theorem q2566 : (Jvm.Cond.code ({ cls := "RooftopCatsModel", name := "catTold", desc := "(II)I" } : Jvm.MethodName) prog_11_method_121_code (3 : Nat) (Option.some Jvm.ClassFile.FieldType.int)) ∈ lw_all := lw_g (lw_at lw_m11 51 rfl) rfl
theorem q2568 : (Jvm.Cond.instanceMethod ({ cls := "RooftopCatsModel", name := "power", desc := "(I)I" } : Jvm.MethodName)) ∈ lw_all := lw_g (lw_at lw_m11 53 rfl) rfl
theorem q2569 : (Jvm.Cond.selects "RooftopCatsModel" ({ cls := "RooftopCatsModel", name := "power", desc := "(I)I" } : Jvm.MethodName) ({ cls := "RooftopCatsModel", name := "power", desc := "(I)I" } : Jvm.MethodName)) ∈ lw_all := lw_g (lw_at lw_m11 54 rfl) rfl
theorem q2570 : (Jvm.Cond.code ({ cls := "RooftopCatsModel", name := "power", desc := "(I)I" } : Jvm.MethodName) prog_11_method_123_code (2 : Nat) (Option.some Jvm.ClassFile.FieldType.int)) ∈ lw_all := lw_g (lw_at lw_m11 55 rfl) rfl
theorem q2572 : (Jvm.Cond.instanceMethod ({ cls := "RooftopCatsModel", name := "fish", desc := "(I)I" } : Jvm.MethodName)) ∈ lw_all := lw_g (lw_at lw_m11 57 rfl) rfl
theorem q2573 : (Jvm.Cond.selects "RooftopCatsModel" ({ cls := "RooftopCatsModel", name := "fish", desc := "(I)I" } : Jvm.MethodName) ({ cls := "RooftopCatsModel", name := "fish", desc := "(I)I" } : Jvm.MethodName)) ∈ lw_all := lw_g (lw_at lw_m11 58 rfl) rfl
theorem q2574 : (Jvm.Cond.code ({ cls := "RooftopCatsModel", name := "fish", desc := "(I)I" } : Jvm.MethodName) prog_11_method_124_code (2 : Nat) (Option.some Jvm.ClassFile.FieldType.int)) ∈ lw_all := lw_g (lw_at lw_m11 59 rfl) rfl
theorem q2576 : (Jvm.Cond.instanceMethod ({ cls := "RooftopCatsModel", name := "chimneyOf", desc := "(I)I" } : Jvm.MethodName)) ∈ lw_all := lw_g (lw_at lw_m11 61 rfl) rfl
theorem q2577 : (Jvm.Cond.selects "RooftopCatsModel" ({ cls := "RooftopCatsModel", name := "chimneyOf", desc := "(I)I" } : Jvm.MethodName) ({ cls := "RooftopCatsModel", name := "chimneyOf", desc := "(I)I" } : Jvm.MethodName)) ∈ lw_all := lw_g (lw_at lw_m11 62 rfl) rfl
theorem q2578 : (Jvm.Cond.code ({ cls := "RooftopCatsModel", name := "chimneyOf", desc := "(I)I" } : Jvm.MethodName) prog_11_method_125_code (2 : Nat) (Option.some Jvm.ClassFile.FieldType.int)) ∈ lw_all := lw_g (lw_at lw_m11 63 rfl) rfl
theorem q2580 : (Jvm.Cond.instanceMethod ({ cls := "RooftopCatsModel", name := "ownedChimneys", desc := "(I)I" } : Jvm.MethodName)) ∈ lw_all := lw_g (lw_at lw_m11 65 rfl) rfl
theorem q2581 : (Jvm.Cond.selects "RooftopCatsModel" ({ cls := "RooftopCatsModel", name := "ownedChimneys", desc := "(I)I" } : Jvm.MethodName) ({ cls := "RooftopCatsModel", name := "ownedChimneys", desc := "(I)I" } : Jvm.MethodName)) ∈ lw_all := lw_g (lw_at lw_m11 66 rfl) rfl
theorem q2582 : (Jvm.Cond.code ({ cls := "RooftopCatsModel", name := "ownedChimneys", desc := "(I)I" } : Jvm.MethodName) prog_11_method_126_code (4 : Nat) (Option.some Jvm.ClassFile.FieldType.int)) ∈ lw_all := lw_g (lw_at lw_m11 67 rfl) rfl
theorem q2584 : (Jvm.Cond.instanceMethod ({ cls := "RooftopCatsModel", name := "truceNights", desc := "(II)I" } : Jvm.MethodName)) ∈ lw_all := lw_g (lw_at lw_m11 69 rfl) rfl
theorem q2585 : (Jvm.Cond.selects "RooftopCatsModel" ({ cls := "RooftopCatsModel", name := "truceNights", desc := "(II)I" } : Jvm.MethodName) ({ cls := "RooftopCatsModel", name := "truceNights", desc := "(II)I" } : Jvm.MethodName)) ∈ lw_all := lw_g (lw_at lw_m11 70 rfl) rfl
theorem q2586 : (Jvm.Cond.code ({ cls := "RooftopCatsModel", name := "truceNights", desc := "(II)I" } : Jvm.MethodName) prog_11_method_127_code (3 : Nat) (Option.some Jvm.ClassFile.FieldType.int)) ∈ lw_all := lw_g (lw_at lw_m11 71 rfl) rfl
theorem q2588 : (Jvm.Cond.instanceMethod ({ cls := "RooftopCatsModel", name := "reachable", desc := "(I)I" } : Jvm.MethodName)) ∈ lw_all := lw_g (lw_at lw_m11 73 rfl) rfl
theorem q2589 : (Jvm.Cond.selects "RooftopCatsModel" ({ cls := "RooftopCatsModel", name := "reachable", desc := "(I)I" } : Jvm.MethodName) ({ cls := "RooftopCatsModel", name := "reachable", desc := "(I)I" } : Jvm.MethodName)) ∈ lw_all := lw_g (lw_at lw_m11 74 rfl) rfl
theorem q2590 : (Jvm.Cond.code ({ cls := "RooftopCatsModel", name := "reachable", desc := "(I)I" } : Jvm.MethodName) prog_11_method_128_code (4 : Nat) (Option.some Jvm.ClassFile.FieldType.int)) ∈ lw_all := lw_g (lw_at lw_m11 75 rfl) rfl
theorem q2591 : (Jvm.Cond.methodLink "RooftopCatsModel" (401 : Nat) ({ cls := "RooftopCatsModel", name := "walks", desc := "(I)V" } : Jvm.MethodName)) ∈ lw_all := lw_g (lw_at lw_m11 76 rfl) rfl
theorem q2592 : (Jvm.Cond.privateMethod ({ cls := "RooftopCatsModel", name := "walks", desc := "(I)V" } : Jvm.MethodName)) ∈ lw_tbl := lw_at lw_m11 77 rfl
theorem q2593 : (Jvm.Cond.instanceMethod ({ cls := "RooftopCatsModel", name := "walks", desc := "(I)V" } : Jvm.MethodName)) ∈ lw_all := lw_g (lw_at lw_m11 78 rfl) rfl
theorem q2594 : (Jvm.Cond.code ({ cls := "RooftopCatsModel", name := "walks", desc := "(I)V" } : Jvm.MethodName) prog_11_method_26_code (4 : Nat) (Option.none : Option Jvm.ClassFile.FieldType)) ∈ lw_all := lw_g (lw_at lw_m11 79 rfl) rfl
theorem q2595 : (Jvm.Cond.methodLink "RooftopCatsModel" (108 : Nat) ({ cls := "RooftopCatsModel", name := "spreads", desc := "(III)V" } : Jvm.MethodName)) ∈ lw_all := lw_g (lw_at lw_m11 80 rfl) rfl
theorem q2596 : (Jvm.Cond.privateMethod ({ cls := "RooftopCatsModel", name := "spreads", desc := "(III)V" } : Jvm.MethodName)) ∈ lw_tbl := lw_at lw_m11 81 rfl
theorem q2597 : (Jvm.Cond.instanceMethod ({ cls := "RooftopCatsModel", name := "spreads", desc := "(III)V" } : Jvm.MethodName)) ∈ lw_all := lw_g (lw_at lw_m11 82 rfl) rfl
theorem q2598 : (Jvm.Cond.code ({ cls := "RooftopCatsModel", name := "spreads", desc := "(III)V" } : Jvm.MethodName) prog_11_method_27_code (6 : Nat) (Option.none : Option Jvm.ClassFile.FieldType)) ∈ lw_all := lw_g (lw_at lw_m11 83 rfl) rfl
theorem q2600 : (Jvm.Cond.instanceMethod ({ cls := "RooftopCatsModel", name := "stepsTo", desc := "(II)I" } : Jvm.MethodName)) ∈ lw_all := lw_g (lw_at lw_m11 85 rfl) rfl
theorem q2601 : (Jvm.Cond.selects "RooftopCatsModel" ({ cls := "RooftopCatsModel", name := "stepsTo", desc := "(II)I" } : Jvm.MethodName) ({ cls := "RooftopCatsModel", name := "stepsTo", desc := "(II)I" } : Jvm.MethodName)) ∈ lw_all := lw_g (lw_at lw_m11 86 rfl) rfl
theorem q2602 : (Jvm.Cond.code ({ cls := "RooftopCatsModel", name := "stepsTo", desc := "(II)I" } : Jvm.MethodName) prog_11_method_129_code (3 : Nat) (Option.some Jvm.ClassFile.FieldType.int)) ∈ lw_all := lw_g (lw_at lw_m11 87 rfl) rfl
theorem q2604 : (Jvm.Cond.instanceMethod ({ cls := "RooftopCatsModel", name := "openGutters", desc := "(I)I" } : Jvm.MethodName)) ∈ lw_all := lw_g (lw_at lw_m11 89 rfl) rfl
theorem q2605 : (Jvm.Cond.selects "RooftopCatsModel" ({ cls := "RooftopCatsModel", name := "openGutters", desc := "(I)I" } : Jvm.MethodName) ({ cls := "RooftopCatsModel", name := "openGutters", desc := "(I)I" } : Jvm.MethodName)) ∈ lw_all := lw_g (lw_at lw_m11 90 rfl) rfl
theorem q2606 : (Jvm.Cond.code ({ cls := "RooftopCatsModel", name := "openGutters", desc := "(I)I" } : Jvm.MethodName) prog_11_method_130_code (4 : Nat) (Option.some Jvm.ClassFile.FieldType.int)) ∈ lw_all := lw_g (lw_at lw_m11 91 rfl) rfl
theorem q2608 : (Jvm.Cond.instanceMethod ({ cls := "RooftopCatsModel", name := "whyNoStep", desc := "(II)I" } : Jvm.MethodName)) ∈ lw_all := lw_g (lw_at lw_m11 93 rfl) rfl
theorem q2609 : (Jvm.Cond.selects "RooftopCatsModel" ({ cls := "RooftopCatsModel", name := "whyNoStep", desc := "(II)I" } : Jvm.MethodName) ({ cls := "RooftopCatsModel", name := "whyNoStep", desc := "(II)I" } : Jvm.MethodName)) ∈ lw_all := lw_g (lw_at lw_m11 94 rfl) rfl
theorem q2610 : (Jvm.Cond.code ({ cls := "RooftopCatsModel", name := "whyNoStep", desc := "(II)I" } : Jvm.MethodName) prog_11_method_131_code (3 : Nat) (Option.some Jvm.ClassFile.FieldType.int)) ∈ lw_all := lw_g (lw_at lw_m11 95 rfl) rfl
theorem q2612 : (Jvm.Cond.instanceMethod ({ cls := "RooftopCatsModel", name := "whyNoClaim", desc := "(I)I" } : Jvm.MethodName)) ∈ lw_all := lw_g (lw_at lw_m11 97 rfl) rfl
theorem q2613 : (Jvm.Cond.selects "RooftopCatsModel" ({ cls := "RooftopCatsModel", name := "whyNoClaim", desc := "(I)I" } : Jvm.MethodName) ({ cls := "RooftopCatsModel", name := "whyNoClaim", desc := "(I)I" } : Jvm.MethodName)) ∈ lw_all := lw_g (lw_at lw_m11 98 rfl) rfl
theorem q2614 : (Jvm.Cond.code ({ cls := "RooftopCatsModel", name := "whyNoClaim", desc := "(I)I" } : Jvm.MethodName) prog_11_method_132_code (2 : Nat) (Option.some Jvm.ClassFile.FieldType.int)) ∈ lw_all := lw_g (lw_at lw_m11 99 rfl) rfl
theorem q2616 : (Jvm.Cond.instanceMethod ({ cls := "RooftopCatsModel", name := "whyNoChase", desc := "(II)I" } : Jvm.MethodName)) ∈ lw_all := lw_g (lw_at lw_m11 101 rfl) rfl
theorem q2617 : (Jvm.Cond.selects "RooftopCatsModel" ({ cls := "RooftopCatsModel", name := "whyNoChase", desc := "(II)I" } : Jvm.MethodName) ({ cls := "RooftopCatsModel", name := "whyNoChase", desc := "(II)I" } : Jvm.MethodName)) ∈ lw_all := lw_g (lw_at lw_m11 102 rfl) rfl
theorem q2618 : (Jvm.Cond.code ({ cls := "RooftopCatsModel", name := "whyNoChase", desc := "(II)I" } : Jvm.MethodName) prog_11_method_133_code (3 : Nat) (Option.some Jvm.ClassFile.FieldType.int)) ∈ lw_all := lw_g (lw_at lw_m11 103 rfl) rfl
theorem q2620 : (Jvm.Cond.instanceMethod ({ cls := "RooftopCatsModel", name := "preyOf", desc := "(I)I" } : Jvm.MethodName)) ∈ lw_all := lw_g (lw_at lw_m11 105 rfl) rfl
theorem q2621 : (Jvm.Cond.selects "RooftopCatsModel" ({ cls := "RooftopCatsModel", name := "preyOf", desc := "(I)I" } : Jvm.MethodName) ({ cls := "RooftopCatsModel", name := "preyOf", desc := "(I)I" } : Jvm.MethodName)) ∈ lw_all := lw_g (lw_at lw_m11 106 rfl) rfl
theorem q2622 : (Jvm.Cond.code ({ cls := "RooftopCatsModel", name := "preyOf", desc := "(I)I" } : Jvm.MethodName) prog_11_method_134_code (4 : Nat) (Option.some Jvm.ClassFile.FieldType.int)) ∈ lw_all := lw_g (lw_at lw_m11 107 rfl) rfl
theorem q2624 : (Jvm.Cond.instanceMethod ({ cls := "RooftopCatsModel", name := "isKittenWaiting", desc := "()Z" } : Jvm.MethodName)) ∈ lw_all := lw_g (lw_at lw_m11 109 rfl) rfl
theorem q2625 : (Jvm.Cond.selects "RooftopCatsModel" ({ cls := "RooftopCatsModel", name := "isKittenWaiting", desc := "()Z" } : Jvm.MethodName) ({ cls := "RooftopCatsModel", name := "isKittenWaiting", desc := "()Z" } : Jvm.MethodName)) ∈ lw_all := lw_g (lw_at lw_m11 110 rfl) rfl
theorem q2626 : (Jvm.Cond.code ({ cls := "RooftopCatsModel", name := "isKittenWaiting", desc := "()Z" } : Jvm.MethodName) prog_11_method_135_code (1 : Nat) (Option.some Jvm.ClassFile.FieldType.boolean)) ∈ lw_all := lw_g (lw_at lw_m11 111 rfl) rfl
theorem q2628 : (Jvm.Cond.instanceMethod ({ cls := "RooftopCatsModel", name := "votesFor", desc := "()I" } : Jvm.MethodName)) ∈ lw_all := lw_g (lw_at lw_m11 113 rfl) rfl
theorem q2629 : (Jvm.Cond.selects "RooftopCatsModel" ({ cls := "RooftopCatsModel", name := "votesFor", desc := "()I" } : Jvm.MethodName) ({ cls := "RooftopCatsModel", name := "votesFor", desc := "()I" } : Jvm.MethodName)) ∈ lw_all := lw_g (lw_at lw_m11 114 rfl) rfl
theorem q2630 : (Jvm.Cond.code ({ cls := "RooftopCatsModel", name := "votesFor", desc := "()I" } : Jvm.MethodName) prog_11_method_136_code (1 : Nat) (Option.some Jvm.ClassFile.FieldType.int)) ∈ lw_all := lw_g (lw_at lw_m11 115 rfl) rfl
theorem q2632 : (Jvm.Cond.instanceMethod ({ cls := "RooftopCatsModel", name := "votesAgainst", desc := "()I" } : Jvm.MethodName)) ∈ lw_all := lw_g (lw_at lw_m11 117 rfl) rfl
theorem q2633 : (Jvm.Cond.selects "RooftopCatsModel" ({ cls := "RooftopCatsModel", name := "votesAgainst", desc := "()I" } : Jvm.MethodName) ({ cls := "RooftopCatsModel", name := "votesAgainst", desc := "()I" } : Jvm.MethodName)) ∈ lw_all := lw_g (lw_at lw_m11 118 rfl) rfl
theorem q2634 : (Jvm.Cond.code ({ cls := "RooftopCatsModel", name := "votesAgainst", desc := "()I" } : Jvm.MethodName) prog_11_method_137_code (1 : Nat) (Option.some Jvm.ClassFile.FieldType.int)) ∈ lw_all := lw_g (lw_at lw_m11 119 rfl) rfl
theorem q2636 : (Jvm.Cond.instanceMethod ({ cls := "RooftopCatsModel", name := "hasVoted", desc := "(I)Z" } : Jvm.MethodName)) ∈ lw_all := lw_g (lw_at lw_m11 121 rfl) rfl
theorem q2637 : (Jvm.Cond.selects "RooftopCatsModel" ({ cls := "RooftopCatsModel", name := "hasVoted", desc := "(I)Z" } : Jvm.MethodName) ({ cls := "RooftopCatsModel", name := "hasVoted", desc := "(I)Z" } : Jvm.MethodName)) ∈ lw_all := lw_g (lw_at lw_m11 122 rfl) rfl
theorem q2638 : (Jvm.Cond.code ({ cls := "RooftopCatsModel", name := "hasVoted", desc := "(I)Z" } : Jvm.MethodName) prog_11_method_138_code (2 : Nat) (Option.some Jvm.ClassFile.FieldType.boolean)) ∈ lw_all := lw_g (lw_at lw_m11 123 rfl) rfl
theorem q2640 : (Jvm.Cond.instanceMethod ({ cls := "RooftopCatsModel", name := "choirOf", desc := "(I)I" } : Jvm.MethodName)) ∈ lw_all := lw_g (lw_at lw_m11 125 rfl) rfl
theorem q2641 : (Jvm.Cond.selects "RooftopCatsModel" ({ cls := "RooftopCatsModel", name := "choirOf", desc := "(I)I" } : Jvm.MethodName) ({ cls := "RooftopCatsModel", name := "choirOf", desc := "(I)I" } : Jvm.MethodName)) ∈ lw_all := lw_g (lw_at lw_m11 126 rfl) rfl
theorem q2642 : (Jvm.Cond.code ({ cls := "RooftopCatsModel", name := "choirOf", desc := "(I)I" } : Jvm.MethodName) prog_11_method_139_code (2 : Nat) (Option.some Jvm.ClassFile.FieldType.int)) ∈ lw_all := lw_g (lw_at lw_m11 127 rfl) rfl
theorem q2644 : (Jvm.Cond.instanceMethod ({ cls := "RooftopCatsModel", name := "choirCount", desc := "()I" } : Jvm.MethodName)) ∈ lw_all := lw_g (lw_at lw_m11 129 rfl) rfl
theorem q2645 : (Jvm.Cond.selects "RooftopCatsModel" ({ cls := "RooftopCatsModel", name := "choirCount", desc := "()I" } : Jvm.MethodName) ({ cls := "RooftopCatsModel", name := "choirCount", desc := "()I" } : Jvm.MethodName)) ∈ lw_all := lw_g (lw_at lw_m11 130 rfl) rfl
theorem q2646 : (Jvm.Cond.code ({ cls := "RooftopCatsModel", name := "choirCount", desc := "()I" } : Jvm.MethodName) prog_11_method_140_code (3 : Nat) (Option.some Jvm.ClassFile.FieldType.int)) ∈ lw_all := lw_g (lw_at lw_m11 131 rfl) rfl
theorem q2648 : (Jvm.Cond.instanceMethod ({ cls := "RooftopCatsModel", name := "largestChoir", desc := "()I" } : Jvm.MethodName)) ∈ lw_all := lw_g (lw_at lw_m11 133 rfl) rfl
theorem q2649 : (Jvm.Cond.selects "RooftopCatsModel" ({ cls := "RooftopCatsModel", name := "largestChoir", desc := "()I" } : Jvm.MethodName) ({ cls := "RooftopCatsModel", name := "largestChoir", desc := "()I" } : Jvm.MethodName)) ∈ lw_all := lw_g (lw_at lw_m11 134 rfl) rfl
theorem q2650 : (Jvm.Cond.code ({ cls := "RooftopCatsModel", name := "largestChoir", desc := "()I" } : Jvm.MethodName) prog_11_method_141_code (1 : Nat) (Option.some Jvm.ClassFile.FieldType.int)) ∈ lw_all := lw_g (lw_at lw_m11 135 rfl) rfl
theorem q2652 : (Jvm.Cond.instanceMethod ({ cls := "RooftopCatsModel", name := "nightsToFullMoon", desc := "()I" } : Jvm.MethodName)) ∈ lw_all := lw_g (lw_at lw_m11 137 rfl) rfl
theorem q2653 : (Jvm.Cond.selects "RooftopCatsModel" ({ cls := "RooftopCatsModel", name := "nightsToFullMoon", desc := "()I" } : Jvm.MethodName) ({ cls := "RooftopCatsModel", name := "nightsToFullMoon", desc := "()I" } : Jvm.MethodName)) ∈ lw_all := lw_g (lw_at lw_m11 138 rfl) rfl
theorem q2654 : (Jvm.Cond.code ({ cls := "RooftopCatsModel", name := "nightsToFullMoon", desc := "()I" } : Jvm.MethodName) prog_11_method_142_code (2 : Nat) (Option.some Jvm.ClassFile.FieldType.int)) ∈ lw_all := lw_g (lw_at lw_m11 139 rfl) rfl
theorem q2656 : (Jvm.Cond.instanceMethod ({ cls := "RooftopCatsModel", name := "fishAfter", desc := "(II)I" } : Jvm.MethodName)) ∈ lw_all := lw_g (lw_at lw_m11 141 rfl) rfl
theorem q2657 : (Jvm.Cond.selects "RooftopCatsModel" ({ cls := "RooftopCatsModel", name := "fishAfter", desc := "(II)I" } : Jvm.MethodName) ({ cls := "RooftopCatsModel", name := "fishAfter", desc := "(II)I" } : Jvm.MethodName)) ∈ lw_all := lw_g (lw_at lw_m11 142 rfl) rfl
theorem q2658 : (Jvm.Cond.code ({ cls := "RooftopCatsModel", name := "fishAfter", desc := "(II)I" } : Jvm.MethodName) prog_11_method_143_code (5 : Nat) (Option.some Jvm.ClassFile.FieldType.int)) ∈ lw_all := lw_g (lw_at lw_m11 143 rfl) rfl
theorem q2660 : (Jvm.Cond.instanceMethod ({ cls := "RooftopCatsModel", name := "richestCat", desc := "()I" } : Jvm.MethodName)) ∈ lw_all := lw_g (lw_at lw_m11 145 rfl) rfl
theorem q2661 : (Jvm.Cond.selects "RooftopCatsModel" ({ cls := "RooftopCatsModel", name := "richestCat", desc := "()I" } : Jvm.MethodName) ({ cls := "RooftopCatsModel", name := "richestCat", desc := "()I" } : Jvm.MethodName)) ∈ lw_all := lw_g (lw_at lw_m11 146 rfl) rfl
theorem q2662 : (Jvm.Cond.code ({ cls := "RooftopCatsModel", name := "richestCat", desc := "()I" } : Jvm.MethodName) prog_11_method_144_code (3 : Nat) (Option.some Jvm.ClassFile.FieldType.int)) ∈ lw_all := lw_g (lw_at lw_m11 147 rfl) rfl
theorem q2664 : (Jvm.Cond.instanceMethod ({ cls := "RooftopCatsModel", name := "totalFish", desc := "()I" } : Jvm.MethodName)) ∈ lw_all := lw_g (lw_at lw_m11 149 rfl) rfl
theorem q2665 : (Jvm.Cond.selects "RooftopCatsModel" ({ cls := "RooftopCatsModel", name := "totalFish", desc := "()I" } : Jvm.MethodName) ({ cls := "RooftopCatsModel", name := "totalFish", desc := "()I" } : Jvm.MethodName)) ∈ lw_all := lw_g (lw_at lw_m11 150 rfl) rfl
theorem q2666 : (Jvm.Cond.code ({ cls := "RooftopCatsModel", name := "totalFish", desc := "()I" } : Jvm.MethodName) prog_11_method_146_code (1 : Nat) (Option.some Jvm.ClassFile.FieldType.int)) ∈ lw_all := lw_g (lw_at lw_m11 151 rfl) rfl
theorem q2667 : (Jvm.Cond.methodLink "RooftopCatsModel" (404 : Nat) ({ cls := "RooftopCatsModel", name := "allFish", desc := "()I" } : Jvm.MethodName)) ∈ lw_all := lw_g (lw_at lw_m11 152 rfl) rfl
theorem q2668 : (Jvm.Cond.privateMethod ({ cls := "RooftopCatsModel", name := "allFish", desc := "()I" } : Jvm.MethodName)) ∈ lw_tbl := lw_at lw_m11 153 rfl
theorem q2669 : (Jvm.Cond.instanceMethod ({ cls := "RooftopCatsModel", name := "allFish", desc := "()I" } : Jvm.MethodName)) ∈ lw_all := lw_g (lw_at lw_m11 154 rfl) rfl
theorem q2670 : (Jvm.Cond.code ({ cls := "RooftopCatsModel", name := "allFish", desc := "()I" } : Jvm.MethodName) prog_11_method_145_code (3 : Nat) (Option.some Jvm.ClassFile.FieldType.int)) ∈ lw_all := lw_g (lw_at lw_m11 155 rfl) rfl
theorem q2672 : (Jvm.Cond.instanceMethod ({ cls := "RooftopCatsModel", name := "meanFish", desc := "()D" } : Jvm.MethodName)) ∈ lw_all := lw_g (lw_at lw_m11 157 rfl) rfl
theorem q2673 : (Jvm.Cond.selects "RooftopCatsModel" ({ cls := "RooftopCatsModel", name := "meanFish", desc := "()D" } : Jvm.MethodName) ({ cls := "RooftopCatsModel", name := "meanFish", desc := "()D" } : Jvm.MethodName)) ∈ lw_all := lw_g (lw_at lw_m11 158 rfl) rfl
theorem q2674 : (Jvm.Cond.code ({ cls := "RooftopCatsModel", name := "meanFish", desc := "()D" } : Jvm.MethodName) prog_11_method_147_code (1 : Nat) (Option.some Jvm.ClassFile.FieldType.double)) ∈ lw_all := lw_g (lw_at lw_m11 159 rfl) rfl
theorem q2676 : (Jvm.Cond.instanceMethod ({ cls := "RooftopCatsModel", name := "ownedShare", desc := "()F" } : Jvm.MethodName)) ∈ lw_all := lw_g (lw_at lw_m11 161 rfl) rfl
theorem q2677 : (Jvm.Cond.selects "RooftopCatsModel" ({ cls := "RooftopCatsModel", name := "ownedShare", desc := "()F" } : Jvm.MethodName) ({ cls := "RooftopCatsModel", name := "ownedShare", desc := "()F" } : Jvm.MethodName)) ∈ lw_all := lw_g (lw_at lw_m11 162 rfl) rfl
theorem q2678 : (Jvm.Cond.code ({ cls := "RooftopCatsModel", name := "ownedShare", desc := "()F" } : Jvm.MethodName) prog_11_method_148_code (3 : Nat) (Option.some Jvm.ClassFile.FieldType.float)) ∈ lw_all := lw_g (lw_at lw_m11 163 rfl) rfl
theorem q2680 : (Jvm.Cond.instanceMethod ({ cls := "RooftopCatsModel", name := "violations", desc := "()I" } : Jvm.MethodName)) ∈ lw_all := lw_g (lw_at lw_m11 165 rfl) rfl
theorem q2681 : (Jvm.Cond.selects "RooftopCatsModel" ({ cls := "RooftopCatsModel", name := "violations", desc := "()I" } : Jvm.MethodName) ({ cls := "RooftopCatsModel", name := "violations", desc := "()I" } : Jvm.MethodName)) ∈ lw_all := lw_g (lw_at lw_m11 166 rfl) rfl
theorem q2682 : (Jvm.Cond.code ({ cls := "RooftopCatsModel", name := "violations", desc := "()I" } : Jvm.MethodName) prog_11_method_150_code (4 : Nat) (Option.some Jvm.ClassFile.FieldType.int)) ∈ lw_all := lw_g (lw_at lw_m11 167 rfl) rfl
theorem q2683 : (Jvm.Cond.methodLink "RooftopCatsModel" (407 : Nat) ({ cls := "RooftopCatsModel", name := "isCrowded", desc := "(I)Z" } : Jvm.MethodName)) ∈ lw_all := lw_g (lw_at lw_m11 168 rfl) rfl
theorem q2684 : (Jvm.Cond.privateMethod ({ cls := "RooftopCatsModel", name := "isCrowded", desc := "(I)Z" } : Jvm.MethodName)) ∈ lw_tbl := lw_at lw_m11 169 rfl
theorem q2685 : (Jvm.Cond.instanceMethod ({ cls := "RooftopCatsModel", name := "isCrowded", desc := "(I)Z" } : Jvm.MethodName)) ∈ lw_all := lw_g (lw_at lw_m11 170 rfl) rfl
theorem q2686 : (Jvm.Cond.code ({ cls := "RooftopCatsModel", name := "isCrowded", desc := "(I)Z" } : Jvm.MethodName) prog_11_method_149_code (4 : Nat) (Option.some Jvm.ClassFile.FieldType.boolean)) ∈ lw_all := lw_g (lw_at lw_m11 171 rfl) rfl
theorem q2688 : (Jvm.Cond.instanceMethod ({ cls := "RooftopCatsModel", name := "writeRoof", desc := "()I" } : Jvm.MethodName)) ∈ lw_all := lw_g (lw_at lw_m11 173 rfl) rfl
theorem q2689 : (Jvm.Cond.selects "RooftopCatsModel" ({ cls := "RooftopCatsModel", name := "writeRoof", desc := "()I" } : Jvm.MethodName) ({ cls := "RooftopCatsModel", name := "writeRoof", desc := "()I" } : Jvm.MethodName)) ∈ lw_all := lw_g (lw_at lw_m11 174 rfl) rfl
theorem q2690 : (Jvm.Cond.code ({ cls := "RooftopCatsModel", name := "writeRoof", desc := "()I" } : Jvm.MethodName) prog_11_method_153_code (2 : Nat) (Option.some Jvm.ClassFile.FieldType.int)) ∈ lw_all := lw_g (lw_at lw_m11 175 rfl) rfl
theorem q2691 : (Jvm.Cond.methodLink "RooftopCatsModel" (413 : Nat) ({ cls := "RooftopCatsModel", name := "write", desc := "(I)V" } : Jvm.MethodName)) ∈ lw_all := lw_g (lw_at lw_m11 176 rfl) rfl
theorem q2692 : (Jvm.Cond.privateMethod ({ cls := "RooftopCatsModel", name := "write", desc := "(I)V" } : Jvm.MethodName)) ∈ lw_tbl := lw_at lw_m11 177 rfl
theorem q2693 : (Jvm.Cond.instanceMethod ({ cls := "RooftopCatsModel", name := "write", desc := "(I)V" } : Jvm.MethodName)) ∈ lw_all := lw_g (lw_at lw_m11 178 rfl) rfl
theorem q2694 : (Jvm.Cond.code ({ cls := "RooftopCatsModel", name := "write", desc := "(I)V" } : Jvm.MethodName) prog_11_method_151_code (2 : Nat) (Option.none : Option Jvm.ClassFile.FieldType)) ∈ lw_all := lw_g (lw_at lw_m11 179 rfl) rfl
theorem q2695 : (Jvm.Cond.methodLink "RooftopCatsModel" (416 : Nat) ({ cls := "RooftopCatsModel", name := "writeCat", desc := "(II)V" } : Jvm.MethodName)) ∈ lw_all := lw_g (lw_at lw_m11 180 rfl) rfl
theorem q2696 : (Jvm.Cond.privateMethod ({ cls := "RooftopCatsModel", name := "writeCat", desc := "(II)V" } : Jvm.MethodName)) ∈ lw_tbl := lw_at lw_m11 181 rfl
theorem q2697 : (Jvm.Cond.instanceMethod ({ cls := "RooftopCatsModel", name := "writeCat", desc := "(II)V" } : Jvm.MethodName)) ∈ lw_all := lw_g (lw_at lw_m11 182 rfl) rfl
theorem q2698 : (Jvm.Cond.code ({ cls := "RooftopCatsModel", name := "writeCat", desc := "(II)V" } : Jvm.MethodName) prog_11_method_152_code (3 : Nat) (Option.none : Option Jvm.ClassFile.FieldType)) ∈ lw_all := lw_g (lw_at lw_m11 183 rfl) rfl
theorem q2700 : (Jvm.Cond.instanceMethod ({ cls := "RooftopCatsModel", name := "reportByte", desc := "(I)I" } : Jvm.MethodName)) ∈ lw_all := lw_g (lw_at lw_m11 185 rfl) rfl
theorem q2701 : (Jvm.Cond.selects "RooftopCatsModel" ({ cls := "RooftopCatsModel", name := "reportByte", desc := "(I)I" } : Jvm.MethodName) ({ cls := "RooftopCatsModel", name := "reportByte", desc := "(I)I" } : Jvm.MethodName)) ∈ lw_all := lw_g (lw_at lw_m11 186 rfl) rfl
theorem q2702 : (Jvm.Cond.code ({ cls := "RooftopCatsModel", name := "reportByte", desc := "(I)I" } : Jvm.MethodName) prog_11_method_154_code (2 : Nat) (Option.some Jvm.ClassFile.FieldType.int)) ∈ lw_all := lw_g (lw_at lw_m11 187 rfl) rfl
theorem q2735 : (Jvm.Cond.castable "RooftopCatsModel" "java/lang/Object") ∈ lw_tbl := lw_at lw_m11 220 rfl
theorem in_X9 : ∀ w ∈ wsX90, w ∈ lw_all := lw_in wsX90 [2328, 2330, 2332, 2334, 2336, 2338, 2340, 2342, 2344, 2346, 2348, 2350, 2352, 2354, 2356, 2358, 2360, 2362, 2364, 2366, 2368, 2370, 2372] (by decide +kernel) (by decide +kernel)
