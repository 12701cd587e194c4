/-! RooftopCats -/
set_option maxRecDepth 100000
def RX1 : String := "RooftopCats"
def TX1 : u_T := fun k => match k with
  | 0 => ("RooftopCats", "roof", "LRooftopCats$Roof;", false)
  | 1 => ("RooftopCats", "history", "Ljava/util/ArrayDeque;", true)
  | 2 => ("RooftopCats", "snapshot", "LRooftopCats$Roof;", false)
  | 3 => ("RooftopCats", "input", "Ljava/lang/StringBuilder;", true)
  | 4 => ("RooftopCats", "report", "Ljava/lang/String;", false)
  | 5 => ("RooftopCats", "errorKind", "I", false)
  | _ => ("RooftopCats", "errorOffset", "I", false)
def tyX1 : Nat → FieldType := fun k => match k with
  | 0 => .object "RooftopCats$Roof"
  | 1 => .object "java/util/ArrayDeque"
  | 2 => .object "RooftopCats$Roof"
  | 3 => .object "java/lang/StringBuilder"
  | 4 => .object "java/lang/String"
  | 5 => .int
  | _ => .int
abbrev wsX10 : List Cond := u_ws RX1 TX1 7
theorem nmX1 : ∀ a, a < 7 → ∀ b, b < 7 → a ≠ b → (TX1 a).2.1 ≠ (TX1 b).2.1 := by decide +kernel
theorem tyX1_ok : ∀ k, k < 7 → parseFieldDescriptor (TX1 k).2.2.1 = some (tyX1 k) := by decide +kernel
abbrev cX1_init : ByteArray := prog_1_method_1_code
def yX1_init : MethodName := ⟨RX1, "<init>", "()V"⟩
def dkwX1_init_2 : List UInt8 := [182, 0, 40, 181, 0, 44, 167, 0, 12, 76, 187, 0, 50, 89, 183, 0, 52, 191, 177]
abbrev dktX1_init_2 : List UInt8 := dkwX1_init_2 ++ []
def dkwX1_init_1 : List UInt8 := [181, 0, 19, 42, 18, 23, 181, 0, 25, 42, 2, 181, 0, 29, 42, 187, 0, 33, 89, 18, 35, 183, 0, 37]
abbrev dktX1_init_1 : List UInt8 := dkwX1_init_1 ++ dktX1_init_2
def dkwX1_init_0 : List UInt8 := [42, 183, 0, 1, 42, 187, 0, 7, 89, 183, 0, 9, 181, 0, 10, 42, 187, 0, 16, 89, 183, 0, 18]
abbrev dktX1_init_0 : List UInt8 := dkwX1_init_0 ++ dktX1_init_1
theorem dksX1_init_0 : cX1_init.data.toList.drop 0 = dktX1_init_0 := by decide +kernel
theorem dksX1_init_1 : cX1_init.data.toList.drop 23 = dktX1_init_1 := dk_seg dksX1_init_0 23 rfl rfl
theorem dksX1_init_2 : cX1_init.data.toList.drop 47 = dktX1_init_2 := dk_seg dksX1_init_1 24 rfl rfl
theorem dX1_init_0 : decode cX1_init 0 = .ok (.aload_n 0, 1) := dk_42 (dk_at dksX1_init_0 0 rfl rfl)
theorem dX1_init_1 : decode cX1_init 1 = .ok (.invokespecial 1, 3) := dk_183 0 1 (dk_at dksX1_init_0 1 rfl rfl)
theorem dX1_init_4 : decode cX1_init 4 = .ok (.aload_n 0, 1) := dk_42 (dk_at dksX1_init_0 4 rfl rfl)
theorem dX1_init_5 : decode cX1_init 5 = .ok (.new 7, 3) := dk_187 0 7 (dk_at dksX1_init_0 5 rfl rfl)
theorem dX1_init_8 : decode cX1_init 8 = .ok (.dup, 1) := dk_89 (dk_at dksX1_init_0 8 rfl rfl)
theorem dX1_init_9 : decode cX1_init 9 = .ok (.invokespecial 9, 3) := dk_183 0 9 (dk_at dksX1_init_0 9 rfl rfl)
theorem dX1_init_12 : decode cX1_init 12 = .ok (.putfield 10, 3) := dk_181 0 10 (dk_at dksX1_init_0 12 rfl rfl)
theorem dX1_init_15 : decode cX1_init 15 = .ok (.aload_n 0, 1) := dk_42 (dk_at dksX1_init_0 15 rfl rfl)
theorem dX1_init_16 : decode cX1_init 16 = .ok (.new 16, 3) := dk_187 0 16 (dk_at dksX1_init_0 16 rfl rfl)
theorem dX1_init_19 : decode cX1_init 19 = .ok (.dup, 1) := dk_89 (dk_at dksX1_init_0 19 rfl rfl)
theorem dX1_init_20 : decode cX1_init 20 = .ok (.invokespecial 18, 3) := dk_183 0 18 (dk_at dksX1_init_0 20 rfl rfl)
theorem dX1_init_23 : decode cX1_init 23 = .ok (.putfield 19, 3) := dk_181 0 19 (dk_at dksX1_init_1 0 rfl rfl)
theorem dX1_init_26 : decode cX1_init 26 = .ok (.aload_n 0, 1) := dk_42 (dk_at dksX1_init_1 3 rfl rfl)
theorem dX1_init_27 : decode cX1_init 27 = .ok (.ldc 23, 2) := dk_18 23 (dk_at dksX1_init_1 4 rfl rfl)
theorem dX1_init_29 : decode cX1_init 29 = .ok (.putfield 25, 3) := dk_181 0 25 (dk_at dksX1_init_1 6 rfl rfl)
theorem dX1_init_32 : decode cX1_init 32 = .ok (.aload_n 0, 1) := dk_42 (dk_at dksX1_init_1 9 rfl rfl)
theorem dX1_init_33 : decode cX1_init 33 = .ok (.iconst (-1), 1) := dk_2 (dk_at dksX1_init_1 10 rfl rfl)
theorem dX1_init_34 : decode cX1_init 34 = .ok (.putfield 29, 3) := dk_181 0 29 (dk_at dksX1_init_1 11 rfl rfl)
theorem dX1_init_37 : decode cX1_init 37 = .ok (.aload_n 0, 1) := dk_42 (dk_at dksX1_init_1 14 rfl rfl)
theorem dX1_init_38 : decode cX1_init 38 = .ok (.new 33, 3) := dk_187 0 33 (dk_at dksX1_init_1 15 rfl rfl)
theorem dX1_init_41 : decode cX1_init 41 = .ok (.dup, 1) := dk_89 (dk_at dksX1_init_1 18 rfl rfl)
theorem dX1_init_42 : decode cX1_init 42 = .ok (.ldc 35, 2) := dk_18 35 (dk_at dksX1_init_1 19 rfl rfl)
theorem dX1_init_44 : decode cX1_init 44 = .ok (.invokespecial 37, 3) := dk_183 0 37 (dk_at dksX1_init_1 21 rfl rfl)
theorem dX1_init_47 : decode cX1_init 47 = .ok (.invokevirtual 40, 3) := dk_182 0 40 (dk_at dksX1_init_2 0 rfl rfl)
theorem dX1_init_50 : decode cX1_init 50 = .ok (.putfield 44, 3) := dk_181 0 44 (dk_at dksX1_init_2 3 rfl rfl)
theorem dX1_init_53 : decode cX1_init 53 = .ok (.goto 12, 3) := dk_167 0 12 (dk_at dksX1_init_2 6 rfl rfl)
theorem dX1_init_56 : decode cX1_init 56 = .ok (.astore_n 1, 1) := dk_76 (dk_at dksX1_init_2 9 rfl rfl)
theorem dX1_init_57 : decode cX1_init 57 = .ok (.new 50, 3) := dk_187 0 50 (dk_at dksX1_init_2 10 rfl rfl)
theorem dX1_init_60 : decode cX1_init 60 = .ok (.dup, 1) := dk_89 (dk_at dksX1_init_2 13 rfl rfl)
theorem dX1_init_61 : decode cX1_init 61 = .ok (.invokespecial 52, 3) := dk_183 0 52 (dk_at dksX1_init_2 14 rfl rfl)
theorem dX1_init_64 : decode cX1_init 64 = .ok (.athrow, 1) := dk_191 (dk_at dksX1_init_2 17 rfl rfl)
theorem dX1_init_65 : decode cX1_init 65 = .ok (.return_, 1) := dk_177 (dk_at dksX1_init_2 18 rfl rfl)
abbrev cX1_append : ByteArray := prog_1_method_12_code
def yX1_append : MethodName := ⟨RX1, "append", "(IIIII)I"⟩
def dkwX1_append_2 : List UInt8 := [180, 0, 19, 182, 0, 111, 172]
abbrev dktX1_append_2 : List UInt8 := dkwX1_append_2 ++ []
def dkwX1_append_1 : List UInt8 := [27, 79, 89, 4, 28, 79, 89, 5, 29, 79, 89, 6, 21, 4, 79, 89, 7, 21, 5, 79, 182, 0, 114, 42]
abbrev dktX1_append_1 : List UInt8 := dkwX1_append_1 ++ dktX1_append_2
def dkwX1_append_0 : List UInt8 := [42, 180, 0, 19, 182, 0, 111, 16, 20, 96, 17, 2, 88, 164, 0, 5, 2, 172, 42, 8, 188, 10, 89, 3]
abbrev dktX1_append_0 : List UInt8 := dkwX1_append_0 ++ dktX1_append_1
theorem dksX1_append_0 : cX1_append.data.toList.drop 0 = dktX1_append_0 := by decide +kernel
theorem dksX1_append_1 : cX1_append.data.toList.drop 24 = dktX1_append_1 := dk_seg dksX1_append_0 24 rfl rfl
theorem dksX1_append_2 : cX1_append.data.toList.drop 48 = dktX1_append_2 := dk_seg dksX1_append_1 24 rfl rfl
theorem dX1_append_0 : decode cX1_append 0 = .ok (.aload_n 0, 1) := dk_42 (dk_at dksX1_append_0 0 rfl rfl)
theorem dX1_append_1 : decode cX1_append 1 = .ok (.getfield 19, 3) := dk_180 0 19 (dk_at dksX1_append_0 1 rfl rfl)
theorem dX1_append_4 : decode cX1_append 4 = .ok (.invokevirtual 111, 3) := dk_182 0 111 (dk_at dksX1_append_0 4 rfl rfl)
theorem dX1_append_7 : decode cX1_append 7 = .ok (.bipush 20, 2) := dk_16 20 (dk_at dksX1_append_0 7 rfl rfl)
theorem dX1_append_9 : decode cX1_append 9 = .ok (.iadd, 1) := dk_96 (dk_at dksX1_append_0 9 rfl rfl)
theorem dX1_append_10 : decode cX1_append 10 = .ok (.sipush 600, 3) := dk_17 2 88 (dk_at dksX1_append_0 10 rfl rfl)
theorem dX1_append_13 : decode cX1_append 13 = .ok (.if_icmp .le 5, 3) := dk_164 0 5 (dk_at dksX1_append_0 13 rfl rfl)
theorem dX1_append_16 : decode cX1_append 16 = .ok (.iconst (-1), 1) := dk_2 (dk_at dksX1_append_0 16 rfl rfl)
theorem dX1_append_17 : decode cX1_append 17 = .ok (.ireturn, 1) := dk_172 (dk_at dksX1_append_0 17 rfl rfl)
theorem dX1_append_18 : decode cX1_append 18 = .ok (.aload_n 0, 1) := dk_42 (dk_at dksX1_append_0 18 rfl rfl)
theorem dX1_append_19 : decode cX1_append 19 = .ok (.iconst 5, 1) := dk_8 (dk_at dksX1_append_0 19 rfl rfl)
theorem dX1_append_20 : decode cX1_append 20 = .ok (.newarray .int, 2) := dk_188_10 (dk_at dksX1_append_0 20 rfl rfl)
theorem dX1_append_22 : decode cX1_append 22 = .ok (.dup, 1) := dk_89 (dk_at dksX1_append_0 22 rfl rfl)
theorem dX1_append_23 : decode cX1_append 23 = .ok (.iconst 0, 1) := dk_3 (dk_at dksX1_append_0 23 rfl rfl)
theorem dX1_append_24 : decode cX1_append 24 = .ok (.iload_n 1, 1) := dk_27 (dk_at dksX1_append_1 0 rfl rfl)
theorem dX1_append_25 : decode cX1_append 25 = .ok (.iastore, 1) := dk_79 (dk_at dksX1_append_1 1 rfl rfl)
theorem dX1_append_26 : decode cX1_append 26 = .ok (.dup, 1) := dk_89 (dk_at dksX1_append_1 2 rfl rfl)
theorem dX1_append_27 : decode cX1_append 27 = .ok (.iconst 1, 1) := dk_4 (dk_at dksX1_append_1 3 rfl rfl)
theorem dX1_append_28 : decode cX1_append 28 = .ok (.iload_n 2, 1) := dk_28 (dk_at dksX1_append_1 4 rfl rfl)
theorem dX1_append_29 : decode cX1_append 29 = .ok (.iastore, 1) := dk_79 (dk_at dksX1_append_1 5 rfl rfl)
theorem dX1_append_30 : decode cX1_append 30 = .ok (.dup, 1) := dk_89 (dk_at dksX1_append_1 6 rfl rfl)
theorem dX1_append_31 : decode cX1_append 31 = .ok (.iconst 2, 1) := dk_5 (dk_at dksX1_append_1 7 rfl rfl)
theorem dX1_append_32 : decode cX1_append 32 = .ok (.iload_n 3, 1) := dk_29 (dk_at dksX1_append_1 8 rfl rfl)
theorem dX1_append_33 : decode cX1_append 33 = .ok (.iastore, 1) := dk_79 (dk_at dksX1_append_1 9 rfl rfl)
theorem dX1_append_34 : decode cX1_append 34 = .ok (.dup, 1) := dk_89 (dk_at dksX1_append_1 10 rfl rfl)
theorem dX1_append_35 : decode cX1_append 35 = .ok (.iconst 3, 1) := dk_6 (dk_at dksX1_append_1 11 rfl rfl)
theorem dX1_append_36 : decode cX1_append 36 = .ok (.iload 4, 2) := dk_21 4 (dk_at dksX1_append_1 12 rfl rfl)
theorem dX1_append_38 : decode cX1_append 38 = .ok (.iastore, 1) := dk_79 (dk_at dksX1_append_1 14 rfl rfl)
theorem dX1_append_39 : decode cX1_append 39 = .ok (.dup, 1) := dk_89 (dk_at dksX1_append_1 15 rfl rfl)
theorem dX1_append_40 : decode cX1_append 40 = .ok (.iconst 4, 1) := dk_7 (dk_at dksX1_append_1 16 rfl rfl)
theorem dX1_append_41 : decode cX1_append 41 = .ok (.iload 5, 2) := dk_21 5 (dk_at dksX1_append_1 17 rfl rfl)
theorem dX1_append_43 : decode cX1_append 43 = .ok (.iastore, 1) := dk_79 (dk_at dksX1_append_1 19 rfl rfl)
theorem dX1_append_44 : decode cX1_append 44 = .ok (.invokevirtual 114, 3) := dk_182 0 114 (dk_at dksX1_append_1 20 rfl rfl)
theorem dX1_append_47 : decode cX1_append 47 = .ok (.aload_n 0, 1) := dk_42 (dk_at dksX1_append_1 23 rfl rfl)
theorem dX1_append_48 : decode cX1_append 48 = .ok (.getfield 19, 3) := dk_180 0 19 (dk_at dksX1_append_2 0 rfl rfl)
theorem dX1_append_51 : decode cX1_append 51 = .ok (.invokevirtual 111, 3) := dk_182 0 111 (dk_at dksX1_append_2 3 rfl rfl)
theorem dX1_append_54 : decode cX1_append 54 = .ok (.ireturn, 1) := dk_172 (dk_at dksX1_append_2 6 rfl rfl)
abbrev cX1_appendBytes : ByteArray := prog_1_method_13_code
def yX1_appendBytes : MethodName := ⟨RX1, "appendBytes", "([I)V"⟩
def dkwX1_appendBytes_2 : List UInt8 := [132, 6, 248, 167, 255, 230, 132, 4, 1, 167, 255, 208, 177]
abbrev dktX1_appendBytes_2 : List UInt8 := dkwX1_appendBytes_2 ++ []
def dkwX1_appendBytes_1 : List UInt8 := [21, 6, 155, 0, 27, 42, 180, 0, 19, 21, 5, 21, 6, 124, 17, 0, 255, 126, 146, 182, 0, 118, 87]
abbrev dktX1_appendBytes_1 : List UInt8 := dkwX1_appendBytes_1 ++ dktX1_appendBytes_2
def dkwX1_appendBytes_0 : List UInt8 := [43, 77, 44, 190, 62, 3, 54, 4, 21, 4, 29, 162, 0, 48, 44, 21, 4, 46, 54, 5, 16, 24, 54, 6]
abbrev dktX1_appendBytes_0 : List UInt8 := dkwX1_appendBytes_0 ++ dktX1_appendBytes_1
theorem dksX1_appendBytes_0 : cX1_appendBytes.data.toList.drop 0 = dktX1_appendBytes_0 := by decide +kernel
theorem dksX1_appendBytes_1 : cX1_appendBytes.data.toList.drop 24 = dktX1_appendBytes_1 := dk_seg dksX1_appendBytes_0 24 rfl rfl
theorem dksX1_appendBytes_2 : cX1_appendBytes.data.toList.drop 47 = dktX1_appendBytes_2 := dk_seg dksX1_appendBytes_1 23 rfl rfl
theorem dX1_appendBytes_0 : decode cX1_appendBytes 0 = .ok (.aload_n 1, 1) := dk_43 (dk_at dksX1_appendBytes_0 0 rfl rfl)
theorem dX1_appendBytes_1 : decode cX1_appendBytes 1 = .ok (.astore_n 2, 1) := dk_77 (dk_at dksX1_appendBytes_0 1 rfl rfl)
theorem dX1_appendBytes_2 : decode cX1_appendBytes 2 = .ok (.aload_n 2, 1) := dk_44 (dk_at dksX1_appendBytes_0 2 rfl rfl)
theorem dX1_appendBytes_3 : decode cX1_appendBytes 3 = .ok (.arraylength, 1) := dk_190 (dk_at dksX1_appendBytes_0 3 rfl rfl)
theorem dX1_appendBytes_4 : decode cX1_appendBytes 4 = .ok (.istore_n 3, 1) := dk_62 (dk_at dksX1_appendBytes_0 4 rfl rfl)
theorem dX1_appendBytes_5 : decode cX1_appendBytes 5 = .ok (.iconst 0, 1) := dk_3 (dk_at dksX1_appendBytes_0 5 rfl rfl)
theorem dX1_appendBytes_6 : decode cX1_appendBytes 6 = .ok (.istore 4, 2) := dk_54 4 (dk_at dksX1_appendBytes_0 6 rfl rfl)
theorem dX1_appendBytes_8 : decode cX1_appendBytes 8 = .ok (.iload 4, 2) := dk_21 4 (dk_at dksX1_appendBytes_0 8 rfl rfl)
theorem dX1_appendBytes_10 : decode cX1_appendBytes 10 = .ok (.iload_n 3, 1) := dk_29 (dk_at dksX1_appendBytes_0 10 rfl rfl)
theorem dX1_appendBytes_11 : decode cX1_appendBytes 11 = .ok (.if_icmp .ge 48, 3) := dk_162 0 48 (dk_at dksX1_appendBytes_0 11 rfl rfl)
theorem dX1_appendBytes_14 : decode cX1_appendBytes 14 = .ok (.aload_n 2, 1) := dk_44 (dk_at dksX1_appendBytes_0 14 rfl rfl)
theorem dX1_appendBytes_15 : decode cX1_appendBytes 15 = .ok (.iload 4, 2) := dk_21 4 (dk_at dksX1_appendBytes_0 15 rfl rfl)
theorem dX1_appendBytes_17 : decode cX1_appendBytes 17 = .ok (.iaload, 1) := dk_46 (dk_at dksX1_appendBytes_0 17 rfl rfl)
theorem dX1_appendBytes_18 : decode cX1_appendBytes 18 = .ok (.istore 5, 2) := dk_54 5 (dk_at dksX1_appendBytes_0 18 rfl rfl)
theorem dX1_appendBytes_20 : decode cX1_appendBytes 20 = .ok (.bipush 24, 2) := dk_16 24 (dk_at dksX1_appendBytes_0 20 rfl rfl)
theorem dX1_appendBytes_22 : decode cX1_appendBytes 22 = .ok (.istore 6, 2) := dk_54 6 (dk_at dksX1_appendBytes_0 22 rfl rfl)
theorem dX1_appendBytes_24 : decode cX1_appendBytes 24 = .ok (.iload 6, 2) := dk_21 6 (dk_at dksX1_appendBytes_1 0 rfl rfl)
theorem dX1_appendBytes_26 : decode cX1_appendBytes 26 = .ok (.ifCond .lt 27, 3) := dk_155 0 27 (dk_at dksX1_appendBytes_1 2 rfl rfl)
theorem dX1_appendBytes_29 : decode cX1_appendBytes 29 = .ok (.aload_n 0, 1) := dk_42 (dk_at dksX1_appendBytes_1 5 rfl rfl)
theorem dX1_appendBytes_30 : decode cX1_appendBytes 30 = .ok (.getfield 19, 3) := dk_180 0 19 (dk_at dksX1_appendBytes_1 6 rfl rfl)
theorem dX1_appendBytes_33 : decode cX1_appendBytes 33 = .ok (.iload 5, 2) := dk_21 5 (dk_at dksX1_appendBytes_1 9 rfl rfl)
theorem dX1_appendBytes_35 : decode cX1_appendBytes 35 = .ok (.iload 6, 2) := dk_21 6 (dk_at dksX1_appendBytes_1 11 rfl rfl)
theorem dX1_appendBytes_37 : decode cX1_appendBytes 37 = .ok (.iushr, 1) := dk_124 (dk_at dksX1_appendBytes_1 13 rfl rfl)
theorem dX1_appendBytes_38 : decode cX1_appendBytes 38 = .ok (.sipush 255, 3) := dk_17 0 255 (dk_at dksX1_appendBytes_1 14 rfl rfl)
theorem dX1_appendBytes_41 : decode cX1_appendBytes 41 = .ok (.iand, 1) := dk_126 (dk_at dksX1_appendBytes_1 17 rfl rfl)
theorem dX1_appendBytes_42 : decode cX1_appendBytes 42 = .ok (.i2c, 1) := dk_146 (dk_at dksX1_appendBytes_1 18 rfl rfl)
theorem dX1_appendBytes_43 : decode cX1_appendBytes 43 = .ok (.invokevirtual 118, 3) := dk_182 0 118 (dk_at dksX1_appendBytes_1 19 rfl rfl)
theorem dX1_appendBytes_46 : decode cX1_appendBytes 46 = .ok (.pop, 1) := dk_87 (dk_at dksX1_appendBytes_1 22 rfl rfl)
theorem dX1_appendBytes_47 : decode cX1_appendBytes 47 = .ok (.iinc 6 (-8), 3) := dk_132 6 248 (dk_at dksX1_appendBytes_2 0 rfl rfl)
theorem dX1_appendBytes_50 : decode cX1_appendBytes 50 = .ok (.goto (-26), 3) := dk_167 255 230 (dk_at dksX1_appendBytes_2 3 rfl rfl)
theorem dX1_appendBytes_53 : decode cX1_appendBytes 53 = .ok (.iinc 4 1, 3) := dk_132 4 1 (dk_at dksX1_appendBytes_2 6 rfl rfl)
theorem dX1_appendBytes_56 : decode cX1_appendBytes 56 = .ok (.goto (-48), 3) := dk_167 255 208 (dk_at dksX1_appendBytes_2 9 rfl rfl)
theorem dX1_appendBytes_59 : decode cX1_appendBytes 59 = .ok (.return_, 1) := dk_177 (dk_at dksX1_appendBytes_2 12 rfl rfl)
abbrev cX1_runScript : ByteArray := prog_1_method_15_code
def yX1_runScript : MethodName := ⟨RX1, "runScript", "()I"⟩
def dkwX1_runScript_3 : List UInt8 := [180, 0, 139, 181, 0, 29, 2, 172]
abbrev dktX1_runScript_3 : List UInt8 := dkwX1_runScript_3 ++ []
def dkwX1_runScript_2 : List UInt8 := [180, 0, 44, 180, 0, 72, 185, 0, 62, 1, 0, 172, 77, 42, 44, 180, 0, 136, 181, 0, 133, 42, 44]
abbrev dktX1_runScript_2 : List UInt8 := dkwX1_runScript_2 ++ dktX1_runScript_3
def dkwX1_runScript_1 : List UInt8 := [182, 0, 40, 77, 42, 182, 0, 130, 42, 44, 181, 0, 44, 42, 3, 181, 0, 133, 42, 2, 181, 0, 29, 42]
abbrev dktX1_runScript_1 : List UInt8 := dkwX1_runScript_1 ++ dktX1_runScript_2
def dkwX1_runScript_0 : List UInt8 := [42, 180, 0, 19, 182, 0, 126, 76, 42, 180, 0, 19, 3, 182, 0, 122, 187, 0, 33, 89, 43, 183, 0, 37]
abbrev dktX1_runScript_0 : List UInt8 := dkwX1_runScript_0 ++ dktX1_runScript_1
theorem dksX1_runScript_0 : cX1_runScript.data.toList.drop 0 = dktX1_runScript_0 := by decide +kernel
theorem dksX1_runScript_1 : cX1_runScript.data.toList.drop 24 = dktX1_runScript_1 := dk_seg dksX1_runScript_0 24 rfl rfl
theorem dksX1_runScript_2 : cX1_runScript.data.toList.drop 48 = dktX1_runScript_2 := dk_seg dksX1_runScript_1 24 rfl rfl
theorem dksX1_runScript_3 : cX1_runScript.data.toList.drop 71 = dktX1_runScript_3 := dk_seg dksX1_runScript_2 23 rfl rfl
theorem dX1_runScript_0 : decode cX1_runScript 0 = .ok (.aload_n 0, 1) := dk_42 (dk_at dksX1_runScript_0 0 rfl rfl)
theorem dX1_runScript_1 : decode cX1_runScript 1 = .ok (.getfield 19, 3) := dk_180 0 19 (dk_at dksX1_runScript_0 1 rfl rfl)
theorem dX1_runScript_4 : decode cX1_runScript 4 = .ok (.invokevirtual 126, 3) := dk_182 0 126 (dk_at dksX1_runScript_0 4 rfl rfl)
theorem dX1_runScript_7 : decode cX1_runScript 7 = .ok (.astore_n 1, 1) := dk_76 (dk_at dksX1_runScript_0 7 rfl rfl)
theorem dX1_runScript_8 : decode cX1_runScript 8 = .ok (.aload_n 0, 1) := dk_42 (dk_at dksX1_runScript_0 8 rfl rfl)
theorem dX1_runScript_9 : decode cX1_runScript 9 = .ok (.getfield 19, 3) := dk_180 0 19 (dk_at dksX1_runScript_0 9 rfl rfl)
theorem dX1_runScript_12 : decode cX1_runScript 12 = .ok (.iconst 0, 1) := dk_3 (dk_at dksX1_runScript_0 12 rfl rfl)
theorem dX1_runScript_13 : decode cX1_runScript 13 = .ok (.invokevirtual 122, 3) := dk_182 0 122 (dk_at dksX1_runScript_0 13 rfl rfl)
theorem dX1_runScript_16 : decode cX1_runScript 16 = .ok (.new 33, 3) := dk_187 0 33 (dk_at dksX1_runScript_0 16 rfl rfl)
theorem dX1_runScript_19 : decode cX1_runScript 19 = .ok (.dup, 1) := dk_89 (dk_at dksX1_runScript_0 19 rfl rfl)
theorem dX1_runScript_20 : decode cX1_runScript 20 = .ok (.aload_n 1, 1) := dk_43 (dk_at dksX1_runScript_0 20 rfl rfl)
theorem dX1_runScript_21 : decode cX1_runScript 21 = .ok (.invokespecial 37, 3) := dk_183 0 37 (dk_at dksX1_runScript_0 21 rfl rfl)
theorem dX1_runScript_24 : decode cX1_runScript 24 = .ok (.invokevirtual 40, 3) := dk_182 0 40 (dk_at dksX1_runScript_1 0 rfl rfl)
theorem dX1_runScript_27 : decode cX1_runScript 27 = .ok (.astore_n 2, 1) := dk_77 (dk_at dksX1_runScript_1 3 rfl rfl)
theorem dX1_runScript_28 : decode cX1_runScript 28 = .ok (.aload_n 0, 1) := dk_42 (dk_at dksX1_runScript_1 4 rfl rfl)
theorem dX1_runScript_29 : decode cX1_runScript 29 = .ok (.invokevirtual 130, 3) := dk_182 0 130 (dk_at dksX1_runScript_1 5 rfl rfl)
theorem dX1_runScript_32 : decode cX1_runScript 32 = .ok (.aload_n 0, 1) := dk_42 (dk_at dksX1_runScript_1 8 rfl rfl)
theorem dX1_runScript_33 : decode cX1_runScript 33 = .ok (.aload_n 2, 1) := dk_44 (dk_at dksX1_runScript_1 9 rfl rfl)
theorem dX1_runScript_34 : decode cX1_runScript 34 = .ok (.putfield 44, 3) := dk_181 0 44 (dk_at dksX1_runScript_1 10 rfl rfl)
theorem dX1_runScript_37 : decode cX1_runScript 37 = .ok (.aload_n 0, 1) := dk_42 (dk_at dksX1_runScript_1 13 rfl rfl)
theorem dX1_runScript_38 : decode cX1_runScript 38 = .ok (.iconst 0, 1) := dk_3 (dk_at dksX1_runScript_1 14 rfl rfl)
theorem dX1_runScript_39 : decode cX1_runScript 39 = .ok (.putfield 133, 3) := dk_181 0 133 (dk_at dksX1_runScript_1 15 rfl rfl)
theorem dX1_runScript_42 : decode cX1_runScript 42 = .ok (.aload_n 0, 1) := dk_42 (dk_at dksX1_runScript_1 18 rfl rfl)
theorem dX1_runScript_43 : decode cX1_runScript 43 = .ok (.iconst (-1), 1) := dk_2 (dk_at dksX1_runScript_1 19 rfl rfl)
theorem dX1_runScript_44 : decode cX1_runScript 44 = .ok (.putfield 29, 3) := dk_181 0 29 (dk_at dksX1_runScript_1 20 rfl rfl)
theorem dX1_runScript_47 : decode cX1_runScript 47 = .ok (.aload_n 0, 1) := dk_42 (dk_at dksX1_runScript_1 23 rfl rfl)
theorem dX1_runScript_48 : decode cX1_runScript 48 = .ok (.getfield 44, 3) := dk_180 0 44 (dk_at dksX1_runScript_2 0 rfl rfl)
theorem dX1_runScript_51 : decode cX1_runScript 51 = .ok (.getfield 72, 3) := dk_180 0 72 (dk_at dksX1_runScript_2 3 rfl rfl)
theorem dX1_runScript_54 : decode cX1_runScript 54 = .ok (.invokeinterface 62 1, 5) := by decide +kernel
theorem dX1_runScript_59 : decode cX1_runScript 59 = .ok (.ireturn, 1) := dk_172 (dk_at dksX1_runScript_2 11 rfl rfl)
theorem dX1_runScript_60 : decode cX1_runScript 60 = .ok (.astore_n 2, 1) := dk_77 (dk_at dksX1_runScript_2 12 rfl rfl)
theorem dX1_runScript_61 : decode cX1_runScript 61 = .ok (.aload_n 0, 1) := dk_42 (dk_at dksX1_runScript_2 13 rfl rfl)
theorem dX1_runScript_62 : decode cX1_runScript 62 = .ok (.aload_n 2, 1) := dk_44 (dk_at dksX1_runScript_2 14 rfl rfl)
theorem dX1_runScript_63 : decode cX1_runScript 63 = .ok (.getfield 136, 3) := dk_180 0 136 (dk_at dksX1_runScript_2 15 rfl rfl)
theorem dX1_runScript_66 : decode cX1_runScript 66 = .ok (.putfield 133, 3) := dk_181 0 133 (dk_at dksX1_runScript_2 18 rfl rfl)
theorem dX1_runScript_69 : decode cX1_runScript 69 = .ok (.aload_n 0, 1) := dk_42 (dk_at dksX1_runScript_2 21 rfl rfl)
theorem dX1_runScript_70 : decode cX1_runScript 70 = .ok (.aload_n 2, 1) := dk_44 (dk_at dksX1_runScript_2 22 rfl rfl)
theorem dX1_runScript_71 : decode cX1_runScript 71 = .ok (.getfield 139, 3) := dk_180 0 139 (dk_at dksX1_runScript_3 0 rfl rfl)
theorem dX1_runScript_74 : decode cX1_runScript 74 = .ok (.putfield 29, 3) := dk_181 0 29 (dk_at dksX1_runScript_3 3 rfl rfl)
theorem dX1_runScript_77 : decode cX1_runScript 77 = .ok (.iconst (-1), 1) := dk_2 (dk_at dksX1_runScript_3 6 rfl rfl)
theorem dX1_runScript_78 : decode cX1_runScript 78 = .ok (.ireturn, 1) := dk_172 (dk_at dksX1_runScript_3 7 rfl rfl)
abbrev cX1_remember : ByteArray := prog_1_method_11_code
def yX1_remember : MethodName := ⟨RX1, "remember", "()V"⟩
def dkwX1_remember_1 : List UInt8 := [180, 0, 10, 182, 0, 104, 87, 42, 42, 180, 0, 44, 182, 0, 108, 181, 0, 44, 177]
abbrev dktX1_remember_1 : List UInt8 := dkwX1_remember_1 ++ []
def dkwX1_remember_0 : List UInt8 := [42, 180, 0, 10, 42, 180, 0, 44, 182, 0, 99, 42, 180, 0, 10, 182, 0, 103, 16, 8, 164, 0, 11, 42]
abbrev dktX1_remember_0 : List UInt8 := dkwX1_remember_0 ++ dktX1_remember_1
theorem dksX1_remember_0 : cX1_remember.data.toList.drop 0 = dktX1_remember_0 := by decide +kernel
theorem dksX1_remember_1 : cX1_remember.data.toList.drop 24 = dktX1_remember_1 := dk_seg dksX1_remember_0 24 rfl rfl
theorem dX1_remember_0 : decode cX1_remember 0 = .ok (.aload_n 0, 1) := dk_42 (dk_at dksX1_remember_0 0 rfl rfl)
theorem dX1_remember_1 : decode cX1_remember 1 = .ok (.getfield 10, 3) := dk_180 0 10 (dk_at dksX1_remember_0 1 rfl rfl)
theorem dX1_remember_4 : decode cX1_remember 4 = .ok (.aload_n 0, 1) := dk_42 (dk_at dksX1_remember_0 4 rfl rfl)
theorem dX1_remember_5 : decode cX1_remember 5 = .ok (.getfield 44, 3) := dk_180 0 44 (dk_at dksX1_remember_0 5 rfl rfl)
theorem dX1_remember_8 : decode cX1_remember 8 = .ok (.invokevirtual 99, 3) := dk_182 0 99 (dk_at dksX1_remember_0 8 rfl rfl)
theorem dX1_remember_11 : decode cX1_remember 11 = .ok (.aload_n 0, 1) := dk_42 (dk_at dksX1_remember_0 11 rfl rfl)
theorem dX1_remember_12 : decode cX1_remember 12 = .ok (.getfield 10, 3) := dk_180 0 10 (dk_at dksX1_remember_0 12 rfl rfl)
theorem dX1_remember_15 : decode cX1_remember 15 = .ok (.invokevirtual 103, 3) := dk_182 0 103 (dk_at dksX1_remember_0 15 rfl rfl)
theorem dX1_remember_18 : decode cX1_remember 18 = .ok (.bipush 8, 2) := dk_16 8 (dk_at dksX1_remember_0 18 rfl rfl)
theorem dX1_remember_20 : decode cX1_remember 20 = .ok (.if_icmp .le 11, 3) := dk_164 0 11 (dk_at dksX1_remember_0 20 rfl rfl)
theorem dX1_remember_23 : decode cX1_remember 23 = .ok (.aload_n 0, 1) := dk_42 (dk_at dksX1_remember_0 23 rfl rfl)
theorem dX1_remember_24 : decode cX1_remember 24 = .ok (.getfield 10, 3) := dk_180 0 10 (dk_at dksX1_remember_1 0 rfl rfl)
theorem dX1_remember_27 : decode cX1_remember 27 = .ok (.invokevirtual 104, 3) := dk_182 0 104 (dk_at dksX1_remember_1 3 rfl rfl)
theorem dX1_remember_30 : decode cX1_remember 30 = .ok (.pop, 1) := dk_87 (dk_at dksX1_remember_1 6 rfl rfl)
theorem dX1_remember_31 : decode cX1_remember 31 = .ok (.aload_n 0, 1) := dk_42 (dk_at dksX1_remember_1 7 rfl rfl)
theorem dX1_remember_32 : decode cX1_remember 32 = .ok (.aload_n 0, 1) := dk_42 (dk_at dksX1_remember_1 8 rfl rfl)
theorem dX1_remember_33 : decode cX1_remember 33 = .ok (.getfield 44, 3) := dk_180 0 44 (dk_at dksX1_remember_1 9 rfl rfl)
theorem dX1_remember_36 : decode cX1_remember 36 = .ok (.invokevirtual 108, 3) := dk_182 0 108 (dk_at dksX1_remember_1 12 rfl rfl)
theorem dX1_remember_39 : decode cX1_remember 39 = .ok (.putfield 44, 3) := dk_181 0 44 (dk_at dksX1_remember_1 15 rfl rfl)
theorem dX1_remember_42 : decode cX1_remember 42 = .ok (.return_, 1) := dk_177 (dk_at dksX1_remember_1 18 rfl rfl)
abbrev cX1_undo : ByteArray := prog_1_method_27_code
def yX1_undo : MethodName := ⟨RX1, "undo", "()I"⟩
def dkwX1_undo_1 : List UInt8 := [181, 0, 44, 42, 180, 0, 10, 182, 0, 103, 172]
abbrev dktX1_undo_1 : List UInt8 := dkwX1_undo_1 ++ []
def dkwX1_undo_0 : List UInt8 := [42, 180, 0, 10, 182, 0, 225, 153, 0, 5, 2, 172, 42, 42, 180, 0, 10, 182, 0, 228, 192, 0, 57]
abbrev dktX1_undo_0 : List UInt8 := dkwX1_undo_0 ++ dktX1_undo_1
theorem dksX1_undo_0 : cX1_undo.data.toList.drop 0 = dktX1_undo_0 := by decide +kernel
theorem dksX1_undo_1 : cX1_undo.data.toList.drop 23 = dktX1_undo_1 := dk_seg dksX1_undo_0 23 rfl rfl
theorem dX1_undo_0 : decode cX1_undo 0 = .ok (.aload_n 0, 1) := dk_42 (dk_at dksX1_undo_0 0 rfl rfl)
theorem dX1_undo_1 : decode cX1_undo 1 = .ok (.getfield 10, 3) := dk_180 0 10 (dk_at dksX1_undo_0 1 rfl rfl)
theorem dX1_undo_4 : decode cX1_undo 4 = .ok (.invokevirtual 225, 3) := dk_182 0 225 (dk_at dksX1_undo_0 4 rfl rfl)
theorem dX1_undo_7 : decode cX1_undo 7 = .ok (.ifCond .eq 5, 3) := dk_153 0 5 (dk_at dksX1_undo_0 7 rfl rfl)
theorem dX1_undo_10 : decode cX1_undo 10 = .ok (.iconst (-1), 1) := dk_2 (dk_at dksX1_undo_0 10 rfl rfl)
theorem dX1_undo_11 : decode cX1_undo 11 = .ok (.ireturn, 1) := dk_172 (dk_at dksX1_undo_0 11 rfl rfl)
theorem dX1_undo_12 : decode cX1_undo 12 = .ok (.aload_n 0, 1) := dk_42 (dk_at dksX1_undo_0 12 rfl rfl)
theorem dX1_undo_13 : decode cX1_undo 13 = .ok (.aload_n 0, 1) := dk_42 (dk_at dksX1_undo_0 13 rfl rfl)
theorem dX1_undo_14 : decode cX1_undo 14 = .ok (.getfield 10, 3) := dk_180 0 10 (dk_at dksX1_undo_0 14 rfl rfl)
theorem dX1_undo_17 : decode cX1_undo 17 = .ok (.invokevirtual 228, 3) := dk_182 0 228 (dk_at dksX1_undo_0 17 rfl rfl)
theorem dX1_undo_20 : decode cX1_undo 20 = .ok (.checkcast 57, 3) := dk_192 0 57 (dk_at dksX1_undo_0 20 rfl rfl)
theorem dX1_undo_23 : decode cX1_undo 23 = .ok (.putfield 44, 3) := dk_181 0 44 (dk_at dksX1_undo_1 0 rfl rfl)
theorem dX1_undo_26 : decode cX1_undo 26 = .ok (.aload_n 0, 1) := dk_42 (dk_at dksX1_undo_1 3 rfl rfl)
theorem dX1_undo_27 : decode cX1_undo 27 = .ok (.getfield 10, 3) := dk_180 0 10 (dk_at dksX1_undo_1 4 rfl rfl)
theorem dX1_undo_30 : decode cX1_undo 30 = .ok (.invokevirtual 103, 3) := dk_182 0 103 (dk_at dksX1_undo_1 7 rfl rfl)
theorem dX1_undo_33 : decode cX1_undo 33 = .ok (.ireturn, 1) := dk_172 (dk_at dksX1_undo_1 10 rfl rfl)
abbrev cX1_undoCount : ByteArray := prog_1_method_28_code
def yX1_undoCount : MethodName := ⟨RX1, "undoCount", "()I"⟩
def dkwX1_undoCount_0 : List UInt8 := [42, 180, 0, 10, 182, 0, 103, 172]
abbrev dktX1_undoCount_0 : List UInt8 := dkwX1_undoCount_0 ++ []
theorem dksX1_undoCount_0 : cX1_undoCount.data.toList.drop 0 = dktX1_undoCount_0 := by decide +kernel
theorem dX1_undoCount_0 : decode cX1_undoCount 0 = .ok (.aload_n 0, 1) := dk_42 (dk_at dksX1_undoCount_0 0 rfl rfl)
theorem dX1_undoCount_1 : decode cX1_undoCount 1 = .ok (.getfield 10, 3) := dk_180 0 10 (dk_at dksX1_undoCount_0 1 rfl rfl)
theorem dX1_undoCount_4 : decode cX1_undoCount 4 = .ok (.invokevirtual 103, 3) := dk_182 0 103 (dk_at dksX1_undoCount_0 4 rfl rfl)
theorem dX1_undoCount_7 : decode cX1_undoCount 7 = .ok (.ireturn, 1) := dk_172 (dk_at dksX1_undoCount_0 7 rfl rfl)
abbrev cX1_saveSnapshot : ByteArray := prog_1_method_29_code
def yX1_saveSnapshot : MethodName := ⟨RX1, "saveSnapshot", "()I"⟩
def dkwX1_saveSnapshot_0 : List UInt8 := [42, 42, 180, 0, 44, 182, 0, 108, 181, 0, 231, 42, 180, 0, 44, 180, 0, 219, 172]
abbrev dktX1_saveSnapshot_0 : List UInt8 := dkwX1_saveSnapshot_0 ++ []
theorem dksX1_saveSnapshot_0 : cX1_saveSnapshot.data.toList.drop 0 = dktX1_saveSnapshot_0 := by decide +kernel
theorem dX1_saveSnapshot_0 : decode cX1_saveSnapshot 0 = .ok (.aload_n 0, 1) := dk_42 (dk_at dksX1_saveSnapshot_0 0 rfl rfl)
theorem dX1_saveSnapshot_1 : decode cX1_saveSnapshot 1 = .ok (.aload_n 0, 1) := dk_42 (dk_at dksX1_saveSnapshot_0 1 rfl rfl)
theorem dX1_saveSnapshot_2 : decode cX1_saveSnapshot 2 = .ok (.getfield 44, 3) := dk_180 0 44 (dk_at dksX1_saveSnapshot_0 2 rfl rfl)
theorem dX1_saveSnapshot_5 : decode cX1_saveSnapshot 5 = .ok (.invokevirtual 108, 3) := dk_182 0 108 (dk_at dksX1_saveSnapshot_0 5 rfl rfl)
theorem dX1_saveSnapshot_8 : decode cX1_saveSnapshot 8 = .ok (.putfield 231, 3) := dk_181 0 231 (dk_at dksX1_saveSnapshot_0 8 rfl rfl)
theorem dX1_saveSnapshot_11 : decode cX1_saveSnapshot 11 = .ok (.aload_n 0, 1) := dk_42 (dk_at dksX1_saveSnapshot_0 11 rfl rfl)
theorem dX1_saveSnapshot_12 : decode cX1_saveSnapshot 12 = .ok (.getfield 44, 3) := dk_180 0 44 (dk_at dksX1_saveSnapshot_0 12 rfl rfl)
theorem dX1_saveSnapshot_15 : decode cX1_saveSnapshot 15 = .ok (.getfield 219, 3) := dk_180 0 219 (dk_at dksX1_saveSnapshot_0 15 rfl rfl)
theorem dX1_saveSnapshot_18 : decode cX1_saveSnapshot 18 = .ok (.ireturn, 1) := dk_172 (dk_at dksX1_saveSnapshot_0 18 rfl rfl)
abbrev cX1_scriptErrorKind : ByteArray := prog_1_method_31_code
def yX1_scriptErrorKind : MethodName := ⟨RX1, "scriptErrorKind", "()I"⟩
theorem dX1_scriptErrorKind_0 : decode cX1_scriptErrorKind 0 = .ok (.aload_n 0, 1) := by decide +kernel
theorem dX1_scriptErrorKind_1 : decode cX1_scriptErrorKind 1 = .ok (.getfield 133, 3) := by decide +kernel
theorem dX1_scriptErrorKind_4 : decode cX1_scriptErrorKind 4 = .ok (.ireturn, 1) := by decide +kernel
abbrev cX1_scriptErrorOffset : ByteArray := prog_1_method_32_code
def yX1_scriptErrorOffset : MethodName := ⟨RX1, "scriptErrorOffset", "()I"⟩
theorem dX1_scriptErrorOffset_0 : decode cX1_scriptErrorOffset 0 = .ok (.aload_n 0, 1) := by decide +kernel
theorem dX1_scriptErrorOffset_1 : decode cX1_scriptErrorOffset 1 = .ok (.getfield 29, 3) := by decide +kernel
theorem dX1_scriptErrorOffset_4 : decode cX1_scriptErrorOffset 4 = .ok (.ireturn, 1) := by decide +kernel
abbrev cX1_chimneyCount : ByteArray := prog_1_method_33_code
def yX1_chimneyCount : MethodName := ⟨RX1, "chimneyCount", "()I"⟩
def dkwX1_chimneyCount_0 : List UInt8 := [42, 180, 0, 44, 180, 0, 56, 185, 0, 62, 1, 0, 172]
abbrev dktX1_chimneyCount_0 : List UInt8 := dkwX1_chimneyCount_0 ++ []
theorem dksX1_chimneyCount_0 : cX1_chimneyCount.data.toList.drop 0 = dktX1_chimneyCount_0 := by decide +kernel
theorem dX1_chimneyCount_0 : decode cX1_chimneyCount 0 = .ok (.aload_n 0, 1) := dk_42 (dk_at dksX1_chimneyCount_0 0 rfl rfl)
theorem dX1_chimneyCount_1 : decode cX1_chimneyCount 1 = .ok (.getfield 44, 3) := dk_180 0 44 (dk_at dksX1_chimneyCount_0 1 rfl rfl)
theorem dX1_chimneyCount_4 : decode cX1_chimneyCount 4 = .ok (.getfield 56, 3) := dk_180 0 56 (dk_at dksX1_chimneyCount_0 4 rfl rfl)
theorem dX1_chimneyCount_7 : decode cX1_chimneyCount 7 = .ok (.invokeinterface 62 1, 5) := by decide +kernel
theorem dX1_chimneyCount_12 : decode cX1_chimneyCount 12 = .ok (.ireturn, 1) := dk_172 (dk_at dksX1_chimneyCount_0 12 rfl rfl)
abbrev cX1_gutterCount : ByteArray := prog_1_method_34_code
def yX1_gutterCount : MethodName := ⟨RX1, "gutterCount", "()I"⟩
def dkwX1_gutterCount_0 : List UInt8 := [42, 180, 0, 44, 180, 0, 75, 185, 0, 62, 1, 0, 172]
abbrev dktX1_gutterCount_0 : List UInt8 := dkwX1_gutterCount_0 ++ []
theorem dksX1_gutterCount_0 : cX1_gutterCount.data.toList.drop 0 = dktX1_gutterCount_0 := by decide +kernel
theorem dX1_gutterCount_0 : decode cX1_gutterCount 0 = .ok (.aload_n 0, 1) := dk_42 (dk_at dksX1_gutterCount_0 0 rfl rfl)
theorem dX1_gutterCount_1 : decode cX1_gutterCount 1 = .ok (.getfield 44, 3) := dk_180 0 44 (dk_at dksX1_gutterCount_0 1 rfl rfl)
theorem dX1_gutterCount_4 : decode cX1_gutterCount 4 = .ok (.getfield 75, 3) := dk_180 0 75 (dk_at dksX1_gutterCount_0 4 rfl rfl)
theorem dX1_gutterCount_7 : decode cX1_gutterCount 7 = .ok (.invokeinterface 62 1, 5) := by decide +kernel
theorem dX1_gutterCount_12 : decode cX1_gutterCount 12 = .ok (.ireturn, 1) := dk_172 (dk_at dksX1_gutterCount_0 12 rfl rfl)
abbrev cX1_catCount : ByteArray := prog_1_method_35_code
def yX1_catCount : MethodName := ⟨RX1, "catCount", "()I"⟩
def dkwX1_catCount_0 : List UInt8 := [42, 180, 0, 44, 180, 0, 72, 185, 0, 62, 1, 0, 172]
abbrev dktX1_catCount_0 : List UInt8 := dkwX1_catCount_0 ++ []
theorem dksX1_catCount_0 : cX1_catCount.data.toList.drop 0 = dktX1_catCount_0 := by decide +kernel
theorem dX1_catCount_0 : decode cX1_catCount 0 = .ok (.aload_n 0, 1) := dk_42 (dk_at dksX1_catCount_0 0 rfl rfl)
theorem dX1_catCount_1 : decode cX1_catCount 1 = .ok (.getfield 44, 3) := dk_180 0 44 (dk_at dksX1_catCount_0 1 rfl rfl)
theorem dX1_catCount_4 : decode cX1_catCount 4 = .ok (.getfield 72, 3) := dk_180 0 72 (dk_at dksX1_catCount_0 4 rfl rfl)
theorem dX1_catCount_7 : decode cX1_catCount 7 = .ok (.invokeinterface 62 1, 5) := by decide +kernel
theorem dX1_catCount_12 : decode cX1_catCount 12 = .ok (.ireturn, 1) := dk_172 (dk_at dksX1_catCount_0 12 rfl rfl)
abbrev cX1_night : ByteArray := prog_1_method_36_code
def yX1_night : MethodName := ⟨RX1, "night", "()I"⟩
def dkwX1_night_0 : List UInt8 := [42, 180, 0, 44, 180, 0, 219, 172]
abbrev dktX1_night_0 : List UInt8 := dkwX1_night_0 ++ []
theorem dksX1_night_0 : cX1_night.data.toList.drop 0 = dktX1_night_0 := by decide +kernel
theorem dX1_night_0 : decode cX1_night 0 = .ok (.aload_n 0, 1) := dk_42 (dk_at dksX1_night_0 0 rfl rfl)
theorem dX1_night_1 : decode cX1_night 1 = .ok (.getfield 44, 3) := dk_180 0 44 (dk_at dksX1_night_0 1 rfl rfl)
theorem dX1_night_4 : decode cX1_night 4 = .ok (.getfield 219, 3) := dk_180 0 219 (dk_at dksX1_night_0 4 rfl rfl)
theorem dX1_night_7 : decode cX1_night 7 = .ok (.ireturn, 1) := dk_172 (dk_at dksX1_night_0 7 rfl rfl)
abbrev cX1_moonPhase : ByteArray := prog_1_method_37_code
def yX1_moonPhase : MethodName := ⟨RX1, "moonPhase", "()I"⟩
def dkwX1_moonPhase_0 : List UInt8 := [42, 180, 0, 44, 180, 0, 219, 16, 8, 112, 172]
abbrev dktX1_moonPhase_0 : List UInt8 := dkwX1_moonPhase_0 ++ []
theorem dksX1_moonPhase_0 : cX1_moonPhase.data.toList.drop 0 = dktX1_moonPhase_0 := by decide +kernel
theorem dX1_moonPhase_0 : decode cX1_moonPhase 0 = .ok (.aload_n 0, 1) := dk_42 (dk_at dksX1_moonPhase_0 0 rfl rfl)
theorem dX1_moonPhase_1 : decode cX1_moonPhase 1 = .ok (.getfield 44, 3) := dk_180 0 44 (dk_at dksX1_moonPhase_0 1 rfl rfl)
theorem dX1_moonPhase_4 : decode cX1_moonPhase 4 = .ok (.getfield 219, 3) := dk_180 0 219 (dk_at dksX1_moonPhase_0 4 rfl rfl)
theorem dX1_moonPhase_7 : decode cX1_moonPhase 7 = .ok (.bipush 8, 2) := dk_16 8 (dk_at dksX1_moonPhase_0 7 rfl rfl)
theorem dX1_moonPhase_9 : decode cX1_moonPhase 9 = .ok (.irem, 1) := dk_112 (dk_at dksX1_moonPhase_0 9 rfl rfl)
theorem dX1_moonPhase_10 : decode cX1_moonPhase 10 = .ok (.ireturn, 1) := dk_172 (dk_at dksX1_moonPhase_0 10 rfl rfl)
abbrev cX1_warmestFree : ByteArray := prog_1_method_44_code
def yX1_warmestFree : MethodName := ⟨RX1, "warmestFree", "()I"⟩
def dkwX1_warmestFree_0 : List UInt8 := [42, 180, 0, 44, 182, 1, 5, 172]
abbrev dktX1_warmestFree_0 : List UInt8 := dkwX1_warmestFree_0 ++ []
theorem dksX1_warmestFree_0 : cX1_warmestFree.data.toList.drop 0 = dktX1_warmestFree_0 := by decide +kernel
theorem dX1_warmestFree_0 : decode cX1_warmestFree 0 = .ok (.aload_n 0, 1) := dk_42 (dk_at dksX1_warmestFree_0 0 rfl rfl)
theorem dX1_warmestFree_1 : decode cX1_warmestFree 1 = .ok (.getfield 44, 3) := dk_180 0 44 (dk_at dksX1_warmestFree_0 1 rfl rfl)
theorem dX1_warmestFree_4 : decode cX1_warmestFree 4 = .ok (.invokevirtual 261, 3) := dk_182 1 5 (dk_at dksX1_warmestFree_0 4 rfl rfl)
theorem dX1_warmestFree_7 : decode cX1_warmestFree 7 = .ok (.ireturn, 1) := dk_172 (dk_at dksX1_warmestFree_0 7 rfl rfl)
abbrev cX1_isKittenWaiting : ByteArray := prog_1_method_58_code
def yX1_isKittenWaiting : MethodName := ⟨RX1, "isKittenWaiting", "()Z"⟩
def dkwX1_isKittenWaiting_0 : List UInt8 := [42, 180, 0, 44, 180, 1, 40, 198, 0, 7, 4, 167, 0, 4, 3, 172]
abbrev dktX1_isKittenWaiting_0 : List UInt8 := dkwX1_isKittenWaiting_0 ++ []
theorem dksX1_isKittenWaiting_0 : cX1_isKittenWaiting.data.toList.drop 0 = dktX1_isKittenWaiting_0 := by decide +kernel
theorem dX1_isKittenWaiting_0 : decode cX1_isKittenWaiting 0 = .ok (.aload_n 0, 1) := dk_42 (dk_at dksX1_isKittenWaiting_0 0 rfl rfl)
theorem dX1_isKittenWaiting_1 : decode cX1_isKittenWaiting 1 = .ok (.getfield 44, 3) := dk_180 0 44 (dk_at dksX1_isKittenWaiting_0 1 rfl rfl)
theorem dX1_isKittenWaiting_4 : decode cX1_isKittenWaiting 4 = .ok (.getfield 296, 3) := dk_180 1 40 (dk_at dksX1_isKittenWaiting_0 4 rfl rfl)
theorem dX1_isKittenWaiting_7 : decode cX1_isKittenWaiting 7 = .ok (.ifnull 7, 3) := dk_198 0 7 (dk_at dksX1_isKittenWaiting_0 7 rfl rfl)
theorem dX1_isKittenWaiting_10 : decode cX1_isKittenWaiting 10 = .ok (.iconst 1, 1) := dk_4 (dk_at dksX1_isKittenWaiting_0 10 rfl rfl)
theorem dX1_isKittenWaiting_11 : decode cX1_isKittenWaiting 11 = .ok (.goto 4, 3) := dk_167 0 4 (dk_at dksX1_isKittenWaiting_0 11 rfl rfl)
theorem dX1_isKittenWaiting_14 : decode cX1_isKittenWaiting 14 = .ok (.iconst 0, 1) := dk_3 (dk_at dksX1_isKittenWaiting_0 14 rfl rfl)
theorem dX1_isKittenWaiting_15 : decode cX1_isKittenWaiting 15 = .ok (.ireturn, 1) := dk_172 (dk_at dksX1_isKittenWaiting_0 15 rfl rfl)
abbrev cX1_votesFor : ByteArray := prog_1_method_59_code
def yX1_votesFor : MethodName := ⟨RX1, "votesFor", "()I"⟩
def dkwX1_votesFor_1 : List UInt8 := [184, 1, 49, 172]
abbrev dktX1_votesFor_1 : List UInt8 := dkwX1_votesFor_1 ++ []
def dkwX1_votesFor_0 : List UInt8 := [42, 180, 0, 44, 180, 1, 40, 199, 0, 7, 3, 167, 0, 16, 42, 180, 0, 44, 180, 1, 40, 182, 1, 44]
abbrev dktX1_votesFor_0 : List UInt8 := dkwX1_votesFor_0 ++ dktX1_votesFor_1
theorem dksX1_votesFor_0 : cX1_votesFor.data.toList.drop 0 = dktX1_votesFor_0 := by decide +kernel
theorem dksX1_votesFor_1 : cX1_votesFor.data.toList.drop 24 = dktX1_votesFor_1 := dk_seg dksX1_votesFor_0 24 rfl rfl
theorem dX1_votesFor_0 : decode cX1_votesFor 0 = .ok (.aload_n 0, 1) := dk_42 (dk_at dksX1_votesFor_0 0 rfl rfl)
theorem dX1_votesFor_1 : decode cX1_votesFor 1 = .ok (.getfield 44, 3) := dk_180 0 44 (dk_at dksX1_votesFor_0 1 rfl rfl)
theorem dX1_votesFor_4 : decode cX1_votesFor 4 = .ok (.getfield 296, 3) := dk_180 1 40 (dk_at dksX1_votesFor_0 4 rfl rfl)
theorem dX1_votesFor_7 : decode cX1_votesFor 7 = .ok (.ifnonnull 7, 3) := dk_199 0 7 (dk_at dksX1_votesFor_0 7 rfl rfl)
theorem dX1_votesFor_10 : decode cX1_votesFor 10 = .ok (.iconst 0, 1) := dk_3 (dk_at dksX1_votesFor_0 10 rfl rfl)
theorem dX1_votesFor_11 : decode cX1_votesFor 11 = .ok (.goto 16, 3) := dk_167 0 16 (dk_at dksX1_votesFor_0 11 rfl rfl)
theorem dX1_votesFor_14 : decode cX1_votesFor 14 = .ok (.aload_n 0, 1) := dk_42 (dk_at dksX1_votesFor_0 14 rfl rfl)
theorem dX1_votesFor_15 : decode cX1_votesFor 15 = .ok (.getfield 44, 3) := dk_180 0 44 (dk_at dksX1_votesFor_0 15 rfl rfl)
theorem dX1_votesFor_18 : decode cX1_votesFor 18 = .ok (.getfield 296, 3) := dk_180 1 40 (dk_at dksX1_votesFor_0 18 rfl rfl)
theorem dX1_votesFor_21 : decode cX1_votesFor 21 = .ok (.invokevirtual 300, 3) := dk_182 1 44 (dk_at dksX1_votesFor_0 21 rfl rfl)
theorem dX1_votesFor_24 : decode cX1_votesFor 24 = .ok (.invokestatic 305, 3) := dk_184 1 49 (dk_at dksX1_votesFor_1 0 rfl rfl)
theorem dX1_votesFor_27 : decode cX1_votesFor 27 = .ok (.ireturn, 1) := dk_172 (dk_at dksX1_votesFor_1 3 rfl rfl)
abbrev cX1_votesAgainst : ByteArray := prog_1_method_60_code
def yX1_votesAgainst : MethodName := ⟨RX1, "votesAgainst", "()I"⟩
def dkwX1_votesAgainst_1 : List UInt8 := [184, 1, 49, 172]
abbrev dktX1_votesAgainst_1 : List UInt8 := dkwX1_votesAgainst_1 ++ []
def dkwX1_votesAgainst_0 : List UInt8 := [42, 180, 0, 44, 180, 1, 40, 199, 0, 7, 3, 167, 0, 16, 42, 180, 0, 44, 180, 1, 40, 182, 1, 54]
abbrev dktX1_votesAgainst_0 : List UInt8 := dkwX1_votesAgainst_0 ++ dktX1_votesAgainst_1
theorem dksX1_votesAgainst_0 : cX1_votesAgainst.data.toList.drop 0 = dktX1_votesAgainst_0 := by decide +kernel
theorem dksX1_votesAgainst_1 : cX1_votesAgainst.data.toList.drop 24 = dktX1_votesAgainst_1 := dk_seg dksX1_votesAgainst_0 24 rfl rfl
theorem dX1_votesAgainst_0 : decode cX1_votesAgainst 0 = .ok (.aload_n 0, 1) := dk_42 (dk_at dksX1_votesAgainst_0 0 rfl rfl)
theorem dX1_votesAgainst_1 : decode cX1_votesAgainst 1 = .ok (.getfield 44, 3) := dk_180 0 44 (dk_at dksX1_votesAgainst_0 1 rfl rfl)
theorem dX1_votesAgainst_4 : decode cX1_votesAgainst 4 = .ok (.getfield 296, 3) := dk_180 1 40 (dk_at dksX1_votesAgainst_0 4 rfl rfl)
theorem dX1_votesAgainst_7 : decode cX1_votesAgainst 7 = .ok (.ifnonnull 7, 3) := dk_199 0 7 (dk_at dksX1_votesAgainst_0 7 rfl rfl)
theorem dX1_votesAgainst_10 : decode cX1_votesAgainst 10 = .ok (.iconst 0, 1) := dk_3 (dk_at dksX1_votesAgainst_0 10 rfl rfl)
theorem dX1_votesAgainst_11 : decode cX1_votesAgainst 11 = .ok (.goto 16, 3) := dk_167 0 16 (dk_at dksX1_votesAgainst_0 11 rfl rfl)
theorem dX1_votesAgainst_14 : decode cX1_votesAgainst 14 = .ok (.aload_n 0, 1) := dk_42 (dk_at dksX1_votesAgainst_0 14 rfl rfl)
theorem dX1_votesAgainst_15 : decode cX1_votesAgainst 15 = .ok (.getfield 44, 3) := dk_180 0 44 (dk_at dksX1_votesAgainst_0 15 rfl rfl)
theorem dX1_votesAgainst_18 : decode cX1_votesAgainst 18 = .ok (.getfield 296, 3) := dk_180 1 40 (dk_at dksX1_votesAgainst_0 18 rfl rfl)
theorem dX1_votesAgainst_21 : decode cX1_votesAgainst 21 = .ok (.invokevirtual 310, 3) := dk_182 1 54 (dk_at dksX1_votesAgainst_0 21 rfl rfl)
theorem dX1_votesAgainst_24 : decode cX1_votesAgainst 24 = .ok (.invokestatic 305, 3) := dk_184 1 49 (dk_at dksX1_votesAgainst_1 0 rfl rfl)
theorem dX1_votesAgainst_27 : decode cX1_votesAgainst 27 = .ok (.ireturn, 1) := dk_172 (dk_at dksX1_votesAgainst_1 3 rfl rfl)
abbrev cX1_choirCount : ByteArray := prog_1_method_63_code
def yX1_choirCount : MethodName := ⟨RX1, "choirCount", "()I"⟩
def dkwX1_choirCount_0 : List UInt8 := [42, 180, 0, 44, 182, 1, 63, 172]
abbrev dktX1_choirCount_0 : List UInt8 := dkwX1_choirCount_0 ++ []
theorem dksX1_choirCount_0 : cX1_choirCount.data.toList.drop 0 = dktX1_choirCount_0 := by decide +kernel
theorem dX1_choirCount_0 : decode cX1_choirCount 0 = .ok (.aload_n 0, 1) := dk_42 (dk_at dksX1_choirCount_0 0 rfl rfl)
theorem dX1_choirCount_1 : decode cX1_choirCount 1 = .ok (.getfield 44, 3) := dk_180 0 44 (dk_at dksX1_choirCount_0 1 rfl rfl)
theorem dX1_choirCount_4 : decode cX1_choirCount 4 = .ok (.invokevirtual 319, 3) := dk_182 1 63 (dk_at dksX1_choirCount_0 4 rfl rfl)
theorem dX1_choirCount_7 : decode cX1_choirCount 7 = .ok (.ireturn, 1) := dk_172 (dk_at dksX1_choirCount_0 7 rfl rfl)
abbrev cX1_largestChoir : ByteArray := prog_1_method_64_code
def yX1_largestChoir : MethodName := ⟨RX1, "largestChoir", "()I"⟩
def dkwX1_largestChoir_0 : List UInt8 := [42, 180, 0, 44, 182, 1, 66, 172]
abbrev dktX1_largestChoir_0 : List UInt8 := dkwX1_largestChoir_0 ++ []
theorem dksX1_largestChoir_0 : cX1_largestChoir.data.toList.drop 0 = dktX1_largestChoir_0 := by decide +kernel
theorem dX1_largestChoir_0 : decode cX1_largestChoir 0 = .ok (.aload_n 0, 1) := dk_42 (dk_at dksX1_largestChoir_0 0 rfl rfl)
theorem dX1_largestChoir_1 : decode cX1_largestChoir 1 = .ok (.getfield 44, 3) := dk_180 0 44 (dk_at dksX1_largestChoir_0 1 rfl rfl)
theorem dX1_largestChoir_4 : decode cX1_largestChoir 4 = .ok (.invokevirtual 322, 3) := dk_182 1 66 (dk_at dksX1_largestChoir_0 4 rfl rfl)
theorem dX1_largestChoir_7 : decode cX1_largestChoir 7 = .ok (.ireturn, 1) := dk_172 (dk_at dksX1_largestChoir_0 7 rfl rfl)
abbrev cX1_nightsToFullMoon : ByteArray := prog_1_method_65_code
def yX1_nightsToFullMoon : MethodName := ⟨RX1, "nightsToFullMoon", "()I"⟩
def dkwX1_nightsToFullMoon_1 : List UInt8 := [16, 8, 167, 0, 4, 27, 172]
abbrev dktX1_nightsToFullMoon_1 : List UInt8 := dkwX1_nightsToFullMoon_1 ++ []
def dkwX1_nightsToFullMoon_0 : List UInt8 := [7, 42, 180, 0, 44, 180, 0, 219, 16, 8, 112, 100, 16, 8, 96, 16, 8, 112, 60, 27, 154, 0, 8]
abbrev dktX1_nightsToFullMoon_0 : List UInt8 := dkwX1_nightsToFullMoon_0 ++ dktX1_nightsToFullMoon_1
theorem dksX1_nightsToFullMoon_0 : cX1_nightsToFullMoon.data.toList.drop 0 = dktX1_nightsToFullMoon_0 := by decide +kernel
theorem dksX1_nightsToFullMoon_1 : cX1_nightsToFullMoon.data.toList.drop 23 = dktX1_nightsToFullMoon_1 := dk_seg dksX1_nightsToFullMoon_0 23 rfl rfl
theorem dX1_nightsToFullMoon_0 : decode cX1_nightsToFullMoon 0 = .ok (.iconst 4, 1) := dk_7 (dk_at dksX1_nightsToFullMoon_0 0 rfl rfl)
theorem dX1_nightsToFullMoon_1 : decode cX1_nightsToFullMoon 1 = .ok (.aload_n 0, 1) := dk_42 (dk_at dksX1_nightsToFullMoon_0 1 rfl rfl)
theorem dX1_nightsToFullMoon_2 : decode cX1_nightsToFullMoon 2 = .ok (.getfield 44, 3) := dk_180 0 44 (dk_at dksX1_nightsToFullMoon_0 2 rfl rfl)
theorem dX1_nightsToFullMoon_5 : decode cX1_nightsToFullMoon 5 = .ok (.getfield 219, 3) := dk_180 0 219 (dk_at dksX1_nightsToFullMoon_0 5 rfl rfl)
theorem dX1_nightsToFullMoon_8 : decode cX1_nightsToFullMoon 8 = .ok (.bipush 8, 2) := dk_16 8 (dk_at dksX1_nightsToFullMoon_0 8 rfl rfl)
theorem dX1_nightsToFullMoon_10 : decode cX1_nightsToFullMoon 10 = .ok (.irem, 1) := dk_112 (dk_at dksX1_nightsToFullMoon_0 10 rfl rfl)
theorem dX1_nightsToFullMoon_11 : decode cX1_nightsToFullMoon 11 = .ok (.isub, 1) := dk_100 (dk_at dksX1_nightsToFullMoon_0 11 rfl rfl)
theorem dX1_nightsToFullMoon_12 : decode cX1_nightsToFullMoon 12 = .ok (.bipush 8, 2) := dk_16 8 (dk_at dksX1_nightsToFullMoon_0 12 rfl rfl)
theorem dX1_nightsToFullMoon_14 : decode cX1_nightsToFullMoon 14 = .ok (.iadd, 1) := dk_96 (dk_at dksX1_nightsToFullMoon_0 14 rfl rfl)
theorem dX1_nightsToFullMoon_15 : decode cX1_nightsToFullMoon 15 = .ok (.bipush 8, 2) := dk_16 8 (dk_at dksX1_nightsToFullMoon_0 15 rfl rfl)
theorem dX1_nightsToFullMoon_17 : decode cX1_nightsToFullMoon 17 = .ok (.irem, 1) := dk_112 (dk_at dksX1_nightsToFullMoon_0 17 rfl rfl)
theorem dX1_nightsToFullMoon_18 : decode cX1_nightsToFullMoon 18 = .ok (.istore_n 1, 1) := dk_60 (dk_at dksX1_nightsToFullMoon_0 18 rfl rfl)
theorem dX1_nightsToFullMoon_19 : decode cX1_nightsToFullMoon 19 = .ok (.iload_n 1, 1) := dk_27 (dk_at dksX1_nightsToFullMoon_0 19 rfl rfl)
theorem dX1_nightsToFullMoon_20 : decode cX1_nightsToFullMoon 20 = .ok (.ifCond .ne 8, 3) := dk_154 0 8 (dk_at dksX1_nightsToFullMoon_0 20 rfl rfl)
theorem dX1_nightsToFullMoon_23 : decode cX1_nightsToFullMoon 23 = .ok (.bipush 8, 2) := dk_16 8 (dk_at dksX1_nightsToFullMoon_1 0 rfl rfl)
theorem dX1_nightsToFullMoon_25 : decode cX1_nightsToFullMoon 25 = .ok (.goto 4, 3) := dk_167 0 4 (dk_at dksX1_nightsToFullMoon_1 2 rfl rfl)
theorem dX1_nightsToFullMoon_28 : decode cX1_nightsToFullMoon 28 = .ok (.iload_n 1, 1) := dk_27 (dk_at dksX1_nightsToFullMoon_1 5 rfl rfl)
theorem dX1_nightsToFullMoon_29 : decode cX1_nightsToFullMoon 29 = .ok (.ireturn, 1) := dk_172 (dk_at dksX1_nightsToFullMoon_1 6 rfl rfl)
abbrev cX1_richestCat : ByteArray := prog_1_method_67_code
def yX1_richestCat : MethodName := ⟨RX1, "richestCat", "()I"⟩
def dkwX1_richestCat_3 : List UInt8 := [132, 2, 1, 167, 255, 189, 27, 172]
abbrev dktX1_richestCat_3 : List UInt8 := dkwX1_richestCat_3 ++ []
def dkwX1_richestCat_2 : List UInt8 := [180, 0, 44, 180, 0, 72, 27, 185, 0, 78, 2, 0, 192, 0, 165, 180, 1, 14, 164, 0, 5, 28, 60]
abbrev dktX1_richestCat_2 : List UInt8 := dkwX1_richestCat_2 ++ dktX1_richestCat_3
def dkwX1_richestCat_1 : List UInt8 := [159, 0, 44, 42, 180, 0, 44, 180, 0, 72, 28, 185, 0, 78, 2, 0, 192, 0, 165, 180, 1, 14, 42]
abbrev dktX1_richestCat_1 : List UInt8 := dkwX1_richestCat_1 ++ dktX1_richestCat_2
def dkwX1_richestCat_0 : List UInt8 := [2, 60, 3, 61, 28, 42, 180, 0, 44, 180, 0, 72, 185, 0, 62, 1, 0, 162, 0, 57, 27, 2]
abbrev dktX1_richestCat_0 : List UInt8 := dkwX1_richestCat_0 ++ dktX1_richestCat_1
theorem dksX1_richestCat_0 : cX1_richestCat.data.toList.drop 0 = dktX1_richestCat_0 := by decide +kernel
theorem dksX1_richestCat_1 : cX1_richestCat.data.toList.drop 22 = dktX1_richestCat_1 := dk_seg dksX1_richestCat_0 22 rfl rfl
theorem dksX1_richestCat_2 : cX1_richestCat.data.toList.drop 45 = dktX1_richestCat_2 := dk_seg dksX1_richestCat_1 23 rfl rfl
theorem dksX1_richestCat_3 : cX1_richestCat.data.toList.drop 68 = dktX1_richestCat_3 := dk_seg dksX1_richestCat_2 23 rfl rfl
theorem dX1_richestCat_0 : decode cX1_richestCat 0 = .ok (.iconst (-1), 1) := dk_2 (dk_at dksX1_richestCat_0 0 rfl rfl)
theorem dX1_richestCat_1 : decode cX1_richestCat 1 = .ok (.istore_n 1, 1) := dk_60 (dk_at dksX1_richestCat_0 1 rfl rfl)
theorem dX1_richestCat_2 : decode cX1_richestCat 2 = .ok (.iconst 0, 1) := dk_3 (dk_at dksX1_richestCat_0 2 rfl rfl)
theorem dX1_richestCat_3 : decode cX1_richestCat 3 = .ok (.istore_n 2, 1) := dk_61 (dk_at dksX1_richestCat_0 3 rfl rfl)
theorem dX1_richestCat_4 : decode cX1_richestCat 4 = .ok (.iload_n 2, 1) := dk_28 (dk_at dksX1_richestCat_0 4 rfl rfl)
theorem dX1_richestCat_5 : decode cX1_richestCat 5 = .ok (.aload_n 0, 1) := dk_42 (dk_at dksX1_richestCat_0 5 rfl rfl)
theorem dX1_richestCat_6 : decode cX1_richestCat 6 = .ok (.getfield 44, 3) := dk_180 0 44 (dk_at dksX1_richestCat_0 6 rfl rfl)
theorem dX1_richestCat_9 : decode cX1_richestCat 9 = .ok (.getfield 72, 3) := dk_180 0 72 (dk_at dksX1_richestCat_0 9 rfl rfl)
theorem dX1_richestCat_12 : decode cX1_richestCat 12 = .ok (.invokeinterface 62 1, 5) := by decide +kernel
theorem dX1_richestCat_17 : decode cX1_richestCat 17 = .ok (.if_icmp .ge 57, 3) := dk_162 0 57 (dk_at dksX1_richestCat_0 17 rfl rfl)
theorem dX1_richestCat_20 : decode cX1_richestCat 20 = .ok (.iload_n 1, 1) := dk_27 (dk_at dksX1_richestCat_0 20 rfl rfl)
theorem dX1_richestCat_21 : decode cX1_richestCat 21 = .ok (.iconst (-1), 1) := dk_2 (dk_at dksX1_richestCat_0 21 rfl rfl)
theorem dX1_richestCat_22 : decode cX1_richestCat 22 = .ok (.if_icmp .eq 44, 3) := dk_159 0 44 (dk_at dksX1_richestCat_1 0 rfl rfl)
theorem dX1_richestCat_25 : decode cX1_richestCat 25 = .ok (.aload_n 0, 1) := dk_42 (dk_at dksX1_richestCat_1 3 rfl rfl)
theorem dX1_richestCat_26 : decode cX1_richestCat 26 = .ok (.getfield 44, 3) := dk_180 0 44 (dk_at dksX1_richestCat_1 4 rfl rfl)
theorem dX1_richestCat_29 : decode cX1_richestCat 29 = .ok (.getfield 72, 3) := dk_180 0 72 (dk_at dksX1_richestCat_1 7 rfl rfl)
theorem dX1_richestCat_32 : decode cX1_richestCat 32 = .ok (.iload_n 2, 1) := dk_28 (dk_at dksX1_richestCat_1 10 rfl rfl)
theorem dX1_richestCat_33 : decode cX1_richestCat 33 = .ok (.invokeinterface 78 2, 5) := by decide +kernel
theorem dX1_richestCat_38 : decode cX1_richestCat 38 = .ok (.checkcast 165, 3) := dk_192 0 165 (dk_at dksX1_richestCat_1 16 rfl rfl)
theorem dX1_richestCat_41 : decode cX1_richestCat 41 = .ok (.getfield 270, 3) := dk_180 1 14 (dk_at dksX1_richestCat_1 19 rfl rfl)
theorem dX1_richestCat_44 : decode cX1_richestCat 44 = .ok (.aload_n 0, 1) := dk_42 (dk_at dksX1_richestCat_1 22 rfl rfl)
theorem dX1_richestCat_45 : decode cX1_richestCat 45 = .ok (.getfield 44, 3) := dk_180 0 44 (dk_at dksX1_richestCat_2 0 rfl rfl)
theorem dX1_richestCat_48 : decode cX1_richestCat 48 = .ok (.getfield 72, 3) := dk_180 0 72 (dk_at dksX1_richestCat_2 3 rfl rfl)
theorem dX1_richestCat_51 : decode cX1_richestCat 51 = .ok (.iload_n 1, 1) := dk_27 (dk_at dksX1_richestCat_2 6 rfl rfl)
theorem dX1_richestCat_52 : decode cX1_richestCat 52 = .ok (.invokeinterface 78 2, 5) := by decide +kernel
theorem dX1_richestCat_57 : decode cX1_richestCat 57 = .ok (.checkcast 165, 3) := dk_192 0 165 (dk_at dksX1_richestCat_2 12 rfl rfl)
theorem dX1_richestCat_60 : decode cX1_richestCat 60 = .ok (.getfield 270, 3) := dk_180 1 14 (dk_at dksX1_richestCat_2 15 rfl rfl)
theorem dX1_richestCat_63 : decode cX1_richestCat 63 = .ok (.if_icmp .le 5, 3) := dk_164 0 5 (dk_at dksX1_richestCat_2 18 rfl rfl)
theorem dX1_richestCat_66 : decode cX1_richestCat 66 = .ok (.iload_n 2, 1) := dk_28 (dk_at dksX1_richestCat_2 21 rfl rfl)
theorem dX1_richestCat_67 : decode cX1_richestCat 67 = .ok (.istore_n 1, 1) := dk_60 (dk_at dksX1_richestCat_2 22 rfl rfl)
theorem dX1_richestCat_68 : decode cX1_richestCat 68 = .ok (.iinc 2 1, 3) := dk_132 2 1 (dk_at dksX1_richestCat_3 0 rfl rfl)
theorem dX1_richestCat_71 : decode cX1_richestCat 71 = .ok (.goto (-67), 3) := dk_167 255 189 (dk_at dksX1_richestCat_3 3 rfl rfl)
theorem dX1_richestCat_74 : decode cX1_richestCat 74 = .ok (.iload_n 1, 1) := dk_27 (dk_at dksX1_richestCat_3 6 rfl rfl)
theorem dX1_richestCat_75 : decode cX1_richestCat 75 = .ok (.ireturn, 1) := dk_172 (dk_at dksX1_richestCat_3 7 rfl rfl)
abbrev cX1_totalFish : ByteArray := prog_1_method_68_code
def yX1_totalFish : MethodName := ⟨RX1, "totalFish", "()I"⟩
def dkwX1_totalFish_0 : List UInt8 := [42, 180, 0, 44, 182, 1, 72, 172]
abbrev dktX1_totalFish_0 : List UInt8 := dkwX1_totalFish_0 ++ []
theorem dksX1_totalFish_0 : cX1_totalFish.data.toList.drop 0 = dktX1_totalFish_0 := by decide +kernel
theorem dX1_totalFish_0 : decode cX1_totalFish 0 = .ok (.aload_n 0, 1) := dk_42 (dk_at dksX1_totalFish_0 0 rfl rfl)
theorem dX1_totalFish_1 : decode cX1_totalFish 1 = .ok (.getfield 44, 3) := dk_180 0 44 (dk_at dksX1_totalFish_0 1 rfl rfl)
theorem dX1_totalFish_4 : decode cX1_totalFish 4 = .ok (.invokevirtual 328, 3) := dk_182 1 72 (dk_at dksX1_totalFish_0 4 rfl rfl)
theorem dX1_totalFish_7 : decode cX1_totalFish 7 = .ok (.ireturn, 1) := dk_172 (dk_at dksX1_totalFish_0 7 rfl rfl)
abbrev cX1_meanFish : ByteArray := prog_1_method_69_code
def yX1_meanFish : MethodName := ⟨RX1, "meanFish", "()D"⟩
def dkwX1_meanFish_1 : List UInt8 := [182, 1, 72, 135, 42, 180, 0, 44, 180, 0, 72, 185, 0, 62, 1, 0, 135, 111, 175]
abbrev dktX1_meanFish_1 : List UInt8 := dkwX1_meanFish_1 ++ []
def dkwX1_meanFish_0 : List UInt8 := [42, 180, 0, 44, 180, 0, 72, 185, 1, 75, 1, 0, 153, 0, 7, 14, 167, 0, 25, 42, 180, 0, 44]
abbrev dktX1_meanFish_0 : List UInt8 := dkwX1_meanFish_0 ++ dktX1_meanFish_1
theorem dksX1_meanFish_0 : cX1_meanFish.data.toList.drop 0 = dktX1_meanFish_0 := by decide +kernel
theorem dksX1_meanFish_1 : cX1_meanFish.data.toList.drop 23 = dktX1_meanFish_1 := dk_seg dksX1_meanFish_0 23 rfl rfl
theorem dX1_meanFish_0 : decode cX1_meanFish 0 = .ok (.aload_n 0, 1) := dk_42 (dk_at dksX1_meanFish_0 0 rfl rfl)
theorem dX1_meanFish_1 : decode cX1_meanFish 1 = .ok (.getfield 44, 3) := dk_180 0 44 (dk_at dksX1_meanFish_0 1 rfl rfl)
theorem dX1_meanFish_4 : decode cX1_meanFish 4 = .ok (.getfield 72, 3) := dk_180 0 72 (dk_at dksX1_meanFish_0 4 rfl rfl)
theorem dX1_meanFish_7 : decode cX1_meanFish 7 = .ok (.invokeinterface 331 1, 5) := by decide +kernel
theorem dX1_meanFish_12 : decode cX1_meanFish 12 = .ok (.ifCond .eq 7, 3) := dk_153 0 7 (dk_at dksX1_meanFish_0 12 rfl rfl)
theorem dX1_meanFish_15 : decode cX1_meanFish 15 = .ok (.dconst 0, 1) := dk_14 (dk_at dksX1_meanFish_0 15 rfl rfl)
theorem dX1_meanFish_16 : decode cX1_meanFish 16 = .ok (.goto 25, 3) := dk_167 0 25 (dk_at dksX1_meanFish_0 16 rfl rfl)
theorem dX1_meanFish_19 : decode cX1_meanFish 19 = .ok (.aload_n 0, 1) := dk_42 (dk_at dksX1_meanFish_0 19 rfl rfl)
theorem dX1_meanFish_20 : decode cX1_meanFish 20 = .ok (.getfield 44, 3) := dk_180 0 44 (dk_at dksX1_meanFish_0 20 rfl rfl)
theorem dX1_meanFish_23 : decode cX1_meanFish 23 = .ok (.invokevirtual 328, 3) := dk_182 1 72 (dk_at dksX1_meanFish_1 0 rfl rfl)
theorem dX1_meanFish_26 : decode cX1_meanFish 26 = .ok (.i2d, 1) := dk_135 (dk_at dksX1_meanFish_1 3 rfl rfl)
theorem dX1_meanFish_27 : decode cX1_meanFish 27 = .ok (.aload_n 0, 1) := dk_42 (dk_at dksX1_meanFish_1 4 rfl rfl)
theorem dX1_meanFish_28 : decode cX1_meanFish 28 = .ok (.getfield 44, 3) := dk_180 0 44 (dk_at dksX1_meanFish_1 5 rfl rfl)
theorem dX1_meanFish_31 : decode cX1_meanFish 31 = .ok (.getfield 72, 3) := dk_180 0 72 (dk_at dksX1_meanFish_1 8 rfl rfl)
theorem dX1_meanFish_34 : decode cX1_meanFish 34 = .ok (.invokeinterface 62 1, 5) := by decide +kernel
theorem dX1_meanFish_39 : decode cX1_meanFish 39 = .ok (.i2d, 1) := dk_135 (dk_at dksX1_meanFish_1 16 rfl rfl)
theorem dX1_meanFish_40 : decode cX1_meanFish 40 = .ok (.ddiv, 1) := dk_111 (dk_at dksX1_meanFish_1 17 rfl rfl)
theorem dX1_meanFish_41 : decode cX1_meanFish 41 = .ok (.dreturn, 1) := dk_175 (dk_at dksX1_meanFish_1 18 rfl rfl)
abbrev cX1_ownedShare : ByteArray := prog_1_method_70_code
def yX1_ownedShare : MethodName := ⟨RX1, "ownedShare", "()F"⟩
def dkwX1_ownedShare_3 : List UInt8 := [27, 134, 42, 180, 0, 44, 180, 0, 56, 185, 0, 62, 1, 0, 134, 110, 174]
abbrev dktX1_ownedShare_3 : List UInt8 := dkwX1_ownedShare_3 ++ []
def dkwX1_ownedShare_2 : List UInt8 := [96, 60, 167, 255, 221, 42, 180, 0, 44, 180, 0, 56, 185, 1, 75, 1, 0, 153, 0, 7, 11, 167, 0, 19]
abbrev dktX1_ownedShare_2 : List UInt8 := dkwX1_ownedShare_2 ++ dktX1_ownedShare_3
def dkwX1_ownedShare_1 : List UInt8 := [44, 185, 1, 85, 1, 0, 192, 0, 145, 78, 27, 45, 180, 0, 183, 2, 160, 0, 7, 3, 167, 0, 4, 4]
abbrev dktX1_ownedShare_1 : List UInt8 := dkwX1_ownedShare_1 ++ dktX1_ownedShare_2
def dkwX1_ownedShare_0 : List UInt8 := [3, 60, 42, 180, 0, 44, 180, 0, 56, 185, 1, 76, 1, 0, 77, 44, 185, 1, 80, 1, 0, 153, 0, 32]
abbrev dktX1_ownedShare_0 : List UInt8 := dkwX1_ownedShare_0 ++ dktX1_ownedShare_1
theorem dksX1_ownedShare_0 : cX1_ownedShare.data.toList.drop 0 = dktX1_ownedShare_0 := by decide +kernel
theorem dksX1_ownedShare_1 : cX1_ownedShare.data.toList.drop 24 = dktX1_ownedShare_1 := dk_seg dksX1_ownedShare_0 24 rfl rfl
theorem dksX1_ownedShare_2 : cX1_ownedShare.data.toList.drop 48 = dktX1_ownedShare_2 := dk_seg dksX1_ownedShare_1 24 rfl rfl
theorem dksX1_ownedShare_3 : cX1_ownedShare.data.toList.drop 72 = dktX1_ownedShare_3 := dk_seg dksX1_ownedShare_2 24 rfl rfl
theorem dX1_ownedShare_0 : decode cX1_ownedShare 0 = .ok (.iconst 0, 1) := dk_3 (dk_at dksX1_ownedShare_0 0 rfl rfl)
theorem dX1_ownedShare_1 : decode cX1_ownedShare 1 = .ok (.istore_n 1, 1) := dk_60 (dk_at dksX1_ownedShare_0 1 rfl rfl)
theorem dX1_ownedShare_2 : decode cX1_ownedShare 2 = .ok (.aload_n 0, 1) := dk_42 (dk_at dksX1_ownedShare_0 2 rfl rfl)
theorem dX1_ownedShare_3 : decode cX1_ownedShare 3 = .ok (.getfield 44, 3) := dk_180 0 44 (dk_at dksX1_ownedShare_0 3 rfl rfl)
theorem dX1_ownedShare_6 : decode cX1_ownedShare 6 = .ok (.getfield 56, 3) := dk_180 0 56 (dk_at dksX1_ownedShare_0 6 rfl rfl)
theorem dX1_ownedShare_9 : decode cX1_ownedShare 9 = .ok (.invokeinterface 332 1, 5) := by decide +kernel
theorem dX1_ownedShare_14 : decode cX1_ownedShare 14 = .ok (.astore_n 2, 1) := dk_77 (dk_at dksX1_ownedShare_0 14 rfl rfl)
theorem dX1_ownedShare_15 : decode cX1_ownedShare 15 = .ok (.aload_n 2, 1) := dk_44 (dk_at dksX1_ownedShare_0 15 rfl rfl)
theorem dX1_ownedShare_16 : decode cX1_ownedShare 16 = .ok (.invokeinterface 336 1, 5) := by decide +kernel
theorem dX1_ownedShare_21 : decode cX1_ownedShare 21 = .ok (.ifCond .eq 32, 3) := dk_153 0 32 (dk_at dksX1_ownedShare_0 21 rfl rfl)
theorem dX1_ownedShare_24 : decode cX1_ownedShare 24 = .ok (.aload_n 2, 1) := dk_44 (dk_at dksX1_ownedShare_1 0 rfl rfl)
theorem dX1_ownedShare_25 : decode cX1_ownedShare 25 = .ok (.invokeinterface 341 1, 5) := by decide +kernel
theorem dX1_ownedShare_30 : decode cX1_ownedShare 30 = .ok (.checkcast 145, 3) := dk_192 0 145 (dk_at dksX1_ownedShare_1 6 rfl rfl)
theorem dX1_ownedShare_33 : decode cX1_ownedShare 33 = .ok (.astore_n 3, 1) := dk_78 (dk_at dksX1_ownedShare_1 9 rfl rfl)
theorem dX1_ownedShare_34 : decode cX1_ownedShare 34 = .ok (.iload_n 1, 1) := dk_27 (dk_at dksX1_ownedShare_1 10 rfl rfl)
theorem dX1_ownedShare_35 : decode cX1_ownedShare 35 = .ok (.aload_n 3, 1) := dk_45 (dk_at dksX1_ownedShare_1 11 rfl rfl)
theorem dX1_ownedShare_36 : decode cX1_ownedShare 36 = .ok (.getfield 183, 3) := dk_180 0 183 (dk_at dksX1_ownedShare_1 12 rfl rfl)
theorem dX1_ownedShare_39 : decode cX1_ownedShare 39 = .ok (.iconst (-1), 1) := dk_2 (dk_at dksX1_ownedShare_1 15 rfl rfl)
theorem dX1_ownedShare_40 : decode cX1_ownedShare 40 = .ok (.if_icmp .ne 7, 3) := dk_160 0 7 (dk_at dksX1_ownedShare_1 16 rfl rfl)
theorem dX1_ownedShare_43 : decode cX1_ownedShare 43 = .ok (.iconst 0, 1) := dk_3 (dk_at dksX1_ownedShare_1 19 rfl rfl)
theorem dX1_ownedShare_44 : decode cX1_ownedShare 44 = .ok (.goto 4, 3) := dk_167 0 4 (dk_at dksX1_ownedShare_1 20 rfl rfl)
theorem dX1_ownedShare_47 : decode cX1_ownedShare 47 = .ok (.iconst 1, 1) := dk_4 (dk_at dksX1_ownedShare_1 23 rfl rfl)
theorem dX1_ownedShare_48 : decode cX1_ownedShare 48 = .ok (.iadd, 1) := dk_96 (dk_at dksX1_ownedShare_2 0 rfl rfl)
theorem dX1_ownedShare_49 : decode cX1_ownedShare 49 = .ok (.istore_n 1, 1) := dk_60 (dk_at dksX1_ownedShare_2 1 rfl rfl)
theorem dX1_ownedShare_50 : decode cX1_ownedShare 50 = .ok (.goto (-35), 3) := dk_167 255 221 (dk_at dksX1_ownedShare_2 2 rfl rfl)
theorem dX1_ownedShare_53 : decode cX1_ownedShare 53 = .ok (.aload_n 0, 1) := dk_42 (dk_at dksX1_ownedShare_2 5 rfl rfl)
theorem dX1_ownedShare_54 : decode cX1_ownedShare 54 = .ok (.getfield 44, 3) := dk_180 0 44 (dk_at dksX1_ownedShare_2 6 rfl rfl)
theorem dX1_ownedShare_57 : decode cX1_ownedShare 57 = .ok (.getfield 56, 3) := dk_180 0 56 (dk_at dksX1_ownedShare_2 9 rfl rfl)
theorem dX1_ownedShare_60 : decode cX1_ownedShare 60 = .ok (.invokeinterface 331 1, 5) := by decide +kernel
theorem dX1_ownedShare_65 : decode cX1_ownedShare 65 = .ok (.ifCond .eq 7, 3) := dk_153 0 7 (dk_at dksX1_ownedShare_2 17 rfl rfl)
theorem dX1_ownedShare_68 : decode cX1_ownedShare 68 = .ok (.fconst 0, 1) := dk_11 (dk_at dksX1_ownedShare_2 20 rfl rfl)
theorem dX1_ownedShare_69 : decode cX1_ownedShare 69 = .ok (.goto 19, 3) := dk_167 0 19 (dk_at dksX1_ownedShare_2 21 rfl rfl)
theorem dX1_ownedShare_72 : decode cX1_ownedShare 72 = .ok (.iload_n 1, 1) := dk_27 (dk_at dksX1_ownedShare_3 0 rfl rfl)
theorem dX1_ownedShare_73 : decode cX1_ownedShare 73 = .ok (.i2f, 1) := dk_134 (dk_at dksX1_ownedShare_3 1 rfl rfl)
theorem dX1_ownedShare_74 : decode cX1_ownedShare 74 = .ok (.aload_n 0, 1) := dk_42 (dk_at dksX1_ownedShare_3 2 rfl rfl)
theorem dX1_ownedShare_75 : decode cX1_ownedShare 75 = .ok (.getfield 44, 3) := dk_180 0 44 (dk_at dksX1_ownedShare_3 3 rfl rfl)
theorem dX1_ownedShare_78 : decode cX1_ownedShare 78 = .ok (.getfield 56, 3) := dk_180 0 56 (dk_at dksX1_ownedShare_3 6 rfl rfl)
theorem dX1_ownedShare_81 : decode cX1_ownedShare 81 = .ok (.invokeinterface 62 1, 5) := by decide +kernel
theorem dX1_ownedShare_86 : decode cX1_ownedShare 86 = .ok (.i2f, 1) := dk_134 (dk_at dksX1_ownedShare_3 14 rfl rfl)
theorem dX1_ownedShare_87 : decode cX1_ownedShare 87 = .ok (.fdiv, 1) := dk_110 (dk_at dksX1_ownedShare_3 15 rfl rfl)
theorem dX1_ownedShare_88 : decode cX1_ownedShare 88 = .ok (.freturn, 1) := dk_174 (dk_at dksX1_ownedShare_3 16 rfl rfl)
abbrev cX1_violations : ByteArray := prog_1_method_72_code
def yX1_violations : MethodName := ⟨RX1, "violations", "()I"⟩
def dkwX1_violations_6 : List UInt8 := [132, 4, 1, 167, 255, 159, 27, 29, 184, 1, 49, 96, 172]
abbrev dktX1_violations_6 : List UInt8 := dkwX1_violations_6 ++ []
def dkwX1_violations_5 : List UInt8 := [4, 167, 0, 4, 3, 96, 60, 27, 42, 21, 4, 182, 1, 99, 153, 0, 7, 4, 167, 0, 4, 3, 96, 60]
abbrev dktX1_violations_5 : List UInt8 := dkwX1_violations_5 ++ dktX1_violations_6
def dkwX1_violations_4 : List UInt8 := [128, 62, 28, 21, 5, 128, 61, 27, 42, 180, 0, 44, 21, 4, 182, 1, 19, 184, 1, 49, 7, 164, 0, 7]
abbrev dktX1_violations_4 : List UInt8 := dkwX1_violations_4 ++ dktX1_violations_5
def dkwX1_violations_3 : List UInt8 := [180, 0, 72, 21, 4, 185, 0, 78, 2, 0, 192, 0, 165, 180, 1, 17, 120, 54, 5, 29, 28, 21, 5, 126]
abbrev dktX1_violations_3 : List UInt8 := dkwX1_violations_3 ++ dktX1_violations_4
def dkwX1_violations_2 : List UInt8 := [54, 4, 21, 4, 42, 180, 0, 44, 180, 0, 72, 185, 0, 62, 1, 0, 162, 0, 86, 4, 42, 180, 0, 44]
abbrev dktX1_violations_2 : List UInt8 := dkwX1_violations_2 ++ dktX1_violations_3
def dkwX1_violations_1 : List UInt8 := [180, 0, 44, 180, 1, 88, 100, 42, 180, 0, 44, 180, 1, 91, 96, 184, 1, 94, 60, 3, 61, 3, 62, 3]
abbrev dktX1_violations_1 : List UInt8 := dkwX1_violations_1 ++ dktX1_violations_2
def dkwX1_violations_0 : List UInt8 := [42, 180, 0, 44, 182, 1, 72, 8, 42, 180, 0, 44, 180, 0, 72, 185, 0, 62, 1, 0, 104, 100, 42]
abbrev dktX1_violations_0 : List UInt8 := dkwX1_violations_0 ++ dktX1_violations_1
theorem dksX1_violations_0 : cX1_violations.data.toList.drop 0 = dktX1_violations_0 := by decide +kernel
theorem dksX1_violations_1 : cX1_violations.data.toList.drop 23 = dktX1_violations_1 := dk_seg dksX1_violations_0 23 rfl rfl
theorem dksX1_violations_2 : cX1_violations.data.toList.drop 47 = dktX1_violations_2 := dk_seg dksX1_violations_1 24 rfl rfl
theorem dksX1_violations_3 : cX1_violations.data.toList.drop 71 = dktX1_violations_3 := dk_seg dksX1_violations_2 24 rfl rfl
theorem dksX1_violations_4 : cX1_violations.data.toList.drop 95 = dktX1_violations_4 := dk_seg dksX1_violations_3 24 rfl rfl
theorem dksX1_violations_5 : cX1_violations.data.toList.drop 119 = dktX1_violations_5 := dk_seg dksX1_violations_4 24 rfl rfl
theorem dksX1_violations_6 : cX1_violations.data.toList.drop 143 = dktX1_violations_6 := dk_seg dksX1_violations_5 24 rfl rfl
theorem dX1_violations_0 : decode cX1_violations 0 = .ok (.aload_n 0, 1) := dk_42 (dk_at dksX1_violations_0 0 rfl rfl)
theorem dX1_violations_1 : decode cX1_violations 1 = .ok (.getfield 44, 3) := dk_180 0 44 (dk_at dksX1_violations_0 1 rfl rfl)
theorem dX1_violations_4 : decode cX1_violations 4 = .ok (.invokevirtual 328, 3) := dk_182 1 72 (dk_at dksX1_violations_0 4 rfl rfl)
theorem dX1_violations_7 : decode cX1_violations 7 = .ok (.iconst 5, 1) := dk_8 (dk_at dksX1_violations_0 7 rfl rfl)
theorem dX1_violations_8 : decode cX1_violations 8 = .ok (.aload_n 0, 1) := dk_42 (dk_at dksX1_violations_0 8 rfl rfl)
theorem dX1_violations_9 : decode cX1_violations 9 = .ok (.getfield 44, 3) := dk_180 0 44 (dk_at dksX1_violations_0 9 rfl rfl)
theorem dX1_violations_12 : decode cX1_violations 12 = .ok (.getfield 72, 3) := dk_180 0 72 (dk_at dksX1_violations_0 12 rfl rfl)
theorem dX1_violations_15 : decode cX1_violations 15 = .ok (.invokeinterface 62 1, 5) := by decide +kernel
theorem dX1_violations_20 : decode cX1_violations 20 = .ok (.imul, 1) := dk_104 (dk_at dksX1_violations_0 20 rfl rfl)
theorem dX1_violations_21 : decode cX1_violations 21 = .ok (.isub, 1) := dk_100 (dk_at dksX1_violations_0 21 rfl rfl)
theorem dX1_violations_22 : decode cX1_violations 22 = .ok (.aload_n 0, 1) := dk_42 (dk_at dksX1_violations_0 22 rfl rfl)
theorem dX1_violations_23 : decode cX1_violations 23 = .ok (.getfield 44, 3) := dk_180 0 44 (dk_at dksX1_violations_1 0 rfl rfl)
theorem dX1_violations_26 : decode cX1_violations 26 = .ok (.getfield 344, 3) := dk_180 1 88 (dk_at dksX1_violations_1 3 rfl rfl)
theorem dX1_violations_29 : decode cX1_violations 29 = .ok (.isub, 1) := dk_100 (dk_at dksX1_violations_1 6 rfl rfl)
theorem dX1_violations_30 : decode cX1_violations 30 = .ok (.aload_n 0, 1) := dk_42 (dk_at dksX1_violations_1 7 rfl rfl)
theorem dX1_violations_31 : decode cX1_violations 31 = .ok (.getfield 44, 3) := dk_180 0 44 (dk_at dksX1_violations_1 8 rfl rfl)
theorem dX1_violations_34 : decode cX1_violations 34 = .ok (.getfield 347, 3) := dk_180 1 91 (dk_at dksX1_violations_1 11 rfl rfl)
theorem dX1_violations_37 : decode cX1_violations 37 = .ok (.iadd, 1) := dk_96 (dk_at dksX1_violations_1 14 rfl rfl)
theorem dX1_violations_38 : decode cX1_violations 38 = .ok (.invokestatic 350, 3) := dk_184 1 94 (dk_at dksX1_violations_1 15 rfl rfl)
theorem dX1_violations_41 : decode cX1_violations 41 = .ok (.istore_n 1, 1) := dk_60 (dk_at dksX1_violations_1 18 rfl rfl)
theorem dX1_violations_42 : decode cX1_violations 42 = .ok (.iconst 0, 1) := dk_3 (dk_at dksX1_violations_1 19 rfl rfl)
theorem dX1_violations_43 : decode cX1_violations 43 = .ok (.istore_n 2, 1) := dk_61 (dk_at dksX1_violations_1 20 rfl rfl)
theorem dX1_violations_44 : decode cX1_violations 44 = .ok (.iconst 0, 1) := dk_3 (dk_at dksX1_violations_1 21 rfl rfl)
theorem dX1_violations_45 : decode cX1_violations 45 = .ok (.istore_n 3, 1) := dk_62 (dk_at dksX1_violations_1 22 rfl rfl)
theorem dX1_violations_46 : decode cX1_violations 46 = .ok (.iconst 0, 1) := dk_3 (dk_at dksX1_violations_1 23 rfl rfl)
theorem dX1_violations_47 : decode cX1_violations 47 = .ok (.istore 4, 2) := dk_54 4 (dk_at dksX1_violations_2 0 rfl rfl)
theorem dX1_violations_49 : decode cX1_violations 49 = .ok (.iload 4, 2) := dk_21 4 (dk_at dksX1_violations_2 2 rfl rfl)
theorem dX1_violations_51 : decode cX1_violations 51 = .ok (.aload_n 0, 1) := dk_42 (dk_at dksX1_violations_2 4 rfl rfl)
theorem dX1_violations_52 : decode cX1_violations 52 = .ok (.getfield 44, 3) := dk_180 0 44 (dk_at dksX1_violations_2 5 rfl rfl)
theorem dX1_violations_55 : decode cX1_violations 55 = .ok (.getfield 72, 3) := dk_180 0 72 (dk_at dksX1_violations_2 8 rfl rfl)
theorem dX1_violations_58 : decode cX1_violations 58 = .ok (.invokeinterface 62 1, 5) := by decide +kernel
theorem dX1_violations_63 : decode cX1_violations 63 = .ok (.if_icmp .ge 86, 3) := dk_162 0 86 (dk_at dksX1_violations_2 16 rfl rfl)
theorem dX1_violations_66 : decode cX1_violations 66 = .ok (.iconst 1, 1) := dk_4 (dk_at dksX1_violations_2 19 rfl rfl)
theorem dX1_violations_67 : decode cX1_violations 67 = .ok (.aload_n 0, 1) := dk_42 (dk_at dksX1_violations_2 20 rfl rfl)
theorem dX1_violations_68 : decode cX1_violations 68 = .ok (.getfield 44, 3) := dk_180 0 44 (dk_at dksX1_violations_2 21 rfl rfl)
theorem dX1_violations_71 : decode cX1_violations 71 = .ok (.getfield 72, 3) := dk_180 0 72 (dk_at dksX1_violations_3 0 rfl rfl)
theorem dX1_violations_74 : decode cX1_violations 74 = .ok (.iload 4, 2) := dk_21 4 (dk_at dksX1_violations_3 3 rfl rfl)
theorem dX1_violations_76 : decode cX1_violations 76 = .ok (.invokeinterface 78 2, 5) := by decide +kernel
theorem dX1_violations_81 : decode cX1_violations 81 = .ok (.checkcast 165, 3) := dk_192 0 165 (dk_at dksX1_violations_3 10 rfl rfl)
theorem dX1_violations_84 : decode cX1_violations 84 = .ok (.getfield 273, 3) := dk_180 1 17 (dk_at dksX1_violations_3 13 rfl rfl)
theorem dX1_violations_87 : decode cX1_violations 87 = .ok (.ishl, 1) := dk_120 (dk_at dksX1_violations_3 16 rfl rfl)
theorem dX1_violations_88 : decode cX1_violations 88 = .ok (.istore 5, 2) := dk_54 5 (dk_at dksX1_violations_3 17 rfl rfl)
theorem dX1_violations_90 : decode cX1_violations 90 = .ok (.iload_n 3, 1) := dk_29 (dk_at dksX1_violations_3 19 rfl rfl)
theorem dX1_violations_91 : decode cX1_violations 91 = .ok (.iload_n 2, 1) := dk_28 (dk_at dksX1_violations_3 20 rfl rfl)
theorem dX1_violations_92 : decode cX1_violations 92 = .ok (.iload 5, 2) := dk_21 5 (dk_at dksX1_violations_3 21 rfl rfl)
theorem dX1_violations_94 : decode cX1_violations 94 = .ok (.iand, 1) := dk_126 (dk_at dksX1_violations_3 23 rfl rfl)
theorem dX1_violations_95 : decode cX1_violations 95 = .ok (.ior, 1) := dk_128 (dk_at dksX1_violations_4 0 rfl rfl)
theorem dX1_violations_96 : decode cX1_violations 96 = .ok (.istore_n 3, 1) := dk_62 (dk_at dksX1_violations_4 1 rfl rfl)
theorem dX1_violations_97 : decode cX1_violations 97 = .ok (.iload_n 2, 1) := dk_28 (dk_at dksX1_violations_4 2 rfl rfl)
theorem dX1_violations_98 : decode cX1_violations 98 = .ok (.iload 5, 2) := dk_21 5 (dk_at dksX1_violations_4 3 rfl rfl)
theorem dX1_violations_100 : decode cX1_violations 100 = .ok (.ior, 1) := dk_128 (dk_at dksX1_violations_4 5 rfl rfl)
theorem dX1_violations_101 : decode cX1_violations 101 = .ok (.istore_n 2, 1) := dk_61 (dk_at dksX1_violations_4 6 rfl rfl)
theorem dX1_violations_102 : decode cX1_violations 102 = .ok (.iload_n 1, 1) := dk_27 (dk_at dksX1_violations_4 7 rfl rfl)
theorem dX1_violations_103 : decode cX1_violations 103 = .ok (.aload_n 0, 1) := dk_42 (dk_at dksX1_violations_4 8 rfl rfl)
theorem dX1_violations_104 : decode cX1_violations 104 = .ok (.getfield 44, 3) := dk_180 0 44 (dk_at dksX1_violations_4 9 rfl rfl)
theorem dX1_violations_107 : decode cX1_violations 107 = .ok (.iload 4, 2) := dk_21 4 (dk_at dksX1_violations_4 12 rfl rfl)
theorem dX1_violations_109 : decode cX1_violations 109 = .ok (.invokevirtual 275, 3) := dk_182 1 19 (dk_at dksX1_violations_4 14 rfl rfl)
theorem dX1_violations_112 : decode cX1_violations 112 = .ok (.invokestatic 305, 3) := dk_184 1 49 (dk_at dksX1_violations_4 17 rfl rfl)
theorem dX1_violations_115 : decode cX1_violations 115 = .ok (.iconst 4, 1) := dk_7 (dk_at dksX1_violations_4 20 rfl rfl)
theorem dX1_violations_116 : decode cX1_violations 116 = .ok (.if_icmp .le 7, 3) := dk_164 0 7 (dk_at dksX1_violations_4 21 rfl rfl)
theorem dX1_violations_119 : decode cX1_violations 119 = .ok (.iconst 1, 1) := dk_4 (dk_at dksX1_violations_5 0 rfl rfl)
theorem dX1_violations_120 : decode cX1_violations 120 = .ok (.goto 4, 3) := dk_167 0 4 (dk_at dksX1_violations_5 1 rfl rfl)
theorem dX1_violations_123 : decode cX1_violations 123 = .ok (.iconst 0, 1) := dk_3 (dk_at dksX1_violations_5 4 rfl rfl)
theorem dX1_violations_124 : decode cX1_violations 124 = .ok (.iadd, 1) := dk_96 (dk_at dksX1_violations_5 5 rfl rfl)
theorem dX1_violations_125 : decode cX1_violations 125 = .ok (.istore_n 1, 1) := dk_60 (dk_at dksX1_violations_5 6 rfl rfl)
theorem dX1_violations_126 : decode cX1_violations 126 = .ok (.iload_n 1, 1) := dk_27 (dk_at dksX1_violations_5 7 rfl rfl)
theorem dX1_violations_127 : decode cX1_violations 127 = .ok (.aload_n 0, 1) := dk_42 (dk_at dksX1_violations_5 8 rfl rfl)
theorem dX1_violations_128 : decode cX1_violations 128 = .ok (.iload 4, 2) := dk_21 4 (dk_at dksX1_violations_5 9 rfl rfl)
theorem dX1_violations_130 : decode cX1_violations 130 = .ok (.invokevirtual 355, 3) := dk_182 1 99 (dk_at dksX1_violations_5 11 rfl rfl)
theorem dX1_violations_133 : decode cX1_violations 133 = .ok (.ifCond .eq 7, 3) := dk_153 0 7 (dk_at dksX1_violations_5 14 rfl rfl)
theorem dX1_violations_136 : decode cX1_violations 136 = .ok (.iconst 1, 1) := dk_4 (dk_at dksX1_violations_5 17 rfl rfl)
theorem dX1_violations_137 : decode cX1_violations 137 = .ok (.goto 4, 3) := dk_167 0 4 (dk_at dksX1_violations_5 18 rfl rfl)
theorem dX1_violations_140 : decode cX1_violations 140 = .ok (.iconst 0, 1) := dk_3 (dk_at dksX1_violations_5 21 rfl rfl)
theorem dX1_violations_141 : decode cX1_violations 141 = .ok (.iadd, 1) := dk_96 (dk_at dksX1_violations_5 22 rfl rfl)
theorem dX1_violations_142 : decode cX1_violations 142 = .ok (.istore_n 1, 1) := dk_60 (dk_at dksX1_violations_5 23 rfl rfl)
theorem dX1_violations_143 : decode cX1_violations 143 = .ok (.iinc 4 1, 3) := dk_132 4 1 (dk_at dksX1_violations_6 0 rfl rfl)
theorem dX1_violations_146 : decode cX1_violations 146 = .ok (.goto (-97), 3) := dk_167 255 159 (dk_at dksX1_violations_6 3 rfl rfl)
theorem dX1_violations_149 : decode cX1_violations 149 = .ok (.iload_n 1, 1) := dk_27 (dk_at dksX1_violations_6 6 rfl rfl)
theorem dX1_violations_150 : decode cX1_violations 150 = .ok (.iload_n 3, 1) := dk_29 (dk_at dksX1_violations_6 7 rfl rfl)
theorem dX1_violations_151 : decode cX1_violations 151 = .ok (.invokestatic 305, 3) := dk_184 1 49 (dk_at dksX1_violations_6 8 rfl rfl)
theorem dX1_violations_154 : decode cX1_violations 154 = .ok (.iadd, 1) := dk_96 (dk_at dksX1_violations_6 11 rfl rfl)
theorem dX1_violations_155 : decode cX1_violations 155 = .ok (.ireturn, 1) := dk_172 (dk_at dksX1_violations_6 12 rfl rfl)
abbrev cX1_isWrong : ByteArray := prog_1_method_71_code
def yX1_isWrong : MethodName := ⟨RX1, "isWrong", "(I)Z"⟩
def dkwX1_isWrong_1 : List UInt8 := [28, 16, 99, 164, 0, 7, 4, 167, 0, 4, 3, 172]
abbrev dktX1_isWrong_1 : List UInt8 := dkwX1_isWrong_1 ++ []
def dkwX1_isWrong_0 : List UInt8 := [42, 180, 0, 44, 180, 0, 72, 27, 185, 0, 78, 2, 0, 192, 0, 165, 180, 1, 14, 61, 28, 155, 0, 9]
abbrev dktX1_isWrong_0 : List UInt8 := dkwX1_isWrong_0 ++ dktX1_isWrong_1
theorem dksX1_isWrong_0 : cX1_isWrong.data.toList.drop 0 = dktX1_isWrong_0 := by decide +kernel
theorem dksX1_isWrong_1 : cX1_isWrong.data.toList.drop 24 = dktX1_isWrong_1 := dk_seg dksX1_isWrong_0 24 rfl rfl
theorem dX1_isWrong_0 : decode cX1_isWrong 0 = .ok (.aload_n 0, 1) := dk_42 (dk_at dksX1_isWrong_0 0 rfl rfl)
theorem dX1_isWrong_1 : decode cX1_isWrong 1 = .ok (.getfield 44, 3) := dk_180 0 44 (dk_at dksX1_isWrong_0 1 rfl rfl)
theorem dX1_isWrong_4 : decode cX1_isWrong 4 = .ok (.getfield 72, 3) := dk_180 0 72 (dk_at dksX1_isWrong_0 4 rfl rfl)
theorem dX1_isWrong_7 : decode cX1_isWrong 7 = .ok (.iload_n 1, 1) := dk_27 (dk_at dksX1_isWrong_0 7 rfl rfl)
theorem dX1_isWrong_8 : decode cX1_isWrong 8 = .ok (.invokeinterface 78 2, 5) := by decide +kernel
theorem dX1_isWrong_13 : decode cX1_isWrong 13 = .ok (.checkcast 165, 3) := dk_192 0 165 (dk_at dksX1_isWrong_0 13 rfl rfl)
theorem dX1_isWrong_16 : decode cX1_isWrong 16 = .ok (.getfield 270, 3) := dk_180 1 14 (dk_at dksX1_isWrong_0 16 rfl rfl)
theorem dX1_isWrong_19 : decode cX1_isWrong 19 = .ok (.istore_n 2, 1) := dk_61 (dk_at dksX1_isWrong_0 19 rfl rfl)
theorem dX1_isWrong_20 : decode cX1_isWrong 20 = .ok (.iload_n 2, 1) := dk_28 (dk_at dksX1_isWrong_0 20 rfl rfl)
theorem dX1_isWrong_21 : decode cX1_isWrong 21 = .ok (.ifCond .lt 9, 3) := dk_155 0 9 (dk_at dksX1_isWrong_0 21 rfl rfl)
theorem dX1_isWrong_24 : decode cX1_isWrong 24 = .ok (.iload_n 2, 1) := dk_28 (dk_at dksX1_isWrong_1 0 rfl rfl)
theorem dX1_isWrong_25 : decode cX1_isWrong 25 = .ok (.bipush 99, 2) := dk_16 99 (dk_at dksX1_isWrong_1 1 rfl rfl)
theorem dX1_isWrong_27 : decode cX1_isWrong 27 = .ok (.if_icmp .le 7, 3) := dk_164 0 7 (dk_at dksX1_isWrong_1 3 rfl rfl)
theorem dX1_isWrong_30 : decode cX1_isWrong 30 = .ok (.iconst 1, 1) := dk_4 (dk_at dksX1_isWrong_1 6 rfl rfl)
theorem dX1_isWrong_31 : decode cX1_isWrong 31 = .ok (.goto 4, 3) := dk_167 0 4 (dk_at dksX1_isWrong_1 7 rfl rfl)
theorem dX1_isWrong_34 : decode cX1_isWrong 34 = .ok (.iconst 0, 1) := dk_3 (dk_at dksX1_isWrong_1 10 rfl rfl)
theorem dX1_isWrong_35 : decode cX1_isWrong 35 = .ok (.ireturn, 1) := dk_172 (dk_at dksX1_isWrong_1 11 rfl rfl)
abbrev cX1_writeRoof : ByteArray := prog_1_method_73_code
def yX1_writeRoof : MethodName := ⟨RX1, "writeRoof", "()I"⟩
def dkwX1_writeRoof_6 : List UInt8 := [180, 0, 25, 182, 1, 110, 172]
abbrev dktX1_writeRoof_6 : List UInt8 := dkwX1_writeRoof_6 ++ []
def dkwX1_writeRoof_5 : List UInt8 := [182, 0, 243, 182, 1, 107, 87, 132, 2, 1, 167, 255, 138, 42, 43, 182, 0, 126, 181, 0, 25, 42]
abbrev dktX1_writeRoof_5 : List UInt8 := dkwX1_writeRoof_5 ++ dktX1_writeRoof_6
def dkwX1_writeRoof_4 : List UInt8 := [87, 42, 180, 0, 44, 28, 182, 0, 243, 2, 159, 0, 21, 43, 16, 111, 182, 0, 118, 42, 180, 0, 44, 28]
abbrev dktX1_writeRoof_4 : List UInt8 := dkwX1_writeRoof_4 ++ dktX1_writeRoof_5
def dkwX1_writeRoof_3 : List UInt8 := [182, 0, 162, 2, 159, 0, 21, 43, 16, 99, 182, 0, 118, 42, 180, 0, 44, 28, 182, 0, 162, 182, 1, 107]
abbrev dktX1_writeRoof_3 : List UInt8 := dkwX1_writeRoof_3 ++ dktX1_writeRoof_4
def dkwX1_writeRoof_2 : List UInt8 := [180, 0, 56, 28, 185, 0, 78, 2, 0, 192, 0, 145, 180, 0, 240, 182, 1, 107, 87, 42, 180, 0, 44, 28]
abbrev dktX1_writeRoof_2 : List UInt8 := dkwX1_writeRoof_2 ++ dktX1_writeRoof_3
def dkwX1_writeRoof_1 : List UInt8 := [162, 0, 108, 43, 28, 154, 0, 8, 18, 23, 167, 0, 6, 19, 1, 102, 182, 1, 104, 42, 180, 0, 44]
abbrev dktX1_writeRoof_1 : List UInt8 := dkwX1_writeRoof_1 ++ dktX1_writeRoof_2
def dkwX1_writeRoof_0 : List UInt8 := [187, 0, 16, 89, 183, 0, 18, 76, 3, 61, 28, 42, 180, 0, 44, 180, 0, 56, 185, 0, 62, 1, 0]
abbrev dktX1_writeRoof_0 : List UInt8 := dkwX1_writeRoof_0 ++ dktX1_writeRoof_1
theorem dksX1_writeRoof_0 : cX1_writeRoof.data.toList.drop 0 = dktX1_writeRoof_0 := by decide +kernel
theorem dksX1_writeRoof_1 : cX1_writeRoof.data.toList.drop 23 = dktX1_writeRoof_1 := dk_seg dksX1_writeRoof_0 23 rfl rfl
theorem dksX1_writeRoof_2 : cX1_writeRoof.data.toList.drop 46 = dktX1_writeRoof_2 := dk_seg dksX1_writeRoof_1 23 rfl rfl
theorem dksX1_writeRoof_3 : cX1_writeRoof.data.toList.drop 70 = dktX1_writeRoof_3 := dk_seg dksX1_writeRoof_2 24 rfl rfl
theorem dksX1_writeRoof_4 : cX1_writeRoof.data.toList.drop 94 = dktX1_writeRoof_4 := dk_seg dksX1_writeRoof_3 24 rfl rfl
theorem dksX1_writeRoof_5 : cX1_writeRoof.data.toList.drop 118 = dktX1_writeRoof_5 := dk_seg dksX1_writeRoof_4 24 rfl rfl
theorem dksX1_writeRoof_6 : cX1_writeRoof.data.toList.drop 140 = dktX1_writeRoof_6 := dk_seg dksX1_writeRoof_5 22 rfl rfl
theorem dX1_writeRoof_0 : decode cX1_writeRoof 0 = .ok (.new 16, 3) := dk_187 0 16 (dk_at dksX1_writeRoof_0 0 rfl rfl)
theorem dX1_writeRoof_3 : decode cX1_writeRoof 3 = .ok (.dup, 1) := dk_89 (dk_at dksX1_writeRoof_0 3 rfl rfl)
theorem dX1_writeRoof_4 : decode cX1_writeRoof 4 = .ok (.invokespecial 18, 3) := dk_183 0 18 (dk_at dksX1_writeRoof_0 4 rfl rfl)
theorem dX1_writeRoof_7 : decode cX1_writeRoof 7 = .ok (.astore_n 1, 1) := dk_76 (dk_at dksX1_writeRoof_0 7 rfl rfl)
theorem dX1_writeRoof_8 : decode cX1_writeRoof 8 = .ok (.iconst 0, 1) := dk_3 (dk_at dksX1_writeRoof_0 8 rfl rfl)
theorem dX1_writeRoof_9 : decode cX1_writeRoof 9 = .ok (.istore_n 2, 1) := dk_61 (dk_at dksX1_writeRoof_0 9 rfl rfl)
theorem dX1_writeRoof_10 : decode cX1_writeRoof 10 = .ok (.iload_n 2, 1) := dk_28 (dk_at dksX1_writeRoof_0 10 rfl rfl)
theorem dX1_writeRoof_11 : decode cX1_writeRoof 11 = .ok (.aload_n 0, 1) := dk_42 (dk_at dksX1_writeRoof_0 11 rfl rfl)
theorem dX1_writeRoof_12 : decode cX1_writeRoof 12 = .ok (.getfield 44, 3) := dk_180 0 44 (dk_at dksX1_writeRoof_0 12 rfl rfl)
theorem dX1_writeRoof_15 : decode cX1_writeRoof 15 = .ok (.getfield 56, 3) := dk_180 0 56 (dk_at dksX1_writeRoof_0 15 rfl rfl)
theorem dX1_writeRoof_18 : decode cX1_writeRoof 18 = .ok (.invokeinterface 62 1, 5) := by decide +kernel
theorem dX1_writeRoof_23 : decode cX1_writeRoof 23 = .ok (.if_icmp .ge 108, 3) := dk_162 0 108 (dk_at dksX1_writeRoof_1 0 rfl rfl)
theorem dX1_writeRoof_26 : decode cX1_writeRoof 26 = .ok (.aload_n 1, 1) := dk_43 (dk_at dksX1_writeRoof_1 3 rfl rfl)
theorem dX1_writeRoof_27 : decode cX1_writeRoof 27 = .ok (.iload_n 2, 1) := dk_28 (dk_at dksX1_writeRoof_1 4 rfl rfl)
theorem dX1_writeRoof_28 : decode cX1_writeRoof 28 = .ok (.ifCond .ne 8, 3) := dk_154 0 8 (dk_at dksX1_writeRoof_1 5 rfl rfl)
theorem dX1_writeRoof_31 : decode cX1_writeRoof 31 = .ok (.ldc 23, 2) := dk_18 23 (dk_at dksX1_writeRoof_1 8 rfl rfl)
theorem dX1_writeRoof_33 : decode cX1_writeRoof 33 = .ok (.goto 6, 3) := dk_167 0 6 (dk_at dksX1_writeRoof_1 10 rfl rfl)
theorem dX1_writeRoof_36 : decode cX1_writeRoof 36 = .ok (.ldc_w 358, 3) := dk_19 1 102 (dk_at dksX1_writeRoof_1 13 rfl rfl)
theorem dX1_writeRoof_39 : decode cX1_writeRoof 39 = .ok (.invokevirtual 360, 3) := dk_182 1 104 (dk_at dksX1_writeRoof_1 16 rfl rfl)
theorem dX1_writeRoof_42 : decode cX1_writeRoof 42 = .ok (.aload_n 0, 1) := dk_42 (dk_at dksX1_writeRoof_1 19 rfl rfl)
theorem dX1_writeRoof_43 : decode cX1_writeRoof 43 = .ok (.getfield 44, 3) := dk_180 0 44 (dk_at dksX1_writeRoof_1 20 rfl rfl)
theorem dX1_writeRoof_46 : decode cX1_writeRoof 46 = .ok (.getfield 56, 3) := dk_180 0 56 (dk_at dksX1_writeRoof_2 0 rfl rfl)
theorem dX1_writeRoof_49 : decode cX1_writeRoof 49 = .ok (.iload_n 2, 1) := dk_28 (dk_at dksX1_writeRoof_2 3 rfl rfl)
theorem dX1_writeRoof_50 : decode cX1_writeRoof 50 = .ok (.invokeinterface 78 2, 5) := by decide +kernel
theorem dX1_writeRoof_55 : decode cX1_writeRoof 55 = .ok (.checkcast 145, 3) := dk_192 0 145 (dk_at dksX1_writeRoof_2 9 rfl rfl)
theorem dX1_writeRoof_58 : decode cX1_writeRoof 58 = .ok (.getfield 240, 3) := dk_180 0 240 (dk_at dksX1_writeRoof_2 12 rfl rfl)
theorem dX1_writeRoof_61 : decode cX1_writeRoof 61 = .ok (.invokevirtual 363, 3) := dk_182 1 107 (dk_at dksX1_writeRoof_2 15 rfl rfl)
theorem dX1_writeRoof_64 : decode cX1_writeRoof 64 = .ok (.pop, 1) := dk_87 (dk_at dksX1_writeRoof_2 18 rfl rfl)
theorem dX1_writeRoof_65 : decode cX1_writeRoof 65 = .ok (.aload_n 0, 1) := dk_42 (dk_at dksX1_writeRoof_2 19 rfl rfl)
theorem dX1_writeRoof_66 : decode cX1_writeRoof 66 = .ok (.getfield 44, 3) := dk_180 0 44 (dk_at dksX1_writeRoof_2 20 rfl rfl)
theorem dX1_writeRoof_69 : decode cX1_writeRoof 69 = .ok (.iload_n 2, 1) := dk_28 (dk_at dksX1_writeRoof_2 23 rfl rfl)
theorem dX1_writeRoof_70 : decode cX1_writeRoof 70 = .ok (.invokevirtual 162, 3) := dk_182 0 162 (dk_at dksX1_writeRoof_3 0 rfl rfl)
theorem dX1_writeRoof_73 : decode cX1_writeRoof 73 = .ok (.iconst (-1), 1) := dk_2 (dk_at dksX1_writeRoof_3 3 rfl rfl)
theorem dX1_writeRoof_74 : decode cX1_writeRoof 74 = .ok (.if_icmp .eq 21, 3) := dk_159 0 21 (dk_at dksX1_writeRoof_3 4 rfl rfl)
theorem dX1_writeRoof_77 : decode cX1_writeRoof 77 = .ok (.aload_n 1, 1) := dk_43 (dk_at dksX1_writeRoof_3 7 rfl rfl)
theorem dX1_writeRoof_78 : decode cX1_writeRoof 78 = .ok (.bipush 99, 2) := dk_16 99 (dk_at dksX1_writeRoof_3 8 rfl rfl)
theorem dX1_writeRoof_80 : decode cX1_writeRoof 80 = .ok (.invokevirtual 118, 3) := dk_182 0 118 (dk_at dksX1_writeRoof_3 10 rfl rfl)
theorem dX1_writeRoof_83 : decode cX1_writeRoof 83 = .ok (.aload_n 0, 1) := dk_42 (dk_at dksX1_writeRoof_3 13 rfl rfl)
theorem dX1_writeRoof_84 : decode cX1_writeRoof 84 = .ok (.getfield 44, 3) := dk_180 0 44 (dk_at dksX1_writeRoof_3 14 rfl rfl)
theorem dX1_writeRoof_87 : decode cX1_writeRoof 87 = .ok (.iload_n 2, 1) := dk_28 (dk_at dksX1_writeRoof_3 17 rfl rfl)
theorem dX1_writeRoof_88 : decode cX1_writeRoof 88 = .ok (.invokevirtual 162, 3) := dk_182 0 162 (dk_at dksX1_writeRoof_3 18 rfl rfl)
theorem dX1_writeRoof_91 : decode cX1_writeRoof 91 = .ok (.invokevirtual 363, 3) := dk_182 1 107 (dk_at dksX1_writeRoof_3 21 rfl rfl)
theorem dX1_writeRoof_94 : decode cX1_writeRoof 94 = .ok (.pop, 1) := dk_87 (dk_at dksX1_writeRoof_4 0 rfl rfl)
theorem dX1_writeRoof_95 : decode cX1_writeRoof 95 = .ok (.aload_n 0, 1) := dk_42 (dk_at dksX1_writeRoof_4 1 rfl rfl)
theorem dX1_writeRoof_96 : decode cX1_writeRoof 96 = .ok (.getfield 44, 3) := dk_180 0 44 (dk_at dksX1_writeRoof_4 2 rfl rfl)
theorem dX1_writeRoof_99 : decode cX1_writeRoof 99 = .ok (.iload_n 2, 1) := dk_28 (dk_at dksX1_writeRoof_4 5 rfl rfl)
theorem dX1_writeRoof_100 : decode cX1_writeRoof 100 = .ok (.invokevirtual 243, 3) := dk_182 0 243 (dk_at dksX1_writeRoof_4 6 rfl rfl)
theorem dX1_writeRoof_103 : decode cX1_writeRoof 103 = .ok (.iconst (-1), 1) := dk_2 (dk_at dksX1_writeRoof_4 9 rfl rfl)
theorem dX1_writeRoof_104 : decode cX1_writeRoof 104 = .ok (.if_icmp .eq 21, 3) := dk_159 0 21 (dk_at dksX1_writeRoof_4 10 rfl rfl)
theorem dX1_writeRoof_107 : decode cX1_writeRoof 107 = .ok (.aload_n 1, 1) := dk_43 (dk_at dksX1_writeRoof_4 13 rfl rfl)
theorem dX1_writeRoof_108 : decode cX1_writeRoof 108 = .ok (.bipush 111, 2) := dk_16 111 (dk_at dksX1_writeRoof_4 14 rfl rfl)
theorem dX1_writeRoof_110 : decode cX1_writeRoof 110 = .ok (.invokevirtual 118, 3) := dk_182 0 118 (dk_at dksX1_writeRoof_4 16 rfl rfl)
theorem dX1_writeRoof_113 : decode cX1_writeRoof 113 = .ok (.aload_n 0, 1) := dk_42 (dk_at dksX1_writeRoof_4 19 rfl rfl)
theorem dX1_writeRoof_114 : decode cX1_writeRoof 114 = .ok (.getfield 44, 3) := dk_180 0 44 (dk_at dksX1_writeRoof_4 20 rfl rfl)
theorem dX1_writeRoof_117 : decode cX1_writeRoof 117 = .ok (.iload_n 2, 1) := dk_28 (dk_at dksX1_writeRoof_4 23 rfl rfl)
theorem dX1_writeRoof_118 : decode cX1_writeRoof 118 = .ok (.invokevirtual 243, 3) := dk_182 0 243 (dk_at dksX1_writeRoof_5 0 rfl rfl)
theorem dX1_writeRoof_121 : decode cX1_writeRoof 121 = .ok (.invokevirtual 363, 3) := dk_182 1 107 (dk_at dksX1_writeRoof_5 3 rfl rfl)
theorem dX1_writeRoof_124 : decode cX1_writeRoof 124 = .ok (.pop, 1) := dk_87 (dk_at dksX1_writeRoof_5 6 rfl rfl)
theorem dX1_writeRoof_125 : decode cX1_writeRoof 125 = .ok (.iinc 2 1, 3) := dk_132 2 1 (dk_at dksX1_writeRoof_5 7 rfl rfl)
theorem dX1_writeRoof_128 : decode cX1_writeRoof 128 = .ok (.goto (-118), 3) := dk_167 255 138 (dk_at dksX1_writeRoof_5 10 rfl rfl)
theorem dX1_writeRoof_131 : decode cX1_writeRoof 131 = .ok (.aload_n 0, 1) := dk_42 (dk_at dksX1_writeRoof_5 13 rfl rfl)
theorem dX1_writeRoof_132 : decode cX1_writeRoof 132 = .ok (.aload_n 1, 1) := dk_43 (dk_at dksX1_writeRoof_5 14 rfl rfl)
theorem dX1_writeRoof_133 : decode cX1_writeRoof 133 = .ok (.invokevirtual 126, 3) := dk_182 0 126 (dk_at dksX1_writeRoof_5 15 rfl rfl)
theorem dX1_writeRoof_136 : decode cX1_writeRoof 136 = .ok (.putfield 25, 3) := dk_181 0 25 (dk_at dksX1_writeRoof_5 18 rfl rfl)
theorem dX1_writeRoof_139 : decode cX1_writeRoof 139 = .ok (.aload_n 0, 1) := dk_42 (dk_at dksX1_writeRoof_5 21 rfl rfl)
theorem dX1_writeRoof_140 : decode cX1_writeRoof 140 = .ok (.getfield 25, 3) := dk_180 0 25 (dk_at dksX1_writeRoof_6 0 rfl rfl)
theorem dX1_writeRoof_143 : decode cX1_writeRoof 143 = .ok (.invokevirtual 366, 3) := dk_182 1 110 (dk_at dksX1_writeRoof_6 3 rfl rfl)
theorem dX1_writeRoof_146 : decode cX1_writeRoof 146 = .ok (.ireturn, 1) := dk_172 (dk_at dksX1_writeRoof_6 6 rfl rfl)
abbrev cX1_reportByte : ByteArray := prog_1_method_74_code
def yX1_reportByte : MethodName := ⟨RX1, "reportByte", "(I)I"⟩
def dkwX1_reportByte_1 : List UInt8 := [182, 1, 113, 172]
abbrev dktX1_reportByte_1 : List UInt8 := dkwX1_reportByte_1 ++ []
def dkwX1_reportByte_0 : List UInt8 := [27, 155, 0, 14, 27, 42, 180, 0, 25, 182, 1, 110, 161, 0, 7, 2, 167, 0, 11, 42, 180, 0, 25, 27]
abbrev dktX1_reportByte_0 : List UInt8 := dkwX1_reportByte_0 ++ dktX1_reportByte_1
theorem dksX1_reportByte_0 : cX1_reportByte.data.toList.drop 0 = dktX1_reportByte_0 := by decide +kernel
theorem dksX1_reportByte_1 : cX1_reportByte.data.toList.drop 24 = dktX1_reportByte_1 := dk_seg dksX1_reportByte_0 24 rfl rfl
theorem dX1_reportByte_0 : decode cX1_reportByte 0 = .ok (.iload_n 1, 1) := dk_27 (dk_at dksX1_reportByte_0 0 rfl rfl)
theorem dX1_reportByte_1 : decode cX1_reportByte 1 = .ok (.ifCond .lt 14, 3) := dk_155 0 14 (dk_at dksX1_reportByte_0 1 rfl rfl)
theorem dX1_reportByte_4 : decode cX1_reportByte 4 = .ok (.iload_n 1, 1) := dk_27 (dk_at dksX1_reportByte_0 4 rfl rfl)
theorem dX1_reportByte_5 : decode cX1_reportByte 5 = .ok (.aload_n 0, 1) := dk_42 (dk_at dksX1_reportByte_0 5 rfl rfl)
theorem dX1_reportByte_6 : decode cX1_reportByte 6 = .ok (.getfield 25, 3) := dk_180 0 25 (dk_at dksX1_reportByte_0 6 rfl rfl)
theorem dX1_reportByte_9 : decode cX1_reportByte 9 = .ok (.invokevirtual 366, 3) := dk_182 1 110 (dk_at dksX1_reportByte_0 9 rfl rfl)
theorem dX1_reportByte_12 : decode cX1_reportByte 12 = .ok (.if_icmp .lt 7, 3) := dk_161 0 7 (dk_at dksX1_reportByte_0 12 rfl rfl)
theorem dX1_reportByte_15 : decode cX1_reportByte 15 = .ok (.iconst (-1), 1) := dk_2 (dk_at dksX1_reportByte_0 15 rfl rfl)
theorem dX1_reportByte_16 : decode cX1_reportByte 16 = .ok (.goto 11, 3) := dk_167 0 11 (dk_at dksX1_reportByte_0 16 rfl rfl)
theorem dX1_reportByte_19 : decode cX1_reportByte 19 = .ok (.aload_n 0, 1) := dk_42 (dk_at dksX1_reportByte_0 19 rfl rfl)
theorem dX1_reportByte_20 : decode cX1_reportByte 20 = .ok (.getfield 25, 3) := dk_180 0 25 (dk_at dksX1_reportByte_0 20 rfl rfl)
theorem dX1_reportByte_23 : decode cX1_reportByte 23 = .ok (.iload_n 1, 1) := dk_27 (dk_at dksX1_reportByte_0 23 rfl rfl)
theorem dX1_reportByte_24 : decode cX1_reportByte 24 = .ok (.invokevirtual 369, 3) := dk_182 1 113 (dk_at dksX1_reportByte_1 0 rfl rfl)
theorem dX1_reportByte_27 : decode cX1_reportByte 27 = .ok (.ireturn, 1) := dk_172 (dk_at dksX1_reportByte_1 3 rfl rfl)
abbrev cX1_truncateInput : ByteArray := prog_1_method_14_code
def yX1_truncateInput : MethodName := ⟨RX1, "truncateInput", "(I)I"⟩
def dkwX1_truncateInput_0 : List UInt8 := [27, 3, 42, 180, 0, 19, 182, 0, 111, 184, 0, 95, 42, 180, 0, 19, 27, 182, 0, 122, 27, 172]
abbrev dktX1_truncateInput_0 : List UInt8 := dkwX1_truncateInput_0 ++ []
theorem dksX1_truncateInput_0 : cX1_truncateInput.data.toList.drop 0 = dktX1_truncateInput_0 := by decide +kernel
theorem dX1_truncateInput_0 : decode cX1_truncateInput 0 = .ok (.iload_n 1, 1) := dk_27 (dk_at dksX1_truncateInput_0 0 rfl rfl)
theorem dX1_truncateInput_1 : decode cX1_truncateInput 1 = .ok (.iconst 0, 1) := dk_3 (dk_at dksX1_truncateInput_0 1 rfl rfl)
theorem dX1_truncateInput_2 : decode cX1_truncateInput 2 = .ok (.aload_n 0, 1) := dk_42 (dk_at dksX1_truncateInput_0 2 rfl rfl)
theorem dX1_truncateInput_3 : decode cX1_truncateInput 3 = .ok (.getfield 19, 3) := dk_180 0 19 (dk_at dksX1_truncateInput_0 3 rfl rfl)
theorem dX1_truncateInput_6 : decode cX1_truncateInput 6 = .ok (.invokevirtual 111, 3) := dk_182 0 111 (dk_at dksX1_truncateInput_0 6 rfl rfl)
theorem dX1_truncateInput_9 : decode cX1_truncateInput 9 = .ok (.invokestatic 95, 3) := dk_184 0 95 (dk_at dksX1_truncateInput_0 9 rfl rfl)
theorem dX1_truncateInput_12 : decode cX1_truncateInput 12 = .ok (.aload_n 0, 1) := dk_42 (dk_at dksX1_truncateInput_0 12 rfl rfl)
theorem dX1_truncateInput_13 : decode cX1_truncateInput 13 = .ok (.getfield 19, 3) := dk_180 0 19 (dk_at dksX1_truncateInput_0 13 rfl rfl)
theorem dX1_truncateInput_16 : decode cX1_truncateInput 16 = .ok (.iload_n 1, 1) := dk_27 (dk_at dksX1_truncateInput_0 16 rfl rfl)
theorem dX1_truncateInput_17 : decode cX1_truncateInput 17 = .ok (.invokevirtual 122, 3) := dk_182 0 122 (dk_at dksX1_truncateInput_0 17 rfl rfl)
theorem dX1_truncateInput_20 : decode cX1_truncateInput 20 = .ok (.iload_n 1, 1) := dk_27 (dk_at dksX1_truncateInput_0 20 rfl rfl)
theorem dX1_truncateInput_21 : decode cX1_truncateInput 21 = .ok (.ireturn, 1) := dk_172 (dk_at dksX1_truncateInput_0 21 rfl rfl)
abbrev cX1_checkRange : ByteArray := prog_1_method_7_code
def yX1_checkRange : MethodName := ⟨RX1, "checkRange", "(III)V"⟩
def dkwX1_checkRange_0 : List UInt8 := [26, 27, 161, 0, 12, 26, 28, 163, 0, 7, 4, 167, 0, 4, 3, 184, 0, 87, 177]
abbrev dktX1_checkRange_0 : List UInt8 := dkwX1_checkRange_0 ++ []
theorem dksX1_checkRange_0 : cX1_checkRange.data.toList.drop 0 = dktX1_checkRange_0 := by decide +kernel
theorem dX1_checkRange_0 : decode cX1_checkRange 0 = .ok (.iload_n 0, 1) := dk_26 (dk_at dksX1_checkRange_0 0 rfl rfl)
theorem dX1_checkRange_1 : decode cX1_checkRange 1 = .ok (.iload_n 1, 1) := dk_27 (dk_at dksX1_checkRange_0 1 rfl rfl)
theorem dX1_checkRange_2 : decode cX1_checkRange 2 = .ok (.if_icmp .lt 12, 3) := dk_161 0 12 (dk_at dksX1_checkRange_0 2 rfl rfl)
theorem dX1_checkRange_5 : decode cX1_checkRange 5 = .ok (.iload_n 0, 1) := dk_26 (dk_at dksX1_checkRange_0 5 rfl rfl)
theorem dX1_checkRange_6 : decode cX1_checkRange 6 = .ok (.iload_n 2, 1) := dk_28 (dk_at dksX1_checkRange_0 6 rfl rfl)
theorem dX1_checkRange_7 : decode cX1_checkRange 7 = .ok (.if_icmp .gt 7, 3) := dk_163 0 7 (dk_at dksX1_checkRange_0 7 rfl rfl)
theorem dX1_checkRange_10 : decode cX1_checkRange 10 = .ok (.iconst 1, 1) := dk_4 (dk_at dksX1_checkRange_0 10 rfl rfl)
theorem dX1_checkRange_11 : decode cX1_checkRange 11 = .ok (.goto 4, 3) := dk_167 0 4 (dk_at dksX1_checkRange_0 11 rfl rfl)
theorem dX1_checkRange_14 : decode cX1_checkRange 14 = .ok (.iconst 0, 1) := dk_3 (dk_at dksX1_checkRange_0 14 rfl rfl)
theorem dX1_checkRange_15 : decode cX1_checkRange 15 = .ok (.invokestatic 87, 3) := dk_184 0 87 (dk_at dksX1_checkRange_0 15 rfl rfl)
theorem dX1_checkRange_18 : decode cX1_checkRange 18 = .ok (.return_, 1) := dk_177 (dk_at dksX1_checkRange_0 18 rfl rfl)
abbrev cX1_checkArgument : ByteArray := prog_1_method_6_code
def yX1_checkArgument : MethodName := ⟨RX1, "checkArgument", "(Z)V"⟩
def dkwX1_checkArgument_0 : List UInt8 := [26, 154, 0, 11, 187, 0, 84, 89, 183, 0, 86, 191, 177]
abbrev dktX1_checkArgument_0 : List UInt8 := dkwX1_checkArgument_0 ++ []
theorem dksX1_checkArgument_0 : cX1_checkArgument.data.toList.drop 0 = dktX1_checkArgument_0 := by decide +kernel
theorem dX1_checkArgument_0 : decode cX1_checkArgument 0 = .ok (.iload_n 0, 1) := dk_26 (dk_at dksX1_checkArgument_0 0 rfl rfl)
theorem dX1_checkArgument_1 : decode cX1_checkArgument 1 = .ok (.ifCond .ne 11, 3) := dk_154 0 11 (dk_at dksX1_checkArgument_0 1 rfl rfl)
theorem dX1_checkArgument_4 : decode cX1_checkArgument 4 = .ok (.new 84, 3) := dk_187 0 84 (dk_at dksX1_checkArgument_0 4 rfl rfl)
theorem dX1_checkArgument_7 : decode cX1_checkArgument 7 = .ok (.dup, 1) := dk_89 (dk_at dksX1_checkArgument_0 7 rfl rfl)
theorem dX1_checkArgument_8 : decode cX1_checkArgument 8 = .ok (.invokespecial 86, 3) := dk_183 0 86 (dk_at dksX1_checkArgument_0 8 rfl rfl)
theorem dX1_checkArgument_11 : decode cX1_checkArgument 11 = .ok (.athrow, 1) := dk_191 (dk_at dksX1_checkArgument_0 11 rfl rfl)
theorem dX1_checkArgument_12 : decode cX1_checkArgument 12 = .ok (.return_, 1) := dk_177 (dk_at dksX1_checkArgument_0 12 rfl rfl)
abbrev cX1_addChimney : ByteArray := prog_1_method_16_code
def yX1_addChimney : MethodName := ⟨RX1, "addChimney", "(I)I"⟩
def dkwX1_addChimney_2 : List UInt8 := [183, 0, 147, 185, 0, 149, 2, 0, 87, 42, 180, 0, 44, 180, 0, 56, 185, 0, 62, 1, 0, 4, 100, 172]
abbrev dktX1_addChimney_2 : List UInt8 := dkwX1_addChimney_2 ++ []
def dkwX1_addChimney_1 : List UInt8 := [4, 167, 0, 4, 3, 184, 0, 142, 42, 182, 0, 130, 42, 180, 0, 44, 180, 0, 56, 187, 0, 145, 89, 27]
abbrev dktX1_addChimney_1 : List UInt8 := dkwX1_addChimney_1 ++ dktX1_addChimney_2
def dkwX1_addChimney_0 : List UInt8 := [27, 3, 16, 9, 184, 0, 95, 42, 180, 0, 44, 180, 0, 56, 185, 0, 62, 1, 0, 16, 10, 162, 0, 7]
abbrev dktX1_addChimney_0 : List UInt8 := dkwX1_addChimney_0 ++ dktX1_addChimney_1
theorem dksX1_addChimney_0 : cX1_addChimney.data.toList.drop 0 = dktX1_addChimney_0 := by decide +kernel
theorem dksX1_addChimney_1 : cX1_addChimney.data.toList.drop 24 = dktX1_addChimney_1 := dk_seg dksX1_addChimney_0 24 rfl rfl
theorem dksX1_addChimney_2 : cX1_addChimney.data.toList.drop 48 = dktX1_addChimney_2 := dk_seg dksX1_addChimney_1 24 rfl rfl
theorem dX1_addChimney_0 : decode cX1_addChimney 0 = .ok (.iload_n 1, 1) := dk_27 (dk_at dksX1_addChimney_0 0 rfl rfl)
theorem dX1_addChimney_1 : decode cX1_addChimney 1 = .ok (.iconst 0, 1) := dk_3 (dk_at dksX1_addChimney_0 1 rfl rfl)
theorem dX1_addChimney_2 : decode cX1_addChimney 2 = .ok (.bipush 9, 2) := dk_16 9 (dk_at dksX1_addChimney_0 2 rfl rfl)
theorem dX1_addChimney_4 : decode cX1_addChimney 4 = .ok (.invokestatic 95, 3) := dk_184 0 95 (dk_at dksX1_addChimney_0 4 rfl rfl)
theorem dX1_addChimney_7 : decode cX1_addChimney 7 = .ok (.aload_n 0, 1) := dk_42 (dk_at dksX1_addChimney_0 7 rfl rfl)
theorem dX1_addChimney_8 : decode cX1_addChimney 8 = .ok (.getfield 44, 3) := dk_180 0 44 (dk_at dksX1_addChimney_0 8 rfl rfl)
theorem dX1_addChimney_11 : decode cX1_addChimney 11 = .ok (.getfield 56, 3) := dk_180 0 56 (dk_at dksX1_addChimney_0 11 rfl rfl)
theorem dX1_addChimney_14 : decode cX1_addChimney 14 = .ok (.invokeinterface 62 1, 5) := by decide +kernel
theorem dX1_addChimney_19 : decode cX1_addChimney 19 = .ok (.bipush 10, 2) := dk_16 10 (dk_at dksX1_addChimney_0 19 rfl rfl)
theorem dX1_addChimney_21 : decode cX1_addChimney 21 = .ok (.if_icmp .ge 7, 3) := dk_162 0 7 (dk_at dksX1_addChimney_0 21 rfl rfl)
theorem dX1_addChimney_24 : decode cX1_addChimney 24 = .ok (.iconst 1, 1) := dk_4 (dk_at dksX1_addChimney_1 0 rfl rfl)
theorem dX1_addChimney_25 : decode cX1_addChimney 25 = .ok (.goto 4, 3) := dk_167 0 4 (dk_at dksX1_addChimney_1 1 rfl rfl)
theorem dX1_addChimney_28 : decode cX1_addChimney 28 = .ok (.iconst 0, 1) := dk_3 (dk_at dksX1_addChimney_1 4 rfl rfl)
theorem dX1_addChimney_29 : decode cX1_addChimney 29 = .ok (.invokestatic 142, 3) := dk_184 0 142 (dk_at dksX1_addChimney_1 5 rfl rfl)
theorem dX1_addChimney_32 : decode cX1_addChimney 32 = .ok (.aload_n 0, 1) := dk_42 (dk_at dksX1_addChimney_1 8 rfl rfl)
theorem dX1_addChimney_33 : decode cX1_addChimney 33 = .ok (.invokevirtual 130, 3) := dk_182 0 130 (dk_at dksX1_addChimney_1 9 rfl rfl)
theorem dX1_addChimney_36 : decode cX1_addChimney 36 = .ok (.aload_n 0, 1) := dk_42 (dk_at dksX1_addChimney_1 12 rfl rfl)
theorem dX1_addChimney_37 : decode cX1_addChimney 37 = .ok (.getfield 44, 3) := dk_180 0 44 (dk_at dksX1_addChimney_1 13 rfl rfl)
theorem dX1_addChimney_40 : decode cX1_addChimney 40 = .ok (.getfield 56, 3) := dk_180 0 56 (dk_at dksX1_addChimney_1 16 rfl rfl)
theorem dX1_addChimney_43 : decode cX1_addChimney 43 = .ok (.new 145, 3) := dk_187 0 145 (dk_at dksX1_addChimney_1 19 rfl rfl)
theorem dX1_addChimney_46 : decode cX1_addChimney 46 = .ok (.dup, 1) := dk_89 (dk_at dksX1_addChimney_1 22 rfl rfl)
theorem dX1_addChimney_47 : decode cX1_addChimney 47 = .ok (.iload_n 1, 1) := dk_27 (dk_at dksX1_addChimney_1 23 rfl rfl)
theorem dX1_addChimney_48 : decode cX1_addChimney 48 = .ok (.invokespecial 147, 3) := dk_183 0 147 (dk_at dksX1_addChimney_2 0 rfl rfl)
theorem dX1_addChimney_51 : decode cX1_addChimney 51 = .ok (.invokeinterface 149 2, 5) := by decide +kernel
theorem dX1_addChimney_56 : decode cX1_addChimney 56 = .ok (.pop, 1) := dk_87 (dk_at dksX1_addChimney_2 8 rfl rfl)
theorem dX1_addChimney_57 : decode cX1_addChimney 57 = .ok (.aload_n 0, 1) := dk_42 (dk_at dksX1_addChimney_2 9 rfl rfl)
theorem dX1_addChimney_58 : decode cX1_addChimney 58 = .ok (.getfield 44, 3) := dk_180 0 44 (dk_at dksX1_addChimney_2 10 rfl rfl)
theorem dX1_addChimney_61 : decode cX1_addChimney 61 = .ok (.getfield 56, 3) := dk_180 0 56 (dk_at dksX1_addChimney_2 13 rfl rfl)
theorem dX1_addChimney_64 : decode cX1_addChimney 64 = .ok (.invokeinterface 62 1, 5) := by decide +kernel
theorem dX1_addChimney_69 : decode cX1_addChimney 69 = .ok (.iconst 1, 1) := dk_4 (dk_at dksX1_addChimney_2 21 rfl rfl)
theorem dX1_addChimney_70 : decode cX1_addChimney 70 = .ok (.isub, 1) := dk_100 (dk_at dksX1_addChimney_2 22 rfl rfl)
theorem dX1_addChimney_71 : decode cX1_addChimney 71 = .ok (.ireturn, 1) := dk_172 (dk_at dksX1_addChimney_2 23 rfl rfl)
abbrev cX1_checkState : ByteArray := prog_1_method_8_code
def yX1_checkState : MethodName := ⟨RX1, "checkState", "(Z)V"⟩
def dkwX1_checkState_0 : List UInt8 := [26, 154, 0, 11, 187, 0, 50, 89, 183, 0, 52, 191, 177]
abbrev dktX1_checkState_0 : List UInt8 := dkwX1_checkState_0 ++ []
theorem dksX1_checkState_0 : cX1_checkState.data.toList.drop 0 = dktX1_checkState_0 := by decide +kernel
theorem dX1_checkState_0 : decode cX1_checkState 0 = .ok (.iload_n 0, 1) := dk_26 (dk_at dksX1_checkState_0 0 rfl rfl)
theorem dX1_checkState_1 : decode cX1_checkState 1 = .ok (.ifCond .ne 11, 3) := dk_154 0 11 (dk_at dksX1_checkState_0 1 rfl rfl)
theorem dX1_checkState_4 : decode cX1_checkState 4 = .ok (.new 50, 3) := dk_187 0 50 (dk_at dksX1_checkState_0 4 rfl rfl)
theorem dX1_checkState_7 : decode cX1_checkState 7 = .ok (.dup, 1) := dk_89 (dk_at dksX1_checkState_0 7 rfl rfl)
theorem dX1_checkState_8 : decode cX1_checkState 8 = .ok (.invokespecial 52, 3) := dk_183 0 52 (dk_at dksX1_checkState_0 8 rfl rfl)
theorem dX1_checkState_11 : decode cX1_checkState 11 = .ok (.athrow, 1) := dk_191 (dk_at dksX1_checkState_0 11 rfl rfl)
theorem dX1_checkState_12 : decode cX1_checkState 12 = .ok (.return_, 1) := dk_177 (dk_at dksX1_checkState_0 12 rfl rfl)
abbrev cX1_addGutter : ByteArray := prog_1_method_17_code
def yX1_addGutter : MethodName := ⟨RX1, "addGutter", "(III)I"⟩
def dkwX1_addGutter_4 : List UInt8 := [185, 0, 62, 1, 0, 4, 100, 172]
abbrev dktX1_addGutter_4 : List UInt8 := dkwX1_addGutter_4 ++ []
def dkwX1_addGutter_3 : List UInt8 := [187, 0, 82, 89, 27, 28, 29, 183, 0, 156, 185, 0, 149, 2, 0, 87, 42, 180, 0, 44, 180, 0, 75]
abbrev dktX1_addGutter_3 : List UInt8 := dkwX1_addGutter_3 ++ dktX1_addGutter_4
def dkwX1_addGutter_2 : List UInt8 := [162, 0, 7, 4, 167, 0, 4, 3, 184, 0, 142, 42, 182, 0, 130, 42, 180, 0, 44, 180, 0, 75]
abbrev dktX1_addGutter_2 : List UInt8 := dkwX1_addGutter_2 ++ dktX1_addGutter_3
def dkwX1_addGutter_1 : List UInt8 := [184, 0, 87, 29, 4, 16, 9, 184, 0, 95, 42, 180, 0, 44, 180, 0, 75, 185, 0, 62, 1, 0, 16, 20]
abbrev dktX1_addGutter_1 : List UInt8 := dkwX1_addGutter_1 ++ dktX1_addGutter_2
def dkwX1_addGutter_0 : List UInt8 := [42, 27, 182, 0, 153, 87, 42, 28, 182, 0, 153, 87, 27, 28, 159, 0, 7, 4, 167, 0, 4, 3]
abbrev dktX1_addGutter_0 : List UInt8 := dkwX1_addGutter_0 ++ dktX1_addGutter_1
theorem dksX1_addGutter_0 : cX1_addGutter.data.toList.drop 0 = dktX1_addGutter_0 := by decide +kernel
theorem dksX1_addGutter_1 : cX1_addGutter.data.toList.drop 22 = dktX1_addGutter_1 := dk_seg dksX1_addGutter_0 22 rfl rfl
theorem dksX1_addGutter_2 : cX1_addGutter.data.toList.drop 46 = dktX1_addGutter_2 := dk_seg dksX1_addGutter_1 24 rfl rfl
theorem dksX1_addGutter_3 : cX1_addGutter.data.toList.drop 68 = dktX1_addGutter_3 := dk_seg dksX1_addGutter_2 22 rfl rfl
theorem dksX1_addGutter_4 : cX1_addGutter.data.toList.drop 91 = dktX1_addGutter_4 := dk_seg dksX1_addGutter_3 23 rfl rfl
theorem dX1_addGutter_0 : decode cX1_addGutter 0 = .ok (.aload_n 0, 1) := dk_42 (dk_at dksX1_addGutter_0 0 rfl rfl)
theorem dX1_addGutter_1 : decode cX1_addGutter 1 = .ok (.iload_n 1, 1) := dk_27 (dk_at dksX1_addGutter_0 1 rfl rfl)
theorem dX1_addGutter_2 : decode cX1_addGutter 2 = .ok (.invokevirtual 153, 3) := dk_182 0 153 (dk_at dksX1_addGutter_0 2 rfl rfl)
theorem dX1_addGutter_5 : decode cX1_addGutter 5 = .ok (.pop, 1) := dk_87 (dk_at dksX1_addGutter_0 5 rfl rfl)
theorem dX1_addGutter_6 : decode cX1_addGutter 6 = .ok (.aload_n 0, 1) := dk_42 (dk_at dksX1_addGutter_0 6 rfl rfl)
theorem dX1_addGutter_7 : decode cX1_addGutter 7 = .ok (.iload_n 2, 1) := dk_28 (dk_at dksX1_addGutter_0 7 rfl rfl)
theorem dX1_addGutter_8 : decode cX1_addGutter 8 = .ok (.invokevirtual 153, 3) := dk_182 0 153 (dk_at dksX1_addGutter_0 8 rfl rfl)
theorem dX1_addGutter_11 : decode cX1_addGutter 11 = .ok (.pop, 1) := dk_87 (dk_at dksX1_addGutter_0 11 rfl rfl)
theorem dX1_addGutter_12 : decode cX1_addGutter 12 = .ok (.iload_n 1, 1) := dk_27 (dk_at dksX1_addGutter_0 12 rfl rfl)
theorem dX1_addGutter_13 : decode cX1_addGutter 13 = .ok (.iload_n 2, 1) := dk_28 (dk_at dksX1_addGutter_0 13 rfl rfl)
theorem dX1_addGutter_14 : decode cX1_addGutter 14 = .ok (.if_icmp .eq 7, 3) := dk_159 0 7 (dk_at dksX1_addGutter_0 14 rfl rfl)
theorem dX1_addGutter_17 : decode cX1_addGutter 17 = .ok (.iconst 1, 1) := dk_4 (dk_at dksX1_addGutter_0 17 rfl rfl)
theorem dX1_addGutter_18 : decode cX1_addGutter 18 = .ok (.goto 4, 3) := dk_167 0 4 (dk_at dksX1_addGutter_0 18 rfl rfl)
theorem dX1_addGutter_21 : decode cX1_addGutter 21 = .ok (.iconst 0, 1) := dk_3 (dk_at dksX1_addGutter_0 21 rfl rfl)
theorem dX1_addGutter_22 : decode cX1_addGutter 22 = .ok (.invokestatic 87, 3) := dk_184 0 87 (dk_at dksX1_addGutter_1 0 rfl rfl)
theorem dX1_addGutter_25 : decode cX1_addGutter 25 = .ok (.iload_n 3, 1) := dk_29 (dk_at dksX1_addGutter_1 3 rfl rfl)
theorem dX1_addGutter_26 : decode cX1_addGutter 26 = .ok (.iconst 1, 1) := dk_4 (dk_at dksX1_addGutter_1 4 rfl rfl)
theorem dX1_addGutter_27 : decode cX1_addGutter 27 = .ok (.bipush 9, 2) := dk_16 9 (dk_at dksX1_addGutter_1 5 rfl rfl)
theorem dX1_addGutter_29 : decode cX1_addGutter 29 = .ok (.invokestatic 95, 3) := dk_184 0 95 (dk_at dksX1_addGutter_1 7 rfl rfl)
theorem dX1_addGutter_32 : decode cX1_addGutter 32 = .ok (.aload_n 0, 1) := dk_42 (dk_at dksX1_addGutter_1 10 rfl rfl)
theorem dX1_addGutter_33 : decode cX1_addGutter 33 = .ok (.getfield 44, 3) := dk_180 0 44 (dk_at dksX1_addGutter_1 11 rfl rfl)
theorem dX1_addGutter_36 : decode cX1_addGutter 36 = .ok (.getfield 75, 3) := dk_180 0 75 (dk_at dksX1_addGutter_1 14 rfl rfl)
theorem dX1_addGutter_39 : decode cX1_addGutter 39 = .ok (.invokeinterface 62 1, 5) := by decide +kernel
theorem dX1_addGutter_44 : decode cX1_addGutter 44 = .ok (.bipush 20, 2) := dk_16 20 (dk_at dksX1_addGutter_1 22 rfl rfl)
theorem dX1_addGutter_46 : decode cX1_addGutter 46 = .ok (.if_icmp .ge 7, 3) := dk_162 0 7 (dk_at dksX1_addGutter_2 0 rfl rfl)
theorem dX1_addGutter_49 : decode cX1_addGutter 49 = .ok (.iconst 1, 1) := dk_4 (dk_at dksX1_addGutter_2 3 rfl rfl)
theorem dX1_addGutter_50 : decode cX1_addGutter 50 = .ok (.goto 4, 3) := dk_167 0 4 (dk_at dksX1_addGutter_2 4 rfl rfl)
theorem dX1_addGutter_53 : decode cX1_addGutter 53 = .ok (.iconst 0, 1) := dk_3 (dk_at dksX1_addGutter_2 7 rfl rfl)
theorem dX1_addGutter_54 : decode cX1_addGutter 54 = .ok (.invokestatic 142, 3) := dk_184 0 142 (dk_at dksX1_addGutter_2 8 rfl rfl)
theorem dX1_addGutter_57 : decode cX1_addGutter 57 = .ok (.aload_n 0, 1) := dk_42 (dk_at dksX1_addGutter_2 11 rfl rfl)
theorem dX1_addGutter_58 : decode cX1_addGutter 58 = .ok (.invokevirtual 130, 3) := dk_182 0 130 (dk_at dksX1_addGutter_2 12 rfl rfl)
theorem dX1_addGutter_61 : decode cX1_addGutter 61 = .ok (.aload_n 0, 1) := dk_42 (dk_at dksX1_addGutter_2 15 rfl rfl)
theorem dX1_addGutter_62 : decode cX1_addGutter 62 = .ok (.getfield 44, 3) := dk_180 0 44 (dk_at dksX1_addGutter_2 16 rfl rfl)
theorem dX1_addGutter_65 : decode cX1_addGutter 65 = .ok (.getfield 75, 3) := dk_180 0 75 (dk_at dksX1_addGutter_2 19 rfl rfl)
theorem dX1_addGutter_68 : decode cX1_addGutter 68 = .ok (.new 82, 3) := dk_187 0 82 (dk_at dksX1_addGutter_3 0 rfl rfl)
theorem dX1_addGutter_71 : decode cX1_addGutter 71 = .ok (.dup, 1) := dk_89 (dk_at dksX1_addGutter_3 3 rfl rfl)
theorem dX1_addGutter_72 : decode cX1_addGutter 72 = .ok (.iload_n 1, 1) := dk_27 (dk_at dksX1_addGutter_3 4 rfl rfl)
theorem dX1_addGutter_73 : decode cX1_addGutter 73 = .ok (.iload_n 2, 1) := dk_28 (dk_at dksX1_addGutter_3 5 rfl rfl)
theorem dX1_addGutter_74 : decode cX1_addGutter 74 = .ok (.iload_n 3, 1) := dk_29 (dk_at dksX1_addGutter_3 6 rfl rfl)
theorem dX1_addGutter_75 : decode cX1_addGutter 75 = .ok (.invokespecial 156, 3) := dk_183 0 156 (dk_at dksX1_addGutter_3 7 rfl rfl)
theorem dX1_addGutter_78 : decode cX1_addGutter 78 = .ok (.invokeinterface 149 2, 5) := by decide +kernel
theorem dX1_addGutter_83 : decode cX1_addGutter 83 = .ok (.pop, 1) := dk_87 (dk_at dksX1_addGutter_3 15 rfl rfl)
theorem dX1_addGutter_84 : decode cX1_addGutter 84 = .ok (.aload_n 0, 1) := dk_42 (dk_at dksX1_addGutter_3 16 rfl rfl)
theorem dX1_addGutter_85 : decode cX1_addGutter 85 = .ok (.getfield 44, 3) := dk_180 0 44 (dk_at dksX1_addGutter_3 17 rfl rfl)
theorem dX1_addGutter_88 : decode cX1_addGutter 88 = .ok (.getfield 75, 3) := dk_180 0 75 (dk_at dksX1_addGutter_3 20 rfl rfl)
theorem dX1_addGutter_91 : decode cX1_addGutter 91 = .ok (.invokeinterface 62 1, 5) := by decide +kernel
theorem dX1_addGutter_96 : decode cX1_addGutter 96 = .ok (.iconst 1, 1) := dk_4 (dk_at dksX1_addGutter_4 5 rfl rfl)
theorem dX1_addGutter_97 : decode cX1_addGutter 97 = .ok (.isub, 1) := dk_100 (dk_at dksX1_addGutter_4 6 rfl rfl)
theorem dX1_addGutter_98 : decode cX1_addGutter 98 = .ok (.ireturn, 1) := dk_172 (dk_at dksX1_addGutter_4 7 rfl rfl)
abbrev cX1_chimney : ByteArray := prog_1_method_3_code
def yX1_chimney : MethodName := ⟨RX1, "chimney", "(I)I"⟩
def dkwX1_chimney_0 : List UInt8 := [27, 42, 180, 0, 44, 180, 0, 56, 185, 0, 62, 1, 0, 184, 0, 68, 172]
abbrev dktX1_chimney_0 : List UInt8 := dkwX1_chimney_0 ++ []
theorem dksX1_chimney_0 : cX1_chimney.data.toList.drop 0 = dktX1_chimney_0 := by decide +kernel
theorem dX1_chimney_0 : decode cX1_chimney 0 = .ok (.iload_n 1, 1) := dk_27 (dk_at dksX1_chimney_0 0 rfl rfl)
theorem dX1_chimney_1 : decode cX1_chimney 1 = .ok (.aload_n 0, 1) := dk_42 (dk_at dksX1_chimney_0 1 rfl rfl)
theorem dX1_chimney_2 : decode cX1_chimney 2 = .ok (.getfield 44, 3) := dk_180 0 44 (dk_at dksX1_chimney_0 2 rfl rfl)
theorem dX1_chimney_5 : decode cX1_chimney 5 = .ok (.getfield 56, 3) := dk_180 0 56 (dk_at dksX1_chimney_0 5 rfl rfl)
theorem dX1_chimney_8 : decode cX1_chimney 8 = .ok (.invokeinterface 62 1, 5) := by decide +kernel
theorem dX1_chimney_13 : decode cX1_chimney 13 = .ok (.invokestatic 68, 3) := dk_184 0 68 (dk_at dksX1_chimney_0 13 rfl rfl)
theorem dX1_chimney_16 : decode cX1_chimney 16 = .ok (.ireturn, 1) := dk_172 (dk_at dksX1_chimney_0 16 rfl rfl)
abbrev cX1_checked : ByteArray := prog_1_method_2_code
def yX1_checked : MethodName := ⟨RX1, "checked", "(II)I"⟩
def dkwX1_checked_0 : List UInt8 := [26, 155, 0, 8, 26, 27, 161, 0, 11, 187, 0, 53, 89, 183, 0, 55, 191, 26, 172]
abbrev dktX1_checked_0 : List UInt8 := dkwX1_checked_0 ++ []
theorem dksX1_checked_0 : cX1_checked.data.toList.drop 0 = dktX1_checked_0 := by decide +kernel
theorem dX1_checked_0 : decode cX1_checked 0 = .ok (.iload_n 0, 1) := dk_26 (dk_at dksX1_checked_0 0 rfl rfl)
theorem dX1_checked_1 : decode cX1_checked 1 = .ok (.ifCond .lt 8, 3) := dk_155 0 8 (dk_at dksX1_checked_0 1 rfl rfl)
theorem dX1_checked_4 : decode cX1_checked 4 = .ok (.iload_n 0, 1) := dk_26 (dk_at dksX1_checked_0 4 rfl rfl)
theorem dX1_checked_5 : decode cX1_checked 5 = .ok (.iload_n 1, 1) := dk_27 (dk_at dksX1_checked_0 5 rfl rfl)
theorem dX1_checked_6 : decode cX1_checked 6 = .ok (.if_icmp .lt 11, 3) := dk_161 0 11 (dk_at dksX1_checked_0 6 rfl rfl)
theorem dX1_checked_9 : decode cX1_checked 9 = .ok (.new 53, 3) := dk_187 0 53 (dk_at dksX1_checked_0 9 rfl rfl)
theorem dX1_checked_12 : decode cX1_checked 12 = .ok (.dup, 1) := dk_89 (dk_at dksX1_checked_0 12 rfl rfl)
theorem dX1_checked_13 : decode cX1_checked 13 = .ok (.invokespecial 55, 3) := dk_183 0 55 (dk_at dksX1_checked_0 13 rfl rfl)
theorem dX1_checked_16 : decode cX1_checked 16 = .ok (.athrow, 1) := dk_191 (dk_at dksX1_checked_0 16 rfl rfl)
theorem dX1_checked_17 : decode cX1_checked 17 = .ok (.iload_n 0, 1) := dk_26 (dk_at dksX1_checked_0 17 rfl rfl)
theorem dX1_checked_18 : decode cX1_checked 18 = .ok (.ireturn, 1) := dk_172 (dk_at dksX1_checked_0 18 rfl rfl)
abbrev cX1_addCat : ByteArray := prog_1_method_18_code
def yX1_addCat : MethodName := ⟨RX1, "addCat", "(III)I"⟩
def dkwX1_addCat_3 : List UInt8 := [185, 0, 149, 2, 0, 87, 42, 180, 0, 44, 180, 0, 72, 185, 0, 62, 1, 0, 4, 100, 172]
abbrev dktX1_addCat_3 : List UInt8 := dkwX1_addCat_3 ++ []
def dkwX1_addCat_2 : List UInt8 := [184, 0, 142, 42, 182, 0, 130, 42, 180, 0, 44, 180, 0, 72, 187, 0, 165, 89, 27, 28, 29, 183, 0, 167]
abbrev dktX1_addCat_2 : List UInt8 := dkwX1_addCat_2 ++ dktX1_addCat_3
def dkwX1_addCat_1 : List UInt8 := [16, 8, 162, 0, 19, 42, 180, 0, 44, 27, 182, 0, 162, 2, 160, 0, 7, 4, 167, 0, 4, 3]
abbrev dktX1_addCat_1 : List UInt8 := dkwX1_addCat_1 ++ dktX1_addCat_2
def dkwX1_addCat_0 : List UInt8 := [42, 27, 182, 0, 153, 87, 28, 29, 184, 0, 158, 42, 180, 0, 44, 180, 0, 72, 185, 0, 62, 1, 0]
abbrev dktX1_addCat_0 : List UInt8 := dkwX1_addCat_0 ++ dktX1_addCat_1
theorem dksX1_addCat_0 : cX1_addCat.data.toList.drop 0 = dktX1_addCat_0 := by decide +kernel
theorem dksX1_addCat_1 : cX1_addCat.data.toList.drop 23 = dktX1_addCat_1 := dk_seg dksX1_addCat_0 23 rfl rfl
theorem dksX1_addCat_2 : cX1_addCat.data.toList.drop 45 = dktX1_addCat_2 := dk_seg dksX1_addCat_1 22 rfl rfl
theorem dksX1_addCat_3 : cX1_addCat.data.toList.drop 69 = dktX1_addCat_3 := dk_seg dksX1_addCat_2 24 rfl rfl
theorem dX1_addCat_0 : decode cX1_addCat 0 = .ok (.aload_n 0, 1) := dk_42 (dk_at dksX1_addCat_0 0 rfl rfl)
theorem dX1_addCat_1 : decode cX1_addCat 1 = .ok (.iload_n 1, 1) := dk_27 (dk_at dksX1_addCat_0 1 rfl rfl)
theorem dX1_addCat_2 : decode cX1_addCat 2 = .ok (.invokevirtual 153, 3) := dk_182 0 153 (dk_at dksX1_addCat_0 2 rfl rfl)
theorem dX1_addCat_5 : decode cX1_addCat 5 = .ok (.pop, 1) := dk_87 (dk_at dksX1_addCat_0 5 rfl rfl)
theorem dX1_addCat_6 : decode cX1_addCat 6 = .ok (.iload_n 2, 1) := dk_28 (dk_at dksX1_addCat_0 6 rfl rfl)
theorem dX1_addCat_7 : decode cX1_addCat 7 = .ok (.iload_n 3, 1) := dk_29 (dk_at dksX1_addCat_0 7 rfl rfl)
theorem dX1_addCat_8 : decode cX1_addCat 8 = .ok (.invokestatic 158, 3) := dk_184 0 158 (dk_at dksX1_addCat_0 8 rfl rfl)
theorem dX1_addCat_11 : decode cX1_addCat 11 = .ok (.aload_n 0, 1) := dk_42 (dk_at dksX1_addCat_0 11 rfl rfl)
theorem dX1_addCat_12 : decode cX1_addCat 12 = .ok (.getfield 44, 3) := dk_180 0 44 (dk_at dksX1_addCat_0 12 rfl rfl)
theorem dX1_addCat_15 : decode cX1_addCat 15 = .ok (.getfield 72, 3) := dk_180 0 72 (dk_at dksX1_addCat_0 15 rfl rfl)
theorem dX1_addCat_18 : decode cX1_addCat 18 = .ok (.invokeinterface 62 1, 5) := by decide +kernel
theorem dX1_addCat_23 : decode cX1_addCat 23 = .ok (.bipush 8, 2) := dk_16 8 (dk_at dksX1_addCat_1 0 rfl rfl)
theorem dX1_addCat_25 : decode cX1_addCat 25 = .ok (.if_icmp .ge 19, 3) := dk_162 0 19 (dk_at dksX1_addCat_1 2 rfl rfl)
theorem dX1_addCat_28 : decode cX1_addCat 28 = .ok (.aload_n 0, 1) := dk_42 (dk_at dksX1_addCat_1 5 rfl rfl)
theorem dX1_addCat_29 : decode cX1_addCat 29 = .ok (.getfield 44, 3) := dk_180 0 44 (dk_at dksX1_addCat_1 6 rfl rfl)
theorem dX1_addCat_32 : decode cX1_addCat 32 = .ok (.iload_n 1, 1) := dk_27 (dk_at dksX1_addCat_1 9 rfl rfl)
theorem dX1_addCat_33 : decode cX1_addCat 33 = .ok (.invokevirtual 162, 3) := dk_182 0 162 (dk_at dksX1_addCat_1 10 rfl rfl)
theorem dX1_addCat_36 : decode cX1_addCat 36 = .ok (.iconst (-1), 1) := dk_2 (dk_at dksX1_addCat_1 13 rfl rfl)
theorem dX1_addCat_37 : decode cX1_addCat 37 = .ok (.if_icmp .ne 7, 3) := dk_160 0 7 (dk_at dksX1_addCat_1 14 rfl rfl)
theorem dX1_addCat_40 : decode cX1_addCat 40 = .ok (.iconst 1, 1) := dk_4 (dk_at dksX1_addCat_1 17 rfl rfl)
theorem dX1_addCat_41 : decode cX1_addCat 41 = .ok (.goto 4, 3) := dk_167 0 4 (dk_at dksX1_addCat_1 18 rfl rfl)
theorem dX1_addCat_44 : decode cX1_addCat 44 = .ok (.iconst 0, 1) := dk_3 (dk_at dksX1_addCat_1 21 rfl rfl)
theorem dX1_addCat_45 : decode cX1_addCat 45 = .ok (.invokestatic 142, 3) := dk_184 0 142 (dk_at dksX1_addCat_2 0 rfl rfl)
theorem dX1_addCat_48 : decode cX1_addCat 48 = .ok (.aload_n 0, 1) := dk_42 (dk_at dksX1_addCat_2 3 rfl rfl)
theorem dX1_addCat_49 : decode cX1_addCat 49 = .ok (.invokevirtual 130, 3) := dk_182 0 130 (dk_at dksX1_addCat_2 4 rfl rfl)
theorem dX1_addCat_52 : decode cX1_addCat 52 = .ok (.aload_n 0, 1) := dk_42 (dk_at dksX1_addCat_2 7 rfl rfl)
theorem dX1_addCat_53 : decode cX1_addCat 53 = .ok (.getfield 44, 3) := dk_180 0 44 (dk_at dksX1_addCat_2 8 rfl rfl)
theorem dX1_addCat_56 : decode cX1_addCat 56 = .ok (.getfield 72, 3) := dk_180 0 72 (dk_at dksX1_addCat_2 11 rfl rfl)
theorem dX1_addCat_59 : decode cX1_addCat 59 = .ok (.new 165, 3) := dk_187 0 165 (dk_at dksX1_addCat_2 14 rfl rfl)
theorem dX1_addCat_62 : decode cX1_addCat 62 = .ok (.dup, 1) := dk_89 (dk_at dksX1_addCat_2 17 rfl rfl)
theorem dX1_addCat_63 : decode cX1_addCat 63 = .ok (.iload_n 1, 1) := dk_27 (dk_at dksX1_addCat_2 18 rfl rfl)
theorem dX1_addCat_64 : decode cX1_addCat 64 = .ok (.iload_n 2, 1) := dk_28 (dk_at dksX1_addCat_2 19 rfl rfl)
theorem dX1_addCat_65 : decode cX1_addCat 65 = .ok (.iload_n 3, 1) := dk_29 (dk_at dksX1_addCat_2 20 rfl rfl)
theorem dX1_addCat_66 : decode cX1_addCat 66 = .ok (.invokespecial 167, 3) := dk_183 0 167 (dk_at dksX1_addCat_2 21 rfl rfl)
theorem dX1_addCat_69 : decode cX1_addCat 69 = .ok (.invokeinterface 149 2, 5) := by decide +kernel
theorem dX1_addCat_74 : decode cX1_addCat 74 = .ok (.pop, 1) := dk_87 (dk_at dksX1_addCat_3 5 rfl rfl)
theorem dX1_addCat_75 : decode cX1_addCat 75 = .ok (.aload_n 0, 1) := dk_42 (dk_at dksX1_addCat_3 6 rfl rfl)
theorem dX1_addCat_76 : decode cX1_addCat 76 = .ok (.getfield 44, 3) := dk_180 0 44 (dk_at dksX1_addCat_3 7 rfl rfl)
theorem dX1_addCat_79 : decode cX1_addCat 79 = .ok (.getfield 72, 3) := dk_180 0 72 (dk_at dksX1_addCat_3 10 rfl rfl)
theorem dX1_addCat_82 : decode cX1_addCat 82 = .ok (.invokeinterface 62 1, 5) := by decide +kernel
theorem dX1_addCat_87 : decode cX1_addCat 87 = .ok (.iconst 1, 1) := dk_4 (dk_at dksX1_addCat_3 18 rfl rfl)
theorem dX1_addCat_88 : decode cX1_addCat 88 = .ok (.isub, 1) := dk_100 (dk_at dksX1_addCat_3 19 rfl rfl)
theorem dX1_addCat_89 : decode cX1_addCat 89 = .ok (.ireturn, 1) := dk_172 (dk_at dksX1_addCat_3 20 rfl rfl)
abbrev cX1_checkBody : ByteArray := prog_1_method_10_code
def yX1_checkBody : MethodName := ⟨RX1, "checkBody", "(II)V"⟩
def dkwX1_checkBody_0 : List UInt8 := [26, 4, 16, 9, 184, 0, 95, 27, 4, 16, 9, 184, 0, 95, 177]
abbrev dktX1_checkBody_0 : List UInt8 := dkwX1_checkBody_0 ++ []
theorem dksX1_checkBody_0 : cX1_checkBody.data.toList.drop 0 = dktX1_checkBody_0 := by decide +kernel
theorem dX1_checkBody_0 : decode cX1_checkBody 0 = .ok (.iload_n 0, 1) := dk_26 (dk_at dksX1_checkBody_0 0 rfl rfl)
theorem dX1_checkBody_1 : decode cX1_checkBody 1 = .ok (.iconst 1, 1) := dk_4 (dk_at dksX1_checkBody_0 1 rfl rfl)
theorem dX1_checkBody_2 : decode cX1_checkBody 2 = .ok (.bipush 9, 2) := dk_16 9 (dk_at dksX1_checkBody_0 2 rfl rfl)
theorem dX1_checkBody_4 : decode cX1_checkBody 4 = .ok (.invokestatic 95, 3) := dk_184 0 95 (dk_at dksX1_checkBody_0 4 rfl rfl)
theorem dX1_checkBody_7 : decode cX1_checkBody 7 = .ok (.iload_n 1, 1) := dk_27 (dk_at dksX1_checkBody_0 7 rfl rfl)
theorem dX1_checkBody_8 : decode cX1_checkBody 8 = .ok (.iconst 1, 1) := dk_4 (dk_at dksX1_checkBody_0 8 rfl rfl)
theorem dX1_checkBody_9 : decode cX1_checkBody 9 = .ok (.bipush 9, 2) := dk_16 9 (dk_at dksX1_checkBody_0 9 rfl rfl)
theorem dX1_checkBody_11 : decode cX1_checkBody 11 = .ok (.invokestatic 95, 3) := dk_184 0 95 (dk_at dksX1_checkBody_0 11 rfl rfl)
theorem dX1_checkBody_14 : decode cX1_checkBody 14 = .ok (.return_, 1) := dk_177 (dk_at dksX1_checkBody_0 14 rfl rfl)
abbrev cX1_step : ByteArray := prog_1_method_19_code
def yX1_step : MethodName := ⟨RX1, "step", "(II)I"⟩
def dkwX1_step_1 : List UInt8 := [180, 0, 44, 27, 28, 182, 0, 171, 172]
abbrev dktX1_step_1 : List UInt8 := dkwX1_step_1 ++ []
def dkwX1_step_0 : List UInt8 := [42, 27, 28, 182, 0, 168, 154, 0, 7, 4, 167, 0, 4, 3, 184, 0, 142, 42, 182, 0, 130, 42]
abbrev dktX1_step_0 : List UInt8 := dkwX1_step_0 ++ dktX1_step_1
theorem dksX1_step_0 : cX1_step.data.toList.drop 0 = dktX1_step_0 := by decide +kernel
theorem dksX1_step_1 : cX1_step.data.toList.drop 22 = dktX1_step_1 := dk_seg dksX1_step_0 22 rfl rfl
theorem dX1_step_0 : decode cX1_step 0 = .ok (.aload_n 0, 1) := dk_42 (dk_at dksX1_step_0 0 rfl rfl)
theorem dX1_step_1 : decode cX1_step 1 = .ok (.iload_n 1, 1) := dk_27 (dk_at dksX1_step_0 1 rfl rfl)
theorem dX1_step_2 : decode cX1_step 2 = .ok (.iload_n 2, 1) := dk_28 (dk_at dksX1_step_0 2 rfl rfl)
theorem dX1_step_3 : decode cX1_step 3 = .ok (.invokevirtual 168, 3) := dk_182 0 168 (dk_at dksX1_step_0 3 rfl rfl)
theorem dX1_step_6 : decode cX1_step 6 = .ok (.ifCond .ne 7, 3) := dk_154 0 7 (dk_at dksX1_step_0 6 rfl rfl)
theorem dX1_step_9 : decode cX1_step 9 = .ok (.iconst 1, 1) := dk_4 (dk_at dksX1_step_0 9 rfl rfl)
theorem dX1_step_10 : decode cX1_step 10 = .ok (.goto 4, 3) := dk_167 0 4 (dk_at dksX1_step_0 10 rfl rfl)
theorem dX1_step_13 : decode cX1_step 13 = .ok (.iconst 0, 1) := dk_3 (dk_at dksX1_step_0 13 rfl rfl)
theorem dX1_step_14 : decode cX1_step 14 = .ok (.invokestatic 142, 3) := dk_184 0 142 (dk_at dksX1_step_0 14 rfl rfl)
theorem dX1_step_17 : decode cX1_step 17 = .ok (.aload_n 0, 1) := dk_42 (dk_at dksX1_step_0 17 rfl rfl)
theorem dX1_step_18 : decode cX1_step 18 = .ok (.invokevirtual 130, 3) := dk_182 0 130 (dk_at dksX1_step_0 18 rfl rfl)
theorem dX1_step_21 : decode cX1_step 21 = .ok (.aload_n 0, 1) := dk_42 (dk_at dksX1_step_0 21 rfl rfl)
theorem dX1_step_22 : decode cX1_step 22 = .ok (.getfield 44, 3) := dk_180 0 44 (dk_at dksX1_step_1 0 rfl rfl)
theorem dX1_step_25 : decode cX1_step 25 = .ok (.iload_n 1, 1) := dk_27 (dk_at dksX1_step_1 3 rfl rfl)
theorem dX1_step_26 : decode cX1_step 26 = .ok (.iload_n 2, 1) := dk_28 (dk_at dksX1_step_1 4 rfl rfl)
theorem dX1_step_27 : decode cX1_step 27 = .ok (.invokevirtual 171, 3) := dk_182 0 171 (dk_at dksX1_step_1 5 rfl rfl)
theorem dX1_step_30 : decode cX1_step 30 = .ok (.ireturn, 1) := dk_172 (dk_at dksX1_step_1 8 rfl rfl)
abbrev cX1_whyNoStep : ByteArray := prog_1_method_54_code
def yX1_whyNoStep : MethodName := ⟨RX1, "whyNoStep", "(II)I"⟩
def dkwX1_whyNoStep_1 : List UInt8 := [184, 0, 68, 182, 1, 31, 172]
abbrev dktX1_whyNoStep_1 : List UInt8 := dkwX1_whyNoStep_1 ++ []
def dkwX1_whyNoStep_0 : List UInt8 := [42, 27, 182, 0, 91, 87, 42, 180, 0, 44, 27, 28, 42, 180, 0, 44, 180, 0, 75, 185, 0, 62, 1, 0]
abbrev dktX1_whyNoStep_0 : List UInt8 := dkwX1_whyNoStep_0 ++ dktX1_whyNoStep_1
theorem dksX1_whyNoStep_0 : cX1_whyNoStep.data.toList.drop 0 = dktX1_whyNoStep_0 := by decide +kernel
theorem dksX1_whyNoStep_1 : cX1_whyNoStep.data.toList.drop 24 = dktX1_whyNoStep_1 := dk_seg dksX1_whyNoStep_0 24 rfl rfl
theorem dX1_whyNoStep_0 : decode cX1_whyNoStep 0 = .ok (.aload_n 0, 1) := dk_42 (dk_at dksX1_whyNoStep_0 0 rfl rfl)
theorem dX1_whyNoStep_1 : decode cX1_whyNoStep 1 = .ok (.iload_n 1, 1) := dk_27 (dk_at dksX1_whyNoStep_0 1 rfl rfl)
theorem dX1_whyNoStep_2 : decode cX1_whyNoStep 2 = .ok (.invokevirtual 91, 3) := dk_182 0 91 (dk_at dksX1_whyNoStep_0 2 rfl rfl)
theorem dX1_whyNoStep_5 : decode cX1_whyNoStep 5 = .ok (.pop, 1) := dk_87 (dk_at dksX1_whyNoStep_0 5 rfl rfl)
theorem dX1_whyNoStep_6 : decode cX1_whyNoStep 6 = .ok (.aload_n 0, 1) := dk_42 (dk_at dksX1_whyNoStep_0 6 rfl rfl)
theorem dX1_whyNoStep_7 : decode cX1_whyNoStep 7 = .ok (.getfield 44, 3) := dk_180 0 44 (dk_at dksX1_whyNoStep_0 7 rfl rfl)
theorem dX1_whyNoStep_10 : decode cX1_whyNoStep 10 = .ok (.iload_n 1, 1) := dk_27 (dk_at dksX1_whyNoStep_0 10 rfl rfl)
theorem dX1_whyNoStep_11 : decode cX1_whyNoStep 11 = .ok (.iload_n 2, 1) := dk_28 (dk_at dksX1_whyNoStep_0 11 rfl rfl)
theorem dX1_whyNoStep_12 : decode cX1_whyNoStep 12 = .ok (.aload_n 0, 1) := dk_42 (dk_at dksX1_whyNoStep_0 12 rfl rfl)
theorem dX1_whyNoStep_13 : decode cX1_whyNoStep 13 = .ok (.getfield 44, 3) := dk_180 0 44 (dk_at dksX1_whyNoStep_0 13 rfl rfl)
theorem dX1_whyNoStep_16 : decode cX1_whyNoStep 16 = .ok (.getfield 75, 3) := dk_180 0 75 (dk_at dksX1_whyNoStep_0 16 rfl rfl)
theorem dX1_whyNoStep_19 : decode cX1_whyNoStep 19 = .ok (.invokeinterface 62 1, 5) := by decide +kernel
theorem dX1_whyNoStep_24 : decode cX1_whyNoStep 24 = .ok (.invokestatic 68, 3) := dk_184 0 68 (dk_at dksX1_whyNoStep_1 0 rfl rfl)
theorem dX1_whyNoStep_27 : decode cX1_whyNoStep 27 = .ok (.invokevirtual 287, 3) := dk_182 1 31 (dk_at dksX1_whyNoStep_1 3 rfl rfl)
theorem dX1_whyNoStep_30 : decode cX1_whyNoStep 30 = .ok (.ireturn, 1) := dk_172 (dk_at dksX1_whyNoStep_1 6 rfl rfl)
abbrev cX1_cat : ByteArray := prog_1_method_4_code
def yX1_cat : MethodName := ⟨RX1, "cat", "(I)I"⟩
def dkwX1_cat_0 : List UInt8 := [27, 42, 180, 0, 44, 180, 0, 72, 185, 0, 62, 1, 0, 184, 0, 68, 172]
abbrev dktX1_cat_0 : List UInt8 := dkwX1_cat_0 ++ []
theorem dksX1_cat_0 : cX1_cat.data.toList.drop 0 = dktX1_cat_0 := by decide +kernel
theorem dX1_cat_0 : decode cX1_cat 0 = .ok (.iload_n 1, 1) := dk_27 (dk_at dksX1_cat_0 0 rfl rfl)
theorem dX1_cat_1 : decode cX1_cat 1 = .ok (.aload_n 0, 1) := dk_42 (dk_at dksX1_cat_0 1 rfl rfl)
theorem dX1_cat_2 : decode cX1_cat 2 = .ok (.getfield 44, 3) := dk_180 0 44 (dk_at dksX1_cat_0 2 rfl rfl)
theorem dX1_cat_5 : decode cX1_cat 5 = .ok (.getfield 72, 3) := dk_180 0 72 (dk_at dksX1_cat_0 5 rfl rfl)
theorem dX1_cat_8 : decode cX1_cat 8 = .ok (.invokeinterface 62 1, 5) := by decide +kernel
theorem dX1_cat_13 : decode cX1_cat 13 = .ok (.invokestatic 68, 3) := dk_184 0 68 (dk_at dksX1_cat_0 13 rfl rfl)
theorem dX1_cat_16 : decode cX1_cat 16 = .ok (.ireturn, 1) := dk_172 (dk_at dksX1_cat_0 16 rfl rfl)
abbrev cX1_claim : ByteArray := prog_1_method_20_code
def yX1_claim : MethodName := ⟨RX1, "claim", "(I)I"⟩
def dkwX1_claim_1 : List UInt8 := [27, 182, 0, 177, 172]
abbrev dktX1_claim_1 : List UInt8 := dkwX1_claim_1 ++ []
def dkwX1_claim_0 : List UInt8 := [42, 27, 182, 0, 174, 154, 0, 7, 4, 167, 0, 4, 3, 184, 0, 142, 42, 182, 0, 130, 42, 180, 0, 44]
abbrev dktX1_claim_0 : List UInt8 := dkwX1_claim_0 ++ dktX1_claim_1
theorem dksX1_claim_0 : cX1_claim.data.toList.drop 0 = dktX1_claim_0 := by decide +kernel
theorem dksX1_claim_1 : cX1_claim.data.toList.drop 24 = dktX1_claim_1 := dk_seg dksX1_claim_0 24 rfl rfl
theorem dX1_claim_0 : decode cX1_claim 0 = .ok (.aload_n 0, 1) := dk_42 (dk_at dksX1_claim_0 0 rfl rfl)
theorem dX1_claim_1 : decode cX1_claim 1 = .ok (.iload_n 1, 1) := dk_27 (dk_at dksX1_claim_0 1 rfl rfl)
theorem dX1_claim_2 : decode cX1_claim 2 = .ok (.invokevirtual 174, 3) := dk_182 0 174 (dk_at dksX1_claim_0 2 rfl rfl)
theorem dX1_claim_5 : decode cX1_claim 5 = .ok (.ifCond .ne 7, 3) := dk_154 0 7 (dk_at dksX1_claim_0 5 rfl rfl)
theorem dX1_claim_8 : decode cX1_claim 8 = .ok (.iconst 1, 1) := dk_4 (dk_at dksX1_claim_0 8 rfl rfl)
theorem dX1_claim_9 : decode cX1_claim 9 = .ok (.goto 4, 3) := dk_167 0 4 (dk_at dksX1_claim_0 9 rfl rfl)
theorem dX1_claim_12 : decode cX1_claim 12 = .ok (.iconst 0, 1) := dk_3 (dk_at dksX1_claim_0 12 rfl rfl)
theorem dX1_claim_13 : decode cX1_claim 13 = .ok (.invokestatic 142, 3) := dk_184 0 142 (dk_at dksX1_claim_0 13 rfl rfl)
theorem dX1_claim_16 : decode cX1_claim 16 = .ok (.aload_n 0, 1) := dk_42 (dk_at dksX1_claim_0 16 rfl rfl)
theorem dX1_claim_17 : decode cX1_claim 17 = .ok (.invokevirtual 130, 3) := dk_182 0 130 (dk_at dksX1_claim_0 17 rfl rfl)
theorem dX1_claim_20 : decode cX1_claim 20 = .ok (.aload_n 0, 1) := dk_42 (dk_at dksX1_claim_0 20 rfl rfl)
theorem dX1_claim_21 : decode cX1_claim 21 = .ok (.getfield 44, 3) := dk_180 0 44 (dk_at dksX1_claim_0 21 rfl rfl)
theorem dX1_claim_24 : decode cX1_claim 24 = .ok (.iload_n 1, 1) := dk_27 (dk_at dksX1_claim_1 0 rfl rfl)
theorem dX1_claim_25 : decode cX1_claim 25 = .ok (.invokevirtual 177, 3) := dk_182 0 177 (dk_at dksX1_claim_1 1 rfl rfl)
theorem dX1_claim_28 : decode cX1_claim 28 = .ok (.ireturn, 1) := dk_172 (dk_at dksX1_claim_1 4 rfl rfl)
abbrev cX1_whyNoClaim : ByteArray := prog_1_method_55_code
def yX1_whyNoClaim : MethodName := ⟨RX1, "whyNoClaim", "(I)I"⟩
def dkwX1_whyNoClaim_0 : List UInt8 := [42, 180, 0, 44, 42, 27, 182, 0, 91, 182, 1, 34, 172]
abbrev dktX1_whyNoClaim_0 : List UInt8 := dkwX1_whyNoClaim_0 ++ []
theorem dksX1_whyNoClaim_0 : cX1_whyNoClaim.data.toList.drop 0 = dktX1_whyNoClaim_0 := by decide +kernel
theorem dX1_whyNoClaim_0 : decode cX1_whyNoClaim 0 = .ok (.aload_n 0, 1) := dk_42 (dk_at dksX1_whyNoClaim_0 0 rfl rfl)
theorem dX1_whyNoClaim_1 : decode cX1_whyNoClaim 1 = .ok (.getfield 44, 3) := dk_180 0 44 (dk_at dksX1_whyNoClaim_0 1 rfl rfl)
theorem dX1_whyNoClaim_4 : decode cX1_whyNoClaim 4 = .ok (.aload_n 0, 1) := dk_42 (dk_at dksX1_whyNoClaim_0 4 rfl rfl)
theorem dX1_whyNoClaim_5 : decode cX1_whyNoClaim 5 = .ok (.iload_n 1, 1) := dk_27 (dk_at dksX1_whyNoClaim_0 5 rfl rfl)
theorem dX1_whyNoClaim_6 : decode cX1_whyNoClaim 6 = .ok (.invokevirtual 91, 3) := dk_182 0 91 (dk_at dksX1_whyNoClaim_0 6 rfl rfl)
theorem dX1_whyNoClaim_9 : decode cX1_whyNoClaim 9 = .ok (.invokevirtual 290, 3) := dk_182 1 34 (dk_at dksX1_whyNoClaim_0 9 rfl rfl)
theorem dX1_whyNoClaim_12 : decode cX1_whyNoClaim 12 = .ok (.ireturn, 1) := dk_172 (dk_at dksX1_whyNoClaim_0 12 rfl rfl)
abbrev cX1_abandon : ByteArray := prog_1_method_21_code
def yX1_abandon : MethodName := ⟨RX1, "abandon", "(I)I"⟩
def dkwX1_abandon_1 : List UInt8 := [180, 0, 44, 180, 0, 56, 27, 185, 0, 78, 2, 0, 192, 0, 145, 2, 181, 0, 183, 28, 172]
abbrev dktX1_abandon_1 : List UInt8 := dkwX1_abandon_1 ++ []
def dkwX1_abandon_0 : List UInt8 := [42, 27, 182, 0, 180, 61, 28, 2, 159, 0, 7, 4, 167, 0, 4, 3, 184, 0, 142, 42, 182, 0, 130, 42]
abbrev dktX1_abandon_0 : List UInt8 := dkwX1_abandon_0 ++ dktX1_abandon_1
theorem dksX1_abandon_0 : cX1_abandon.data.toList.drop 0 = dktX1_abandon_0 := by decide +kernel
theorem dksX1_abandon_1 : cX1_abandon.data.toList.drop 24 = dktX1_abandon_1 := dk_seg dksX1_abandon_0 24 rfl rfl
theorem dX1_abandon_0 : decode cX1_abandon 0 = .ok (.aload_n 0, 1) := dk_42 (dk_at dksX1_abandon_0 0 rfl rfl)
theorem dX1_abandon_1 : decode cX1_abandon 1 = .ok (.iload_n 1, 1) := dk_27 (dk_at dksX1_abandon_0 1 rfl rfl)
theorem dX1_abandon_2 : decode cX1_abandon 2 = .ok (.invokevirtual 180, 3) := dk_182 0 180 (dk_at dksX1_abandon_0 2 rfl rfl)
theorem dX1_abandon_5 : decode cX1_abandon 5 = .ok (.istore_n 2, 1) := dk_61 (dk_at dksX1_abandon_0 5 rfl rfl)
theorem dX1_abandon_6 : decode cX1_abandon 6 = .ok (.iload_n 2, 1) := dk_28 (dk_at dksX1_abandon_0 6 rfl rfl)
theorem dX1_abandon_7 : decode cX1_abandon 7 = .ok (.iconst (-1), 1) := dk_2 (dk_at dksX1_abandon_0 7 rfl rfl)
theorem dX1_abandon_8 : decode cX1_abandon 8 = .ok (.if_icmp .eq 7, 3) := dk_159 0 7 (dk_at dksX1_abandon_0 8 rfl rfl)
theorem dX1_abandon_11 : decode cX1_abandon 11 = .ok (.iconst 1, 1) := dk_4 (dk_at dksX1_abandon_0 11 rfl rfl)
theorem dX1_abandon_12 : decode cX1_abandon 12 = .ok (.goto 4, 3) := dk_167 0 4 (dk_at dksX1_abandon_0 12 rfl rfl)
theorem dX1_abandon_15 : decode cX1_abandon 15 = .ok (.iconst 0, 1) := dk_3 (dk_at dksX1_abandon_0 15 rfl rfl)
theorem dX1_abandon_16 : decode cX1_abandon 16 = .ok (.invokestatic 142, 3) := dk_184 0 142 (dk_at dksX1_abandon_0 16 rfl rfl)
theorem dX1_abandon_19 : decode cX1_abandon 19 = .ok (.aload_n 0, 1) := dk_42 (dk_at dksX1_abandon_0 19 rfl rfl)
theorem dX1_abandon_20 : decode cX1_abandon 20 = .ok (.invokevirtual 130, 3) := dk_182 0 130 (dk_at dksX1_abandon_0 20 rfl rfl)
theorem dX1_abandon_23 : decode cX1_abandon 23 = .ok (.aload_n 0, 1) := dk_42 (dk_at dksX1_abandon_0 23 rfl rfl)
theorem dX1_abandon_24 : decode cX1_abandon 24 = .ok (.getfield 44, 3) := dk_180 0 44 (dk_at dksX1_abandon_1 0 rfl rfl)
theorem dX1_abandon_27 : decode cX1_abandon 27 = .ok (.getfield 56, 3) := dk_180 0 56 (dk_at dksX1_abandon_1 3 rfl rfl)
theorem dX1_abandon_30 : decode cX1_abandon 30 = .ok (.iload_n 1, 1) := dk_27 (dk_at dksX1_abandon_1 6 rfl rfl)
theorem dX1_abandon_31 : decode cX1_abandon 31 = .ok (.invokeinterface 78 2, 5) := by decide +kernel
theorem dX1_abandon_36 : decode cX1_abandon 36 = .ok (.checkcast 145, 3) := dk_192 0 145 (dk_at dksX1_abandon_1 12 rfl rfl)
theorem dX1_abandon_39 : decode cX1_abandon 39 = .ok (.iconst (-1), 1) := dk_2 (dk_at dksX1_abandon_1 15 rfl rfl)
theorem dX1_abandon_40 : decode cX1_abandon 40 = .ok (.putfield 183, 3) := dk_181 0 183 (dk_at dksX1_abandon_1 16 rfl rfl)
theorem dX1_abandon_43 : decode cX1_abandon 43 = .ok (.iload_n 2, 1) := dk_28 (dk_at dksX1_abandon_1 19 rfl rfl)
theorem dX1_abandon_44 : decode cX1_abandon 44 = .ok (.ireturn, 1) := dk_172 (dk_at dksX1_abandon_1 20 rfl rfl)
abbrev cX1_ownerOf : ByteArray := prog_1_method_39_code
def yX1_ownerOf : MethodName := ⟨RX1, "ownerOf", "(I)I"⟩
def dkwX1_ownerOf_0 : List UInt8 := [42, 180, 0, 44, 42, 27, 182, 0, 153, 182, 0, 243, 172]
abbrev dktX1_ownerOf_0 : List UInt8 := dkwX1_ownerOf_0 ++ []
theorem dksX1_ownerOf_0 : cX1_ownerOf.data.toList.drop 0 = dktX1_ownerOf_0 := by decide +kernel
theorem dX1_ownerOf_0 : decode cX1_ownerOf 0 = .ok (.aload_n 0, 1) := dk_42 (dk_at dksX1_ownerOf_0 0 rfl rfl)
theorem dX1_ownerOf_1 : decode cX1_ownerOf 1 = .ok (.getfield 44, 3) := dk_180 0 44 (dk_at dksX1_ownerOf_0 1 rfl rfl)
theorem dX1_ownerOf_4 : decode cX1_ownerOf 4 = .ok (.aload_n 0, 1) := dk_42 (dk_at dksX1_ownerOf_0 4 rfl rfl)
theorem dX1_ownerOf_5 : decode cX1_ownerOf 5 = .ok (.iload_n 1, 1) := dk_27 (dk_at dksX1_ownerOf_0 5 rfl rfl)
theorem dX1_ownerOf_6 : decode cX1_ownerOf 6 = .ok (.invokevirtual 153, 3) := dk_182 0 153 (dk_at dksX1_ownerOf_0 6 rfl rfl)
theorem dX1_ownerOf_9 : decode cX1_ownerOf 9 = .ok (.invokevirtual 243, 3) := dk_182 0 243 (dk_at dksX1_ownerOf_0 9 rfl rfl)
theorem dX1_ownerOf_12 : decode cX1_ownerOf 12 = .ok (.ireturn, 1) := dk_172 (dk_at dksX1_ownerOf_0 12 rfl rfl)
abbrev cX1_chase : ByteArray := prog_1_method_22_code
def yX1_chase : MethodName := ⟨RX1, "chase", "(II)Z"⟩
def dkwX1_chase_1 : List UInt8 := [180, 0, 44, 27, 28, 182, 0, 189, 172]
abbrev dktX1_chase_1 : List UInt8 := dkwX1_chase_1 ++ []
def dkwX1_chase_0 : List UInt8 := [42, 27, 28, 182, 0, 186, 154, 0, 7, 4, 167, 0, 4, 3, 184, 0, 142, 42, 182, 0, 130, 42]
abbrev dktX1_chase_0 : List UInt8 := dkwX1_chase_0 ++ dktX1_chase_1
theorem dksX1_chase_0 : cX1_chase.data.toList.drop 0 = dktX1_chase_0 := by decide +kernel
theorem dksX1_chase_1 : cX1_chase.data.toList.drop 22 = dktX1_chase_1 := dk_seg dksX1_chase_0 22 rfl rfl
theorem dX1_chase_0 : decode cX1_chase 0 = .ok (.aload_n 0, 1) := dk_42 (dk_at dksX1_chase_0 0 rfl rfl)
theorem dX1_chase_1 : decode cX1_chase 1 = .ok (.iload_n 1, 1) := dk_27 (dk_at dksX1_chase_0 1 rfl rfl)
theorem dX1_chase_2 : decode cX1_chase 2 = .ok (.iload_n 2, 1) := dk_28 (dk_at dksX1_chase_0 2 rfl rfl)
theorem dX1_chase_3 : decode cX1_chase 3 = .ok (.invokevirtual 186, 3) := dk_182 0 186 (dk_at dksX1_chase_0 3 rfl rfl)
theorem dX1_chase_6 : decode cX1_chase 6 = .ok (.ifCond .ne 7, 3) := dk_154 0 7 (dk_at dksX1_chase_0 6 rfl rfl)
theorem dX1_chase_9 : decode cX1_chase 9 = .ok (.iconst 1, 1) := dk_4 (dk_at dksX1_chase_0 9 rfl rfl)
theorem dX1_chase_10 : decode cX1_chase 10 = .ok (.goto 4, 3) := dk_167 0 4 (dk_at dksX1_chase_0 10 rfl rfl)
theorem dX1_chase_13 : decode cX1_chase 13 = .ok (.iconst 0, 1) := dk_3 (dk_at dksX1_chase_0 13 rfl rfl)
theorem dX1_chase_14 : decode cX1_chase 14 = .ok (.invokestatic 142, 3) := dk_184 0 142 (dk_at dksX1_chase_0 14 rfl rfl)
theorem dX1_chase_17 : decode cX1_chase 17 = .ok (.aload_n 0, 1) := dk_42 (dk_at dksX1_chase_0 17 rfl rfl)
theorem dX1_chase_18 : decode cX1_chase 18 = .ok (.invokevirtual 130, 3) := dk_182 0 130 (dk_at dksX1_chase_0 18 rfl rfl)
theorem dX1_chase_21 : decode cX1_chase 21 = .ok (.aload_n 0, 1) := dk_42 (dk_at dksX1_chase_0 21 rfl rfl)
theorem dX1_chase_22 : decode cX1_chase 22 = .ok (.getfield 44, 3) := dk_180 0 44 (dk_at dksX1_chase_1 0 rfl rfl)
theorem dX1_chase_25 : decode cX1_chase 25 = .ok (.iload_n 1, 1) := dk_27 (dk_at dksX1_chase_1 3 rfl rfl)
theorem dX1_chase_26 : decode cX1_chase 26 = .ok (.iload_n 2, 1) := dk_28 (dk_at dksX1_chase_1 4 rfl rfl)
theorem dX1_chase_27 : decode cX1_chase 27 = .ok (.invokevirtual 189, 3) := dk_182 0 189 (dk_at dksX1_chase_1 5 rfl rfl)
theorem dX1_chase_30 : decode cX1_chase 30 = .ok (.ireturn, 1) := dk_172 (dk_at dksX1_chase_1 8 rfl rfl)
abbrev cX1_whyNoChase : ByteArray := prog_1_method_56_code
def yX1_whyNoChase : MethodName := ⟨RX1, "whyNoChase", "(II)I"⟩
def dkwX1_whyNoChase_0 : List UInt8 := [42, 27, 28, 182, 0, 193, 42, 180, 0, 44, 27, 28, 182, 1, 37, 172]
abbrev dktX1_whyNoChase_0 : List UInt8 := dkwX1_whyNoChase_0 ++ []
theorem dksX1_whyNoChase_0 : cX1_whyNoChase.data.toList.drop 0 = dktX1_whyNoChase_0 := by decide +kernel
theorem dX1_whyNoChase_0 : decode cX1_whyNoChase 0 = .ok (.aload_n 0, 1) := dk_42 (dk_at dksX1_whyNoChase_0 0 rfl rfl)
theorem dX1_whyNoChase_1 : decode cX1_whyNoChase 1 = .ok (.iload_n 1, 1) := dk_27 (dk_at dksX1_whyNoChase_0 1 rfl rfl)
theorem dX1_whyNoChase_2 : decode cX1_whyNoChase 2 = .ok (.iload_n 2, 1) := dk_28 (dk_at dksX1_whyNoChase_0 2 rfl rfl)
theorem dX1_whyNoChase_3 : decode cX1_whyNoChase 3 = .ok (.invokevirtual 193, 3) := dk_182 0 193 (dk_at dksX1_whyNoChase_0 3 rfl rfl)
theorem dX1_whyNoChase_6 : decode cX1_whyNoChase 6 = .ok (.aload_n 0, 1) := dk_42 (dk_at dksX1_whyNoChase_0 6 rfl rfl)
theorem dX1_whyNoChase_7 : decode cX1_whyNoChase 7 = .ok (.getfield 44, 3) := dk_180 0 44 (dk_at dksX1_whyNoChase_0 7 rfl rfl)
theorem dX1_whyNoChase_10 : decode cX1_whyNoChase 10 = .ok (.iload_n 1, 1) := dk_27 (dk_at dksX1_whyNoChase_0 10 rfl rfl)
theorem dX1_whyNoChase_11 : decode cX1_whyNoChase 11 = .ok (.iload_n 2, 1) := dk_28 (dk_at dksX1_whyNoChase_0 11 rfl rfl)
theorem dX1_whyNoChase_12 : decode cX1_whyNoChase 12 = .ok (.invokevirtual 293, 3) := dk_182 1 37 (dk_at dksX1_whyNoChase_0 12 rfl rfl)
theorem dX1_whyNoChase_15 : decode cX1_whyNoChase 15 = .ok (.ireturn, 1) := dk_172 (dk_at dksX1_whyNoChase_0 15 rfl rfl)
abbrev cX1_checkCats : ByteArray := prog_1_method_9_code
def yX1_checkCats : MethodName := ⟨RX1, "checkCats", "(II)V"⟩
def dkwX1_checkCats_1 : List UInt8 := [184, 0, 87, 177]
abbrev dktX1_checkCats_1 : List UInt8 := dkwX1_checkCats_1 ++ []
def dkwX1_checkCats_0 : List UInt8 := [42, 27, 182, 0, 91, 87, 42, 28, 182, 0, 91, 87, 27, 28, 159, 0, 7, 4, 167, 0, 4, 3]
abbrev dktX1_checkCats_0 : List UInt8 := dkwX1_checkCats_0 ++ dktX1_checkCats_1
theorem dksX1_checkCats_0 : cX1_checkCats.data.toList.drop 0 = dktX1_checkCats_0 := by decide +kernel
theorem dksX1_checkCats_1 : cX1_checkCats.data.toList.drop 22 = dktX1_checkCats_1 := dk_seg dksX1_checkCats_0 22 rfl rfl
theorem dX1_checkCats_0 : decode cX1_checkCats 0 = .ok (.aload_n 0, 1) := dk_42 (dk_at dksX1_checkCats_0 0 rfl rfl)
theorem dX1_checkCats_1 : decode cX1_checkCats 1 = .ok (.iload_n 1, 1) := dk_27 (dk_at dksX1_checkCats_0 1 rfl rfl)
theorem dX1_checkCats_2 : decode cX1_checkCats 2 = .ok (.invokevirtual 91, 3) := dk_182 0 91 (dk_at dksX1_checkCats_0 2 rfl rfl)
theorem dX1_checkCats_5 : decode cX1_checkCats 5 = .ok (.pop, 1) := dk_87 (dk_at dksX1_checkCats_0 5 rfl rfl)
theorem dX1_checkCats_6 : decode cX1_checkCats 6 = .ok (.aload_n 0, 1) := dk_42 (dk_at dksX1_checkCats_0 6 rfl rfl)
theorem dX1_checkCats_7 : decode cX1_checkCats 7 = .ok (.iload_n 2, 1) := dk_28 (dk_at dksX1_checkCats_0 7 rfl rfl)
theorem dX1_checkCats_8 : decode cX1_checkCats 8 = .ok (.invokevirtual 91, 3) := dk_182 0 91 (dk_at dksX1_checkCats_0 8 rfl rfl)
theorem dX1_checkCats_11 : decode cX1_checkCats 11 = .ok (.pop, 1) := dk_87 (dk_at dksX1_checkCats_0 11 rfl rfl)
theorem dX1_checkCats_12 : decode cX1_checkCats 12 = .ok (.iload_n 1, 1) := dk_27 (dk_at dksX1_checkCats_0 12 rfl rfl)
theorem dX1_checkCats_13 : decode cX1_checkCats 13 = .ok (.iload_n 2, 1) := dk_28 (dk_at dksX1_checkCats_0 13 rfl rfl)
theorem dX1_checkCats_14 : decode cX1_checkCats 14 = .ok (.if_icmp .eq 7, 3) := dk_159 0 7 (dk_at dksX1_checkCats_0 14 rfl rfl)
theorem dX1_checkCats_17 : decode cX1_checkCats 17 = .ok (.iconst 1, 1) := dk_4 (dk_at dksX1_checkCats_0 17 rfl rfl)
theorem dX1_checkCats_18 : decode cX1_checkCats 18 = .ok (.goto 4, 3) := dk_167 0 4 (dk_at dksX1_checkCats_0 18 rfl rfl)
theorem dX1_checkCats_21 : decode cX1_checkCats 21 = .ok (.iconst 0, 1) := dk_3 (dk_at dksX1_checkCats_0 21 rfl rfl)
theorem dX1_checkCats_22 : decode cX1_checkCats 22 = .ok (.invokestatic 87, 3) := dk_184 0 87 (dk_at dksX1_checkCats_1 0 rfl rfl)
theorem dX1_checkCats_25 : decode cX1_checkCats 25 = .ok (.return_, 1) := dk_177 (dk_at dksX1_checkCats_1 3 rfl rfl)
abbrev cX1_buyTruce : ByteArray := prog_1_method_23_code
def yX1_buyTruce : MethodName := ⟨RX1, "buyTruce", "(IIII)I"⟩
def dkwX1_buyTruce_2 : List UInt8 := [21, 4, 182, 0, 200, 172]
abbrev dktX1_buyTruce_2 : List UInt8 := dkwX1_buyTruce_2 ++ []
def dkwX1_buyTruce_1 : List UInt8 := [180, 0, 44, 27, 28, 29, 182, 0, 196, 184, 0, 142, 42, 182, 0, 130, 42, 180, 0, 44, 27, 28, 29]
abbrev dktX1_buyTruce_1 : List UInt8 := dkwX1_buyTruce_1 ++ dktX1_buyTruce_2
def dkwX1_buyTruce_0 : List UInt8 := [42, 27, 28, 182, 0, 193, 29, 4, 16, 9, 184, 0, 95, 21, 4, 4, 16, 20, 184, 0, 95, 42]
abbrev dktX1_buyTruce_0 : List UInt8 := dkwX1_buyTruce_0 ++ dktX1_buyTruce_1
theorem dksX1_buyTruce_0 : cX1_buyTruce.data.toList.drop 0 = dktX1_buyTruce_0 := by decide +kernel
theorem dksX1_buyTruce_1 : cX1_buyTruce.data.toList.drop 22 = dktX1_buyTruce_1 := dk_seg dksX1_buyTruce_0 22 rfl rfl
theorem dksX1_buyTruce_2 : cX1_buyTruce.data.toList.drop 45 = dktX1_buyTruce_2 := dk_seg dksX1_buyTruce_1 23 rfl rfl
theorem dX1_buyTruce_0 : decode cX1_buyTruce 0 = .ok (.aload_n 0, 1) := dk_42 (dk_at dksX1_buyTruce_0 0 rfl rfl)
theorem dX1_buyTruce_1 : decode cX1_buyTruce 1 = .ok (.iload_n 1, 1) := dk_27 (dk_at dksX1_buyTruce_0 1 rfl rfl)
theorem dX1_buyTruce_2 : decode cX1_buyTruce 2 = .ok (.iload_n 2, 1) := dk_28 (dk_at dksX1_buyTruce_0 2 rfl rfl)
theorem dX1_buyTruce_3 : decode cX1_buyTruce 3 = .ok (.invokevirtual 193, 3) := dk_182 0 193 (dk_at dksX1_buyTruce_0 3 rfl rfl)
theorem dX1_buyTruce_6 : decode cX1_buyTruce 6 = .ok (.iload_n 3, 1) := dk_29 (dk_at dksX1_buyTruce_0 6 rfl rfl)
theorem dX1_buyTruce_7 : decode cX1_buyTruce 7 = .ok (.iconst 1, 1) := dk_4 (dk_at dksX1_buyTruce_0 7 rfl rfl)
theorem dX1_buyTruce_8 : decode cX1_buyTruce 8 = .ok (.bipush 9, 2) := dk_16 9 (dk_at dksX1_buyTruce_0 8 rfl rfl)
theorem dX1_buyTruce_10 : decode cX1_buyTruce 10 = .ok (.invokestatic 95, 3) := dk_184 0 95 (dk_at dksX1_buyTruce_0 10 rfl rfl)
theorem dX1_buyTruce_13 : decode cX1_buyTruce 13 = .ok (.iload 4, 2) := dk_21 4 (dk_at dksX1_buyTruce_0 13 rfl rfl)
theorem dX1_buyTruce_15 : decode cX1_buyTruce 15 = .ok (.iconst 1, 1) := dk_4 (dk_at dksX1_buyTruce_0 15 rfl rfl)
theorem dX1_buyTruce_16 : decode cX1_buyTruce 16 = .ok (.bipush 20, 2) := dk_16 20 (dk_at dksX1_buyTruce_0 16 rfl rfl)
theorem dX1_buyTruce_18 : decode cX1_buyTruce 18 = .ok (.invokestatic 95, 3) := dk_184 0 95 (dk_at dksX1_buyTruce_0 18 rfl rfl)
theorem dX1_buyTruce_21 : decode cX1_buyTruce 21 = .ok (.aload_n 0, 1) := dk_42 (dk_at dksX1_buyTruce_0 21 rfl rfl)
theorem dX1_buyTruce_22 : decode cX1_buyTruce 22 = .ok (.getfield 44, 3) := dk_180 0 44 (dk_at dksX1_buyTruce_1 0 rfl rfl)
theorem dX1_buyTruce_25 : decode cX1_buyTruce 25 = .ok (.iload_n 1, 1) := dk_27 (dk_at dksX1_buyTruce_1 3 rfl rfl)
theorem dX1_buyTruce_26 : decode cX1_buyTruce 26 = .ok (.iload_n 2, 1) := dk_28 (dk_at dksX1_buyTruce_1 4 rfl rfl)
theorem dX1_buyTruce_27 : decode cX1_buyTruce 27 = .ok (.iload_n 3, 1) := dk_29 (dk_at dksX1_buyTruce_1 5 rfl rfl)
theorem dX1_buyTruce_28 : decode cX1_buyTruce 28 = .ok (.invokevirtual 196, 3) := dk_182 0 196 (dk_at dksX1_buyTruce_1 6 rfl rfl)
theorem dX1_buyTruce_31 : decode cX1_buyTruce 31 = .ok (.invokestatic 142, 3) := dk_184 0 142 (dk_at dksX1_buyTruce_1 9 rfl rfl)
theorem dX1_buyTruce_34 : decode cX1_buyTruce 34 = .ok (.aload_n 0, 1) := dk_42 (dk_at dksX1_buyTruce_1 12 rfl rfl)
theorem dX1_buyTruce_35 : decode cX1_buyTruce 35 = .ok (.invokevirtual 130, 3) := dk_182 0 130 (dk_at dksX1_buyTruce_1 13 rfl rfl)
theorem dX1_buyTruce_38 : decode cX1_buyTruce 38 = .ok (.aload_n 0, 1) := dk_42 (dk_at dksX1_buyTruce_1 16 rfl rfl)
theorem dX1_buyTruce_39 : decode cX1_buyTruce 39 = .ok (.getfield 44, 3) := dk_180 0 44 (dk_at dksX1_buyTruce_1 17 rfl rfl)
theorem dX1_buyTruce_42 : decode cX1_buyTruce 42 = .ok (.iload_n 1, 1) := dk_27 (dk_at dksX1_buyTruce_1 20 rfl rfl)
theorem dX1_buyTruce_43 : decode cX1_buyTruce 43 = .ok (.iload_n 2, 1) := dk_28 (dk_at dksX1_buyTruce_1 21 rfl rfl)
theorem dX1_buyTruce_44 : decode cX1_buyTruce 44 = .ok (.iload_n 3, 1) := dk_29 (dk_at dksX1_buyTruce_1 22 rfl rfl)
theorem dX1_buyTruce_45 : decode cX1_buyTruce 45 = .ok (.iload 4, 2) := dk_21 4 (dk_at dksX1_buyTruce_2 0 rfl rfl)
theorem dX1_buyTruce_47 : decode cX1_buyTruce 47 = .ok (.invokevirtual 200, 3) := dk_182 0 200 (dk_at dksX1_buyTruce_2 2 rfl rfl)
theorem dX1_buyTruce_50 : decode cX1_buyTruce 50 = .ok (.ireturn, 1) := dk_172 (dk_at dksX1_buyTruce_2 5 rfl rfl)
abbrev cX1_nominate : ByteArray := prog_1_method_24_code
def yX1_nominate : MethodName := ⟨RX1, "nominate", "(II)I"⟩
def dkwX1_nominate_1 : List UInt8 := [28, 182, 0, 208, 172]
abbrev dktX1_nominate_1 : List UInt8 := dkwX1_nominate_1 ++ []
def dkwX1_nominate_0 : List UInt8 := [27, 28, 184, 0, 158, 42, 180, 0, 44, 182, 0, 204, 184, 0, 142, 42, 182, 0, 130, 42, 180, 0, 44, 27]
abbrev dktX1_nominate_0 : List UInt8 := dkwX1_nominate_0 ++ dktX1_nominate_1
theorem dksX1_nominate_0 : cX1_nominate.data.toList.drop 0 = dktX1_nominate_0 := by decide +kernel
theorem dksX1_nominate_1 : cX1_nominate.data.toList.drop 24 = dktX1_nominate_1 := dk_seg dksX1_nominate_0 24 rfl rfl
theorem dX1_nominate_0 : decode cX1_nominate 0 = .ok (.iload_n 1, 1) := dk_27 (dk_at dksX1_nominate_0 0 rfl rfl)
theorem dX1_nominate_1 : decode cX1_nominate 1 = .ok (.iload_n 2, 1) := dk_28 (dk_at dksX1_nominate_0 1 rfl rfl)
theorem dX1_nominate_2 : decode cX1_nominate 2 = .ok (.invokestatic 158, 3) := dk_184 0 158 (dk_at dksX1_nominate_0 2 rfl rfl)
theorem dX1_nominate_5 : decode cX1_nominate 5 = .ok (.aload_n 0, 1) := dk_42 (dk_at dksX1_nominate_0 5 rfl rfl)
theorem dX1_nominate_6 : decode cX1_nominate 6 = .ok (.getfield 44, 3) := dk_180 0 44 (dk_at dksX1_nominate_0 6 rfl rfl)
theorem dX1_nominate_9 : decode cX1_nominate 9 = .ok (.invokevirtual 204, 3) := dk_182 0 204 (dk_at dksX1_nominate_0 9 rfl rfl)
theorem dX1_nominate_12 : decode cX1_nominate 12 = .ok (.invokestatic 142, 3) := dk_184 0 142 (dk_at dksX1_nominate_0 12 rfl rfl)
theorem dX1_nominate_15 : decode cX1_nominate 15 = .ok (.aload_n 0, 1) := dk_42 (dk_at dksX1_nominate_0 15 rfl rfl)
theorem dX1_nominate_16 : decode cX1_nominate 16 = .ok (.invokevirtual 130, 3) := dk_182 0 130 (dk_at dksX1_nominate_0 16 rfl rfl)
theorem dX1_nominate_19 : decode cX1_nominate 19 = .ok (.aload_n 0, 1) := dk_42 (dk_at dksX1_nominate_0 19 rfl rfl)
theorem dX1_nominate_20 : decode cX1_nominate 20 = .ok (.getfield 44, 3) := dk_180 0 44 (dk_at dksX1_nominate_0 20 rfl rfl)
theorem dX1_nominate_23 : decode cX1_nominate 23 = .ok (.iload_n 1, 1) := dk_27 (dk_at dksX1_nominate_0 23 rfl rfl)
theorem dX1_nominate_24 : decode cX1_nominate 24 = .ok (.iload_n 2, 1) := dk_28 (dk_at dksX1_nominate_1 0 rfl rfl)
theorem dX1_nominate_25 : decode cX1_nominate 25 = .ok (.invokevirtual 208, 3) := dk_182 0 208 (dk_at dksX1_nominate_1 1 rfl rfl)
theorem dX1_nominate_28 : decode cX1_nominate 28 = .ok (.ireturn, 1) := dk_172 (dk_at dksX1_nominate_1 4 rfl rfl)
abbrev cX1_vote : ByteArray := prog_1_method_25_code
def yX1_vote : MethodName := ⟨RX1, "vote", "(IZ)Z"⟩
def dkwX1_vote_1 : List UInt8 := [28, 182, 0, 215, 172]
abbrev dktX1_vote_1 : List UInt8 := dkwX1_vote_1 ++ []
def dkwX1_vote_0 : List UInt8 := [42, 180, 0, 44, 42, 27, 182, 0, 91, 182, 0, 211, 184, 0, 142, 42, 182, 0, 130, 42, 180, 0, 44, 27]
abbrev dktX1_vote_0 : List UInt8 := dkwX1_vote_0 ++ dktX1_vote_1
theorem dksX1_vote_0 : cX1_vote.data.toList.drop 0 = dktX1_vote_0 := by decide +kernel
theorem dksX1_vote_1 : cX1_vote.data.toList.drop 24 = dktX1_vote_1 := dk_seg dksX1_vote_0 24 rfl rfl
theorem dX1_vote_0 : decode cX1_vote 0 = .ok (.aload_n 0, 1) := dk_42 (dk_at dksX1_vote_0 0 rfl rfl)
theorem dX1_vote_1 : decode cX1_vote 1 = .ok (.getfield 44, 3) := dk_180 0 44 (dk_at dksX1_vote_0 1 rfl rfl)
theorem dX1_vote_4 : decode cX1_vote 4 = .ok (.aload_n 0, 1) := dk_42 (dk_at dksX1_vote_0 4 rfl rfl)
theorem dX1_vote_5 : decode cX1_vote 5 = .ok (.iload_n 1, 1) := dk_27 (dk_at dksX1_vote_0 5 rfl rfl)
theorem dX1_vote_6 : decode cX1_vote 6 = .ok (.invokevirtual 91, 3) := dk_182 0 91 (dk_at dksX1_vote_0 6 rfl rfl)
theorem dX1_vote_9 : decode cX1_vote 9 = .ok (.invokevirtual 211, 3) := dk_182 0 211 (dk_at dksX1_vote_0 9 rfl rfl)
theorem dX1_vote_12 : decode cX1_vote 12 = .ok (.invokestatic 142, 3) := dk_184 0 142 (dk_at dksX1_vote_0 12 rfl rfl)
theorem dX1_vote_15 : decode cX1_vote 15 = .ok (.aload_n 0, 1) := dk_42 (dk_at dksX1_vote_0 15 rfl rfl)
theorem dX1_vote_16 : decode cX1_vote 16 = .ok (.invokevirtual 130, 3) := dk_182 0 130 (dk_at dksX1_vote_0 16 rfl rfl)
theorem dX1_vote_19 : decode cX1_vote 19 = .ok (.aload_n 0, 1) := dk_42 (dk_at dksX1_vote_0 19 rfl rfl)
theorem dX1_vote_20 : decode cX1_vote 20 = .ok (.getfield 44, 3) := dk_180 0 44 (dk_at dksX1_vote_0 20 rfl rfl)
theorem dX1_vote_23 : decode cX1_vote 23 = .ok (.iload_n 1, 1) := dk_27 (dk_at dksX1_vote_0 23 rfl rfl)
theorem dX1_vote_24 : decode cX1_vote 24 = .ok (.iload_n 2, 1) := dk_28 (dk_at dksX1_vote_1 0 rfl rfl)
theorem dX1_vote_25 : decode cX1_vote 25 = .ok (.invokevirtual 215, 3) := dk_182 0 215 (dk_at dksX1_vote_1 1 rfl rfl)
theorem dX1_vote_28 : decode cX1_vote 28 = .ok (.ireturn, 1) := dk_172 (dk_at dksX1_vote_1 4 rfl rfl)
abbrev cX1_passNights : ByteArray := prog_1_method_26_code
def yX1_passNights : MethodName := ⟨RX1, "passNights", "(I)I"⟩
def dkwX1_passNights_1 : List UInt8 := [167, 0, 4, 3, 184, 0, 142, 42, 182, 0, 130, 42, 180, 0, 44, 27, 182, 0, 222, 172]
abbrev dktX1_passNights_1 : List UInt8 := dkwX1_passNights_1 ++ []
def dkwX1_passNights_0 : List UInt8 := [27, 4, 16, 30, 184, 0, 95, 42, 180, 0, 44, 180, 0, 219, 27, 96, 17, 3, 231, 163, 0, 7, 4]
abbrev dktX1_passNights_0 : List UInt8 := dkwX1_passNights_0 ++ dktX1_passNights_1
theorem dksX1_passNights_0 : cX1_passNights.data.toList.drop 0 = dktX1_passNights_0 := by decide +kernel
theorem dksX1_passNights_1 : cX1_passNights.data.toList.drop 23 = dktX1_passNights_1 := dk_seg dksX1_passNights_0 23 rfl rfl
theorem dX1_passNights_0 : decode cX1_passNights 0 = .ok (.iload_n 1, 1) := dk_27 (dk_at dksX1_passNights_0 0 rfl rfl)
theorem dX1_passNights_1 : decode cX1_passNights 1 = .ok (.iconst 1, 1) := dk_4 (dk_at dksX1_passNights_0 1 rfl rfl)
theorem dX1_passNights_2 : decode cX1_passNights 2 = .ok (.bipush 30, 2) := dk_16 30 (dk_at dksX1_passNights_0 2 rfl rfl)
theorem dX1_passNights_4 : decode cX1_passNights 4 = .ok (.invokestatic 95, 3) := dk_184 0 95 (dk_at dksX1_passNights_0 4 rfl rfl)
theorem dX1_passNights_7 : decode cX1_passNights 7 = .ok (.aload_n 0, 1) := dk_42 (dk_at dksX1_passNights_0 7 rfl rfl)
theorem dX1_passNights_8 : decode cX1_passNights 8 = .ok (.getfield 44, 3) := dk_180 0 44 (dk_at dksX1_passNights_0 8 rfl rfl)
theorem dX1_passNights_11 : decode cX1_passNights 11 = .ok (.getfield 219, 3) := dk_180 0 219 (dk_at dksX1_passNights_0 11 rfl rfl)
theorem dX1_passNights_14 : decode cX1_passNights 14 = .ok (.iload_n 1, 1) := dk_27 (dk_at dksX1_passNights_0 14 rfl rfl)
theorem dX1_passNights_15 : decode cX1_passNights 15 = .ok (.iadd, 1) := dk_96 (dk_at dksX1_passNights_0 15 rfl rfl)
theorem dX1_passNights_16 : decode cX1_passNights 16 = .ok (.sipush 999, 3) := dk_17 3 231 (dk_at dksX1_passNights_0 16 rfl rfl)
theorem dX1_passNights_19 : decode cX1_passNights 19 = .ok (.if_icmp .gt 7, 3) := dk_163 0 7 (dk_at dksX1_passNights_0 19 rfl rfl)
theorem dX1_passNights_22 : decode cX1_passNights 22 = .ok (.iconst 1, 1) := dk_4 (dk_at dksX1_passNights_0 22 rfl rfl)
theorem dX1_passNights_23 : decode cX1_passNights 23 = .ok (.goto 4, 3) := dk_167 0 4 (dk_at dksX1_passNights_1 0 rfl rfl)
theorem dX1_passNights_26 : decode cX1_passNights 26 = .ok (.iconst 0, 1) := dk_3 (dk_at dksX1_passNights_1 3 rfl rfl)
theorem dX1_passNights_27 : decode cX1_passNights 27 = .ok (.invokestatic 142, 3) := dk_184 0 142 (dk_at dksX1_passNights_1 4 rfl rfl)
theorem dX1_passNights_30 : decode cX1_passNights 30 = .ok (.aload_n 0, 1) := dk_42 (dk_at dksX1_passNights_1 7 rfl rfl)
theorem dX1_passNights_31 : decode cX1_passNights 31 = .ok (.invokevirtual 130, 3) := dk_182 0 130 (dk_at dksX1_passNights_1 8 rfl rfl)
theorem dX1_passNights_34 : decode cX1_passNights 34 = .ok (.aload_n 0, 1) := dk_42 (dk_at dksX1_passNights_1 11 rfl rfl)
theorem dX1_passNights_35 : decode cX1_passNights 35 = .ok (.getfield 44, 3) := dk_180 0 44 (dk_at dksX1_passNights_1 12 rfl rfl)
theorem dX1_passNights_38 : decode cX1_passNights 38 = .ok (.iload_n 1, 1) := dk_27 (dk_at dksX1_passNights_1 15 rfl rfl)
theorem dX1_passNights_39 : decode cX1_passNights 39 = .ok (.invokevirtual 222, 3) := dk_182 0 222 (dk_at dksX1_passNights_1 16 rfl rfl)
theorem dX1_passNights_42 : decode cX1_passNights 42 = .ok (.ireturn, 1) := dk_172 (dk_at dksX1_passNights_1 19 rfl rfl)
abbrev cX1_restoreSnapshot : ByteArray := prog_1_method_30_code
def yX1_restoreSnapshot : MethodName := ⟨RX1, "restoreSnapshot", "()I"⟩
def dkwX1_restoreSnapshot_1 : List UInt8 := [181, 0, 44, 42, 180, 0, 10, 182, 0, 237, 42, 180, 0, 44, 180, 0, 219, 172]
abbrev dktX1_restoreSnapshot_1 : List UInt8 := dkwX1_restoreSnapshot_1 ++ []
def dkwX1_restoreSnapshot_0 : List UInt8 := [42, 180, 0, 231, 199, 0, 11, 187, 0, 234, 89, 183, 0, 236, 191, 42, 42, 180, 0, 231, 182, 0, 108]
abbrev dktX1_restoreSnapshot_0 : List UInt8 := dkwX1_restoreSnapshot_0 ++ dktX1_restoreSnapshot_1
theorem dksX1_restoreSnapshot_0 : cX1_restoreSnapshot.data.toList.drop 0 = dktX1_restoreSnapshot_0 := by decide +kernel
theorem dksX1_restoreSnapshot_1 : cX1_restoreSnapshot.data.toList.drop 23 = dktX1_restoreSnapshot_1 := dk_seg dksX1_restoreSnapshot_0 23 rfl rfl
theorem dX1_restoreSnapshot_0 : decode cX1_restoreSnapshot 0 = .ok (.aload_n 0, 1) := dk_42 (dk_at dksX1_restoreSnapshot_0 0 rfl rfl)
theorem dX1_restoreSnapshot_1 : decode cX1_restoreSnapshot 1 = .ok (.getfield 231, 3) := dk_180 0 231 (dk_at dksX1_restoreSnapshot_0 1 rfl rfl)
theorem dX1_restoreSnapshot_4 : decode cX1_restoreSnapshot 4 = .ok (.ifnonnull 11, 3) := dk_199 0 11 (dk_at dksX1_restoreSnapshot_0 4 rfl rfl)
theorem dX1_restoreSnapshot_7 : decode cX1_restoreSnapshot 7 = .ok (.new 234, 3) := dk_187 0 234 (dk_at dksX1_restoreSnapshot_0 7 rfl rfl)
theorem dX1_restoreSnapshot_10 : decode cX1_restoreSnapshot 10 = .ok (.dup, 1) := dk_89 (dk_at dksX1_restoreSnapshot_0 10 rfl rfl)
theorem dX1_restoreSnapshot_11 : decode cX1_restoreSnapshot 11 = .ok (.invokespecial 236, 3) := dk_183 0 236 (dk_at dksX1_restoreSnapshot_0 11 rfl rfl)
theorem dX1_restoreSnapshot_14 : decode cX1_restoreSnapshot 14 = .ok (.athrow, 1) := dk_191 (dk_at dksX1_restoreSnapshot_0 14 rfl rfl)
theorem dX1_restoreSnapshot_15 : decode cX1_restoreSnapshot 15 = .ok (.aload_n 0, 1) := dk_42 (dk_at dksX1_restoreSnapshot_0 15 rfl rfl)
theorem dX1_restoreSnapshot_16 : decode cX1_restoreSnapshot 16 = .ok (.aload_n 0, 1) := dk_42 (dk_at dksX1_restoreSnapshot_0 16 rfl rfl)
theorem dX1_restoreSnapshot_17 : decode cX1_restoreSnapshot 17 = .ok (.getfield 231, 3) := dk_180 0 231 (dk_at dksX1_restoreSnapshot_0 17 rfl rfl)
theorem dX1_restoreSnapshot_20 : decode cX1_restoreSnapshot 20 = .ok (.invokevirtual 108, 3) := dk_182 0 108 (dk_at dksX1_restoreSnapshot_0 20 rfl rfl)
theorem dX1_restoreSnapshot_23 : decode cX1_restoreSnapshot 23 = .ok (.putfield 44, 3) := dk_181 0 44 (dk_at dksX1_restoreSnapshot_1 0 rfl rfl)
theorem dX1_restoreSnapshot_26 : decode cX1_restoreSnapshot 26 = .ok (.aload_n 0, 1) := dk_42 (dk_at dksX1_restoreSnapshot_1 3 rfl rfl)
theorem dX1_restoreSnapshot_27 : decode cX1_restoreSnapshot 27 = .ok (.getfield 10, 3) := dk_180 0 10 (dk_at dksX1_restoreSnapshot_1 4 rfl rfl)
theorem dX1_restoreSnapshot_30 : decode cX1_restoreSnapshot 30 = .ok (.invokevirtual 237, 3) := dk_182 0 237 (dk_at dksX1_restoreSnapshot_1 7 rfl rfl)
theorem dX1_restoreSnapshot_33 : decode cX1_restoreSnapshot 33 = .ok (.aload_n 0, 1) := dk_42 (dk_at dksX1_restoreSnapshot_1 10 rfl rfl)
theorem dX1_restoreSnapshot_34 : decode cX1_restoreSnapshot 34 = .ok (.getfield 44, 3) := dk_180 0 44 (dk_at dksX1_restoreSnapshot_1 11 rfl rfl)
theorem dX1_restoreSnapshot_37 : decode cX1_restoreSnapshot 37 = .ok (.getfield 219, 3) := dk_180 0 219 (dk_at dksX1_restoreSnapshot_1 14 rfl rfl)
theorem dX1_restoreSnapshot_40 : decode cX1_restoreSnapshot 40 = .ok (.ireturn, 1) := dk_172 (dk_at dksX1_restoreSnapshot_1 17 rfl rfl)
abbrev cX1_warmth : ByteArray := prog_1_method_38_code
def yX1_warmth : MethodName := ⟨RX1, "warmth", "(I)I"⟩
def dkwX1_warmth_0 : List UInt8 := [42, 180, 0, 44, 180, 0, 56, 42, 27, 182, 0, 153, 185, 0, 78, 2, 0, 192, 0, 145, 180, 0, 240, 172]
abbrev dktX1_warmth_0 : List UInt8 := dkwX1_warmth_0 ++ []
theorem dksX1_warmth_0 : cX1_warmth.data.toList.drop 0 = dktX1_warmth_0 := by decide +kernel
theorem dX1_warmth_0 : decode cX1_warmth 0 = .ok (.aload_n 0, 1) := dk_42 (dk_at dksX1_warmth_0 0 rfl rfl)
theorem dX1_warmth_1 : decode cX1_warmth 1 = .ok (.getfield 44, 3) := dk_180 0 44 (dk_at dksX1_warmth_0 1 rfl rfl)
theorem dX1_warmth_4 : decode cX1_warmth 4 = .ok (.getfield 56, 3) := dk_180 0 56 (dk_at dksX1_warmth_0 4 rfl rfl)
theorem dX1_warmth_7 : decode cX1_warmth 7 = .ok (.aload_n 0, 1) := dk_42 (dk_at dksX1_warmth_0 7 rfl rfl)
theorem dX1_warmth_8 : decode cX1_warmth 8 = .ok (.iload_n 1, 1) := dk_27 (dk_at dksX1_warmth_0 8 rfl rfl)
theorem dX1_warmth_9 : decode cX1_warmth 9 = .ok (.invokevirtual 153, 3) := dk_182 0 153 (dk_at dksX1_warmth_0 9 rfl rfl)
theorem dX1_warmth_12 : decode cX1_warmth 12 = .ok (.invokeinterface 78 2, 5) := by decide +kernel
theorem dX1_warmth_17 : decode cX1_warmth 17 = .ok (.checkcast 145, 3) := dk_192 0 145 (dk_at dksX1_warmth_0 17 rfl rfl)
theorem dX1_warmth_20 : decode cX1_warmth 20 = .ok (.getfield 240, 3) := dk_180 0 240 (dk_at dksX1_warmth_0 20 rfl rfl)
theorem dX1_warmth_23 : decode cX1_warmth 23 = .ok (.ireturn, 1) := dk_172 (dk_at dksX1_warmth_0 23 rfl rfl)
abbrev cX1_catOn : ByteArray := prog_1_method_40_code
def yX1_catOn : MethodName := ⟨RX1, "catOn", "(I)I"⟩
def dkwX1_catOn_0 : List UInt8 := [42, 180, 0, 44, 42, 27, 182, 0, 153, 182, 0, 162, 172]
abbrev dktX1_catOn_0 : List UInt8 := dkwX1_catOn_0 ++ []
theorem dksX1_catOn_0 : cX1_catOn.data.toList.drop 0 = dktX1_catOn_0 := by decide +kernel
theorem dX1_catOn_0 : decode cX1_catOn 0 = .ok (.aload_n 0, 1) := dk_42 (dk_at dksX1_catOn_0 0 rfl rfl)
theorem dX1_catOn_1 : decode cX1_catOn 1 = .ok (.getfield 44, 3) := dk_180 0 44 (dk_at dksX1_catOn_0 1 rfl rfl)
theorem dX1_catOn_4 : decode cX1_catOn 4 = .ok (.aload_n 0, 1) := dk_42 (dk_at dksX1_catOn_0 4 rfl rfl)
theorem dX1_catOn_5 : decode cX1_catOn 5 = .ok (.iload_n 1, 1) := dk_27 (dk_at dksX1_catOn_0 5 rfl rfl)
theorem dX1_catOn_6 : decode cX1_catOn 6 = .ok (.invokevirtual 153, 3) := dk_182 0 153 (dk_at dksX1_catOn_0 6 rfl rfl)
theorem dX1_catOn_9 : decode cX1_catOn 9 = .ok (.invokevirtual 162, 3) := dk_182 0 162 (dk_at dksX1_catOn_0 9 rfl rfl)
theorem dX1_catOn_12 : decode cX1_catOn 12 = .ok (.ireturn, 1) := dk_172 (dk_at dksX1_catOn_0 12 rfl rfl)
abbrev cX1_gutterEnds : ByteArray := prog_1_method_41_code
def yX1_gutterEnds : MethodName := ⟨RX1, "gutterEnds", "(I)I"⟩
def dkwX1_gutterEnds_0 : List UInt8 := [4, 42, 27, 182, 0, 245, 182, 0, 249, 120, 4, 42, 27, 182, 0, 245, 182, 0, 252, 120, 128, 172]
abbrev dktX1_gutterEnds_0 : List UInt8 := dkwX1_gutterEnds_0 ++ []
theorem dksX1_gutterEnds_0 : cX1_gutterEnds.data.toList.drop 0 = dktX1_gutterEnds_0 := by decide +kernel
theorem dX1_gutterEnds_0 : decode cX1_gutterEnds 0 = .ok (.iconst 1, 1) := dk_4 (dk_at dksX1_gutterEnds_0 0 rfl rfl)
theorem dX1_gutterEnds_1 : decode cX1_gutterEnds 1 = .ok (.aload_n 0, 1) := dk_42 (dk_at dksX1_gutterEnds_0 1 rfl rfl)
theorem dX1_gutterEnds_2 : decode cX1_gutterEnds 2 = .ok (.iload_n 1, 1) := dk_27 (dk_at dksX1_gutterEnds_0 2 rfl rfl)
theorem dX1_gutterEnds_3 : decode cX1_gutterEnds 3 = .ok (.invokevirtual 245, 3) := dk_182 0 245 (dk_at dksX1_gutterEnds_0 3 rfl rfl)
theorem dX1_gutterEnds_6 : decode cX1_gutterEnds 6 = .ok (.invokevirtual 249, 3) := dk_182 0 249 (dk_at dksX1_gutterEnds_0 6 rfl rfl)
theorem dX1_gutterEnds_9 : decode cX1_gutterEnds 9 = .ok (.ishl, 1) := dk_120 (dk_at dksX1_gutterEnds_0 9 rfl rfl)
theorem dX1_gutterEnds_10 : decode cX1_gutterEnds 10 = .ok (.iconst 1, 1) := dk_4 (dk_at dksX1_gutterEnds_0 10 rfl rfl)
theorem dX1_gutterEnds_11 : decode cX1_gutterEnds 11 = .ok (.aload_n 0, 1) := dk_42 (dk_at dksX1_gutterEnds_0 11 rfl rfl)
theorem dX1_gutterEnds_12 : decode cX1_gutterEnds 12 = .ok (.iload_n 1, 1) := dk_27 (dk_at dksX1_gutterEnds_0 12 rfl rfl)
theorem dX1_gutterEnds_13 : decode cX1_gutterEnds 13 = .ok (.invokevirtual 245, 3) := dk_182 0 245 (dk_at dksX1_gutterEnds_0 13 rfl rfl)
theorem dX1_gutterEnds_16 : decode cX1_gutterEnds 16 = .ok (.invokevirtual 252, 3) := dk_182 0 252 (dk_at dksX1_gutterEnds_0 16 rfl rfl)
theorem dX1_gutterEnds_19 : decode cX1_gutterEnds 19 = .ok (.ishl, 1) := dk_120 (dk_at dksX1_gutterEnds_0 19 rfl rfl)
theorem dX1_gutterEnds_20 : decode cX1_gutterEnds 20 = .ok (.ior, 1) := dk_128 (dk_at dksX1_gutterEnds_0 20 rfl rfl)
theorem dX1_gutterEnds_21 : decode cX1_gutterEnds 21 = .ok (.ireturn, 1) := dk_172 (dk_at dksX1_gutterEnds_0 21 rfl rfl)
abbrev cX1_gutter : ByteArray := prog_1_method_5_code
def yX1_gutter : MethodName := ⟨RX1, "gutter", "(I)LRooftopCats$Gutter;"⟩
def dkwX1_gutter_1 : List UInt8 := [185, 0, 78, 2, 0, 192, 0, 82, 176]
abbrev dktX1_gutter_1 : List UInt8 := dkwX1_gutter_1 ++ []
def dkwX1_gutter_0 : List UInt8 := [42, 180, 0, 44, 180, 0, 75, 27, 42, 180, 0, 44, 180, 0, 75, 185, 0, 62, 1, 0, 184, 0, 68]
abbrev dktX1_gutter_0 : List UInt8 := dkwX1_gutter_0 ++ dktX1_gutter_1
theorem dksX1_gutter_0 : cX1_gutter.data.toList.drop 0 = dktX1_gutter_0 := by decide +kernel
theorem dksX1_gutter_1 : cX1_gutter.data.toList.drop 23 = dktX1_gutter_1 := dk_seg dksX1_gutter_0 23 rfl rfl
theorem dX1_gutter_0 : decode cX1_gutter 0 = .ok (.aload_n 0, 1) := dk_42 (dk_at dksX1_gutter_0 0 rfl rfl)
theorem dX1_gutter_1 : decode cX1_gutter 1 = .ok (.getfield 44, 3) := dk_180 0 44 (dk_at dksX1_gutter_0 1 rfl rfl)
theorem dX1_gutter_4 : decode cX1_gutter 4 = .ok (.getfield 75, 3) := dk_180 0 75 (dk_at dksX1_gutter_0 4 rfl rfl)
theorem dX1_gutter_7 : decode cX1_gutter 7 = .ok (.iload_n 1, 1) := dk_27 (dk_at dksX1_gutter_0 7 rfl rfl)
theorem dX1_gutter_8 : decode cX1_gutter 8 = .ok (.aload_n 0, 1) := dk_42 (dk_at dksX1_gutter_0 8 rfl rfl)
theorem dX1_gutter_9 : decode cX1_gutter 9 = .ok (.getfield 44, 3) := dk_180 0 44 (dk_at dksX1_gutter_0 9 rfl rfl)
theorem dX1_gutter_12 : decode cX1_gutter 12 = .ok (.getfield 75, 3) := dk_180 0 75 (dk_at dksX1_gutter_0 12 rfl rfl)
theorem dX1_gutter_15 : decode cX1_gutter 15 = .ok (.invokeinterface 62 1, 5) := by decide +kernel
theorem dX1_gutter_20 : decode cX1_gutter 20 = .ok (.invokestatic 68, 3) := dk_184 0 68 (dk_at dksX1_gutter_0 20 rfl rfl)
theorem dX1_gutter_23 : decode cX1_gutter 23 = .ok (.invokeinterface 78 2, 5) := by decide +kernel
theorem dX1_gutter_28 : decode cX1_gutter 28 = .ok (.checkcast 82, 3) := dk_192 0 82 (dk_at dksX1_gutter_1 5 rfl rfl)
theorem dX1_gutter_31 : decode cX1_gutter 31 = .ok (.areturn, 1) := dk_176 (dk_at dksX1_gutter_1 8 rfl rfl)
abbrev cX1_width : ByteArray := prog_1_method_42_code
def yX1_width : MethodName := ⟨RX1, "width", "(I)I"⟩
def dkwX1_width_0 : List UInt8 := [42, 27, 182, 0, 245, 182, 0, 255, 172]
abbrev dktX1_width_0 : List UInt8 := dkwX1_width_0 ++ []
theorem dksX1_width_0 : cX1_width.data.toList.drop 0 = dktX1_width_0 := by decide +kernel
theorem dX1_width_0 : decode cX1_width 0 = .ok (.aload_n 0, 1) := dk_42 (dk_at dksX1_width_0 0 rfl rfl)
theorem dX1_width_1 : decode cX1_width 1 = .ok (.iload_n 1, 1) := dk_27 (dk_at dksX1_width_0 1 rfl rfl)
theorem dX1_width_2 : decode cX1_width 2 = .ok (.invokevirtual 245, 3) := dk_182 0 245 (dk_at dksX1_width_0 2 rfl rfl)
theorem dX1_width_5 : decode cX1_width 5 = .ok (.invokevirtual 255, 3) := dk_182 0 255 (dk_at dksX1_width_0 5 rfl rfl)
theorem dX1_width_8 : decode cX1_width 8 = .ok (.ireturn, 1) := dk_172 (dk_at dksX1_width_0 8 rfl rfl)
abbrev cX1_widestWay : ByteArray := prog_1_method_43_code
def yX1_widestWay : MethodName := ⟨RX1, "widestWay", "(II)I"⟩
def dkwX1_widestWay_0 : List UInt8 := [42, 27, 182, 0, 153, 87, 42, 180, 0, 44, 27, 42, 28, 182, 0, 153, 182, 1, 2, 172]
abbrev dktX1_widestWay_0 : List UInt8 := dkwX1_widestWay_0 ++ []
theorem dksX1_widestWay_0 : cX1_widestWay.data.toList.drop 0 = dktX1_widestWay_0 := by decide +kernel
theorem dX1_widestWay_0 : decode cX1_widestWay 0 = .ok (.aload_n 0, 1) := dk_42 (dk_at dksX1_widestWay_0 0 rfl rfl)
theorem dX1_widestWay_1 : decode cX1_widestWay 1 = .ok (.iload_n 1, 1) := dk_27 (dk_at dksX1_widestWay_0 1 rfl rfl)
theorem dX1_widestWay_2 : decode cX1_widestWay 2 = .ok (.invokevirtual 153, 3) := dk_182 0 153 (dk_at dksX1_widestWay_0 2 rfl rfl)
theorem dX1_widestWay_5 : decode cX1_widestWay 5 = .ok (.pop, 1) := dk_87 (dk_at dksX1_widestWay_0 5 rfl rfl)
theorem dX1_widestWay_6 : decode cX1_widestWay 6 = .ok (.aload_n 0, 1) := dk_42 (dk_at dksX1_widestWay_0 6 rfl rfl)
theorem dX1_widestWay_7 : decode cX1_widestWay 7 = .ok (.getfield 44, 3) := dk_180 0 44 (dk_at dksX1_widestWay_0 7 rfl rfl)
theorem dX1_widestWay_10 : decode cX1_widestWay 10 = .ok (.iload_n 1, 1) := dk_27 (dk_at dksX1_widestWay_0 10 rfl rfl)
theorem dX1_widestWay_11 : decode cX1_widestWay 11 = .ok (.aload_n 0, 1) := dk_42 (dk_at dksX1_widestWay_0 11 rfl rfl)
theorem dX1_widestWay_12 : decode cX1_widestWay 12 = .ok (.iload_n 2, 1) := dk_28 (dk_at dksX1_widestWay_0 12 rfl rfl)
theorem dX1_widestWay_13 : decode cX1_widestWay 13 = .ok (.invokevirtual 153, 3) := dk_182 0 153 (dk_at dksX1_widestWay_0 13 rfl rfl)
theorem dX1_widestWay_16 : decode cX1_widestWay 16 = .ok (.invokevirtual 258, 3) := dk_182 1 2 (dk_at dksX1_widestWay_0 16 rfl rfl)
theorem dX1_widestWay_19 : decode cX1_widestWay 19 = .ok (.ireturn, 1) := dk_172 (dk_at dksX1_widestWay_0 19 rfl rfl)
abbrev cX1_girth : ByteArray := prog_1_method_45_code
def yX1_girth : MethodName := ⟨RX1, "girth", "(I)I"⟩
def dkwX1_girth_0 : List UInt8 := [42, 180, 0, 44, 180, 0, 72, 42, 27, 182, 0, 91, 185, 0, 78, 2, 0, 192, 0, 165, 180, 1, 8, 172]
abbrev dktX1_girth_0 : List UInt8 := dkwX1_girth_0 ++ []
theorem dksX1_girth_0 : cX1_girth.data.toList.drop 0 = dktX1_girth_0 := by decide +kernel
theorem dX1_girth_0 : decode cX1_girth 0 = .ok (.aload_n 0, 1) := dk_42 (dk_at dksX1_girth_0 0 rfl rfl)
theorem dX1_girth_1 : decode cX1_girth 1 = .ok (.getfield 44, 3) := dk_180 0 44 (dk_at dksX1_girth_0 1 rfl rfl)
theorem dX1_girth_4 : decode cX1_girth 4 = .ok (.getfield 72, 3) := dk_180 0 72 (dk_at dksX1_girth_0 4 rfl rfl)
theorem dX1_girth_7 : decode cX1_girth 7 = .ok (.aload_n 0, 1) := dk_42 (dk_at dksX1_girth_0 7 rfl rfl)
theorem dX1_girth_8 : decode cX1_girth 8 = .ok (.iload_n 1, 1) := dk_27 (dk_at dksX1_girth_0 8 rfl rfl)
theorem dX1_girth_9 : decode cX1_girth 9 = .ok (.invokevirtual 91, 3) := dk_182 0 91 (dk_at dksX1_girth_0 9 rfl rfl)
theorem dX1_girth_12 : decode cX1_girth 12 = .ok (.invokeinterface 78 2, 5) := by decide +kernel
theorem dX1_girth_17 : decode cX1_girth 17 = .ok (.checkcast 165, 3) := dk_192 0 165 (dk_at dksX1_girth_0 17 rfl rfl)
theorem dX1_girth_20 : decode cX1_girth 20 = .ok (.getfield 264, 3) := dk_180 1 8 (dk_at dksX1_girth_0 20 rfl rfl)
theorem dX1_girth_23 : decode cX1_girth 23 = .ok (.ireturn, 1) := dk_172 (dk_at dksX1_girth_0 23 rfl rfl)
abbrev cX1_power : ByteArray := prog_1_method_46_code
def yX1_power : MethodName := ⟨RX1, "power", "(I)I"⟩
def dkwX1_power_0 : List UInt8 := [42, 180, 0, 44, 42, 27, 182, 0, 91, 182, 1, 11, 172]
abbrev dktX1_power_0 : List UInt8 := dkwX1_power_0 ++ []
theorem dksX1_power_0 : cX1_power.data.toList.drop 0 = dktX1_power_0 := by decide +kernel
theorem dX1_power_0 : decode cX1_power 0 = .ok (.aload_n 0, 1) := dk_42 (dk_at dksX1_power_0 0 rfl rfl)
theorem dX1_power_1 : decode cX1_power 1 = .ok (.getfield 44, 3) := dk_180 0 44 (dk_at dksX1_power_0 1 rfl rfl)
theorem dX1_power_4 : decode cX1_power 4 = .ok (.aload_n 0, 1) := dk_42 (dk_at dksX1_power_0 4 rfl rfl)
theorem dX1_power_5 : decode cX1_power 5 = .ok (.iload_n 1, 1) := dk_27 (dk_at dksX1_power_0 5 rfl rfl)
theorem dX1_power_6 : decode cX1_power 6 = .ok (.invokevirtual 91, 3) := dk_182 0 91 (dk_at dksX1_power_0 6 rfl rfl)
theorem dX1_power_9 : decode cX1_power 9 = .ok (.invokevirtual 267, 3) := dk_182 1 11 (dk_at dksX1_power_0 9 rfl rfl)
theorem dX1_power_12 : decode cX1_power 12 = .ok (.ireturn, 1) := dk_172 (dk_at dksX1_power_0 12 rfl rfl)
abbrev cX1_fish : ByteArray := prog_1_method_47_code
def yX1_fish : MethodName := ⟨RX1, "fish", "(I)I"⟩
def dkwX1_fish_0 : List UInt8 := [42, 180, 0, 44, 180, 0, 72, 42, 27, 182, 0, 91, 185, 0, 78, 2, 0, 192, 0, 165, 180, 1, 14, 172]
abbrev dktX1_fish_0 : List UInt8 := dkwX1_fish_0 ++ []
theorem dksX1_fish_0 : cX1_fish.data.toList.drop 0 = dktX1_fish_0 := by decide +kernel
theorem dX1_fish_0 : decode cX1_fish 0 = .ok (.aload_n 0, 1) := dk_42 (dk_at dksX1_fish_0 0 rfl rfl)
theorem dX1_fish_1 : decode cX1_fish 1 = .ok (.getfield 44, 3) := dk_180 0 44 (dk_at dksX1_fish_0 1 rfl rfl)
theorem dX1_fish_4 : decode cX1_fish 4 = .ok (.getfield 72, 3) := dk_180 0 72 (dk_at dksX1_fish_0 4 rfl rfl)
theorem dX1_fish_7 : decode cX1_fish 7 = .ok (.aload_n 0, 1) := dk_42 (dk_at dksX1_fish_0 7 rfl rfl)
theorem dX1_fish_8 : decode cX1_fish 8 = .ok (.iload_n 1, 1) := dk_27 (dk_at dksX1_fish_0 8 rfl rfl)
theorem dX1_fish_9 : decode cX1_fish 9 = .ok (.invokevirtual 91, 3) := dk_182 0 91 (dk_at dksX1_fish_0 9 rfl rfl)
theorem dX1_fish_12 : decode cX1_fish 12 = .ok (.invokeinterface 78 2, 5) := by decide +kernel
theorem dX1_fish_17 : decode cX1_fish 17 = .ok (.checkcast 165, 3) := dk_192 0 165 (dk_at dksX1_fish_0 17 rfl rfl)
theorem dX1_fish_20 : decode cX1_fish 20 = .ok (.getfield 270, 3) := dk_180 1 14 (dk_at dksX1_fish_0 20 rfl rfl)
theorem dX1_fish_23 : decode cX1_fish 23 = .ok (.ireturn, 1) := dk_172 (dk_at dksX1_fish_0 23 rfl rfl)
abbrev cX1_chimneyOf : ByteArray := prog_1_method_48_code
def yX1_chimneyOf : MethodName := ⟨RX1, "chimneyOf", "(I)I"⟩
def dkwX1_chimneyOf_0 : List UInt8 := [42, 180, 0, 44, 180, 0, 72, 42, 27, 182, 0, 91, 185, 0, 78, 2, 0, 192, 0, 165, 180, 1, 17, 172]
abbrev dktX1_chimneyOf_0 : List UInt8 := dkwX1_chimneyOf_0 ++ []
theorem dksX1_chimneyOf_0 : cX1_chimneyOf.data.toList.drop 0 = dktX1_chimneyOf_0 := by decide +kernel
theorem dX1_chimneyOf_0 : decode cX1_chimneyOf 0 = .ok (.aload_n 0, 1) := dk_42 (dk_at dksX1_chimneyOf_0 0 rfl rfl)
theorem dX1_chimneyOf_1 : decode cX1_chimneyOf 1 = .ok (.getfield 44, 3) := dk_180 0 44 (dk_at dksX1_chimneyOf_0 1 rfl rfl)
theorem dX1_chimneyOf_4 : decode cX1_chimneyOf 4 = .ok (.getfield 72, 3) := dk_180 0 72 (dk_at dksX1_chimneyOf_0 4 rfl rfl)
theorem dX1_chimneyOf_7 : decode cX1_chimneyOf 7 = .ok (.aload_n 0, 1) := dk_42 (dk_at dksX1_chimneyOf_0 7 rfl rfl)
theorem dX1_chimneyOf_8 : decode cX1_chimneyOf 8 = .ok (.iload_n 1, 1) := dk_27 (dk_at dksX1_chimneyOf_0 8 rfl rfl)
theorem dX1_chimneyOf_9 : decode cX1_chimneyOf 9 = .ok (.invokevirtual 91, 3) := dk_182 0 91 (dk_at dksX1_chimneyOf_0 9 rfl rfl)
theorem dX1_chimneyOf_12 : decode cX1_chimneyOf 12 = .ok (.invokeinterface 78 2, 5) := by decide +kernel
theorem dX1_chimneyOf_17 : decode cX1_chimneyOf 17 = .ok (.checkcast 165, 3) := dk_192 0 165 (dk_at dksX1_chimneyOf_0 17 rfl rfl)
theorem dX1_chimneyOf_20 : decode cX1_chimneyOf 20 = .ok (.getfield 273, 3) := dk_180 1 17 (dk_at dksX1_chimneyOf_0 20 rfl rfl)
theorem dX1_chimneyOf_23 : decode cX1_chimneyOf 23 = .ok (.ireturn, 1) := dk_172 (dk_at dksX1_chimneyOf_0 23 rfl rfl)
abbrev cX1_ownedChimneys : ByteArray := prog_1_method_49_code
def yX1_ownedChimneys : MethodName := ⟨RX1, "ownedChimneys", "(I)I"⟩
def dkwX1_ownedChimneys_0 : List UInt8 := [42, 180, 0, 44, 42, 27, 182, 0, 91, 182, 1, 19, 172]
abbrev dktX1_ownedChimneys_0 : List UInt8 := dkwX1_ownedChimneys_0 ++ []
theorem dksX1_ownedChimneys_0 : cX1_ownedChimneys.data.toList.drop 0 = dktX1_ownedChimneys_0 := by decide +kernel
theorem dX1_ownedChimneys_0 : decode cX1_ownedChimneys 0 = .ok (.aload_n 0, 1) := dk_42 (dk_at dksX1_ownedChimneys_0 0 rfl rfl)
theorem dX1_ownedChimneys_1 : decode cX1_ownedChimneys 1 = .ok (.getfield 44, 3) := dk_180 0 44 (dk_at dksX1_ownedChimneys_0 1 rfl rfl)
theorem dX1_ownedChimneys_4 : decode cX1_ownedChimneys 4 = .ok (.aload_n 0, 1) := dk_42 (dk_at dksX1_ownedChimneys_0 4 rfl rfl)
theorem dX1_ownedChimneys_5 : decode cX1_ownedChimneys 5 = .ok (.iload_n 1, 1) := dk_27 (dk_at dksX1_ownedChimneys_0 5 rfl rfl)
theorem dX1_ownedChimneys_6 : decode cX1_ownedChimneys 6 = .ok (.invokevirtual 91, 3) := dk_182 0 91 (dk_at dksX1_ownedChimneys_0 6 rfl rfl)
theorem dX1_ownedChimneys_9 : decode cX1_ownedChimneys 9 = .ok (.invokevirtual 275, 3) := dk_182 1 19 (dk_at dksX1_ownedChimneys_0 9 rfl rfl)
theorem dX1_ownedChimneys_12 : decode cX1_ownedChimneys 12 = .ok (.ireturn, 1) := dk_172 (dk_at dksX1_ownedChimneys_0 12 rfl rfl)
abbrev cX1_truceNights : ByteArray := prog_1_method_50_code
def yX1_truceNights : MethodName := ⟨RX1, "truceNights", "(II)I"⟩
def dkwX1_truceNights_0 : List UInt8 := [42, 27, 28, 182, 0, 193, 42, 180, 0, 44, 27, 28, 182, 1, 22, 172]
abbrev dktX1_truceNights_0 : List UInt8 := dkwX1_truceNights_0 ++ []
theorem dksX1_truceNights_0 : cX1_truceNights.data.toList.drop 0 = dktX1_truceNights_0 := by decide +kernel
theorem dX1_truceNights_0 : decode cX1_truceNights 0 = .ok (.aload_n 0, 1) := dk_42 (dk_at dksX1_truceNights_0 0 rfl rfl)
theorem dX1_truceNights_1 : decode cX1_truceNights 1 = .ok (.iload_n 1, 1) := dk_27 (dk_at dksX1_truceNights_0 1 rfl rfl)
theorem dX1_truceNights_2 : decode cX1_truceNights 2 = .ok (.iload_n 2, 1) := dk_28 (dk_at dksX1_truceNights_0 2 rfl rfl)
theorem dX1_truceNights_3 : decode cX1_truceNights 3 = .ok (.invokevirtual 193, 3) := dk_182 0 193 (dk_at dksX1_truceNights_0 3 rfl rfl)
theorem dX1_truceNights_6 : decode cX1_truceNights 6 = .ok (.aload_n 0, 1) := dk_42 (dk_at dksX1_truceNights_0 6 rfl rfl)
theorem dX1_truceNights_7 : decode cX1_truceNights 7 = .ok (.getfield 44, 3) := dk_180 0 44 (dk_at dksX1_truceNights_0 7 rfl rfl)
theorem dX1_truceNights_10 : decode cX1_truceNights 10 = .ok (.iload_n 1, 1) := dk_27 (dk_at dksX1_truceNights_0 10 rfl rfl)
theorem dX1_truceNights_11 : decode cX1_truceNights 11 = .ok (.iload_n 2, 1) := dk_28 (dk_at dksX1_truceNights_0 11 rfl rfl)
theorem dX1_truceNights_12 : decode cX1_truceNights 12 = .ok (.invokevirtual 278, 3) := dk_182 1 22 (dk_at dksX1_truceNights_0 12 rfl rfl)
theorem dX1_truceNights_15 : decode cX1_truceNights 15 = .ok (.ireturn, 1) := dk_172 (dk_at dksX1_truceNights_0 15 rfl rfl)
abbrev cX1_reachable : ByteArray := prog_1_method_51_code
def yX1_reachable : MethodName := ⟨RX1, "reachable", "(I)I"⟩
def dkwX1_reachable_0 : List UInt8 := [42, 180, 0, 44, 42, 27, 182, 0, 91, 182, 1, 25, 172]
abbrev dktX1_reachable_0 : List UInt8 := dkwX1_reachable_0 ++ []
theorem dksX1_reachable_0 : cX1_reachable.data.toList.drop 0 = dktX1_reachable_0 := by decide +kernel
theorem dX1_reachable_0 : decode cX1_reachable 0 = .ok (.aload_n 0, 1) := dk_42 (dk_at dksX1_reachable_0 0 rfl rfl)
theorem dX1_reachable_1 : decode cX1_reachable 1 = .ok (.getfield 44, 3) := dk_180 0 44 (dk_at dksX1_reachable_0 1 rfl rfl)
theorem dX1_reachable_4 : decode cX1_reachable 4 = .ok (.aload_n 0, 1) := dk_42 (dk_at dksX1_reachable_0 4 rfl rfl)
theorem dX1_reachable_5 : decode cX1_reachable 5 = .ok (.iload_n 1, 1) := dk_27 (dk_at dksX1_reachable_0 5 rfl rfl)
theorem dX1_reachable_6 : decode cX1_reachable 6 = .ok (.invokevirtual 91, 3) := dk_182 0 91 (dk_at dksX1_reachable_0 6 rfl rfl)
theorem dX1_reachable_9 : decode cX1_reachable 9 = .ok (.invokevirtual 281, 3) := dk_182 1 25 (dk_at dksX1_reachable_0 9 rfl rfl)
theorem dX1_reachable_12 : decode cX1_reachable 12 = .ok (.ireturn, 1) := dk_172 (dk_at dksX1_reachable_0 12 rfl rfl)
abbrev cX1_stepsTo : ByteArray := prog_1_method_52_code
def yX1_stepsTo : MethodName := ⟨RX1, "stepsTo", "(II)I"⟩
def dkwX1_stepsTo_0 : List UInt8 := [42, 27, 182, 0, 91, 87, 42, 180, 0, 44, 27, 42, 28, 182, 0, 153, 182, 1, 28, 172]
abbrev dktX1_stepsTo_0 : List UInt8 := dkwX1_stepsTo_0 ++ []
theorem dksX1_stepsTo_0 : cX1_stepsTo.data.toList.drop 0 = dktX1_stepsTo_0 := by decide +kernel
theorem dX1_stepsTo_0 : decode cX1_stepsTo 0 = .ok (.aload_n 0, 1) := dk_42 (dk_at dksX1_stepsTo_0 0 rfl rfl)
theorem dX1_stepsTo_1 : decode cX1_stepsTo 1 = .ok (.iload_n 1, 1) := dk_27 (dk_at dksX1_stepsTo_0 1 rfl rfl)
theorem dX1_stepsTo_2 : decode cX1_stepsTo 2 = .ok (.invokevirtual 91, 3) := dk_182 0 91 (dk_at dksX1_stepsTo_0 2 rfl rfl)
theorem dX1_stepsTo_5 : decode cX1_stepsTo 5 = .ok (.pop, 1) := dk_87 (dk_at dksX1_stepsTo_0 5 rfl rfl)
theorem dX1_stepsTo_6 : decode cX1_stepsTo 6 = .ok (.aload_n 0, 1) := dk_42 (dk_at dksX1_stepsTo_0 6 rfl rfl)
theorem dX1_stepsTo_7 : decode cX1_stepsTo 7 = .ok (.getfield 44, 3) := dk_180 0 44 (dk_at dksX1_stepsTo_0 7 rfl rfl)
theorem dX1_stepsTo_10 : decode cX1_stepsTo 10 = .ok (.iload_n 1, 1) := dk_27 (dk_at dksX1_stepsTo_0 10 rfl rfl)
theorem dX1_stepsTo_11 : decode cX1_stepsTo 11 = .ok (.aload_n 0, 1) := dk_42 (dk_at dksX1_stepsTo_0 11 rfl rfl)
theorem dX1_stepsTo_12 : decode cX1_stepsTo 12 = .ok (.iload_n 2, 1) := dk_28 (dk_at dksX1_stepsTo_0 12 rfl rfl)
theorem dX1_stepsTo_13 : decode cX1_stepsTo 13 = .ok (.invokevirtual 153, 3) := dk_182 0 153 (dk_at dksX1_stepsTo_0 13 rfl rfl)
theorem dX1_stepsTo_16 : decode cX1_stepsTo 16 = .ok (.invokevirtual 284, 3) := dk_182 1 28 (dk_at dksX1_stepsTo_0 16 rfl rfl)
theorem dX1_stepsTo_19 : decode cX1_stepsTo 19 = .ok (.ireturn, 1) := dk_172 (dk_at dksX1_stepsTo_0 19 rfl rfl)
abbrev cX1_openGutters : ByteArray := prog_1_method_53_code
def yX1_openGutters : MethodName := ⟨RX1, "openGutters", "(I)I"⟩
def dkwX1_openGutters_2 : List UInt8 := [61, 132, 3, 1, 167, 255, 215, 28, 172]
abbrev dktX1_openGutters_2 : List UInt8 := dkwX1_openGutters_2 ++ []
def dkwX1_openGutters_1 : List UInt8 := [162, 0, 31, 28, 42, 180, 0, 44, 27, 29, 182, 1, 31, 154, 0, 9, 4, 29, 120, 167, 0, 4, 3, 128]
abbrev dktX1_openGutters_1 : List UInt8 := dkwX1_openGutters_1 ++ dktX1_openGutters_2
def dkwX1_openGutters_0 : List UInt8 := [42, 27, 182, 0, 91, 87, 3, 61, 3, 62, 29, 42, 180, 0, 44, 180, 0, 75, 185, 0, 62, 1, 0]
abbrev dktX1_openGutters_0 : List UInt8 := dkwX1_openGutters_0 ++ dktX1_openGutters_1
theorem dksX1_openGutters_0 : cX1_openGutters.data.toList.drop 0 = dktX1_openGutters_0 := by decide +kernel
theorem dksX1_openGutters_1 : cX1_openGutters.data.toList.drop 23 = dktX1_openGutters_1 := dk_seg dksX1_openGutters_0 23 rfl rfl
theorem dksX1_openGutters_2 : cX1_openGutters.data.toList.drop 47 = dktX1_openGutters_2 := dk_seg dksX1_openGutters_1 24 rfl rfl
theorem dX1_openGutters_0 : decode cX1_openGutters 0 = .ok (.aload_n 0, 1) := dk_42 (dk_at dksX1_openGutters_0 0 rfl rfl)
theorem dX1_openGutters_1 : decode cX1_openGutters 1 = .ok (.iload_n 1, 1) := dk_27 (dk_at dksX1_openGutters_0 1 rfl rfl)
theorem dX1_openGutters_2 : decode cX1_openGutters 2 = .ok (.invokevirtual 91, 3) := dk_182 0 91 (dk_at dksX1_openGutters_0 2 rfl rfl)
theorem dX1_openGutters_5 : decode cX1_openGutters 5 = .ok (.pop, 1) := dk_87 (dk_at dksX1_openGutters_0 5 rfl rfl)
theorem dX1_openGutters_6 : decode cX1_openGutters 6 = .ok (.iconst 0, 1) := dk_3 (dk_at dksX1_openGutters_0 6 rfl rfl)
theorem dX1_openGutters_7 : decode cX1_openGutters 7 = .ok (.istore_n 2, 1) := dk_61 (dk_at dksX1_openGutters_0 7 rfl rfl)
theorem dX1_openGutters_8 : decode cX1_openGutters 8 = .ok (.iconst 0, 1) := dk_3 (dk_at dksX1_openGutters_0 8 rfl rfl)
theorem dX1_openGutters_9 : decode cX1_openGutters 9 = .ok (.istore_n 3, 1) := dk_62 (dk_at dksX1_openGutters_0 9 rfl rfl)
theorem dX1_openGutters_10 : decode cX1_openGutters 10 = .ok (.iload_n 3, 1) := dk_29 (dk_at dksX1_openGutters_0 10 rfl rfl)
theorem dX1_openGutters_11 : decode cX1_openGutters 11 = .ok (.aload_n 0, 1) := dk_42 (dk_at dksX1_openGutters_0 11 rfl rfl)
theorem dX1_openGutters_12 : decode cX1_openGutters 12 = .ok (.getfield 44, 3) := dk_180 0 44 (dk_at dksX1_openGutters_0 12 rfl rfl)
theorem dX1_openGutters_15 : decode cX1_openGutters 15 = .ok (.getfield 75, 3) := dk_180 0 75 (dk_at dksX1_openGutters_0 15 rfl rfl)
theorem dX1_openGutters_18 : decode cX1_openGutters 18 = .ok (.invokeinterface 62 1, 5) := by decide +kernel
theorem dX1_openGutters_23 : decode cX1_openGutters 23 = .ok (.if_icmp .ge 31, 3) := dk_162 0 31 (dk_at dksX1_openGutters_1 0 rfl rfl)
theorem dX1_openGutters_26 : decode cX1_openGutters 26 = .ok (.iload_n 2, 1) := dk_28 (dk_at dksX1_openGutters_1 3 rfl rfl)
theorem dX1_openGutters_27 : decode cX1_openGutters 27 = .ok (.aload_n 0, 1) := dk_42 (dk_at dksX1_openGutters_1 4 rfl rfl)
theorem dX1_openGutters_28 : decode cX1_openGutters 28 = .ok (.getfield 44, 3) := dk_180 0 44 (dk_at dksX1_openGutters_1 5 rfl rfl)
theorem dX1_openGutters_31 : decode cX1_openGutters 31 = .ok (.iload_n 1, 1) := dk_27 (dk_at dksX1_openGutters_1 8 rfl rfl)
theorem dX1_openGutters_32 : decode cX1_openGutters 32 = .ok (.iload_n 3, 1) := dk_29 (dk_at dksX1_openGutters_1 9 rfl rfl)
theorem dX1_openGutters_33 : decode cX1_openGutters 33 = .ok (.invokevirtual 287, 3) := dk_182 1 31 (dk_at dksX1_openGutters_1 10 rfl rfl)
theorem dX1_openGutters_36 : decode cX1_openGutters 36 = .ok (.ifCond .ne 9, 3) := dk_154 0 9 (dk_at dksX1_openGutters_1 13 rfl rfl)
theorem dX1_openGutters_39 : decode cX1_openGutters 39 = .ok (.iconst 1, 1) := dk_4 (dk_at dksX1_openGutters_1 16 rfl rfl)
theorem dX1_openGutters_40 : decode cX1_openGutters 40 = .ok (.iload_n 3, 1) := dk_29 (dk_at dksX1_openGutters_1 17 rfl rfl)
theorem dX1_openGutters_41 : decode cX1_openGutters 41 = .ok (.ishl, 1) := dk_120 (dk_at dksX1_openGutters_1 18 rfl rfl)
theorem dX1_openGutters_42 : decode cX1_openGutters 42 = .ok (.goto 4, 3) := dk_167 0 4 (dk_at dksX1_openGutters_1 19 rfl rfl)
theorem dX1_openGutters_45 : decode cX1_openGutters 45 = .ok (.iconst 0, 1) := dk_3 (dk_at dksX1_openGutters_1 22 rfl rfl)
theorem dX1_openGutters_46 : decode cX1_openGutters 46 = .ok (.ior, 1) := dk_128 (dk_at dksX1_openGutters_1 23 rfl rfl)
theorem dX1_openGutters_47 : decode cX1_openGutters 47 = .ok (.istore_n 2, 1) := dk_61 (dk_at dksX1_openGutters_2 0 rfl rfl)
theorem dX1_openGutters_48 : decode cX1_openGutters 48 = .ok (.iinc 3 1, 3) := dk_132 3 1 (dk_at dksX1_openGutters_2 1 rfl rfl)
theorem dX1_openGutters_51 : decode cX1_openGutters 51 = .ok (.goto (-41), 3) := dk_167 255 215 (dk_at dksX1_openGutters_2 4 rfl rfl)
theorem dX1_openGutters_54 : decode cX1_openGutters 54 = .ok (.iload_n 2, 1) := dk_28 (dk_at dksX1_openGutters_2 7 rfl rfl)
theorem dX1_openGutters_55 : decode cX1_openGutters 55 = .ok (.ireturn, 1) := dk_172 (dk_at dksX1_openGutters_2 8 rfl rfl)
abbrev cX1_preyOf : ByteArray := prog_1_method_57_code
def yX1_preyOf : MethodName := ⟨RX1, "preyOf", "(I)I"⟩
def dkwX1_preyOf_2 : List UInt8 := [167, 0, 4, 3, 128, 61, 132, 3, 1, 167, 255, 210, 28, 172]
abbrev dktX1_preyOf_2 : List UInt8 := dkwX1_preyOf_2 ++ []
def dkwX1_preyOf_1 : List UInt8 := [162, 0, 36, 28, 29, 27, 159, 0, 21, 42, 180, 0, 44, 27, 29, 182, 1, 37, 154, 0, 9, 4, 29, 120]
abbrev dktX1_preyOf_1 : List UInt8 := dkwX1_preyOf_1 ++ dktX1_preyOf_2
def dkwX1_preyOf_0 : List UInt8 := [42, 27, 182, 0, 91, 87, 3, 61, 3, 62, 29, 42, 180, 0, 44, 180, 0, 72, 185, 0, 62, 1, 0]
abbrev dktX1_preyOf_0 : List UInt8 := dkwX1_preyOf_0 ++ dktX1_preyOf_1
theorem dksX1_preyOf_0 : cX1_preyOf.data.toList.drop 0 = dktX1_preyOf_0 := by decide +kernel
theorem dksX1_preyOf_1 : cX1_preyOf.data.toList.drop 23 = dktX1_preyOf_1 := dk_seg dksX1_preyOf_0 23 rfl rfl
theorem dksX1_preyOf_2 : cX1_preyOf.data.toList.drop 47 = dktX1_preyOf_2 := dk_seg dksX1_preyOf_1 24 rfl rfl
theorem dX1_preyOf_0 : decode cX1_preyOf 0 = .ok (.aload_n 0, 1) := dk_42 (dk_at dksX1_preyOf_0 0 rfl rfl)
theorem dX1_preyOf_1 : decode cX1_preyOf 1 = .ok (.iload_n 1, 1) := dk_27 (dk_at dksX1_preyOf_0 1 rfl rfl)
theorem dX1_preyOf_2 : decode cX1_preyOf 2 = .ok (.invokevirtual 91, 3) := dk_182 0 91 (dk_at dksX1_preyOf_0 2 rfl rfl)
theorem dX1_preyOf_5 : decode cX1_preyOf 5 = .ok (.pop, 1) := dk_87 (dk_at dksX1_preyOf_0 5 rfl rfl)
theorem dX1_preyOf_6 : decode cX1_preyOf 6 = .ok (.iconst 0, 1) := dk_3 (dk_at dksX1_preyOf_0 6 rfl rfl)
theorem dX1_preyOf_7 : decode cX1_preyOf 7 = .ok (.istore_n 2, 1) := dk_61 (dk_at dksX1_preyOf_0 7 rfl rfl)
theorem dX1_preyOf_8 : decode cX1_preyOf 8 = .ok (.iconst 0, 1) := dk_3 (dk_at dksX1_preyOf_0 8 rfl rfl)
theorem dX1_preyOf_9 : decode cX1_preyOf 9 = .ok (.istore_n 3, 1) := dk_62 (dk_at dksX1_preyOf_0 9 rfl rfl)
theorem dX1_preyOf_10 : decode cX1_preyOf 10 = .ok (.iload_n 3, 1) := dk_29 (dk_at dksX1_preyOf_0 10 rfl rfl)
theorem dX1_preyOf_11 : decode cX1_preyOf 11 = .ok (.aload_n 0, 1) := dk_42 (dk_at dksX1_preyOf_0 11 rfl rfl)
theorem dX1_preyOf_12 : decode cX1_preyOf 12 = .ok (.getfield 44, 3) := dk_180 0 44 (dk_at dksX1_preyOf_0 12 rfl rfl)
theorem dX1_preyOf_15 : decode cX1_preyOf 15 = .ok (.getfield 72, 3) := dk_180 0 72 (dk_at dksX1_preyOf_0 15 rfl rfl)
theorem dX1_preyOf_18 : decode cX1_preyOf 18 = .ok (.invokeinterface 62 1, 5) := by decide +kernel
theorem dX1_preyOf_23 : decode cX1_preyOf 23 = .ok (.if_icmp .ge 36, 3) := dk_162 0 36 (dk_at dksX1_preyOf_1 0 rfl rfl)
theorem dX1_preyOf_26 : decode cX1_preyOf 26 = .ok (.iload_n 2, 1) := dk_28 (dk_at dksX1_preyOf_1 3 rfl rfl)
theorem dX1_preyOf_27 : decode cX1_preyOf 27 = .ok (.iload_n 3, 1) := dk_29 (dk_at dksX1_preyOf_1 4 rfl rfl)
theorem dX1_preyOf_28 : decode cX1_preyOf 28 = .ok (.iload_n 1, 1) := dk_27 (dk_at dksX1_preyOf_1 5 rfl rfl)
theorem dX1_preyOf_29 : decode cX1_preyOf 29 = .ok (.if_icmp .eq 21, 3) := dk_159 0 21 (dk_at dksX1_preyOf_1 6 rfl rfl)
theorem dX1_preyOf_32 : decode cX1_preyOf 32 = .ok (.aload_n 0, 1) := dk_42 (dk_at dksX1_preyOf_1 9 rfl rfl)
theorem dX1_preyOf_33 : decode cX1_preyOf 33 = .ok (.getfield 44, 3) := dk_180 0 44 (dk_at dksX1_preyOf_1 10 rfl rfl)
theorem dX1_preyOf_36 : decode cX1_preyOf 36 = .ok (.iload_n 1, 1) := dk_27 (dk_at dksX1_preyOf_1 13 rfl rfl)
theorem dX1_preyOf_37 : decode cX1_preyOf 37 = .ok (.iload_n 3, 1) := dk_29 (dk_at dksX1_preyOf_1 14 rfl rfl)
theorem dX1_preyOf_38 : decode cX1_preyOf 38 = .ok (.invokevirtual 293, 3) := dk_182 1 37 (dk_at dksX1_preyOf_1 15 rfl rfl)
theorem dX1_preyOf_41 : decode cX1_preyOf 41 = .ok (.ifCond .ne 9, 3) := dk_154 0 9 (dk_at dksX1_preyOf_1 18 rfl rfl)
theorem dX1_preyOf_44 : decode cX1_preyOf 44 = .ok (.iconst 1, 1) := dk_4 (dk_at dksX1_preyOf_1 21 rfl rfl)
theorem dX1_preyOf_45 : decode cX1_preyOf 45 = .ok (.iload_n 3, 1) := dk_29 (dk_at dksX1_preyOf_1 22 rfl rfl)
theorem dX1_preyOf_46 : decode cX1_preyOf 46 = .ok (.ishl, 1) := dk_120 (dk_at dksX1_preyOf_1 23 rfl rfl)
theorem dX1_preyOf_47 : decode cX1_preyOf 47 = .ok (.goto 4, 3) := dk_167 0 4 (dk_at dksX1_preyOf_2 0 rfl rfl)
theorem dX1_preyOf_50 : decode cX1_preyOf 50 = .ok (.iconst 0, 1) := dk_3 (dk_at dksX1_preyOf_2 3 rfl rfl)
theorem dX1_preyOf_51 : decode cX1_preyOf 51 = .ok (.ior, 1) := dk_128 (dk_at dksX1_preyOf_2 4 rfl rfl)
theorem dX1_preyOf_52 : decode cX1_preyOf 52 = .ok (.istore_n 2, 1) := dk_61 (dk_at dksX1_preyOf_2 5 rfl rfl)
theorem dX1_preyOf_53 : decode cX1_preyOf 53 = .ok (.iinc 3 1, 3) := dk_132 3 1 (dk_at dksX1_preyOf_2 6 rfl rfl)
theorem dX1_preyOf_56 : decode cX1_preyOf 56 = .ok (.goto (-46), 3) := dk_167 255 210 (dk_at dksX1_preyOf_2 9 rfl rfl)
theorem dX1_preyOf_59 : decode cX1_preyOf 59 = .ok (.iload_n 2, 1) := dk_28 (dk_at dksX1_preyOf_2 12 rfl rfl)
theorem dX1_preyOf_60 : decode cX1_preyOf 60 = .ok (.ireturn, 1) := dk_172 (dk_at dksX1_preyOf_2 13 rfl rfl)
abbrev cX1_hasVoted : ByteArray := prog_1_method_61_code
def yX1_hasVoted : MethodName := ⟨RX1, "hasVoted", "(I)Z"⟩
def dkwX1_hasVoted_1 : List UInt8 := [182, 1, 57, 153, 0, 7, 4, 167, 0, 4, 3, 172]
abbrev dktX1_hasVoted_1 : List UInt8 := dkwX1_hasVoted_1 ++ []
def dkwX1_hasVoted_0 : List UInt8 := [42, 27, 182, 0, 91, 87, 42, 180, 0, 44, 180, 1, 40, 198, 0, 21, 42, 180, 0, 44, 180, 1, 40, 27]
abbrev dktX1_hasVoted_0 : List UInt8 := dkwX1_hasVoted_0 ++ dktX1_hasVoted_1
theorem dksX1_hasVoted_0 : cX1_hasVoted.data.toList.drop 0 = dktX1_hasVoted_0 := by decide +kernel
theorem dksX1_hasVoted_1 : cX1_hasVoted.data.toList.drop 24 = dktX1_hasVoted_1 := dk_seg dksX1_hasVoted_0 24 rfl rfl
theorem dX1_hasVoted_0 : decode cX1_hasVoted 0 = .ok (.aload_n 0, 1) := dk_42 (dk_at dksX1_hasVoted_0 0 rfl rfl)
theorem dX1_hasVoted_1 : decode cX1_hasVoted 1 = .ok (.iload_n 1, 1) := dk_27 (dk_at dksX1_hasVoted_0 1 rfl rfl)
theorem dX1_hasVoted_2 : decode cX1_hasVoted 2 = .ok (.invokevirtual 91, 3) := dk_182 0 91 (dk_at dksX1_hasVoted_0 2 rfl rfl)
theorem dX1_hasVoted_5 : decode cX1_hasVoted 5 = .ok (.pop, 1) := dk_87 (dk_at dksX1_hasVoted_0 5 rfl rfl)
theorem dX1_hasVoted_6 : decode cX1_hasVoted 6 = .ok (.aload_n 0, 1) := dk_42 (dk_at dksX1_hasVoted_0 6 rfl rfl)
theorem dX1_hasVoted_7 : decode cX1_hasVoted 7 = .ok (.getfield 44, 3) := dk_180 0 44 (dk_at dksX1_hasVoted_0 7 rfl rfl)
theorem dX1_hasVoted_10 : decode cX1_hasVoted 10 = .ok (.getfield 296, 3) := dk_180 1 40 (dk_at dksX1_hasVoted_0 10 rfl rfl)
theorem dX1_hasVoted_13 : decode cX1_hasVoted 13 = .ok (.ifnull 21, 3) := dk_198 0 21 (dk_at dksX1_hasVoted_0 13 rfl rfl)
theorem dX1_hasVoted_16 : decode cX1_hasVoted 16 = .ok (.aload_n 0, 1) := dk_42 (dk_at dksX1_hasVoted_0 16 rfl rfl)
theorem dX1_hasVoted_17 : decode cX1_hasVoted 17 = .ok (.getfield 44, 3) := dk_180 0 44 (dk_at dksX1_hasVoted_0 17 rfl rfl)
theorem dX1_hasVoted_20 : decode cX1_hasVoted 20 = .ok (.getfield 296, 3) := dk_180 1 40 (dk_at dksX1_hasVoted_0 20 rfl rfl)
theorem dX1_hasVoted_23 : decode cX1_hasVoted 23 = .ok (.iload_n 1, 1) := dk_27 (dk_at dksX1_hasVoted_0 23 rfl rfl)
theorem dX1_hasVoted_24 : decode cX1_hasVoted 24 = .ok (.invokevirtual 313, 3) := dk_182 1 57 (dk_at dksX1_hasVoted_1 0 rfl rfl)
theorem dX1_hasVoted_27 : decode cX1_hasVoted 27 = .ok (.ifCond .eq 7, 3) := dk_153 0 7 (dk_at dksX1_hasVoted_1 3 rfl rfl)
theorem dX1_hasVoted_30 : decode cX1_hasVoted 30 = .ok (.iconst 1, 1) := dk_4 (dk_at dksX1_hasVoted_1 6 rfl rfl)
theorem dX1_hasVoted_31 : decode cX1_hasVoted 31 = .ok (.goto 4, 3) := dk_167 0 4 (dk_at dksX1_hasVoted_1 7 rfl rfl)
theorem dX1_hasVoted_34 : decode cX1_hasVoted 34 = .ok (.iconst 0, 1) := dk_3 (dk_at dksX1_hasVoted_1 10 rfl rfl)
theorem dX1_hasVoted_35 : decode cX1_hasVoted 35 = .ok (.ireturn, 1) := dk_172 (dk_at dksX1_hasVoted_1 11 rfl rfl)
abbrev cX1_choirOf : ByteArray := prog_1_method_62_code
def yX1_choirOf : MethodName := ⟨RX1, "choirOf", "(I)I"⟩
def dkwX1_choirOf_0 : List UInt8 := [42, 180, 0, 44, 42, 27, 182, 0, 91, 182, 1, 60, 172]
abbrev dktX1_choirOf_0 : List UInt8 := dkwX1_choirOf_0 ++ []
theorem dksX1_choirOf_0 : cX1_choirOf.data.toList.drop 0 = dktX1_choirOf_0 := by decide +kernel
theorem dX1_choirOf_0 : decode cX1_choirOf 0 = .ok (.aload_n 0, 1) := dk_42 (dk_at dksX1_choirOf_0 0 rfl rfl)
theorem dX1_choirOf_1 : decode cX1_choirOf 1 = .ok (.getfield 44, 3) := dk_180 0 44 (dk_at dksX1_choirOf_0 1 rfl rfl)
theorem dX1_choirOf_4 : decode cX1_choirOf 4 = .ok (.aload_n 0, 1) := dk_42 (dk_at dksX1_choirOf_0 4 rfl rfl)
theorem dX1_choirOf_5 : decode cX1_choirOf 5 = .ok (.iload_n 1, 1) := dk_27 (dk_at dksX1_choirOf_0 5 rfl rfl)
theorem dX1_choirOf_6 : decode cX1_choirOf 6 = .ok (.invokevirtual 91, 3) := dk_182 0 91 (dk_at dksX1_choirOf_0 6 rfl rfl)
theorem dX1_choirOf_9 : decode cX1_choirOf 9 = .ok (.invokevirtual 316, 3) := dk_182 1 60 (dk_at dksX1_choirOf_0 9 rfl rfl)
theorem dX1_choirOf_12 : decode cX1_choirOf 12 = .ok (.ireturn, 1) := dk_172 (dk_at dksX1_choirOf_0 12 rfl rfl)
abbrev cX1_fishAfter : ByteArray := prog_1_method_66_code
def yX1_fishAfter : MethodName := ⟨RX1, "fishAfter", "(II)I"⟩
def dkwX1_fishAfter_2 : List UInt8 := [185, 0, 78, 2, 0, 192, 0, 165, 180, 1, 14, 172]
abbrev dktX1_fishAfter_2 : List UInt8 := dkwX1_fishAfter_2 ++ []
def dkwX1_fishAfter_1 : List UInt8 := [21, 4, 28, 162, 0, 13, 45, 182, 1, 69, 132, 4, 1, 167, 255, 243, 45, 180, 0, 72, 27]
abbrev dktX1_fishAfter_1 : List UInt8 := dkwX1_fishAfter_1 ++ dktX1_fishAfter_2
def dkwX1_fishAfter_0 : List UInt8 := [42, 27, 182, 0, 91, 87, 28, 3, 16, 30, 184, 0, 95, 42, 180, 0, 44, 182, 0, 108, 78, 3, 54, 4]
abbrev dktX1_fishAfter_0 : List UInt8 := dkwX1_fishAfter_0 ++ dktX1_fishAfter_1
theorem dksX1_fishAfter_0 : cX1_fishAfter.data.toList.drop 0 = dktX1_fishAfter_0 := by decide +kernel
theorem dksX1_fishAfter_1 : cX1_fishAfter.data.toList.drop 24 = dktX1_fishAfter_1 := dk_seg dksX1_fishAfter_0 24 rfl rfl
theorem dksX1_fishAfter_2 : cX1_fishAfter.data.toList.drop 45 = dktX1_fishAfter_2 := dk_seg dksX1_fishAfter_1 21 rfl rfl
theorem dX1_fishAfter_0 : decode cX1_fishAfter 0 = .ok (.aload_n 0, 1) := dk_42 (dk_at dksX1_fishAfter_0 0 rfl rfl)
theorem dX1_fishAfter_1 : decode cX1_fishAfter 1 = .ok (.iload_n 1, 1) := dk_27 (dk_at dksX1_fishAfter_0 1 rfl rfl)
theorem dX1_fishAfter_2 : decode cX1_fishAfter 2 = .ok (.invokevirtual 91, 3) := dk_182 0 91 (dk_at dksX1_fishAfter_0 2 rfl rfl)
theorem dX1_fishAfter_5 : decode cX1_fishAfter 5 = .ok (.pop, 1) := dk_87 (dk_at dksX1_fishAfter_0 5 rfl rfl)
theorem dX1_fishAfter_6 : decode cX1_fishAfter 6 = .ok (.iload_n 2, 1) := dk_28 (dk_at dksX1_fishAfter_0 6 rfl rfl)
theorem dX1_fishAfter_7 : decode cX1_fishAfter 7 = .ok (.iconst 0, 1) := dk_3 (dk_at dksX1_fishAfter_0 7 rfl rfl)
theorem dX1_fishAfter_8 : decode cX1_fishAfter 8 = .ok (.bipush 30, 2) := dk_16 30 (dk_at dksX1_fishAfter_0 8 rfl rfl)
theorem dX1_fishAfter_10 : decode cX1_fishAfter 10 = .ok (.invokestatic 95, 3) := dk_184 0 95 (dk_at dksX1_fishAfter_0 10 rfl rfl)
theorem dX1_fishAfter_13 : decode cX1_fishAfter 13 = .ok (.aload_n 0, 1) := dk_42 (dk_at dksX1_fishAfter_0 13 rfl rfl)
theorem dX1_fishAfter_14 : decode cX1_fishAfter 14 = .ok (.getfield 44, 3) := dk_180 0 44 (dk_at dksX1_fishAfter_0 14 rfl rfl)
theorem dX1_fishAfter_17 : decode cX1_fishAfter 17 = .ok (.invokevirtual 108, 3) := dk_182 0 108 (dk_at dksX1_fishAfter_0 17 rfl rfl)
theorem dX1_fishAfter_20 : decode cX1_fishAfter 20 = .ok (.astore_n 3, 1) := dk_78 (dk_at dksX1_fishAfter_0 20 rfl rfl)
theorem dX1_fishAfter_21 : decode cX1_fishAfter 21 = .ok (.iconst 0, 1) := dk_3 (dk_at dksX1_fishAfter_0 21 rfl rfl)
theorem dX1_fishAfter_22 : decode cX1_fishAfter 22 = .ok (.istore 4, 2) := dk_54 4 (dk_at dksX1_fishAfter_0 22 rfl rfl)
theorem dX1_fishAfter_24 : decode cX1_fishAfter 24 = .ok (.iload 4, 2) := dk_21 4 (dk_at dksX1_fishAfter_1 0 rfl rfl)
theorem dX1_fishAfter_26 : decode cX1_fishAfter 26 = .ok (.iload_n 2, 1) := dk_28 (dk_at dksX1_fishAfter_1 2 rfl rfl)
theorem dX1_fishAfter_27 : decode cX1_fishAfter 27 = .ok (.if_icmp .ge 13, 3) := dk_162 0 13 (dk_at dksX1_fishAfter_1 3 rfl rfl)
theorem dX1_fishAfter_30 : decode cX1_fishAfter 30 = .ok (.aload_n 3, 1) := dk_45 (dk_at dksX1_fishAfter_1 6 rfl rfl)
theorem dX1_fishAfter_31 : decode cX1_fishAfter 31 = .ok (.invokevirtual 325, 3) := dk_182 1 69 (dk_at dksX1_fishAfter_1 7 rfl rfl)
theorem dX1_fishAfter_34 : decode cX1_fishAfter 34 = .ok (.iinc 4 1, 3) := dk_132 4 1 (dk_at dksX1_fishAfter_1 10 rfl rfl)
theorem dX1_fishAfter_37 : decode cX1_fishAfter 37 = .ok (.goto (-13), 3) := dk_167 255 243 (dk_at dksX1_fishAfter_1 13 rfl rfl)
theorem dX1_fishAfter_40 : decode cX1_fishAfter 40 = .ok (.aload_n 3, 1) := dk_45 (dk_at dksX1_fishAfter_1 16 rfl rfl)
theorem dX1_fishAfter_41 : decode cX1_fishAfter 41 = .ok (.getfield 72, 3) := dk_180 0 72 (dk_at dksX1_fishAfter_1 17 rfl rfl)
theorem dX1_fishAfter_44 : decode cX1_fishAfter 44 = .ok (.iload_n 1, 1) := dk_27 (dk_at dksX1_fishAfter_1 20 rfl rfl)
theorem dX1_fishAfter_45 : decode cX1_fishAfter 45 = .ok (.invokeinterface 78 2, 5) := by decide +kernel
theorem dX1_fishAfter_50 : decode cX1_fishAfter 50 = .ok (.checkcast 165, 3) := dk_192 0 165 (dk_at dksX1_fishAfter_2 5 rfl rfl)
theorem dX1_fishAfter_53 : decode cX1_fishAfter 53 = .ok (.getfield 270, 3) := dk_180 1 14 (dk_at dksX1_fishAfter_2 8 rfl rfl)
theorem dX1_fishAfter_56 : decode cX1_fishAfter 56 = .ok (.ireturn, 1) := dk_172 (dk_at dksX1_fishAfter_2 11 rfl rfl)
theorem q116 : (Jvm.Cond.initialized "RooftopCats") ∈ lw_all := lw_g (lw_at lw_m1 1 rfl) rfl
theorem q156 : (Jvm.Cond.instantiable "RooftopCats" (7 : Nat)) ∈ lw_all := lw_g (lw_at lw_m1 41 rfl) rfl
theorem q158 : (Jvm.Cond.instanceMethod ({ cls := "RooftopCats", name := "<init>", desc := "()V" } : Jvm.MethodName)) ∈ lw_all := lw_g (lw_at lw_m1 43 rfl) rfl
theorem q159 : (Jvm.Cond.codeWith ({ cls := "RooftopCats", name := "<init>", desc := "()V" } : Jvm.MethodName) prog_1_method_1_code (2 : Nat) (Option.none : Option Jvm.ClassFile.FieldType) [((37 : Nat), (53 : Nat), (56 : Nat), (48 : Nat))]) ∈ lw_all := lw_g (lw_at lw_m1 44 rfl) rfl
theorem q160 : (Jvm.Cond.classLink "RooftopCats" (48 : Nat) "RooftopCats$ScriptException") ∈ lw_all := lw_g (lw_at lw_m1 45 rfl) rfl
theorem q161 : (Jvm.Cond.methodLink "RooftopCats" (1 : Nat) ({ cls := "java/lang/Object", name := "<init>", desc := "()V" } : Jvm.MethodName)) ∈ lw_all := lw_g (lw_at lw_m1 46 rfl) rfl
theorem q164 : (Jvm.Cond.classLink "RooftopCats" (7 : Nat) "java/util/ArrayDeque") ∈ lw_all := lw_g (lw_at lw_m1 49 rfl) rfl
theorem q166 : (Jvm.Cond.methodLink "RooftopCats" (9 : Nat) ({ cls := "java/util/ArrayDeque", name := "<init>", desc := "()V" } : Jvm.MethodName)) ∈ lw_all := lw_g (lw_at lw_m1 51 rfl) rfl
theorem q185 : (Jvm.Cond.classLink "RooftopCats" (16 : Nat) "java/lang/StringBuilder") ∈ lw_all := lw_g (lw_at lw_m1 70 rfl) rfl
theorem q187 : (Jvm.Cond.methodLink "RooftopCats" (18 : Nat) ({ cls := "java/lang/StringBuilder", name := "<init>", desc := "()V" } : Jvm.MethodName)) ∈ lw_all := lw_g (lw_at lw_m1 72 rfl) rfl
theorem q218 : (Jvm.Cond.stringRef "RooftopCats" (23 : Nat) "") ∈ lw_tbl := lw_at lw_m1 103 rfl
theorem q219 : (Jvm.Cond.classLink "RooftopCats" (33 : Nat) "RooftopCats$Parser") ∈ lw_all := lw_g (lw_at lw_m1 104 rfl) rfl
theorem q221 : (Jvm.Cond.stringRef "RooftopCats" (35 : Nat) "roof; chimney 6; chimney 3; chimney 9; chimney 0; chimney 4; gutter 0 1 5; gutter 1 2 3; gutter 2 3 7; gutter 0 3 2; gutter 3 4 9; cat 0 4 5; cat 2 3 6; cat 4 6 3; claim 0; claim 1; truce 2 1 2 6; nights 3;") ∈ lw_tbl := lw_at lw_m1 106 rfl
theorem q222 : (Jvm.Cond.methodLink "RooftopCats" (37 : Nat) ({ cls := "RooftopCats$Parser", name := "<init>", desc := "(Ljava/lang/String;)V" } : Jvm.MethodName)) ∈ lw_all := lw_g (lw_at lw_m1 107 rfl) rfl
theorem q262 : (Jvm.Cond.fieldLinkNest "RooftopCats" (56 : Nat) "RooftopCats$Roof" "chimneys" "Ljava/util/List;" "RooftopCats") ∈ lw_tbl := lw_at lw_m1 147 rfl
theorem q265 : (Jvm.Cond.fieldLinkNest "RooftopCats" (75 : Nat) "RooftopCats$Roof" "gutters" "Ljava/util/List;" "RooftopCats") ∈ lw_tbl := lw_at lw_m1 150 rfl
theorem q268 : (Jvm.Cond.fieldLinkNest "RooftopCats" (72 : Nat) "RooftopCats$Roof" "cats" "Ljava/util/List;" "RooftopCats") ∈ lw_tbl := lw_at lw_m1 153 rfl
theorem q272 : (Jvm.Cond.fieldLinkNest "RooftopCats" (296 : Nat) "RooftopCats$Roof" "kitten" "LRooftopCats$Kitten;" "RooftopCats") ∈ lw_tbl := lw_at lw_m1 157 rfl
theorem q275 : (Jvm.Cond.fieldLinkNest "RooftopCats" (219 : Nat) "RooftopCats$Roof" "night" "I" "RooftopCats") ∈ lw_tbl := lw_at lw_m1 160 rfl
theorem q277 : (Jvm.Cond.fieldLinkNest "RooftopCats" (344 : Nat) "RooftopCats$Roof" "caught" "I" "RooftopCats") ∈ lw_tbl := lw_at lw_m1 162 rfl
theorem q279 : (Jvm.Cond.fieldLinkNest "RooftopCats" (347 : Nat) "RooftopCats$Roof" "eaten" "I" "RooftopCats") ∈ lw_tbl := lw_at lw_m1 164 rfl
theorem q682 : (Jvm.Cond.methodLink "RooftopCats" (40 : Nat) ({ cls := "RooftopCats$Parser", name := "parse", desc := "()LRooftopCats$Roof;" } : Jvm.MethodName)) ∈ lw_all := lw_g (lw_at lw_m3 87 rfl) rfl
theorem q716 : (Jvm.Cond.fieldLinkNest "RooftopCats" (136 : Nat) "RooftopCats$ScriptException" "kind" "I" "RooftopCats") ∈ lw_tbl := lw_at lw_m3 121 rfl
theorem q718 : (Jvm.Cond.fieldLinkNest "RooftopCats" (139 : Nat) "RooftopCats$ScriptException" "offset" "I" "RooftopCats") ∈ lw_tbl := lw_at lw_m3 123 rfl
theorem q836 : (Jvm.Cond.fieldLinkNest "RooftopCats" (240 : Nat) "RooftopCats$Chimney" "warmth" "I" "RooftopCats") ∈ lw_tbl := lw_at lw_m4 1 rfl
theorem q840 : (Jvm.Cond.fieldLinkNest "RooftopCats" (183 : Nat) "RooftopCats$Chimney" "owner" "I" "RooftopCats") ∈ lw_tbl := lw_at lw_m4 5 rfl
theorem q874 : (Jvm.Cond.selects "RooftopCats" ({ cls := "java/lang/Object", name := "getClass", desc := "()Ljava/lang/Class;" } : Jvm.MethodName) ({ cls := "java/lang/Object", name := "getClass", desc := "()Ljava/lang/Class;" } : Jvm.MethodName)) ∈ lw_all := lw_g (lw_at lw_m4 39 rfl) rfl
theorem q963 : (Jvm.Cond.fieldLinkNest "RooftopCats" (264 : Nat) "RooftopCats$Cat" "girth" "I" "RooftopCats") ∈ lw_tbl := lw_at lw_m4 128 rfl
theorem q968 : (Jvm.Cond.fieldLinkNest "RooftopCats" (273 : Nat) "RooftopCats$Cat" "chimney" "I" "RooftopCats") ∈ lw_tbl := lw_at lw_m4 133 rfl
theorem q971 : (Jvm.Cond.fieldLinkNest "RooftopCats" (270 : Nat) "RooftopCats$Cat" "fish" "I" "RooftopCats") ∈ lw_tbl := lw_at lw_m4 136 rfl
theorem q1201 : (Jvm.Cond.classLink "RooftopCats" (50 : Nat) "java/lang/IllegalStateException") ∈ lw_all := lw_g (lw_at lw_m5 126 rfl) rfl
theorem q1210 : (Jvm.Cond.methodLink "RooftopCats" (52 : Nat) ({ cls := "java/lang/IllegalStateException", name := "<init>", desc := "()V" } : Jvm.MethodName)) ∈ lw_all := lw_g (lw_at lw_m5 135 rfl) rfl
theorem q1219 : (Jvm.Cond.fieldLink "RooftopCats" (44 : Nat) "RooftopCats" "roof" "LRooftopCats$Roof;") ∈ lw_all := lw_g (lw_at lw_m5 144 rfl) rfl
theorem q1220 : (Jvm.Cond.fieldLink "RooftopCats" (10 : Nat) "RooftopCats" "history" "Ljava/util/ArrayDeque;") ∈ lw_all := lw_g (lw_at lw_m5 145 rfl) rfl
theorem q1221 : (Jvm.Cond.fieldLink "RooftopCats" (231 : Nat) "RooftopCats" "snapshot" "LRooftopCats$Roof;") ∈ lw_all := lw_g (lw_at lw_m5 146 rfl) rfl
theorem q1222 : (Jvm.Cond.fieldLink "RooftopCats" (19 : Nat) "RooftopCats" "input" "Ljava/lang/StringBuilder;") ∈ lw_all := lw_g (lw_at lw_m5 147 rfl) rfl
theorem q1223 : (Jvm.Cond.fieldLink "RooftopCats" (25 : Nat) "RooftopCats" "report" "Ljava/lang/String;") ∈ lw_all := lw_g (lw_at lw_m5 148 rfl) rfl
theorem q1224 : (Jvm.Cond.fieldLink "RooftopCats" (133 : Nat) "RooftopCats" "errorKind" "I") ∈ lw_all := lw_g (lw_at lw_m5 149 rfl) rfl
theorem q1225 : (Jvm.Cond.fieldLink "RooftopCats" (29 : Nat) "RooftopCats" "errorOffset" "I") ∈ lw_all := lw_g (lw_at lw_m5 150 rfl) rfl
theorem q1226 : (Jvm.Cond.lays "RooftopCats" "RooftopCats" "roof" "LRooftopCats$Roof;") ∈ lw_all := lw_g (lw_at lw_m5 151 rfl) rfl
theorem q1227 : (Jvm.Cond.soleField "RooftopCats" "roof") ∈ lw_all := lw_g (lw_at lw_m5 152 rfl) rfl
theorem q1228 : (Jvm.Cond.laysFinal "RooftopCats" "RooftopCats" "history" "Ljava/util/ArrayDeque;") ∈ lw_all := lw_g (lw_at lw_m5 153 rfl) rfl
theorem q1229 : (Jvm.Cond.soleField "RooftopCats" "history") ∈ lw_all := lw_g (lw_at lw_m5 154 rfl) rfl
theorem q1230 : (Jvm.Cond.lays "RooftopCats" "RooftopCats" "snapshot" "LRooftopCats$Roof;") ∈ lw_all := lw_g (lw_at lw_m5 155 rfl) rfl
theorem q1231 : (Jvm.Cond.soleField "RooftopCats" "snapshot") ∈ lw_all := lw_g (lw_at lw_m5 156 rfl) rfl
theorem q1232 : (Jvm.Cond.laysFinal "RooftopCats" "RooftopCats" "input" "Ljava/lang/StringBuilder;") ∈ lw_all := lw_g (lw_at lw_m5 157 rfl) rfl
theorem q1233 : (Jvm.Cond.soleField "RooftopCats" "input") ∈ lw_all := lw_g (lw_at lw_m5 158 rfl) rfl
theorem q1234 : (Jvm.Cond.lays "RooftopCats" "RooftopCats" "report" "Ljava/lang/String;") ∈ lw_all := lw_g (lw_at lw_m5 159 rfl) rfl
theorem q1235 : (Jvm.Cond.soleField "RooftopCats" "report") ∈ lw_all := lw_g (lw_at lw_m5 160 rfl) rfl
theorem q1236 : (Jvm.Cond.lays "RooftopCats" "RooftopCats" "errorKind" "I") ∈ lw_all := lw_g (lw_at lw_m5 161 rfl) rfl
theorem q1237 : (Jvm.Cond.soleField "RooftopCats" "errorKind") ∈ lw_all := lw_g (lw_at lw_m5 162 rfl) rfl
theorem q1238 : (Jvm.Cond.lays "RooftopCats" "RooftopCats" "errorOffset" "I") ∈ lw_all := lw_g (lw_at lw_m5 163 rfl) rfl
theorem q1239 : (Jvm.Cond.soleField "RooftopCats" "errorOffset") ∈ lw_all := lw_g (lw_at lw_m5 164 rfl) rfl
theorem q1240 : (Jvm.Cond.superclass "RooftopCats" "java/lang/Object") ∈ lw_all := lw_g (lw_at lw_m5 165 rfl) rfl
theorem q1242 : (Jvm.Cond.instanceMethod ({ cls := "RooftopCats", name := "append", desc := "(IIIII)I" } : Jvm.MethodName)) ∈ lw_all := lw_g (lw_at lw_m5 167 rfl) rfl
theorem q1243 : (Jvm.Cond.selects "RooftopCats" ({ cls := "RooftopCats", name := "append", desc := "(IIIII)I" } : Jvm.MethodName) ({ cls := "RooftopCats", name := "append", desc := "(IIIII)I" } : Jvm.MethodName)) ∈ lw_all := lw_g (lw_at lw_m5 168 rfl) rfl
theorem q1244 : (Jvm.Cond.code ({ cls := "RooftopCats", name := "append", desc := "(IIIII)I" } : Jvm.MethodName) prog_1_method_12_code (6 : Nat) (Option.some Jvm.ClassFile.FieldType.int)) ∈ lw_all := lw_g (lw_at lw_m5 169 rfl) rfl
theorem q1245 : (Jvm.Cond.methodLink "RooftopCats" (111 : Nat) ({ cls := "java/lang/StringBuilder", name := "length", desc := "()I" } : Jvm.MethodName)) ∈ lw_all := lw_g (lw_at lw_m5 170 rfl) rfl
theorem q1246 : (Jvm.Cond.methodLink "RooftopCats" (114 : Nat) ({ cls := "RooftopCats", name := "appendBytes", desc := "([I)V" } : Jvm.MethodName)) ∈ lw_all := lw_g (lw_at lw_m5 171 rfl) rfl
theorem q1247 : (Jvm.Cond.privateMethod ({ cls := "RooftopCats", name := "appendBytes", desc := "([I)V" } : Jvm.MethodName)) ∈ lw_tbl := lw_at lw_m5 172 rfl
theorem q1248 : (Jvm.Cond.instanceMethod ({ cls := "RooftopCats", name := "appendBytes", desc := "([I)V" } : Jvm.MethodName)) ∈ lw_all := lw_g (lw_at lw_m5 173 rfl) rfl
theorem q1249 : (Jvm.Cond.code ({ cls := "RooftopCats", name := "appendBytes", desc := "([I)V" } : Jvm.MethodName) prog_1_method_13_code (7 : Nat) (Option.none : Option Jvm.ClassFile.FieldType)) ∈ lw_all := lw_g (lw_at lw_m5 174 rfl) rfl
theorem q1250 : (Jvm.Cond.methodLink "RooftopCats" (118 : Nat) ({ cls := "java/lang/StringBuilder", name := "append", desc := "(C)Ljava/lang/StringBuilder;" } : Jvm.MethodName)) ∈ lw_all := lw_g (lw_at lw_m5 175 rfl) rfl
theorem q1264 : (Jvm.Cond.instanceMethod ({ cls := "RooftopCats", name := "runScript", desc := "()I" } : Jvm.MethodName)) ∈ lw_all := lw_g (lw_at lw_m5 189 rfl) rfl
theorem q1265 : (Jvm.Cond.selects "RooftopCats" ({ cls := "RooftopCats", name := "runScript", desc := "()I" } : Jvm.MethodName) ({ cls := "RooftopCats", name := "runScript", desc := "()I" } : Jvm.MethodName)) ∈ lw_all := lw_g (lw_at lw_m5 190 rfl) rfl
theorem q1266 : (Jvm.Cond.codeWith ({ cls := "RooftopCats", name := "runScript", desc := "()I" } : Jvm.MethodName) prog_1_method_15_code (3 : Nat) (Option.some Jvm.ClassFile.FieldType.int) [((16 : Nat), (59 : Nat), (60 : Nat), (48 : Nat))]) ∈ lw_all := lw_g (lw_at lw_m5 191 rfl) rfl
theorem q1267 : (Jvm.Cond.methodLink "RooftopCats" (126 : Nat) ({ cls := "java/lang/StringBuilder", name := "toString", desc := "()Ljava/lang/String;" } : Jvm.MethodName)) ∈ lw_all := lw_g (lw_at lw_m5 192 rfl) rfl
theorem q1268 : (Jvm.Cond.methodLink "RooftopCats" (122 : Nat) ({ cls := "java/lang/StringBuilder", name := "setLength", desc := "(I)V" } : Jvm.MethodName)) ∈ lw_all := lw_g (lw_at lw_m5 193 rfl) rfl
theorem q1336 : (Jvm.Cond.methodLink "RooftopCats" (130 : Nat) ({ cls := "RooftopCats", name := "remember", desc := "()V" } : Jvm.MethodName)) ∈ lw_all := lw_g (lw_at lw_m6 21 rfl) rfl
theorem q1337 : (Jvm.Cond.privateMethod ({ cls := "RooftopCats", name := "remember", desc := "()V" } : Jvm.MethodName)) ∈ lw_tbl := lw_at lw_m6 22 rfl
theorem q1338 : (Jvm.Cond.instanceMethod ({ cls := "RooftopCats", name := "remember", desc := "()V" } : Jvm.MethodName)) ∈ lw_all := lw_g (lw_at lw_m6 23 rfl) rfl
theorem q1339 : (Jvm.Cond.code ({ cls := "RooftopCats", name := "remember", desc := "()V" } : Jvm.MethodName) prog_1_method_11_code (1 : Nat) (Option.none : Option Jvm.ClassFile.FieldType)) ∈ lw_all := lw_g (lw_at lw_m6 24 rfl) rfl
theorem q1340 : (Jvm.Cond.methodLink "RooftopCats" (99 : Nat) ({ cls := "java/util/ArrayDeque", name := "addLast", desc := "(Ljava/lang/Object;)V" } : Jvm.MethodName)) ∈ lw_all := lw_g (lw_at lw_m6 25 rfl) rfl
theorem q1365 : (Jvm.Cond.methodLink "RooftopCats" (103 : Nat) ({ cls := "java/util/ArrayDeque", name := "size", desc := "()I" } : Jvm.MethodName)) ∈ lw_all := lw_g (lw_at lw_m6 50 rfl) rfl
theorem q1372 : (Jvm.Cond.methodLink "RooftopCats" (104 : Nat) ({ cls := "java/util/ArrayDeque", name := "removeFirst", desc := "()Ljava/lang/Object;" } : Jvm.MethodName)) ∈ lw_all := lw_g (lw_at lw_m6 57 rfl) rfl
theorem q1398 : (Jvm.Cond.methodLink "RooftopCats" (108 : Nat) ({ cls := "RooftopCats$Roof", name := "copy", desc := "()LRooftopCats$Roof;" } : Jvm.MethodName)) ∈ lw_all := lw_g (lw_at lw_m6 83 rfl) rfl
theorem q1470 : (Jvm.Cond.interfaceEntry "RooftopCats" (62 : Nat)) ∈ lw_tbl := lw_at lw_m6 155 rfl
theorem q1471 : (Jvm.Cond.methodLink "RooftopCats" (62 : Nat) ({ cls := "java/util/List", name := "size", desc := "()I" } : Jvm.MethodName)) ∈ lw_all := lw_g (lw_at lw_m6 156 rfl) rfl
theorem q1473 : (Jvm.Cond.instanceMethod ({ cls := "RooftopCats", name := "undo", desc := "()I" } : Jvm.MethodName)) ∈ lw_all := lw_g (lw_at lw_m6 158 rfl) rfl
theorem q1474 : (Jvm.Cond.selects "RooftopCats" ({ cls := "RooftopCats", name := "undo", desc := "()I" } : Jvm.MethodName) ({ cls := "RooftopCats", name := "undo", desc := "()I" } : Jvm.MethodName)) ∈ lw_all := lw_g (lw_at lw_m6 159 rfl) rfl
theorem q1475 : (Jvm.Cond.code ({ cls := "RooftopCats", name := "undo", desc := "()I" } : Jvm.MethodName) prog_1_method_27_code (1 : Nat) (Option.some Jvm.ClassFile.FieldType.int)) ∈ lw_all := lw_g (lw_at lw_m6 160 rfl) rfl
theorem q1476 : (Jvm.Cond.methodLink "RooftopCats" (225 : Nat) ({ cls := "java/util/ArrayDeque", name := "isEmpty", desc := "()Z" } : Jvm.MethodName)) ∈ lw_all := lw_g (lw_at lw_m6 161 rfl) rfl
theorem q1480 : (Jvm.Cond.methodLink "RooftopCats" (228 : Nat) ({ cls := "java/util/ArrayDeque", name := "removeLast", desc := "()Ljava/lang/Object;" } : Jvm.MethodName)) ∈ lw_all := lw_g (lw_at lw_m6 165 rfl) rfl
theorem q1491 : (Jvm.Cond.classLink "RooftopCats" (57 : Nat) "RooftopCats$Roof") ∈ lw_all := lw_g (lw_at lw_m6 176 rfl) rfl
theorem q1493 : (Jvm.Cond.instanceMethod ({ cls := "RooftopCats", name := "undoCount", desc := "()I" } : Jvm.MethodName)) ∈ lw_all := lw_g (lw_at lw_m6 178 rfl) rfl
theorem q1494 : (Jvm.Cond.selects "RooftopCats" ({ cls := "RooftopCats", name := "undoCount", desc := "()I" } : Jvm.MethodName) ({ cls := "RooftopCats", name := "undoCount", desc := "()I" } : Jvm.MethodName)) ∈ lw_all := lw_g (lw_at lw_m6 179 rfl) rfl
theorem q1495 : (Jvm.Cond.code ({ cls := "RooftopCats", name := "undoCount", desc := "()I" } : Jvm.MethodName) prog_1_method_28_code (1 : Nat) (Option.some Jvm.ClassFile.FieldType.int)) ∈ lw_all := lw_g (lw_at lw_m6 180 rfl) rfl
theorem q1497 : (Jvm.Cond.instanceMethod ({ cls := "RooftopCats", name := "saveSnapshot", desc := "()I" } : Jvm.MethodName)) ∈ lw_all := lw_g (lw_at lw_m6 182 rfl) rfl
theorem q1498 : (Jvm.Cond.selects "RooftopCats" ({ cls := "RooftopCats", name := "saveSnapshot", desc := "()I" } : Jvm.MethodName) ({ cls := "RooftopCats", name := "saveSnapshot", desc := "()I" } : Jvm.MethodName)) ∈ lw_all := lw_g (lw_at lw_m6 183 rfl) rfl
theorem q1499 : (Jvm.Cond.code ({ cls := "RooftopCats", name := "saveSnapshot", desc := "()I" } : Jvm.MethodName) prog_1_method_29_code (1 : Nat) (Option.some Jvm.ClassFile.FieldType.int)) ∈ lw_all := lw_g (lw_at lw_m6 184 rfl) rfl
theorem q1501 : (Jvm.Cond.instanceMethod ({ cls := "RooftopCats", name := "scriptErrorKind", desc := "()I" } : Jvm.MethodName)) ∈ lw_all := lw_g (lw_at lw_m6 186 rfl) rfl
theorem q1502 : (Jvm.Cond.selects "RooftopCats" ({ cls := "RooftopCats", name := "scriptErrorKind", desc := "()I" } : Jvm.MethodName) ({ cls := "RooftopCats", name := "scriptErrorKind", desc := "()I" } : Jvm.MethodName)) ∈ lw_all := lw_g (lw_at lw_m6 187 rfl) rfl
theorem q1503 : (Jvm.Cond.code ({ cls := "RooftopCats", name := "scriptErrorKind", desc := "()I" } : Jvm.MethodName) prog_1_method_31_code (1 : Nat) (Option.some Jvm.ClassFile.FieldType.int)) ∈ lw_all := lw_g (lw_at lw_m6 188 rfl) rfl
theorem q1505 : (Jvm.Cond.instanceMethod ({ cls := "RooftopCats", name := "scriptErrorOffset", desc := "()I" } : Jvm.MethodName)) ∈ lw_all := lw_g (lw_at lw_m6 190 rfl) rfl
theorem q1506 : (Jvm.Cond.selects "RooftopCats" ({ cls := "RooftopCats", name := "scriptErrorOffset", desc := "()I" } : Jvm.MethodName) ({ cls := "RooftopCats", name := "scriptErrorOffset", desc := "()I" } : Jvm.MethodName)) ∈ lw_all := lw_g (lw_at lw_m6 191 rfl) rfl
theorem q1507 : (Jvm.Cond.code ({ cls := "RooftopCats", name := "scriptErrorOffset", desc := "()I" } : Jvm.MethodName) prog_1_method_32_code (1 : Nat) (Option.some Jvm.ClassFile.FieldType.int)) ∈ lw_all := lw_g (lw_at lw_m6 192 rfl) rfl
theorem q1509 : (Jvm.Cond.instanceMethod ({ cls := "RooftopCats", name := "chimneyCount", desc := "()I" } : Jvm.MethodName)) ∈ lw_all := lw_g (lw_at lw_m6 194 rfl) rfl
theorem q1510 : (Jvm.Cond.selects "RooftopCats" ({ cls := "RooftopCats", name := "chimneyCount", desc := "()I" } : Jvm.MethodName) ({ cls := "RooftopCats", name := "chimneyCount", desc := "()I" } : Jvm.MethodName)) ∈ lw_all := lw_g (lw_at lw_m6 195 rfl) rfl
theorem q1511 : (Jvm.Cond.code ({ cls := "RooftopCats", name := "chimneyCount", desc := "()I" } : Jvm.MethodName) prog_1_method_33_code (1 : Nat) (Option.some Jvm.ClassFile.FieldType.int)) ∈ lw_all := lw_g (lw_at lw_m6 196 rfl) rfl
theorem q1513 : (Jvm.Cond.instanceMethod ({ cls := "RooftopCats", name := "gutterCount", desc := "()I" } : Jvm.MethodName)) ∈ lw_all := lw_g (lw_at lw_m6 198 rfl) rfl
theorem q1514 : (Jvm.Cond.selects "RooftopCats" ({ cls := "RooftopCats", name := "gutterCount", desc := "()I" } : Jvm.MethodName) ({ cls := "RooftopCats", name := "gutterCount", desc := "()I" } : Jvm.MethodName)) ∈ lw_all := lw_g (lw_at lw_m6 199 rfl) rfl
theorem q1515 : (Jvm.Cond.code ({ cls := "RooftopCats", name := "gutterCount", desc := "()I" } : Jvm.MethodName) prog_1_method_34_code (1 : Nat) (Option.some Jvm.ClassFile.FieldType.int)) ∈ lw_all := lw_g (lw_at lw_m6 200 rfl) rfl
theorem q1517 : (Jvm.Cond.instanceMethod ({ cls := "RooftopCats", name := "catCount", desc := "()I" } : Jvm.MethodName)) ∈ lw_all := lw_g (lw_at lw_m6 202 rfl) rfl
theorem q1518 : (Jvm.Cond.selects "RooftopCats" ({ cls := "RooftopCats", name := "catCount", desc := "()I" } : Jvm.MethodName) ({ cls := "RooftopCats", name := "catCount", desc := "()I" } : Jvm.MethodName)) ∈ lw_all := lw_g (lw_at lw_m6 203 rfl) rfl
theorem q1519 : (Jvm.Cond.code ({ cls := "RooftopCats", name := "catCount", desc := "()I" } : Jvm.MethodName) prog_1_method_35_code (1 : Nat) (Option.some Jvm.ClassFile.FieldType.int)) ∈ lw_all := lw_g (lw_at lw_m6 204 rfl) rfl
theorem q1521 : (Jvm.Cond.instanceMethod ({ cls := "RooftopCats", name := "night", desc := "()I" } : Jvm.MethodName)) ∈ lw_all := lw_g (lw_at lw_m6 206 rfl) rfl
theorem q1522 : (Jvm.Cond.selects "RooftopCats" ({ cls := "RooftopCats", name := "night", desc := "()I" } : Jvm.MethodName) ({ cls := "RooftopCats", name := "night", desc := "()I" } : Jvm.MethodName)) ∈ lw_all := lw_g (lw_at lw_m6 207 rfl) rfl
theorem q1523 : (Jvm.Cond.code ({ cls := "RooftopCats", name := "night", desc := "()I" } : Jvm.MethodName) prog_1_method_36_code (1 : Nat) (Option.some Jvm.ClassFile.FieldType.int)) ∈ lw_all := lw_g (lw_at lw_m6 208 rfl) rfl
theorem q1525 : (Jvm.Cond.instanceMethod ({ cls := "RooftopCats", name := "moonPhase", desc := "()I" } : Jvm.MethodName)) ∈ lw_all := lw_g (lw_at lw_m6 210 rfl) rfl
theorem q1526 : (Jvm.Cond.selects "RooftopCats" ({ cls := "RooftopCats", name := "moonPhase", desc := "()I" } : Jvm.MethodName) ({ cls := "RooftopCats", name := "moonPhase", desc := "()I" } : Jvm.MethodName)) ∈ lw_all := lw_g (lw_at lw_m6 211 rfl) rfl
theorem q1527 : (Jvm.Cond.code ({ cls := "RooftopCats", name := "moonPhase", desc := "()I" } : Jvm.MethodName) prog_1_method_37_code (1 : Nat) (Option.some Jvm.ClassFile.FieldType.int)) ∈ lw_all := lw_g (lw_at lw_m6 212 rfl) rfl
theorem q1529 : (Jvm.Cond.instanceMethod ({ cls := "RooftopCats", name := "warmestFree", desc := "()I" } : Jvm.MethodName)) ∈ lw_all := lw_g (lw_at lw_m6 214 rfl) rfl
theorem q1530 : (Jvm.Cond.selects "RooftopCats" ({ cls := "RooftopCats", name := "warmestFree", desc := "()I" } : Jvm.MethodName) ({ cls := "RooftopCats", name := "warmestFree", desc := "()I" } : Jvm.MethodName)) ∈ lw_all := lw_g (lw_at lw_m6 215 rfl) rfl
theorem q1531 : (Jvm.Cond.code ({ cls := "RooftopCats", name := "warmestFree", desc := "()I" } : Jvm.MethodName) prog_1_method_44_code (1 : Nat) (Option.some Jvm.ClassFile.FieldType.int)) ∈ lw_all := lw_g (lw_at lw_m6 216 rfl) rfl
theorem q1532 : (Jvm.Cond.methodLink "RooftopCats" (261 : Nat) ({ cls := "RooftopCats$Roof", name := "warmestFree", desc := "()I" } : Jvm.MethodName)) ∈ lw_all := lw_g (lw_at lw_m6 217 rfl) rfl
theorem q1534 : (Jvm.Cond.instanceMethod ({ cls := "RooftopCats", name := "isKittenWaiting", desc := "()Z" } : Jvm.MethodName)) ∈ lw_all := lw_g (lw_at lw_m6 219 rfl) rfl
theorem q1535 : (Jvm.Cond.selects "RooftopCats" ({ cls := "RooftopCats", name := "isKittenWaiting", desc := "()Z" } : Jvm.MethodName) ({ cls := "RooftopCats", name := "isKittenWaiting", desc := "()Z" } : Jvm.MethodName)) ∈ lw_all := lw_g (lw_at lw_m6 220 rfl) rfl
theorem q1536 : (Jvm.Cond.code ({ cls := "RooftopCats", name := "isKittenWaiting", desc := "()Z" } : Jvm.MethodName) prog_1_method_58_code (1 : Nat) (Option.some Jvm.ClassFile.FieldType.boolean)) ∈ lw_all := lw_g (lw_at lw_m6 221 rfl) rfl
theorem q1538 : (Jvm.Cond.instanceMethod ({ cls := "RooftopCats", name := "votesFor", desc := "()I" } : Jvm.MethodName)) ∈ lw_all := lw_g (lw_at lw_m6 223 rfl) rfl
theorem q1539 : (Jvm.Cond.selects "RooftopCats" ({ cls := "RooftopCats", name := "votesFor", desc := "()I" } : Jvm.MethodName) ({ cls := "RooftopCats", name := "votesFor", desc := "()I" } : Jvm.MethodName)) ∈ lw_all := lw_g (lw_at lw_m6 224 rfl) rfl
theorem q1540 : (Jvm.Cond.code ({ cls := "RooftopCats", name := "votesFor", desc := "()I" } : Jvm.MethodName) prog_1_method_59_code (1 : Nat) (Option.some Jvm.ClassFile.FieldType.int)) ∈ lw_all := lw_g (lw_at lw_m6 225 rfl) rfl
theorem q1541 : (Jvm.Cond.methodLink "RooftopCats" (300 : Nat) ({ cls := "RooftopCats$Kitten", name := "yes", desc := "()I" } : Jvm.MethodName)) ∈ lw_all := lw_g (lw_at lw_m6 226 rfl) rfl
theorem q1542 : (Jvm.Cond.methodLink "RooftopCats" (305 : Nat) ({ cls := "java/lang/Integer", name := "bitCount", desc := "(I)I" } : Jvm.MethodName)) ∈ lw_all := lw_g (lw_at lw_m6 227 rfl) rfl
theorem q1544 : (Jvm.Cond.instanceMethod ({ cls := "RooftopCats", name := "votesAgainst", desc := "()I" } : Jvm.MethodName)) ∈ lw_all := lw_g (lw_at lw_m6 229 rfl) rfl
theorem q1545 : (Jvm.Cond.selects "RooftopCats" ({ cls := "RooftopCats", name := "votesAgainst", desc := "()I" } : Jvm.MethodName) ({ cls := "RooftopCats", name := "votesAgainst", desc := "()I" } : Jvm.MethodName)) ∈ lw_all := lw_g (lw_at lw_m6 230 rfl) rfl
theorem q1546 : (Jvm.Cond.code ({ cls := "RooftopCats", name := "votesAgainst", desc := "()I" } : Jvm.MethodName) prog_1_method_60_code (1 : Nat) (Option.some Jvm.ClassFile.FieldType.int)) ∈ lw_all := lw_g (lw_at lw_m6 231 rfl) rfl
theorem q1547 : (Jvm.Cond.methodLink "RooftopCats" (310 : Nat) ({ cls := "RooftopCats$Kitten", name := "no", desc := "()I" } : Jvm.MethodName)) ∈ lw_all := lw_g (lw_at lw_m6 232 rfl) rfl
theorem q1549 : (Jvm.Cond.instanceMethod ({ cls := "RooftopCats", name := "choirCount", desc := "()I" } : Jvm.MethodName)) ∈ lw_all := lw_g (lw_at lw_m6 234 rfl) rfl
theorem q1550 : (Jvm.Cond.selects "RooftopCats" ({ cls := "RooftopCats", name := "choirCount", desc := "()I" } : Jvm.MethodName) ({ cls := "RooftopCats", name := "choirCount", desc := "()I" } : Jvm.MethodName)) ∈ lw_all := lw_g (lw_at lw_m6 235 rfl) rfl
theorem q1551 : (Jvm.Cond.code ({ cls := "RooftopCats", name := "choirCount", desc := "()I" } : Jvm.MethodName) prog_1_method_63_code (1 : Nat) (Option.some Jvm.ClassFile.FieldType.int)) ∈ lw_all := lw_g (lw_at lw_m6 236 rfl) rfl
theorem q1552 : (Jvm.Cond.methodLink "RooftopCats" (319 : Nat) ({ cls := "RooftopCats$Roof", name := "choirCount", desc := "()I" } : Jvm.MethodName)) ∈ lw_all := lw_g (lw_at lw_m6 237 rfl) rfl
theorem q1561 : (Jvm.Cond.instanceMethod ({ cls := "RooftopCats", name := "largestChoir", desc := "()I" } : Jvm.MethodName)) ∈ lw_all := lw_g (lw_at lw_m7 6 rfl) rfl
theorem q1562 : (Jvm.Cond.selects "RooftopCats" ({ cls := "RooftopCats", name := "largestChoir", desc := "()I" } : Jvm.MethodName) ({ cls := "RooftopCats", name := "largestChoir", desc := "()I" } : Jvm.MethodName)) ∈ lw_all := lw_g (lw_at lw_m7 7 rfl) rfl
theorem q1563 : (Jvm.Cond.code ({ cls := "RooftopCats", name := "largestChoir", desc := "()I" } : Jvm.MethodName) prog_1_method_64_code (1 : Nat) (Option.some Jvm.ClassFile.FieldType.int)) ∈ lw_all := lw_g (lw_at lw_m7 8 rfl) rfl
theorem q1564 : (Jvm.Cond.methodLink "RooftopCats" (322 : Nat) ({ cls := "RooftopCats$Roof", name := "largestChoir", desc := "()I" } : Jvm.MethodName)) ∈ lw_all := lw_g (lw_at lw_m7 9 rfl) rfl
theorem q1566 : (Jvm.Cond.instanceMethod ({ cls := "RooftopCats", name := "nightsToFullMoon", desc := "()I" } : Jvm.MethodName)) ∈ lw_all := lw_g (lw_at lw_m7 11 rfl) rfl
theorem q1567 : (Jvm.Cond.selects "RooftopCats" ({ cls := "RooftopCats", name := "nightsToFullMoon", desc := "()I" } : Jvm.MethodName) ({ cls := "RooftopCats", name := "nightsToFullMoon", desc := "()I" } : Jvm.MethodName)) ∈ lw_all := lw_g (lw_at lw_m7 12 rfl) rfl
theorem q1568 : (Jvm.Cond.code ({ cls := "RooftopCats", name := "nightsToFullMoon", desc := "()I" } : Jvm.MethodName) prog_1_method_65_code (2 : Nat) (Option.some Jvm.ClassFile.FieldType.int)) ∈ lw_all := lw_g (lw_at lw_m7 13 rfl) rfl
theorem q1570 : (Jvm.Cond.instanceMethod ({ cls := "RooftopCats", name := "richestCat", desc := "()I" } : Jvm.MethodName)) ∈ lw_all := lw_g (lw_at lw_m7 15 rfl) rfl
theorem q1571 : (Jvm.Cond.selects "RooftopCats" ({ cls := "RooftopCats", name := "richestCat", desc := "()I" } : Jvm.MethodName) ({ cls := "RooftopCats", name := "richestCat", desc := "()I" } : Jvm.MethodName)) ∈ lw_all := lw_g (lw_at lw_m7 16 rfl) rfl
theorem q1572 : (Jvm.Cond.code ({ cls := "RooftopCats", name := "richestCat", desc := "()I" } : Jvm.MethodName) prog_1_method_67_code (3 : Nat) (Option.some Jvm.ClassFile.FieldType.int)) ∈ lw_all := lw_g (lw_at lw_m7 17 rfl) rfl
theorem q1573 : (Jvm.Cond.interfaceEntry "RooftopCats" (78 : Nat)) ∈ lw_tbl := lw_at lw_m7 18 rfl
theorem q1574 : (Jvm.Cond.methodLink "RooftopCats" (78 : Nat) ({ cls := "java/util/List", name := "get", desc := "(I)Ljava/lang/Object;" } : Jvm.MethodName)) ∈ lw_all := lw_g (lw_at lw_m7 19 rfl) rfl
theorem q1575 : (Jvm.Cond.classLink "RooftopCats" (165 : Nat) "RooftopCats$Cat") ∈ lw_all := lw_g (lw_at lw_m7 20 rfl) rfl
theorem q1577 : (Jvm.Cond.instanceMethod ({ cls := "RooftopCats", name := "totalFish", desc := "()I" } : Jvm.MethodName)) ∈ lw_all := lw_g (lw_at lw_m7 22 rfl) rfl
theorem q1578 : (Jvm.Cond.selects "RooftopCats" ({ cls := "RooftopCats", name := "totalFish", desc := "()I" } : Jvm.MethodName) ({ cls := "RooftopCats", name := "totalFish", desc := "()I" } : Jvm.MethodName)) ∈ lw_all := lw_g (lw_at lw_m7 23 rfl) rfl
theorem q1579 : (Jvm.Cond.code ({ cls := "RooftopCats", name := "totalFish", desc := "()I" } : Jvm.MethodName) prog_1_method_68_code (1 : Nat) (Option.some Jvm.ClassFile.FieldType.int)) ∈ lw_all := lw_g (lw_at lw_m7 24 rfl) rfl
theorem q1580 : (Jvm.Cond.methodLink "RooftopCats" (328 : Nat) ({ cls := "RooftopCats$Roof", name := "totalFish", desc := "()I" } : Jvm.MethodName)) ∈ lw_all := lw_g (lw_at lw_m7 25 rfl) rfl
theorem q1585 : (Jvm.Cond.instanceMethod ({ cls := "RooftopCats", name := "meanFish", desc := "()D" } : Jvm.MethodName)) ∈ lw_all := lw_g (lw_at lw_m7 30 rfl) rfl
theorem q1586 : (Jvm.Cond.selects "RooftopCats" ({ cls := "RooftopCats", name := "meanFish", desc := "()D" } : Jvm.MethodName) ({ cls := "RooftopCats", name := "meanFish", desc := "()D" } : Jvm.MethodName)) ∈ lw_all := lw_g (lw_at lw_m7 31 rfl) rfl
theorem q1587 : (Jvm.Cond.code ({ cls := "RooftopCats", name := "meanFish", desc := "()D" } : Jvm.MethodName) prog_1_method_69_code (1 : Nat) (Option.some Jvm.ClassFile.FieldType.double)) ∈ lw_all := lw_g (lw_at lw_m7 32 rfl) rfl
theorem q1588 : (Jvm.Cond.interfaceEntry "RooftopCats" (331 : Nat)) ∈ lw_tbl := lw_at lw_m7 33 rfl
theorem q1589 : (Jvm.Cond.methodLink "RooftopCats" (331 : Nat) ({ cls := "java/util/List", name := "isEmpty", desc := "()Z" } : Jvm.MethodName)) ∈ lw_all := lw_g (lw_at lw_m7 34 rfl) rfl
theorem q1591 : (Jvm.Cond.instanceMethod ({ cls := "RooftopCats", name := "ownedShare", desc := "()F" } : Jvm.MethodName)) ∈ lw_all := lw_g (lw_at lw_m7 36 rfl) rfl
theorem q1592 : (Jvm.Cond.selects "RooftopCats" ({ cls := "RooftopCats", name := "ownedShare", desc := "()F" } : Jvm.MethodName) ({ cls := "RooftopCats", name := "ownedShare", desc := "()F" } : Jvm.MethodName)) ∈ lw_all := lw_g (lw_at lw_m7 37 rfl) rfl
theorem q1593 : (Jvm.Cond.code ({ cls := "RooftopCats", name := "ownedShare", desc := "()F" } : Jvm.MethodName) prog_1_method_70_code (4 : Nat) (Option.some Jvm.ClassFile.FieldType.float)) ∈ lw_all := lw_g (lw_at lw_m7 38 rfl) rfl
theorem q1594 : (Jvm.Cond.interfaceEntry "RooftopCats" (332 : Nat)) ∈ lw_tbl := lw_at lw_m7 39 rfl
theorem q1595 : (Jvm.Cond.methodLink "RooftopCats" (332 : Nat) ({ cls := "java/util/List", name := "iterator", desc := "()Ljava/util/Iterator;" } : Jvm.MethodName)) ∈ lw_all := lw_g (lw_at lw_m7 40 rfl) rfl
theorem q1596 : (Jvm.Cond.interfaceEntry "RooftopCats" (336 : Nat)) ∈ lw_tbl := lw_at lw_m7 41 rfl
theorem q1597 : (Jvm.Cond.methodLink "RooftopCats" (336 : Nat) ({ cls := "java/util/Iterator", name := "hasNext", desc := "()Z" } : Jvm.MethodName)) ∈ lw_all := lw_g (lw_at lw_m7 42 rfl) rfl
theorem q1598 : (Jvm.Cond.interfaceEntry "RooftopCats" (341 : Nat)) ∈ lw_tbl := lw_at lw_m7 43 rfl
theorem q1599 : (Jvm.Cond.methodLink "RooftopCats" (341 : Nat) ({ cls := "java/util/Iterator", name := "next", desc := "()Ljava/lang/Object;" } : Jvm.MethodName)) ∈ lw_all := lw_g (lw_at lw_m7 44 rfl) rfl
theorem q1600 : (Jvm.Cond.classLink "RooftopCats" (145 : Nat) "RooftopCats$Chimney") ∈ lw_all := lw_g (lw_at lw_m7 45 rfl) rfl
theorem q1602 : (Jvm.Cond.instanceMethod ({ cls := "RooftopCats", name := "violations", desc := "()I" } : Jvm.MethodName)) ∈ lw_all := lw_g (lw_at lw_m7 47 rfl) rfl
theorem q1603 : (Jvm.Cond.selects "RooftopCats" ({ cls := "RooftopCats", name := "violations", desc := "()I" } : Jvm.MethodName) ({ cls := "RooftopCats", name := "violations", desc := "()I" } : Jvm.MethodName)) ∈ lw_all := lw_g (lw_at lw_m7 48 rfl) rfl
theorem q1604 : (Jvm.Cond.code ({ cls := "RooftopCats", name := "violations", desc := "()I" } : Jvm.MethodName) prog_1_method_72_code (6 : Nat) (Option.some Jvm.ClassFile.FieldType.int)) ∈ lw_all := lw_g (lw_at lw_m7 49 rfl) rfl
theorem q1605 : (Jvm.Cond.methodLink "RooftopCats" (350 : Nat) ({ cls := "java/lang/Math", name := "abs", desc := "(I)I" } : Jvm.MethodName)) ∈ lw_all := lw_g (lw_at lw_m7 50 rfl) rfl
theorem q1608 : (Jvm.Cond.methodLink "RooftopCats" (275 : Nat) ({ cls := "RooftopCats$Roof", name := "owned", desc := "(I)I" } : Jvm.MethodName)) ∈ lw_all := lw_g (lw_at lw_m7 53 rfl) rfl
theorem q1609 : (Jvm.Cond.methodLink "RooftopCats" (355 : Nat) ({ cls := "RooftopCats", name := "isWrong", desc := "(I)Z" } : Jvm.MethodName)) ∈ lw_all := lw_g (lw_at lw_m7 54 rfl) rfl
theorem q1610 : (Jvm.Cond.privateMethod ({ cls := "RooftopCats", name := "isWrong", desc := "(I)Z" } : Jvm.MethodName)) ∈ lw_tbl := lw_at lw_m7 55 rfl
theorem q1611 : (Jvm.Cond.instanceMethod ({ cls := "RooftopCats", name := "isWrong", desc := "(I)Z" } : Jvm.MethodName)) ∈ lw_all := lw_g (lw_at lw_m7 56 rfl) rfl
theorem q1612 : (Jvm.Cond.code ({ cls := "RooftopCats", name := "isWrong", desc := "(I)Z" } : Jvm.MethodName) prog_1_method_71_code (3 : Nat) (Option.some Jvm.ClassFile.FieldType.boolean)) ∈ lw_all := lw_g (lw_at lw_m7 57 rfl) rfl
theorem q1614 : (Jvm.Cond.instanceMethod ({ cls := "RooftopCats", name := "writeRoof", desc := "()I" } : Jvm.MethodName)) ∈ lw_all := lw_g (lw_at lw_m7 59 rfl) rfl
theorem q1615 : (Jvm.Cond.selects "RooftopCats" ({ cls := "RooftopCats", name := "writeRoof", desc := "()I" } : Jvm.MethodName) ({ cls := "RooftopCats", name := "writeRoof", desc := "()I" } : Jvm.MethodName)) ∈ lw_all := lw_g (lw_at lw_m7 60 rfl) rfl
theorem q1616 : (Jvm.Cond.code ({ cls := "RooftopCats", name := "writeRoof", desc := "()I" } : Jvm.MethodName) prog_1_method_73_code (3 : Nat) (Option.some Jvm.ClassFile.FieldType.int)) ∈ lw_all := lw_g (lw_at lw_m7 61 rfl) rfl
theorem q1617 : (Jvm.Cond.stringRef "RooftopCats" (358 : Nat) " ") ∈ lw_tbl := lw_at lw_m7 62 rfl
theorem q1618 : (Jvm.Cond.methodLink "RooftopCats" (360 : Nat) ({ cls := "java/lang/StringBuilder", name := "append", desc := "(Ljava/lang/String;)Ljava/lang/StringBuilder;" } : Jvm.MethodName)) ∈ lw_all := lw_g (lw_at lw_m7 63 rfl) rfl
theorem q1619 : (Jvm.Cond.methodLink "RooftopCats" (363 : Nat) ({ cls := "java/lang/StringBuilder", name := "append", desc := "(I)Ljava/lang/StringBuilder;" } : Jvm.MethodName)) ∈ lw_all := lw_g (lw_at lw_m7 64 rfl) rfl
theorem q1620 : (Jvm.Cond.methodLink "RooftopCats" (162 : Nat) ({ cls := "RooftopCats$Roof", name := "catOn", desc := "(I)I" } : Jvm.MethodName)) ∈ lw_all := lw_g (lw_at lw_m7 65 rfl) rfl
theorem q1621 : (Jvm.Cond.methodLink "RooftopCats" (243 : Nat) ({ cls := "RooftopCats$Roof", name := "owner", desc := "(I)I" } : Jvm.MethodName)) ∈ lw_all := lw_g (lw_at lw_m7 66 rfl) rfl
theorem q1622 : (Jvm.Cond.methodLink "RooftopCats" (366 : Nat) ({ cls := "java/lang/String", name := "length", desc := "()I" } : Jvm.MethodName)) ∈ lw_all := lw_g (lw_at lw_m7 67 rfl) rfl
theorem q1624 : (Jvm.Cond.instanceMethod ({ cls := "RooftopCats", name := "reportByte", desc := "(I)I" } : Jvm.MethodName)) ∈ lw_all := lw_g (lw_at lw_m7 69 rfl) rfl
theorem q1625 : (Jvm.Cond.selects "RooftopCats" ({ cls := "RooftopCats", name := "reportByte", desc := "(I)I" } : Jvm.MethodName) ({ cls := "RooftopCats", name := "reportByte", desc := "(I)I" } : Jvm.MethodName)) ∈ lw_all := lw_g (lw_at lw_m7 70 rfl) rfl
theorem q1626 : (Jvm.Cond.code ({ cls := "RooftopCats", name := "reportByte", desc := "(I)I" } : Jvm.MethodName) prog_1_method_74_code (2 : Nat) (Option.some Jvm.ClassFile.FieldType.int)) ∈ lw_all := lw_g (lw_at lw_m7 71 rfl) rfl
theorem q1627 : (Jvm.Cond.methodLink "RooftopCats" (369 : Nat) ({ cls := "java/lang/String", name := "charAt", desc := "(I)C" } : Jvm.MethodName)) ∈ lw_all := lw_g (lw_at lw_m7 72 rfl) rfl
theorem q1633 : (Jvm.Cond.instanceMethod ({ cls := "RooftopCats", name := "truncateInput", desc := "(I)I" } : Jvm.MethodName)) ∈ lw_all := lw_g (lw_at lw_m7 78 rfl) rfl
theorem q1634 : (Jvm.Cond.selects "RooftopCats" ({ cls := "RooftopCats", name := "truncateInput", desc := "(I)I" } : Jvm.MethodName) ({ cls := "RooftopCats", name := "truncateInput", desc := "(I)I" } : Jvm.MethodName)) ∈ lw_all := lw_g (lw_at lw_m7 79 rfl) rfl
theorem q1635 : (Jvm.Cond.code ({ cls := "RooftopCats", name := "truncateInput", desc := "(I)I" } : Jvm.MethodName) prog_1_method_14_code (2 : Nat) (Option.some Jvm.ClassFile.FieldType.int)) ∈ lw_all := lw_g (lw_at lw_m7 80 rfl) rfl
theorem q1636 : (Jvm.Cond.methodLink "RooftopCats" (95 : Nat) ({ cls := "RooftopCats", name := "checkRange", desc := "(III)V" } : Jvm.MethodName)) ∈ lw_all := lw_g (lw_at lw_m7 81 rfl) rfl
theorem q1637 : (Jvm.Cond.static ({ cls := "RooftopCats", name := "checkRange", desc := "(III)V" } : Jvm.MethodName)) ∈ lw_all := lw_g (lw_at lw_m7 82 rfl) rfl
theorem q1638 : (Jvm.Cond.code ({ cls := "RooftopCats", name := "checkRange", desc := "(III)V" } : Jvm.MethodName) prog_1_method_7_code (3 : Nat) (Option.none : Option Jvm.ClassFile.FieldType)) ∈ lw_all := lw_g (lw_at lw_m7 83 rfl) rfl
theorem q1639 : (Jvm.Cond.methodLink "RooftopCats" (87 : Nat) ({ cls := "RooftopCats", name := "checkArgument", desc := "(Z)V" } : Jvm.MethodName)) ∈ lw_all := lw_g (lw_at lw_m7 84 rfl) rfl
theorem q1640 : (Jvm.Cond.static ({ cls := "RooftopCats", name := "checkArgument", desc := "(Z)V" } : Jvm.MethodName)) ∈ lw_all := lw_g (lw_at lw_m7 85 rfl) rfl
theorem q1641 : (Jvm.Cond.code ({ cls := "RooftopCats", name := "checkArgument", desc := "(Z)V" } : Jvm.MethodName) prog_1_method_6_code (1 : Nat) (Option.none : Option Jvm.ClassFile.FieldType)) ∈ lw_all := lw_g (lw_at lw_m7 86 rfl) rfl
theorem q1642 : (Jvm.Cond.classLink "RooftopCats" (84 : Nat) "java/lang/IllegalArgumentException") ∈ lw_all := lw_g (lw_at lw_m7 87 rfl) rfl
theorem q1643 : (Jvm.Cond.methodLink "RooftopCats" (86 : Nat) ({ cls := "java/lang/IllegalArgumentException", name := "<init>", desc := "()V" } : Jvm.MethodName)) ∈ lw_all := lw_g (lw_at lw_m7 88 rfl) rfl
theorem q1652 : (Jvm.Cond.instanceMethod ({ cls := "RooftopCats", name := "addChimney", desc := "(I)I" } : Jvm.MethodName)) ∈ lw_all := lw_g (lw_at lw_m7 97 rfl) rfl
theorem q1653 : (Jvm.Cond.selects "RooftopCats" ({ cls := "RooftopCats", name := "addChimney", desc := "(I)I" } : Jvm.MethodName) ({ cls := "RooftopCats", name := "addChimney", desc := "(I)I" } : Jvm.MethodName)) ∈ lw_all := lw_g (lw_at lw_m7 98 rfl) rfl
theorem q1654 : (Jvm.Cond.code ({ cls := "RooftopCats", name := "addChimney", desc := "(I)I" } : Jvm.MethodName) prog_1_method_16_code (2 : Nat) (Option.some Jvm.ClassFile.FieldType.int)) ∈ lw_all := lw_g (lw_at lw_m7 99 rfl) rfl
theorem q1655 : (Jvm.Cond.methodLink "RooftopCats" (142 : Nat) ({ cls := "RooftopCats", name := "checkState", desc := "(Z)V" } : Jvm.MethodName)) ∈ lw_all := lw_g (lw_at lw_m7 100 rfl) rfl
theorem q1656 : (Jvm.Cond.static ({ cls := "RooftopCats", name := "checkState", desc := "(Z)V" } : Jvm.MethodName)) ∈ lw_all := lw_g (lw_at lw_m7 101 rfl) rfl
theorem q1657 : (Jvm.Cond.code ({ cls := "RooftopCats", name := "checkState", desc := "(Z)V" } : Jvm.MethodName) prog_1_method_8_code (1 : Nat) (Option.none : Option Jvm.ClassFile.FieldType)) ∈ lw_all := lw_g (lw_at lw_m7 102 rfl) rfl
theorem q1658 : (Jvm.Cond.methodLink "RooftopCats" (147 : Nat) ({ cls := "RooftopCats$Chimney", name := "<init>", desc := "(I)V" } : Jvm.MethodName)) ∈ lw_all := lw_g (lw_at lw_m7 103 rfl) rfl
theorem q1659 : (Jvm.Cond.interfaceEntry "RooftopCats" (149 : Nat)) ∈ lw_tbl := lw_at lw_m7 104 rfl
theorem q1660 : (Jvm.Cond.methodLink "RooftopCats" (149 : Nat) ({ cls := "java/util/List", name := "add", desc := "(Ljava/lang/Object;)Z" } : Jvm.MethodName)) ∈ lw_all := lw_g (lw_at lw_m7 105 rfl) rfl
theorem q1668 : (Jvm.Cond.instanceMethod ({ cls := "RooftopCats", name := "addGutter", desc := "(III)I" } : Jvm.MethodName)) ∈ lw_all := lw_g (lw_at lw_m7 113 rfl) rfl
theorem q1669 : (Jvm.Cond.selects "RooftopCats" ({ cls := "RooftopCats", name := "addGutter", desc := "(III)I" } : Jvm.MethodName) ({ cls := "RooftopCats", name := "addGutter", desc := "(III)I" } : Jvm.MethodName)) ∈ lw_all := lw_g (lw_at lw_m7 114 rfl) rfl
theorem q1670 : (Jvm.Cond.code ({ cls := "RooftopCats", name := "addGutter", desc := "(III)I" } : Jvm.MethodName) prog_1_method_17_code (4 : Nat) (Option.some Jvm.ClassFile.FieldType.int)) ∈ lw_all := lw_g (lw_at lw_m7 115 rfl) rfl
theorem q1671 : (Jvm.Cond.methodLink "RooftopCats" (153 : Nat) ({ cls := "RooftopCats", name := "chimney", desc := "(I)I" } : Jvm.MethodName)) ∈ lw_all := lw_g (lw_at lw_m7 116 rfl) rfl
theorem q1672 : (Jvm.Cond.privateMethod ({ cls := "RooftopCats", name := "chimney", desc := "(I)I" } : Jvm.MethodName)) ∈ lw_tbl := lw_at lw_m7 117 rfl
theorem q1673 : (Jvm.Cond.instanceMethod ({ cls := "RooftopCats", name := "chimney", desc := "(I)I" } : Jvm.MethodName)) ∈ lw_all := lw_g (lw_at lw_m7 118 rfl) rfl
theorem q1674 : (Jvm.Cond.code ({ cls := "RooftopCats", name := "chimney", desc := "(I)I" } : Jvm.MethodName) prog_1_method_3_code (2 : Nat) (Option.some Jvm.ClassFile.FieldType.int)) ∈ lw_all := lw_g (lw_at lw_m7 119 rfl) rfl
theorem q1675 : (Jvm.Cond.methodLink "RooftopCats" (68 : Nat) ({ cls := "RooftopCats", name := "checked", desc := "(II)I" } : Jvm.MethodName)) ∈ lw_all := lw_g (lw_at lw_m7 120 rfl) rfl
theorem q1676 : (Jvm.Cond.static ({ cls := "RooftopCats", name := "checked", desc := "(II)I" } : Jvm.MethodName)) ∈ lw_all := lw_g (lw_at lw_m7 121 rfl) rfl
theorem q1677 : (Jvm.Cond.code ({ cls := "RooftopCats", name := "checked", desc := "(II)I" } : Jvm.MethodName) prog_1_method_2_code (2 : Nat) (Option.some Jvm.ClassFile.FieldType.int)) ∈ lw_all := lw_g (lw_at lw_m7 122 rfl) rfl
theorem q1678 : (Jvm.Cond.classLink "RooftopCats" (53 : Nat) "java/lang/IndexOutOfBoundsException") ∈ lw_all := lw_g (lw_at lw_m7 123 rfl) rfl
theorem q1687 : (Jvm.Cond.methodLink "RooftopCats" (55 : Nat) ({ cls := "java/lang/IndexOutOfBoundsException", name := "<init>", desc := "()V" } : Jvm.MethodName)) ∈ lw_all := lw_g (lw_at lw_m7 132 rfl) rfl
theorem q1693 : (Jvm.Cond.classLink "RooftopCats" (82 : Nat) "RooftopCats$Gutter") ∈ lw_all := lw_g (lw_at lw_m7 138 rfl) rfl
theorem q1694 : (Jvm.Cond.methodLinkNest "RooftopCats" (156 : Nat) ({ cls := "RooftopCats$Gutter", name := "<init>", desc := "(III)V" } : Jvm.MethodName) "RooftopCats") ∈ lw_tbl := lw_at lw_m7 139 rfl
theorem q1699 : (Jvm.Cond.instanceMethod ({ cls := "RooftopCats", name := "addCat", desc := "(III)I" } : Jvm.MethodName)) ∈ lw_all := lw_g (lw_at lw_m7 144 rfl) rfl
theorem q1700 : (Jvm.Cond.selects "RooftopCats" ({ cls := "RooftopCats", name := "addCat", desc := "(III)I" } : Jvm.MethodName) ({ cls := "RooftopCats", name := "addCat", desc := "(III)I" } : Jvm.MethodName)) ∈ lw_all := lw_g (lw_at lw_m7 145 rfl) rfl
theorem q1701 : (Jvm.Cond.code ({ cls := "RooftopCats", name := "addCat", desc := "(III)I" } : Jvm.MethodName) prog_1_method_18_code (4 : Nat) (Option.some Jvm.ClassFile.FieldType.int)) ∈ lw_all := lw_g (lw_at lw_m7 146 rfl) rfl
theorem q1702 : (Jvm.Cond.methodLink "RooftopCats" (158 : Nat) ({ cls := "RooftopCats", name := "checkBody", desc := "(II)V" } : Jvm.MethodName)) ∈ lw_all := lw_g (lw_at lw_m7 147 rfl) rfl
theorem q1703 : (Jvm.Cond.static ({ cls := "RooftopCats", name := "checkBody", desc := "(II)V" } : Jvm.MethodName)) ∈ lw_all := lw_g (lw_at lw_m7 148 rfl) rfl
theorem q1704 : (Jvm.Cond.code ({ cls := "RooftopCats", name := "checkBody", desc := "(II)V" } : Jvm.MethodName) prog_1_method_10_code (2 : Nat) (Option.none : Option Jvm.ClassFile.FieldType)) ∈ lw_all := lw_g (lw_at lw_m7 149 rfl) rfl
theorem q1705 : (Jvm.Cond.methodLink "RooftopCats" (167 : Nat) ({ cls := "RooftopCats$Cat", name := "<init>", desc := "(III)V" } : Jvm.MethodName)) ∈ lw_all := lw_g (lw_at lw_m7 150 rfl) rfl
theorem q1710 : (Jvm.Cond.instanceMethod ({ cls := "RooftopCats", name := "step", desc := "(II)I" } : Jvm.MethodName)) ∈ lw_all := lw_g (lw_at lw_m7 155 rfl) rfl
theorem q1711 : (Jvm.Cond.selects "RooftopCats" ({ cls := "RooftopCats", name := "step", desc := "(II)I" } : Jvm.MethodName) ({ cls := "RooftopCats", name := "step", desc := "(II)I" } : Jvm.MethodName)) ∈ lw_all := lw_g (lw_at lw_m7 156 rfl) rfl
theorem q1712 : (Jvm.Cond.code ({ cls := "RooftopCats", name := "step", desc := "(II)I" } : Jvm.MethodName) prog_1_method_19_code (3 : Nat) (Option.some Jvm.ClassFile.FieldType.int)) ∈ lw_all := lw_g (lw_at lw_m7 157 rfl) rfl
theorem q1713 : (Jvm.Cond.methodLink "RooftopCats" (168 : Nat) ({ cls := "RooftopCats", name := "whyNoStep", desc := "(II)I" } : Jvm.MethodName)) ∈ lw_all := lw_g (lw_at lw_m7 158 rfl) rfl
theorem q1714 : (Jvm.Cond.instanceMethod ({ cls := "RooftopCats", name := "whyNoStep", desc := "(II)I" } : Jvm.MethodName)) ∈ lw_all := lw_g (lw_at lw_m7 159 rfl) rfl
theorem q1715 : (Jvm.Cond.selects "RooftopCats" ({ cls := "RooftopCats", name := "whyNoStep", desc := "(II)I" } : Jvm.MethodName) ({ cls := "RooftopCats", name := "whyNoStep", desc := "(II)I" } : Jvm.MethodName)) ∈ lw_all := lw_g (lw_at lw_m7 160 rfl) rfl
theorem q1716 : (Jvm.Cond.code ({ cls := "RooftopCats", name := "whyNoStep", desc := "(II)I" } : Jvm.MethodName) prog_1_method_54_code (3 : Nat) (Option.some Jvm.ClassFile.FieldType.int)) ∈ lw_all := lw_g (lw_at lw_m7 161 rfl) rfl
theorem q1717 : (Jvm.Cond.methodLink "RooftopCats" (91 : Nat) ({ cls := "RooftopCats", name := "cat", desc := "(I)I" } : Jvm.MethodName)) ∈ lw_all := lw_g (lw_at lw_m7 162 rfl) rfl
theorem q1718 : (Jvm.Cond.privateMethod ({ cls := "RooftopCats", name := "cat", desc := "(I)I" } : Jvm.MethodName)) ∈ lw_tbl := lw_at lw_m7 163 rfl
theorem q1719 : (Jvm.Cond.instanceMethod ({ cls := "RooftopCats", name := "cat", desc := "(I)I" } : Jvm.MethodName)) ∈ lw_all := lw_g (lw_at lw_m7 164 rfl) rfl
theorem q1720 : (Jvm.Cond.code ({ cls := "RooftopCats", name := "cat", desc := "(I)I" } : Jvm.MethodName) prog_1_method_4_code (2 : Nat) (Option.some Jvm.ClassFile.FieldType.int)) ∈ lw_all := lw_g (lw_at lw_m7 165 rfl) rfl
theorem q1721 : (Jvm.Cond.methodLink "RooftopCats" (287 : Nat) ({ cls := "RooftopCats$Roof", name := "judgeStep", desc := "(II)I" } : Jvm.MethodName)) ∈ lw_all := lw_g (lw_at lw_m7 166 rfl) rfl
theorem q1722 : (Jvm.Cond.methodLink "RooftopCats" (171 : Nat) ({ cls := "RooftopCats$Roof", name := "step", desc := "(II)I" } : Jvm.MethodName)) ∈ lw_all := lw_g (lw_at lw_m7 167 rfl) rfl
theorem q1727 : (Jvm.Cond.instanceMethod ({ cls := "RooftopCats", name := "claim", desc := "(I)I" } : Jvm.MethodName)) ∈ lw_all := lw_g (lw_at lw_m7 172 rfl) rfl
theorem q1728 : (Jvm.Cond.selects "RooftopCats" ({ cls := "RooftopCats", name := "claim", desc := "(I)I" } : Jvm.MethodName) ({ cls := "RooftopCats", name := "claim", desc := "(I)I" } : Jvm.MethodName)) ∈ lw_all := lw_g (lw_at lw_m7 173 rfl) rfl
theorem q1729 : (Jvm.Cond.code ({ cls := "RooftopCats", name := "claim", desc := "(I)I" } : Jvm.MethodName) prog_1_method_20_code (2 : Nat) (Option.some Jvm.ClassFile.FieldType.int)) ∈ lw_all := lw_g (lw_at lw_m7 174 rfl) rfl
theorem q1730 : (Jvm.Cond.methodLink "RooftopCats" (174 : Nat) ({ cls := "RooftopCats", name := "whyNoClaim", desc := "(I)I" } : Jvm.MethodName)) ∈ lw_all := lw_g (lw_at lw_m7 175 rfl) rfl
theorem q1731 : (Jvm.Cond.instanceMethod ({ cls := "RooftopCats", name := "whyNoClaim", desc := "(I)I" } : Jvm.MethodName)) ∈ lw_all := lw_g (lw_at lw_m7 176 rfl) rfl
theorem q1732 : (Jvm.Cond.selects "RooftopCats" ({ cls := "RooftopCats", name := "whyNoClaim", desc := "(I)I" } : Jvm.MethodName) ({ cls := "RooftopCats", name := "whyNoClaim", desc := "(I)I" } : Jvm.MethodName)) ∈ lw_all := lw_g (lw_at lw_m7 177 rfl) rfl
theorem q1733 : (Jvm.Cond.code ({ cls := "RooftopCats", name := "whyNoClaim", desc := "(I)I" } : Jvm.MethodName) prog_1_method_55_code (2 : Nat) (Option.some Jvm.ClassFile.FieldType.int)) ∈ lw_all := lw_g (lw_at lw_m7 178 rfl) rfl
theorem q1734 : (Jvm.Cond.methodLink "RooftopCats" (290 : Nat) ({ cls := "RooftopCats$Roof", name := "judgeClaim", desc := "(I)I" } : Jvm.MethodName)) ∈ lw_all := lw_g (lw_at lw_m7 179 rfl) rfl
theorem q1735 : (Jvm.Cond.methodLink "RooftopCats" (177 : Nat) ({ cls := "RooftopCats$Roof", name := "claim", desc := "(I)I" } : Jvm.MethodName)) ∈ lw_all := lw_g (lw_at lw_m7 180 rfl) rfl
theorem q1740 : (Jvm.Cond.instanceMethod ({ cls := "RooftopCats", name := "abandon", desc := "(I)I" } : Jvm.MethodName)) ∈ lw_all := lw_g (lw_at lw_m7 185 rfl) rfl
theorem q1741 : (Jvm.Cond.selects "RooftopCats" ({ cls := "RooftopCats", name := "abandon", desc := "(I)I" } : Jvm.MethodName) ({ cls := "RooftopCats", name := "abandon", desc := "(I)I" } : Jvm.MethodName)) ∈ lw_all := lw_g (lw_at lw_m7 186 rfl) rfl
theorem q1742 : (Jvm.Cond.code ({ cls := "RooftopCats", name := "abandon", desc := "(I)I" } : Jvm.MethodName) prog_1_method_21_code (3 : Nat) (Option.some Jvm.ClassFile.FieldType.int)) ∈ lw_all := lw_g (lw_at lw_m7 187 rfl) rfl
theorem q1743 : (Jvm.Cond.methodLink "RooftopCats" (180 : Nat) ({ cls := "RooftopCats", name := "ownerOf", desc := "(I)I" } : Jvm.MethodName)) ∈ lw_all := lw_g (lw_at lw_m7 188 rfl) rfl
theorem q1744 : (Jvm.Cond.instanceMethod ({ cls := "RooftopCats", name := "ownerOf", desc := "(I)I" } : Jvm.MethodName)) ∈ lw_all := lw_g (lw_at lw_m7 189 rfl) rfl
theorem q1745 : (Jvm.Cond.selects "RooftopCats" ({ cls := "RooftopCats", name := "ownerOf", desc := "(I)I" } : Jvm.MethodName) ({ cls := "RooftopCats", name := "ownerOf", desc := "(I)I" } : Jvm.MethodName)) ∈ lw_all := lw_g (lw_at lw_m7 190 rfl) rfl
theorem q1746 : (Jvm.Cond.code ({ cls := "RooftopCats", name := "ownerOf", desc := "(I)I" } : Jvm.MethodName) prog_1_method_39_code (2 : Nat) (Option.some Jvm.ClassFile.FieldType.int)) ∈ lw_all := lw_g (lw_at lw_m7 191 rfl) rfl
theorem q1751 : (Jvm.Cond.instanceMethod ({ cls := "RooftopCats", name := "chase", desc := "(II)Z" } : Jvm.MethodName)) ∈ lw_all := lw_g (lw_at lw_m7 196 rfl) rfl
theorem q1752 : (Jvm.Cond.selects "RooftopCats" ({ cls := "RooftopCats", name := "chase", desc := "(II)Z" } : Jvm.MethodName) ({ cls := "RooftopCats", name := "chase", desc := "(II)Z" } : Jvm.MethodName)) ∈ lw_all := lw_g (lw_at lw_m7 197 rfl) rfl
theorem q1753 : (Jvm.Cond.code ({ cls := "RooftopCats", name := "chase", desc := "(II)Z" } : Jvm.MethodName) prog_1_method_22_code (3 : Nat) (Option.some Jvm.ClassFile.FieldType.boolean)) ∈ lw_all := lw_g (lw_at lw_m7 198 rfl) rfl
theorem q1754 : (Jvm.Cond.methodLink "RooftopCats" (186 : Nat) ({ cls := "RooftopCats", name := "whyNoChase", desc := "(II)I" } : Jvm.MethodName)) ∈ lw_all := lw_g (lw_at lw_m7 199 rfl) rfl
theorem q1755 : (Jvm.Cond.instanceMethod ({ cls := "RooftopCats", name := "whyNoChase", desc := "(II)I" } : Jvm.MethodName)) ∈ lw_all := lw_g (lw_at lw_m7 200 rfl) rfl
theorem q1756 : (Jvm.Cond.selects "RooftopCats" ({ cls := "RooftopCats", name := "whyNoChase", desc := "(II)I" } : Jvm.MethodName) ({ cls := "RooftopCats", name := "whyNoChase", desc := "(II)I" } : Jvm.MethodName)) ∈ lw_all := lw_g (lw_at lw_m7 201 rfl) rfl
theorem q1757 : (Jvm.Cond.code ({ cls := "RooftopCats", name := "whyNoChase", desc := "(II)I" } : Jvm.MethodName) prog_1_method_56_code (3 : Nat) (Option.some Jvm.ClassFile.FieldType.int)) ∈ lw_all := lw_g (lw_at lw_m7 202 rfl) rfl
theorem q1758 : (Jvm.Cond.methodLink "RooftopCats" (193 : Nat) ({ cls := "RooftopCats", name := "checkCats", desc := "(II)V" } : Jvm.MethodName)) ∈ lw_all := lw_g (lw_at lw_m7 203 rfl) rfl
theorem q1759 : (Jvm.Cond.privateMethod ({ cls := "RooftopCats", name := "checkCats", desc := "(II)V" } : Jvm.MethodName)) ∈ lw_tbl := lw_at lw_m7 204 rfl
theorem q1760 : (Jvm.Cond.instanceMethod ({ cls := "RooftopCats", name := "checkCats", desc := "(II)V" } : Jvm.MethodName)) ∈ lw_all := lw_g (lw_at lw_m7 205 rfl) rfl
theorem q1761 : (Jvm.Cond.code ({ cls := "RooftopCats", name := "checkCats", desc := "(II)V" } : Jvm.MethodName) prog_1_method_9_code (3 : Nat) (Option.none : Option Jvm.ClassFile.FieldType)) ∈ lw_all := lw_g (lw_at lw_m7 206 rfl) rfl
theorem q1762 : (Jvm.Cond.methodLink "RooftopCats" (293 : Nat) ({ cls := "RooftopCats$Roof", name := "judgeChase", desc := "(II)I" } : Jvm.MethodName)) ∈ lw_all := lw_g (lw_at lw_m7 207 rfl) rfl
theorem q1763 : (Jvm.Cond.methodLink "RooftopCats" (189 : Nat) ({ cls := "RooftopCats$Roof", name := "chase", desc := "(II)Z" } : Jvm.MethodName)) ∈ lw_all := lw_g (lw_at lw_m7 208 rfl) rfl
theorem q1768 : (Jvm.Cond.instanceMethod ({ cls := "RooftopCats", name := "buyTruce", desc := "(IIII)I" } : Jvm.MethodName)) ∈ lw_all := lw_g (lw_at lw_m7 213 rfl) rfl
theorem q1769 : (Jvm.Cond.selects "RooftopCats" ({ cls := "RooftopCats", name := "buyTruce", desc := "(IIII)I" } : Jvm.MethodName) ({ cls := "RooftopCats", name := "buyTruce", desc := "(IIII)I" } : Jvm.MethodName)) ∈ lw_all := lw_g (lw_at lw_m7 214 rfl) rfl
theorem q1770 : (Jvm.Cond.code ({ cls := "RooftopCats", name := "buyTruce", desc := "(IIII)I" } : Jvm.MethodName) prog_1_method_23_code (5 : Nat) (Option.some Jvm.ClassFile.FieldType.int)) ∈ lw_all := lw_g (lw_at lw_m7 215 rfl) rfl
theorem q1771 : (Jvm.Cond.methodLink "RooftopCats" (196 : Nat) ({ cls := "RooftopCats$Roof", name := "canBuy", desc := "(III)Z" } : Jvm.MethodName)) ∈ lw_all := lw_g (lw_at lw_m7 216 rfl) rfl
theorem q1772 : (Jvm.Cond.methodLink "RooftopCats" (200 : Nat) ({ cls := "RooftopCats$Roof", name := "buyTruce", desc := "(IIII)I" } : Jvm.MethodName)) ∈ lw_all := lw_g (lw_at lw_m7 217 rfl) rfl
theorem q1777 : (Jvm.Cond.instanceMethod ({ cls := "RooftopCats", name := "nominate", desc := "(II)I" } : Jvm.MethodName)) ∈ lw_all := lw_g (lw_at lw_m7 222 rfl) rfl
theorem q1778 : (Jvm.Cond.selects "RooftopCats" ({ cls := "RooftopCats", name := "nominate", desc := "(II)I" } : Jvm.MethodName) ({ cls := "RooftopCats", name := "nominate", desc := "(II)I" } : Jvm.MethodName)) ∈ lw_all := lw_g (lw_at lw_m7 223 rfl) rfl
theorem q1779 : (Jvm.Cond.code ({ cls := "RooftopCats", name := "nominate", desc := "(II)I" } : Jvm.MethodName) prog_1_method_24_code (3 : Nat) (Option.some Jvm.ClassFile.FieldType.int)) ∈ lw_all := lw_g (lw_at lw_m7 224 rfl) rfl
theorem q1780 : (Jvm.Cond.methodLink "RooftopCats" (204 : Nat) ({ cls := "RooftopCats$Roof", name := "canNominate", desc := "()Z" } : Jvm.MethodName)) ∈ lw_all := lw_g (lw_at lw_m7 225 rfl) rfl
theorem q1781 : (Jvm.Cond.methodLink "RooftopCats" (208 : Nat) ({ cls := "RooftopCats$Roof", name := "nominate", desc := "(II)I" } : Jvm.MethodName)) ∈ lw_all := lw_g (lw_at lw_m7 226 rfl) rfl
theorem q1786 : (Jvm.Cond.instanceMethod ({ cls := "RooftopCats", name := "vote", desc := "(IZ)Z" } : Jvm.MethodName)) ∈ lw_all := lw_g (lw_at lw_m7 231 rfl) rfl
theorem q1787 : (Jvm.Cond.selects "RooftopCats" ({ cls := "RooftopCats", name := "vote", desc := "(IZ)Z" } : Jvm.MethodName) ({ cls := "RooftopCats", name := "vote", desc := "(IZ)Z" } : Jvm.MethodName)) ∈ lw_all := lw_g (lw_at lw_m7 232 rfl) rfl
theorem q1788 : (Jvm.Cond.code ({ cls := "RooftopCats", name := "vote", desc := "(IZ)Z" } : Jvm.MethodName) prog_1_method_25_code (3 : Nat) (Option.some Jvm.ClassFile.FieldType.boolean)) ∈ lw_all := lw_g (lw_at lw_m7 233 rfl) rfl
theorem q1789 : (Jvm.Cond.methodLink "RooftopCats" (211 : Nat) ({ cls := "RooftopCats$Roof", name := "canVote", desc := "(I)Z" } : Jvm.MethodName)) ∈ lw_all := lw_g (lw_at lw_m7 234 rfl) rfl
theorem q1790 : (Jvm.Cond.methodLink "RooftopCats" (215 : Nat) ({ cls := "RooftopCats$Roof", name := "vote", desc := "(IZ)Z" } : Jvm.MethodName)) ∈ lw_all := lw_g (lw_at lw_m7 235 rfl) rfl
theorem q1795 : (Jvm.Cond.instanceMethod ({ cls := "RooftopCats", name := "passNights", desc := "(I)I" } : Jvm.MethodName)) ∈ lw_all := lw_g (lw_at lw_m8 0 rfl) rfl
theorem q1796 : (Jvm.Cond.selects "RooftopCats" ({ cls := "RooftopCats", name := "passNights", desc := "(I)I" } : Jvm.MethodName) ({ cls := "RooftopCats", name := "passNights", desc := "(I)I" } : Jvm.MethodName)) ∈ lw_all := lw_g (lw_at lw_m8 1 rfl) rfl
theorem q1797 : (Jvm.Cond.code ({ cls := "RooftopCats", name := "passNights", desc := "(I)I" } : Jvm.MethodName) prog_1_method_26_code (2 : Nat) (Option.some Jvm.ClassFile.FieldType.int)) ∈ lw_all := lw_g (lw_at lw_m8 2 rfl) rfl
theorem q1798 : (Jvm.Cond.methodLink "RooftopCats" (222 : Nat) ({ cls := "RooftopCats$Roof", name := "passNights", desc := "(I)I" } : Jvm.MethodName)) ∈ lw_all := lw_g (lw_at lw_m8 3 rfl) rfl
theorem q1804 : (Jvm.Cond.instanceMethod ({ cls := "RooftopCats", name := "restoreSnapshot", desc := "()I" } : Jvm.MethodName)) ∈ lw_all := lw_g (lw_at lw_m8 9 rfl) rfl
theorem q1805 : (Jvm.Cond.selects "RooftopCats" ({ cls := "RooftopCats", name := "restoreSnapshot", desc := "()I" } : Jvm.MethodName) ({ cls := "RooftopCats", name := "restoreSnapshot", desc := "()I" } : Jvm.MethodName)) ∈ lw_all := lw_g (lw_at lw_m8 10 rfl) rfl
theorem q1806 : (Jvm.Cond.code ({ cls := "RooftopCats", name := "restoreSnapshot", desc := "()I" } : Jvm.MethodName) prog_1_method_30_code (1 : Nat) (Option.some Jvm.ClassFile.FieldType.int)) ∈ lw_all := lw_g (lw_at lw_m8 11 rfl) rfl
theorem q1807 : (Jvm.Cond.classLink "RooftopCats" (234 : Nat) "java/util/NoSuchElementException") ∈ lw_all := lw_g (lw_at lw_m8 12 rfl) rfl
theorem q1808 : (Jvm.Cond.methodLink "RooftopCats" (236 : Nat) ({ cls := "java/util/NoSuchElementException", name := "<init>", desc := "()V" } : Jvm.MethodName)) ∈ lw_all := lw_g (lw_at lw_m8 13 rfl) rfl
theorem q1809 : (Jvm.Cond.methodLink "RooftopCats" (237 : Nat) ({ cls := "java/util/ArrayDeque", name := "clear", desc := "()V" } : Jvm.MethodName)) ∈ lw_all := lw_g (lw_at lw_m8 14 rfl) rfl
theorem q1820 : (Jvm.Cond.instanceMethod ({ cls := "RooftopCats", name := "warmth", desc := "(I)I" } : Jvm.MethodName)) ∈ lw_all := lw_g (lw_at lw_m8 25 rfl) rfl
theorem q1821 : (Jvm.Cond.selects "RooftopCats" ({ cls := "RooftopCats", name := "warmth", desc := "(I)I" } : Jvm.MethodName) ({ cls := "RooftopCats", name := "warmth", desc := "(I)I" } : Jvm.MethodName)) ∈ lw_all := lw_g (lw_at lw_m8 26 rfl) rfl
theorem q1822 : (Jvm.Cond.code ({ cls := "RooftopCats", name := "warmth", desc := "(I)I" } : Jvm.MethodName) prog_1_method_38_code (2 : Nat) (Option.some Jvm.ClassFile.FieldType.int)) ∈ lw_all := lw_g (lw_at lw_m8 27 rfl) rfl
theorem q1831 : (Jvm.Cond.instanceMethod ({ cls := "RooftopCats", name := "catOn", desc := "(I)I" } : Jvm.MethodName)) ∈ lw_all := lw_g (lw_at lw_m8 36 rfl) rfl
theorem q1832 : (Jvm.Cond.selects "RooftopCats" ({ cls := "RooftopCats", name := "catOn", desc := "(I)I" } : Jvm.MethodName) ({ cls := "RooftopCats", name := "catOn", desc := "(I)I" } : Jvm.MethodName)) ∈ lw_all := lw_g (lw_at lw_m8 37 rfl) rfl
theorem q1833 : (Jvm.Cond.code ({ cls := "RooftopCats", name := "catOn", desc := "(I)I" } : Jvm.MethodName) prog_1_method_40_code (2 : Nat) (Option.some Jvm.ClassFile.FieldType.int)) ∈ lw_all := lw_g (lw_at lw_m8 38 rfl) rfl
theorem q1838 : (Jvm.Cond.instanceMethod ({ cls := "RooftopCats", name := "gutterEnds", desc := "(I)I" } : Jvm.MethodName)) ∈ lw_all := lw_g (lw_at lw_m8 43 rfl) rfl
theorem q1839 : (Jvm.Cond.selects "RooftopCats" ({ cls := "RooftopCats", name := "gutterEnds", desc := "(I)I" } : Jvm.MethodName) ({ cls := "RooftopCats", name := "gutterEnds", desc := "(I)I" } : Jvm.MethodName)) ∈ lw_all := lw_g (lw_at lw_m8 44 rfl) rfl
theorem q1840 : (Jvm.Cond.code ({ cls := "RooftopCats", name := "gutterEnds", desc := "(I)I" } : Jvm.MethodName) prog_1_method_41_code (2 : Nat) (Option.some Jvm.ClassFile.FieldType.int)) ∈ lw_all := lw_g (lw_at lw_m8 45 rfl) rfl
theorem q1841 : (Jvm.Cond.methodLink "RooftopCats" (245 : Nat) ({ cls := "RooftopCats", name := "gutter", desc := "(I)LRooftopCats$Gutter;" } : Jvm.MethodName)) ∈ lw_all := lw_g (lw_at lw_m8 46 rfl) rfl
theorem q1842 : (Jvm.Cond.privateMethod ({ cls := "RooftopCats", name := "gutter", desc := "(I)LRooftopCats$Gutter;" } : Jvm.MethodName)) ∈ lw_tbl := lw_at lw_m8 47 rfl
theorem q1843 : (Jvm.Cond.instanceMethod ({ cls := "RooftopCats", name := "gutter", desc := "(I)LRooftopCats$Gutter;" } : Jvm.MethodName)) ∈ lw_all := lw_g (lw_at lw_m8 48 rfl) rfl
theorem q1844 : (Jvm.Cond.code ({ cls := "RooftopCats", name := "gutter", desc := "(I)LRooftopCats$Gutter;" } : Jvm.MethodName) prog_1_method_5_code (2 : Nat) (Option.some (Jvm.ClassFile.FieldType.object "RooftopCats$Gutter"))) ∈ lw_all := lw_g (lw_at lw_m8 49 rfl) rfl
theorem q1845 : (Jvm.Cond.methodLink "RooftopCats" (249 : Nat) ({ cls := "RooftopCats$Gutter", name := "one", desc := "()I" } : Jvm.MethodName)) ∈ lw_all := lw_g (lw_at lw_m8 50 rfl) rfl
theorem q1849 : (Jvm.Cond.methodLink "RooftopCats" (252 : Nat) ({ cls := "RooftopCats$Gutter", name := "other", desc := "()I" } : Jvm.MethodName)) ∈ lw_all := lw_g (lw_at lw_m8 54 rfl) rfl
theorem q1857 : (Jvm.Cond.instanceMethod ({ cls := "RooftopCats", name := "width", desc := "(I)I" } : Jvm.MethodName)) ∈ lw_all := lw_g (lw_at lw_m8 62 rfl) rfl
theorem q1858 : (Jvm.Cond.selects "RooftopCats" ({ cls := "RooftopCats", name := "width", desc := "(I)I" } : Jvm.MethodName) ({ cls := "RooftopCats", name := "width", desc := "(I)I" } : Jvm.MethodName)) ∈ lw_all := lw_g (lw_at lw_m8 63 rfl) rfl
theorem q1859 : (Jvm.Cond.code ({ cls := "RooftopCats", name := "width", desc := "(I)I" } : Jvm.MethodName) prog_1_method_42_code (2 : Nat) (Option.some Jvm.ClassFile.FieldType.int)) ∈ lw_all := lw_g (lw_at lw_m8 64 rfl) rfl
theorem q1860 : (Jvm.Cond.methodLink "RooftopCats" (255 : Nat) ({ cls := "RooftopCats$Gutter", name := "width", desc := "()I" } : Jvm.MethodName)) ∈ lw_all := lw_g (lw_at lw_m8 65 rfl) rfl
theorem q1865 : (Jvm.Cond.instanceMethod ({ cls := "RooftopCats", name := "widestWay", desc := "(II)I" } : Jvm.MethodName)) ∈ lw_all := lw_g (lw_at lw_m8 70 rfl) rfl
theorem q1866 : (Jvm.Cond.selects "RooftopCats" ({ cls := "RooftopCats", name := "widestWay", desc := "(II)I" } : Jvm.MethodName) ({ cls := "RooftopCats", name := "widestWay", desc := "(II)I" } : Jvm.MethodName)) ∈ lw_all := lw_g (lw_at lw_m8 71 rfl) rfl
theorem q1867 : (Jvm.Cond.code ({ cls := "RooftopCats", name := "widestWay", desc := "(II)I" } : Jvm.MethodName) prog_1_method_43_code (3 : Nat) (Option.some Jvm.ClassFile.FieldType.int)) ∈ lw_all := lw_g (lw_at lw_m8 72 rfl) rfl
theorem q1868 : (Jvm.Cond.methodLink "RooftopCats" (258 : Nat) ({ cls := "RooftopCats$Roof", name := "widestWay", desc := "(II)I" } : Jvm.MethodName)) ∈ lw_all := lw_g (lw_at lw_m8 73 rfl) rfl
theorem q1882 : (Jvm.Cond.instanceMethod ({ cls := "RooftopCats", name := "girth", desc := "(I)I" } : Jvm.MethodName)) ∈ lw_all := lw_g (lw_at lw_m8 87 rfl) rfl
theorem q1883 : (Jvm.Cond.selects "RooftopCats" ({ cls := "RooftopCats", name := "girth", desc := "(I)I" } : Jvm.MethodName) ({ cls := "RooftopCats", name := "girth", desc := "(I)I" } : Jvm.MethodName)) ∈ lw_all := lw_g (lw_at lw_m8 88 rfl) rfl
theorem q1884 : (Jvm.Cond.code ({ cls := "RooftopCats", name := "girth", desc := "(I)I" } : Jvm.MethodName) prog_1_method_45_code (2 : Nat) (Option.some Jvm.ClassFile.FieldType.int)) ∈ lw_all := lw_g (lw_at lw_m8 89 rfl) rfl
theorem q1889 : (Jvm.Cond.instanceMethod ({ cls := "RooftopCats", name := "power", desc := "(I)I" } : Jvm.MethodName)) ∈ lw_all := lw_g (lw_at lw_m8 94 rfl) rfl
theorem q1890 : (Jvm.Cond.selects "RooftopCats" ({ cls := "RooftopCats", name := "power", desc := "(I)I" } : Jvm.MethodName) ({ cls := "RooftopCats", name := "power", desc := "(I)I" } : Jvm.MethodName)) ∈ lw_all := lw_g (lw_at lw_m8 95 rfl) rfl
theorem q1891 : (Jvm.Cond.code ({ cls := "RooftopCats", name := "power", desc := "(I)I" } : Jvm.MethodName) prog_1_method_46_code (2 : Nat) (Option.some Jvm.ClassFile.FieldType.int)) ∈ lw_all := lw_g (lw_at lw_m8 96 rfl) rfl
theorem q1892 : (Jvm.Cond.methodLink "RooftopCats" (267 : Nat) ({ cls := "RooftopCats$Roof", name := "power", desc := "(I)I" } : Jvm.MethodName)) ∈ lw_all := lw_g (lw_at lw_m8 97 rfl) rfl
theorem q1897 : (Jvm.Cond.instanceMethod ({ cls := "RooftopCats", name := "fish", desc := "(I)I" } : Jvm.MethodName)) ∈ lw_all := lw_g (lw_at lw_m8 102 rfl) rfl
theorem q1898 : (Jvm.Cond.selects "RooftopCats" ({ cls := "RooftopCats", name := "fish", desc := "(I)I" } : Jvm.MethodName) ({ cls := "RooftopCats", name := "fish", desc := "(I)I" } : Jvm.MethodName)) ∈ lw_all := lw_g (lw_at lw_m8 103 rfl) rfl
theorem q1899 : (Jvm.Cond.code ({ cls := "RooftopCats", name := "fish", desc := "(I)I" } : Jvm.MethodName) prog_1_method_47_code (2 : Nat) (Option.some Jvm.ClassFile.FieldType.int)) ∈ lw_all := lw_g (lw_at lw_m8 104 rfl) rfl
theorem q1904 : (Jvm.Cond.instanceMethod ({ cls := "RooftopCats", name := "chimneyOf", desc := "(I)I" } : Jvm.MethodName)) ∈ lw_all := lw_g (lw_at lw_m8 109 rfl) rfl
theorem q1905 : (Jvm.Cond.selects "RooftopCats" ({ cls := "RooftopCats", name := "chimneyOf", desc := "(I)I" } : Jvm.MethodName) ({ cls := "RooftopCats", name := "chimneyOf", desc := "(I)I" } : Jvm.MethodName)) ∈ lw_all := lw_g (lw_at lw_m8 110 rfl) rfl
theorem q1906 : (Jvm.Cond.code ({ cls := "RooftopCats", name := "chimneyOf", desc := "(I)I" } : Jvm.MethodName) prog_1_method_48_code (2 : Nat) (Option.some Jvm.ClassFile.FieldType.int)) ∈ lw_all := lw_g (lw_at lw_m8 111 rfl) rfl
theorem q1911 : (Jvm.Cond.instanceMethod ({ cls := "RooftopCats", name := "ownedChimneys", desc := "(I)I" } : Jvm.MethodName)) ∈ lw_all := lw_g (lw_at lw_m8 116 rfl) rfl
theorem q1912 : (Jvm.Cond.selects "RooftopCats" ({ cls := "RooftopCats", name := "ownedChimneys", desc := "(I)I" } : Jvm.MethodName) ({ cls := "RooftopCats", name := "ownedChimneys", desc := "(I)I" } : Jvm.MethodName)) ∈ lw_all := lw_g (lw_at lw_m8 117 rfl) rfl
theorem q1913 : (Jvm.Cond.code ({ cls := "RooftopCats", name := "ownedChimneys", desc := "(I)I" } : Jvm.MethodName) prog_1_method_49_code (2 : Nat) (Option.some Jvm.ClassFile.FieldType.int)) ∈ lw_all := lw_g (lw_at lw_m8 118 rfl) rfl
theorem q1918 : (Jvm.Cond.instanceMethod ({ cls := "RooftopCats", name := "truceNights", desc := "(II)I" } : Jvm.MethodName)) ∈ lw_all := lw_g (lw_at lw_m8 123 rfl) rfl
theorem q1919 : (Jvm.Cond.selects "RooftopCats" ({ cls := "RooftopCats", name := "truceNights", desc := "(II)I" } : Jvm.MethodName) ({ cls := "RooftopCats", name := "truceNights", desc := "(II)I" } : Jvm.MethodName)) ∈ lw_all := lw_g (lw_at lw_m8 124 rfl) rfl
theorem q1920 : (Jvm.Cond.code ({ cls := "RooftopCats", name := "truceNights", desc := "(II)I" } : Jvm.MethodName) prog_1_method_50_code (3 : Nat) (Option.some Jvm.ClassFile.FieldType.int)) ∈ lw_all := lw_g (lw_at lw_m8 125 rfl) rfl
theorem q1921 : (Jvm.Cond.methodLink "RooftopCats" (278 : Nat) ({ cls := "RooftopCats$Roof", name := "truceNights", desc := "(II)I" } : Jvm.MethodName)) ∈ lw_all := lw_g (lw_at lw_m8 126 rfl) rfl
theorem q1926 : (Jvm.Cond.instanceMethod ({ cls := "RooftopCats", name := "reachable", desc := "(I)I" } : Jvm.MethodName)) ∈ lw_all := lw_g (lw_at lw_m8 131 rfl) rfl
theorem q1927 : (Jvm.Cond.selects "RooftopCats" ({ cls := "RooftopCats", name := "reachable", desc := "(I)I" } : Jvm.MethodName) ({ cls := "RooftopCats", name := "reachable", desc := "(I)I" } : Jvm.MethodName)) ∈ lw_all := lw_g (lw_at lw_m8 132 rfl) rfl
theorem q1928 : (Jvm.Cond.code ({ cls := "RooftopCats", name := "reachable", desc := "(I)I" } : Jvm.MethodName) prog_1_method_51_code (2 : Nat) (Option.some Jvm.ClassFile.FieldType.int)) ∈ lw_all := lw_g (lw_at lw_m8 133 rfl) rfl
theorem q1929 : (Jvm.Cond.methodLink "RooftopCats" (281 : Nat) ({ cls := "RooftopCats$Roof", name := "reachable", desc := "(I)I" } : Jvm.MethodName)) ∈ lw_all := lw_g (lw_at lw_m8 134 rfl) rfl
theorem q1941 : (Jvm.Cond.instanceMethod ({ cls := "RooftopCats", name := "stepsTo", desc := "(II)I" } : Jvm.MethodName)) ∈ lw_all := lw_g (lw_at lw_m8 146 rfl) rfl
theorem q1942 : (Jvm.Cond.selects "RooftopCats" ({ cls := "RooftopCats", name := "stepsTo", desc := "(II)I" } : Jvm.MethodName) ({ cls := "RooftopCats", name := "stepsTo", desc := "(II)I" } : Jvm.MethodName)) ∈ lw_all := lw_g (lw_at lw_m8 147 rfl) rfl
theorem q1943 : (Jvm.Cond.code ({ cls := "RooftopCats", name := "stepsTo", desc := "(II)I" } : Jvm.MethodName) prog_1_method_52_code (3 : Nat) (Option.some Jvm.ClassFile.FieldType.int)) ∈ lw_all := lw_g (lw_at lw_m8 148 rfl) rfl
theorem q1944 : (Jvm.Cond.methodLink "RooftopCats" (284 : Nat) ({ cls := "RooftopCats$Roof", name := "stepsTo", desc := "(II)I" } : Jvm.MethodName)) ∈ lw_all := lw_g (lw_at lw_m8 149 rfl) rfl
theorem q1952 : (Jvm.Cond.instanceMethod ({ cls := "RooftopCats", name := "openGutters", desc := "(I)I" } : Jvm.MethodName)) ∈ lw_all := lw_g (lw_at lw_m8 157 rfl) rfl
theorem q1953 : (Jvm.Cond.selects "RooftopCats" ({ cls := "RooftopCats", name := "openGutters", desc := "(I)I" } : Jvm.MethodName) ({ cls := "RooftopCats", name := "openGutters", desc := "(I)I" } : Jvm.MethodName)) ∈ lw_all := lw_g (lw_at lw_m8 158 rfl) rfl
theorem q1954 : (Jvm.Cond.code ({ cls := "RooftopCats", name := "openGutters", desc := "(I)I" } : Jvm.MethodName) prog_1_method_53_code (4 : Nat) (Option.some Jvm.ClassFile.FieldType.int)) ∈ lw_all := lw_g (lw_at lw_m8 159 rfl) rfl
theorem q1971 : (Jvm.Cond.instanceMethod ({ cls := "RooftopCats", name := "preyOf", desc := "(I)I" } : Jvm.MethodName)) ∈ lw_all := lw_g (lw_at lw_m8 176 rfl) rfl
theorem q1972 : (Jvm.Cond.selects "RooftopCats" ({ cls := "RooftopCats", name := "preyOf", desc := "(I)I" } : Jvm.MethodName) ({ cls := "RooftopCats", name := "preyOf", desc := "(I)I" } : Jvm.MethodName)) ∈ lw_all := lw_g (lw_at lw_m8 177 rfl) rfl
theorem q1973 : (Jvm.Cond.code ({ cls := "RooftopCats", name := "preyOf", desc := "(I)I" } : Jvm.MethodName) prog_1_method_57_code (4 : Nat) (Option.some Jvm.ClassFile.FieldType.int)) ∈ lw_all := lw_g (lw_at lw_m8 178 rfl) rfl
theorem q1978 : (Jvm.Cond.instanceMethod ({ cls := "RooftopCats", name := "hasVoted", desc := "(I)Z" } : Jvm.MethodName)) ∈ lw_all := lw_g (lw_at lw_m8 183 rfl) rfl
theorem q1979 : (Jvm.Cond.selects "RooftopCats" ({ cls := "RooftopCats", name := "hasVoted", desc := "(I)Z" } : Jvm.MethodName) ({ cls := "RooftopCats", name := "hasVoted", desc := "(I)Z" } : Jvm.MethodName)) ∈ lw_all := lw_g (lw_at lw_m8 184 rfl) rfl
theorem q1980 : (Jvm.Cond.code ({ cls := "RooftopCats", name := "hasVoted", desc := "(I)Z" } : Jvm.MethodName) prog_1_method_61_code (2 : Nat) (Option.some Jvm.ClassFile.FieldType.boolean)) ∈ lw_all := lw_g (lw_at lw_m8 185 rfl) rfl
theorem q1981 : (Jvm.Cond.methodLink "RooftopCats" (313 : Nat) ({ cls := "RooftopCats$Kitten", name := "hasVote", desc := "(I)Z" } : Jvm.MethodName)) ∈ lw_all := lw_g (lw_at lw_m8 186 rfl) rfl
theorem q1986 : (Jvm.Cond.instanceMethod ({ cls := "RooftopCats", name := "choirOf", desc := "(I)I" } : Jvm.MethodName)) ∈ lw_all := lw_g (lw_at lw_m8 191 rfl) rfl
theorem q1987 : (Jvm.Cond.selects "RooftopCats" ({ cls := "RooftopCats", name := "choirOf", desc := "(I)I" } : Jvm.MethodName) ({ cls := "RooftopCats", name := "choirOf", desc := "(I)I" } : Jvm.MethodName)) ∈ lw_all := lw_g (lw_at lw_m8 192 rfl) rfl
theorem q1988 : (Jvm.Cond.code ({ cls := "RooftopCats", name := "choirOf", desc := "(I)I" } : Jvm.MethodName) prog_1_method_62_code (2 : Nat) (Option.some Jvm.ClassFile.FieldType.int)) ∈ lw_all := lw_g (lw_at lw_m8 193 rfl) rfl
theorem q1989 : (Jvm.Cond.methodLink "RooftopCats" (316 : Nat) ({ cls := "RooftopCats$Roof", name := "choir", desc := "(I)I" } : Jvm.MethodName)) ∈ lw_all := lw_g (lw_at lw_m8 194 rfl) rfl
theorem q1994 : (Jvm.Cond.instanceMethod ({ cls := "RooftopCats", name := "fishAfter", desc := "(II)I" } : Jvm.MethodName)) ∈ lw_all := lw_g (lw_at lw_m8 199 rfl) rfl
theorem q1995 : (Jvm.Cond.selects "RooftopCats" ({ cls := "RooftopCats", name := "fishAfter", desc := "(II)I" } : Jvm.MethodName) ({ cls := "RooftopCats", name := "fishAfter", desc := "(II)I" } : Jvm.MethodName)) ∈ lw_all := lw_g (lw_at lw_m8 200 rfl) rfl
theorem q1996 : (Jvm.Cond.code ({ cls := "RooftopCats", name := "fishAfter", desc := "(II)I" } : Jvm.MethodName) prog_1_method_66_code (5 : Nat) (Option.some Jvm.ClassFile.FieldType.int)) ∈ lw_all := lw_g (lw_at lw_m8 201 rfl) rfl
theorem q1997 : (Jvm.Cond.methodLink "RooftopCats" (325 : Nat) ({ cls := "RooftopCats$Roof", name := "passNight", desc := "()V" } : Jvm.MethodName)) ∈ lw_all := lw_g (lw_at lw_m8 202 rfl) rfl
theorem q2719 : (Jvm.Cond.castable "RooftopCats" "java/lang/Object") ∈ lw_tbl := lw_at lw_m11 204 rfl
theorem in_X1 : ∀ w ∈ wsX10, w ∈ lw_all := lw_in wsX10 [1226, 1228, 1230, 1232, 1234, 1236, 1238] (by decide +kernel) (by decide +kernel)

/-! RooftopCats$Parser -/
set_option maxRecDepth 100000
def RX2 : String := "RooftopCats$Parser"
def TX2 : u_T := fun k => match k with
  | 0 => ("RooftopCats$Parser", "text", "Ljava/lang/String;", true)
  | 1 => ("RooftopCats$Parser", "position", "I", false)
  | 2 => ("RooftopCats$Parser", "start", "I", false)
  | 3 => ("RooftopCats$Parser", "token", "LRooftopCats$Token;", false)
  | 4 => ("RooftopCats$Parser", "word", "Ljava/lang/String;", false)
  | 5 => ("RooftopCats$Parser", "value", "I", false)
  | 6 => ("RooftopCats$Parser", "depth", "I", false)
  | 7 => ("RooftopCats$Parser", "executed", "I", false)
  | _ => ("RooftopCats$Parser", "roof", "LRooftopCats$Roof;", true)
def tyX2 : Nat → FieldType := fun k => match k with
  | 0 => .object "java/lang/String"
  | 1 => .int
  | 2 => .int
  | 3 => .object "RooftopCats$Token"
  | 4 => .object "java/lang/String"
  | 5 => .int
  | 6 => .int
  | 7 => .int
  | _ => .object "RooftopCats$Roof"
abbrev wsX20 : List Cond := u_ws RX2 TX2 9
theorem nmX2 : ∀ a, a < 9 → ∀ b, b < 9 → a ≠ b → (TX2 a).2.1 ≠ (TX2 b).2.1 := by decide +kernel
theorem tyX2_ok : ∀ k, k < 9 → parseFieldDescriptor (TX2 k).2.2.1 = some (tyX2 k) := by decide +kernel
abbrev cX2_init : ByteArray := prog_6_method_1_code
def yX2_init : MethodName := ⟨RX2, "<init>", "(Ljava/lang/String;)V"⟩
def dkwX2_init_1 : List UInt8 := [183, 0, 28, 181, 0, 29, 42, 43, 181, 0, 33, 42, 182, 0, 36, 177]
abbrev dktX2_init_1 : List UInt8 := dkwX2_init_1 ++ []
def dkwX2_init_0 : List UInt8 := [42, 183, 0, 3, 42, 178, 0, 9, 181, 0, 15, 42, 18, 20, 181, 0, 22, 42, 187, 0, 26, 89]
abbrev dktX2_init_0 : List UInt8 := dkwX2_init_0 ++ dktX2_init_1
theorem dksX2_init_0 : cX2_init.data.toList.drop 0 = dktX2_init_0 := by decide +kernel
theorem dksX2_init_1 : cX2_init.data.toList.drop 22 = dktX2_init_1 := dk_seg dksX2_init_0 22 rfl rfl
theorem dX2_init_0 : decode cX2_init 0 = .ok (.aload_n 0, 1) := dk_42 (dk_at dksX2_init_0 0 rfl rfl)
theorem dX2_init_1 : decode cX2_init 1 = .ok (.invokespecial 3, 3) := dk_183 0 3 (dk_at dksX2_init_0 1 rfl rfl)
theorem dX2_init_4 : decode cX2_init 4 = .ok (.aload_n 0, 1) := dk_42 (dk_at dksX2_init_0 4 rfl rfl)
theorem dX2_init_5 : decode cX2_init 5 = .ok (.getstatic 9, 3) := dk_178 0 9 (dk_at dksX2_init_0 5 rfl rfl)
theorem dX2_init_8 : decode cX2_init 8 = .ok (.putfield 15, 3) := dk_181 0 15 (dk_at dksX2_init_0 8 rfl rfl)
theorem dX2_init_11 : decode cX2_init 11 = .ok (.aload_n 0, 1) := dk_42 (dk_at dksX2_init_0 11 rfl rfl)
theorem dX2_init_12 : decode cX2_init 12 = .ok (.ldc 20, 2) := dk_18 20 (dk_at dksX2_init_0 12 rfl rfl)
theorem dX2_init_14 : decode cX2_init 14 = .ok (.putfield 22, 3) := dk_181 0 22 (dk_at dksX2_init_0 14 rfl rfl)
theorem dX2_init_17 : decode cX2_init 17 = .ok (.aload_n 0, 1) := dk_42 (dk_at dksX2_init_0 17 rfl rfl)
theorem dX2_init_18 : decode cX2_init 18 = .ok (.new 26, 3) := dk_187 0 26 (dk_at dksX2_init_0 18 rfl rfl)
theorem dX2_init_21 : decode cX2_init 21 = .ok (.dup, 1) := dk_89 (dk_at dksX2_init_0 21 rfl rfl)
theorem dX2_init_22 : decode cX2_init 22 = .ok (.invokespecial 28, 3) := dk_183 0 28 (dk_at dksX2_init_1 0 rfl rfl)
theorem dX2_init_25 : decode cX2_init 25 = .ok (.putfield 29, 3) := dk_181 0 29 (dk_at dksX2_init_1 3 rfl rfl)
theorem dX2_init_28 : decode cX2_init 28 = .ok (.aload_n 0, 1) := dk_42 (dk_at dksX2_init_1 6 rfl rfl)
theorem dX2_init_29 : decode cX2_init 29 = .ok (.aload_n 1, 1) := dk_43 (dk_at dksX2_init_1 7 rfl rfl)
theorem dX2_init_30 : decode cX2_init 30 = .ok (.putfield 33, 3) := dk_181 0 33 (dk_at dksX2_init_1 8 rfl rfl)
theorem dX2_init_33 : decode cX2_init 33 = .ok (.aload_n 0, 1) := dk_42 (dk_at dksX2_init_1 11 rfl rfl)
theorem dX2_init_34 : decode cX2_init 34 = .ok (.invokevirtual 36, 3) := dk_182 0 36 (dk_at dksX2_init_1 12 rfl rfl)
theorem dX2_init_37 : decode cX2_init 37 = .ok (.return_, 1) := dk_177 (dk_at dksX2_init_1 15 rfl rfl)
abbrev cX2_advance : ByteArray := prog_6_method_3_code
def yX2_advance : MethodName := ⟨RX2, "advance", "()V"⟩
def dkwX2_advance_7 : List UInt8 := [181, 0, 15, 42, 89, 180, 0, 39, 4, 96, 181, 0, 39, 177]
abbrev dktX2_advance_7 : List UInt8 := dkwX2_advance_7 ++ []
def dkwX2_advance_6 : List UInt8 := [42, 182, 0, 67, 167, 0, 31, 42, 42, 180, 0, 33, 42, 180, 0, 39, 182, 0, 49, 184, 0, 70]
abbrev dktX2_advance_6 : List UInt8 := dkwX2_advance_6 ++ dktX2_advance_7
def dkwX2_advance_5 : List UInt8 := [181, 0, 22, 42, 178, 0, 64, 181, 0, 15, 167, 0, 49, 42, 16, 48, 16, 57, 182, 0, 53, 153, 0, 10]
abbrev dktX2_advance_5 : List UInt8 := dkwX2_advance_5 ++ dktX2_advance_6
def dkwX2_advance_4 : List UInt8 := [181, 0, 39, 167, 255, 235, 42, 42, 180, 0, 33, 42, 180, 0, 57, 42, 180, 0, 39, 182, 0, 60]
abbrev dktX2_advance_4 : List UInt8 := dkwX2_advance_4 ++ dktX2_advance_5
def dkwX2_advance_3 : List UInt8 := [182, 0, 53, 153, 0, 56, 42, 16, 97, 16, 122, 182, 0, 53, 153, 0, 16, 42, 89, 180, 0, 39, 4, 96]
abbrev dktX2_advance_3 : List UInt8 := dkwX2_advance_3 ++ dktX2_advance_4
def dkwX2_advance_2 : List UInt8 := [180, 0, 33, 182, 0, 43, 160, 0, 13, 42, 178, 0, 9, 181, 0, 15, 167, 0, 113, 42, 16, 97, 16, 122]
abbrev dktX2_advance_2 : List UInt8 := dkwX2_advance_2 ++ dktX2_advance_3
def dkwX2_advance_1 : List UInt8 := [180, 0, 39, 4, 96, 181, 0, 39, 167, 255, 224, 42, 42, 180, 0, 39, 181, 0, 57, 42, 180, 0, 39, 42]
abbrev dktX2_advance_1 : List UInt8 := dkwX2_advance_1 ++ dktX2_advance_2
def dkwX2_advance_0 : List UInt8 := [42, 16, 32, 16, 32, 182, 0, 53, 154, 0, 14, 42, 16, 10, 16, 10, 182, 0, 53, 153, 0, 16, 42, 89]
abbrev dktX2_advance_0 : List UInt8 := dkwX2_advance_0 ++ dktX2_advance_1
theorem dksX2_advance_0 : cX2_advance.data.toList.drop 0 = dktX2_advance_0 := by decide +kernel
theorem dksX2_advance_1 : cX2_advance.data.toList.drop 24 = dktX2_advance_1 := dk_seg dksX2_advance_0 24 rfl rfl
theorem dksX2_advance_2 : cX2_advance.data.toList.drop 48 = dktX2_advance_2 := dk_seg dksX2_advance_1 24 rfl rfl
theorem dksX2_advance_3 : cX2_advance.data.toList.drop 72 = dktX2_advance_3 := dk_seg dksX2_advance_2 24 rfl rfl
theorem dksX2_advance_4 : cX2_advance.data.toList.drop 96 = dktX2_advance_4 := dk_seg dksX2_advance_3 24 rfl rfl
theorem dksX2_advance_5 : cX2_advance.data.toList.drop 118 = dktX2_advance_5 := dk_seg dksX2_advance_4 22 rfl rfl
theorem dksX2_advance_6 : cX2_advance.data.toList.drop 142 = dktX2_advance_6 := dk_seg dksX2_advance_5 24 rfl rfl
theorem dksX2_advance_7 : cX2_advance.data.toList.drop 164 = dktX2_advance_7 := dk_seg dksX2_advance_6 22 rfl rfl
theorem dX2_advance_0 : decode cX2_advance 0 = .ok (.aload_n 0, 1) := dk_42 (dk_at dksX2_advance_0 0 rfl rfl)
theorem dX2_advance_1 : decode cX2_advance 1 = .ok (.bipush 32, 2) := dk_16 32 (dk_at dksX2_advance_0 1 rfl rfl)
theorem dX2_advance_3 : decode cX2_advance 3 = .ok (.bipush 32, 2) := dk_16 32 (dk_at dksX2_advance_0 3 rfl rfl)
theorem dX2_advance_5 : decode cX2_advance 5 = .ok (.invokevirtual 53, 3) := dk_182 0 53 (dk_at dksX2_advance_0 5 rfl rfl)
theorem dX2_advance_8 : decode cX2_advance 8 = .ok (.ifCond .ne 14, 3) := dk_154 0 14 (dk_at dksX2_advance_0 8 rfl rfl)
theorem dX2_advance_11 : decode cX2_advance 11 = .ok (.aload_n 0, 1) := dk_42 (dk_at dksX2_advance_0 11 rfl rfl)
theorem dX2_advance_12 : decode cX2_advance 12 = .ok (.bipush 10, 2) := dk_16 10 (dk_at dksX2_advance_0 12 rfl rfl)
theorem dX2_advance_14 : decode cX2_advance 14 = .ok (.bipush 10, 2) := dk_16 10 (dk_at dksX2_advance_0 14 rfl rfl)
theorem dX2_advance_16 : decode cX2_advance 16 = .ok (.invokevirtual 53, 3) := dk_182 0 53 (dk_at dksX2_advance_0 16 rfl rfl)
theorem dX2_advance_19 : decode cX2_advance 19 = .ok (.ifCond .eq 16, 3) := dk_153 0 16 (dk_at dksX2_advance_0 19 rfl rfl)
theorem dX2_advance_22 : decode cX2_advance 22 = .ok (.aload_n 0, 1) := dk_42 (dk_at dksX2_advance_0 22 rfl rfl)
theorem dX2_advance_23 : decode cX2_advance 23 = .ok (.dup, 1) := dk_89 (dk_at dksX2_advance_0 23 rfl rfl)
theorem dX2_advance_24 : decode cX2_advance 24 = .ok (.getfield 39, 3) := dk_180 0 39 (dk_at dksX2_advance_1 0 rfl rfl)
theorem dX2_advance_27 : decode cX2_advance 27 = .ok (.iconst 1, 1) := dk_4 (dk_at dksX2_advance_1 3 rfl rfl)
theorem dX2_advance_28 : decode cX2_advance 28 = .ok (.iadd, 1) := dk_96 (dk_at dksX2_advance_1 4 rfl rfl)
theorem dX2_advance_29 : decode cX2_advance 29 = .ok (.putfield 39, 3) := dk_181 0 39 (dk_at dksX2_advance_1 5 rfl rfl)
theorem dX2_advance_32 : decode cX2_advance 32 = .ok (.goto (-32), 3) := dk_167 255 224 (dk_at dksX2_advance_1 8 rfl rfl)
theorem dX2_advance_35 : decode cX2_advance 35 = .ok (.aload_n 0, 1) := dk_42 (dk_at dksX2_advance_1 11 rfl rfl)
theorem dX2_advance_36 : decode cX2_advance 36 = .ok (.aload_n 0, 1) := dk_42 (dk_at dksX2_advance_1 12 rfl rfl)
theorem dX2_advance_37 : decode cX2_advance 37 = .ok (.getfield 39, 3) := dk_180 0 39 (dk_at dksX2_advance_1 13 rfl rfl)
theorem dX2_advance_40 : decode cX2_advance 40 = .ok (.putfield 57, 3) := dk_181 0 57 (dk_at dksX2_advance_1 16 rfl rfl)
theorem dX2_advance_43 : decode cX2_advance 43 = .ok (.aload_n 0, 1) := dk_42 (dk_at dksX2_advance_1 19 rfl rfl)
theorem dX2_advance_44 : decode cX2_advance 44 = .ok (.getfield 39, 3) := dk_180 0 39 (dk_at dksX2_advance_1 20 rfl rfl)
theorem dX2_advance_47 : decode cX2_advance 47 = .ok (.aload_n 0, 1) := dk_42 (dk_at dksX2_advance_1 23 rfl rfl)
theorem dX2_advance_48 : decode cX2_advance 48 = .ok (.getfield 33, 3) := dk_180 0 33 (dk_at dksX2_advance_2 0 rfl rfl)
theorem dX2_advance_51 : decode cX2_advance 51 = .ok (.invokevirtual 43, 3) := dk_182 0 43 (dk_at dksX2_advance_2 3 rfl rfl)
theorem dX2_advance_54 : decode cX2_advance 54 = .ok (.if_icmp .ne 13, 3) := dk_160 0 13 (dk_at dksX2_advance_2 6 rfl rfl)
theorem dX2_advance_57 : decode cX2_advance 57 = .ok (.aload_n 0, 1) := dk_42 (dk_at dksX2_advance_2 9 rfl rfl)
theorem dX2_advance_58 : decode cX2_advance 58 = .ok (.getstatic 9, 3) := dk_178 0 9 (dk_at dksX2_advance_2 10 rfl rfl)
theorem dX2_advance_61 : decode cX2_advance 61 = .ok (.putfield 15, 3) := dk_181 0 15 (dk_at dksX2_advance_2 13 rfl rfl)
theorem dX2_advance_64 : decode cX2_advance 64 = .ok (.goto 113, 3) := dk_167 0 113 (dk_at dksX2_advance_2 16 rfl rfl)
theorem dX2_advance_67 : decode cX2_advance 67 = .ok (.aload_n 0, 1) := dk_42 (dk_at dksX2_advance_2 19 rfl rfl)
theorem dX2_advance_68 : decode cX2_advance 68 = .ok (.bipush 97, 2) := dk_16 97 (dk_at dksX2_advance_2 20 rfl rfl)
theorem dX2_advance_70 : decode cX2_advance 70 = .ok (.bipush 122, 2) := dk_16 122 (dk_at dksX2_advance_2 22 rfl rfl)
theorem dX2_advance_72 : decode cX2_advance 72 = .ok (.invokevirtual 53, 3) := dk_182 0 53 (dk_at dksX2_advance_3 0 rfl rfl)
theorem dX2_advance_75 : decode cX2_advance 75 = .ok (.ifCond .eq 56, 3) := dk_153 0 56 (dk_at dksX2_advance_3 3 rfl rfl)
theorem dX2_advance_78 : decode cX2_advance 78 = .ok (.aload_n 0, 1) := dk_42 (dk_at dksX2_advance_3 6 rfl rfl)
theorem dX2_advance_79 : decode cX2_advance 79 = .ok (.bipush 97, 2) := dk_16 97 (dk_at dksX2_advance_3 7 rfl rfl)
theorem dX2_advance_81 : decode cX2_advance 81 = .ok (.bipush 122, 2) := dk_16 122 (dk_at dksX2_advance_3 9 rfl rfl)
theorem dX2_advance_83 : decode cX2_advance 83 = .ok (.invokevirtual 53, 3) := dk_182 0 53 (dk_at dksX2_advance_3 11 rfl rfl)
theorem dX2_advance_86 : decode cX2_advance 86 = .ok (.ifCond .eq 16, 3) := dk_153 0 16 (dk_at dksX2_advance_3 14 rfl rfl)
theorem dX2_advance_89 : decode cX2_advance 89 = .ok (.aload_n 0, 1) := dk_42 (dk_at dksX2_advance_3 17 rfl rfl)
theorem dX2_advance_90 : decode cX2_advance 90 = .ok (.dup, 1) := dk_89 (dk_at dksX2_advance_3 18 rfl rfl)
theorem dX2_advance_91 : decode cX2_advance 91 = .ok (.getfield 39, 3) := dk_180 0 39 (dk_at dksX2_advance_3 19 rfl rfl)
theorem dX2_advance_94 : decode cX2_advance 94 = .ok (.iconst 1, 1) := dk_4 (dk_at dksX2_advance_3 22 rfl rfl)
theorem dX2_advance_95 : decode cX2_advance 95 = .ok (.iadd, 1) := dk_96 (dk_at dksX2_advance_3 23 rfl rfl)
theorem dX2_advance_96 : decode cX2_advance 96 = .ok (.putfield 39, 3) := dk_181 0 39 (dk_at dksX2_advance_4 0 rfl rfl)
theorem dX2_advance_99 : decode cX2_advance 99 = .ok (.goto (-21), 3) := dk_167 255 235 (dk_at dksX2_advance_4 3 rfl rfl)
theorem dX2_advance_102 : decode cX2_advance 102 = .ok (.aload_n 0, 1) := dk_42 (dk_at dksX2_advance_4 6 rfl rfl)
theorem dX2_advance_103 : decode cX2_advance 103 = .ok (.aload_n 0, 1) := dk_42 (dk_at dksX2_advance_4 7 rfl rfl)
theorem dX2_advance_104 : decode cX2_advance 104 = .ok (.getfield 33, 3) := dk_180 0 33 (dk_at dksX2_advance_4 8 rfl rfl)
theorem dX2_advance_107 : decode cX2_advance 107 = .ok (.aload_n 0, 1) := dk_42 (dk_at dksX2_advance_4 11 rfl rfl)
theorem dX2_advance_108 : decode cX2_advance 108 = .ok (.getfield 57, 3) := dk_180 0 57 (dk_at dksX2_advance_4 12 rfl rfl)
theorem dX2_advance_111 : decode cX2_advance 111 = .ok (.aload_n 0, 1) := dk_42 (dk_at dksX2_advance_4 15 rfl rfl)
theorem dX2_advance_112 : decode cX2_advance 112 = .ok (.getfield 39, 3) := dk_180 0 39 (dk_at dksX2_advance_4 16 rfl rfl)
theorem dX2_advance_115 : decode cX2_advance 115 = .ok (.invokevirtual 60, 3) := dk_182 0 60 (dk_at dksX2_advance_4 19 rfl rfl)
theorem dX2_advance_118 : decode cX2_advance 118 = .ok (.putfield 22, 3) := dk_181 0 22 (dk_at dksX2_advance_5 0 rfl rfl)
theorem dX2_advance_121 : decode cX2_advance 121 = .ok (.aload_n 0, 1) := dk_42 (dk_at dksX2_advance_5 3 rfl rfl)
theorem dX2_advance_122 : decode cX2_advance 122 = .ok (.getstatic 64, 3) := dk_178 0 64 (dk_at dksX2_advance_5 4 rfl rfl)
theorem dX2_advance_125 : decode cX2_advance 125 = .ok (.putfield 15, 3) := dk_181 0 15 (dk_at dksX2_advance_5 7 rfl rfl)
theorem dX2_advance_128 : decode cX2_advance 128 = .ok (.goto 49, 3) := dk_167 0 49 (dk_at dksX2_advance_5 10 rfl rfl)
theorem dX2_advance_131 : decode cX2_advance 131 = .ok (.aload_n 0, 1) := dk_42 (dk_at dksX2_advance_5 13 rfl rfl)
theorem dX2_advance_132 : decode cX2_advance 132 = .ok (.bipush 48, 2) := dk_16 48 (dk_at dksX2_advance_5 14 rfl rfl)
theorem dX2_advance_134 : decode cX2_advance 134 = .ok (.bipush 57, 2) := dk_16 57 (dk_at dksX2_advance_5 16 rfl rfl)
theorem dX2_advance_136 : decode cX2_advance 136 = .ok (.invokevirtual 53, 3) := dk_182 0 53 (dk_at dksX2_advance_5 18 rfl rfl)
theorem dX2_advance_139 : decode cX2_advance 139 = .ok (.ifCond .eq 10, 3) := dk_153 0 10 (dk_at dksX2_advance_5 21 rfl rfl)
theorem dX2_advance_142 : decode cX2_advance 142 = .ok (.aload_n 0, 1) := dk_42 (dk_at dksX2_advance_6 0 rfl rfl)
theorem dX2_advance_143 : decode cX2_advance 143 = .ok (.invokevirtual 67, 3) := dk_182 0 67 (dk_at dksX2_advance_6 1 rfl rfl)
theorem dX2_advance_146 : decode cX2_advance 146 = .ok (.goto 31, 3) := dk_167 0 31 (dk_at dksX2_advance_6 4 rfl rfl)
theorem dX2_advance_149 : decode cX2_advance 149 = .ok (.aload_n 0, 1) := dk_42 (dk_at dksX2_advance_6 7 rfl rfl)
theorem dX2_advance_150 : decode cX2_advance 150 = .ok (.aload_n 0, 1) := dk_42 (dk_at dksX2_advance_6 8 rfl rfl)
theorem dX2_advance_151 : decode cX2_advance 151 = .ok (.getfield 33, 3) := dk_180 0 33 (dk_at dksX2_advance_6 9 rfl rfl)
theorem dX2_advance_154 : decode cX2_advance 154 = .ok (.aload_n 0, 1) := dk_42 (dk_at dksX2_advance_6 12 rfl rfl)
theorem dX2_advance_155 : decode cX2_advance 155 = .ok (.getfield 39, 3) := dk_180 0 39 (dk_at dksX2_advance_6 13 rfl rfl)
theorem dX2_advance_158 : decode cX2_advance 158 = .ok (.invokevirtual 49, 3) := dk_182 0 49 (dk_at dksX2_advance_6 16 rfl rfl)
theorem dX2_advance_161 : decode cX2_advance 161 = .ok (.invokestatic 70, 3) := dk_184 0 70 (dk_at dksX2_advance_6 19 rfl rfl)
theorem dX2_advance_164 : decode cX2_advance 164 = .ok (.putfield 15, 3) := dk_181 0 15 (dk_at dksX2_advance_7 0 rfl rfl)
theorem dX2_advance_167 : decode cX2_advance 167 = .ok (.aload_n 0, 1) := dk_42 (dk_at dksX2_advance_7 3 rfl rfl)
theorem dX2_advance_168 : decode cX2_advance 168 = .ok (.dup, 1) := dk_89 (dk_at dksX2_advance_7 4 rfl rfl)
theorem dX2_advance_169 : decode cX2_advance 169 = .ok (.getfield 39, 3) := dk_180 0 39 (dk_at dksX2_advance_7 5 rfl rfl)
theorem dX2_advance_172 : decode cX2_advance 172 = .ok (.iconst 1, 1) := dk_4 (dk_at dksX2_advance_7 8 rfl rfl)
theorem dX2_advance_173 : decode cX2_advance 173 = .ok (.iadd, 1) := dk_96 (dk_at dksX2_advance_7 9 rfl rfl)
theorem dX2_advance_174 : decode cX2_advance 174 = .ok (.putfield 39, 3) := dk_181 0 39 (dk_at dksX2_advance_7 10 rfl rfl)
theorem dX2_advance_177 : decode cX2_advance 177 = .ok (.return_, 1) := dk_177 (dk_at dksX2_advance_7 13 rfl rfl)
abbrev cX2_isAt : ByteArray := prog_6_method_2_code
def yX2_isAt : MethodName := ⟨RX2, "isAt", "(CC)Z"⟩
def dkwX2_isAt_2 : List UInt8 := [167, 0, 4, 3, 172]
abbrev dktX2_isAt_2 : List UInt8 := dkwX2_isAt_2 ++ []
def dkwX2_isAt_1 : List UInt8 := [182, 0, 49, 27, 161, 0, 22, 42, 180, 0, 33, 42, 180, 0, 39, 182, 0, 49, 28, 163, 0, 7, 4]
abbrev dktX2_isAt_1 : List UInt8 := dkwX2_isAt_1 ++ dktX2_isAt_2
def dkwX2_isAt_0 : List UInt8 := [42, 180, 0, 39, 42, 180, 0, 33, 182, 0, 43, 162, 0, 37, 42, 180, 0, 33, 42, 180, 0, 39]
abbrev dktX2_isAt_0 : List UInt8 := dkwX2_isAt_0 ++ dktX2_isAt_1
theorem dksX2_isAt_0 : cX2_isAt.data.toList.drop 0 = dktX2_isAt_0 := by decide +kernel
theorem dksX2_isAt_1 : cX2_isAt.data.toList.drop 22 = dktX2_isAt_1 := dk_seg dksX2_isAt_0 22 rfl rfl
theorem dksX2_isAt_2 : cX2_isAt.data.toList.drop 45 = dktX2_isAt_2 := dk_seg dksX2_isAt_1 23 rfl rfl
theorem dX2_isAt_0 : decode cX2_isAt 0 = .ok (.aload_n 0, 1) := dk_42 (dk_at dksX2_isAt_0 0 rfl rfl)
theorem dX2_isAt_1 : decode cX2_isAt 1 = .ok (.getfield 39, 3) := dk_180 0 39 (dk_at dksX2_isAt_0 1 rfl rfl)
theorem dX2_isAt_4 : decode cX2_isAt 4 = .ok (.aload_n 0, 1) := dk_42 (dk_at dksX2_isAt_0 4 rfl rfl)
theorem dX2_isAt_5 : decode cX2_isAt 5 = .ok (.getfield 33, 3) := dk_180 0 33 (dk_at dksX2_isAt_0 5 rfl rfl)
theorem dX2_isAt_8 : decode cX2_isAt 8 = .ok (.invokevirtual 43, 3) := dk_182 0 43 (dk_at dksX2_isAt_0 8 rfl rfl)
theorem dX2_isAt_11 : decode cX2_isAt 11 = .ok (.if_icmp .ge 37, 3) := dk_162 0 37 (dk_at dksX2_isAt_0 11 rfl rfl)
theorem dX2_isAt_14 : decode cX2_isAt 14 = .ok (.aload_n 0, 1) := dk_42 (dk_at dksX2_isAt_0 14 rfl rfl)
theorem dX2_isAt_15 : decode cX2_isAt 15 = .ok (.getfield 33, 3) := dk_180 0 33 (dk_at dksX2_isAt_0 15 rfl rfl)
theorem dX2_isAt_18 : decode cX2_isAt 18 = .ok (.aload_n 0, 1) := dk_42 (dk_at dksX2_isAt_0 18 rfl rfl)
theorem dX2_isAt_19 : decode cX2_isAt 19 = .ok (.getfield 39, 3) := dk_180 0 39 (dk_at dksX2_isAt_0 19 rfl rfl)
theorem dX2_isAt_22 : decode cX2_isAt 22 = .ok (.invokevirtual 49, 3) := dk_182 0 49 (dk_at dksX2_isAt_1 0 rfl rfl)
theorem dX2_isAt_25 : decode cX2_isAt 25 = .ok (.iload_n 1, 1) := dk_27 (dk_at dksX2_isAt_1 3 rfl rfl)
theorem dX2_isAt_26 : decode cX2_isAt 26 = .ok (.if_icmp .lt 22, 3) := dk_161 0 22 (dk_at dksX2_isAt_1 4 rfl rfl)
theorem dX2_isAt_29 : decode cX2_isAt 29 = .ok (.aload_n 0, 1) := dk_42 (dk_at dksX2_isAt_1 7 rfl rfl)
theorem dX2_isAt_30 : decode cX2_isAt 30 = .ok (.getfield 33, 3) := dk_180 0 33 (dk_at dksX2_isAt_1 8 rfl rfl)
theorem dX2_isAt_33 : decode cX2_isAt 33 = .ok (.aload_n 0, 1) := dk_42 (dk_at dksX2_isAt_1 11 rfl rfl)
theorem dX2_isAt_34 : decode cX2_isAt 34 = .ok (.getfield 39, 3) := dk_180 0 39 (dk_at dksX2_isAt_1 12 rfl rfl)
theorem dX2_isAt_37 : decode cX2_isAt 37 = .ok (.invokevirtual 49, 3) := dk_182 0 49 (dk_at dksX2_isAt_1 15 rfl rfl)
theorem dX2_isAt_40 : decode cX2_isAt 40 = .ok (.iload_n 2, 1) := dk_28 (dk_at dksX2_isAt_1 18 rfl rfl)
theorem dX2_isAt_41 : decode cX2_isAt 41 = .ok (.if_icmp .gt 7, 3) := dk_163 0 7 (dk_at dksX2_isAt_1 19 rfl rfl)
theorem dX2_isAt_44 : decode cX2_isAt 44 = .ok (.iconst 1, 1) := dk_4 (dk_at dksX2_isAt_1 22 rfl rfl)
theorem dX2_isAt_45 : decode cX2_isAt 45 = .ok (.goto 4, 3) := dk_167 0 4 (dk_at dksX2_isAt_2 0 rfl rfl)
theorem dX2_isAt_48 : decode cX2_isAt 48 = .ok (.iconst 0, 1) := dk_3 (dk_at dksX2_isAt_2 3 rfl rfl)
theorem dX2_isAt_49 : decode cX2_isAt 49 = .ok (.ireturn, 1) := dk_172 (dk_at dksX2_isAt_2 4 rfl rfl)
abbrev cX2_readDigits : ByteArray := prog_6_method_5_code
def yX2_readDigits : MethodName := ⟨RX2, "readDigits", "()V"⟩
def dkwX2_readDigits_4 : List UInt8 := [177]
abbrev dktX2_readDigits_4 : List UInt8 := dkwX2_readDigits_4 ++ []
def dkwX2_readDigits_3 : List UInt8 := [180, 0, 39, 42, 180, 0, 57, 100, 6, 164, 0, 9, 178, 0, 83, 167, 0, 6, 178, 0, 89, 181, 0, 15]
abbrev dktX2_readDigits_3 : List UInt8 := dkwX2_readDigits_3 ++ dktX2_readDigits_4
def dkwX2_readDigits_2 : List UInt8 := [96, 16, 48, 100, 181, 0, 86, 42, 89, 180, 0, 39, 4, 96, 181, 0, 39, 167, 255, 196, 42, 42]
abbrev dktX2_readDigits_2 : List UInt8 := dkwX2_readDigits_2 ++ dktX2_readDigits_3
def dkwX2_readDigits_1 : List UInt8 := [100, 6, 162, 0, 29, 42, 16, 10, 42, 180, 0, 86, 104, 42, 180, 0, 33, 42, 180, 0, 39, 182, 0, 49]
abbrev dktX2_readDigits_1 : List UInt8 := dkwX2_readDigits_1 ++ dktX2_readDigits_2
def dkwX2_readDigits_0 : List UInt8 := [42, 3, 181, 0, 86, 42, 16, 48, 16, 57, 182, 0, 53, 153, 0, 55, 42, 180, 0, 39, 42, 180, 0, 57]
abbrev dktX2_readDigits_0 : List UInt8 := dkwX2_readDigits_0 ++ dktX2_readDigits_1
theorem dksX2_readDigits_0 : cX2_readDigits.data.toList.drop 0 = dktX2_readDigits_0 := by decide +kernel
theorem dksX2_readDigits_1 : cX2_readDigits.data.toList.drop 24 = dktX2_readDigits_1 := dk_seg dksX2_readDigits_0 24 rfl rfl
theorem dksX2_readDigits_2 : cX2_readDigits.data.toList.drop 48 = dktX2_readDigits_2 := dk_seg dksX2_readDigits_1 24 rfl rfl
theorem dksX2_readDigits_3 : cX2_readDigits.data.toList.drop 70 = dktX2_readDigits_3 := dk_seg dksX2_readDigits_2 22 rfl rfl
theorem dksX2_readDigits_4 : cX2_readDigits.data.toList.drop 94 = dktX2_readDigits_4 := dk_seg dksX2_readDigits_3 24 rfl rfl
theorem dX2_readDigits_0 : decode cX2_readDigits 0 = .ok (.aload_n 0, 1) := dk_42 (dk_at dksX2_readDigits_0 0 rfl rfl)
theorem dX2_readDigits_1 : decode cX2_readDigits 1 = .ok (.iconst 0, 1) := dk_3 (dk_at dksX2_readDigits_0 1 rfl rfl)
theorem dX2_readDigits_2 : decode cX2_readDigits 2 = .ok (.putfield 86, 3) := dk_181 0 86 (dk_at dksX2_readDigits_0 2 rfl rfl)
theorem dX2_readDigits_5 : decode cX2_readDigits 5 = .ok (.aload_n 0, 1) := dk_42 (dk_at dksX2_readDigits_0 5 rfl rfl)
theorem dX2_readDigits_6 : decode cX2_readDigits 6 = .ok (.bipush 48, 2) := dk_16 48 (dk_at dksX2_readDigits_0 6 rfl rfl)
theorem dX2_readDigits_8 : decode cX2_readDigits 8 = .ok (.bipush 57, 2) := dk_16 57 (dk_at dksX2_readDigits_0 8 rfl rfl)
theorem dX2_readDigits_10 : decode cX2_readDigits 10 = .ok (.invokevirtual 53, 3) := dk_182 0 53 (dk_at dksX2_readDigits_0 10 rfl rfl)
theorem dX2_readDigits_13 : decode cX2_readDigits 13 = .ok (.ifCond .eq 55, 3) := dk_153 0 55 (dk_at dksX2_readDigits_0 13 rfl rfl)
theorem dX2_readDigits_16 : decode cX2_readDigits 16 = .ok (.aload_n 0, 1) := dk_42 (dk_at dksX2_readDigits_0 16 rfl rfl)
theorem dX2_readDigits_17 : decode cX2_readDigits 17 = .ok (.getfield 39, 3) := dk_180 0 39 (dk_at dksX2_readDigits_0 17 rfl rfl)
theorem dX2_readDigits_20 : decode cX2_readDigits 20 = .ok (.aload_n 0, 1) := dk_42 (dk_at dksX2_readDigits_0 20 rfl rfl)
theorem dX2_readDigits_21 : decode cX2_readDigits 21 = .ok (.getfield 57, 3) := dk_180 0 57 (dk_at dksX2_readDigits_0 21 rfl rfl)
theorem dX2_readDigits_24 : decode cX2_readDigits 24 = .ok (.isub, 1) := dk_100 (dk_at dksX2_readDigits_1 0 rfl rfl)
theorem dX2_readDigits_25 : decode cX2_readDigits 25 = .ok (.iconst 3, 1) := dk_6 (dk_at dksX2_readDigits_1 1 rfl rfl)
theorem dX2_readDigits_26 : decode cX2_readDigits 26 = .ok (.if_icmp .ge 29, 3) := dk_162 0 29 (dk_at dksX2_readDigits_1 2 rfl rfl)
theorem dX2_readDigits_29 : decode cX2_readDigits 29 = .ok (.aload_n 0, 1) := dk_42 (dk_at dksX2_readDigits_1 5 rfl rfl)
theorem dX2_readDigits_30 : decode cX2_readDigits 30 = .ok (.bipush 10, 2) := dk_16 10 (dk_at dksX2_readDigits_1 6 rfl rfl)
theorem dX2_readDigits_32 : decode cX2_readDigits 32 = .ok (.aload_n 0, 1) := dk_42 (dk_at dksX2_readDigits_1 8 rfl rfl)
theorem dX2_readDigits_33 : decode cX2_readDigits 33 = .ok (.getfield 86, 3) := dk_180 0 86 (dk_at dksX2_readDigits_1 9 rfl rfl)
theorem dX2_readDigits_36 : decode cX2_readDigits 36 = .ok (.imul, 1) := dk_104 (dk_at dksX2_readDigits_1 12 rfl rfl)
theorem dX2_readDigits_37 : decode cX2_readDigits 37 = .ok (.aload_n 0, 1) := dk_42 (dk_at dksX2_readDigits_1 13 rfl rfl)
theorem dX2_readDigits_38 : decode cX2_readDigits 38 = .ok (.getfield 33, 3) := dk_180 0 33 (dk_at dksX2_readDigits_1 14 rfl rfl)
theorem dX2_readDigits_41 : decode cX2_readDigits 41 = .ok (.aload_n 0, 1) := dk_42 (dk_at dksX2_readDigits_1 17 rfl rfl)
theorem dX2_readDigits_42 : decode cX2_readDigits 42 = .ok (.getfield 39, 3) := dk_180 0 39 (dk_at dksX2_readDigits_1 18 rfl rfl)
theorem dX2_readDigits_45 : decode cX2_readDigits 45 = .ok (.invokevirtual 49, 3) := dk_182 0 49 (dk_at dksX2_readDigits_1 21 rfl rfl)
theorem dX2_readDigits_48 : decode cX2_readDigits 48 = .ok (.iadd, 1) := dk_96 (dk_at dksX2_readDigits_2 0 rfl rfl)
theorem dX2_readDigits_49 : decode cX2_readDigits 49 = .ok (.bipush 48, 2) := dk_16 48 (dk_at dksX2_readDigits_2 1 rfl rfl)
theorem dX2_readDigits_51 : decode cX2_readDigits 51 = .ok (.isub, 1) := dk_100 (dk_at dksX2_readDigits_2 3 rfl rfl)
theorem dX2_readDigits_52 : decode cX2_readDigits 52 = .ok (.putfield 86, 3) := dk_181 0 86 (dk_at dksX2_readDigits_2 4 rfl rfl)
theorem dX2_readDigits_55 : decode cX2_readDigits 55 = .ok (.aload_n 0, 1) := dk_42 (dk_at dksX2_readDigits_2 7 rfl rfl)
theorem dX2_readDigits_56 : decode cX2_readDigits 56 = .ok (.dup, 1) := dk_89 (dk_at dksX2_readDigits_2 8 rfl rfl)
theorem dX2_readDigits_57 : decode cX2_readDigits 57 = .ok (.getfield 39, 3) := dk_180 0 39 (dk_at dksX2_readDigits_2 9 rfl rfl)
theorem dX2_readDigits_60 : decode cX2_readDigits 60 = .ok (.iconst 1, 1) := dk_4 (dk_at dksX2_readDigits_2 12 rfl rfl)
theorem dX2_readDigits_61 : decode cX2_readDigits 61 = .ok (.iadd, 1) := dk_96 (dk_at dksX2_readDigits_2 13 rfl rfl)
theorem dX2_readDigits_62 : decode cX2_readDigits 62 = .ok (.putfield 39, 3) := dk_181 0 39 (dk_at dksX2_readDigits_2 14 rfl rfl)
theorem dX2_readDigits_65 : decode cX2_readDigits 65 = .ok (.goto (-60), 3) := dk_167 255 196 (dk_at dksX2_readDigits_2 17 rfl rfl)
theorem dX2_readDigits_68 : decode cX2_readDigits 68 = .ok (.aload_n 0, 1) := dk_42 (dk_at dksX2_readDigits_2 20 rfl rfl)
theorem dX2_readDigits_69 : decode cX2_readDigits 69 = .ok (.aload_n 0, 1) := dk_42 (dk_at dksX2_readDigits_2 21 rfl rfl)
theorem dX2_readDigits_70 : decode cX2_readDigits 70 = .ok (.getfield 39, 3) := dk_180 0 39 (dk_at dksX2_readDigits_3 0 rfl rfl)
theorem dX2_readDigits_73 : decode cX2_readDigits 73 = .ok (.aload_n 0, 1) := dk_42 (dk_at dksX2_readDigits_3 3 rfl rfl)
theorem dX2_readDigits_74 : decode cX2_readDigits 74 = .ok (.getfield 57, 3) := dk_180 0 57 (dk_at dksX2_readDigits_3 4 rfl rfl)
theorem dX2_readDigits_77 : decode cX2_readDigits 77 = .ok (.isub, 1) := dk_100 (dk_at dksX2_readDigits_3 7 rfl rfl)
theorem dX2_readDigits_78 : decode cX2_readDigits 78 = .ok (.iconst 3, 1) := dk_6 (dk_at dksX2_readDigits_3 8 rfl rfl)
theorem dX2_readDigits_79 : decode cX2_readDigits 79 = .ok (.if_icmp .le 9, 3) := dk_164 0 9 (dk_at dksX2_readDigits_3 9 rfl rfl)
theorem dX2_readDigits_82 : decode cX2_readDigits 82 = .ok (.getstatic 83, 3) := dk_178 0 83 (dk_at dksX2_readDigits_3 12 rfl rfl)
theorem dX2_readDigits_85 : decode cX2_readDigits 85 = .ok (.goto 6, 3) := dk_167 0 6 (dk_at dksX2_readDigits_3 15 rfl rfl)
theorem dX2_readDigits_88 : decode cX2_readDigits 88 = .ok (.getstatic 89, 3) := dk_178 0 89 (dk_at dksX2_readDigits_3 18 rfl rfl)
theorem dX2_readDigits_91 : decode cX2_readDigits 91 = .ok (.putfield 15, 3) := dk_181 0 15 (dk_at dksX2_readDigits_3 21 rfl rfl)
theorem dX2_readDigits_94 : decode cX2_readDigits 94 = .ok (.return_, 1) := dk_177 (dk_at dksX2_readDigits_4 0 rfl rfl)
abbrev cX2_sign : ByteArray := prog_6_method_4_code
def yX2_sign : MethodName := ⟨RX2, "sign", "(C)LRooftopCats$Token;"⟩
def dkwX2_sign_2 : List UInt8 := [178, 0, 74, 167, 0, 18, 178, 0, 77, 167, 0, 12, 178, 0, 80, 167, 0, 6, 178, 0, 83, 176]
abbrev dktX2_sign_2 : List UInt8 := dkwX2_sign_2 ++ []
def dkwX2_sign_1 : List UInt8 := [171, 0, 0, 0, 0, 0, 53, 0, 0, 0, 3, 0, 0, 0, 40, 0, 0, 0, 41, 0, 0, 0, 41, 0, 0, 0, 47, 0, 0, 0, 59, 0, 0, 0, 35]
abbrev dktX2_sign_1 : List UInt8 := dkwX2_sign_1 ++ dktX2_sign_2
def dkwX2_sign_0 : List UInt8 := [26]
abbrev dktX2_sign_0 : List UInt8 := dkwX2_sign_0 ++ dktX2_sign_1
theorem dksX2_sign_0 : cX2_sign.data.toList.drop 0 = dktX2_sign_0 := by decide +kernel
theorem dksX2_sign_1 : cX2_sign.data.toList.drop 1 = dktX2_sign_1 := dk_seg dksX2_sign_0 1 rfl rfl
theorem dksX2_sign_2 : cX2_sign.data.toList.drop 36 = dktX2_sign_2 := dk_seg dksX2_sign_1 35 rfl rfl
theorem dX2_sign_0 : decode cX2_sign 0 = .ok (.iload_n 0, 1) := dk_26 (dk_at dksX2_sign_0 0 rfl rfl)
theorem dX2_sign_1 : decode cX2_sign 1 = .ok (.lookupswitch 53 #[(40, 41), (41, 47), (59, 35)], 35) := by decide +kernel
theorem dX2_sign_36 : decode cX2_sign 36 = .ok (.getstatic 74, 3) := dk_178 0 74 (dk_at dksX2_sign_2 0 rfl rfl)
theorem dX2_sign_39 : decode cX2_sign 39 = .ok (.goto 18, 3) := dk_167 0 18 (dk_at dksX2_sign_2 3 rfl rfl)
theorem dX2_sign_42 : decode cX2_sign 42 = .ok (.getstatic 77, 3) := dk_178 0 77 (dk_at dksX2_sign_2 6 rfl rfl)
theorem dX2_sign_45 : decode cX2_sign 45 = .ok (.goto 12, 3) := dk_167 0 12 (dk_at dksX2_sign_2 9 rfl rfl)
theorem dX2_sign_48 : decode cX2_sign 48 = .ok (.getstatic 80, 3) := dk_178 0 80 (dk_at dksX2_sign_2 12 rfl rfl)
theorem dX2_sign_51 : decode cX2_sign 51 = .ok (.goto 6, 3) := dk_167 0 6 (dk_at dksX2_sign_2 15 rfl rfl)
theorem dX2_sign_54 : decode cX2_sign 54 = .ok (.getstatic 83, 3) := dk_178 0 83 (dk_at dksX2_sign_2 18 rfl rfl)
theorem dX2_sign_57 : decode cX2_sign 57 = .ok (.areturn, 1) := dk_176 (dk_at dksX2_sign_2 21 rfl rfl)
abbrev cX2_parse : ByteArray := prog_6_method_12_code
def yX2_parse : MethodName := ⟨RX2, "parse", "()LRooftopCats$Roof;"⟩
def dkwX2_parse_2 : List UInt8 := [180, 0, 15, 178, 0, 9, 165, 0, 10, 42, 182, 0, 126, 167, 255, 242, 42, 180, 0, 29, 176]
abbrev dktX2_parse_2 : List UInt8 := dkwX2_parse_2 ++ []
def dkwX2_parse_1 : List UInt8 := [167, 0, 4, 3, 4, 182, 0, 97, 42, 182, 0, 36, 42, 4, 182, 0, 122, 42, 182, 0, 36, 42]
abbrev dktX2_parse_1 : List UInt8 := dkwX2_parse_1 ++ dktX2_parse_2
def dkwX2_parse_0 : List UInt8 := [42, 42, 180, 0, 15, 178, 0, 64, 166, 0, 19, 42, 180, 0, 22, 18, 117, 182, 0, 118, 153, 0, 7, 4]
abbrev dktX2_parse_0 : List UInt8 := dkwX2_parse_0 ++ dktX2_parse_1
theorem dksX2_parse_0 : cX2_parse.data.toList.drop 0 = dktX2_parse_0 := by decide +kernel
theorem dksX2_parse_1 : cX2_parse.data.toList.drop 24 = dktX2_parse_1 := dk_seg dksX2_parse_0 24 rfl rfl
theorem dksX2_parse_2 : cX2_parse.data.toList.drop 46 = dktX2_parse_2 := dk_seg dksX2_parse_1 22 rfl rfl
theorem dX2_parse_0 : decode cX2_parse 0 = .ok (.aload_n 0, 1) := dk_42 (dk_at dksX2_parse_0 0 rfl rfl)
theorem dX2_parse_1 : decode cX2_parse 1 = .ok (.aload_n 0, 1) := dk_42 (dk_at dksX2_parse_0 1 rfl rfl)
theorem dX2_parse_2 : decode cX2_parse 2 = .ok (.getfield 15, 3) := dk_180 0 15 (dk_at dksX2_parse_0 2 rfl rfl)
theorem dX2_parse_5 : decode cX2_parse 5 = .ok (.getstatic 64, 3) := dk_178 0 64 (dk_at dksX2_parse_0 5 rfl rfl)
theorem dX2_parse_8 : decode cX2_parse 8 = .ok (.if_acmp .ne 19, 3) := dk_166 0 19 (dk_at dksX2_parse_0 8 rfl rfl)
theorem dX2_parse_11 : decode cX2_parse 11 = .ok (.aload_n 0, 1) := dk_42 (dk_at dksX2_parse_0 11 rfl rfl)
theorem dX2_parse_12 : decode cX2_parse 12 = .ok (.getfield 22, 3) := dk_180 0 22 (dk_at dksX2_parse_0 12 rfl rfl)
theorem dX2_parse_15 : decode cX2_parse 15 = .ok (.ldc 117, 2) := dk_18 117 (dk_at dksX2_parse_0 15 rfl rfl)
theorem dX2_parse_17 : decode cX2_parse 17 = .ok (.invokevirtual 118, 3) := dk_182 0 118 (dk_at dksX2_parse_0 17 rfl rfl)
theorem dX2_parse_20 : decode cX2_parse 20 = .ok (.ifCond .eq 7, 3) := dk_153 0 7 (dk_at dksX2_parse_0 20 rfl rfl)
theorem dX2_parse_23 : decode cX2_parse 23 = .ok (.iconst 1, 1) := dk_4 (dk_at dksX2_parse_0 23 rfl rfl)
theorem dX2_parse_24 : decode cX2_parse 24 = .ok (.goto 4, 3) := dk_167 0 4 (dk_at dksX2_parse_1 0 rfl rfl)
theorem dX2_parse_27 : decode cX2_parse 27 = .ok (.iconst 0, 1) := dk_3 (dk_at dksX2_parse_1 3 rfl rfl)
theorem dX2_parse_28 : decode cX2_parse 28 = .ok (.iconst 1, 1) := dk_4 (dk_at dksX2_parse_1 4 rfl rfl)
theorem dX2_parse_29 : decode cX2_parse 29 = .ok (.invokevirtual 97, 3) := dk_182 0 97 (dk_at dksX2_parse_1 5 rfl rfl)
theorem dX2_parse_32 : decode cX2_parse 32 = .ok (.aload_n 0, 1) := dk_42 (dk_at dksX2_parse_1 8 rfl rfl)
theorem dX2_parse_33 : decode cX2_parse 33 = .ok (.invokevirtual 36, 3) := dk_182 0 36 (dk_at dksX2_parse_1 9 rfl rfl)
theorem dX2_parse_36 : decode cX2_parse 36 = .ok (.aload_n 0, 1) := dk_42 (dk_at dksX2_parse_1 12 rfl rfl)
theorem dX2_parse_37 : decode cX2_parse 37 = .ok (.iconst 1, 1) := dk_4 (dk_at dksX2_parse_1 13 rfl rfl)
theorem dX2_parse_38 : decode cX2_parse 38 = .ok (.invokevirtual 122, 3) := dk_182 0 122 (dk_at dksX2_parse_1 14 rfl rfl)
theorem dX2_parse_41 : decode cX2_parse 41 = .ok (.aload_n 0, 1) := dk_42 (dk_at dksX2_parse_1 17 rfl rfl)
theorem dX2_parse_42 : decode cX2_parse 42 = .ok (.invokevirtual 36, 3) := dk_182 0 36 (dk_at dksX2_parse_1 18 rfl rfl)
theorem dX2_parse_45 : decode cX2_parse 45 = .ok (.aload_n 0, 1) := dk_42 (dk_at dksX2_parse_1 21 rfl rfl)
theorem dX2_parse_46 : decode cX2_parse 46 = .ok (.getfield 15, 3) := dk_180 0 15 (dk_at dksX2_parse_2 0 rfl rfl)
theorem dX2_parse_49 : decode cX2_parse 49 = .ok (.getstatic 9, 3) := dk_178 0 9 (dk_at dksX2_parse_2 3 rfl rfl)
theorem dX2_parse_52 : decode cX2_parse 52 = .ok (.if_acmp .eq 10, 3) := dk_165 0 10 (dk_at dksX2_parse_2 6 rfl rfl)
theorem dX2_parse_55 : decode cX2_parse 55 = .ok (.aload_n 0, 1) := dk_42 (dk_at dksX2_parse_2 9 rfl rfl)
theorem dX2_parse_56 : decode cX2_parse 56 = .ok (.invokevirtual 126, 3) := dk_182 0 126 (dk_at dksX2_parse_2 10 rfl rfl)
theorem dX2_parse_59 : decode cX2_parse 59 = .ok (.goto (-14), 3) := dk_167 255 242 (dk_at dksX2_parse_2 13 rfl rfl)
theorem dX2_parse_62 : decode cX2_parse 62 = .ok (.aload_n 0, 1) := dk_42 (dk_at dksX2_parse_2 16 rfl rfl)
theorem dX2_parse_63 : decode cX2_parse 63 = .ok (.getfield 29, 3) := dk_180 0 29 (dk_at dksX2_parse_2 17 rfl rfl)
theorem dX2_parse_66 : decode cX2_parse 66 = .ok (.areturn, 1) := dk_176 (dk_at dksX2_parse_2 20 rfl rfl)
abbrev cX2_check : ByteArray := prog_6_method_6_code
def yX2_check : MethodName := ⟨RX2, "check", "(ZI)V"⟩
def dkwX2_check_0 : List UInt8 := [27, 154, 0, 16, 187, 0, 92, 89, 28, 42, 180, 0, 57, 183, 0, 94, 191, 177]
abbrev dktX2_check_0 : List UInt8 := dkwX2_check_0 ++ []
theorem dksX2_check_0 : cX2_check.data.toList.drop 0 = dktX2_check_0 := by decide +kernel
theorem dX2_check_0 : decode cX2_check 0 = .ok (.iload_n 1, 1) := dk_27 (dk_at dksX2_check_0 0 rfl rfl)
theorem dX2_check_1 : decode cX2_check 1 = .ok (.ifCond .ne 16, 3) := dk_154 0 16 (dk_at dksX2_check_0 1 rfl rfl)
theorem dX2_check_4 : decode cX2_check 4 = .ok (.new 92, 3) := dk_187 0 92 (dk_at dksX2_check_0 4 rfl rfl)
theorem dX2_check_7 : decode cX2_check 7 = .ok (.dup, 1) := dk_89 (dk_at dksX2_check_0 7 rfl rfl)
theorem dX2_check_8 : decode cX2_check 8 = .ok (.iload_n 2, 1) := dk_28 (dk_at dksX2_check_0 8 rfl rfl)
theorem dX2_check_9 : decode cX2_check 9 = .ok (.aload_n 0, 1) := dk_42 (dk_at dksX2_check_0 9 rfl rfl)
theorem dX2_check_10 : decode cX2_check 10 = .ok (.getfield 57, 3) := dk_180 0 57 (dk_at dksX2_check_0 10 rfl rfl)
theorem dX2_check_13 : decode cX2_check 13 = .ok (.invokespecial 94, 3) := dk_183 0 94 (dk_at dksX2_check_0 13 rfl rfl)
theorem dX2_check_16 : decode cX2_check 16 = .ok (.athrow, 1) := dk_191 (dk_at dksX2_check_0 16 rfl rfl)
theorem dX2_check_17 : decode cX2_check 17 = .ok (.return_, 1) := dk_177 (dk_at dksX2_check_0 17 rfl rfl)
abbrev cX2_end : ByteArray := prog_6_method_11_code
def yX2_end : MethodName := ⟨RX2, "end", "(Z)V"⟩
def dkwX2_end_1 : List UInt8 := [182, 0, 97, 177]
abbrev dktX2_end_1 : List UInt8 := dkwX2_end_1 ++ []
def dkwX2_end_0 : List UInt8 := [42, 42, 180, 0, 15, 178, 0, 74, 166, 0, 7, 4, 167, 0, 4, 3, 4, 182, 0, 97, 42, 27, 6]
abbrev dktX2_end_0 : List UInt8 := dkwX2_end_0 ++ dktX2_end_1
theorem dksX2_end_0 : cX2_end.data.toList.drop 0 = dktX2_end_0 := by decide +kernel
theorem dksX2_end_1 : cX2_end.data.toList.drop 23 = dktX2_end_1 := dk_seg dksX2_end_0 23 rfl rfl
theorem dX2_end_0 : decode cX2_end 0 = .ok (.aload_n 0, 1) := dk_42 (dk_at dksX2_end_0 0 rfl rfl)
theorem dX2_end_1 : decode cX2_end 1 = .ok (.aload_n 0, 1) := dk_42 (dk_at dksX2_end_0 1 rfl rfl)
theorem dX2_end_2 : decode cX2_end 2 = .ok (.getfield 15, 3) := dk_180 0 15 (dk_at dksX2_end_0 2 rfl rfl)
theorem dX2_end_5 : decode cX2_end 5 = .ok (.getstatic 74, 3) := dk_178 0 74 (dk_at dksX2_end_0 5 rfl rfl)
theorem dX2_end_8 : decode cX2_end 8 = .ok (.if_acmp .ne 7, 3) := dk_166 0 7 (dk_at dksX2_end_0 8 rfl rfl)
theorem dX2_end_11 : decode cX2_end 11 = .ok (.iconst 1, 1) := dk_4 (dk_at dksX2_end_0 11 rfl rfl)
theorem dX2_end_12 : decode cX2_end 12 = .ok (.goto 4, 3) := dk_167 0 4 (dk_at dksX2_end_0 12 rfl rfl)
theorem dX2_end_15 : decode cX2_end 15 = .ok (.iconst 0, 1) := dk_3 (dk_at dksX2_end_0 15 rfl rfl)
theorem dX2_end_16 : decode cX2_end 16 = .ok (.iconst 1, 1) := dk_4 (dk_at dksX2_end_0 16 rfl rfl)
theorem dX2_end_17 : decode cX2_end 17 = .ok (.invokevirtual 97, 3) := dk_182 0 97 (dk_at dksX2_end_0 17 rfl rfl)
theorem dX2_end_20 : decode cX2_end 20 = .ok (.aload_n 0, 1) := dk_42 (dk_at dksX2_end_0 20 rfl rfl)
theorem dX2_end_21 : decode cX2_end 21 = .ok (.iload_n 1, 1) := dk_27 (dk_at dksX2_end_0 21 rfl rfl)
theorem dX2_end_22 : decode cX2_end 22 = .ok (.iconst 3, 1) := dk_6 (dk_at dksX2_end_0 22 rfl rfl)
theorem dX2_end_23 : decode cX2_end 23 = .ok (.invokevirtual 97, 3) := dk_182 0 97 (dk_at dksX2_end_1 0 rfl rfl)
theorem dX2_end_26 : decode cX2_end 26 = .ok (.return_, 1) := dk_177 (dk_at dksX2_end_1 3 rfl rfl)
abbrev cX2_command : ByteArray := prog_6_method_14_code
def yX2_command : MethodName := ⟨RX2, "command", "()V"⟩
def dkwX2_command_20 : List UInt8 := [43, 18, 150, 182, 0, 118, 182, 0, 197, 87, 42, 182, 0, 36, 177]
abbrev dktX2_command_20 : List UInt8 := dkwX2_command_20 ++ []
def dkwX2_command_19 : List UInt8 := [182, 0, 191, 54, 4, 42, 42, 180, 0, 29, 21, 4, 182, 0, 193, 182, 0, 122, 42, 180, 0, 29, 21, 4]
abbrev dktX2_command_19 : List UInt8 := dkwX2_command_19 ++ dktX2_command_20
def dkwX2_command_18 : List UInt8 := [4, 167, 0, 4, 3, 182, 0, 122, 42, 180, 0, 29, 21, 4, 182, 0, 187, 87, 167, 0, 38, 42]
abbrev dktX2_command_18 : List UInt8 := dkwX2_command_18 ++ dktX2_command_19
def dkwX2_command_17 : List UInt8 := [16, 30, 182, 0, 110, 54, 4, 42, 42, 180, 0, 29, 180, 0, 184, 21, 4, 96, 17, 3, 231, 163, 0, 7]
abbrev dktX2_command_17 : List UInt8 := dkwX2_command_17 ++ dktX2_command_18
def dkwX2_command_16 : List UInt8 := [182, 0, 177, 182, 0, 122, 42, 180, 0, 29, 21, 4, 21, 5, 182, 0, 181, 87, 167, 0, 85, 42, 4]
abbrev dktX2_command_16 : List UInt8 := dkwX2_command_16 ++ dktX2_command_17
def dkwX2_command_15 : List UInt8 := [42, 4, 16, 9, 182, 0, 110, 54, 4, 42, 4, 16, 9, 182, 0, 110, 54, 5, 42, 42, 180, 0, 29]
abbrev dktX2_command_15 : List UInt8 := dkwX2_command_15 ++ dktX2_command_16
def dkwX2_command_14 : List UInt8 := [42, 43, 182, 0, 167, 167, 0, 145, 42, 43, 182, 0, 171, 167, 0, 137, 42, 43, 182, 0, 174, 167, 0, 129]
abbrev dktX2_command_14 : List UInt8 := dkwX2_command_14 ++ dktX2_command_15
def dkwX2_command_13 : List UInt8 := [170, 0, 0, 0, 0, 169, 0, 0, 0, 0, 0, 0, 0, 9, 0, 0, 0, 54, 0, 0, 0, 54, 0, 0, 0, 54, 0, 0, 0, 62, 0, 0, 0, 62, 0, 0, 0, 62, 0, 0, 0, 70, 0, 0, 0, 70, 0, 0, 0, 78, 0, 0, 0, 122]
abbrev dktX2_command_13 : List UInt8 := dkwX2_command_13 ++ dktX2_command_14
def dkwX2_command_12 : List UInt8 := [29]
abbrev dktX2_command_12 : List UInt8 := dkwX2_command_12 ++ dktX2_command_13
def dkwX2_command_11 : List UInt8 := [182, 0, 118, 153, 0, 21, 16, 8, 62, 167, 0, 15, 44, 18, 154, 182, 0, 118, 153, 0, 6, 16, 9, 62]
abbrev dktX2_command_11 : List UInt8 := dkwX2_command_11 ++ dktX2_command_12
def dkwX2_command_10 : List UInt8 := [62, 167, 0, 45, 44, 18, 146, 182, 0, 118, 153, 0, 36, 16, 7, 62, 167, 0, 30, 44, 18, 148]
abbrev dktX2_command_10 : List UInt8 := dkwX2_command_10 ++ dktX2_command_11
def dkwX2_command_9 : List UInt8 := [18, 142, 182, 0, 118, 153, 0, 65, 8, 62, 167, 0, 60, 44, 18, 144, 182, 0, 118, 153, 0, 51, 16, 6]
abbrev dktX2_command_9 : List UInt8 := dkwX2_command_9 ++ dktX2_command_10
def dkwX2_command_8 : List UInt8 := [153, 0, 93, 6, 62, 167, 0, 88, 44, 18, 140, 182, 0, 118, 153, 0, 79, 7, 62, 167, 0, 74, 44]
abbrev dktX2_command_8 : List UInt8 := dkwX2_command_8 ++ dktX2_command_9
def dkwX2_command_7 : List UInt8 := [62, 167, 0, 116, 44, 18, 136, 182, 0, 118, 153, 0, 107, 5, 62, 167, 0, 102, 44, 18, 138, 182, 0, 118]
abbrev dktX2_command_7 : List UInt8 := dkwX2_command_7 ++ dktX2_command_8
def dkwX2_command_6 : List UInt8 := [44, 18, 132, 182, 0, 118, 153, 0, 135, 3, 62, 167, 0, 130, 44, 18, 134, 182, 0, 118, 153, 0, 121, 4]
abbrev dktX2_command_6 : List UInt8 := dkwX2_command_6 ++ dktX2_command_7
def dkwX2_command_5 : List UInt8 := [171, 0, 0, 0, 0, 0, 0, 233, 0, 0, 0, 10, 182, 106, 97, 27, 0, 0, 0, 106, 184, 1, 206, 117, 0, 0, 0, 162, 188, 148, 169, 135, 0, 0, 0, 206, 193, 173, 31, 91, 0, 0, 0, 221, 0, 1, 127, 214, 0, 0, 0, 120, 0, 54, 6, 204, 0, 0, 0, 134, 5, 163, 215, 238, 0, 0, 0, 176, 5, 165, 168, 60, 0, 0, 0, 148, 6, 152, 60, 89, 0, 0, 0, 191, 44, 123, 196, 185, 0, 0, 0, 92]
abbrev dktX2_command_5 : List UInt8 := dkwX2_command_5 ++ dktX2_command_6
def dkwX2_command_4 : List UInt8 := [182, 0, 129]
abbrev dktX2_command_4 : List UInt8 := dkwX2_command_4 ++ dktX2_command_5
def dkwX2_command_3 : List UInt8 := [89, 180, 0, 164, 4, 96, 181, 0, 164, 42, 180, 0, 22, 76, 42, 182, 0, 36, 43, 77, 2, 62, 44]
abbrev dktX2_command_3 : List UInt8 := dkwX2_command_3 ++ dktX2_command_4
def dkwX2_command_2 : List UInt8 := [182, 0, 97, 42, 42, 180, 0, 164, 17, 0, 200, 162, 0, 7, 4, 167, 0, 4, 3, 8, 182, 0, 97, 42]
abbrev dktX2_command_2 : List UInt8 := dkwX2_command_2 ++ dktX2_command_3
def dkwX2_command_1 : List UInt8 := [18, 156, 182, 0, 118, 153, 0, 8, 42, 182, 0, 158, 177, 42, 42, 180, 0, 22, 184, 0, 160, 4]
abbrev dktX2_command_1 : List UInt8 := dkwX2_command_1 ++ dktX2_command_2
def dkwX2_command_0 : List UInt8 := [42, 42, 180, 0, 15, 178, 0, 64, 166, 0, 7, 4, 167, 0, 4, 3, 4, 182, 0, 97, 42, 180, 0, 22]
abbrev dktX2_command_0 : List UInt8 := dkwX2_command_0 ++ dktX2_command_1
theorem dksX2_command_0 : cX2_command.data.toList.drop 0 = dktX2_command_0 := by decide +kernel
theorem dksX2_command_1 : cX2_command.data.toList.drop 24 = dktX2_command_1 := dk_seg dksX2_command_0 24 rfl rfl
theorem dksX2_command_2 : cX2_command.data.toList.drop 46 = dktX2_command_2 := dk_seg dksX2_command_1 22 rfl rfl
theorem dksX2_command_3 : cX2_command.data.toList.drop 70 = dktX2_command_3 := dk_seg dksX2_command_2 24 rfl rfl
theorem dksX2_command_4 : cX2_command.data.toList.drop 93 = dktX2_command_4 := dk_seg dksX2_command_3 23 rfl rfl
theorem dksX2_command_5 : cX2_command.data.toList.drop 96 = dktX2_command_5 := dk_seg dksX2_command_4 3 rfl rfl
theorem dksX2_command_6 : cX2_command.data.toList.drop 188 = dktX2_command_6 := dk_seg dksX2_command_5 92 rfl rfl
theorem dksX2_command_7 : cX2_command.data.toList.drop 212 = dktX2_command_7 := dk_seg dksX2_command_6 24 rfl rfl
theorem dksX2_command_8 : cX2_command.data.toList.drop 236 = dktX2_command_8 := dk_seg dksX2_command_7 24 rfl rfl
theorem dksX2_command_9 : cX2_command.data.toList.drop 259 = dktX2_command_9 := dk_seg dksX2_command_8 23 rfl rfl
theorem dksX2_command_10 : cX2_command.data.toList.drop 283 = dktX2_command_10 := dk_seg dksX2_command_9 24 rfl rfl
theorem dksX2_command_11 : cX2_command.data.toList.drop 305 = dktX2_command_11 := dk_seg dksX2_command_10 22 rfl rfl
theorem dksX2_command_12 : cX2_command.data.toList.drop 329 = dktX2_command_12 := dk_seg dksX2_command_11 24 rfl rfl
theorem dksX2_command_13 : cX2_command.data.toList.drop 330 = dktX2_command_13 := dk_seg dksX2_command_12 1 rfl rfl
theorem dksX2_command_14 : cX2_command.data.toList.drop 384 = dktX2_command_14 := dk_seg dksX2_command_13 54 rfl rfl
theorem dksX2_command_15 : cX2_command.data.toList.drop 408 = dktX2_command_15 := dk_seg dksX2_command_14 24 rfl rfl
theorem dksX2_command_16 : cX2_command.data.toList.drop 431 = dktX2_command_16 := dk_seg dksX2_command_15 23 rfl rfl
theorem dksX2_command_17 : cX2_command.data.toList.drop 454 = dktX2_command_17 := dk_seg dksX2_command_16 23 rfl rfl
theorem dksX2_command_18 : cX2_command.data.toList.drop 478 = dktX2_command_18 := dk_seg dksX2_command_17 24 rfl rfl
theorem dksX2_command_19 : cX2_command.data.toList.drop 500 = dktX2_command_19 := dk_seg dksX2_command_18 22 rfl rfl
theorem dksX2_command_20 : cX2_command.data.toList.drop 524 = dktX2_command_20 := dk_seg dksX2_command_19 24 rfl rfl
theorem dX2_command_0 : decode cX2_command 0 = .ok (.aload_n 0, 1) := dk_42 (dk_at dksX2_command_0 0 rfl rfl)
theorem dX2_command_1 : decode cX2_command 1 = .ok (.aload_n 0, 1) := dk_42 (dk_at dksX2_command_0 1 rfl rfl)
theorem dX2_command_2 : decode cX2_command 2 = .ok (.getfield 15, 3) := dk_180 0 15 (dk_at dksX2_command_0 2 rfl rfl)
theorem dX2_command_5 : decode cX2_command 5 = .ok (.getstatic 64, 3) := dk_178 0 64 (dk_at dksX2_command_0 5 rfl rfl)
theorem dX2_command_8 : decode cX2_command 8 = .ok (.if_acmp .ne 7, 3) := dk_166 0 7 (dk_at dksX2_command_0 8 rfl rfl)
theorem dX2_command_11 : decode cX2_command 11 = .ok (.iconst 1, 1) := dk_4 (dk_at dksX2_command_0 11 rfl rfl)
theorem dX2_command_12 : decode cX2_command 12 = .ok (.goto 4, 3) := dk_167 0 4 (dk_at dksX2_command_0 12 rfl rfl)
theorem dX2_command_15 : decode cX2_command 15 = .ok (.iconst 0, 1) := dk_3 (dk_at dksX2_command_0 15 rfl rfl)
theorem dX2_command_16 : decode cX2_command 16 = .ok (.iconst 1, 1) := dk_4 (dk_at dksX2_command_0 16 rfl rfl)
theorem dX2_command_17 : decode cX2_command 17 = .ok (.invokevirtual 97, 3) := dk_182 0 97 (dk_at dksX2_command_0 17 rfl rfl)
theorem dX2_command_20 : decode cX2_command 20 = .ok (.aload_n 0, 1) := dk_42 (dk_at dksX2_command_0 20 rfl rfl)
theorem dX2_command_21 : decode cX2_command 21 = .ok (.getfield 22, 3) := dk_180 0 22 (dk_at dksX2_command_0 21 rfl rfl)
theorem dX2_command_24 : decode cX2_command 24 = .ok (.ldc 156, 2) := dk_18 156 (dk_at dksX2_command_1 0 rfl rfl)
theorem dX2_command_26 : decode cX2_command 26 = .ok (.invokevirtual 118, 3) := dk_182 0 118 (dk_at dksX2_command_1 2 rfl rfl)
theorem dX2_command_29 : decode cX2_command 29 = .ok (.ifCond .eq 8, 3) := dk_153 0 8 (dk_at dksX2_command_1 5 rfl rfl)
theorem dX2_command_32 : decode cX2_command 32 = .ok (.aload_n 0, 1) := dk_42 (dk_at dksX2_command_1 8 rfl rfl)
theorem dX2_command_33 : decode cX2_command 33 = .ok (.invokevirtual 158, 3) := dk_182 0 158 (dk_at dksX2_command_1 9 rfl rfl)
theorem dX2_command_36 : decode cX2_command 36 = .ok (.return_, 1) := dk_177 (dk_at dksX2_command_1 12 rfl rfl)
theorem dX2_command_37 : decode cX2_command 37 = .ok (.aload_n 0, 1) := dk_42 (dk_at dksX2_command_1 13 rfl rfl)
theorem dX2_command_38 : decode cX2_command 38 = .ok (.aload_n 0, 1) := dk_42 (dk_at dksX2_command_1 14 rfl rfl)
theorem dX2_command_39 : decode cX2_command 39 = .ok (.getfield 22, 3) := dk_180 0 22 (dk_at dksX2_command_1 15 rfl rfl)
theorem dX2_command_42 : decode cX2_command 42 = .ok (.invokestatic 160, 3) := dk_184 0 160 (dk_at dksX2_command_1 18 rfl rfl)
theorem dX2_command_45 : decode cX2_command 45 = .ok (.iconst 1, 1) := dk_4 (dk_at dksX2_command_1 21 rfl rfl)
theorem dX2_command_46 : decode cX2_command 46 = .ok (.invokevirtual 97, 3) := dk_182 0 97 (dk_at dksX2_command_2 0 rfl rfl)
theorem dX2_command_49 : decode cX2_command 49 = .ok (.aload_n 0, 1) := dk_42 (dk_at dksX2_command_2 3 rfl rfl)
theorem dX2_command_50 : decode cX2_command 50 = .ok (.aload_n 0, 1) := dk_42 (dk_at dksX2_command_2 4 rfl rfl)
theorem dX2_command_51 : decode cX2_command 51 = .ok (.getfield 164, 3) := dk_180 0 164 (dk_at dksX2_command_2 5 rfl rfl)
theorem dX2_command_54 : decode cX2_command 54 = .ok (.sipush 200, 3) := dk_17 0 200 (dk_at dksX2_command_2 8 rfl rfl)
theorem dX2_command_57 : decode cX2_command 57 = .ok (.if_icmp .ge 7, 3) := dk_162 0 7 (dk_at dksX2_command_2 11 rfl rfl)
theorem dX2_command_60 : decode cX2_command 60 = .ok (.iconst 1, 1) := dk_4 (dk_at dksX2_command_2 14 rfl rfl)
theorem dX2_command_61 : decode cX2_command 61 = .ok (.goto 4, 3) := dk_167 0 4 (dk_at dksX2_command_2 15 rfl rfl)
theorem dX2_command_64 : decode cX2_command 64 = .ok (.iconst 0, 1) := dk_3 (dk_at dksX2_command_2 18 rfl rfl)
theorem dX2_command_65 : decode cX2_command 65 = .ok (.iconst 5, 1) := dk_8 (dk_at dksX2_command_2 19 rfl rfl)
theorem dX2_command_66 : decode cX2_command 66 = .ok (.invokevirtual 97, 3) := dk_182 0 97 (dk_at dksX2_command_2 20 rfl rfl)
theorem dX2_command_69 : decode cX2_command 69 = .ok (.aload_n 0, 1) := dk_42 (dk_at dksX2_command_2 23 rfl rfl)
theorem dX2_command_70 : decode cX2_command 70 = .ok (.dup, 1) := dk_89 (dk_at dksX2_command_3 0 rfl rfl)
theorem dX2_command_71 : decode cX2_command 71 = .ok (.getfield 164, 3) := dk_180 0 164 (dk_at dksX2_command_3 1 rfl rfl)
theorem dX2_command_74 : decode cX2_command 74 = .ok (.iconst 1, 1) := dk_4 (dk_at dksX2_command_3 4 rfl rfl)
theorem dX2_command_75 : decode cX2_command 75 = .ok (.iadd, 1) := dk_96 (dk_at dksX2_command_3 5 rfl rfl)
theorem dX2_command_76 : decode cX2_command 76 = .ok (.putfield 164, 3) := dk_181 0 164 (dk_at dksX2_command_3 6 rfl rfl)
theorem dX2_command_79 : decode cX2_command 79 = .ok (.aload_n 0, 1) := dk_42 (dk_at dksX2_command_3 9 rfl rfl)
theorem dX2_command_80 : decode cX2_command 80 = .ok (.getfield 22, 3) := dk_180 0 22 (dk_at dksX2_command_3 10 rfl rfl)
theorem dX2_command_83 : decode cX2_command 83 = .ok (.astore_n 1, 1) := dk_76 (dk_at dksX2_command_3 13 rfl rfl)
theorem dX2_command_84 : decode cX2_command 84 = .ok (.aload_n 0, 1) := dk_42 (dk_at dksX2_command_3 14 rfl rfl)
theorem dX2_command_85 : decode cX2_command 85 = .ok (.invokevirtual 36, 3) := dk_182 0 36 (dk_at dksX2_command_3 15 rfl rfl)
theorem dX2_command_88 : decode cX2_command 88 = .ok (.aload_n 1, 1) := dk_43 (dk_at dksX2_command_3 18 rfl rfl)
theorem dX2_command_89 : decode cX2_command 89 = .ok (.astore_n 2, 1) := dk_77 (dk_at dksX2_command_3 19 rfl rfl)
theorem dX2_command_90 : decode cX2_command 90 = .ok (.iconst (-1), 1) := dk_2 (dk_at dksX2_command_3 20 rfl rfl)
theorem dX2_command_91 : decode cX2_command 91 = .ok (.istore_n 3, 1) := dk_62 (dk_at dksX2_command_3 21 rfl rfl)
theorem dX2_command_92 : decode cX2_command 92 = .ok (.aload_n 2, 1) := dk_44 (dk_at dksX2_command_3 22 rfl rfl)
theorem dX2_command_93 : decode cX2_command 93 = .ok (.invokevirtual 129, 3) := dk_182 0 129 (dk_at dksX2_command_4 0 rfl rfl)
theorem dX2_command_96 : decode cX2_command 96 = .ok (.lookupswitch 233 #[(-1234542309, 106), (-1207841163, 162), (-1131107961, 206), (-1045618853, 221), (98262, 120), (3540684, 134), (94623726, 176), (94742588, 148), (110640217, 191), (746308793, 92)], 92) := by decide +kernel
theorem dX2_command_188 : decode cX2_command 188 = .ok (.aload_n 2, 1) := dk_44 (dk_at dksX2_command_6 0 rfl rfl)
theorem dX2_command_189 : decode cX2_command 189 = .ok (.ldc 132, 2) := dk_18 132 (dk_at dksX2_command_6 1 rfl rfl)
theorem dX2_command_191 : decode cX2_command 191 = .ok (.invokevirtual 118, 3) := dk_182 0 118 (dk_at dksX2_command_6 3 rfl rfl)
theorem dX2_command_194 : decode cX2_command 194 = .ok (.ifCond .eq 135, 3) := dk_153 0 135 (dk_at dksX2_command_6 6 rfl rfl)
theorem dX2_command_197 : decode cX2_command 197 = .ok (.iconst 0, 1) := dk_3 (dk_at dksX2_command_6 9 rfl rfl)
theorem dX2_command_198 : decode cX2_command 198 = .ok (.istore_n 3, 1) := dk_62 (dk_at dksX2_command_6 10 rfl rfl)
theorem dX2_command_199 : decode cX2_command 199 = .ok (.goto 130, 3) := dk_167 0 130 (dk_at dksX2_command_6 11 rfl rfl)
theorem dX2_command_202 : decode cX2_command 202 = .ok (.aload_n 2, 1) := dk_44 (dk_at dksX2_command_6 14 rfl rfl)
theorem dX2_command_203 : decode cX2_command 203 = .ok (.ldc 134, 2) := dk_18 134 (dk_at dksX2_command_6 15 rfl rfl)
theorem dX2_command_205 : decode cX2_command 205 = .ok (.invokevirtual 118, 3) := dk_182 0 118 (dk_at dksX2_command_6 17 rfl rfl)
theorem dX2_command_208 : decode cX2_command 208 = .ok (.ifCond .eq 121, 3) := dk_153 0 121 (dk_at dksX2_command_6 20 rfl rfl)
theorem dX2_command_211 : decode cX2_command 211 = .ok (.iconst 1, 1) := dk_4 (dk_at dksX2_command_6 23 rfl rfl)
theorem dX2_command_212 : decode cX2_command 212 = .ok (.istore_n 3, 1) := dk_62 (dk_at dksX2_command_7 0 rfl rfl)
theorem dX2_command_213 : decode cX2_command 213 = .ok (.goto 116, 3) := dk_167 0 116 (dk_at dksX2_command_7 1 rfl rfl)
theorem dX2_command_216 : decode cX2_command 216 = .ok (.aload_n 2, 1) := dk_44 (dk_at dksX2_command_7 4 rfl rfl)
theorem dX2_command_217 : decode cX2_command 217 = .ok (.ldc 136, 2) := dk_18 136 (dk_at dksX2_command_7 5 rfl rfl)
theorem dX2_command_219 : decode cX2_command 219 = .ok (.invokevirtual 118, 3) := dk_182 0 118 (dk_at dksX2_command_7 7 rfl rfl)
theorem dX2_command_222 : decode cX2_command 222 = .ok (.ifCond .eq 107, 3) := dk_153 0 107 (dk_at dksX2_command_7 10 rfl rfl)
theorem dX2_command_225 : decode cX2_command 225 = .ok (.iconst 2, 1) := dk_5 (dk_at dksX2_command_7 13 rfl rfl)
theorem dX2_command_226 : decode cX2_command 226 = .ok (.istore_n 3, 1) := dk_62 (dk_at dksX2_command_7 14 rfl rfl)
theorem dX2_command_227 : decode cX2_command 227 = .ok (.goto 102, 3) := dk_167 0 102 (dk_at dksX2_command_7 15 rfl rfl)
theorem dX2_command_230 : decode cX2_command 230 = .ok (.aload_n 2, 1) := dk_44 (dk_at dksX2_command_7 18 rfl rfl)
theorem dX2_command_231 : decode cX2_command 231 = .ok (.ldc 138, 2) := dk_18 138 (dk_at dksX2_command_7 19 rfl rfl)
theorem dX2_command_233 : decode cX2_command 233 = .ok (.invokevirtual 118, 3) := dk_182 0 118 (dk_at dksX2_command_7 21 rfl rfl)
theorem dX2_command_236 : decode cX2_command 236 = .ok (.ifCond .eq 93, 3) := dk_153 0 93 (dk_at dksX2_command_8 0 rfl rfl)
theorem dX2_command_239 : decode cX2_command 239 = .ok (.iconst 3, 1) := dk_6 (dk_at dksX2_command_8 3 rfl rfl)
theorem dX2_command_240 : decode cX2_command 240 = .ok (.istore_n 3, 1) := dk_62 (dk_at dksX2_command_8 4 rfl rfl)
theorem dX2_command_241 : decode cX2_command 241 = .ok (.goto 88, 3) := dk_167 0 88 (dk_at dksX2_command_8 5 rfl rfl)
theorem dX2_command_244 : decode cX2_command 244 = .ok (.aload_n 2, 1) := dk_44 (dk_at dksX2_command_8 8 rfl rfl)
theorem dX2_command_245 : decode cX2_command 245 = .ok (.ldc 140, 2) := dk_18 140 (dk_at dksX2_command_8 9 rfl rfl)
theorem dX2_command_247 : decode cX2_command 247 = .ok (.invokevirtual 118, 3) := dk_182 0 118 (dk_at dksX2_command_8 11 rfl rfl)
theorem dX2_command_250 : decode cX2_command 250 = .ok (.ifCond .eq 79, 3) := dk_153 0 79 (dk_at dksX2_command_8 14 rfl rfl)
theorem dX2_command_253 : decode cX2_command 253 = .ok (.iconst 4, 1) := dk_7 (dk_at dksX2_command_8 17 rfl rfl)
theorem dX2_command_254 : decode cX2_command 254 = .ok (.istore_n 3, 1) := dk_62 (dk_at dksX2_command_8 18 rfl rfl)
theorem dX2_command_255 : decode cX2_command 255 = .ok (.goto 74, 3) := dk_167 0 74 (dk_at dksX2_command_8 19 rfl rfl)
theorem dX2_command_258 : decode cX2_command 258 = .ok (.aload_n 2, 1) := dk_44 (dk_at dksX2_command_8 22 rfl rfl)
theorem dX2_command_259 : decode cX2_command 259 = .ok (.ldc 142, 2) := dk_18 142 (dk_at dksX2_command_9 0 rfl rfl)
theorem dX2_command_261 : decode cX2_command 261 = .ok (.invokevirtual 118, 3) := dk_182 0 118 (dk_at dksX2_command_9 2 rfl rfl)
theorem dX2_command_264 : decode cX2_command 264 = .ok (.ifCond .eq 65, 3) := dk_153 0 65 (dk_at dksX2_command_9 5 rfl rfl)
theorem dX2_command_267 : decode cX2_command 267 = .ok (.iconst 5, 1) := dk_8 (dk_at dksX2_command_9 8 rfl rfl)
theorem dX2_command_268 : decode cX2_command 268 = .ok (.istore_n 3, 1) := dk_62 (dk_at dksX2_command_9 9 rfl rfl)
theorem dX2_command_269 : decode cX2_command 269 = .ok (.goto 60, 3) := dk_167 0 60 (dk_at dksX2_command_9 10 rfl rfl)
theorem dX2_command_272 : decode cX2_command 272 = .ok (.aload_n 2, 1) := dk_44 (dk_at dksX2_command_9 13 rfl rfl)
theorem dX2_command_273 : decode cX2_command 273 = .ok (.ldc 144, 2) := dk_18 144 (dk_at dksX2_command_9 14 rfl rfl)
theorem dX2_command_275 : decode cX2_command 275 = .ok (.invokevirtual 118, 3) := dk_182 0 118 (dk_at dksX2_command_9 16 rfl rfl)
theorem dX2_command_278 : decode cX2_command 278 = .ok (.ifCond .eq 51, 3) := dk_153 0 51 (dk_at dksX2_command_9 19 rfl rfl)
theorem dX2_command_281 : decode cX2_command 281 = .ok (.bipush 6, 2) := dk_16 6 (dk_at dksX2_command_9 22 rfl rfl)
theorem dX2_command_283 : decode cX2_command 283 = .ok (.istore_n 3, 1) := dk_62 (dk_at dksX2_command_10 0 rfl rfl)
theorem dX2_command_284 : decode cX2_command 284 = .ok (.goto 45, 3) := dk_167 0 45 (dk_at dksX2_command_10 1 rfl rfl)
theorem dX2_command_287 : decode cX2_command 287 = .ok (.aload_n 2, 1) := dk_44 (dk_at dksX2_command_10 4 rfl rfl)
theorem dX2_command_288 : decode cX2_command 288 = .ok (.ldc 146, 2) := dk_18 146 (dk_at dksX2_command_10 5 rfl rfl)
theorem dX2_command_290 : decode cX2_command 290 = .ok (.invokevirtual 118, 3) := dk_182 0 118 (dk_at dksX2_command_10 7 rfl rfl)
theorem dX2_command_293 : decode cX2_command 293 = .ok (.ifCond .eq 36, 3) := dk_153 0 36 (dk_at dksX2_command_10 10 rfl rfl)
theorem dX2_command_296 : decode cX2_command 296 = .ok (.bipush 7, 2) := dk_16 7 (dk_at dksX2_command_10 13 rfl rfl)
theorem dX2_command_298 : decode cX2_command 298 = .ok (.istore_n 3, 1) := dk_62 (dk_at dksX2_command_10 15 rfl rfl)
theorem dX2_command_299 : decode cX2_command 299 = .ok (.goto 30, 3) := dk_167 0 30 (dk_at dksX2_command_10 16 rfl rfl)
theorem dX2_command_302 : decode cX2_command 302 = .ok (.aload_n 2, 1) := dk_44 (dk_at dksX2_command_10 19 rfl rfl)
theorem dX2_command_303 : decode cX2_command 303 = .ok (.ldc 148, 2) := dk_18 148 (dk_at dksX2_command_10 20 rfl rfl)
theorem dX2_command_305 : decode cX2_command 305 = .ok (.invokevirtual 118, 3) := dk_182 0 118 (dk_at dksX2_command_11 0 rfl rfl)
theorem dX2_command_308 : decode cX2_command 308 = .ok (.ifCond .eq 21, 3) := dk_153 0 21 (dk_at dksX2_command_11 3 rfl rfl)
theorem dX2_command_311 : decode cX2_command 311 = .ok (.bipush 8, 2) := dk_16 8 (dk_at dksX2_command_11 6 rfl rfl)
theorem dX2_command_313 : decode cX2_command 313 = .ok (.istore_n 3, 1) := dk_62 (dk_at dksX2_command_11 8 rfl rfl)
theorem dX2_command_314 : decode cX2_command 314 = .ok (.goto 15, 3) := dk_167 0 15 (dk_at dksX2_command_11 9 rfl rfl)
theorem dX2_command_317 : decode cX2_command 317 = .ok (.aload_n 2, 1) := dk_44 (dk_at dksX2_command_11 12 rfl rfl)
theorem dX2_command_318 : decode cX2_command 318 = .ok (.ldc 154, 2) := dk_18 154 (dk_at dksX2_command_11 13 rfl rfl)
theorem dX2_command_320 : decode cX2_command 320 = .ok (.invokevirtual 118, 3) := dk_182 0 118 (dk_at dksX2_command_11 15 rfl rfl)
theorem dX2_command_323 : decode cX2_command 323 = .ok (.ifCond .eq 6, 3) := dk_153 0 6 (dk_at dksX2_command_11 18 rfl rfl)
theorem dX2_command_326 : decode cX2_command 326 = .ok (.bipush 9, 2) := dk_16 9 (dk_at dksX2_command_11 21 rfl rfl)
theorem dX2_command_328 : decode cX2_command 328 = .ok (.istore_n 3, 1) := dk_62 (dk_at dksX2_command_11 23 rfl rfl)
theorem dX2_command_329 : decode cX2_command 329 = .ok (.iload_n 3, 1) := dk_29 (dk_at dksX2_command_12 0 rfl rfl)
theorem dX2_command_330 : decode cX2_command 330 = .ok (.tableswitch 169 0 9 #[54, 54, 54, 62, 62, 62, 70, 70, 78, 122], 54) := by decide +kernel
theorem dX2_command_384 : decode cX2_command 384 = .ok (.aload_n 0, 1) := dk_42 (dk_at dksX2_command_14 0 rfl rfl)
theorem dX2_command_385 : decode cX2_command 385 = .ok (.aload_n 1, 1) := dk_43 (dk_at dksX2_command_14 1 rfl rfl)
theorem dX2_command_386 : decode cX2_command 386 = .ok (.invokevirtual 167, 3) := dk_182 0 167 (dk_at dksX2_command_14 2 rfl rfl)
theorem dX2_command_389 : decode cX2_command 389 = .ok (.goto 145, 3) := dk_167 0 145 (dk_at dksX2_command_14 5 rfl rfl)
theorem dX2_command_392 : decode cX2_command 392 = .ok (.aload_n 0, 1) := dk_42 (dk_at dksX2_command_14 8 rfl rfl)
theorem dX2_command_393 : decode cX2_command 393 = .ok (.aload_n 1, 1) := dk_43 (dk_at dksX2_command_14 9 rfl rfl)
theorem dX2_command_394 : decode cX2_command 394 = .ok (.invokevirtual 171, 3) := dk_182 0 171 (dk_at dksX2_command_14 10 rfl rfl)
theorem dX2_command_397 : decode cX2_command 397 = .ok (.goto 137, 3) := dk_167 0 137 (dk_at dksX2_command_14 13 rfl rfl)
theorem dX2_command_400 : decode cX2_command 400 = .ok (.aload_n 0, 1) := dk_42 (dk_at dksX2_command_14 16 rfl rfl)
theorem dX2_command_401 : decode cX2_command 401 = .ok (.aload_n 1, 1) := dk_43 (dk_at dksX2_command_14 17 rfl rfl)
theorem dX2_command_402 : decode cX2_command 402 = .ok (.invokevirtual 174, 3) := dk_182 0 174 (dk_at dksX2_command_14 18 rfl rfl)
theorem dX2_command_405 : decode cX2_command 405 = .ok (.goto 129, 3) := dk_167 0 129 (dk_at dksX2_command_14 21 rfl rfl)
theorem dX2_command_408 : decode cX2_command 408 = .ok (.aload_n 0, 1) := dk_42 (dk_at dksX2_command_15 0 rfl rfl)
theorem dX2_command_409 : decode cX2_command 409 = .ok (.iconst 1, 1) := dk_4 (dk_at dksX2_command_15 1 rfl rfl)
theorem dX2_command_410 : decode cX2_command 410 = .ok (.bipush 9, 2) := dk_16 9 (dk_at dksX2_command_15 2 rfl rfl)
theorem dX2_command_412 : decode cX2_command 412 = .ok (.invokevirtual 110, 3) := dk_182 0 110 (dk_at dksX2_command_15 4 rfl rfl)
theorem dX2_command_415 : decode cX2_command 415 = .ok (.istore 4, 2) := dk_54 4 (dk_at dksX2_command_15 7 rfl rfl)
theorem dX2_command_417 : decode cX2_command 417 = .ok (.aload_n 0, 1) := dk_42 (dk_at dksX2_command_15 9 rfl rfl)
theorem dX2_command_418 : decode cX2_command 418 = .ok (.iconst 1, 1) := dk_4 (dk_at dksX2_command_15 10 rfl rfl)
theorem dX2_command_419 : decode cX2_command 419 = .ok (.bipush 9, 2) := dk_16 9 (dk_at dksX2_command_15 11 rfl rfl)
theorem dX2_command_421 : decode cX2_command 421 = .ok (.invokevirtual 110, 3) := dk_182 0 110 (dk_at dksX2_command_15 13 rfl rfl)
theorem dX2_command_424 : decode cX2_command 424 = .ok (.istore 5, 2) := dk_54 5 (dk_at dksX2_command_15 16 rfl rfl)
theorem dX2_command_426 : decode cX2_command 426 = .ok (.aload_n 0, 1) := dk_42 (dk_at dksX2_command_15 18 rfl rfl)
theorem dX2_command_427 : decode cX2_command 427 = .ok (.aload_n 0, 1) := dk_42 (dk_at dksX2_command_15 19 rfl rfl)
theorem dX2_command_428 : decode cX2_command 428 = .ok (.getfield 29, 3) := dk_180 0 29 (dk_at dksX2_command_15 20 rfl rfl)
theorem dX2_command_431 : decode cX2_command 431 = .ok (.invokevirtual 177, 3) := dk_182 0 177 (dk_at dksX2_command_16 0 rfl rfl)
theorem dX2_command_434 : decode cX2_command 434 = .ok (.invokevirtual 122, 3) := dk_182 0 122 (dk_at dksX2_command_16 3 rfl rfl)
theorem dX2_command_437 : decode cX2_command 437 = .ok (.aload_n 0, 1) := dk_42 (dk_at dksX2_command_16 6 rfl rfl)
theorem dX2_command_438 : decode cX2_command 438 = .ok (.getfield 29, 3) := dk_180 0 29 (dk_at dksX2_command_16 7 rfl rfl)
theorem dX2_command_441 : decode cX2_command 441 = .ok (.iload 4, 2) := dk_21 4 (dk_at dksX2_command_16 10 rfl rfl)
theorem dX2_command_443 : decode cX2_command 443 = .ok (.iload 5, 2) := dk_21 5 (dk_at dksX2_command_16 12 rfl rfl)
theorem dX2_command_445 : decode cX2_command 445 = .ok (.invokevirtual 181, 3) := dk_182 0 181 (dk_at dksX2_command_16 14 rfl rfl)
theorem dX2_command_448 : decode cX2_command 448 = .ok (.pop, 1) := dk_87 (dk_at dksX2_command_16 17 rfl rfl)
theorem dX2_command_449 : decode cX2_command 449 = .ok (.goto 85, 3) := dk_167 0 85 (dk_at dksX2_command_16 18 rfl rfl)
theorem dX2_command_452 : decode cX2_command 452 = .ok (.aload_n 0, 1) := dk_42 (dk_at dksX2_command_16 21 rfl rfl)
theorem dX2_command_453 : decode cX2_command 453 = .ok (.iconst 1, 1) := dk_4 (dk_at dksX2_command_16 22 rfl rfl)
theorem dX2_command_454 : decode cX2_command 454 = .ok (.bipush 30, 2) := dk_16 30 (dk_at dksX2_command_17 0 rfl rfl)
theorem dX2_command_456 : decode cX2_command 456 = .ok (.invokevirtual 110, 3) := dk_182 0 110 (dk_at dksX2_command_17 2 rfl rfl)
theorem dX2_command_459 : decode cX2_command 459 = .ok (.istore 4, 2) := dk_54 4 (dk_at dksX2_command_17 5 rfl rfl)
theorem dX2_command_461 : decode cX2_command 461 = .ok (.aload_n 0, 1) := dk_42 (dk_at dksX2_command_17 7 rfl rfl)
theorem dX2_command_462 : decode cX2_command 462 = .ok (.aload_n 0, 1) := dk_42 (dk_at dksX2_command_17 8 rfl rfl)
theorem dX2_command_463 : decode cX2_command 463 = .ok (.getfield 29, 3) := dk_180 0 29 (dk_at dksX2_command_17 9 rfl rfl)
theorem dX2_command_466 : decode cX2_command 466 = .ok (.getfield 184, 3) := dk_180 0 184 (dk_at dksX2_command_17 12 rfl rfl)
theorem dX2_command_469 : decode cX2_command 469 = .ok (.iload 4, 2) := dk_21 4 (dk_at dksX2_command_17 15 rfl rfl)
theorem dX2_command_471 : decode cX2_command 471 = .ok (.iadd, 1) := dk_96 (dk_at dksX2_command_17 17 rfl rfl)
theorem dX2_command_472 : decode cX2_command 472 = .ok (.sipush 999, 3) := dk_17 3 231 (dk_at dksX2_command_17 18 rfl rfl)
theorem dX2_command_475 : decode cX2_command 475 = .ok (.if_icmp .gt 7, 3) := dk_163 0 7 (dk_at dksX2_command_17 21 rfl rfl)
theorem dX2_command_478 : decode cX2_command 478 = .ok (.iconst 1, 1) := dk_4 (dk_at dksX2_command_18 0 rfl rfl)
theorem dX2_command_479 : decode cX2_command 479 = .ok (.goto 4, 3) := dk_167 0 4 (dk_at dksX2_command_18 1 rfl rfl)
theorem dX2_command_482 : decode cX2_command 482 = .ok (.iconst 0, 1) := dk_3 (dk_at dksX2_command_18 4 rfl rfl)
theorem dX2_command_483 : decode cX2_command 483 = .ok (.invokevirtual 122, 3) := dk_182 0 122 (dk_at dksX2_command_18 5 rfl rfl)
theorem dX2_command_486 : decode cX2_command 486 = .ok (.aload_n 0, 1) := dk_42 (dk_at dksX2_command_18 8 rfl rfl)
theorem dX2_command_487 : decode cX2_command 487 = .ok (.getfield 29, 3) := dk_180 0 29 (dk_at dksX2_command_18 9 rfl rfl)
theorem dX2_command_490 : decode cX2_command 490 = .ok (.iload 4, 2) := dk_21 4 (dk_at dksX2_command_18 12 rfl rfl)
theorem dX2_command_492 : decode cX2_command 492 = .ok (.invokevirtual 187, 3) := dk_182 0 187 (dk_at dksX2_command_18 14 rfl rfl)
theorem dX2_command_495 : decode cX2_command 495 = .ok (.pop, 1) := dk_87 (dk_at dksX2_command_18 17 rfl rfl)
theorem dX2_command_496 : decode cX2_command 496 = .ok (.goto 38, 3) := dk_167 0 38 (dk_at dksX2_command_18 18 rfl rfl)
theorem dX2_command_499 : decode cX2_command 499 = .ok (.aload_n 0, 1) := dk_42 (dk_at dksX2_command_18 21 rfl rfl)
theorem dX2_command_500 : decode cX2_command 500 = .ok (.invokevirtual 191, 3) := dk_182 0 191 (dk_at dksX2_command_19 0 rfl rfl)
theorem dX2_command_503 : decode cX2_command 503 = .ok (.istore 4, 2) := dk_54 4 (dk_at dksX2_command_19 3 rfl rfl)
theorem dX2_command_505 : decode cX2_command 505 = .ok (.aload_n 0, 1) := dk_42 (dk_at dksX2_command_19 5 rfl rfl)
theorem dX2_command_506 : decode cX2_command 506 = .ok (.aload_n 0, 1) := dk_42 (dk_at dksX2_command_19 6 rfl rfl)
theorem dX2_command_507 : decode cX2_command 507 = .ok (.getfield 29, 3) := dk_180 0 29 (dk_at dksX2_command_19 7 rfl rfl)
theorem dX2_command_510 : decode cX2_command 510 = .ok (.iload 4, 2) := dk_21 4 (dk_at dksX2_command_19 10 rfl rfl)
theorem dX2_command_512 : decode cX2_command 512 = .ok (.invokevirtual 193, 3) := dk_182 0 193 (dk_at dksX2_command_19 12 rfl rfl)
theorem dX2_command_515 : decode cX2_command 515 = .ok (.invokevirtual 122, 3) := dk_182 0 122 (dk_at dksX2_command_19 15 rfl rfl)
theorem dX2_command_518 : decode cX2_command 518 = .ok (.aload_n 0, 1) := dk_42 (dk_at dksX2_command_19 18 rfl rfl)
theorem dX2_command_519 : decode cX2_command 519 = .ok (.getfield 29, 3) := dk_180 0 29 (dk_at dksX2_command_19 19 rfl rfl)
theorem dX2_command_522 : decode cX2_command 522 = .ok (.iload 4, 2) := dk_21 4 (dk_at dksX2_command_19 22 rfl rfl)
theorem dX2_command_524 : decode cX2_command 524 = .ok (.aload_n 1, 1) := dk_43 (dk_at dksX2_command_20 0 rfl rfl)
theorem dX2_command_525 : decode cX2_command 525 = .ok (.ldc 150, 2) := dk_18 150 (dk_at dksX2_command_20 1 rfl rfl)
theorem dX2_command_527 : decode cX2_command 527 = .ok (.invokevirtual 118, 3) := dk_182 0 118 (dk_at dksX2_command_20 3 rfl rfl)
theorem dX2_command_530 : decode cX2_command 530 = .ok (.invokevirtual 197, 3) := dk_182 0 197 (dk_at dksX2_command_20 6 rfl rfl)
theorem dX2_command_533 : decode cX2_command 533 = .ok (.pop, 1) := dk_87 (dk_at dksX2_command_20 9 rfl rfl)
theorem dX2_command_534 : decode cX2_command 534 = .ok (.aload_n 0, 1) := dk_42 (dk_at dksX2_command_20 10 rfl rfl)
theorem dX2_command_535 : decode cX2_command 535 = .ok (.invokevirtual 36, 3) := dk_182 0 36 (dk_at dksX2_command_20 11 rfl rfl)
theorem dX2_command_538 : decode cX2_command 538 = .ok (.return_, 1) := dk_177 (dk_at dksX2_command_20 14 rfl rfl)
abbrev cX2_repeat : ByteArray := prog_6_method_18_code
def yX2_repeat : MethodName := ⟨RX2, "repeat", "()V"⟩
def dkwX2_repeat_5 : List UInt8 := [182, 0, 36, 42, 4, 182, 0, 122, 42, 182, 0, 36, 177]
abbrev dktX2_repeat_5 : List UInt8 := dkwX2_repeat_5 ++ []
def dkwX2_repeat_4 : List UInt8 := [182, 0, 126, 167, 255, 242, 132, 3, 1, 167, 255, 222, 42, 89, 180, 1, 5, 4, 100, 181, 1, 5, 42]
abbrev dktX2_repeat_4 : List UInt8 := dkwX2_repeat_4 ++ dktX2_repeat_5
def dkwX2_repeat_3 : List UInt8 := [162, 0, 35, 42, 28, 181, 0, 39, 42, 182, 0, 36, 42, 180, 0, 15, 178, 0, 80, 165, 0, 10, 42]
abbrev dktX2_repeat_3 : List UInt8 := dkwX2_repeat_3 ++ dktX2_repeat_4
def dkwX2_repeat_2 : List UInt8 := [182, 0, 97, 42, 180, 0, 39, 61, 42, 89, 180, 1, 5, 4, 96, 181, 1, 5, 3, 62, 29, 27]
abbrev dktX2_repeat_2 : List UInt8 := dkwX2_repeat_2 ++ dktX2_repeat_3
def dkwX2_repeat_1 : List UInt8 := [16, 20, 182, 0, 110, 60, 42, 42, 180, 0, 15, 178, 0, 77, 166, 0, 7, 4, 167, 0, 4, 3, 4]
abbrev dktX2_repeat_1 : List UInt8 := dkwX2_repeat_1 ++ dktX2_repeat_2
def dkwX2_repeat_0 : List UInt8 := [42, 42, 180, 1, 5, 5, 162, 0, 7, 4, 167, 0, 4, 3, 7, 182, 0, 97, 42, 182, 0, 36, 42, 4]
abbrev dktX2_repeat_0 : List UInt8 := dkwX2_repeat_0 ++ dktX2_repeat_1
theorem dksX2_repeat_0 : cX2_repeat.data.toList.drop 0 = dktX2_repeat_0 := by decide +kernel
theorem dksX2_repeat_1 : cX2_repeat.data.toList.drop 24 = dktX2_repeat_1 := dk_seg dksX2_repeat_0 24 rfl rfl
theorem dksX2_repeat_2 : cX2_repeat.data.toList.drop 47 = dktX2_repeat_2 := dk_seg dksX2_repeat_1 23 rfl rfl
theorem dksX2_repeat_3 : cX2_repeat.data.toList.drop 69 = dktX2_repeat_3 := dk_seg dksX2_repeat_2 22 rfl rfl
theorem dksX2_repeat_4 : cX2_repeat.data.toList.drop 92 = dktX2_repeat_4 := dk_seg dksX2_repeat_3 23 rfl rfl
theorem dksX2_repeat_5 : cX2_repeat.data.toList.drop 115 = dktX2_repeat_5 := dk_seg dksX2_repeat_4 23 rfl rfl
theorem dX2_repeat_0 : decode cX2_repeat 0 = .ok (.aload_n 0, 1) := dk_42 (dk_at dksX2_repeat_0 0 rfl rfl)
theorem dX2_repeat_1 : decode cX2_repeat 1 = .ok (.aload_n 0, 1) := dk_42 (dk_at dksX2_repeat_0 1 rfl rfl)
theorem dX2_repeat_2 : decode cX2_repeat 2 = .ok (.getfield 261, 3) := dk_180 1 5 (dk_at dksX2_repeat_0 2 rfl rfl)
theorem dX2_repeat_5 : decode cX2_repeat 5 = .ok (.iconst 2, 1) := dk_5 (dk_at dksX2_repeat_0 5 rfl rfl)
theorem dX2_repeat_6 : decode cX2_repeat 6 = .ok (.if_icmp .ge 7, 3) := dk_162 0 7 (dk_at dksX2_repeat_0 6 rfl rfl)
theorem dX2_repeat_9 : decode cX2_repeat 9 = .ok (.iconst 1, 1) := dk_4 (dk_at dksX2_repeat_0 9 rfl rfl)
theorem dX2_repeat_10 : decode cX2_repeat 10 = .ok (.goto 4, 3) := dk_167 0 4 (dk_at dksX2_repeat_0 10 rfl rfl)
theorem dX2_repeat_13 : decode cX2_repeat 13 = .ok (.iconst 0, 1) := dk_3 (dk_at dksX2_repeat_0 13 rfl rfl)
theorem dX2_repeat_14 : decode cX2_repeat 14 = .ok (.iconst 4, 1) := dk_7 (dk_at dksX2_repeat_0 14 rfl rfl)
theorem dX2_repeat_15 : decode cX2_repeat 15 = .ok (.invokevirtual 97, 3) := dk_182 0 97 (dk_at dksX2_repeat_0 15 rfl rfl)
theorem dX2_repeat_18 : decode cX2_repeat 18 = .ok (.aload_n 0, 1) := dk_42 (dk_at dksX2_repeat_0 18 rfl rfl)
theorem dX2_repeat_19 : decode cX2_repeat 19 = .ok (.invokevirtual 36, 3) := dk_182 0 36 (dk_at dksX2_repeat_0 19 rfl rfl)
theorem dX2_repeat_22 : decode cX2_repeat 22 = .ok (.aload_n 0, 1) := dk_42 (dk_at dksX2_repeat_0 22 rfl rfl)
theorem dX2_repeat_23 : decode cX2_repeat 23 = .ok (.iconst 1, 1) := dk_4 (dk_at dksX2_repeat_0 23 rfl rfl)
theorem dX2_repeat_24 : decode cX2_repeat 24 = .ok (.bipush 20, 2) := dk_16 20 (dk_at dksX2_repeat_1 0 rfl rfl)
theorem dX2_repeat_26 : decode cX2_repeat 26 = .ok (.invokevirtual 110, 3) := dk_182 0 110 (dk_at dksX2_repeat_1 2 rfl rfl)
theorem dX2_repeat_29 : decode cX2_repeat 29 = .ok (.istore_n 1, 1) := dk_60 (dk_at dksX2_repeat_1 5 rfl rfl)
theorem dX2_repeat_30 : decode cX2_repeat 30 = .ok (.aload_n 0, 1) := dk_42 (dk_at dksX2_repeat_1 6 rfl rfl)
theorem dX2_repeat_31 : decode cX2_repeat 31 = .ok (.aload_n 0, 1) := dk_42 (dk_at dksX2_repeat_1 7 rfl rfl)
theorem dX2_repeat_32 : decode cX2_repeat 32 = .ok (.getfield 15, 3) := dk_180 0 15 (dk_at dksX2_repeat_1 8 rfl rfl)
theorem dX2_repeat_35 : decode cX2_repeat 35 = .ok (.getstatic 77, 3) := dk_178 0 77 (dk_at dksX2_repeat_1 11 rfl rfl)
theorem dX2_repeat_38 : decode cX2_repeat 38 = .ok (.if_acmp .ne 7, 3) := dk_166 0 7 (dk_at dksX2_repeat_1 14 rfl rfl)
theorem dX2_repeat_41 : decode cX2_repeat 41 = .ok (.iconst 1, 1) := dk_4 (dk_at dksX2_repeat_1 17 rfl rfl)
theorem dX2_repeat_42 : decode cX2_repeat 42 = .ok (.goto 4, 3) := dk_167 0 4 (dk_at dksX2_repeat_1 18 rfl rfl)
theorem dX2_repeat_45 : decode cX2_repeat 45 = .ok (.iconst 0, 1) := dk_3 (dk_at dksX2_repeat_1 21 rfl rfl)
theorem dX2_repeat_46 : decode cX2_repeat 46 = .ok (.iconst 1, 1) := dk_4 (dk_at dksX2_repeat_1 22 rfl rfl)
theorem dX2_repeat_47 : decode cX2_repeat 47 = .ok (.invokevirtual 97, 3) := dk_182 0 97 (dk_at dksX2_repeat_2 0 rfl rfl)
theorem dX2_repeat_50 : decode cX2_repeat 50 = .ok (.aload_n 0, 1) := dk_42 (dk_at dksX2_repeat_2 3 rfl rfl)
theorem dX2_repeat_51 : decode cX2_repeat 51 = .ok (.getfield 39, 3) := dk_180 0 39 (dk_at dksX2_repeat_2 4 rfl rfl)
theorem dX2_repeat_54 : decode cX2_repeat 54 = .ok (.istore_n 2, 1) := dk_61 (dk_at dksX2_repeat_2 7 rfl rfl)
theorem dX2_repeat_55 : decode cX2_repeat 55 = .ok (.aload_n 0, 1) := dk_42 (dk_at dksX2_repeat_2 8 rfl rfl)
theorem dX2_repeat_56 : decode cX2_repeat 56 = .ok (.dup, 1) := dk_89 (dk_at dksX2_repeat_2 9 rfl rfl)
theorem dX2_repeat_57 : decode cX2_repeat 57 = .ok (.getfield 261, 3) := dk_180 1 5 (dk_at dksX2_repeat_2 10 rfl rfl)
theorem dX2_repeat_60 : decode cX2_repeat 60 = .ok (.iconst 1, 1) := dk_4 (dk_at dksX2_repeat_2 13 rfl rfl)
theorem dX2_repeat_61 : decode cX2_repeat 61 = .ok (.iadd, 1) := dk_96 (dk_at dksX2_repeat_2 14 rfl rfl)
theorem dX2_repeat_62 : decode cX2_repeat 62 = .ok (.putfield 261, 3) := dk_181 1 5 (dk_at dksX2_repeat_2 15 rfl rfl)
theorem dX2_repeat_65 : decode cX2_repeat 65 = .ok (.iconst 0, 1) := dk_3 (dk_at dksX2_repeat_2 18 rfl rfl)
theorem dX2_repeat_66 : decode cX2_repeat 66 = .ok (.istore_n 3, 1) := dk_62 (dk_at dksX2_repeat_2 19 rfl rfl)
theorem dX2_repeat_67 : decode cX2_repeat 67 = .ok (.iload_n 3, 1) := dk_29 (dk_at dksX2_repeat_2 20 rfl rfl)
theorem dX2_repeat_68 : decode cX2_repeat 68 = .ok (.iload_n 1, 1) := dk_27 (dk_at dksX2_repeat_2 21 rfl rfl)
theorem dX2_repeat_69 : decode cX2_repeat 69 = .ok (.if_icmp .ge 35, 3) := dk_162 0 35 (dk_at dksX2_repeat_3 0 rfl rfl)
theorem dX2_repeat_72 : decode cX2_repeat 72 = .ok (.aload_n 0, 1) := dk_42 (dk_at dksX2_repeat_3 3 rfl rfl)
theorem dX2_repeat_73 : decode cX2_repeat 73 = .ok (.iload_n 2, 1) := dk_28 (dk_at dksX2_repeat_3 4 rfl rfl)
theorem dX2_repeat_74 : decode cX2_repeat 74 = .ok (.putfield 39, 3) := dk_181 0 39 (dk_at dksX2_repeat_3 5 rfl rfl)
theorem dX2_repeat_77 : decode cX2_repeat 77 = .ok (.aload_n 0, 1) := dk_42 (dk_at dksX2_repeat_3 8 rfl rfl)
theorem dX2_repeat_78 : decode cX2_repeat 78 = .ok (.invokevirtual 36, 3) := dk_182 0 36 (dk_at dksX2_repeat_3 9 rfl rfl)
theorem dX2_repeat_81 : decode cX2_repeat 81 = .ok (.aload_n 0, 1) := dk_42 (dk_at dksX2_repeat_3 12 rfl rfl)
theorem dX2_repeat_82 : decode cX2_repeat 82 = .ok (.getfield 15, 3) := dk_180 0 15 (dk_at dksX2_repeat_3 13 rfl rfl)
theorem dX2_repeat_85 : decode cX2_repeat 85 = .ok (.getstatic 80, 3) := dk_178 0 80 (dk_at dksX2_repeat_3 16 rfl rfl)
theorem dX2_repeat_88 : decode cX2_repeat 88 = .ok (.if_acmp .eq 10, 3) := dk_165 0 10 (dk_at dksX2_repeat_3 19 rfl rfl)
theorem dX2_repeat_91 : decode cX2_repeat 91 = .ok (.aload_n 0, 1) := dk_42 (dk_at dksX2_repeat_3 22 rfl rfl)
theorem dX2_repeat_92 : decode cX2_repeat 92 = .ok (.invokevirtual 126, 3) := dk_182 0 126 (dk_at dksX2_repeat_4 0 rfl rfl)
theorem dX2_repeat_95 : decode cX2_repeat 95 = .ok (.goto (-14), 3) := dk_167 255 242 (dk_at dksX2_repeat_4 3 rfl rfl)
theorem dX2_repeat_98 : decode cX2_repeat 98 = .ok (.iinc 3 1, 3) := dk_132 3 1 (dk_at dksX2_repeat_4 6 rfl rfl)
theorem dX2_repeat_101 : decode cX2_repeat 101 = .ok (.goto (-34), 3) := dk_167 255 222 (dk_at dksX2_repeat_4 9 rfl rfl)
theorem dX2_repeat_104 : decode cX2_repeat 104 = .ok (.aload_n 0, 1) := dk_42 (dk_at dksX2_repeat_4 12 rfl rfl)
theorem dX2_repeat_105 : decode cX2_repeat 105 = .ok (.dup, 1) := dk_89 (dk_at dksX2_repeat_4 13 rfl rfl)
theorem dX2_repeat_106 : decode cX2_repeat 106 = .ok (.getfield 261, 3) := dk_180 1 5 (dk_at dksX2_repeat_4 14 rfl rfl)
theorem dX2_repeat_109 : decode cX2_repeat 109 = .ok (.iconst 1, 1) := dk_4 (dk_at dksX2_repeat_4 17 rfl rfl)
theorem dX2_repeat_110 : decode cX2_repeat 110 = .ok (.isub, 1) := dk_100 (dk_at dksX2_repeat_4 18 rfl rfl)
theorem dX2_repeat_111 : decode cX2_repeat 111 = .ok (.putfield 261, 3) := dk_181 1 5 (dk_at dksX2_repeat_4 19 rfl rfl)
theorem dX2_repeat_114 : decode cX2_repeat 114 = .ok (.aload_n 0, 1) := dk_42 (dk_at dksX2_repeat_4 22 rfl rfl)
theorem dX2_repeat_115 : decode cX2_repeat 115 = .ok (.invokevirtual 36, 3) := dk_182 0 36 (dk_at dksX2_repeat_5 0 rfl rfl)
theorem dX2_repeat_118 : decode cX2_repeat 118 = .ok (.aload_n 0, 1) := dk_42 (dk_at dksX2_repeat_5 3 rfl rfl)
theorem dX2_repeat_119 : decode cX2_repeat 119 = .ok (.iconst 1, 1) := dk_4 (dk_at dksX2_repeat_5 4 rfl rfl)
theorem dX2_repeat_120 : decode cX2_repeat 120 = .ok (.invokevirtual 122, 3) := dk_182 0 122 (dk_at dksX2_repeat_5 5 rfl rfl)
theorem dX2_repeat_123 : decode cX2_repeat 123 = .ok (.aload_n 0, 1) := dk_42 (dk_at dksX2_repeat_5 8 rfl rfl)
theorem dX2_repeat_124 : decode cX2_repeat 124 = .ok (.invokevirtual 36, 3) := dk_182 0 36 (dk_at dksX2_repeat_5 9 rfl rfl)
theorem dX2_repeat_127 : decode cX2_repeat 127 = .ok (.return_, 1) := dk_177 (dk_at dksX2_repeat_5 12 rfl rfl)
abbrev cX2_number : ByteArray := prog_6_method_7_code
def yX2_number : MethodName := ⟨RX2, "number", "(II)I"⟩
def dkwX2_number_2 : List UInt8 := [42, 180, 0, 86, 62, 42, 182, 0, 36, 29, 172]
abbrev dktX2_number_2 : List UInt8 := dkwX2_number_2 ++ []
def dkwX2_number_1 : List UInt8 := [180, 0, 86, 27, 161, 0, 15, 42, 180, 0, 86, 28, 163, 0, 7, 4, 167, 0, 4, 3, 5, 182, 0, 97]
abbrev dktX2_number_1 : List UInt8 := dkwX2_number_1 ++ dktX2_number_2
def dkwX2_number_0 : List UInt8 := [42, 42, 180, 0, 15, 178, 0, 89, 166, 0, 7, 4, 167, 0, 4, 3, 4, 182, 0, 97, 42, 42]
abbrev dktX2_number_0 : List UInt8 := dkwX2_number_0 ++ dktX2_number_1
theorem dksX2_number_0 : cX2_number.data.toList.drop 0 = dktX2_number_0 := by decide +kernel
theorem dksX2_number_1 : cX2_number.data.toList.drop 22 = dktX2_number_1 := dk_seg dksX2_number_0 22 rfl rfl
theorem dksX2_number_2 : cX2_number.data.toList.drop 46 = dktX2_number_2 := dk_seg dksX2_number_1 24 rfl rfl
theorem dX2_number_0 : decode cX2_number 0 = .ok (.aload_n 0, 1) := dk_42 (dk_at dksX2_number_0 0 rfl rfl)
theorem dX2_number_1 : decode cX2_number 1 = .ok (.aload_n 0, 1) := dk_42 (dk_at dksX2_number_0 1 rfl rfl)
theorem dX2_number_2 : decode cX2_number 2 = .ok (.getfield 15, 3) := dk_180 0 15 (dk_at dksX2_number_0 2 rfl rfl)
theorem dX2_number_5 : decode cX2_number 5 = .ok (.getstatic 89, 3) := dk_178 0 89 (dk_at dksX2_number_0 5 rfl rfl)
theorem dX2_number_8 : decode cX2_number 8 = .ok (.if_acmp .ne 7, 3) := dk_166 0 7 (dk_at dksX2_number_0 8 rfl rfl)
theorem dX2_number_11 : decode cX2_number 11 = .ok (.iconst 1, 1) := dk_4 (dk_at dksX2_number_0 11 rfl rfl)
theorem dX2_number_12 : decode cX2_number 12 = .ok (.goto 4, 3) := dk_167 0 4 (dk_at dksX2_number_0 12 rfl rfl)
theorem dX2_number_15 : decode cX2_number 15 = .ok (.iconst 0, 1) := dk_3 (dk_at dksX2_number_0 15 rfl rfl)
theorem dX2_number_16 : decode cX2_number 16 = .ok (.iconst 1, 1) := dk_4 (dk_at dksX2_number_0 16 rfl rfl)
theorem dX2_number_17 : decode cX2_number 17 = .ok (.invokevirtual 97, 3) := dk_182 0 97 (dk_at dksX2_number_0 17 rfl rfl)
theorem dX2_number_20 : decode cX2_number 20 = .ok (.aload_n 0, 1) := dk_42 (dk_at dksX2_number_0 20 rfl rfl)
theorem dX2_number_21 : decode cX2_number 21 = .ok (.aload_n 0, 1) := dk_42 (dk_at dksX2_number_0 21 rfl rfl)
theorem dX2_number_22 : decode cX2_number 22 = .ok (.getfield 86, 3) := dk_180 0 86 (dk_at dksX2_number_1 0 rfl rfl)
theorem dX2_number_25 : decode cX2_number 25 = .ok (.iload_n 1, 1) := dk_27 (dk_at dksX2_number_1 3 rfl rfl)
theorem dX2_number_26 : decode cX2_number 26 = .ok (.if_icmp .lt 15, 3) := dk_161 0 15 (dk_at dksX2_number_1 4 rfl rfl)
theorem dX2_number_29 : decode cX2_number 29 = .ok (.aload_n 0, 1) := dk_42 (dk_at dksX2_number_1 7 rfl rfl)
theorem dX2_number_30 : decode cX2_number 30 = .ok (.getfield 86, 3) := dk_180 0 86 (dk_at dksX2_number_1 8 rfl rfl)
theorem dX2_number_33 : decode cX2_number 33 = .ok (.iload_n 2, 1) := dk_28 (dk_at dksX2_number_1 11 rfl rfl)
theorem dX2_number_34 : decode cX2_number 34 = .ok (.if_icmp .gt 7, 3) := dk_163 0 7 (dk_at dksX2_number_1 12 rfl rfl)
theorem dX2_number_37 : decode cX2_number 37 = .ok (.iconst 1, 1) := dk_4 (dk_at dksX2_number_1 15 rfl rfl)
theorem dX2_number_38 : decode cX2_number 38 = .ok (.goto 4, 3) := dk_167 0 4 (dk_at dksX2_number_1 16 rfl rfl)
theorem dX2_number_41 : decode cX2_number 41 = .ok (.iconst 0, 1) := dk_3 (dk_at dksX2_number_1 19 rfl rfl)
theorem dX2_number_42 : decode cX2_number 42 = .ok (.iconst 2, 1) := dk_5 (dk_at dksX2_number_1 20 rfl rfl)
theorem dX2_number_43 : decode cX2_number 43 = .ok (.invokevirtual 97, 3) := dk_182 0 97 (dk_at dksX2_number_1 21 rfl rfl)
theorem dX2_number_46 : decode cX2_number 46 = .ok (.aload_n 0, 1) := dk_42 (dk_at dksX2_number_2 0 rfl rfl)
theorem dX2_number_47 : decode cX2_number 47 = .ok (.getfield 86, 3) := dk_180 0 86 (dk_at dksX2_number_2 1 rfl rfl)
theorem dX2_number_50 : decode cX2_number 50 = .ok (.istore_n 3, 1) := dk_62 (dk_at dksX2_number_2 4 rfl rfl)
theorem dX2_number_51 : decode cX2_number 51 = .ok (.aload_n 0, 1) := dk_42 (dk_at dksX2_number_2 5 rfl rfl)
theorem dX2_number_52 : decode cX2_number 52 = .ok (.invokevirtual 36, 3) := dk_182 0 36 (dk_at dksX2_number_2 6 rfl rfl)
theorem dX2_number_55 : decode cX2_number 55 = .ok (.iload_n 3, 1) := dk_29 (dk_at dksX2_number_2 9 rfl rfl)
theorem dX2_number_56 : decode cX2_number 56 = .ok (.ireturn, 1) := dk_172 (dk_at dksX2_number_2 10 rfl rfl)
abbrev cX2_isCommand : ByteArray := prog_6_method_13_code
def yX2_isCommand : MethodName := ⟨RX2, "isCommand", "(Ljava/lang/String;)Z"⟩
def dkwX2_isCommand_11 : List UInt8 := [4, 167, 0, 4, 3, 172]
abbrev dktX2_isCommand_11 : List UInt8 := dkwX2_isCommand_11 ++ []
def dkwX2_isCommand_10 : List UInt8 := [170, 0, 0, 0, 0, 0, 0, 68, 0, 0, 0, 0, 0, 0, 0, 11, 0, 0, 0, 64, 0, 0, 0, 64, 0, 0, 0, 64, 0, 0, 0, 64, 0, 0, 0, 64, 0, 0, 0, 64, 0, 0, 0, 64, 0, 0, 0, 64, 0, 0, 0, 64, 0, 0, 0, 64, 0, 0, 0, 64, 0, 0, 0, 64]
abbrev dktX2_isCommand_10 : List UInt8 := dkwX2_isCommand_10 ++ dktX2_isCommand_11
def dkwX2_isCommand_9 : List UInt8 := [153, 0, 6, 16, 11, 61, 28]
abbrev dktX2_isCommand_9 : List UInt8 := dkwX2_isCommand_9 ++ dktX2_isCommand_10
def dkwX2_isCommand_8 : List UInt8 := [167, 0, 30, 43, 18, 152, 182, 0, 118, 153, 0, 21, 16, 10, 61, 167, 0, 15, 43, 18, 154, 182, 0, 118]
abbrev dktX2_isCommand_8 : List UInt8 := dkwX2_isCommand_8 ++ dktX2_isCommand_9
def dkwX2_isCommand_7 : List UInt8 := [182, 0, 118, 153, 0, 51, 16, 8, 61, 167, 0, 45, 43, 18, 150, 182, 0, 118, 153, 0, 36, 16, 9, 61]
abbrev dktX2_isCommand_7 : List UInt8 := dkwX2_isCommand_7 ++ dktX2_isCommand_8
def dkwX2_isCommand_6 : List UInt8 := [61, 167, 0, 75, 43, 18, 146, 182, 0, 118, 153, 0, 66, 16, 7, 61, 167, 0, 60, 43, 18, 148]
abbrev dktX2_isCommand_6 : List UInt8 := dkwX2_isCommand_6 ++ dktX2_isCommand_7
def dkwX2_isCommand_5 : List UInt8 := [18, 142, 182, 0, 118, 153, 0, 95, 8, 61, 167, 0, 90, 43, 18, 144, 182, 0, 118, 153, 0, 81, 16, 6]
abbrev dktX2_isCommand_5 : List UInt8 := dkwX2_isCommand_5 ++ dktX2_isCommand_6
def dkwX2_isCommand_4 : List UInt8 := [153, 0, 123, 6, 61, 167, 0, 118, 43, 18, 140, 182, 0, 118, 153, 0, 109, 7, 61, 167, 0, 104, 43]
abbrev dktX2_isCommand_4 : List UInt8 := dkwX2_isCommand_4 ++ dktX2_isCommand_5
def dkwX2_isCommand_3 : List UInt8 := [61, 167, 0, 146, 43, 18, 136, 182, 0, 118, 153, 0, 137, 5, 61, 167, 0, 132, 43, 18, 138, 182, 0, 118]
abbrev dktX2_isCommand_3 : List UInt8 := dkwX2_isCommand_3 ++ dktX2_isCommand_4
def dkwX2_isCommand_2 : List UInt8 := [43, 18, 132, 182, 0, 118, 153, 0, 165, 3, 61, 167, 0, 160, 43, 18, 134, 182, 0, 118, 153, 0, 151, 4]
abbrev dktX2_isCommand_2 : List UInt8 := dkwX2_isCommand_2 ++ dktX2_isCommand_3
def dkwX2_isCommand_1 : List UInt8 := [171, 0, 0, 0, 0, 0, 1, 23, 0, 0, 0, 12, 182, 106, 97, 27, 0, 0, 0, 122, 184, 1, 206, 117, 0, 0, 0, 178, 188, 148, 169, 135, 0, 0, 0, 222, 193, 173, 31, 91, 0, 0, 1, 11, 0, 0, 13, 193, 0, 0, 0, 252, 0, 1, 127, 214, 0, 0, 0, 136, 0, 1, 210, 231, 0, 0, 0, 237, 0, 54, 6, 204, 0, 0, 0, 150, 5, 163, 215, 238, 0, 0, 0, 192, 5, 165, 168, 60, 0, 0, 0, 164, 6, 152, 60, 89, 0, 0, 0, 207, 44, 123, 196, 185, 0, 0, 0, 108]
abbrev dktX2_isCommand_1 : List UInt8 := dkwX2_isCommand_1 ++ dktX2_isCommand_2
def dkwX2_isCommand_0 : List UInt8 := [42, 76, 2, 61, 43, 182, 0, 129]
abbrev dktX2_isCommand_0 : List UInt8 := dkwX2_isCommand_0 ++ dktX2_isCommand_1
theorem dksX2_isCommand_0 : cX2_isCommand.data.toList.drop 0 = dktX2_isCommand_0 := by decide +kernel
theorem dksX2_isCommand_1 : cX2_isCommand.data.toList.drop 8 = dktX2_isCommand_1 := dk_seg dksX2_isCommand_0 8 rfl rfl
theorem dksX2_isCommand_2 : cX2_isCommand.data.toList.drop 116 = dktX2_isCommand_2 := dk_seg dksX2_isCommand_1 108 rfl rfl
theorem dksX2_isCommand_3 : cX2_isCommand.data.toList.drop 140 = dktX2_isCommand_3 := dk_seg dksX2_isCommand_2 24 rfl rfl
theorem dksX2_isCommand_4 : cX2_isCommand.data.toList.drop 164 = dktX2_isCommand_4 := dk_seg dksX2_isCommand_3 24 rfl rfl
theorem dksX2_isCommand_5 : cX2_isCommand.data.toList.drop 187 = dktX2_isCommand_5 := dk_seg dksX2_isCommand_4 23 rfl rfl
theorem dksX2_isCommand_6 : cX2_isCommand.data.toList.drop 211 = dktX2_isCommand_6 := dk_seg dksX2_isCommand_5 24 rfl rfl
theorem dksX2_isCommand_7 : cX2_isCommand.data.toList.drop 233 = dktX2_isCommand_7 := dk_seg dksX2_isCommand_6 22 rfl rfl
theorem dksX2_isCommand_8 : cX2_isCommand.data.toList.drop 257 = dktX2_isCommand_8 := dk_seg dksX2_isCommand_7 24 rfl rfl
theorem dksX2_isCommand_9 : cX2_isCommand.data.toList.drop 281 = dktX2_isCommand_9 := dk_seg dksX2_isCommand_8 24 rfl rfl
theorem dksX2_isCommand_10 : cX2_isCommand.data.toList.drop 288 = dktX2_isCommand_10 := dk_seg dksX2_isCommand_9 7 rfl rfl
theorem dksX2_isCommand_11 : cX2_isCommand.data.toList.drop 352 = dktX2_isCommand_11 := dk_seg dksX2_isCommand_10 64 rfl rfl
theorem dX2_isCommand_0 : decode cX2_isCommand 0 = .ok (.aload_n 0, 1) := dk_42 (dk_at dksX2_isCommand_0 0 rfl rfl)
theorem dX2_isCommand_1 : decode cX2_isCommand 1 = .ok (.astore_n 1, 1) := dk_76 (dk_at dksX2_isCommand_0 1 rfl rfl)
theorem dX2_isCommand_2 : decode cX2_isCommand 2 = .ok (.iconst (-1), 1) := dk_2 (dk_at dksX2_isCommand_0 2 rfl rfl)
theorem dX2_isCommand_3 : decode cX2_isCommand 3 = .ok (.istore_n 2, 1) := dk_61 (dk_at dksX2_isCommand_0 3 rfl rfl)
theorem dX2_isCommand_4 : decode cX2_isCommand 4 = .ok (.aload_n 1, 1) := dk_43 (dk_at dksX2_isCommand_0 4 rfl rfl)
theorem dX2_isCommand_5 : decode cX2_isCommand 5 = .ok (.invokevirtual 129, 3) := dk_182 0 129 (dk_at dksX2_isCommand_0 5 rfl rfl)
theorem dX2_isCommand_8 : decode cX2_isCommand 8 = .ok (.lookupswitch 279 #[(-1234542309, 122), (-1207841163, 178), (-1131107961, 222), (-1045618853, 267), (3521, 252), (98262, 136), (119527, 237), (3540684, 150), (94623726, 192), (94742588, 164), (110640217, 207), (746308793, 108)], 108) := by decide +kernel
theorem dX2_isCommand_116 : decode cX2_isCommand 116 = .ok (.aload_n 1, 1) := dk_43 (dk_at dksX2_isCommand_2 0 rfl rfl)
theorem dX2_isCommand_117 : decode cX2_isCommand 117 = .ok (.ldc 132, 2) := dk_18 132 (dk_at dksX2_isCommand_2 1 rfl rfl)
theorem dX2_isCommand_119 : decode cX2_isCommand 119 = .ok (.invokevirtual 118, 3) := dk_182 0 118 (dk_at dksX2_isCommand_2 3 rfl rfl)
theorem dX2_isCommand_122 : decode cX2_isCommand 122 = .ok (.ifCond .eq 165, 3) := dk_153 0 165 (dk_at dksX2_isCommand_2 6 rfl rfl)
theorem dX2_isCommand_125 : decode cX2_isCommand 125 = .ok (.iconst 0, 1) := dk_3 (dk_at dksX2_isCommand_2 9 rfl rfl)
theorem dX2_isCommand_126 : decode cX2_isCommand 126 = .ok (.istore_n 2, 1) := dk_61 (dk_at dksX2_isCommand_2 10 rfl rfl)
theorem dX2_isCommand_127 : decode cX2_isCommand 127 = .ok (.goto 160, 3) := dk_167 0 160 (dk_at dksX2_isCommand_2 11 rfl rfl)
theorem dX2_isCommand_130 : decode cX2_isCommand 130 = .ok (.aload_n 1, 1) := dk_43 (dk_at dksX2_isCommand_2 14 rfl rfl)
theorem dX2_isCommand_131 : decode cX2_isCommand 131 = .ok (.ldc 134, 2) := dk_18 134 (dk_at dksX2_isCommand_2 15 rfl rfl)
theorem dX2_isCommand_133 : decode cX2_isCommand 133 = .ok (.invokevirtual 118, 3) := dk_182 0 118 (dk_at dksX2_isCommand_2 17 rfl rfl)
theorem dX2_isCommand_136 : decode cX2_isCommand 136 = .ok (.ifCond .eq 151, 3) := dk_153 0 151 (dk_at dksX2_isCommand_2 20 rfl rfl)
theorem dX2_isCommand_139 : decode cX2_isCommand 139 = .ok (.iconst 1, 1) := dk_4 (dk_at dksX2_isCommand_2 23 rfl rfl)
theorem dX2_isCommand_140 : decode cX2_isCommand 140 = .ok (.istore_n 2, 1) := dk_61 (dk_at dksX2_isCommand_3 0 rfl rfl)
theorem dX2_isCommand_141 : decode cX2_isCommand 141 = .ok (.goto 146, 3) := dk_167 0 146 (dk_at dksX2_isCommand_3 1 rfl rfl)
theorem dX2_isCommand_144 : decode cX2_isCommand 144 = .ok (.aload_n 1, 1) := dk_43 (dk_at dksX2_isCommand_3 4 rfl rfl)
theorem dX2_isCommand_145 : decode cX2_isCommand 145 = .ok (.ldc 136, 2) := dk_18 136 (dk_at dksX2_isCommand_3 5 rfl rfl)
theorem dX2_isCommand_147 : decode cX2_isCommand 147 = .ok (.invokevirtual 118, 3) := dk_182 0 118 (dk_at dksX2_isCommand_3 7 rfl rfl)
theorem dX2_isCommand_150 : decode cX2_isCommand 150 = .ok (.ifCond .eq 137, 3) := dk_153 0 137 (dk_at dksX2_isCommand_3 10 rfl rfl)
theorem dX2_isCommand_153 : decode cX2_isCommand 153 = .ok (.iconst 2, 1) := dk_5 (dk_at dksX2_isCommand_3 13 rfl rfl)
theorem dX2_isCommand_154 : decode cX2_isCommand 154 = .ok (.istore_n 2, 1) := dk_61 (dk_at dksX2_isCommand_3 14 rfl rfl)
theorem dX2_isCommand_155 : decode cX2_isCommand 155 = .ok (.goto 132, 3) := dk_167 0 132 (dk_at dksX2_isCommand_3 15 rfl rfl)
theorem dX2_isCommand_158 : decode cX2_isCommand 158 = .ok (.aload_n 1, 1) := dk_43 (dk_at dksX2_isCommand_3 18 rfl rfl)
theorem dX2_isCommand_159 : decode cX2_isCommand 159 = .ok (.ldc 138, 2) := dk_18 138 (dk_at dksX2_isCommand_3 19 rfl rfl)
theorem dX2_isCommand_161 : decode cX2_isCommand 161 = .ok (.invokevirtual 118, 3) := dk_182 0 118 (dk_at dksX2_isCommand_3 21 rfl rfl)
theorem dX2_isCommand_164 : decode cX2_isCommand 164 = .ok (.ifCond .eq 123, 3) := dk_153 0 123 (dk_at dksX2_isCommand_4 0 rfl rfl)
theorem dX2_isCommand_167 : decode cX2_isCommand 167 = .ok (.iconst 3, 1) := dk_6 (dk_at dksX2_isCommand_4 3 rfl rfl)
theorem dX2_isCommand_168 : decode cX2_isCommand 168 = .ok (.istore_n 2, 1) := dk_61 (dk_at dksX2_isCommand_4 4 rfl rfl)
theorem dX2_isCommand_169 : decode cX2_isCommand 169 = .ok (.goto 118, 3) := dk_167 0 118 (dk_at dksX2_isCommand_4 5 rfl rfl)
theorem dX2_isCommand_172 : decode cX2_isCommand 172 = .ok (.aload_n 1, 1) := dk_43 (dk_at dksX2_isCommand_4 8 rfl rfl)
theorem dX2_isCommand_173 : decode cX2_isCommand 173 = .ok (.ldc 140, 2) := dk_18 140 (dk_at dksX2_isCommand_4 9 rfl rfl)
theorem dX2_isCommand_175 : decode cX2_isCommand 175 = .ok (.invokevirtual 118, 3) := dk_182 0 118 (dk_at dksX2_isCommand_4 11 rfl rfl)
theorem dX2_isCommand_178 : decode cX2_isCommand 178 = .ok (.ifCond .eq 109, 3) := dk_153 0 109 (dk_at dksX2_isCommand_4 14 rfl rfl)
theorem dX2_isCommand_181 : decode cX2_isCommand 181 = .ok (.iconst 4, 1) := dk_7 (dk_at dksX2_isCommand_4 17 rfl rfl)
theorem dX2_isCommand_182 : decode cX2_isCommand 182 = .ok (.istore_n 2, 1) := dk_61 (dk_at dksX2_isCommand_4 18 rfl rfl)
theorem dX2_isCommand_183 : decode cX2_isCommand 183 = .ok (.goto 104, 3) := dk_167 0 104 (dk_at dksX2_isCommand_4 19 rfl rfl)
theorem dX2_isCommand_186 : decode cX2_isCommand 186 = .ok (.aload_n 1, 1) := dk_43 (dk_at dksX2_isCommand_4 22 rfl rfl)
theorem dX2_isCommand_187 : decode cX2_isCommand 187 = .ok (.ldc 142, 2) := dk_18 142 (dk_at dksX2_isCommand_5 0 rfl rfl)
theorem dX2_isCommand_189 : decode cX2_isCommand 189 = .ok (.invokevirtual 118, 3) := dk_182 0 118 (dk_at dksX2_isCommand_5 2 rfl rfl)
theorem dX2_isCommand_192 : decode cX2_isCommand 192 = .ok (.ifCond .eq 95, 3) := dk_153 0 95 (dk_at dksX2_isCommand_5 5 rfl rfl)
theorem dX2_isCommand_195 : decode cX2_isCommand 195 = .ok (.iconst 5, 1) := dk_8 (dk_at dksX2_isCommand_5 8 rfl rfl)
theorem dX2_isCommand_196 : decode cX2_isCommand 196 = .ok (.istore_n 2, 1) := dk_61 (dk_at dksX2_isCommand_5 9 rfl rfl)
theorem dX2_isCommand_197 : decode cX2_isCommand 197 = .ok (.goto 90, 3) := dk_167 0 90 (dk_at dksX2_isCommand_5 10 rfl rfl)
theorem dX2_isCommand_200 : decode cX2_isCommand 200 = .ok (.aload_n 1, 1) := dk_43 (dk_at dksX2_isCommand_5 13 rfl rfl)
theorem dX2_isCommand_201 : decode cX2_isCommand 201 = .ok (.ldc 144, 2) := dk_18 144 (dk_at dksX2_isCommand_5 14 rfl rfl)
theorem dX2_isCommand_203 : decode cX2_isCommand 203 = .ok (.invokevirtual 118, 3) := dk_182 0 118 (dk_at dksX2_isCommand_5 16 rfl rfl)
theorem dX2_isCommand_206 : decode cX2_isCommand 206 = .ok (.ifCond .eq 81, 3) := dk_153 0 81 (dk_at dksX2_isCommand_5 19 rfl rfl)
theorem dX2_isCommand_209 : decode cX2_isCommand 209 = .ok (.bipush 6, 2) := dk_16 6 (dk_at dksX2_isCommand_5 22 rfl rfl)
theorem dX2_isCommand_211 : decode cX2_isCommand 211 = .ok (.istore_n 2, 1) := dk_61 (dk_at dksX2_isCommand_6 0 rfl rfl)
theorem dX2_isCommand_212 : decode cX2_isCommand 212 = .ok (.goto 75, 3) := dk_167 0 75 (dk_at dksX2_isCommand_6 1 rfl rfl)
theorem dX2_isCommand_215 : decode cX2_isCommand 215 = .ok (.aload_n 1, 1) := dk_43 (dk_at dksX2_isCommand_6 4 rfl rfl)
theorem dX2_isCommand_216 : decode cX2_isCommand 216 = .ok (.ldc 146, 2) := dk_18 146 (dk_at dksX2_isCommand_6 5 rfl rfl)
theorem dX2_isCommand_218 : decode cX2_isCommand 218 = .ok (.invokevirtual 118, 3) := dk_182 0 118 (dk_at dksX2_isCommand_6 7 rfl rfl)
theorem dX2_isCommand_221 : decode cX2_isCommand 221 = .ok (.ifCond .eq 66, 3) := dk_153 0 66 (dk_at dksX2_isCommand_6 10 rfl rfl)
theorem dX2_isCommand_224 : decode cX2_isCommand 224 = .ok (.bipush 7, 2) := dk_16 7 (dk_at dksX2_isCommand_6 13 rfl rfl)
theorem dX2_isCommand_226 : decode cX2_isCommand 226 = .ok (.istore_n 2, 1) := dk_61 (dk_at dksX2_isCommand_6 15 rfl rfl)
theorem dX2_isCommand_227 : decode cX2_isCommand 227 = .ok (.goto 60, 3) := dk_167 0 60 (dk_at dksX2_isCommand_6 16 rfl rfl)
theorem dX2_isCommand_230 : decode cX2_isCommand 230 = .ok (.aload_n 1, 1) := dk_43 (dk_at dksX2_isCommand_6 19 rfl rfl)
theorem dX2_isCommand_231 : decode cX2_isCommand 231 = .ok (.ldc 148, 2) := dk_18 148 (dk_at dksX2_isCommand_6 20 rfl rfl)
theorem dX2_isCommand_233 : decode cX2_isCommand 233 = .ok (.invokevirtual 118, 3) := dk_182 0 118 (dk_at dksX2_isCommand_7 0 rfl rfl)
theorem dX2_isCommand_236 : decode cX2_isCommand 236 = .ok (.ifCond .eq 51, 3) := dk_153 0 51 (dk_at dksX2_isCommand_7 3 rfl rfl)
theorem dX2_isCommand_239 : decode cX2_isCommand 239 = .ok (.bipush 8, 2) := dk_16 8 (dk_at dksX2_isCommand_7 6 rfl rfl)
theorem dX2_isCommand_241 : decode cX2_isCommand 241 = .ok (.istore_n 2, 1) := dk_61 (dk_at dksX2_isCommand_7 8 rfl rfl)
theorem dX2_isCommand_242 : decode cX2_isCommand 242 = .ok (.goto 45, 3) := dk_167 0 45 (dk_at dksX2_isCommand_7 9 rfl rfl)
theorem dX2_isCommand_245 : decode cX2_isCommand 245 = .ok (.aload_n 1, 1) := dk_43 (dk_at dksX2_isCommand_7 12 rfl rfl)
theorem dX2_isCommand_246 : decode cX2_isCommand 246 = .ok (.ldc 150, 2) := dk_18 150 (dk_at dksX2_isCommand_7 13 rfl rfl)
theorem dX2_isCommand_248 : decode cX2_isCommand 248 = .ok (.invokevirtual 118, 3) := dk_182 0 118 (dk_at dksX2_isCommand_7 15 rfl rfl)
theorem dX2_isCommand_251 : decode cX2_isCommand 251 = .ok (.ifCond .eq 36, 3) := dk_153 0 36 (dk_at dksX2_isCommand_7 18 rfl rfl)
theorem dX2_isCommand_254 : decode cX2_isCommand 254 = .ok (.bipush 9, 2) := dk_16 9 (dk_at dksX2_isCommand_7 21 rfl rfl)
theorem dX2_isCommand_256 : decode cX2_isCommand 256 = .ok (.istore_n 2, 1) := dk_61 (dk_at dksX2_isCommand_7 23 rfl rfl)
theorem dX2_isCommand_257 : decode cX2_isCommand 257 = .ok (.goto 30, 3) := dk_167 0 30 (dk_at dksX2_isCommand_8 0 rfl rfl)
theorem dX2_isCommand_260 : decode cX2_isCommand 260 = .ok (.aload_n 1, 1) := dk_43 (dk_at dksX2_isCommand_8 3 rfl rfl)
theorem dX2_isCommand_261 : decode cX2_isCommand 261 = .ok (.ldc 152, 2) := dk_18 152 (dk_at dksX2_isCommand_8 4 rfl rfl)
theorem dX2_isCommand_263 : decode cX2_isCommand 263 = .ok (.invokevirtual 118, 3) := dk_182 0 118 (dk_at dksX2_isCommand_8 6 rfl rfl)
theorem dX2_isCommand_266 : decode cX2_isCommand 266 = .ok (.ifCond .eq 21, 3) := dk_153 0 21 (dk_at dksX2_isCommand_8 9 rfl rfl)
theorem dX2_isCommand_269 : decode cX2_isCommand 269 = .ok (.bipush 10, 2) := dk_16 10 (dk_at dksX2_isCommand_8 12 rfl rfl)
theorem dX2_isCommand_271 : decode cX2_isCommand 271 = .ok (.istore_n 2, 1) := dk_61 (dk_at dksX2_isCommand_8 14 rfl rfl)
theorem dX2_isCommand_272 : decode cX2_isCommand 272 = .ok (.goto 15, 3) := dk_167 0 15 (dk_at dksX2_isCommand_8 15 rfl rfl)
theorem dX2_isCommand_275 : decode cX2_isCommand 275 = .ok (.aload_n 1, 1) := dk_43 (dk_at dksX2_isCommand_8 18 rfl rfl)
theorem dX2_isCommand_276 : decode cX2_isCommand 276 = .ok (.ldc 154, 2) := dk_18 154 (dk_at dksX2_isCommand_8 19 rfl rfl)
theorem dX2_isCommand_278 : decode cX2_isCommand 278 = .ok (.invokevirtual 118, 3) := dk_182 0 118 (dk_at dksX2_isCommand_8 21 rfl rfl)
theorem dX2_isCommand_281 : decode cX2_isCommand 281 = .ok (.ifCond .eq 6, 3) := dk_153 0 6 (dk_at dksX2_isCommand_9 0 rfl rfl)
theorem dX2_isCommand_284 : decode cX2_isCommand 284 = .ok (.bipush 11, 2) := dk_16 11 (dk_at dksX2_isCommand_9 3 rfl rfl)
theorem dX2_isCommand_286 : decode cX2_isCommand 286 = .ok (.istore_n 2, 1) := dk_61 (dk_at dksX2_isCommand_9 5 rfl rfl)
theorem dX2_isCommand_287 : decode cX2_isCommand 287 = .ok (.iload_n 2, 1) := dk_28 (dk_at dksX2_isCommand_9 6 rfl rfl)
theorem dX2_isCommand_288 : decode cX2_isCommand 288 = .ok (.tableswitch 68 0 11 #[64, 64, 64, 64, 64, 64, 64, 64, 64, 64, 64, 64], 64) := by decide +kernel
theorem dX2_isCommand_352 : decode cX2_isCommand 352 = .ok (.iconst 1, 1) := dk_4 (dk_at dksX2_isCommand_11 0 rfl rfl)
theorem dX2_isCommand_353 : decode cX2_isCommand 353 = .ok (.goto 4, 3) := dk_167 0 4 (dk_at dksX2_isCommand_11 1 rfl rfl)
theorem dX2_isCommand_356 : decode cX2_isCommand 356 = .ok (.iconst 0, 1) := dk_3 (dk_at dksX2_isCommand_11 4 rfl rfl)
theorem dX2_isCommand_357 : decode cX2_isCommand 357 = .ok (.ireturn, 1) := dk_172 (dk_at dksX2_isCommand_11 5 rfl rfl)
abbrev cX2_build : ByteArray := prog_6_method_15_code
def yX2_build : MethodName := ⟨RX2, "build", "(Ljava/lang/String;)V"⟩
def dkwX2_build_10 : List UInt8 := [187, 0, 225, 89, 28, 29, 21, 4, 183, 0, 227, 185, 0, 206, 2, 0, 87, 177]
abbrev dktX2_build_10 : List UInt8 := dkwX2_build_10 ++ []
def dkwX2_build_9 : List UInt8 := [28, 182, 0, 222, 2, 160, 0, 7, 4, 167, 0, 4, 3, 182, 0, 122, 42, 180, 0, 29, 180, 0, 114]
abbrev dktX2_build_9 : List UInt8 := dkwX2_build_9 ++ dktX2_build_10
def dkwX2_build_8 : List UInt8 := [54, 4, 42, 42, 180, 0, 29, 180, 0, 114, 185, 0, 105, 1, 0, 16, 8, 162, 0, 19, 42, 180, 0, 29]
abbrev dktX2_build_8 : List UInt8 := dkwX2_build_8 ++ dktX2_build_9
def dkwX2_build_7 : List UInt8 := [167, 0, 87, 42, 182, 0, 209, 61, 42, 4, 16, 9, 182, 0, 110, 62, 42, 4, 16, 9, 182, 0, 110]
abbrev dktX2_build_7 : List UInt8 := dkwX2_build_7 ++ dktX2_build_8
def dkwX2_build_6 : List UInt8 := [180, 0, 29, 180, 0, 214, 187, 0, 217, 89, 28, 29, 21, 4, 183, 0, 219, 185, 0, 206, 2, 0, 87]
abbrev dktX2_build_6 : List UInt8 := dkwX2_build_6 ++ dktX2_build_7
def dkwX2_build_5 : List UInt8 := [180, 0, 214, 185, 0, 105, 1, 0, 16, 20, 162, 0, 7, 4, 167, 0, 4, 3, 182, 0, 122, 42]
abbrev dktX2_build_5 : List UInt8 := dkwX2_build_5 ++ dktX2_build_6
def dkwX2_build_4 : List UInt8 := [185, 0, 105, 1, 0, 182, 0, 211, 62, 42, 4, 16, 9, 182, 0, 110, 54, 4, 42, 42, 180, 0, 29]
abbrev dktX2_build_4 : List UInt8 := dkwX2_build_4 ++ dktX2_build_5
def dkwX2_build_3 : List UInt8 := [18, 134, 182, 0, 118, 153, 0, 88, 42, 182, 0, 209, 61, 42, 28, 42, 180, 0, 29, 180, 0, 101]
abbrev dktX2_build_3 : List UInt8 := dkwX2_build_3 ++ dktX2_build_4
def dkwX2_build_2 : List UInt8 := [180, 0, 29, 180, 0, 101, 187, 0, 201, 89, 28, 183, 0, 203, 185, 0, 206, 2, 0, 87, 167, 0, 181, 43]
abbrev dktX2_build_2 : List UInt8 := dkwX2_build_2 ++ dktX2_build_3
def dkwX2_build_1 : List UInt8 := [180, 0, 101, 185, 0, 105, 1, 0, 16, 10, 162, 0, 7, 4, 167, 0, 4, 3, 182, 0, 122, 42]
abbrev dktX2_build_1 : List UInt8 := dkwX2_build_1 ++ dktX2_build_2
def dkwX2_build_0 : List UInt8 := [43, 18, 132, 182, 0, 118, 153, 0, 61, 42, 3, 16, 9, 182, 0, 110, 61, 42, 42, 180, 0, 29]
abbrev dktX2_build_0 : List UInt8 := dkwX2_build_0 ++ dktX2_build_1
theorem dksX2_build_0 : cX2_build.data.toList.drop 0 = dktX2_build_0 := by decide +kernel
theorem dksX2_build_1 : cX2_build.data.toList.drop 22 = dktX2_build_1 := dk_seg dksX2_build_0 22 rfl rfl
theorem dksX2_build_2 : cX2_build.data.toList.drop 44 = dktX2_build_2 := dk_seg dksX2_build_1 22 rfl rfl
theorem dksX2_build_3 : cX2_build.data.toList.drop 68 = dktX2_build_3 := dk_seg dksX2_build_2 24 rfl rfl
theorem dksX2_build_4 : cX2_build.data.toList.drop 90 = dktX2_build_4 := dk_seg dksX2_build_3 22 rfl rfl
theorem dksX2_build_5 : cX2_build.data.toList.drop 113 = dktX2_build_5 := dk_seg dksX2_build_4 23 rfl rfl
theorem dksX2_build_6 : cX2_build.data.toList.drop 135 = dktX2_build_6 := dk_seg dksX2_build_5 22 rfl rfl
theorem dksX2_build_7 : cX2_build.data.toList.drop 158 = dktX2_build_7 := dk_seg dksX2_build_6 23 rfl rfl
theorem dksX2_build_8 : cX2_build.data.toList.drop 181 = dktX2_build_8 := dk_seg dksX2_build_7 23 rfl rfl
theorem dksX2_build_9 : cX2_build.data.toList.drop 205 = dktX2_build_9 := dk_seg dksX2_build_8 24 rfl rfl
theorem dksX2_build_10 : cX2_build.data.toList.drop 228 = dktX2_build_10 := dk_seg dksX2_build_9 23 rfl rfl
theorem dX2_build_0 : decode cX2_build 0 = .ok (.aload_n 1, 1) := dk_43 (dk_at dksX2_build_0 0 rfl rfl)
theorem dX2_build_1 : decode cX2_build 1 = .ok (.ldc 132, 2) := dk_18 132 (dk_at dksX2_build_0 1 rfl rfl)
theorem dX2_build_3 : decode cX2_build 3 = .ok (.invokevirtual 118, 3) := dk_182 0 118 (dk_at dksX2_build_0 3 rfl rfl)
theorem dX2_build_6 : decode cX2_build 6 = .ok (.ifCond .eq 61, 3) := dk_153 0 61 (dk_at dksX2_build_0 6 rfl rfl)
theorem dX2_build_9 : decode cX2_build 9 = .ok (.aload_n 0, 1) := dk_42 (dk_at dksX2_build_0 9 rfl rfl)
theorem dX2_build_10 : decode cX2_build 10 = .ok (.iconst 0, 1) := dk_3 (dk_at dksX2_build_0 10 rfl rfl)
theorem dX2_build_11 : decode cX2_build 11 = .ok (.bipush 9, 2) := dk_16 9 (dk_at dksX2_build_0 11 rfl rfl)
theorem dX2_build_13 : decode cX2_build 13 = .ok (.invokevirtual 110, 3) := dk_182 0 110 (dk_at dksX2_build_0 13 rfl rfl)
theorem dX2_build_16 : decode cX2_build 16 = .ok (.istore_n 2, 1) := dk_61 (dk_at dksX2_build_0 16 rfl rfl)
theorem dX2_build_17 : decode cX2_build 17 = .ok (.aload_n 0, 1) := dk_42 (dk_at dksX2_build_0 17 rfl rfl)
theorem dX2_build_18 : decode cX2_build 18 = .ok (.aload_n 0, 1) := dk_42 (dk_at dksX2_build_0 18 rfl rfl)
theorem dX2_build_19 : decode cX2_build 19 = .ok (.getfield 29, 3) := dk_180 0 29 (dk_at dksX2_build_0 19 rfl rfl)
theorem dX2_build_22 : decode cX2_build 22 = .ok (.getfield 101, 3) := dk_180 0 101 (dk_at dksX2_build_1 0 rfl rfl)
theorem dX2_build_25 : decode cX2_build 25 = .ok (.invokeinterface 105 1, 5) := by decide +kernel
theorem dX2_build_30 : decode cX2_build 30 = .ok (.bipush 10, 2) := dk_16 10 (dk_at dksX2_build_1 8 rfl rfl)
theorem dX2_build_32 : decode cX2_build 32 = .ok (.if_icmp .ge 7, 3) := dk_162 0 7 (dk_at dksX2_build_1 10 rfl rfl)
theorem dX2_build_35 : decode cX2_build 35 = .ok (.iconst 1, 1) := dk_4 (dk_at dksX2_build_1 13 rfl rfl)
theorem dX2_build_36 : decode cX2_build 36 = .ok (.goto 4, 3) := dk_167 0 4 (dk_at dksX2_build_1 14 rfl rfl)
theorem dX2_build_39 : decode cX2_build 39 = .ok (.iconst 0, 1) := dk_3 (dk_at dksX2_build_1 17 rfl rfl)
theorem dX2_build_40 : decode cX2_build 40 = .ok (.invokevirtual 122, 3) := dk_182 0 122 (dk_at dksX2_build_1 18 rfl rfl)
theorem dX2_build_43 : decode cX2_build 43 = .ok (.aload_n 0, 1) := dk_42 (dk_at dksX2_build_1 21 rfl rfl)
theorem dX2_build_44 : decode cX2_build 44 = .ok (.getfield 29, 3) := dk_180 0 29 (dk_at dksX2_build_2 0 rfl rfl)
theorem dX2_build_47 : decode cX2_build 47 = .ok (.getfield 101, 3) := dk_180 0 101 (dk_at dksX2_build_2 3 rfl rfl)
theorem dX2_build_50 : decode cX2_build 50 = .ok (.new 201, 3) := dk_187 0 201 (dk_at dksX2_build_2 6 rfl rfl)
theorem dX2_build_53 : decode cX2_build 53 = .ok (.dup, 1) := dk_89 (dk_at dksX2_build_2 9 rfl rfl)
theorem dX2_build_54 : decode cX2_build 54 = .ok (.iload_n 2, 1) := dk_28 (dk_at dksX2_build_2 10 rfl rfl)
theorem dX2_build_55 : decode cX2_build 55 = .ok (.invokespecial 203, 3) := dk_183 0 203 (dk_at dksX2_build_2 11 rfl rfl)
theorem dX2_build_58 : decode cX2_build 58 = .ok (.invokeinterface 206 2, 5) := by decide +kernel
theorem dX2_build_63 : decode cX2_build 63 = .ok (.pop, 1) := dk_87 (dk_at dksX2_build_2 19 rfl rfl)
theorem dX2_build_64 : decode cX2_build 64 = .ok (.goto 181, 3) := dk_167 0 181 (dk_at dksX2_build_2 20 rfl rfl)
theorem dX2_build_67 : decode cX2_build 67 = .ok (.aload_n 1, 1) := dk_43 (dk_at dksX2_build_2 23 rfl rfl)
theorem dX2_build_68 : decode cX2_build 68 = .ok (.ldc 134, 2) := dk_18 134 (dk_at dksX2_build_3 0 rfl rfl)
theorem dX2_build_70 : decode cX2_build 70 = .ok (.invokevirtual 118, 3) := dk_182 0 118 (dk_at dksX2_build_3 2 rfl rfl)
theorem dX2_build_73 : decode cX2_build 73 = .ok (.ifCond .eq 88, 3) := dk_153 0 88 (dk_at dksX2_build_3 5 rfl rfl)
theorem dX2_build_76 : decode cX2_build 76 = .ok (.aload_n 0, 1) := dk_42 (dk_at dksX2_build_3 8 rfl rfl)
theorem dX2_build_77 : decode cX2_build 77 = .ok (.invokevirtual 209, 3) := dk_182 0 209 (dk_at dksX2_build_3 9 rfl rfl)
theorem dX2_build_80 : decode cX2_build 80 = .ok (.istore_n 2, 1) := dk_61 (dk_at dksX2_build_3 12 rfl rfl)
theorem dX2_build_81 : decode cX2_build 81 = .ok (.aload_n 0, 1) := dk_42 (dk_at dksX2_build_3 13 rfl rfl)
theorem dX2_build_82 : decode cX2_build 82 = .ok (.iload_n 2, 1) := dk_28 (dk_at dksX2_build_3 14 rfl rfl)
theorem dX2_build_83 : decode cX2_build 83 = .ok (.aload_n 0, 1) := dk_42 (dk_at dksX2_build_3 15 rfl rfl)
theorem dX2_build_84 : decode cX2_build 84 = .ok (.getfield 29, 3) := dk_180 0 29 (dk_at dksX2_build_3 16 rfl rfl)
theorem dX2_build_87 : decode cX2_build 87 = .ok (.getfield 101, 3) := dk_180 0 101 (dk_at dksX2_build_3 19 rfl rfl)
theorem dX2_build_90 : decode cX2_build 90 = .ok (.invokeinterface 105 1, 5) := by decide +kernel
theorem dX2_build_95 : decode cX2_build 95 = .ok (.invokevirtual 211, 3) := dk_182 0 211 (dk_at dksX2_build_4 5 rfl rfl)
theorem dX2_build_98 : decode cX2_build 98 = .ok (.istore_n 3, 1) := dk_62 (dk_at dksX2_build_4 8 rfl rfl)
theorem dX2_build_99 : decode cX2_build 99 = .ok (.aload_n 0, 1) := dk_42 (dk_at dksX2_build_4 9 rfl rfl)
theorem dX2_build_100 : decode cX2_build 100 = .ok (.iconst 1, 1) := dk_4 (dk_at dksX2_build_4 10 rfl rfl)
theorem dX2_build_101 : decode cX2_build 101 = .ok (.bipush 9, 2) := dk_16 9 (dk_at dksX2_build_4 11 rfl rfl)
theorem dX2_build_103 : decode cX2_build 103 = .ok (.invokevirtual 110, 3) := dk_182 0 110 (dk_at dksX2_build_4 13 rfl rfl)
theorem dX2_build_106 : decode cX2_build 106 = .ok (.istore 4, 2) := dk_54 4 (dk_at dksX2_build_4 16 rfl rfl)
theorem dX2_build_108 : decode cX2_build 108 = .ok (.aload_n 0, 1) := dk_42 (dk_at dksX2_build_4 18 rfl rfl)
theorem dX2_build_109 : decode cX2_build 109 = .ok (.aload_n 0, 1) := dk_42 (dk_at dksX2_build_4 19 rfl rfl)
theorem dX2_build_110 : decode cX2_build 110 = .ok (.getfield 29, 3) := dk_180 0 29 (dk_at dksX2_build_4 20 rfl rfl)
theorem dX2_build_113 : decode cX2_build 113 = .ok (.getfield 214, 3) := dk_180 0 214 (dk_at dksX2_build_5 0 rfl rfl)
theorem dX2_build_116 : decode cX2_build 116 = .ok (.invokeinterface 105 1, 5) := by decide +kernel
theorem dX2_build_121 : decode cX2_build 121 = .ok (.bipush 20, 2) := dk_16 20 (dk_at dksX2_build_5 8 rfl rfl)
theorem dX2_build_123 : decode cX2_build 123 = .ok (.if_icmp .ge 7, 3) := dk_162 0 7 (dk_at dksX2_build_5 10 rfl rfl)
theorem dX2_build_126 : decode cX2_build 126 = .ok (.iconst 1, 1) := dk_4 (dk_at dksX2_build_5 13 rfl rfl)
theorem dX2_build_127 : decode cX2_build 127 = .ok (.goto 4, 3) := dk_167 0 4 (dk_at dksX2_build_5 14 rfl rfl)
theorem dX2_build_130 : decode cX2_build 130 = .ok (.iconst 0, 1) := dk_3 (dk_at dksX2_build_5 17 rfl rfl)
theorem dX2_build_131 : decode cX2_build 131 = .ok (.invokevirtual 122, 3) := dk_182 0 122 (dk_at dksX2_build_5 18 rfl rfl)
theorem dX2_build_134 : decode cX2_build 134 = .ok (.aload_n 0, 1) := dk_42 (dk_at dksX2_build_5 21 rfl rfl)
theorem dX2_build_135 : decode cX2_build 135 = .ok (.getfield 29, 3) := dk_180 0 29 (dk_at dksX2_build_6 0 rfl rfl)
theorem dX2_build_138 : decode cX2_build 138 = .ok (.getfield 214, 3) := dk_180 0 214 (dk_at dksX2_build_6 3 rfl rfl)
theorem dX2_build_141 : decode cX2_build 141 = .ok (.new 217, 3) := dk_187 0 217 (dk_at dksX2_build_6 6 rfl rfl)
theorem dX2_build_144 : decode cX2_build 144 = .ok (.dup, 1) := dk_89 (dk_at dksX2_build_6 9 rfl rfl)
theorem dX2_build_145 : decode cX2_build 145 = .ok (.iload_n 2, 1) := dk_28 (dk_at dksX2_build_6 10 rfl rfl)
theorem dX2_build_146 : decode cX2_build 146 = .ok (.iload_n 3, 1) := dk_29 (dk_at dksX2_build_6 11 rfl rfl)
theorem dX2_build_147 : decode cX2_build 147 = .ok (.iload 4, 2) := dk_21 4 (dk_at dksX2_build_6 12 rfl rfl)
theorem dX2_build_149 : decode cX2_build 149 = .ok (.invokespecial 219, 3) := dk_183 0 219 (dk_at dksX2_build_6 14 rfl rfl)
theorem dX2_build_152 : decode cX2_build 152 = .ok (.invokeinterface 206 2, 5) := by decide +kernel
theorem dX2_build_157 : decode cX2_build 157 = .ok (.pop, 1) := dk_87 (dk_at dksX2_build_6 22 rfl rfl)
theorem dX2_build_158 : decode cX2_build 158 = .ok (.goto 87, 3) := dk_167 0 87 (dk_at dksX2_build_7 0 rfl rfl)
theorem dX2_build_161 : decode cX2_build 161 = .ok (.aload_n 0, 1) := dk_42 (dk_at dksX2_build_7 3 rfl rfl)
theorem dX2_build_162 : decode cX2_build 162 = .ok (.invokevirtual 209, 3) := dk_182 0 209 (dk_at dksX2_build_7 4 rfl rfl)
theorem dX2_build_165 : decode cX2_build 165 = .ok (.istore_n 2, 1) := dk_61 (dk_at dksX2_build_7 7 rfl rfl)
theorem dX2_build_166 : decode cX2_build 166 = .ok (.aload_n 0, 1) := dk_42 (dk_at dksX2_build_7 8 rfl rfl)
theorem dX2_build_167 : decode cX2_build 167 = .ok (.iconst 1, 1) := dk_4 (dk_at dksX2_build_7 9 rfl rfl)
theorem dX2_build_168 : decode cX2_build 168 = .ok (.bipush 9, 2) := dk_16 9 (dk_at dksX2_build_7 10 rfl rfl)
theorem dX2_build_170 : decode cX2_build 170 = .ok (.invokevirtual 110, 3) := dk_182 0 110 (dk_at dksX2_build_7 12 rfl rfl)
theorem dX2_build_173 : decode cX2_build 173 = .ok (.istore_n 3, 1) := dk_62 (dk_at dksX2_build_7 15 rfl rfl)
theorem dX2_build_174 : decode cX2_build 174 = .ok (.aload_n 0, 1) := dk_42 (dk_at dksX2_build_7 16 rfl rfl)
theorem dX2_build_175 : decode cX2_build 175 = .ok (.iconst 1, 1) := dk_4 (dk_at dksX2_build_7 17 rfl rfl)
theorem dX2_build_176 : decode cX2_build 176 = .ok (.bipush 9, 2) := dk_16 9 (dk_at dksX2_build_7 18 rfl rfl)
theorem dX2_build_178 : decode cX2_build 178 = .ok (.invokevirtual 110, 3) := dk_182 0 110 (dk_at dksX2_build_7 20 rfl rfl)
theorem dX2_build_181 : decode cX2_build 181 = .ok (.istore 4, 2) := dk_54 4 (dk_at dksX2_build_8 0 rfl rfl)
theorem dX2_build_183 : decode cX2_build 183 = .ok (.aload_n 0, 1) := dk_42 (dk_at dksX2_build_8 2 rfl rfl)
theorem dX2_build_184 : decode cX2_build 184 = .ok (.aload_n 0, 1) := dk_42 (dk_at dksX2_build_8 3 rfl rfl)
theorem dX2_build_185 : decode cX2_build 185 = .ok (.getfield 29, 3) := dk_180 0 29 (dk_at dksX2_build_8 4 rfl rfl)
theorem dX2_build_188 : decode cX2_build 188 = .ok (.getfield 114, 3) := dk_180 0 114 (dk_at dksX2_build_8 7 rfl rfl)
theorem dX2_build_191 : decode cX2_build 191 = .ok (.invokeinterface 105 1, 5) := by decide +kernel
theorem dX2_build_196 : decode cX2_build 196 = .ok (.bipush 8, 2) := dk_16 8 (dk_at dksX2_build_8 15 rfl rfl)
theorem dX2_build_198 : decode cX2_build 198 = .ok (.if_icmp .ge 19, 3) := dk_162 0 19 (dk_at dksX2_build_8 17 rfl rfl)
theorem dX2_build_201 : decode cX2_build 201 = .ok (.aload_n 0, 1) := dk_42 (dk_at dksX2_build_8 20 rfl rfl)
theorem dX2_build_202 : decode cX2_build 202 = .ok (.getfield 29, 3) := dk_180 0 29 (dk_at dksX2_build_8 21 rfl rfl)
theorem dX2_build_205 : decode cX2_build 205 = .ok (.iload_n 2, 1) := dk_28 (dk_at dksX2_build_9 0 rfl rfl)
theorem dX2_build_206 : decode cX2_build 206 = .ok (.invokevirtual 222, 3) := dk_182 0 222 (dk_at dksX2_build_9 1 rfl rfl)
theorem dX2_build_209 : decode cX2_build 209 = .ok (.iconst (-1), 1) := dk_2 (dk_at dksX2_build_9 4 rfl rfl)
theorem dX2_build_210 : decode cX2_build 210 = .ok (.if_icmp .ne 7, 3) := dk_160 0 7 (dk_at dksX2_build_9 5 rfl rfl)
theorem dX2_build_213 : decode cX2_build 213 = .ok (.iconst 1, 1) := dk_4 (dk_at dksX2_build_9 8 rfl rfl)
theorem dX2_build_214 : decode cX2_build 214 = .ok (.goto 4, 3) := dk_167 0 4 (dk_at dksX2_build_9 9 rfl rfl)
theorem dX2_build_217 : decode cX2_build 217 = .ok (.iconst 0, 1) := dk_3 (dk_at dksX2_build_9 12 rfl rfl)
theorem dX2_build_218 : decode cX2_build 218 = .ok (.invokevirtual 122, 3) := dk_182 0 122 (dk_at dksX2_build_9 13 rfl rfl)
theorem dX2_build_221 : decode cX2_build 221 = .ok (.aload_n 0, 1) := dk_42 (dk_at dksX2_build_9 16 rfl rfl)
theorem dX2_build_222 : decode cX2_build 222 = .ok (.getfield 29, 3) := dk_180 0 29 (dk_at dksX2_build_9 17 rfl rfl)
theorem dX2_build_225 : decode cX2_build 225 = .ok (.getfield 114, 3) := dk_180 0 114 (dk_at dksX2_build_9 20 rfl rfl)
theorem dX2_build_228 : decode cX2_build 228 = .ok (.new 225, 3) := dk_187 0 225 (dk_at dksX2_build_10 0 rfl rfl)
theorem dX2_build_231 : decode cX2_build 231 = .ok (.dup, 1) := dk_89 (dk_at dksX2_build_10 3 rfl rfl)
theorem dX2_build_232 : decode cX2_build 232 = .ok (.iload_n 2, 1) := dk_28 (dk_at dksX2_build_10 4 rfl rfl)
theorem dX2_build_233 : decode cX2_build 233 = .ok (.iload_n 3, 1) := dk_29 (dk_at dksX2_build_10 5 rfl rfl)
theorem dX2_build_234 : decode cX2_build 234 = .ok (.iload 4, 2) := dk_21 4 (dk_at dksX2_build_10 6 rfl rfl)
theorem dX2_build_236 : decode cX2_build 236 = .ok (.invokespecial 227, 3) := dk_183 0 227 (dk_at dksX2_build_10 8 rfl rfl)
theorem dX2_build_239 : decode cX2_build 239 = .ok (.invokeinterface 206 2, 5) := by decide +kernel
theorem dX2_build_244 : decode cX2_build 244 = .ok (.pop, 1) := dk_87 (dk_at dksX2_build_10 16 rfl rfl)
theorem dX2_build_245 : decode cX2_build 245 = .ok (.return_, 1) := dk_177 (dk_at dksX2_build_10 17 rfl rfl)
abbrev cX2_chimney : ByteArray := prog_6_method_8_code
def yX2_chimney : MethodName := ⟨RX2, "chimney", "()I"⟩
def dkwX2_chimney_0 : List UInt8 := [42, 3, 42, 180, 0, 29, 180, 0, 101, 185, 0, 105, 1, 0, 4, 100, 182, 0, 110, 172]
abbrev dktX2_chimney_0 : List UInt8 := dkwX2_chimney_0 ++ []
theorem dksX2_chimney_0 : cX2_chimney.data.toList.drop 0 = dktX2_chimney_0 := by decide +kernel
theorem dX2_chimney_0 : decode cX2_chimney 0 = .ok (.aload_n 0, 1) := dk_42 (dk_at dksX2_chimney_0 0 rfl rfl)
theorem dX2_chimney_1 : decode cX2_chimney 1 = .ok (.iconst 0, 1) := dk_3 (dk_at dksX2_chimney_0 1 rfl rfl)
theorem dX2_chimney_2 : decode cX2_chimney 2 = .ok (.aload_n 0, 1) := dk_42 (dk_at dksX2_chimney_0 2 rfl rfl)
theorem dX2_chimney_3 : decode cX2_chimney 3 = .ok (.getfield 29, 3) := dk_180 0 29 (dk_at dksX2_chimney_0 3 rfl rfl)
theorem dX2_chimney_6 : decode cX2_chimney 6 = .ok (.getfield 101, 3) := dk_180 0 101 (dk_at dksX2_chimney_0 6 rfl rfl)
theorem dX2_chimney_9 : decode cX2_chimney 9 = .ok (.invokeinterface 105 1, 5) := by decide +kernel
theorem dX2_chimney_14 : decode cX2_chimney 14 = .ok (.iconst 1, 1) := dk_4 (dk_at dksX2_chimney_0 14 rfl rfl)
theorem dX2_chimney_15 : decode cX2_chimney 15 = .ok (.isub, 1) := dk_100 (dk_at dksX2_chimney_0 15 rfl rfl)
theorem dX2_chimney_16 : decode cX2_chimney 16 = .ok (.invokevirtual 110, 3) := dk_182 0 110 (dk_at dksX2_chimney_0 16 rfl rfl)
theorem dX2_chimney_19 : decode cX2_chimney 19 = .ok (.ireturn, 1) := dk_172 (dk_at dksX2_chimney_0 19 rfl rfl)
abbrev cX2_numberBut : ByteArray := prog_6_method_10_code
def yX2_numberBut : MethodName := ⟨RX2, "numberBut", "(II)I"⟩
def dkwX2_numberBut_2 : List UInt8 := [172]
abbrev dktX2_numberBut_2 : List UInt8 := dkwX2_numberBut_2 ++ []
def dkwX2_numberBut_1 : List UInt8 := [180, 0, 86, 27, 159, 0, 7, 4, 167, 0, 4, 3, 5, 182, 0, 97, 42, 3, 28, 4, 100, 182, 0, 110]
abbrev dktX2_numberBut_1 : List UInt8 := dkwX2_numberBut_1 ++ dktX2_numberBut_2
def dkwX2_numberBut_0 : List UInt8 := [42, 42, 180, 0, 15, 178, 0, 89, 166, 0, 7, 4, 167, 0, 4, 3, 4, 182, 0, 97, 42, 42]
abbrev dktX2_numberBut_0 : List UInt8 := dkwX2_numberBut_0 ++ dktX2_numberBut_1
theorem dksX2_numberBut_0 : cX2_numberBut.data.toList.drop 0 = dktX2_numberBut_0 := by decide +kernel
theorem dksX2_numberBut_1 : cX2_numberBut.data.toList.drop 22 = dktX2_numberBut_1 := dk_seg dksX2_numberBut_0 22 rfl rfl
theorem dksX2_numberBut_2 : cX2_numberBut.data.toList.drop 46 = dktX2_numberBut_2 := dk_seg dksX2_numberBut_1 24 rfl rfl
theorem dX2_numberBut_0 : decode cX2_numberBut 0 = .ok (.aload_n 0, 1) := dk_42 (dk_at dksX2_numberBut_0 0 rfl rfl)
theorem dX2_numberBut_1 : decode cX2_numberBut 1 = .ok (.aload_n 0, 1) := dk_42 (dk_at dksX2_numberBut_0 1 rfl rfl)
theorem dX2_numberBut_2 : decode cX2_numberBut 2 = .ok (.getfield 15, 3) := dk_180 0 15 (dk_at dksX2_numberBut_0 2 rfl rfl)
theorem dX2_numberBut_5 : decode cX2_numberBut 5 = .ok (.getstatic 89, 3) := dk_178 0 89 (dk_at dksX2_numberBut_0 5 rfl rfl)
theorem dX2_numberBut_8 : decode cX2_numberBut 8 = .ok (.if_acmp .ne 7, 3) := dk_166 0 7 (dk_at dksX2_numberBut_0 8 rfl rfl)
theorem dX2_numberBut_11 : decode cX2_numberBut 11 = .ok (.iconst 1, 1) := dk_4 (dk_at dksX2_numberBut_0 11 rfl rfl)
theorem dX2_numberBut_12 : decode cX2_numberBut 12 = .ok (.goto 4, 3) := dk_167 0 4 (dk_at dksX2_numberBut_0 12 rfl rfl)
theorem dX2_numberBut_15 : decode cX2_numberBut 15 = .ok (.iconst 0, 1) := dk_3 (dk_at dksX2_numberBut_0 15 rfl rfl)
theorem dX2_numberBut_16 : decode cX2_numberBut 16 = .ok (.iconst 1, 1) := dk_4 (dk_at dksX2_numberBut_0 16 rfl rfl)
theorem dX2_numberBut_17 : decode cX2_numberBut 17 = .ok (.invokevirtual 97, 3) := dk_182 0 97 (dk_at dksX2_numberBut_0 17 rfl rfl)
theorem dX2_numberBut_20 : decode cX2_numberBut 20 = .ok (.aload_n 0, 1) := dk_42 (dk_at dksX2_numberBut_0 20 rfl rfl)
theorem dX2_numberBut_21 : decode cX2_numberBut 21 = .ok (.aload_n 0, 1) := dk_42 (dk_at dksX2_numberBut_0 21 rfl rfl)
theorem dX2_numberBut_22 : decode cX2_numberBut 22 = .ok (.getfield 86, 3) := dk_180 0 86 (dk_at dksX2_numberBut_1 0 rfl rfl)
theorem dX2_numberBut_25 : decode cX2_numberBut 25 = .ok (.iload_n 1, 1) := dk_27 (dk_at dksX2_numberBut_1 3 rfl rfl)
theorem dX2_numberBut_26 : decode cX2_numberBut 26 = .ok (.if_icmp .eq 7, 3) := dk_159 0 7 (dk_at dksX2_numberBut_1 4 rfl rfl)
theorem dX2_numberBut_29 : decode cX2_numberBut 29 = .ok (.iconst 1, 1) := dk_4 (dk_at dksX2_numberBut_1 7 rfl rfl)
theorem dX2_numberBut_30 : decode cX2_numberBut 30 = .ok (.goto 4, 3) := dk_167 0 4 (dk_at dksX2_numberBut_1 8 rfl rfl)
theorem dX2_numberBut_33 : decode cX2_numberBut 33 = .ok (.iconst 0, 1) := dk_3 (dk_at dksX2_numberBut_1 11 rfl rfl)
theorem dX2_numberBut_34 : decode cX2_numberBut 34 = .ok (.iconst 2, 1) := dk_5 (dk_at dksX2_numberBut_1 12 rfl rfl)
theorem dX2_numberBut_35 : decode cX2_numberBut 35 = .ok (.invokevirtual 97, 3) := dk_182 0 97 (dk_at dksX2_numberBut_1 13 rfl rfl)
theorem dX2_numberBut_38 : decode cX2_numberBut 38 = .ok (.aload_n 0, 1) := dk_42 (dk_at dksX2_numberBut_1 16 rfl rfl)
theorem dX2_numberBut_39 : decode cX2_numberBut 39 = .ok (.iconst 0, 1) := dk_3 (dk_at dksX2_numberBut_1 17 rfl rfl)
theorem dX2_numberBut_40 : decode cX2_numberBut 40 = .ok (.iload_n 2, 1) := dk_28 (dk_at dksX2_numberBut_1 18 rfl rfl)
theorem dX2_numberBut_41 : decode cX2_numberBut 41 = .ok (.iconst 1, 1) := dk_4 (dk_at dksX2_numberBut_1 19 rfl rfl)
theorem dX2_numberBut_42 : decode cX2_numberBut 42 = .ok (.isub, 1) := dk_100 (dk_at dksX2_numberBut_1 20 rfl rfl)
theorem dX2_numberBut_43 : decode cX2_numberBut 43 = .ok (.invokevirtual 110, 3) := dk_182 0 110 (dk_at dksX2_numberBut_1 21 rfl rfl)
theorem dX2_numberBut_46 : decode cX2_numberBut 46 = .ok (.ireturn, 1) := dk_172 (dk_at dksX2_numberBut_2 0 rfl rfl)
abbrev cX2_walk : ByteArray := prog_6_method_16_code
def yX2_walk : MethodName := ⟨RX2, "walk", "(Ljava/lang/String;)V"⟩
def dkwX2_walk_6 : List UInt8 := [182, 0, 122, 42, 180, 0, 29, 28, 29, 182, 0, 245, 87, 177]
abbrev dktX2_walk_6 : List UInt8 := dkwX2_walk_6 ++ []
def dkwX2_walk_5 : List UInt8 := [182, 0, 110, 62, 42, 42, 180, 0, 29, 28, 29, 182, 0, 242, 154, 0, 7, 4, 167, 0, 4, 3]
abbrev dktX2_walk_5 : List UInt8 := dkwX2_walk_5 ++ dktX2_walk_6
def dkwX2_walk_4 : List UInt8 := [182, 0, 240, 87, 167, 0, 54, 42, 3, 42, 180, 0, 29, 180, 0, 214, 185, 0, 105, 1, 0, 4, 100]
abbrev dktX2_walk_4 : List UInt8 := dkwX2_walk_4 ++ dktX2_walk_5
def dkwX2_walk_3 : List UInt8 := [180, 0, 29, 28, 182, 0, 237, 154, 0, 7, 4, 167, 0, 4, 3, 182, 0, 122, 42, 180, 0, 29, 28]
abbrev dktX2_walk_3 : List UInt8 := dkwX2_walk_3 ++ dktX2_walk_4
def dkwX2_walk_2 : List UInt8 := [192, 0, 201, 2, 181, 0, 235, 177, 42, 182, 0, 191, 61, 43, 18, 140, 182, 0, 118, 153, 0, 35, 42, 42]
abbrev dktX2_walk_2 : List UInt8 := dkwX2_walk_2 ++ dktX2_walk_3
def dkwX2_walk_1 : List UInt8 := [159, 0, 7, 4, 167, 0, 4, 3, 182, 0, 122, 42, 180, 0, 29, 180, 0, 101, 28, 185, 0, 231, 2, 0]
abbrev dktX2_walk_1 : List UInt8 := dkwX2_walk_1 ++ dktX2_walk_2
def dkwX2_walk_0 : List UInt8 := [43, 18, 142, 182, 0, 118, 153, 0, 50, 42, 182, 0, 209, 61, 42, 42, 180, 0, 29, 28, 182, 0, 228, 2]
abbrev dktX2_walk_0 : List UInt8 := dkwX2_walk_0 ++ dktX2_walk_1
theorem dksX2_walk_0 : cX2_walk.data.toList.drop 0 = dktX2_walk_0 := by decide +kernel
theorem dksX2_walk_1 : cX2_walk.data.toList.drop 24 = dktX2_walk_1 := dk_seg dksX2_walk_0 24 rfl rfl
theorem dksX2_walk_2 : cX2_walk.data.toList.drop 48 = dktX2_walk_2 := dk_seg dksX2_walk_1 24 rfl rfl
theorem dksX2_walk_3 : cX2_walk.data.toList.drop 72 = dktX2_walk_3 := dk_seg dksX2_walk_2 24 rfl rfl
theorem dksX2_walk_4 : cX2_walk.data.toList.drop 95 = dktX2_walk_4 := dk_seg dksX2_walk_3 23 rfl rfl
theorem dksX2_walk_5 : cX2_walk.data.toList.drop 118 = dktX2_walk_5 := dk_seg dksX2_walk_4 23 rfl rfl
theorem dksX2_walk_6 : cX2_walk.data.toList.drop 140 = dktX2_walk_6 := dk_seg dksX2_walk_5 22 rfl rfl
theorem dX2_walk_0 : decode cX2_walk 0 = .ok (.aload_n 1, 1) := dk_43 (dk_at dksX2_walk_0 0 rfl rfl)
theorem dX2_walk_1 : decode cX2_walk 1 = .ok (.ldc 142, 2) := dk_18 142 (dk_at dksX2_walk_0 1 rfl rfl)
theorem dX2_walk_3 : decode cX2_walk 3 = .ok (.invokevirtual 118, 3) := dk_182 0 118 (dk_at dksX2_walk_0 3 rfl rfl)
theorem dX2_walk_6 : decode cX2_walk 6 = .ok (.ifCond .eq 50, 3) := dk_153 0 50 (dk_at dksX2_walk_0 6 rfl rfl)
theorem dX2_walk_9 : decode cX2_walk 9 = .ok (.aload_n 0, 1) := dk_42 (dk_at dksX2_walk_0 9 rfl rfl)
theorem dX2_walk_10 : decode cX2_walk 10 = .ok (.invokevirtual 209, 3) := dk_182 0 209 (dk_at dksX2_walk_0 10 rfl rfl)
theorem dX2_walk_13 : decode cX2_walk 13 = .ok (.istore_n 2, 1) := dk_61 (dk_at dksX2_walk_0 13 rfl rfl)
theorem dX2_walk_14 : decode cX2_walk 14 = .ok (.aload_n 0, 1) := dk_42 (dk_at dksX2_walk_0 14 rfl rfl)
theorem dX2_walk_15 : decode cX2_walk 15 = .ok (.aload_n 0, 1) := dk_42 (dk_at dksX2_walk_0 15 rfl rfl)
theorem dX2_walk_16 : decode cX2_walk 16 = .ok (.getfield 29, 3) := dk_180 0 29 (dk_at dksX2_walk_0 16 rfl rfl)
theorem dX2_walk_19 : decode cX2_walk 19 = .ok (.iload_n 2, 1) := dk_28 (dk_at dksX2_walk_0 19 rfl rfl)
theorem dX2_walk_20 : decode cX2_walk 20 = .ok (.invokevirtual 228, 3) := dk_182 0 228 (dk_at dksX2_walk_0 20 rfl rfl)
theorem dX2_walk_23 : decode cX2_walk 23 = .ok (.iconst (-1), 1) := dk_2 (dk_at dksX2_walk_0 23 rfl rfl)
theorem dX2_walk_24 : decode cX2_walk 24 = .ok (.if_icmp .eq 7, 3) := dk_159 0 7 (dk_at dksX2_walk_1 0 rfl rfl)
theorem dX2_walk_27 : decode cX2_walk 27 = .ok (.iconst 1, 1) := dk_4 (dk_at dksX2_walk_1 3 rfl rfl)
theorem dX2_walk_28 : decode cX2_walk 28 = .ok (.goto 4, 3) := dk_167 0 4 (dk_at dksX2_walk_1 4 rfl rfl)
theorem dX2_walk_31 : decode cX2_walk 31 = .ok (.iconst 0, 1) := dk_3 (dk_at dksX2_walk_1 7 rfl rfl)
theorem dX2_walk_32 : decode cX2_walk 32 = .ok (.invokevirtual 122, 3) := dk_182 0 122 (dk_at dksX2_walk_1 8 rfl rfl)
theorem dX2_walk_35 : decode cX2_walk 35 = .ok (.aload_n 0, 1) := dk_42 (dk_at dksX2_walk_1 11 rfl rfl)
theorem dX2_walk_36 : decode cX2_walk 36 = .ok (.getfield 29, 3) := dk_180 0 29 (dk_at dksX2_walk_1 12 rfl rfl)
theorem dX2_walk_39 : decode cX2_walk 39 = .ok (.getfield 101, 3) := dk_180 0 101 (dk_at dksX2_walk_1 15 rfl rfl)
theorem dX2_walk_42 : decode cX2_walk 42 = .ok (.iload_n 2, 1) := dk_28 (dk_at dksX2_walk_1 18 rfl rfl)
theorem dX2_walk_43 : decode cX2_walk 43 = .ok (.invokeinterface 231 2, 5) := by decide +kernel
theorem dX2_walk_48 : decode cX2_walk 48 = .ok (.checkcast 201, 3) := dk_192 0 201 (dk_at dksX2_walk_2 0 rfl rfl)
theorem dX2_walk_51 : decode cX2_walk 51 = .ok (.iconst (-1), 1) := dk_2 (dk_at dksX2_walk_2 3 rfl rfl)
theorem dX2_walk_52 : decode cX2_walk 52 = .ok (.putfield 235, 3) := dk_181 0 235 (dk_at dksX2_walk_2 4 rfl rfl)
theorem dX2_walk_55 : decode cX2_walk 55 = .ok (.return_, 1) := dk_177 (dk_at dksX2_walk_2 7 rfl rfl)
theorem dX2_walk_56 : decode cX2_walk 56 = .ok (.aload_n 0, 1) := dk_42 (dk_at dksX2_walk_2 8 rfl rfl)
theorem dX2_walk_57 : decode cX2_walk 57 = .ok (.invokevirtual 191, 3) := dk_182 0 191 (dk_at dksX2_walk_2 9 rfl rfl)
theorem dX2_walk_60 : decode cX2_walk 60 = .ok (.istore_n 2, 1) := dk_61 (dk_at dksX2_walk_2 12 rfl rfl)
theorem dX2_walk_61 : decode cX2_walk 61 = .ok (.aload_n 1, 1) := dk_43 (dk_at dksX2_walk_2 13 rfl rfl)
theorem dX2_walk_62 : decode cX2_walk 62 = .ok (.ldc 140, 2) := dk_18 140 (dk_at dksX2_walk_2 14 rfl rfl)
theorem dX2_walk_64 : decode cX2_walk 64 = .ok (.invokevirtual 118, 3) := dk_182 0 118 (dk_at dksX2_walk_2 16 rfl rfl)
theorem dX2_walk_67 : decode cX2_walk 67 = .ok (.ifCond .eq 35, 3) := dk_153 0 35 (dk_at dksX2_walk_2 19 rfl rfl)
theorem dX2_walk_70 : decode cX2_walk 70 = .ok (.aload_n 0, 1) := dk_42 (dk_at dksX2_walk_2 22 rfl rfl)
theorem dX2_walk_71 : decode cX2_walk 71 = .ok (.aload_n 0, 1) := dk_42 (dk_at dksX2_walk_2 23 rfl rfl)
theorem dX2_walk_72 : decode cX2_walk 72 = .ok (.getfield 29, 3) := dk_180 0 29 (dk_at dksX2_walk_3 0 rfl rfl)
theorem dX2_walk_75 : decode cX2_walk 75 = .ok (.iload_n 2, 1) := dk_28 (dk_at dksX2_walk_3 3 rfl rfl)
theorem dX2_walk_76 : decode cX2_walk 76 = .ok (.invokevirtual 237, 3) := dk_182 0 237 (dk_at dksX2_walk_3 4 rfl rfl)
theorem dX2_walk_79 : decode cX2_walk 79 = .ok (.ifCond .ne 7, 3) := dk_154 0 7 (dk_at dksX2_walk_3 7 rfl rfl)
theorem dX2_walk_82 : decode cX2_walk 82 = .ok (.iconst 1, 1) := dk_4 (dk_at dksX2_walk_3 10 rfl rfl)
theorem dX2_walk_83 : decode cX2_walk 83 = .ok (.goto 4, 3) := dk_167 0 4 (dk_at dksX2_walk_3 11 rfl rfl)
theorem dX2_walk_86 : decode cX2_walk 86 = .ok (.iconst 0, 1) := dk_3 (dk_at dksX2_walk_3 14 rfl rfl)
theorem dX2_walk_87 : decode cX2_walk 87 = .ok (.invokevirtual 122, 3) := dk_182 0 122 (dk_at dksX2_walk_3 15 rfl rfl)
theorem dX2_walk_90 : decode cX2_walk 90 = .ok (.aload_n 0, 1) := dk_42 (dk_at dksX2_walk_3 18 rfl rfl)
theorem dX2_walk_91 : decode cX2_walk 91 = .ok (.getfield 29, 3) := dk_180 0 29 (dk_at dksX2_walk_3 19 rfl rfl)
theorem dX2_walk_94 : decode cX2_walk 94 = .ok (.iload_n 2, 1) := dk_28 (dk_at dksX2_walk_3 22 rfl rfl)
theorem dX2_walk_95 : decode cX2_walk 95 = .ok (.invokevirtual 240, 3) := dk_182 0 240 (dk_at dksX2_walk_4 0 rfl rfl)
theorem dX2_walk_98 : decode cX2_walk 98 = .ok (.pop, 1) := dk_87 (dk_at dksX2_walk_4 3 rfl rfl)
theorem dX2_walk_99 : decode cX2_walk 99 = .ok (.goto 54, 3) := dk_167 0 54 (dk_at dksX2_walk_4 4 rfl rfl)
theorem dX2_walk_102 : decode cX2_walk 102 = .ok (.aload_n 0, 1) := dk_42 (dk_at dksX2_walk_4 7 rfl rfl)
theorem dX2_walk_103 : decode cX2_walk 103 = .ok (.iconst 0, 1) := dk_3 (dk_at dksX2_walk_4 8 rfl rfl)
theorem dX2_walk_104 : decode cX2_walk 104 = .ok (.aload_n 0, 1) := dk_42 (dk_at dksX2_walk_4 9 rfl rfl)
theorem dX2_walk_105 : decode cX2_walk 105 = .ok (.getfield 29, 3) := dk_180 0 29 (dk_at dksX2_walk_4 10 rfl rfl)
theorem dX2_walk_108 : decode cX2_walk 108 = .ok (.getfield 214, 3) := dk_180 0 214 (dk_at dksX2_walk_4 13 rfl rfl)
theorem dX2_walk_111 : decode cX2_walk 111 = .ok (.invokeinterface 105 1, 5) := by decide +kernel
theorem dX2_walk_116 : decode cX2_walk 116 = .ok (.iconst 1, 1) := dk_4 (dk_at dksX2_walk_4 21 rfl rfl)
theorem dX2_walk_117 : decode cX2_walk 117 = .ok (.isub, 1) := dk_100 (dk_at dksX2_walk_4 22 rfl rfl)
theorem dX2_walk_118 : decode cX2_walk 118 = .ok (.invokevirtual 110, 3) := dk_182 0 110 (dk_at dksX2_walk_5 0 rfl rfl)
theorem dX2_walk_121 : decode cX2_walk 121 = .ok (.istore_n 3, 1) := dk_62 (dk_at dksX2_walk_5 3 rfl rfl)
theorem dX2_walk_122 : decode cX2_walk 122 = .ok (.aload_n 0, 1) := dk_42 (dk_at dksX2_walk_5 4 rfl rfl)
theorem dX2_walk_123 : decode cX2_walk 123 = .ok (.aload_n 0, 1) := dk_42 (dk_at dksX2_walk_5 5 rfl rfl)
theorem dX2_walk_124 : decode cX2_walk 124 = .ok (.getfield 29, 3) := dk_180 0 29 (dk_at dksX2_walk_5 6 rfl rfl)
theorem dX2_walk_127 : decode cX2_walk 127 = .ok (.iload_n 2, 1) := dk_28 (dk_at dksX2_walk_5 9 rfl rfl)
theorem dX2_walk_128 : decode cX2_walk 128 = .ok (.iload_n 3, 1) := dk_29 (dk_at dksX2_walk_5 10 rfl rfl)
theorem dX2_walk_129 : decode cX2_walk 129 = .ok (.invokevirtual 242, 3) := dk_182 0 242 (dk_at dksX2_walk_5 11 rfl rfl)
theorem dX2_walk_132 : decode cX2_walk 132 = .ok (.ifCond .ne 7, 3) := dk_154 0 7 (dk_at dksX2_walk_5 14 rfl rfl)
theorem dX2_walk_135 : decode cX2_walk 135 = .ok (.iconst 1, 1) := dk_4 (dk_at dksX2_walk_5 17 rfl rfl)
theorem dX2_walk_136 : decode cX2_walk 136 = .ok (.goto 4, 3) := dk_167 0 4 (dk_at dksX2_walk_5 18 rfl rfl)
theorem dX2_walk_139 : decode cX2_walk 139 = .ok (.iconst 0, 1) := dk_3 (dk_at dksX2_walk_5 21 rfl rfl)
theorem dX2_walk_140 : decode cX2_walk 140 = .ok (.invokevirtual 122, 3) := dk_182 0 122 (dk_at dksX2_walk_6 0 rfl rfl)
theorem dX2_walk_143 : decode cX2_walk 143 = .ok (.aload_n 0, 1) := dk_42 (dk_at dksX2_walk_6 3 rfl rfl)
theorem dX2_walk_144 : decode cX2_walk 144 = .ok (.getfield 29, 3) := dk_180 0 29 (dk_at dksX2_walk_6 4 rfl rfl)
theorem dX2_walk_147 : decode cX2_walk 147 = .ok (.iload_n 2, 1) := dk_28 (dk_at dksX2_walk_6 7 rfl rfl)
theorem dX2_walk_148 : decode cX2_walk 148 = .ok (.iload_n 3, 1) := dk_29 (dk_at dksX2_walk_6 8 rfl rfl)
theorem dX2_walk_149 : decode cX2_walk 149 = .ok (.invokevirtual 245, 3) := dk_182 0 245 (dk_at dksX2_walk_6 9 rfl rfl)
theorem dX2_walk_152 : decode cX2_walk 152 = .ok (.pop, 1) := dk_87 (dk_at dksX2_walk_6 12 rfl rfl)
theorem dX2_walk_153 : decode cX2_walk 153 = .ok (.return_, 1) := dk_177 (dk_at dksX2_walk_6 13 rfl rfl)
abbrev cX2_cat : ByteArray := prog_6_method_9_code
def yX2_cat : MethodName := ⟨RX2, "cat", "()I"⟩
def dkwX2_cat_0 : List UInt8 := [42, 3, 42, 180, 0, 29, 180, 0, 114, 185, 0, 105, 1, 0, 4, 100, 182, 0, 110, 172]
abbrev dktX2_cat_0 : List UInt8 := dkwX2_cat_0 ++ []
theorem dksX2_cat_0 : cX2_cat.data.toList.drop 0 = dktX2_cat_0 := by decide +kernel
theorem dX2_cat_0 : decode cX2_cat 0 = .ok (.aload_n 0, 1) := dk_42 (dk_at dksX2_cat_0 0 rfl rfl)
theorem dX2_cat_1 : decode cX2_cat 1 = .ok (.iconst 0, 1) := dk_3 (dk_at dksX2_cat_0 1 rfl rfl)
theorem dX2_cat_2 : decode cX2_cat 2 = .ok (.aload_n 0, 1) := dk_42 (dk_at dksX2_cat_0 2 rfl rfl)
theorem dX2_cat_3 : decode cX2_cat 3 = .ok (.getfield 29, 3) := dk_180 0 29 (dk_at dksX2_cat_0 3 rfl rfl)
theorem dX2_cat_6 : decode cX2_cat 6 = .ok (.getfield 114, 3) := dk_180 0 114 (dk_at dksX2_cat_0 6 rfl rfl)
theorem dX2_cat_9 : decode cX2_cat 9 = .ok (.invokeinterface 105 1, 5) := by decide +kernel
theorem dX2_cat_14 : decode cX2_cat 14 = .ok (.iconst 1, 1) := dk_4 (dk_at dksX2_cat_0 14 rfl rfl)
theorem dX2_cat_15 : decode cX2_cat 15 = .ok (.isub, 1) := dk_100 (dk_at dksX2_cat_0 15 rfl rfl)
theorem dX2_cat_16 : decode cX2_cat 16 = .ok (.invokevirtual 110, 3) := dk_182 0 110 (dk_at dksX2_cat_0 16 rfl rfl)
theorem dX2_cat_19 : decode cX2_cat 19 = .ok (.ireturn, 1) := dk_172 (dk_at dksX2_cat_0 19 rfl rfl)
abbrev cX2_meet : ByteArray := prog_6_method_17_code
def yX2_meet : MethodName := ⟨RX2, "meet", "(Ljava/lang/String;)V"⟩
def dkwX2_meet_4 : List UInt8 := [182, 0, 253, 182, 0, 122, 42, 180, 0, 29, 28, 29, 21, 4, 21, 5, 182, 1, 1, 87, 177]
abbrev dktX2_meet_4 : List UInt8 := dkwX2_meet_4 ++ []
def dkwX2_meet_3 : List UInt8 := [182, 0, 110, 54, 4, 42, 4, 16, 20, 182, 0, 110, 54, 5, 42, 42, 180, 0, 29, 28, 29, 21, 4]
abbrev dktX2_meet_3 : List UInt8 := dkwX2_meet_3 ++ dktX2_meet_4
def dkwX2_meet_2 : List UInt8 := [167, 0, 4, 3, 182, 0, 122, 42, 180, 0, 29, 28, 29, 182, 0, 250, 87, 167, 0, 50, 42, 4, 16, 9]
abbrev dktX2_meet_2 : List UInt8 := dkwX2_meet_2 ++ dktX2_meet_3
def dkwX2_meet_1 : List UInt8 := [18, 144, 182, 0, 118, 153, 0, 37, 42, 42, 180, 0, 29, 28, 29, 182, 0, 247, 154, 0, 7, 4]
abbrev dktX2_meet_1 : List UInt8 := dkwX2_meet_1 ++ dktX2_meet_2
def dkwX2_meet_0 : List UInt8 := [42, 182, 0, 191, 61, 42, 28, 42, 180, 0, 29, 180, 0, 114, 185, 0, 105, 1, 0, 182, 0, 211, 62, 43]
abbrev dktX2_meet_0 : List UInt8 := dkwX2_meet_0 ++ dktX2_meet_1
theorem dksX2_meet_0 : cX2_meet.data.toList.drop 0 = dktX2_meet_0 := by decide +kernel
theorem dksX2_meet_1 : cX2_meet.data.toList.drop 24 = dktX2_meet_1 := dk_seg dksX2_meet_0 24 rfl rfl
theorem dksX2_meet_2 : cX2_meet.data.toList.drop 46 = dktX2_meet_2 := dk_seg dksX2_meet_1 22 rfl rfl
theorem dksX2_meet_3 : cX2_meet.data.toList.drop 70 = dktX2_meet_3 := dk_seg dksX2_meet_2 24 rfl rfl
theorem dksX2_meet_4 : cX2_meet.data.toList.drop 93 = dktX2_meet_4 := dk_seg dksX2_meet_3 23 rfl rfl
theorem dX2_meet_0 : decode cX2_meet 0 = .ok (.aload_n 0, 1) := dk_42 (dk_at dksX2_meet_0 0 rfl rfl)
theorem dX2_meet_1 : decode cX2_meet 1 = .ok (.invokevirtual 191, 3) := dk_182 0 191 (dk_at dksX2_meet_0 1 rfl rfl)
theorem dX2_meet_4 : decode cX2_meet 4 = .ok (.istore_n 2, 1) := dk_61 (dk_at dksX2_meet_0 4 rfl rfl)
theorem dX2_meet_5 : decode cX2_meet 5 = .ok (.aload_n 0, 1) := dk_42 (dk_at dksX2_meet_0 5 rfl rfl)
theorem dX2_meet_6 : decode cX2_meet 6 = .ok (.iload_n 2, 1) := dk_28 (dk_at dksX2_meet_0 6 rfl rfl)
theorem dX2_meet_7 : decode cX2_meet 7 = .ok (.aload_n 0, 1) := dk_42 (dk_at dksX2_meet_0 7 rfl rfl)
theorem dX2_meet_8 : decode cX2_meet 8 = .ok (.getfield 29, 3) := dk_180 0 29 (dk_at dksX2_meet_0 8 rfl rfl)
theorem dX2_meet_11 : decode cX2_meet 11 = .ok (.getfield 114, 3) := dk_180 0 114 (dk_at dksX2_meet_0 11 rfl rfl)
theorem dX2_meet_14 : decode cX2_meet 14 = .ok (.invokeinterface 105 1, 5) := by decide +kernel
theorem dX2_meet_19 : decode cX2_meet 19 = .ok (.invokevirtual 211, 3) := dk_182 0 211 (dk_at dksX2_meet_0 19 rfl rfl)
theorem dX2_meet_22 : decode cX2_meet 22 = .ok (.istore_n 3, 1) := dk_62 (dk_at dksX2_meet_0 22 rfl rfl)
theorem dX2_meet_23 : decode cX2_meet 23 = .ok (.aload_n 1, 1) := dk_43 (dk_at dksX2_meet_0 23 rfl rfl)
theorem dX2_meet_24 : decode cX2_meet 24 = .ok (.ldc 144, 2) := dk_18 144 (dk_at dksX2_meet_1 0 rfl rfl)
theorem dX2_meet_26 : decode cX2_meet 26 = .ok (.invokevirtual 118, 3) := dk_182 0 118 (dk_at dksX2_meet_1 2 rfl rfl)
theorem dX2_meet_29 : decode cX2_meet 29 = .ok (.ifCond .eq 37, 3) := dk_153 0 37 (dk_at dksX2_meet_1 5 rfl rfl)
theorem dX2_meet_32 : decode cX2_meet 32 = .ok (.aload_n 0, 1) := dk_42 (dk_at dksX2_meet_1 8 rfl rfl)
theorem dX2_meet_33 : decode cX2_meet 33 = .ok (.aload_n 0, 1) := dk_42 (dk_at dksX2_meet_1 9 rfl rfl)
theorem dX2_meet_34 : decode cX2_meet 34 = .ok (.getfield 29, 3) := dk_180 0 29 (dk_at dksX2_meet_1 10 rfl rfl)
theorem dX2_meet_37 : decode cX2_meet 37 = .ok (.iload_n 2, 1) := dk_28 (dk_at dksX2_meet_1 13 rfl rfl)
theorem dX2_meet_38 : decode cX2_meet 38 = .ok (.iload_n 3, 1) := dk_29 (dk_at dksX2_meet_1 14 rfl rfl)
theorem dX2_meet_39 : decode cX2_meet 39 = .ok (.invokevirtual 247, 3) := dk_182 0 247 (dk_at dksX2_meet_1 15 rfl rfl)
theorem dX2_meet_42 : decode cX2_meet 42 = .ok (.ifCond .ne 7, 3) := dk_154 0 7 (dk_at dksX2_meet_1 18 rfl rfl)
theorem dX2_meet_45 : decode cX2_meet 45 = .ok (.iconst 1, 1) := dk_4 (dk_at dksX2_meet_1 21 rfl rfl)
theorem dX2_meet_46 : decode cX2_meet 46 = .ok (.goto 4, 3) := dk_167 0 4 (dk_at dksX2_meet_2 0 rfl rfl)
theorem dX2_meet_49 : decode cX2_meet 49 = .ok (.iconst 0, 1) := dk_3 (dk_at dksX2_meet_2 3 rfl rfl)
theorem dX2_meet_50 : decode cX2_meet 50 = .ok (.invokevirtual 122, 3) := dk_182 0 122 (dk_at dksX2_meet_2 4 rfl rfl)
theorem dX2_meet_53 : decode cX2_meet 53 = .ok (.aload_n 0, 1) := dk_42 (dk_at dksX2_meet_2 7 rfl rfl)
theorem dX2_meet_54 : decode cX2_meet 54 = .ok (.getfield 29, 3) := dk_180 0 29 (dk_at dksX2_meet_2 8 rfl rfl)
theorem dX2_meet_57 : decode cX2_meet 57 = .ok (.iload_n 2, 1) := dk_28 (dk_at dksX2_meet_2 11 rfl rfl)
theorem dX2_meet_58 : decode cX2_meet 58 = .ok (.iload_n 3, 1) := dk_29 (dk_at dksX2_meet_2 12 rfl rfl)
theorem dX2_meet_59 : decode cX2_meet 59 = .ok (.invokevirtual 250, 3) := dk_182 0 250 (dk_at dksX2_meet_2 13 rfl rfl)
theorem dX2_meet_62 : decode cX2_meet 62 = .ok (.pop, 1) := dk_87 (dk_at dksX2_meet_2 16 rfl rfl)
theorem dX2_meet_63 : decode cX2_meet 63 = .ok (.goto 50, 3) := dk_167 0 50 (dk_at dksX2_meet_2 17 rfl rfl)
theorem dX2_meet_66 : decode cX2_meet 66 = .ok (.aload_n 0, 1) := dk_42 (dk_at dksX2_meet_2 20 rfl rfl)
theorem dX2_meet_67 : decode cX2_meet 67 = .ok (.iconst 1, 1) := dk_4 (dk_at dksX2_meet_2 21 rfl rfl)
theorem dX2_meet_68 : decode cX2_meet 68 = .ok (.bipush 9, 2) := dk_16 9 (dk_at dksX2_meet_2 22 rfl rfl)
theorem dX2_meet_70 : decode cX2_meet 70 = .ok (.invokevirtual 110, 3) := dk_182 0 110 (dk_at dksX2_meet_3 0 rfl rfl)
theorem dX2_meet_73 : decode cX2_meet 73 = .ok (.istore 4, 2) := dk_54 4 (dk_at dksX2_meet_3 3 rfl rfl)
theorem dX2_meet_75 : decode cX2_meet 75 = .ok (.aload_n 0, 1) := dk_42 (dk_at dksX2_meet_3 5 rfl rfl)
theorem dX2_meet_76 : decode cX2_meet 76 = .ok (.iconst 1, 1) := dk_4 (dk_at dksX2_meet_3 6 rfl rfl)
theorem dX2_meet_77 : decode cX2_meet 77 = .ok (.bipush 20, 2) := dk_16 20 (dk_at dksX2_meet_3 7 rfl rfl)
theorem dX2_meet_79 : decode cX2_meet 79 = .ok (.invokevirtual 110, 3) := dk_182 0 110 (dk_at dksX2_meet_3 9 rfl rfl)
theorem dX2_meet_82 : decode cX2_meet 82 = .ok (.istore 5, 2) := dk_54 5 (dk_at dksX2_meet_3 12 rfl rfl)
theorem dX2_meet_84 : decode cX2_meet 84 = .ok (.aload_n 0, 1) := dk_42 (dk_at dksX2_meet_3 14 rfl rfl)
theorem dX2_meet_85 : decode cX2_meet 85 = .ok (.aload_n 0, 1) := dk_42 (dk_at dksX2_meet_3 15 rfl rfl)
theorem dX2_meet_86 : decode cX2_meet 86 = .ok (.getfield 29, 3) := dk_180 0 29 (dk_at dksX2_meet_3 16 rfl rfl)
theorem dX2_meet_89 : decode cX2_meet 89 = .ok (.iload_n 2, 1) := dk_28 (dk_at dksX2_meet_3 19 rfl rfl)
theorem dX2_meet_90 : decode cX2_meet 90 = .ok (.iload_n 3, 1) := dk_29 (dk_at dksX2_meet_3 20 rfl rfl)
theorem dX2_meet_91 : decode cX2_meet 91 = .ok (.iload 4, 2) := dk_21 4 (dk_at dksX2_meet_3 21 rfl rfl)
theorem dX2_meet_93 : decode cX2_meet 93 = .ok (.invokevirtual 253, 3) := dk_182 0 253 (dk_at dksX2_meet_4 0 rfl rfl)
theorem dX2_meet_96 : decode cX2_meet 96 = .ok (.invokevirtual 122, 3) := dk_182 0 122 (dk_at dksX2_meet_4 3 rfl rfl)
theorem dX2_meet_99 : decode cX2_meet 99 = .ok (.aload_n 0, 1) := dk_42 (dk_at dksX2_meet_4 6 rfl rfl)
theorem dX2_meet_100 : decode cX2_meet 100 = .ok (.getfield 29, 3) := dk_180 0 29 (dk_at dksX2_meet_4 7 rfl rfl)
theorem dX2_meet_103 : decode cX2_meet 103 = .ok (.iload_n 2, 1) := dk_28 (dk_at dksX2_meet_4 10 rfl rfl)
theorem dX2_meet_104 : decode cX2_meet 104 = .ok (.iload_n 3, 1) := dk_29 (dk_at dksX2_meet_4 11 rfl rfl)
theorem dX2_meet_105 : decode cX2_meet 105 = .ok (.iload 4, 2) := dk_21 4 (dk_at dksX2_meet_4 12 rfl rfl)
theorem dX2_meet_107 : decode cX2_meet 107 = .ok (.iload 5, 2) := dk_21 5 (dk_at dksX2_meet_4 14 rfl rfl)
theorem dX2_meet_109 : decode cX2_meet 109 = .ok (.invokevirtual 257, 3) := dk_182 1 1 (dk_at dksX2_meet_4 16 rfl rfl)
theorem dX2_meet_112 : decode cX2_meet 112 = .ok (.pop, 1) := dk_87 (dk_at dksX2_meet_4 19 rfl rfl)
theorem dX2_meet_113 : decode cX2_meet 113 = .ok (.return_, 1) := dk_177 (dk_at dksX2_meet_4 20 rfl rfl)
theorem q123 : (Jvm.Cond.initialized "RooftopCats$Parser") ∈ lw_all := lw_g (lw_at lw_m1 8 rfl) rfl
theorem q220 : (Jvm.Cond.instantiable "RooftopCats$Parser" (9 : Nat)) ∈ lw_all := lw_g (lw_at lw_m1 105 rfl) rfl
theorem q223 : (Jvm.Cond.instanceMethod ({ cls := "RooftopCats$Parser", name := "<init>", desc := "(Ljava/lang/String;)V" } : Jvm.MethodName)) ∈ lw_all := lw_g (lw_at lw_m1 108 rfl) rfl
theorem q224 : (Jvm.Cond.code ({ cls := "RooftopCats$Parser", name := "<init>", desc := "(Ljava/lang/String;)V" } : Jvm.MethodName) prog_6_method_1_code (2 : Nat) (Option.none : Option Jvm.ClassFile.FieldType)) ∈ lw_all := lw_g (lw_at lw_m1 109 rfl) rfl
theorem q225 : (Jvm.Cond.methodLink "RooftopCats$Parser" (3 : Nat) ({ cls := "java/lang/Object", name := "<init>", desc := "()V" } : Jvm.MethodName)) ∈ lw_all := lw_g (lw_at lw_m1 110 rfl) rfl
theorem q226 : (Jvm.Cond.fieldLink "RooftopCats$Parser" (9 : Nat) "RooftopCats$Token" "END" "LRooftopCats$Token;") ∈ lw_all := lw_g (lw_at lw_m1 111 rfl) rfl
theorem q228 : (Jvm.Cond.stringRef "RooftopCats$Parser" (20 : Nat) "") ∈ lw_tbl := lw_at lw_m1 113 rfl
theorem q229 : (Jvm.Cond.classLink "RooftopCats$Parser" (26 : Nat) "RooftopCats$Roof") ∈ lw_all := lw_g (lw_at lw_m1 114 rfl) rfl
theorem q231 : (Jvm.Cond.methodLinkNest "RooftopCats$Parser" (28 : Nat) ({ cls := "RooftopCats$Roof", name := "<init>", desc := "()V" } : Jvm.MethodName) "RooftopCats") ∈ lw_tbl := lw_at lw_m1 116 rfl
theorem q263 : (Jvm.Cond.fieldLinkNest "RooftopCats$Parser" (101 : Nat) "RooftopCats$Roof" "chimneys" "Ljava/util/List;" "RooftopCats") ∈ lw_tbl := lw_at lw_m1 148 rfl
theorem q266 : (Jvm.Cond.fieldLinkNest "RooftopCats$Parser" (214 : Nat) "RooftopCats$Roof" "gutters" "Ljava/util/List;" "RooftopCats") ∈ lw_tbl := lw_at lw_m1 151 rfl
theorem q269 : (Jvm.Cond.fieldLinkNest "RooftopCats$Parser" (114 : Nat) "RooftopCats$Roof" "cats" "Ljava/util/List;" "RooftopCats") ∈ lw_tbl := lw_at lw_m1 154 rfl
theorem q274 : (Jvm.Cond.fieldLinkNest "RooftopCats$Parser" (184 : Nat) "RooftopCats$Roof" "night" "I" "RooftopCats") ∈ lw_tbl := lw_at lw_m1 159 rfl
theorem q298 : (Jvm.Cond.methodLink "RooftopCats$Parser" (36 : Nat) ({ cls := "RooftopCats$Parser", name := "advance", desc := "()V" } : Jvm.MethodName)) ∈ lw_all := lw_g (lw_at lw_m1 183 rfl) rfl
theorem q299 : (Jvm.Cond.privateMethod ({ cls := "RooftopCats$Parser", name := "advance", desc := "()V" } : Jvm.MethodName)) ∈ lw_tbl := lw_at lw_m1 184 rfl
theorem q300 : (Jvm.Cond.instanceMethod ({ cls := "RooftopCats$Parser", name := "advance", desc := "()V" } : Jvm.MethodName)) ∈ lw_all := lw_g (lw_at lw_m1 185 rfl) rfl
theorem q301 : (Jvm.Cond.code ({ cls := "RooftopCats$Parser", name := "advance", desc := "()V" } : Jvm.MethodName) prog_6_method_3_code (1 : Nat) (Option.none : Option Jvm.ClassFile.FieldType)) ∈ lw_all := lw_g (lw_at lw_m1 186 rfl) rfl
theorem q302 : (Jvm.Cond.methodLink "RooftopCats$Parser" (53 : Nat) ({ cls := "RooftopCats$Parser", name := "isAt", desc := "(CC)Z" } : Jvm.MethodName)) ∈ lw_all := lw_g (lw_at lw_m1 187 rfl) rfl
theorem q303 : (Jvm.Cond.privateMethod ({ cls := "RooftopCats$Parser", name := "isAt", desc := "(CC)Z" } : Jvm.MethodName)) ∈ lw_tbl := lw_at lw_m1 188 rfl
theorem q304 : (Jvm.Cond.instanceMethod ({ cls := "RooftopCats$Parser", name := "isAt", desc := "(CC)Z" } : Jvm.MethodName)) ∈ lw_all := lw_g (lw_at lw_m1 189 rfl) rfl
theorem q305 : (Jvm.Cond.code ({ cls := "RooftopCats$Parser", name := "isAt", desc := "(CC)Z" } : Jvm.MethodName) prog_6_method_2_code (3 : Nat) (Option.some Jvm.ClassFile.FieldType.boolean)) ∈ lw_all := lw_g (lw_at lw_m1 190 rfl) rfl
theorem q306 : (Jvm.Cond.methodLink "RooftopCats$Parser" (43 : Nat) ({ cls := "java/lang/String", name := "length", desc := "()I" } : Jvm.MethodName)) ∈ lw_all := lw_g (lw_at lw_m1 191 rfl) rfl
theorem q315 : (Jvm.Cond.methodLink "RooftopCats$Parser" (49 : Nat) ({ cls := "java/lang/String", name := "charAt", desc := "(I)C" } : Jvm.MethodName)) ∈ lw_all := lw_g (lw_at lw_m1 200 rfl) rfl
theorem q353 : (Jvm.Cond.methodLink "RooftopCats$Parser" (60 : Nat) ({ cls := "java/lang/String", name := "substring", desc := "(II)Ljava/lang/String;" } : Jvm.MethodName)) ∈ lw_all := lw_g (lw_at lw_m1 238 rfl) rfl
theorem q635 : (Jvm.Cond.fieldLink "RooftopCats$Parser" (64 : Nat) "RooftopCats$Token" "WORD" "LRooftopCats$Token;") ∈ lw_all := lw_g (lw_at lw_m3 40 rfl) rfl
theorem q637 : (Jvm.Cond.methodLink "RooftopCats$Parser" (67 : Nat) ({ cls := "RooftopCats$Parser", name := "readDigits", desc := "()V" } : Jvm.MethodName)) ∈ lw_all := lw_g (lw_at lw_m3 42 rfl) rfl
theorem q638 : (Jvm.Cond.privateMethod ({ cls := "RooftopCats$Parser", name := "readDigits", desc := "()V" } : Jvm.MethodName)) ∈ lw_tbl := lw_at lw_m3 43 rfl
theorem q639 : (Jvm.Cond.instanceMethod ({ cls := "RooftopCats$Parser", name := "readDigits", desc := "()V" } : Jvm.MethodName)) ∈ lw_all := lw_g (lw_at lw_m3 44 rfl) rfl
theorem q640 : (Jvm.Cond.code ({ cls := "RooftopCats$Parser", name := "readDigits", desc := "()V" } : Jvm.MethodName) prog_6_method_5_code (1 : Nat) (Option.none : Option Jvm.ClassFile.FieldType)) ∈ lw_all := lw_g (lw_at lw_m3 45 rfl) rfl
theorem q641 : (Jvm.Cond.fieldLink "RooftopCats$Parser" (83 : Nat) "RooftopCats$Token" "INVALID" "LRooftopCats$Token;") ∈ lw_all := lw_g (lw_at lw_m3 46 rfl) rfl
theorem q643 : (Jvm.Cond.fieldLink "RooftopCats$Parser" (89 : Nat) "RooftopCats$Token" "NUMBER" "LRooftopCats$Token;") ∈ lw_all := lw_g (lw_at lw_m3 48 rfl) rfl
theorem q645 : (Jvm.Cond.methodLink "RooftopCats$Parser" (70 : Nat) ({ cls := "RooftopCats$Parser", name := "sign", desc := "(C)LRooftopCats$Token;" } : Jvm.MethodName)) ∈ lw_all := lw_g (lw_at lw_m3 50 rfl) rfl
theorem q646 : (Jvm.Cond.static ({ cls := "RooftopCats$Parser", name := "sign", desc := "(C)LRooftopCats$Token;" } : Jvm.MethodName)) ∈ lw_all := lw_g (lw_at lw_m3 51 rfl) rfl
theorem q647 : (Jvm.Cond.code ({ cls := "RooftopCats$Parser", name := "sign", desc := "(C)LRooftopCats$Token;" } : Jvm.MethodName) prog_6_method_4_code (1 : Nat) (Option.some (Jvm.ClassFile.FieldType.object "RooftopCats$Token"))) ∈ lw_all := lw_g (lw_at lw_m3 52 rfl) rfl
theorem q648 : (Jvm.Cond.fieldLink "RooftopCats$Parser" (74 : Nat) "RooftopCats$Token" "SEMICOLON" "LRooftopCats$Token;") ∈ lw_all := lw_g (lw_at lw_m3 53 rfl) rfl
theorem q650 : (Jvm.Cond.fieldLink "RooftopCats$Parser" (77 : Nat) "RooftopCats$Token" "OPENING" "LRooftopCats$Token;") ∈ lw_all := lw_g (lw_at lw_m3 55 rfl) rfl
theorem q652 : (Jvm.Cond.fieldLink "RooftopCats$Parser" (80 : Nat) "RooftopCats$Token" "CLOSING" "LRooftopCats$Token;") ∈ lw_all := lw_g (lw_at lw_m3 57 rfl) rfl
theorem q654 : (Jvm.Cond.fieldLink "RooftopCats$Parser" (33 : Nat) "RooftopCats$Parser" "text" "Ljava/lang/String;") ∈ lw_all := lw_g (lw_at lw_m3 59 rfl) rfl
theorem q655 : (Jvm.Cond.fieldLink "RooftopCats$Parser" (39 : Nat) "RooftopCats$Parser" "position" "I") ∈ lw_all := lw_g (lw_at lw_m3 60 rfl) rfl
theorem q656 : (Jvm.Cond.fieldLink "RooftopCats$Parser" (57 : Nat) "RooftopCats$Parser" "start" "I") ∈ lw_all := lw_g (lw_at lw_m3 61 rfl) rfl
theorem q657 : (Jvm.Cond.fieldLink "RooftopCats$Parser" (15 : Nat) "RooftopCats$Parser" "token" "LRooftopCats$Token;") ∈ lw_all := lw_g (lw_at lw_m3 62 rfl) rfl
theorem q658 : (Jvm.Cond.fieldLink "RooftopCats$Parser" (22 : Nat) "RooftopCats$Parser" "word" "Ljava/lang/String;") ∈ lw_all := lw_g (lw_at lw_m3 63 rfl) rfl
theorem q659 : (Jvm.Cond.fieldLink "RooftopCats$Parser" (86 : Nat) "RooftopCats$Parser" "value" "I") ∈ lw_all := lw_g (lw_at lw_m3 64 rfl) rfl
theorem q660 : (Jvm.Cond.fieldLink "RooftopCats$Parser" (261 : Nat) "RooftopCats$Parser" "depth" "I") ∈ lw_all := lw_g (lw_at lw_m3 65 rfl) rfl
theorem q661 : (Jvm.Cond.fieldLink "RooftopCats$Parser" (164 : Nat) "RooftopCats$Parser" "executed" "I") ∈ lw_all := lw_g (lw_at lw_m3 66 rfl) rfl
theorem q662 : (Jvm.Cond.fieldLink "RooftopCats$Parser" (29 : Nat) "RooftopCats$Parser" "roof" "LRooftopCats$Roof;") ∈ lw_all := lw_g (lw_at lw_m3 67 rfl) rfl
theorem q663 : (Jvm.Cond.laysFinal "RooftopCats$Parser" "RooftopCats$Parser" "text" "Ljava/lang/String;") ∈ lw_all := lw_g (lw_at lw_m3 68 rfl) rfl
theorem q664 : (Jvm.Cond.soleField "RooftopCats$Parser" "text") ∈ lw_all := lw_g (lw_at lw_m3 69 rfl) rfl
theorem q665 : (Jvm.Cond.lays "RooftopCats$Parser" "RooftopCats$Parser" "position" "I") ∈ lw_all := lw_g (lw_at lw_m3 70 rfl) rfl
theorem q666 : (Jvm.Cond.soleField "RooftopCats$Parser" "position") ∈ lw_all := lw_g (lw_at lw_m3 71 rfl) rfl
theorem q667 : (Jvm.Cond.lays "RooftopCats$Parser" "RooftopCats$Parser" "start" "I") ∈ lw_all := lw_g (lw_at lw_m3 72 rfl) rfl
theorem q668 : (Jvm.Cond.soleField "RooftopCats$Parser" "start") ∈ lw_all := lw_g (lw_at lw_m3 73 rfl) rfl
theorem q669 : (Jvm.Cond.lays "RooftopCats$Parser" "RooftopCats$Parser" "token" "LRooftopCats$Token;") ∈ lw_all := lw_g (lw_at lw_m3 74 rfl) rfl
theorem q670 : (Jvm.Cond.soleField "RooftopCats$Parser" "token") ∈ lw_all := lw_g (lw_at lw_m3 75 rfl) rfl
theorem q671 : (Jvm.Cond.lays "RooftopCats$Parser" "RooftopCats$Parser" "word" "Ljava/lang/String;") ∈ lw_all := lw_g (lw_at lw_m3 76 rfl) rfl
theorem q672 : (Jvm.Cond.soleField "RooftopCats$Parser" "word") ∈ lw_all := lw_g (lw_at lw_m3 77 rfl) rfl
theorem q673 : (Jvm.Cond.lays "RooftopCats$Parser" "RooftopCats$Parser" "value" "I") ∈ lw_all := lw_g (lw_at lw_m3 78 rfl) rfl
theorem q674 : (Jvm.Cond.soleField "RooftopCats$Parser" "value") ∈ lw_all := lw_g (lw_at lw_m3 79 rfl) rfl
theorem q675 : (Jvm.Cond.lays "RooftopCats$Parser" "RooftopCats$Parser" "depth" "I") ∈ lw_all := lw_g (lw_at lw_m3 80 rfl) rfl
theorem q676 : (Jvm.Cond.soleField "RooftopCats$Parser" "depth") ∈ lw_all := lw_g (lw_at lw_m3 81 rfl) rfl
theorem q677 : (Jvm.Cond.lays "RooftopCats$Parser" "RooftopCats$Parser" "executed" "I") ∈ lw_all := lw_g (lw_at lw_m3 82 rfl) rfl
theorem q678 : (Jvm.Cond.soleField "RooftopCats$Parser" "executed") ∈ lw_all := lw_g (lw_at lw_m3 83 rfl) rfl
theorem q679 : (Jvm.Cond.laysFinal "RooftopCats$Parser" "RooftopCats$Parser" "roof" "LRooftopCats$Roof;") ∈ lw_all := lw_g (lw_at lw_m3 84 rfl) rfl
theorem q680 : (Jvm.Cond.soleField "RooftopCats$Parser" "roof") ∈ lw_all := lw_g (lw_at lw_m3 85 rfl) rfl
theorem q681 : (Jvm.Cond.superclass "RooftopCats$Parser" "java/lang/Object") ∈ lw_all := lw_g (lw_at lw_m3 86 rfl) rfl
theorem q683 : (Jvm.Cond.instanceMethod ({ cls := "RooftopCats$Parser", name := "parse", desc := "()LRooftopCats$Roof;" } : Jvm.MethodName)) ∈ lw_all := lw_g (lw_at lw_m3 88 rfl) rfl
theorem q684 : (Jvm.Cond.selects "RooftopCats$Parser" ({ cls := "RooftopCats$Parser", name := "parse", desc := "()LRooftopCats$Roof;" } : Jvm.MethodName) ({ cls := "RooftopCats$Parser", name := "parse", desc := "()LRooftopCats$Roof;" } : Jvm.MethodName)) ∈ lw_all := lw_g (lw_at lw_m3 89 rfl) rfl
theorem q685 : (Jvm.Cond.code ({ cls := "RooftopCats$Parser", name := "parse", desc := "()LRooftopCats$Roof;" } : Jvm.MethodName) prog_6_method_12_code (1 : Nat) (Option.some (Jvm.ClassFile.FieldType.object "RooftopCats$Roof"))) ∈ lw_all := lw_g (lw_at lw_m3 90 rfl) rfl
theorem q686 : (Jvm.Cond.stringRef "RooftopCats$Parser" (117 : Nat) "roof") ∈ lw_tbl := lw_at lw_m3 91 rfl
theorem q687 : (Jvm.Cond.methodLink "RooftopCats$Parser" (118 : Nat) ({ cls := "java/lang/String", name := "equals", desc := "(Ljava/lang/Object;)Z" } : Jvm.MethodName)) ∈ lw_all := lw_g (lw_at lw_m3 92 rfl) rfl
theorem q695 : (Jvm.Cond.methodLink "RooftopCats$Parser" (97 : Nat) ({ cls := "RooftopCats$Parser", name := "check", desc := "(ZI)V" } : Jvm.MethodName)) ∈ lw_all := lw_g (lw_at lw_m3 100 rfl) rfl
theorem q696 : (Jvm.Cond.privateMethod ({ cls := "RooftopCats$Parser", name := "check", desc := "(ZI)V" } : Jvm.MethodName)) ∈ lw_tbl := lw_at lw_m3 101 rfl
theorem q697 : (Jvm.Cond.instanceMethod ({ cls := "RooftopCats$Parser", name := "check", desc := "(ZI)V" } : Jvm.MethodName)) ∈ lw_all := lw_g (lw_at lw_m3 102 rfl) rfl
theorem q698 : (Jvm.Cond.code ({ cls := "RooftopCats$Parser", name := "check", desc := "(ZI)V" } : Jvm.MethodName) prog_6_method_6_code (3 : Nat) (Option.none : Option Jvm.ClassFile.FieldType)) ∈ lw_all := lw_g (lw_at lw_m3 103 rfl) rfl
theorem q699 : (Jvm.Cond.classLink "RooftopCats$Parser" (92 : Nat) "RooftopCats$ScriptException") ∈ lw_all := lw_g (lw_at lw_m3 104 rfl) rfl
theorem q708 : (Jvm.Cond.methodLink "RooftopCats$Parser" (94 : Nat) ({ cls := "RooftopCats$ScriptException", name := "<init>", desc := "(II)V" } : Jvm.MethodName)) ∈ lw_all := lw_g (lw_at lw_m3 113 rfl) rfl
theorem q725 : (Jvm.Cond.methodLink "RooftopCats$Parser" (122 : Nat) ({ cls := "RooftopCats$Parser", name := "end", desc := "(Z)V" } : Jvm.MethodName)) ∈ lw_all := lw_g (lw_at lw_m3 130 rfl) rfl
theorem q726 : (Jvm.Cond.privateMethod ({ cls := "RooftopCats$Parser", name := "end", desc := "(Z)V" } : Jvm.MethodName)) ∈ lw_tbl := lw_at lw_m3 131 rfl
theorem q727 : (Jvm.Cond.instanceMethod ({ cls := "RooftopCats$Parser", name := "end", desc := "(Z)V" } : Jvm.MethodName)) ∈ lw_all := lw_g (lw_at lw_m3 132 rfl) rfl
theorem q728 : (Jvm.Cond.code ({ cls := "RooftopCats$Parser", name := "end", desc := "(Z)V" } : Jvm.MethodName) prog_6_method_11_code (2 : Nat) (Option.none : Option Jvm.ClassFile.FieldType)) ∈ lw_all := lw_g (lw_at lw_m3 133 rfl) rfl
theorem q729 : (Jvm.Cond.methodLink "RooftopCats$Parser" (126 : Nat) ({ cls := "RooftopCats$Parser", name := "command", desc := "()V" } : Jvm.MethodName)) ∈ lw_all := lw_g (lw_at lw_m3 134 rfl) rfl
theorem q730 : (Jvm.Cond.privateMethod ({ cls := "RooftopCats$Parser", name := "command", desc := "()V" } : Jvm.MethodName)) ∈ lw_tbl := lw_at lw_m3 135 rfl
theorem q731 : (Jvm.Cond.instanceMethod ({ cls := "RooftopCats$Parser", name := "command", desc := "()V" } : Jvm.MethodName)) ∈ lw_all := lw_g (lw_at lw_m3 136 rfl) rfl
theorem q732 : (Jvm.Cond.code ({ cls := "RooftopCats$Parser", name := "command", desc := "()V" } : Jvm.MethodName) prog_6_method_14_code (6 : Nat) (Option.none : Option Jvm.ClassFile.FieldType)) ∈ lw_all := lw_g (lw_at lw_m3 137 rfl) rfl
theorem q733 : (Jvm.Cond.stringRef "RooftopCats$Parser" (156 : Nat) "repeat") ∈ lw_tbl := lw_at lw_m3 138 rfl
theorem q734 : (Jvm.Cond.methodLink "RooftopCats$Parser" (158 : Nat) ({ cls := "RooftopCats$Parser", name := "repeat", desc := "()V" } : Jvm.MethodName)) ∈ lw_all := lw_g (lw_at lw_m3 139 rfl) rfl
theorem q735 : (Jvm.Cond.privateMethod ({ cls := "RooftopCats$Parser", name := "repeat", desc := "()V" } : Jvm.MethodName)) ∈ lw_tbl := lw_at lw_m3 140 rfl
theorem q736 : (Jvm.Cond.instanceMethod ({ cls := "RooftopCats$Parser", name := "repeat", desc := "()V" } : Jvm.MethodName)) ∈ lw_all := lw_g (lw_at lw_m3 141 rfl) rfl
theorem q737 : (Jvm.Cond.code ({ cls := "RooftopCats$Parser", name := "repeat", desc := "()V" } : Jvm.MethodName) prog_6_method_18_code (4 : Nat) (Option.none : Option Jvm.ClassFile.FieldType)) ∈ lw_all := lw_g (lw_at lw_m3 142 rfl) rfl
theorem q738 : (Jvm.Cond.methodLink "RooftopCats$Parser" (110 : Nat) ({ cls := "RooftopCats$Parser", name := "number", desc := "(II)I" } : Jvm.MethodName)) ∈ lw_all := lw_g (lw_at lw_m3 143 rfl) rfl
theorem q739 : (Jvm.Cond.privateMethod ({ cls := "RooftopCats$Parser", name := "number", desc := "(II)I" } : Jvm.MethodName)) ∈ lw_tbl := lw_at lw_m3 144 rfl
theorem q740 : (Jvm.Cond.instanceMethod ({ cls := "RooftopCats$Parser", name := "number", desc := "(II)I" } : Jvm.MethodName)) ∈ lw_all := lw_g (lw_at lw_m3 145 rfl) rfl
theorem q741 : (Jvm.Cond.code ({ cls := "RooftopCats$Parser", name := "number", desc := "(II)I" } : Jvm.MethodName) prog_6_method_7_code (4 : Nat) (Option.some Jvm.ClassFile.FieldType.int)) ∈ lw_all := lw_g (lw_at lw_m3 146 rfl) rfl
theorem q742 : (Jvm.Cond.methodLink "RooftopCats$Parser" (160 : Nat) ({ cls := "RooftopCats$Parser", name := "isCommand", desc := "(Ljava/lang/String;)Z" } : Jvm.MethodName)) ∈ lw_all := lw_g (lw_at lw_m3 147 rfl) rfl
theorem q743 : (Jvm.Cond.static ({ cls := "RooftopCats$Parser", name := "isCommand", desc := "(Ljava/lang/String;)Z" } : Jvm.MethodName)) ∈ lw_all := lw_g (lw_at lw_m3 148 rfl) rfl
theorem q744 : (Jvm.Cond.code ({ cls := "RooftopCats$Parser", name := "isCommand", desc := "(Ljava/lang/String;)Z" } : Jvm.MethodName) prog_6_method_13_code (3 : Nat) (Option.some Jvm.ClassFile.FieldType.boolean)) ∈ lw_all := lw_g (lw_at lw_m3 149 rfl) rfl
theorem q745 : (Jvm.Cond.methodLink "RooftopCats$Parser" (129 : Nat) ({ cls := "java/lang/String", name := "hashCode", desc := "()I" } : Jvm.MethodName)) ∈ lw_all := lw_g (lw_at lw_m3 150 rfl) rfl
theorem q802 : (Jvm.Cond.stringRef "RooftopCats$Parser" (132 : Nat) "chimney") ∈ lw_tbl := lw_at lw_m3 207 rfl
theorem q803 : (Jvm.Cond.stringRef "RooftopCats$Parser" (134 : Nat) "gutter") ∈ lw_tbl := lw_at lw_m3 208 rfl
theorem q804 : (Jvm.Cond.stringRef "RooftopCats$Parser" (136 : Nat) "cat") ∈ lw_tbl := lw_at lw_m3 209 rfl
theorem q805 : (Jvm.Cond.stringRef "RooftopCats$Parser" (138 : Nat) "step") ∈ lw_tbl := lw_at lw_m3 210 rfl
theorem q806 : (Jvm.Cond.stringRef "RooftopCats$Parser" (140 : Nat) "claim") ∈ lw_tbl := lw_at lw_m3 211 rfl
theorem q807 : (Jvm.Cond.stringRef "RooftopCats$Parser" (142 : Nat) "abandon") ∈ lw_tbl := lw_at lw_m3 212 rfl
theorem q808 : (Jvm.Cond.stringRef "RooftopCats$Parser" (144 : Nat) "chase") ∈ lw_tbl := lw_at lw_m3 213 rfl
theorem q809 : (Jvm.Cond.stringRef "RooftopCats$Parser" (146 : Nat) "truce") ∈ lw_tbl := lw_at lw_m3 214 rfl
theorem q810 : (Jvm.Cond.stringRef "RooftopCats$Parser" (148 : Nat) "kitten") ∈ lw_tbl := lw_at lw_m3 215 rfl
theorem q811 : (Jvm.Cond.stringRef "RooftopCats$Parser" (150 : Nat) "yes") ∈ lw_tbl := lw_at lw_m3 216 rfl
theorem q812 : (Jvm.Cond.stringRef "RooftopCats$Parser" (152 : Nat) "no") ∈ lw_tbl := lw_at lw_m3 217 rfl
theorem q813 : (Jvm.Cond.stringRef "RooftopCats$Parser" (154 : Nat) "nights") ∈ lw_tbl := lw_at lw_m3 218 rfl
theorem q814 : (Jvm.Cond.methodLink "RooftopCats$Parser" (167 : Nat) ({ cls := "RooftopCats$Parser", name := "build", desc := "(Ljava/lang/String;)V" } : Jvm.MethodName)) ∈ lw_all := lw_g (lw_at lw_m3 219 rfl) rfl
theorem q815 : (Jvm.Cond.privateMethod ({ cls := "RooftopCats$Parser", name := "build", desc := "(Ljava/lang/String;)V" } : Jvm.MethodName)) ∈ lw_tbl := lw_at lw_m3 220 rfl
theorem q816 : (Jvm.Cond.instanceMethod ({ cls := "RooftopCats$Parser", name := "build", desc := "(Ljava/lang/String;)V" } : Jvm.MethodName)) ∈ lw_all := lw_g (lw_at lw_m3 221 rfl) rfl
theorem q817 : (Jvm.Cond.code ({ cls := "RooftopCats$Parser", name := "build", desc := "(Ljava/lang/String;)V" } : Jvm.MethodName) prog_6_method_15_code (5 : Nat) (Option.none : Option Jvm.ClassFile.FieldType)) ∈ lw_all := lw_g (lw_at lw_m3 222 rfl) rfl
theorem q818 : (Jvm.Cond.interfaceEntry "RooftopCats$Parser" (105 : Nat)) ∈ lw_tbl := lw_at lw_m3 223 rfl
theorem q819 : (Jvm.Cond.methodLink "RooftopCats$Parser" (105 : Nat) ({ cls := "java/util/List", name := "size", desc := "()I" } : Jvm.MethodName)) ∈ lw_all := lw_g (lw_at lw_m3 224 rfl) rfl
theorem q828 : (Jvm.Cond.classLink "RooftopCats$Parser" (201 : Nat) "RooftopCats$Chimney") ∈ lw_all := lw_g (lw_at lw_m3 233 rfl) rfl
theorem q830 : (Jvm.Cond.methodLink "RooftopCats$Parser" (203 : Nat) ({ cls := "RooftopCats$Chimney", name := "<init>", desc := "(I)V" } : Jvm.MethodName)) ∈ lw_all := lw_g (lw_at lw_m3 235 rfl) rfl
theorem q839 : (Jvm.Cond.fieldLinkNest "RooftopCats$Parser" (235 : Nat) "RooftopCats$Chimney" "owner" "I" "RooftopCats") ∈ lw_tbl := lw_at lw_m4 4 rfl
theorem q846 : (Jvm.Cond.interfaceEntry "RooftopCats$Parser" (206 : Nat)) ∈ lw_tbl := lw_at lw_m4 11 rfl
theorem q847 : (Jvm.Cond.methodLink "RooftopCats$Parser" (206 : Nat) ({ cls := "java/util/List", name := "add", desc := "(Ljava/lang/Object;)Z" } : Jvm.MethodName)) ∈ lw_all := lw_g (lw_at lw_m4 12 rfl) rfl
theorem q879 : (Jvm.Cond.selects "RooftopCats$Parser" ({ cls := "java/lang/Object", name := "getClass", desc := "()Ljava/lang/Class;" } : Jvm.MethodName) ({ cls := "java/lang/Object", name := "getClass", desc := "()Ljava/lang/Class;" } : Jvm.MethodName)) ∈ lw_all := lw_g (lw_at lw_m4 44 rfl) rfl
theorem q904 : (Jvm.Cond.methodLink "RooftopCats$Parser" (209 : Nat) ({ cls := "RooftopCats$Parser", name := "chimney", desc := "()I" } : Jvm.MethodName)) ∈ lw_all := lw_g (lw_at lw_m4 69 rfl) rfl
theorem q905 : (Jvm.Cond.privateMethod ({ cls := "RooftopCats$Parser", name := "chimney", desc := "()I" } : Jvm.MethodName)) ∈ lw_tbl := lw_at lw_m4 70 rfl
theorem q906 : (Jvm.Cond.instanceMethod ({ cls := "RooftopCats$Parser", name := "chimney", desc := "()I" } : Jvm.MethodName)) ∈ lw_all := lw_g (lw_at lw_m4 71 rfl) rfl
theorem q907 : (Jvm.Cond.code ({ cls := "RooftopCats$Parser", name := "chimney", desc := "()I" } : Jvm.MethodName) prog_6_method_8_code (1 : Nat) (Option.some Jvm.ClassFile.FieldType.int)) ∈ lw_all := lw_g (lw_at lw_m4 72 rfl) rfl
theorem q908 : (Jvm.Cond.methodLink "RooftopCats$Parser" (211 : Nat) ({ cls := "RooftopCats$Parser", name := "numberBut", desc := "(II)I" } : Jvm.MethodName)) ∈ lw_all := lw_g (lw_at lw_m4 73 rfl) rfl
theorem q909 : (Jvm.Cond.privateMethod ({ cls := "RooftopCats$Parser", name := "numberBut", desc := "(II)I" } : Jvm.MethodName)) ∈ lw_tbl := lw_at lw_m4 74 rfl
theorem q910 : (Jvm.Cond.instanceMethod ({ cls := "RooftopCats$Parser", name := "numberBut", desc := "(II)I" } : Jvm.MethodName)) ∈ lw_all := lw_g (lw_at lw_m4 75 rfl) rfl
theorem q911 : (Jvm.Cond.code ({ cls := "RooftopCats$Parser", name := "numberBut", desc := "(II)I" } : Jvm.MethodName) prog_6_method_10_code (3 : Nat) (Option.some Jvm.ClassFile.FieldType.int)) ∈ lw_all := lw_g (lw_at lw_m4 76 rfl) rfl
theorem q912 : (Jvm.Cond.classLink "RooftopCats$Parser" (217 : Nat) "RooftopCats$Gutter") ∈ lw_all := lw_g (lw_at lw_m4 77 rfl) rfl
theorem q914 : (Jvm.Cond.methodLinkNest "RooftopCats$Parser" (219 : Nat) ({ cls := "RooftopCats$Gutter", name := "<init>", desc := "(III)V" } : Jvm.MethodName) "RooftopCats") ∈ lw_tbl := lw_at lw_m4 79 rfl
theorem q931 : (Jvm.Cond.methodLink "RooftopCats$Parser" (222 : Nat) ({ cls := "RooftopCats$Roof", name := "catOn", desc := "(I)I" } : Jvm.MethodName)) ∈ lw_all := lw_g (lw_at lw_m4 96 rfl) rfl
theorem q955 : (Jvm.Cond.classLink "RooftopCats$Parser" (225 : Nat) "RooftopCats$Cat") ∈ lw_all := lw_g (lw_at lw_m4 120 rfl) rfl
theorem q957 : (Jvm.Cond.methodLink "RooftopCats$Parser" (227 : Nat) ({ cls := "RooftopCats$Cat", name := "<init>", desc := "(III)V" } : Jvm.MethodName)) ∈ lw_all := lw_g (lw_at lw_m4 122 rfl) rfl
theorem q981 : (Jvm.Cond.methodLink "RooftopCats$Parser" (171 : Nat) ({ cls := "RooftopCats$Parser", name := "walk", desc := "(Ljava/lang/String;)V" } : Jvm.MethodName)) ∈ lw_all := lw_g (lw_at lw_m4 146 rfl) rfl
theorem q982 : (Jvm.Cond.privateMethod ({ cls := "RooftopCats$Parser", name := "walk", desc := "(Ljava/lang/String;)V" } : Jvm.MethodName)) ∈ lw_tbl := lw_at lw_m4 147 rfl
theorem q983 : (Jvm.Cond.instanceMethod ({ cls := "RooftopCats$Parser", name := "walk", desc := "(Ljava/lang/String;)V" } : Jvm.MethodName)) ∈ lw_all := lw_g (lw_at lw_m4 148 rfl) rfl
theorem q984 : (Jvm.Cond.code ({ cls := "RooftopCats$Parser", name := "walk", desc := "(Ljava/lang/String;)V" } : Jvm.MethodName) prog_6_method_16_code (4 : Nat) (Option.none : Option Jvm.ClassFile.FieldType)) ∈ lw_all := lw_g (lw_at lw_m4 149 rfl) rfl
theorem q985 : (Jvm.Cond.methodLink "RooftopCats$Parser" (228 : Nat) ({ cls := "RooftopCats$Roof", name := "owner", desc := "(I)I" } : Jvm.MethodName)) ∈ lw_all := lw_g (lw_at lw_m4 150 rfl) rfl
theorem q990 : (Jvm.Cond.interfaceEntry "RooftopCats$Parser" (231 : Nat)) ∈ lw_tbl := lw_at lw_m4 155 rfl
theorem q991 : (Jvm.Cond.methodLink "RooftopCats$Parser" (231 : Nat) ({ cls := "java/util/List", name := "get", desc := "(I)Ljava/lang/Object;" } : Jvm.MethodName)) ∈ lw_all := lw_g (lw_at lw_m4 156 rfl) rfl
theorem q992 : (Jvm.Cond.methodLink "RooftopCats$Parser" (191 : Nat) ({ cls := "RooftopCats$Parser", name := "cat", desc := "()I" } : Jvm.MethodName)) ∈ lw_all := lw_g (lw_at lw_m4 157 rfl) rfl
theorem q993 : (Jvm.Cond.privateMethod ({ cls := "RooftopCats$Parser", name := "cat", desc := "()I" } : Jvm.MethodName)) ∈ lw_tbl := lw_at lw_m4 158 rfl
theorem q994 : (Jvm.Cond.instanceMethod ({ cls := "RooftopCats$Parser", name := "cat", desc := "()I" } : Jvm.MethodName)) ∈ lw_all := lw_g (lw_at lw_m4 159 rfl) rfl
theorem q995 : (Jvm.Cond.code ({ cls := "RooftopCats$Parser", name := "cat", desc := "()I" } : Jvm.MethodName) prog_6_method_9_code (1 : Nat) (Option.some Jvm.ClassFile.FieldType.int)) ∈ lw_all := lw_g (lw_at lw_m4 160 rfl) rfl
theorem q996 : (Jvm.Cond.methodLink "RooftopCats$Parser" (237 : Nat) ({ cls := "RooftopCats$Roof", name := "judgeClaim", desc := "(I)I" } : Jvm.MethodName)) ∈ lw_all := lw_g (lw_at lw_m4 161 rfl) rfl
theorem q1015 : (Jvm.Cond.methodLink "RooftopCats$Parser" (240 : Nat) ({ cls := "RooftopCats$Roof", name := "claim", desc := "(I)I" } : Jvm.MethodName)) ∈ lw_all := lw_g (lw_at lw_m4 180 rfl) rfl
theorem q1019 : (Jvm.Cond.methodLink "RooftopCats$Parser" (242 : Nat) ({ cls := "RooftopCats$Roof", name := "judgeStep", desc := "(II)I" } : Jvm.MethodName)) ∈ lw_all := lw_g (lw_at lw_m4 184 rfl) rfl
theorem q1050 : (Jvm.Cond.methodLink "RooftopCats$Parser" (245 : Nat) ({ cls := "RooftopCats$Roof", name := "step", desc := "(II)I" } : Jvm.MethodName)) ∈ lw_all := lw_g (lw_at lw_m4 215 rfl) rfl
theorem q1054 : (Jvm.Cond.methodLink "RooftopCats$Parser" (174 : Nat) ({ cls := "RooftopCats$Parser", name := "meet", desc := "(Ljava/lang/String;)V" } : Jvm.MethodName)) ∈ lw_all := lw_g (lw_at lw_m4 219 rfl) rfl
theorem q1055 : (Jvm.Cond.privateMethod ({ cls := "RooftopCats$Parser", name := "meet", desc := "(Ljava/lang/String;)V" } : Jvm.MethodName)) ∈ lw_tbl := lw_at lw_m4 220 rfl
theorem q1056 : (Jvm.Cond.instanceMethod ({ cls := "RooftopCats$Parser", name := "meet", desc := "(Ljava/lang/String;)V" } : Jvm.MethodName)) ∈ lw_all := lw_g (lw_at lw_m4 221 rfl) rfl
theorem q1057 : (Jvm.Cond.code ({ cls := "RooftopCats$Parser", name := "meet", desc := "(Ljava/lang/String;)V" } : Jvm.MethodName) prog_6_method_17_code (6 : Nat) (Option.none : Option Jvm.ClassFile.FieldType)) ∈ lw_all := lw_g (lw_at lw_m4 222 rfl) rfl
theorem q1058 : (Jvm.Cond.methodLink "RooftopCats$Parser" (247 : Nat) ({ cls := "RooftopCats$Roof", name := "judgeChase", desc := "(II)I" } : Jvm.MethodName)) ∈ lw_all := lw_g (lw_at lw_m4 223 rfl) rfl
theorem q1079 : (Jvm.Cond.methodLink "RooftopCats$Parser" (250 : Nat) ({ cls := "RooftopCats$Roof", name := "chase", desc := "(II)Z" } : Jvm.MethodName)) ∈ lw_all := lw_g (lw_at lw_m5 4 rfl) rfl
theorem q1088 : (Jvm.Cond.methodLink "RooftopCats$Parser" (253 : Nat) ({ cls := "RooftopCats$Roof", name := "canBuy", desc := "(III)Z" } : Jvm.MethodName)) ∈ lw_all := lw_g (lw_at lw_m5 13 rfl) rfl
theorem q1092 : (Jvm.Cond.methodLink "RooftopCats$Parser" (257 : Nat) ({ cls := "RooftopCats$Roof", name := "buyTruce", desc := "(IIII)I" } : Jvm.MethodName)) ∈ lw_all := lw_g (lw_at lw_m5 17 rfl) rfl
theorem q1096 : (Jvm.Cond.methodLink "RooftopCats$Parser" (177 : Nat) ({ cls := "RooftopCats$Roof", name := "canNominate", desc := "()Z" } : Jvm.MethodName)) ∈ lw_all := lw_g (lw_at lw_m5 21 rfl) rfl
theorem q1109 : (Jvm.Cond.methodLink "RooftopCats$Parser" (181 : Nat) ({ cls := "RooftopCats$Roof", name := "nominate", desc := "(II)I" } : Jvm.MethodName)) ∈ lw_all := lw_g (lw_at lw_m5 34 rfl) rfl
theorem q1132 : (Jvm.Cond.methodLink "RooftopCats$Parser" (187 : Nat) ({ cls := "RooftopCats$Roof", name := "passNights", desc := "(I)I" } : Jvm.MethodName)) ∈ lw_all := lw_g (lw_at lw_m5 57 rfl) rfl
theorem q1160 : (Jvm.Cond.methodLink "RooftopCats$Parser" (193 : Nat) ({ cls := "RooftopCats$Roof", name := "canVote", desc := "(I)Z" } : Jvm.MethodName)) ∈ lw_all := lw_g (lw_at lw_m5 85 rfl) rfl
theorem q1168 : (Jvm.Cond.methodLink "RooftopCats$Parser" (197 : Nat) ({ cls := "RooftopCats$Roof", name := "vote", desc := "(IZ)Z" } : Jvm.MethodName)) ∈ lw_all := lw_g (lw_at lw_m5 93 rfl) rfl
theorem q2722 : (Jvm.Cond.castable "RooftopCats$Parser" "java/lang/Object") ∈ lw_tbl := lw_at lw_m11 207 rfl
theorem in_X2 : ∀ w ∈ wsX20, w ∈ lw_all := lw_in wsX20 [663, 665, 667, 669, 671, 673, 675, 677, 679] (by decide +kernel) (by decide +kernel)

/-! RooftopCats$Roof -/
set_option maxRecDepth 100000
def RX3 : String := "RooftopCats$Roof"
def TX3 : u_T := fun k => match k with
  | 0 => ("RooftopCats$Roof", "chimneys", "Ljava/util/List;", true)
  | 1 => ("RooftopCats$Roof", "gutters", "Ljava/util/List;", true)
  | 2 => ("RooftopCats$Roof", "cats", "Ljava/util/List;", true)
  | 3 => ("RooftopCats$Roof", "truceEnds", "[I", true)
  | 4 => ("RooftopCats$Roof", "kitten", "LRooftopCats$Kitten;", false)
  | 5 => ("RooftopCats$Roof", "night", "I", false)
  | 6 => ("RooftopCats$Roof", "caught", "I", false)
  | _ => ("RooftopCats$Roof", "eaten", "I", false)
def tyX3 : Nat → FieldType := fun k => match k with
  | 0 => .object "java/util/List"
  | 1 => .object "java/util/List"
  | 2 => .object "java/util/List"
  | 3 => .array .int
  | 4 => .object "RooftopCats$Kitten"
  | 5 => .int
  | 6 => .int
  | _ => .int
abbrev wsX30 : List Cond := u_ws RX3 TX3 8
theorem nmX3 : ∀ a, a < 8 → ∀ b, b < 8 → a ≠ b → (TX3 a).2.1 ≠ (TX3 b).2.1 := by decide +kernel
theorem tyX3_ok : ∀ k, k < 8 → parseFieldDescriptor (TX3 k).2.2.1 = some (tyX3 k) := by decide +kernel
abbrev cX3_init : ByteArray := prog_7_method_1_code
def yX3_init : MethodName := ⟨RX3, "<init>", "()V"⟩
def dkwX3_init_1 : List UInt8 := [181, 0, 18, 42, 187, 0, 9, 89, 183, 0, 11, 181, 0, 21, 42, 16, 64, 188, 10, 181, 0, 24, 177]
abbrev dktX3_init_1 : List UInt8 := dkwX3_init_1 ++ []
def dkwX3_init_0 : List UInt8 := [42, 183, 0, 3, 42, 187, 0, 9, 89, 183, 0, 11, 181, 0, 12, 42, 187, 0, 9, 89, 183, 0, 11]
abbrev dktX3_init_0 : List UInt8 := dkwX3_init_0 ++ dktX3_init_1
theorem dksX3_init_0 : cX3_init.data.toList.drop 0 = dktX3_init_0 := by decide +kernel
theorem dksX3_init_1 : cX3_init.data.toList.drop 23 = dktX3_init_1 := dk_seg dksX3_init_0 23 rfl rfl
theorem dX3_init_0 : decode cX3_init 0 = .ok (.aload_n 0, 1) := dk_42 (dk_at dksX3_init_0 0 rfl rfl)
theorem dX3_init_1 : decode cX3_init 1 = .ok (.invokespecial 3, 3) := dk_183 0 3 (dk_at dksX3_init_0 1 rfl rfl)
theorem dX3_init_4 : decode cX3_init 4 = .ok (.aload_n 0, 1) := dk_42 (dk_at dksX3_init_0 4 rfl rfl)
theorem dX3_init_5 : decode cX3_init 5 = .ok (.new 9, 3) := dk_187 0 9 (dk_at dksX3_init_0 5 rfl rfl)
theorem dX3_init_8 : decode cX3_init 8 = .ok (.dup, 1) := dk_89 (dk_at dksX3_init_0 8 rfl rfl)
theorem dX3_init_9 : decode cX3_init 9 = .ok (.invokespecial 11, 3) := dk_183 0 11 (dk_at dksX3_init_0 9 rfl rfl)
theorem dX3_init_12 : decode cX3_init 12 = .ok (.putfield 12, 3) := dk_181 0 12 (dk_at dksX3_init_0 12 rfl rfl)
theorem dX3_init_15 : decode cX3_init 15 = .ok (.aload_n 0, 1) := dk_42 (dk_at dksX3_init_0 15 rfl rfl)
theorem dX3_init_16 : decode cX3_init 16 = .ok (.new 9, 3) := dk_187 0 9 (dk_at dksX3_init_0 16 rfl rfl)
theorem dX3_init_19 : decode cX3_init 19 = .ok (.dup, 1) := dk_89 (dk_at dksX3_init_0 19 rfl rfl)
theorem dX3_init_20 : decode cX3_init 20 = .ok (.invokespecial 11, 3) := dk_183 0 11 (dk_at dksX3_init_0 20 rfl rfl)
theorem dX3_init_23 : decode cX3_init 23 = .ok (.putfield 18, 3) := dk_181 0 18 (dk_at dksX3_init_1 0 rfl rfl)
theorem dX3_init_26 : decode cX3_init 26 = .ok (.aload_n 0, 1) := dk_42 (dk_at dksX3_init_1 3 rfl rfl)
theorem dX3_init_27 : decode cX3_init 27 = .ok (.new 9, 3) := dk_187 0 9 (dk_at dksX3_init_1 4 rfl rfl)
theorem dX3_init_30 : decode cX3_init 30 = .ok (.dup, 1) := dk_89 (dk_at dksX3_init_1 7 rfl rfl)
theorem dX3_init_31 : decode cX3_init 31 = .ok (.invokespecial 11, 3) := dk_183 0 11 (dk_at dksX3_init_1 8 rfl rfl)
theorem dX3_init_34 : decode cX3_init 34 = .ok (.putfield 21, 3) := dk_181 0 21 (dk_at dksX3_init_1 11 rfl rfl)
theorem dX3_init_37 : decode cX3_init 37 = .ok (.aload_n 0, 1) := dk_42 (dk_at dksX3_init_1 14 rfl rfl)
theorem dX3_init_38 : decode cX3_init 38 = .ok (.bipush 64, 2) := dk_16 64 (dk_at dksX3_init_1 15 rfl rfl)
theorem dX3_init_40 : decode cX3_init 40 = .ok (.newarray .int, 2) := dk_188_10 (dk_at dksX3_init_1 17 rfl rfl)
theorem dX3_init_42 : decode cX3_init 42 = .ok (.putfield 24, 3) := dk_181 0 24 (dk_at dksX3_init_1 19 rfl rfl)
theorem dX3_init_45 : decode cX3_init 45 = .ok (.return_, 1) := dk_177 (dk_at dksX3_init_1 22 rfl rfl)
abbrev cX3_catOn : ByteArray := prog_7_method_3_code
def yX3_catOn : MethodName := ⟨RX3, "catOn", "(I)I"⟩
def dkwX3_catOn_2 : List UInt8 := [172]
abbrev dktX3_catOn_2 : List UInt8 := dkwX3_catOn_2 ++ []
def dkwX3_catOn_1 : List UInt8 := [185, 0, 86, 2, 0, 192, 0, 57, 180, 0, 90, 27, 160, 0, 5, 28, 172, 132, 2, 1, 167, 255, 218, 2]
abbrev dktX3_catOn_1 : List UInt8 := dkwX3_catOn_1 ++ dktX3_catOn_2
def dkwX3_catOn_0 : List UInt8 := [3, 61, 28, 42, 180, 0, 21, 185, 0, 82, 1, 0, 162, 0, 31, 42, 180, 0, 21, 28]
abbrev dktX3_catOn_0 : List UInt8 := dkwX3_catOn_0 ++ dktX3_catOn_1
theorem dksX3_catOn_0 : cX3_catOn.data.toList.drop 0 = dktX3_catOn_0 := by decide +kernel
theorem dksX3_catOn_1 : cX3_catOn.data.toList.drop 20 = dktX3_catOn_1 := dk_seg dksX3_catOn_0 20 rfl rfl
theorem dksX3_catOn_2 : cX3_catOn.data.toList.drop 44 = dktX3_catOn_2 := dk_seg dksX3_catOn_1 24 rfl rfl
theorem dX3_catOn_0 : decode cX3_catOn 0 = .ok (.iconst 0, 1) := dk_3 (dk_at dksX3_catOn_0 0 rfl rfl)
theorem dX3_catOn_1 : decode cX3_catOn 1 = .ok (.istore_n 2, 1) := dk_61 (dk_at dksX3_catOn_0 1 rfl rfl)
theorem dX3_catOn_2 : decode cX3_catOn 2 = .ok (.iload_n 2, 1) := dk_28 (dk_at dksX3_catOn_0 2 rfl rfl)
theorem dX3_catOn_3 : decode cX3_catOn 3 = .ok (.aload_n 0, 1) := dk_42 (dk_at dksX3_catOn_0 3 rfl rfl)
theorem dX3_catOn_4 : decode cX3_catOn 4 = .ok (.getfield 21, 3) := dk_180 0 21 (dk_at dksX3_catOn_0 4 rfl rfl)
theorem dX3_catOn_7 : decode cX3_catOn 7 = .ok (.invokeinterface 82 1, 5) := by decide +kernel
theorem dX3_catOn_12 : decode cX3_catOn 12 = .ok (.if_icmp .ge 31, 3) := dk_162 0 31 (dk_at dksX3_catOn_0 12 rfl rfl)
theorem dX3_catOn_15 : decode cX3_catOn 15 = .ok (.aload_n 0, 1) := dk_42 (dk_at dksX3_catOn_0 15 rfl rfl)
theorem dX3_catOn_16 : decode cX3_catOn 16 = .ok (.getfield 21, 3) := dk_180 0 21 (dk_at dksX3_catOn_0 16 rfl rfl)
theorem dX3_catOn_19 : decode cX3_catOn 19 = .ok (.iload_n 2, 1) := dk_28 (dk_at dksX3_catOn_0 19 rfl rfl)
theorem dX3_catOn_20 : decode cX3_catOn 20 = .ok (.invokeinterface 86 2, 5) := by decide +kernel
theorem dX3_catOn_25 : decode cX3_catOn 25 = .ok (.checkcast 57, 3) := dk_192 0 57 (dk_at dksX3_catOn_1 5 rfl rfl)
theorem dX3_catOn_28 : decode cX3_catOn 28 = .ok (.getfield 90, 3) := dk_180 0 90 (dk_at dksX3_catOn_1 8 rfl rfl)
theorem dX3_catOn_31 : decode cX3_catOn 31 = .ok (.iload_n 1, 1) := dk_27 (dk_at dksX3_catOn_1 11 rfl rfl)
theorem dX3_catOn_32 : decode cX3_catOn 32 = .ok (.if_icmp .ne 5, 3) := dk_160 0 5 (dk_at dksX3_catOn_1 12 rfl rfl)
theorem dX3_catOn_35 : decode cX3_catOn 35 = .ok (.iload_n 2, 1) := dk_28 (dk_at dksX3_catOn_1 15 rfl rfl)
theorem dX3_catOn_36 : decode cX3_catOn 36 = .ok (.ireturn, 1) := dk_172 (dk_at dksX3_catOn_1 16 rfl rfl)
theorem dX3_catOn_37 : decode cX3_catOn 37 = .ok (.iinc 2 1, 3) := dk_132 2 1 (dk_at dksX3_catOn_1 17 rfl rfl)
theorem dX3_catOn_40 : decode cX3_catOn 40 = .ok (.goto (-38), 3) := dk_167 255 218 (dk_at dksX3_catOn_1 20 rfl rfl)
theorem dX3_catOn_43 : decode cX3_catOn 43 = .ok (.iconst (-1), 1) := dk_2 (dk_at dksX3_catOn_1 23 rfl rfl)
theorem dX3_catOn_44 : decode cX3_catOn 44 = .ok (.ireturn, 1) := dk_172 (dk_at dksX3_catOn_2 0 rfl rfl)
abbrev cX3_owner : ByteArray := prog_7_method_4_code
def yX3_owner : MethodName := ⟨RX3, "owner", "(I)I"⟩
def dkwX3_owner_0 : List UInt8 := [42, 180, 0, 12, 27, 185, 0, 86, 2, 0, 192, 0, 45, 180, 0, 93, 172]
abbrev dktX3_owner_0 : List UInt8 := dkwX3_owner_0 ++ []
theorem dksX3_owner_0 : cX3_owner.data.toList.drop 0 = dktX3_owner_0 := by decide +kernel
theorem dX3_owner_0 : decode cX3_owner 0 = .ok (.aload_n 0, 1) := dk_42 (dk_at dksX3_owner_0 0 rfl rfl)
theorem dX3_owner_1 : decode cX3_owner 1 = .ok (.getfield 12, 3) := dk_180 0 12 (dk_at dksX3_owner_0 1 rfl rfl)
theorem dX3_owner_4 : decode cX3_owner 4 = .ok (.iload_n 1, 1) := dk_27 (dk_at dksX3_owner_0 4 rfl rfl)
theorem dX3_owner_5 : decode cX3_owner 5 = .ok (.invokeinterface 86 2, 5) := by decide +kernel
theorem dX3_owner_10 : decode cX3_owner 10 = .ok (.checkcast 45, 3) := dk_192 0 45 (dk_at dksX3_owner_0 10 rfl rfl)
theorem dX3_owner_13 : decode cX3_owner 13 = .ok (.getfield 93, 3) := dk_180 0 93 (dk_at dksX3_owner_0 13 rfl rfl)
theorem dX3_owner_16 : decode cX3_owner 16 = .ok (.ireturn, 1) := dk_172 (dk_at dksX3_owner_0 16 rfl rfl)
abbrev cX3_judgeClaim : ByteArray := prog_7_method_22_code
def yX3_judgeClaim : MethodName := ⟨RX3, "judgeClaim", "(I)I"⟩
def dkwX3_judgeClaim_1 : List UInt8 := [8, 172, 42, 27, 182, 0, 164, 153, 0, 8, 16, 6, 167, 0, 4, 3, 172]
abbrev dktX3_judgeClaim_1 : List UInt8 := dkwX3_judgeClaim_1 ++ []
def dkwX3_judgeClaim_0 : List UInt8 := [42, 42, 180, 0, 21, 27, 185, 0, 86, 2, 0, 192, 0, 57, 180, 0, 90, 182, 0, 96, 2, 159, 0, 5]
abbrev dktX3_judgeClaim_0 : List UInt8 := dkwX3_judgeClaim_0 ++ dktX3_judgeClaim_1
theorem dksX3_judgeClaim_0 : cX3_judgeClaim.data.toList.drop 0 = dktX3_judgeClaim_0 := by decide +kernel
theorem dksX3_judgeClaim_1 : cX3_judgeClaim.data.toList.drop 24 = dktX3_judgeClaim_1 := dk_seg dksX3_judgeClaim_0 24 rfl rfl
theorem dX3_judgeClaim_0 : decode cX3_judgeClaim 0 = .ok (.aload_n 0, 1) := dk_42 (dk_at dksX3_judgeClaim_0 0 rfl rfl)
theorem dX3_judgeClaim_1 : decode cX3_judgeClaim 1 = .ok (.aload_n 0, 1) := dk_42 (dk_at dksX3_judgeClaim_0 1 rfl rfl)
theorem dX3_judgeClaim_2 : decode cX3_judgeClaim 2 = .ok (.getfield 21, 3) := dk_180 0 21 (dk_at dksX3_judgeClaim_0 2 rfl rfl)
theorem dX3_judgeClaim_5 : decode cX3_judgeClaim 5 = .ok (.iload_n 1, 1) := dk_27 (dk_at dksX3_judgeClaim_0 5 rfl rfl)
theorem dX3_judgeClaim_6 : decode cX3_judgeClaim 6 = .ok (.invokeinterface 86 2, 5) := by decide +kernel
theorem dX3_judgeClaim_11 : decode cX3_judgeClaim 11 = .ok (.checkcast 57, 3) := dk_192 0 57 (dk_at dksX3_judgeClaim_0 11 rfl rfl)
theorem dX3_judgeClaim_14 : decode cX3_judgeClaim 14 = .ok (.getfield 90, 3) := dk_180 0 90 (dk_at dksX3_judgeClaim_0 14 rfl rfl)
theorem dX3_judgeClaim_17 : decode cX3_judgeClaim 17 = .ok (.invokevirtual 96, 3) := dk_182 0 96 (dk_at dksX3_judgeClaim_0 17 rfl rfl)
theorem dX3_judgeClaim_20 : decode cX3_judgeClaim 20 = .ok (.iconst (-1), 1) := dk_2 (dk_at dksX3_judgeClaim_0 20 rfl rfl)
theorem dX3_judgeClaim_21 : decode cX3_judgeClaim 21 = .ok (.if_icmp .eq 5, 3) := dk_159 0 5 (dk_at dksX3_judgeClaim_0 21 rfl rfl)
theorem dX3_judgeClaim_24 : decode cX3_judgeClaim 24 = .ok (.iconst 5, 1) := dk_8 (dk_at dksX3_judgeClaim_1 0 rfl rfl)
theorem dX3_judgeClaim_25 : decode cX3_judgeClaim 25 = .ok (.ireturn, 1) := dk_172 (dk_at dksX3_judgeClaim_1 1 rfl rfl)
theorem dX3_judgeClaim_26 : decode cX3_judgeClaim 26 = .ok (.aload_n 0, 1) := dk_42 (dk_at dksX3_judgeClaim_1 2 rfl rfl)
theorem dX3_judgeClaim_27 : decode cX3_judgeClaim 27 = .ok (.iload_n 1, 1) := dk_27 (dk_at dksX3_judgeClaim_1 3 rfl rfl)
theorem dX3_judgeClaim_28 : decode cX3_judgeClaim 28 = .ok (.invokevirtual 164, 3) := dk_182 0 164 (dk_at dksX3_judgeClaim_1 4 rfl rfl)
theorem dX3_judgeClaim_31 : decode cX3_judgeClaim 31 = .ok (.ifCond .eq 8, 3) := dk_153 0 8 (dk_at dksX3_judgeClaim_1 7 rfl rfl)
theorem dX3_judgeClaim_34 : decode cX3_judgeClaim 34 = .ok (.bipush 6, 2) := dk_16 6 (dk_at dksX3_judgeClaim_1 10 rfl rfl)
theorem dX3_judgeClaim_36 : decode cX3_judgeClaim 36 = .ok (.goto 4, 3) := dk_167 0 4 (dk_at dksX3_judgeClaim_1 12 rfl rfl)
theorem dX3_judgeClaim_39 : decode cX3_judgeClaim 39 = .ok (.iconst 0, 1) := dk_3 (dk_at dksX3_judgeClaim_1 15 rfl rfl)
theorem dX3_judgeClaim_40 : decode cX3_judgeClaim 40 = .ok (.ireturn, 1) := dk_172 (dk_at dksX3_judgeClaim_1 16 rfl rfl)
abbrev cX3_ownsEnough : ByteArray := prog_7_method_6_code
def yX3_ownsEnough : MethodName := ⟨RX3, "ownsEnough", "(I)Z"⟩
def dkwX3_ownsEnough_0 : List UInt8 := [42, 27, 182, 0, 99, 184, 0, 102, 7, 161, 0, 7, 4, 167, 0, 4, 3, 172]
abbrev dktX3_ownsEnough_0 : List UInt8 := dkwX3_ownsEnough_0 ++ []
theorem dksX3_ownsEnough_0 : cX3_ownsEnough.data.toList.drop 0 = dktX3_ownsEnough_0 := by decide +kernel
theorem dX3_ownsEnough_0 : decode cX3_ownsEnough 0 = .ok (.aload_n 0, 1) := dk_42 (dk_at dksX3_ownsEnough_0 0 rfl rfl)
theorem dX3_ownsEnough_1 : decode cX3_ownsEnough 1 = .ok (.iload_n 1, 1) := dk_27 (dk_at dksX3_ownsEnough_0 1 rfl rfl)
theorem dX3_ownsEnough_2 : decode cX3_ownsEnough 2 = .ok (.invokevirtual 99, 3) := dk_182 0 99 (dk_at dksX3_ownsEnough_0 2 rfl rfl)
theorem dX3_ownsEnough_5 : decode cX3_ownsEnough 5 = .ok (.invokestatic 102, 3) := dk_184 0 102 (dk_at dksX3_ownsEnough_0 5 rfl rfl)
theorem dX3_ownsEnough_8 : decode cX3_ownsEnough 8 = .ok (.iconst 4, 1) := dk_7 (dk_at dksX3_ownsEnough_0 8 rfl rfl)
theorem dX3_ownsEnough_9 : decode cX3_ownsEnough 9 = .ok (.if_icmp .lt 7, 3) := dk_161 0 7 (dk_at dksX3_ownsEnough_0 9 rfl rfl)
theorem dX3_ownsEnough_12 : decode cX3_ownsEnough 12 = .ok (.iconst 1, 1) := dk_4 (dk_at dksX3_ownsEnough_0 12 rfl rfl)
theorem dX3_ownsEnough_13 : decode cX3_ownsEnough 13 = .ok (.goto 4, 3) := dk_167 0 4 (dk_at dksX3_ownsEnough_0 13 rfl rfl)
theorem dX3_ownsEnough_16 : decode cX3_ownsEnough 16 = .ok (.iconst 0, 1) := dk_3 (dk_at dksX3_ownsEnough_0 16 rfl rfl)
theorem dX3_ownsEnough_17 : decode cX3_ownsEnough 17 = .ok (.ireturn, 1) := dk_172 (dk_at dksX3_ownsEnough_0 17 rfl rfl)
abbrev cX3_owned : ByteArray := prog_7_method_5_code
def yX3_owned : MethodName := ⟨RX3, "owned", "(I)I"⟩
def dkwX3_owned_1 : List UInt8 := [160, 0, 9, 4, 29, 120, 167, 0, 4, 3, 128, 61, 132, 3, 1, 167, 255, 221, 28, 172]
abbrev dktX3_owned_1 : List UInt8 := dkwX3_owned_1 ++ []
def dkwX3_owned_0 : List UInt8 := [3, 61, 3, 62, 29, 42, 180, 0, 12, 185, 0, 82, 1, 0, 162, 0, 28, 28, 42, 29, 182, 0, 96, 27]
abbrev dktX3_owned_0 : List UInt8 := dkwX3_owned_0 ++ dktX3_owned_1
theorem dksX3_owned_0 : cX3_owned.data.toList.drop 0 = dktX3_owned_0 := by decide +kernel
theorem dksX3_owned_1 : cX3_owned.data.toList.drop 24 = dktX3_owned_1 := dk_seg dksX3_owned_0 24 rfl rfl
theorem dX3_owned_0 : decode cX3_owned 0 = .ok (.iconst 0, 1) := dk_3 (dk_at dksX3_owned_0 0 rfl rfl)
theorem dX3_owned_1 : decode cX3_owned 1 = .ok (.istore_n 2, 1) := dk_61 (dk_at dksX3_owned_0 1 rfl rfl)
theorem dX3_owned_2 : decode cX3_owned 2 = .ok (.iconst 0, 1) := dk_3 (dk_at dksX3_owned_0 2 rfl rfl)
theorem dX3_owned_3 : decode cX3_owned 3 = .ok (.istore_n 3, 1) := dk_62 (dk_at dksX3_owned_0 3 rfl rfl)
theorem dX3_owned_4 : decode cX3_owned 4 = .ok (.iload_n 3, 1) := dk_29 (dk_at dksX3_owned_0 4 rfl rfl)
theorem dX3_owned_5 : decode cX3_owned 5 = .ok (.aload_n 0, 1) := dk_42 (dk_at dksX3_owned_0 5 rfl rfl)
theorem dX3_owned_6 : decode cX3_owned 6 = .ok (.getfield 12, 3) := dk_180 0 12 (dk_at dksX3_owned_0 6 rfl rfl)
theorem dX3_owned_9 : decode cX3_owned 9 = .ok (.invokeinterface 82 1, 5) := by decide +kernel
theorem dX3_owned_14 : decode cX3_owned 14 = .ok (.if_icmp .ge 28, 3) := dk_162 0 28 (dk_at dksX3_owned_0 14 rfl rfl)
theorem dX3_owned_17 : decode cX3_owned 17 = .ok (.iload_n 2, 1) := dk_28 (dk_at dksX3_owned_0 17 rfl rfl)
theorem dX3_owned_18 : decode cX3_owned 18 = .ok (.aload_n 0, 1) := dk_42 (dk_at dksX3_owned_0 18 rfl rfl)
theorem dX3_owned_19 : decode cX3_owned 19 = .ok (.iload_n 3, 1) := dk_29 (dk_at dksX3_owned_0 19 rfl rfl)
theorem dX3_owned_20 : decode cX3_owned 20 = .ok (.invokevirtual 96, 3) := dk_182 0 96 (dk_at dksX3_owned_0 20 rfl rfl)
theorem dX3_owned_23 : decode cX3_owned 23 = .ok (.iload_n 1, 1) := dk_27 (dk_at dksX3_owned_0 23 rfl rfl)
theorem dX3_owned_24 : decode cX3_owned 24 = .ok (.if_icmp .ne 9, 3) := dk_160 0 9 (dk_at dksX3_owned_1 0 rfl rfl)
theorem dX3_owned_27 : decode cX3_owned 27 = .ok (.iconst 1, 1) := dk_4 (dk_at dksX3_owned_1 3 rfl rfl)
theorem dX3_owned_28 : decode cX3_owned 28 = .ok (.iload_n 3, 1) := dk_29 (dk_at dksX3_owned_1 4 rfl rfl)
theorem dX3_owned_29 : decode cX3_owned 29 = .ok (.ishl, 1) := dk_120 (dk_at dksX3_owned_1 5 rfl rfl)
theorem dX3_owned_30 : decode cX3_owned 30 = .ok (.goto 4, 3) := dk_167 0 4 (dk_at dksX3_owned_1 6 rfl rfl)
theorem dX3_owned_33 : decode cX3_owned 33 = .ok (.iconst 0, 1) := dk_3 (dk_at dksX3_owned_1 9 rfl rfl)
theorem dX3_owned_34 : decode cX3_owned 34 = .ok (.ior, 1) := dk_128 (dk_at dksX3_owned_1 10 rfl rfl)
theorem dX3_owned_35 : decode cX3_owned 35 = .ok (.istore_n 2, 1) := dk_61 (dk_at dksX3_owned_1 11 rfl rfl)
theorem dX3_owned_36 : decode cX3_owned 36 = .ok (.iinc 3 1, 3) := dk_132 3 1 (dk_at dksX3_owned_1 12 rfl rfl)
theorem dX3_owned_39 : decode cX3_owned 39 = .ok (.goto (-35), 3) := dk_167 255 221 (dk_at dksX3_owned_1 15 rfl rfl)
theorem dX3_owned_42 : decode cX3_owned 42 = .ok (.iload_n 2, 1) := dk_28 (dk_at dksX3_owned_1 18 rfl rfl)
theorem dX3_owned_43 : decode cX3_owned 43 = .ok (.ireturn, 1) := dk_172 (dk_at dksX3_owned_1 19 rfl rfl)
abbrev cX3_claim : ByteArray := prog_7_method_23_code
def yX3_claim : MethodName := ⟨RX3, "claim", "(I)I"⟩
def dkwX3_claim_1 : List UInt8 := [185, 0, 86, 2, 0, 192, 0, 45, 27, 181, 0, 93, 42, 27, 182, 0, 99, 184, 0, 102, 172]
abbrev dktX3_claim_1 : List UInt8 := dkwX3_claim_1 ++ []
def dkwX3_claim_0 : List UInt8 := [42, 180, 0, 12, 42, 180, 0, 21, 27, 185, 0, 86, 2, 0, 192, 0, 57, 180, 0, 90]
abbrev dktX3_claim_0 : List UInt8 := dkwX3_claim_0 ++ dktX3_claim_1
theorem dksX3_claim_0 : cX3_claim.data.toList.drop 0 = dktX3_claim_0 := by decide +kernel
theorem dksX3_claim_1 : cX3_claim.data.toList.drop 20 = dktX3_claim_1 := dk_seg dksX3_claim_0 20 rfl rfl
theorem dX3_claim_0 : decode cX3_claim 0 = .ok (.aload_n 0, 1) := dk_42 (dk_at dksX3_claim_0 0 rfl rfl)
theorem dX3_claim_1 : decode cX3_claim 1 = .ok (.getfield 12, 3) := dk_180 0 12 (dk_at dksX3_claim_0 1 rfl rfl)
theorem dX3_claim_4 : decode cX3_claim 4 = .ok (.aload_n 0, 1) := dk_42 (dk_at dksX3_claim_0 4 rfl rfl)
theorem dX3_claim_5 : decode cX3_claim 5 = .ok (.getfield 21, 3) := dk_180 0 21 (dk_at dksX3_claim_0 5 rfl rfl)
theorem dX3_claim_8 : decode cX3_claim 8 = .ok (.iload_n 1, 1) := dk_27 (dk_at dksX3_claim_0 8 rfl rfl)
theorem dX3_claim_9 : decode cX3_claim 9 = .ok (.invokeinterface 86 2, 5) := by decide +kernel
theorem dX3_claim_14 : decode cX3_claim 14 = .ok (.checkcast 57, 3) := dk_192 0 57 (dk_at dksX3_claim_0 14 rfl rfl)
theorem dX3_claim_17 : decode cX3_claim 17 = .ok (.getfield 90, 3) := dk_180 0 90 (dk_at dksX3_claim_0 17 rfl rfl)
theorem dX3_claim_20 : decode cX3_claim 20 = .ok (.invokeinterface 86 2, 5) := by decide +kernel
theorem dX3_claim_25 : decode cX3_claim 25 = .ok (.checkcast 45, 3) := dk_192 0 45 (dk_at dksX3_claim_1 5 rfl rfl)
theorem dX3_claim_28 : decode cX3_claim 28 = .ok (.iload_n 1, 1) := dk_27 (dk_at dksX3_claim_1 8 rfl rfl)
theorem dX3_claim_29 : decode cX3_claim 29 = .ok (.putfield 93, 3) := dk_181 0 93 (dk_at dksX3_claim_1 9 rfl rfl)
theorem dX3_claim_32 : decode cX3_claim 32 = .ok (.aload_n 0, 1) := dk_42 (dk_at dksX3_claim_1 12 rfl rfl)
theorem dX3_claim_33 : decode cX3_claim 33 = .ok (.iload_n 1, 1) := dk_27 (dk_at dksX3_claim_1 13 rfl rfl)
theorem dX3_claim_34 : decode cX3_claim 34 = .ok (.invokevirtual 99, 3) := dk_182 0 99 (dk_at dksX3_claim_1 14 rfl rfl)
theorem dX3_claim_37 : decode cX3_claim 37 = .ok (.invokestatic 102, 3) := dk_184 0 102 (dk_at dksX3_claim_1 17 rfl rfl)
theorem dX3_claim_40 : decode cX3_claim 40 = .ok (.ireturn, 1) := dk_172 (dk_at dksX3_claim_1 20 rfl rfl)
abbrev cX3_judgeStep : ByteArray := prog_7_method_15_code
def yX3_judgeStep : MethodName := ⟨RX3, "judgeStep", "(II)I"⟩
def dkwX3_judgeStep_1 : List UInt8 := [185, 0, 86, 2, 0, 192, 0, 55, 182, 0, 148, 172]
abbrev dktX3_judgeStep_1 : List UInt8 := dkwX3_judgeStep_1 ++ []
def dkwX3_judgeStep_0 : List UInt8 := [42, 27, 42, 180, 0, 21, 27, 185, 0, 86, 2, 0, 192, 0, 57, 180, 0, 90, 42, 180, 0, 18, 28]
abbrev dktX3_judgeStep_0 : List UInt8 := dkwX3_judgeStep_0 ++ dktX3_judgeStep_1
theorem dksX3_judgeStep_0 : cX3_judgeStep.data.toList.drop 0 = dktX3_judgeStep_0 := by decide +kernel
theorem dksX3_judgeStep_1 : cX3_judgeStep.data.toList.drop 23 = dktX3_judgeStep_1 := dk_seg dksX3_judgeStep_0 23 rfl rfl
theorem dX3_judgeStep_0 : decode cX3_judgeStep 0 = .ok (.aload_n 0, 1) := dk_42 (dk_at dksX3_judgeStep_0 0 rfl rfl)
theorem dX3_judgeStep_1 : decode cX3_judgeStep 1 = .ok (.iload_n 1, 1) := dk_27 (dk_at dksX3_judgeStep_0 1 rfl rfl)
theorem dX3_judgeStep_2 : decode cX3_judgeStep 2 = .ok (.aload_n 0, 1) := dk_42 (dk_at dksX3_judgeStep_0 2 rfl rfl)
theorem dX3_judgeStep_3 : decode cX3_judgeStep 3 = .ok (.getfield 21, 3) := dk_180 0 21 (dk_at dksX3_judgeStep_0 3 rfl rfl)
theorem dX3_judgeStep_6 : decode cX3_judgeStep 6 = .ok (.iload_n 1, 1) := dk_27 (dk_at dksX3_judgeStep_0 6 rfl rfl)
theorem dX3_judgeStep_7 : decode cX3_judgeStep 7 = .ok (.invokeinterface 86 2, 5) := by decide +kernel
theorem dX3_judgeStep_12 : decode cX3_judgeStep 12 = .ok (.checkcast 57, 3) := dk_192 0 57 (dk_at dksX3_judgeStep_0 12 rfl rfl)
theorem dX3_judgeStep_15 : decode cX3_judgeStep 15 = .ok (.getfield 90, 3) := dk_180 0 90 (dk_at dksX3_judgeStep_0 15 rfl rfl)
theorem dX3_judgeStep_18 : decode cX3_judgeStep 18 = .ok (.aload_n 0, 1) := dk_42 (dk_at dksX3_judgeStep_0 18 rfl rfl)
theorem dX3_judgeStep_19 : decode cX3_judgeStep 19 = .ok (.getfield 18, 3) := dk_180 0 18 (dk_at dksX3_judgeStep_0 19 rfl rfl)
theorem dX3_judgeStep_22 : decode cX3_judgeStep 22 = .ok (.iload_n 2, 1) := dk_28 (dk_at dksX3_judgeStep_0 22 rfl rfl)
theorem dX3_judgeStep_23 : decode cX3_judgeStep 23 = .ok (.invokeinterface 86 2, 5) := by decide +kernel
theorem dX3_judgeStep_28 : decode cX3_judgeStep 28 = .ok (.checkcast 55, 3) := dk_192 0 55 (dk_at dksX3_judgeStep_1 5 rfl rfl)
theorem dX3_judgeStep_31 : decode cX3_judgeStep 31 = .ok (.invokevirtual 148, 3) := dk_182 0 148 (dk_at dksX3_judgeStep_1 8 rfl rfl)
theorem dX3_judgeStep_34 : decode cX3_judgeStep 34 = .ok (.ireturn, 1) := dk_172 (dk_at dksX3_judgeStep_1 11 rfl rfl)
abbrev cX3_judgeWalk : ByteArray := prog_7_method_14_code
def yX3_judgeWalk : MethodName := ⟨RX3, "judgeWalk", "(IILRooftopCats$Gutter;)I"⟩
def dkwX3_judgeWalk_4 : List UInt8 := [167, 0, 4, 3, 172]
abbrev dktX3_judgeWalk_4 : List UInt8 := dkwX3_judgeWalk_4 ++ []
def dkwX3_judgeWalk_3 : List UInt8 := [21, 6, 2, 159, 0, 23, 21, 6, 27, 159, 0, 17, 42, 27, 21, 6, 182, 0, 129, 154, 0, 7, 7]
abbrev dktX3_judgeWalk_3 : List UInt8 := dkwX3_judgeWalk_3 ++ dktX3_judgeWalk_4
def dkwX3_judgeWalk_2 : List UInt8 := [54, 5, 21, 5, 2, 159, 0, 11, 21, 5, 27, 159, 0, 5, 6, 172, 42, 21, 4, 182, 0, 96, 54, 6]
abbrev dktX3_judgeWalk_2 : List UInt8 := dkwX3_judgeWalk_2 ++ dktX3_judgeWalk_3
def dkwX3_judgeWalk_1 : List UInt8 := [192, 0, 57, 180, 0, 142, 162, 0, 5, 5, 172, 45, 28, 182, 0, 145, 54, 4, 42, 21, 4, 182, 0, 114]
abbrev dktX3_judgeWalk_1 : List UInt8 := dkwX3_judgeWalk_1 ++ dktX3_judgeWalk_2
def dkwX3_judgeWalk_0 : List UInt8 := [45, 28, 182, 0, 136, 154, 0, 5, 4, 172, 45, 182, 0, 139, 42, 180, 0, 21, 27, 185, 0, 86, 2, 0]
abbrev dktX3_judgeWalk_0 : List UInt8 := dkwX3_judgeWalk_0 ++ dktX3_judgeWalk_1
theorem dksX3_judgeWalk_0 : cX3_judgeWalk.data.toList.drop 0 = dktX3_judgeWalk_0 := by decide +kernel
theorem dksX3_judgeWalk_1 : cX3_judgeWalk.data.toList.drop 24 = dktX3_judgeWalk_1 := dk_seg dksX3_judgeWalk_0 24 rfl rfl
theorem dksX3_judgeWalk_2 : cX3_judgeWalk.data.toList.drop 48 = dktX3_judgeWalk_2 := dk_seg dksX3_judgeWalk_1 24 rfl rfl
theorem dksX3_judgeWalk_3 : cX3_judgeWalk.data.toList.drop 72 = dktX3_judgeWalk_3 := dk_seg dksX3_judgeWalk_2 24 rfl rfl
theorem dksX3_judgeWalk_4 : cX3_judgeWalk.data.toList.drop 95 = dktX3_judgeWalk_4 := dk_seg dksX3_judgeWalk_3 23 rfl rfl
theorem dX3_judgeWalk_0 : decode cX3_judgeWalk 0 = .ok (.aload_n 3, 1) := dk_45 (dk_at dksX3_judgeWalk_0 0 rfl rfl)
theorem dX3_judgeWalk_1 : decode cX3_judgeWalk 1 = .ok (.iload_n 2, 1) := dk_28 (dk_at dksX3_judgeWalk_0 1 rfl rfl)
theorem dX3_judgeWalk_2 : decode cX3_judgeWalk 2 = .ok (.invokevirtual 136, 3) := dk_182 0 136 (dk_at dksX3_judgeWalk_0 2 rfl rfl)
theorem dX3_judgeWalk_5 : decode cX3_judgeWalk 5 = .ok (.ifCond .ne 5, 3) := dk_154 0 5 (dk_at dksX3_judgeWalk_0 5 rfl rfl)
theorem dX3_judgeWalk_8 : decode cX3_judgeWalk 8 = .ok (.iconst 1, 1) := dk_4 (dk_at dksX3_judgeWalk_0 8 rfl rfl)
theorem dX3_judgeWalk_9 : decode cX3_judgeWalk 9 = .ok (.ireturn, 1) := dk_172 (dk_at dksX3_judgeWalk_0 9 rfl rfl)
theorem dX3_judgeWalk_10 : decode cX3_judgeWalk 10 = .ok (.aload_n 3, 1) := dk_45 (dk_at dksX3_judgeWalk_0 10 rfl rfl)
theorem dX3_judgeWalk_11 : decode cX3_judgeWalk 11 = .ok (.invokevirtual 139, 3) := dk_182 0 139 (dk_at dksX3_judgeWalk_0 11 rfl rfl)
theorem dX3_judgeWalk_14 : decode cX3_judgeWalk 14 = .ok (.aload_n 0, 1) := dk_42 (dk_at dksX3_judgeWalk_0 14 rfl rfl)
theorem dX3_judgeWalk_15 : decode cX3_judgeWalk 15 = .ok (.getfield 21, 3) := dk_180 0 21 (dk_at dksX3_judgeWalk_0 15 rfl rfl)
theorem dX3_judgeWalk_18 : decode cX3_judgeWalk 18 = .ok (.iload_n 1, 1) := dk_27 (dk_at dksX3_judgeWalk_0 18 rfl rfl)
theorem dX3_judgeWalk_19 : decode cX3_judgeWalk 19 = .ok (.invokeinterface 86 2, 5) := by decide +kernel
theorem dX3_judgeWalk_24 : decode cX3_judgeWalk 24 = .ok (.checkcast 57, 3) := dk_192 0 57 (dk_at dksX3_judgeWalk_1 0 rfl rfl)
theorem dX3_judgeWalk_27 : decode cX3_judgeWalk 27 = .ok (.getfield 142, 3) := dk_180 0 142 (dk_at dksX3_judgeWalk_1 3 rfl rfl)
theorem dX3_judgeWalk_30 : decode cX3_judgeWalk 30 = .ok (.if_icmp .ge 5, 3) := dk_162 0 5 (dk_at dksX3_judgeWalk_1 6 rfl rfl)
theorem dX3_judgeWalk_33 : decode cX3_judgeWalk 33 = .ok (.iconst 2, 1) := dk_5 (dk_at dksX3_judgeWalk_1 9 rfl rfl)
theorem dX3_judgeWalk_34 : decode cX3_judgeWalk 34 = .ok (.ireturn, 1) := dk_172 (dk_at dksX3_judgeWalk_1 10 rfl rfl)
theorem dX3_judgeWalk_35 : decode cX3_judgeWalk 35 = .ok (.aload_n 3, 1) := dk_45 (dk_at dksX3_judgeWalk_1 11 rfl rfl)
theorem dX3_judgeWalk_36 : decode cX3_judgeWalk 36 = .ok (.iload_n 2, 1) := dk_28 (dk_at dksX3_judgeWalk_1 12 rfl rfl)
theorem dX3_judgeWalk_37 : decode cX3_judgeWalk 37 = .ok (.invokevirtual 145, 3) := dk_182 0 145 (dk_at dksX3_judgeWalk_1 13 rfl rfl)
theorem dX3_judgeWalk_40 : decode cX3_judgeWalk 40 = .ok (.istore 4, 2) := dk_54 4 (dk_at dksX3_judgeWalk_1 16 rfl rfl)
theorem dX3_judgeWalk_42 : decode cX3_judgeWalk 42 = .ok (.aload_n 0, 1) := dk_42 (dk_at dksX3_judgeWalk_1 18 rfl rfl)
theorem dX3_judgeWalk_43 : decode cX3_judgeWalk 43 = .ok (.iload 4, 2) := dk_21 4 (dk_at dksX3_judgeWalk_1 19 rfl rfl)
theorem dX3_judgeWalk_45 : decode cX3_judgeWalk 45 = .ok (.invokevirtual 114, 3) := dk_182 0 114 (dk_at dksX3_judgeWalk_1 21 rfl rfl)
theorem dX3_judgeWalk_48 : decode cX3_judgeWalk 48 = .ok (.istore 5, 2) := dk_54 5 (dk_at dksX3_judgeWalk_2 0 rfl rfl)
theorem dX3_judgeWalk_50 : decode cX3_judgeWalk 50 = .ok (.iload 5, 2) := dk_21 5 (dk_at dksX3_judgeWalk_2 2 rfl rfl)
theorem dX3_judgeWalk_52 : decode cX3_judgeWalk 52 = .ok (.iconst (-1), 1) := dk_2 (dk_at dksX3_judgeWalk_2 4 rfl rfl)
theorem dX3_judgeWalk_53 : decode cX3_judgeWalk 53 = .ok (.if_icmp .eq 11, 3) := dk_159 0 11 (dk_at dksX3_judgeWalk_2 5 rfl rfl)
theorem dX3_judgeWalk_56 : decode cX3_judgeWalk 56 = .ok (.iload 5, 2) := dk_21 5 (dk_at dksX3_judgeWalk_2 8 rfl rfl)
theorem dX3_judgeWalk_58 : decode cX3_judgeWalk 58 = .ok (.iload_n 1, 1) := dk_27 (dk_at dksX3_judgeWalk_2 10 rfl rfl)
theorem dX3_judgeWalk_59 : decode cX3_judgeWalk 59 = .ok (.if_icmp .eq 5, 3) := dk_159 0 5 (dk_at dksX3_judgeWalk_2 11 rfl rfl)
theorem dX3_judgeWalk_62 : decode cX3_judgeWalk 62 = .ok (.iconst 3, 1) := dk_6 (dk_at dksX3_judgeWalk_2 14 rfl rfl)
theorem dX3_judgeWalk_63 : decode cX3_judgeWalk 63 = .ok (.ireturn, 1) := dk_172 (dk_at dksX3_judgeWalk_2 15 rfl rfl)
theorem dX3_judgeWalk_64 : decode cX3_judgeWalk 64 = .ok (.aload_n 0, 1) := dk_42 (dk_at dksX3_judgeWalk_2 16 rfl rfl)
theorem dX3_judgeWalk_65 : decode cX3_judgeWalk 65 = .ok (.iload 4, 2) := dk_21 4 (dk_at dksX3_judgeWalk_2 17 rfl rfl)
theorem dX3_judgeWalk_67 : decode cX3_judgeWalk 67 = .ok (.invokevirtual 96, 3) := dk_182 0 96 (dk_at dksX3_judgeWalk_2 19 rfl rfl)
theorem dX3_judgeWalk_70 : decode cX3_judgeWalk 70 = .ok (.istore 6, 2) := dk_54 6 (dk_at dksX3_judgeWalk_2 22 rfl rfl)
theorem dX3_judgeWalk_72 : decode cX3_judgeWalk 72 = .ok (.iload 6, 2) := dk_21 6 (dk_at dksX3_judgeWalk_3 0 rfl rfl)
theorem dX3_judgeWalk_74 : decode cX3_judgeWalk 74 = .ok (.iconst (-1), 1) := dk_2 (dk_at dksX3_judgeWalk_3 2 rfl rfl)
theorem dX3_judgeWalk_75 : decode cX3_judgeWalk 75 = .ok (.if_icmp .eq 23, 3) := dk_159 0 23 (dk_at dksX3_judgeWalk_3 3 rfl rfl)
theorem dX3_judgeWalk_78 : decode cX3_judgeWalk 78 = .ok (.iload 6, 2) := dk_21 6 (dk_at dksX3_judgeWalk_3 6 rfl rfl)
theorem dX3_judgeWalk_80 : decode cX3_judgeWalk 80 = .ok (.iload_n 1, 1) := dk_27 (dk_at dksX3_judgeWalk_3 8 rfl rfl)
theorem dX3_judgeWalk_81 : decode cX3_judgeWalk 81 = .ok (.if_icmp .eq 17, 3) := dk_159 0 17 (dk_at dksX3_judgeWalk_3 9 rfl rfl)
theorem dX3_judgeWalk_84 : decode cX3_judgeWalk 84 = .ok (.aload_n 0, 1) := dk_42 (dk_at dksX3_judgeWalk_3 12 rfl rfl)
theorem dX3_judgeWalk_85 : decode cX3_judgeWalk 85 = .ok (.iload_n 1, 1) := dk_27 (dk_at dksX3_judgeWalk_3 13 rfl rfl)
theorem dX3_judgeWalk_86 : decode cX3_judgeWalk 86 = .ok (.iload 6, 2) := dk_21 6 (dk_at dksX3_judgeWalk_3 14 rfl rfl)
theorem dX3_judgeWalk_88 : decode cX3_judgeWalk 88 = .ok (.invokevirtual 129, 3) := dk_182 0 129 (dk_at dksX3_judgeWalk_3 16 rfl rfl)
theorem dX3_judgeWalk_91 : decode cX3_judgeWalk 91 = .ok (.ifCond .ne 7, 3) := dk_154 0 7 (dk_at dksX3_judgeWalk_3 19 rfl rfl)
theorem dX3_judgeWalk_94 : decode cX3_judgeWalk 94 = .ok (.iconst 4, 1) := dk_7 (dk_at dksX3_judgeWalk_3 22 rfl rfl)
theorem dX3_judgeWalk_95 : decode cX3_judgeWalk 95 = .ok (.goto 4, 3) := dk_167 0 4 (dk_at dksX3_judgeWalk_4 0 rfl rfl)
theorem dX3_judgeWalk_98 : decode cX3_judgeWalk 98 = .ok (.iconst 0, 1) := dk_3 (dk_at dksX3_judgeWalk_4 3 rfl rfl)
theorem dX3_judgeWalk_99 : decode cX3_judgeWalk 99 = .ok (.ireturn, 1) := dk_172 (dk_at dksX3_judgeWalk_4 4 rfl rfl)
abbrev cX3_isTruce : ByteArray := prog_7_method_11_code
def yX3_isTruce : MethodName := ⟨RX3, "isTruce", "(II)Z"⟩
def dkwX3_isTruce_0 : List UInt8 := [42, 27, 28, 182, 0, 126, 158, 0, 7, 4, 167, 0, 4, 3, 172]
abbrev dktX3_isTruce_0 : List UInt8 := dkwX3_isTruce_0 ++ []
theorem dksX3_isTruce_0 : cX3_isTruce.data.toList.drop 0 = dktX3_isTruce_0 := by decide +kernel
theorem dX3_isTruce_0 : decode cX3_isTruce 0 = .ok (.aload_n 0, 1) := dk_42 (dk_at dksX3_isTruce_0 0 rfl rfl)
theorem dX3_isTruce_1 : decode cX3_isTruce 1 = .ok (.iload_n 1, 1) := dk_27 (dk_at dksX3_isTruce_0 1 rfl rfl)
theorem dX3_isTruce_2 : decode cX3_isTruce 2 = .ok (.iload_n 2, 1) := dk_28 (dk_at dksX3_isTruce_0 2 rfl rfl)
theorem dX3_isTruce_3 : decode cX3_isTruce 3 = .ok (.invokevirtual 126, 3) := dk_182 0 126 (dk_at dksX3_isTruce_0 3 rfl rfl)
theorem dX3_isTruce_6 : decode cX3_isTruce 6 = .ok (.ifCond .le 7, 3) := dk_158 0 7 (dk_at dksX3_isTruce_0 6 rfl rfl)
theorem dX3_isTruce_9 : decode cX3_isTruce 9 = .ok (.iconst 1, 1) := dk_4 (dk_at dksX3_isTruce_0 9 rfl rfl)
theorem dX3_isTruce_10 : decode cX3_isTruce 10 = .ok (.goto 4, 3) := dk_167 0 4 (dk_at dksX3_isTruce_0 10 rfl rfl)
theorem dX3_isTruce_13 : decode cX3_isTruce 13 = .ok (.iconst 0, 1) := dk_3 (dk_at dksX3_isTruce_0 13 rfl rfl)
theorem dX3_isTruce_14 : decode cX3_isTruce 14 = .ok (.ireturn, 1) := dk_172 (dk_at dksX3_isTruce_0 14 rfl rfl)
abbrev cX3_truceNights : ByteArray := prog_7_method_10_code
def yX3_truceNights : MethodName := ⟨RX3, "truceNights", "(II)I"⟩
def dkwX3_truceNights_0 : List UInt8 := [3, 42, 180, 0, 24, 27, 16, 8, 104, 28, 96, 46, 42, 180, 0, 72, 100, 184, 0, 120, 172]
abbrev dktX3_truceNights_0 : List UInt8 := dkwX3_truceNights_0 ++ []
theorem dksX3_truceNights_0 : cX3_truceNights.data.toList.drop 0 = dktX3_truceNights_0 := by decide +kernel
theorem dX3_truceNights_0 : decode cX3_truceNights 0 = .ok (.iconst 0, 1) := dk_3 (dk_at dksX3_truceNights_0 0 rfl rfl)
theorem dX3_truceNights_1 : decode cX3_truceNights 1 = .ok (.aload_n 0, 1) := dk_42 (dk_at dksX3_truceNights_0 1 rfl rfl)
theorem dX3_truceNights_2 : decode cX3_truceNights 2 = .ok (.getfield 24, 3) := dk_180 0 24 (dk_at dksX3_truceNights_0 2 rfl rfl)
theorem dX3_truceNights_5 : decode cX3_truceNights 5 = .ok (.iload_n 1, 1) := dk_27 (dk_at dksX3_truceNights_0 5 rfl rfl)
theorem dX3_truceNights_6 : decode cX3_truceNights 6 = .ok (.bipush 8, 2) := dk_16 8 (dk_at dksX3_truceNights_0 6 rfl rfl)
theorem dX3_truceNights_8 : decode cX3_truceNights 8 = .ok (.imul, 1) := dk_104 (dk_at dksX3_truceNights_0 8 rfl rfl)
theorem dX3_truceNights_9 : decode cX3_truceNights 9 = .ok (.iload_n 2, 1) := dk_28 (dk_at dksX3_truceNights_0 9 rfl rfl)
theorem dX3_truceNights_10 : decode cX3_truceNights 10 = .ok (.iadd, 1) := dk_96 (dk_at dksX3_truceNights_0 10 rfl rfl)
theorem dX3_truceNights_11 : decode cX3_truceNights 11 = .ok (.iaload, 1) := dk_46 (dk_at dksX3_truceNights_0 11 rfl rfl)
theorem dX3_truceNights_12 : decode cX3_truceNights 12 = .ok (.aload_n 0, 1) := dk_42 (dk_at dksX3_truceNights_0 12 rfl rfl)
theorem dX3_truceNights_13 : decode cX3_truceNights 13 = .ok (.getfield 72, 3) := dk_180 0 72 (dk_at dksX3_truceNights_0 13 rfl rfl)
theorem dX3_truceNights_16 : decode cX3_truceNights 16 = .ok (.isub, 1) := dk_100 (dk_at dksX3_truceNights_0 16 rfl rfl)
theorem dX3_truceNights_17 : decode cX3_truceNights 17 = .ok (.invokestatic 120, 3) := dk_184 0 120 (dk_at dksX3_truceNights_0 17 rfl rfl)
theorem dX3_truceNights_20 : decode cX3_truceNights 20 = .ok (.ireturn, 1) := dk_172 (dk_at dksX3_truceNights_0 20 rfl rfl)
abbrev cX3_step : ByteArray := prog_7_method_16_code
def yX3_step : MethodName := ⟨RX3, "step", "(II)I"⟩
def dkwX3_step_1 : List UInt8 := [185, 0, 86, 2, 0, 192, 0, 55, 45, 180, 0, 90, 182, 0, 145, 181, 0, 90, 45, 180, 0, 90, 172]
abbrev dktX3_step_1 : List UInt8 := dkwX3_step_1 ++ []
def dkwX3_step_0 : List UInt8 := [42, 180, 0, 21, 27, 185, 0, 86, 2, 0, 192, 0, 57, 78, 45, 42, 180, 0, 18, 28]
abbrev dktX3_step_0 : List UInt8 := dkwX3_step_0 ++ dktX3_step_1
theorem dksX3_step_0 : cX3_step.data.toList.drop 0 = dktX3_step_0 := by decide +kernel
theorem dksX3_step_1 : cX3_step.data.toList.drop 20 = dktX3_step_1 := dk_seg dksX3_step_0 20 rfl rfl
theorem dX3_step_0 : decode cX3_step 0 = .ok (.aload_n 0, 1) := dk_42 (dk_at dksX3_step_0 0 rfl rfl)
theorem dX3_step_1 : decode cX3_step 1 = .ok (.getfield 21, 3) := dk_180 0 21 (dk_at dksX3_step_0 1 rfl rfl)
theorem dX3_step_4 : decode cX3_step 4 = .ok (.iload_n 1, 1) := dk_27 (dk_at dksX3_step_0 4 rfl rfl)
theorem dX3_step_5 : decode cX3_step 5 = .ok (.invokeinterface 86 2, 5) := by decide +kernel
theorem dX3_step_10 : decode cX3_step 10 = .ok (.checkcast 57, 3) := dk_192 0 57 (dk_at dksX3_step_0 10 rfl rfl)
theorem dX3_step_13 : decode cX3_step 13 = .ok (.astore_n 3, 1) := dk_78 (dk_at dksX3_step_0 13 rfl rfl)
theorem dX3_step_14 : decode cX3_step 14 = .ok (.aload_n 3, 1) := dk_45 (dk_at dksX3_step_0 14 rfl rfl)
theorem dX3_step_15 : decode cX3_step 15 = .ok (.aload_n 0, 1) := dk_42 (dk_at dksX3_step_0 15 rfl rfl)
theorem dX3_step_16 : decode cX3_step 16 = .ok (.getfield 18, 3) := dk_180 0 18 (dk_at dksX3_step_0 16 rfl rfl)
theorem dX3_step_19 : decode cX3_step 19 = .ok (.iload_n 2, 1) := dk_28 (dk_at dksX3_step_0 19 rfl rfl)
theorem dX3_step_20 : decode cX3_step 20 = .ok (.invokeinterface 86 2, 5) := by decide +kernel
theorem dX3_step_25 : decode cX3_step 25 = .ok (.checkcast 55, 3) := dk_192 0 55 (dk_at dksX3_step_1 5 rfl rfl)
theorem dX3_step_28 : decode cX3_step 28 = .ok (.aload_n 3, 1) := dk_45 (dk_at dksX3_step_1 8 rfl rfl)
theorem dX3_step_29 : decode cX3_step 29 = .ok (.getfield 90, 3) := dk_180 0 90 (dk_at dksX3_step_1 9 rfl rfl)
theorem dX3_step_32 : decode cX3_step 32 = .ok (.invokevirtual 145, 3) := dk_182 0 145 (dk_at dksX3_step_1 12 rfl rfl)
theorem dX3_step_35 : decode cX3_step 35 = .ok (.putfield 90, 3) := dk_181 0 90 (dk_at dksX3_step_1 15 rfl rfl)
theorem dX3_step_38 : decode cX3_step 38 = .ok (.aload_n 3, 1) := dk_45 (dk_at dksX3_step_1 18 rfl rfl)
theorem dX3_step_39 : decode cX3_step 39 = .ok (.getfield 90, 3) := dk_180 0 90 (dk_at dksX3_step_1 19 rfl rfl)
theorem dX3_step_42 : decode cX3_step 42 = .ok (.ireturn, 1) := dk_172 (dk_at dksX3_step_1 22 rfl rfl)
abbrev cX3_judgeChase : ByteArray := prog_7_method_25_code
def yX3_judgeChase : MethodName := ⟨RX3, "judgeChase", "(II)I"⟩
def dkwX3_judgeChase_2 : List UInt8 := [42, 27, 182, 0, 174, 42, 28, 182, 0, 174, 164, 0, 7, 3, 167, 0, 5, 16, 9, 172]
abbrev dktX3_judgeChase_2 : List UInt8 := dkwX3_judgeChase_2 ++ []
def dkwX3_judgeChase_1 : List UInt8 := [192, 0, 57, 182, 0, 170, 154, 0, 6, 16, 7, 172, 42, 27, 28, 182, 0, 129, 153, 0, 6, 16, 8, 172]
abbrev dktX3_judgeChase_1 : List UInt8 := dkwX3_judgeChase_1 ++ dktX3_judgeChase_2
def dkwX3_judgeChase_0 : List UInt8 := [42, 42, 180, 0, 21, 27, 185, 0, 86, 2, 0, 192, 0, 57, 42, 180, 0, 21, 28, 185, 0, 86, 2, 0]
abbrev dktX3_judgeChase_0 : List UInt8 := dkwX3_judgeChase_0 ++ dktX3_judgeChase_1
theorem dksX3_judgeChase_0 : cX3_judgeChase.data.toList.drop 0 = dktX3_judgeChase_0 := by decide +kernel
theorem dksX3_judgeChase_1 : cX3_judgeChase.data.toList.drop 24 = dktX3_judgeChase_1 := dk_seg dksX3_judgeChase_0 24 rfl rfl
theorem dksX3_judgeChase_2 : cX3_judgeChase.data.toList.drop 48 = dktX3_judgeChase_2 := dk_seg dksX3_judgeChase_1 24 rfl rfl
theorem dX3_judgeChase_0 : decode cX3_judgeChase 0 = .ok (.aload_n 0, 1) := dk_42 (dk_at dksX3_judgeChase_0 0 rfl rfl)
theorem dX3_judgeChase_1 : decode cX3_judgeChase 1 = .ok (.aload_n 0, 1) := dk_42 (dk_at dksX3_judgeChase_0 1 rfl rfl)
theorem dX3_judgeChase_2 : decode cX3_judgeChase 2 = .ok (.getfield 21, 3) := dk_180 0 21 (dk_at dksX3_judgeChase_0 2 rfl rfl)
theorem dX3_judgeChase_5 : decode cX3_judgeChase 5 = .ok (.iload_n 1, 1) := dk_27 (dk_at dksX3_judgeChase_0 5 rfl rfl)
theorem dX3_judgeChase_6 : decode cX3_judgeChase 6 = .ok (.invokeinterface 86 2, 5) := by decide +kernel
theorem dX3_judgeChase_11 : decode cX3_judgeChase 11 = .ok (.checkcast 57, 3) := dk_192 0 57 (dk_at dksX3_judgeChase_0 11 rfl rfl)
theorem dX3_judgeChase_14 : decode cX3_judgeChase 14 = .ok (.aload_n 0, 1) := dk_42 (dk_at dksX3_judgeChase_0 14 rfl rfl)
theorem dX3_judgeChase_15 : decode cX3_judgeChase 15 = .ok (.getfield 21, 3) := dk_180 0 21 (dk_at dksX3_judgeChase_0 15 rfl rfl)
theorem dX3_judgeChase_18 : decode cX3_judgeChase 18 = .ok (.iload_n 2, 1) := dk_28 (dk_at dksX3_judgeChase_0 18 rfl rfl)
theorem dX3_judgeChase_19 : decode cX3_judgeChase 19 = .ok (.invokeinterface 86 2, 5) := by decide +kernel
theorem dX3_judgeChase_24 : decode cX3_judgeChase 24 = .ok (.checkcast 57, 3) := dk_192 0 57 (dk_at dksX3_judgeChase_1 0 rfl rfl)
theorem dX3_judgeChase_27 : decode cX3_judgeChase 27 = .ok (.invokevirtual 170, 3) := dk_182 0 170 (dk_at dksX3_judgeChase_1 3 rfl rfl)
theorem dX3_judgeChase_30 : decode cX3_judgeChase 30 = .ok (.ifCond .ne 6, 3) := dk_154 0 6 (dk_at dksX3_judgeChase_1 6 rfl rfl)
theorem dX3_judgeChase_33 : decode cX3_judgeChase 33 = .ok (.bipush 7, 2) := dk_16 7 (dk_at dksX3_judgeChase_1 9 rfl rfl)
theorem dX3_judgeChase_35 : decode cX3_judgeChase 35 = .ok (.ireturn, 1) := dk_172 (dk_at dksX3_judgeChase_1 11 rfl rfl)
theorem dX3_judgeChase_36 : decode cX3_judgeChase 36 = .ok (.aload_n 0, 1) := dk_42 (dk_at dksX3_judgeChase_1 12 rfl rfl)
theorem dX3_judgeChase_37 : decode cX3_judgeChase 37 = .ok (.iload_n 1, 1) := dk_27 (dk_at dksX3_judgeChase_1 13 rfl rfl)
theorem dX3_judgeChase_38 : decode cX3_judgeChase 38 = .ok (.iload_n 2, 1) := dk_28 (dk_at dksX3_judgeChase_1 14 rfl rfl)
theorem dX3_judgeChase_39 : decode cX3_judgeChase 39 = .ok (.invokevirtual 129, 3) := dk_182 0 129 (dk_at dksX3_judgeChase_1 15 rfl rfl)
theorem dX3_judgeChase_42 : decode cX3_judgeChase 42 = .ok (.ifCond .eq 6, 3) := dk_153 0 6 (dk_at dksX3_judgeChase_1 18 rfl rfl)
theorem dX3_judgeChase_45 : decode cX3_judgeChase 45 = .ok (.bipush 8, 2) := dk_16 8 (dk_at dksX3_judgeChase_1 21 rfl rfl)
theorem dX3_judgeChase_47 : decode cX3_judgeChase 47 = .ok (.ireturn, 1) := dk_172 (dk_at dksX3_judgeChase_1 23 rfl rfl)
theorem dX3_judgeChase_48 : decode cX3_judgeChase 48 = .ok (.aload_n 0, 1) := dk_42 (dk_at dksX3_judgeChase_2 0 rfl rfl)
theorem dX3_judgeChase_49 : decode cX3_judgeChase 49 = .ok (.iload_n 1, 1) := dk_27 (dk_at dksX3_judgeChase_2 1 rfl rfl)
theorem dX3_judgeChase_50 : decode cX3_judgeChase 50 = .ok (.invokevirtual 174, 3) := dk_182 0 174 (dk_at dksX3_judgeChase_2 2 rfl rfl)
theorem dX3_judgeChase_53 : decode cX3_judgeChase 53 = .ok (.aload_n 0, 1) := dk_42 (dk_at dksX3_judgeChase_2 5 rfl rfl)
theorem dX3_judgeChase_54 : decode cX3_judgeChase 54 = .ok (.iload_n 2, 1) := dk_28 (dk_at dksX3_judgeChase_2 6 rfl rfl)
theorem dX3_judgeChase_55 : decode cX3_judgeChase 55 = .ok (.invokevirtual 174, 3) := dk_182 0 174 (dk_at dksX3_judgeChase_2 7 rfl rfl)
theorem dX3_judgeChase_58 : decode cX3_judgeChase 58 = .ok (.if_icmp .le 7, 3) := dk_164 0 7 (dk_at dksX3_judgeChase_2 10 rfl rfl)
theorem dX3_judgeChase_61 : decode cX3_judgeChase 61 = .ok (.iconst 0, 1) := dk_3 (dk_at dksX3_judgeChase_2 13 rfl rfl)
theorem dX3_judgeChase_62 : decode cX3_judgeChase 62 = .ok (.goto 5, 3) := dk_167 0 5 (dk_at dksX3_judgeChase_2 14 rfl rfl)
theorem dX3_judgeChase_65 : decode cX3_judgeChase 65 = .ok (.bipush 9, 2) := dk_16 9 (dk_at dksX3_judgeChase_2 17 rfl rfl)
theorem dX3_judgeChase_67 : decode cX3_judgeChase 67 = .ok (.ireturn, 1) := dk_172 (dk_at dksX3_judgeChase_2 19 rfl rfl)
abbrev cX3_isNear : ByteArray := prog_7_method_24_code
def yX3_isNear : MethodName := ⟨RX3, "isNear", "(LRooftopCats$Cat;LRooftopCats$Cat;)Z"⟩
def dkwX3_isNear_2 : List UInt8 := [43, 180, 0, 90, 44, 180, 0, 90, 182, 0, 167, 153, 0, 5, 4, 172, 132, 3, 1, 167, 255, 195, 3, 172]
abbrev dktX3_isNear_2 : List UInt8 := dkwX3_isNear_2 ++ []
def dkwX3_isNear_1 : List UInt8 := [185, 0, 86, 2, 0, 192, 0, 55, 58, 4, 25, 4, 182, 0, 139, 43, 180, 0, 142, 161, 0, 21, 25, 4]
abbrev dktX3_isNear_1 : List UInt8 := dkwX3_isNear_1 ++ dktX3_isNear_2
def dkwX3_isNear_0 : List UInt8 := [3, 62, 29, 42, 180, 0, 18, 185, 0, 82, 1, 0, 162, 0, 54, 42, 180, 0, 18, 29]
abbrev dktX3_isNear_0 : List UInt8 := dkwX3_isNear_0 ++ dktX3_isNear_1
theorem dksX3_isNear_0 : cX3_isNear.data.toList.drop 0 = dktX3_isNear_0 := by decide +kernel
theorem dksX3_isNear_1 : cX3_isNear.data.toList.drop 20 = dktX3_isNear_1 := dk_seg dksX3_isNear_0 20 rfl rfl
theorem dksX3_isNear_2 : cX3_isNear.data.toList.drop 44 = dktX3_isNear_2 := dk_seg dksX3_isNear_1 24 rfl rfl
theorem dX3_isNear_0 : decode cX3_isNear 0 = .ok (.iconst 0, 1) := dk_3 (dk_at dksX3_isNear_0 0 rfl rfl)
theorem dX3_isNear_1 : decode cX3_isNear 1 = .ok (.istore_n 3, 1) := dk_62 (dk_at dksX3_isNear_0 1 rfl rfl)
theorem dX3_isNear_2 : decode cX3_isNear 2 = .ok (.iload_n 3, 1) := dk_29 (dk_at dksX3_isNear_0 2 rfl rfl)
theorem dX3_isNear_3 : decode cX3_isNear 3 = .ok (.aload_n 0, 1) := dk_42 (dk_at dksX3_isNear_0 3 rfl rfl)
theorem dX3_isNear_4 : decode cX3_isNear 4 = .ok (.getfield 18, 3) := dk_180 0 18 (dk_at dksX3_isNear_0 4 rfl rfl)
theorem dX3_isNear_7 : decode cX3_isNear 7 = .ok (.invokeinterface 82 1, 5) := by decide +kernel
theorem dX3_isNear_12 : decode cX3_isNear 12 = .ok (.if_icmp .ge 54, 3) := dk_162 0 54 (dk_at dksX3_isNear_0 12 rfl rfl)
theorem dX3_isNear_15 : decode cX3_isNear 15 = .ok (.aload_n 0, 1) := dk_42 (dk_at dksX3_isNear_0 15 rfl rfl)
theorem dX3_isNear_16 : decode cX3_isNear 16 = .ok (.getfield 18, 3) := dk_180 0 18 (dk_at dksX3_isNear_0 16 rfl rfl)
theorem dX3_isNear_19 : decode cX3_isNear 19 = .ok (.iload_n 3, 1) := dk_29 (dk_at dksX3_isNear_0 19 rfl rfl)
theorem dX3_isNear_20 : decode cX3_isNear 20 = .ok (.invokeinterface 86 2, 5) := by decide +kernel
theorem dX3_isNear_25 : decode cX3_isNear 25 = .ok (.checkcast 55, 3) := dk_192 0 55 (dk_at dksX3_isNear_1 5 rfl rfl)
theorem dX3_isNear_28 : decode cX3_isNear 28 = .ok (.astore 4, 2) := dk_58 4 (dk_at dksX3_isNear_1 8 rfl rfl)
theorem dX3_isNear_30 : decode cX3_isNear 30 = .ok (.aload 4, 2) := dk_25 4 (dk_at dksX3_isNear_1 10 rfl rfl)
theorem dX3_isNear_32 : decode cX3_isNear 32 = .ok (.invokevirtual 139, 3) := dk_182 0 139 (dk_at dksX3_isNear_1 12 rfl rfl)
theorem dX3_isNear_35 : decode cX3_isNear 35 = .ok (.aload_n 1, 1) := dk_43 (dk_at dksX3_isNear_1 15 rfl rfl)
theorem dX3_isNear_36 : decode cX3_isNear 36 = .ok (.getfield 142, 3) := dk_180 0 142 (dk_at dksX3_isNear_1 16 rfl rfl)
theorem dX3_isNear_39 : decode cX3_isNear 39 = .ok (.if_icmp .lt 21, 3) := dk_161 0 21 (dk_at dksX3_isNear_1 19 rfl rfl)
theorem dX3_isNear_42 : decode cX3_isNear 42 = .ok (.aload 4, 2) := dk_25 4 (dk_at dksX3_isNear_1 22 rfl rfl)
theorem dX3_isNear_44 : decode cX3_isNear 44 = .ok (.aload_n 1, 1) := dk_43 (dk_at dksX3_isNear_2 0 rfl rfl)
theorem dX3_isNear_45 : decode cX3_isNear 45 = .ok (.getfield 90, 3) := dk_180 0 90 (dk_at dksX3_isNear_2 1 rfl rfl)
theorem dX3_isNear_48 : decode cX3_isNear 48 = .ok (.aload_n 2, 1) := dk_44 (dk_at dksX3_isNear_2 4 rfl rfl)
theorem dX3_isNear_49 : decode cX3_isNear 49 = .ok (.getfield 90, 3) := dk_180 0 90 (dk_at dksX3_isNear_2 5 rfl rfl)
theorem dX3_isNear_52 : decode cX3_isNear 52 = .ok (.invokevirtual 167, 3) := dk_182 0 167 (dk_at dksX3_isNear_2 8 rfl rfl)
theorem dX3_isNear_55 : decode cX3_isNear 55 = .ok (.ifCond .eq 5, 3) := dk_153 0 5 (dk_at dksX3_isNear_2 11 rfl rfl)
theorem dX3_isNear_58 : decode cX3_isNear 58 = .ok (.iconst 1, 1) := dk_4 (dk_at dksX3_isNear_2 14 rfl rfl)
theorem dX3_isNear_59 : decode cX3_isNear 59 = .ok (.ireturn, 1) := dk_172 (dk_at dksX3_isNear_2 15 rfl rfl)
theorem dX3_isNear_60 : decode cX3_isNear 60 = .ok (.iinc 3 1, 3) := dk_132 3 1 (dk_at dksX3_isNear_2 16 rfl rfl)
theorem dX3_isNear_63 : decode cX3_isNear 63 = .ok (.goto (-61), 3) := dk_167 255 195 (dk_at dksX3_isNear_2 19 rfl rfl)
theorem dX3_isNear_66 : decode cX3_isNear 66 = .ok (.iconst 0, 1) := dk_3 (dk_at dksX3_isNear_2 22 rfl rfl)
theorem dX3_isNear_67 : decode cX3_isNear 67 = .ok (.ireturn, 1) := dk_172 (dk_at dksX3_isNear_2 23 rfl rfl)
abbrev cX3_power : ByteArray := prog_7_method_8_code
def yX3_power : MethodName := ⟨RX3, "power", "(I)I"⟩
def dkwX3_power_1 : List UInt8 := [5, 167, 0, 4, 3, 96, 172]
abbrev dktX3_power_1 : List UInt8 := dkwX3_power_1 ++ []
def dkwX3_power_0 : List UInt8 := [42, 180, 0, 21, 27, 185, 0, 86, 2, 0, 192, 0, 57, 180, 0, 107, 42, 27, 182, 0, 110, 153, 0, 7]
abbrev dktX3_power_0 : List UInt8 := dkwX3_power_0 ++ dktX3_power_1
theorem dksX3_power_0 : cX3_power.data.toList.drop 0 = dktX3_power_0 := by decide +kernel
theorem dksX3_power_1 : cX3_power.data.toList.drop 24 = dktX3_power_1 := dk_seg dksX3_power_0 24 rfl rfl
theorem dX3_power_0 : decode cX3_power 0 = .ok (.aload_n 0, 1) := dk_42 (dk_at dksX3_power_0 0 rfl rfl)
theorem dX3_power_1 : decode cX3_power 1 = .ok (.getfield 21, 3) := dk_180 0 21 (dk_at dksX3_power_0 1 rfl rfl)
theorem dX3_power_4 : decode cX3_power 4 = .ok (.iload_n 1, 1) := dk_27 (dk_at dksX3_power_0 4 rfl rfl)
theorem dX3_power_5 : decode cX3_power 5 = .ok (.invokeinterface 86 2, 5) := by decide +kernel
theorem dX3_power_10 : decode cX3_power 10 = .ok (.checkcast 57, 3) := dk_192 0 57 (dk_at dksX3_power_0 10 rfl rfl)
theorem dX3_power_13 : decode cX3_power 13 = .ok (.getfield 107, 3) := dk_180 0 107 (dk_at dksX3_power_0 13 rfl rfl)
theorem dX3_power_16 : decode cX3_power 16 = .ok (.aload_n 0, 1) := dk_42 (dk_at dksX3_power_0 16 rfl rfl)
theorem dX3_power_17 : decode cX3_power 17 = .ok (.iload_n 1, 1) := dk_27 (dk_at dksX3_power_0 17 rfl rfl)
theorem dX3_power_18 : decode cX3_power 18 = .ok (.invokevirtual 110, 3) := dk_182 0 110 (dk_at dksX3_power_0 18 rfl rfl)
theorem dX3_power_21 : decode cX3_power 21 = .ok (.ifCond .eq 7, 3) := dk_153 0 7 (dk_at dksX3_power_0 21 rfl rfl)
theorem dX3_power_24 : decode cX3_power 24 = .ok (.iconst 2, 1) := dk_5 (dk_at dksX3_power_1 0 rfl rfl)
theorem dX3_power_25 : decode cX3_power 25 = .ok (.goto 4, 3) := dk_167 0 4 (dk_at dksX3_power_1 1 rfl rfl)
theorem dX3_power_28 : decode cX3_power 28 = .ok (.iconst 0, 1) := dk_3 (dk_at dksX3_power_1 4 rfl rfl)
theorem dX3_power_29 : decode cX3_power 29 = .ok (.iadd, 1) := dk_96 (dk_at dksX3_power_1 5 rfl rfl)
theorem dX3_power_30 : decode cX3_power 30 = .ok (.ireturn, 1) := dk_172 (dk_at dksX3_power_1 6 rfl rfl)
abbrev cX3_isHome : ByteArray := prog_7_method_7_code
def yX3_isHome : MethodName := ⟨RX3, "isHome", "(I)Z"⟩
def dkwX3_isHome_1 : List UInt8 := [4, 167, 0, 4, 3, 172]
abbrev dktX3_isHome_1 : List UInt8 := dkwX3_isHome_1 ++ []
def dkwX3_isHome_0 : List UInt8 := [42, 42, 180, 0, 21, 27, 185, 0, 86, 2, 0, 192, 0, 57, 180, 0, 90, 182, 0, 96, 27, 160, 0, 7]
abbrev dktX3_isHome_0 : List UInt8 := dkwX3_isHome_0 ++ dktX3_isHome_1
theorem dksX3_isHome_0 : cX3_isHome.data.toList.drop 0 = dktX3_isHome_0 := by decide +kernel
theorem dksX3_isHome_1 : cX3_isHome.data.toList.drop 24 = dktX3_isHome_1 := dk_seg dksX3_isHome_0 24 rfl rfl
theorem dX3_isHome_0 : decode cX3_isHome 0 = .ok (.aload_n 0, 1) := dk_42 (dk_at dksX3_isHome_0 0 rfl rfl)
theorem dX3_isHome_1 : decode cX3_isHome 1 = .ok (.aload_n 0, 1) := dk_42 (dk_at dksX3_isHome_0 1 rfl rfl)
theorem dX3_isHome_2 : decode cX3_isHome 2 = .ok (.getfield 21, 3) := dk_180 0 21 (dk_at dksX3_isHome_0 2 rfl rfl)
theorem dX3_isHome_5 : decode cX3_isHome 5 = .ok (.iload_n 1, 1) := dk_27 (dk_at dksX3_isHome_0 5 rfl rfl)
theorem dX3_isHome_6 : decode cX3_isHome 6 = .ok (.invokeinterface 86 2, 5) := by decide +kernel
theorem dX3_isHome_11 : decode cX3_isHome 11 = .ok (.checkcast 57, 3) := dk_192 0 57 (dk_at dksX3_isHome_0 11 rfl rfl)
theorem dX3_isHome_14 : decode cX3_isHome 14 = .ok (.getfield 90, 3) := dk_180 0 90 (dk_at dksX3_isHome_0 14 rfl rfl)
theorem dX3_isHome_17 : decode cX3_isHome 17 = .ok (.invokevirtual 96, 3) := dk_182 0 96 (dk_at dksX3_isHome_0 17 rfl rfl)
theorem dX3_isHome_20 : decode cX3_isHome 20 = .ok (.iload_n 1, 1) := dk_27 (dk_at dksX3_isHome_0 20 rfl rfl)
theorem dX3_isHome_21 : decode cX3_isHome 21 = .ok (.if_icmp .ne 7, 3) := dk_160 0 7 (dk_at dksX3_isHome_0 21 rfl rfl)
theorem dX3_isHome_24 : decode cX3_isHome 24 = .ok (.iconst 1, 1) := dk_4 (dk_at dksX3_isHome_1 0 rfl rfl)
theorem dX3_isHome_25 : decode cX3_isHome 25 = .ok (.goto 4, 3) := dk_167 0 4 (dk_at dksX3_isHome_1 1 rfl rfl)
theorem dX3_isHome_28 : decode cX3_isHome 28 = .ok (.iconst 0, 1) := dk_3 (dk_at dksX3_isHome_1 4 rfl rfl)
theorem dX3_isHome_29 : decode cX3_isHome 29 = .ok (.ireturn, 1) := dk_172 (dk_at dksX3_isHome_1 5 rfl rfl)
abbrev cX3_chase : ByteArray := prog_7_method_26_code
def yX3_chase : MethodName := ⟨RX3, "chase", "(II)Z"⟩
def dkwX3_chase_5 : List UInt8 := [182, 0, 96, 27, 160, 0, 7, 4, 167, 0, 4, 3, 172]
abbrev dktX3_chase_5 : List UInt8 := dkwX3_chase_5 ++ []
def dkwX3_chase_4 : List UInt8 := [180, 0, 133, 158, 0, 18, 25, 4, 89, 180, 0, 133, 45, 4, 182, 0, 177, 100, 181, 0, 133, 42, 21, 5]
abbrev dktX3_chase_4 : List UInt8 := dkwX3_chase_4 ++ dktX3_chase_5
def dkwX3_chase_3 : List UInt8 := [167, 0, 4, 27, 181, 0, 93, 25, 4, 45, 180, 0, 90, 181, 0, 90, 45, 21, 5, 181, 0, 90, 25, 4]
abbrev dktX3_chase_3 : List UInt8 := dkwX3_chase_3 ++ dktX3_chase_4
def dkwX3_chase_2 : List UInt8 := [180, 0, 12, 21, 5, 185, 0, 86, 2, 0, 192, 0, 45, 42, 27, 182, 0, 164, 153, 0, 7, 2]
abbrev dktX3_chase_2 : List UInt8 := dkwX3_chase_2 ++ dktX3_chase_3
def dkwX3_chase_1 : List UInt8 := [192, 0, 57, 58, 4, 25, 4, 180, 0, 90, 54, 5, 42, 21, 5, 182, 0, 96, 28, 160, 0, 33, 42]
abbrev dktX3_chase_1 : List UInt8 := dkwX3_chase_1 ++ dktX3_chase_2
def dkwX3_chase_0 : List UInt8 := [42, 180, 0, 21, 27, 185, 0, 86, 2, 0, 192, 0, 57, 78, 42, 180, 0, 21, 28, 185, 0, 86, 2, 0]
abbrev dktX3_chase_0 : List UInt8 := dkwX3_chase_0 ++ dktX3_chase_1
theorem dksX3_chase_0 : cX3_chase.data.toList.drop 0 = dktX3_chase_0 := by decide +kernel
theorem dksX3_chase_1 : cX3_chase.data.toList.drop 24 = dktX3_chase_1 := dk_seg dksX3_chase_0 24 rfl rfl
theorem dksX3_chase_2 : cX3_chase.data.toList.drop 47 = dktX3_chase_2 := dk_seg dksX3_chase_1 23 rfl rfl
theorem dksX3_chase_3 : cX3_chase.data.toList.drop 69 = dktX3_chase_3 := dk_seg dksX3_chase_2 22 rfl rfl
theorem dksX3_chase_4 : cX3_chase.data.toList.drop 93 = dktX3_chase_4 := dk_seg dksX3_chase_3 24 rfl rfl
theorem dksX3_chase_5 : cX3_chase.data.toList.drop 117 = dktX3_chase_5 := dk_seg dksX3_chase_4 24 rfl rfl
theorem dX3_chase_0 : decode cX3_chase 0 = .ok (.aload_n 0, 1) := dk_42 (dk_at dksX3_chase_0 0 rfl rfl)
theorem dX3_chase_1 : decode cX3_chase 1 = .ok (.getfield 21, 3) := dk_180 0 21 (dk_at dksX3_chase_0 1 rfl rfl)
theorem dX3_chase_4 : decode cX3_chase 4 = .ok (.iload_n 1, 1) := dk_27 (dk_at dksX3_chase_0 4 rfl rfl)
theorem dX3_chase_5 : decode cX3_chase 5 = .ok (.invokeinterface 86 2, 5) := by decide +kernel
theorem dX3_chase_10 : decode cX3_chase 10 = .ok (.checkcast 57, 3) := dk_192 0 57 (dk_at dksX3_chase_0 10 rfl rfl)
theorem dX3_chase_13 : decode cX3_chase 13 = .ok (.astore_n 3, 1) := dk_78 (dk_at dksX3_chase_0 13 rfl rfl)
theorem dX3_chase_14 : decode cX3_chase 14 = .ok (.aload_n 0, 1) := dk_42 (dk_at dksX3_chase_0 14 rfl rfl)
theorem dX3_chase_15 : decode cX3_chase 15 = .ok (.getfield 21, 3) := dk_180 0 21 (dk_at dksX3_chase_0 15 rfl rfl)
theorem dX3_chase_18 : decode cX3_chase 18 = .ok (.iload_n 2, 1) := dk_28 (dk_at dksX3_chase_0 18 rfl rfl)
theorem dX3_chase_19 : decode cX3_chase 19 = .ok (.invokeinterface 86 2, 5) := by decide +kernel
theorem dX3_chase_24 : decode cX3_chase 24 = .ok (.checkcast 57, 3) := dk_192 0 57 (dk_at dksX3_chase_1 0 rfl rfl)
theorem dX3_chase_27 : decode cX3_chase 27 = .ok (.astore 4, 2) := dk_58 4 (dk_at dksX3_chase_1 3 rfl rfl)
theorem dX3_chase_29 : decode cX3_chase 29 = .ok (.aload 4, 2) := dk_25 4 (dk_at dksX3_chase_1 5 rfl rfl)
theorem dX3_chase_31 : decode cX3_chase 31 = .ok (.getfield 90, 3) := dk_180 0 90 (dk_at dksX3_chase_1 7 rfl rfl)
theorem dX3_chase_34 : decode cX3_chase 34 = .ok (.istore 5, 2) := dk_54 5 (dk_at dksX3_chase_1 10 rfl rfl)
theorem dX3_chase_36 : decode cX3_chase 36 = .ok (.aload_n 0, 1) := dk_42 (dk_at dksX3_chase_1 12 rfl rfl)
theorem dX3_chase_37 : decode cX3_chase 37 = .ok (.iload 5, 2) := dk_21 5 (dk_at dksX3_chase_1 13 rfl rfl)
theorem dX3_chase_39 : decode cX3_chase 39 = .ok (.invokevirtual 96, 3) := dk_182 0 96 (dk_at dksX3_chase_1 15 rfl rfl)
theorem dX3_chase_42 : decode cX3_chase 42 = .ok (.iload_n 2, 1) := dk_28 (dk_at dksX3_chase_1 18 rfl rfl)
theorem dX3_chase_43 : decode cX3_chase 43 = .ok (.if_icmp .ne 33, 3) := dk_160 0 33 (dk_at dksX3_chase_1 19 rfl rfl)
theorem dX3_chase_46 : decode cX3_chase 46 = .ok (.aload_n 0, 1) := dk_42 (dk_at dksX3_chase_1 22 rfl rfl)
theorem dX3_chase_47 : decode cX3_chase 47 = .ok (.getfield 12, 3) := dk_180 0 12 (dk_at dksX3_chase_2 0 rfl rfl)
theorem dX3_chase_50 : decode cX3_chase 50 = .ok (.iload 5, 2) := dk_21 5 (dk_at dksX3_chase_2 3 rfl rfl)
theorem dX3_chase_52 : decode cX3_chase 52 = .ok (.invokeinterface 86 2, 5) := by decide +kernel
theorem dX3_chase_57 : decode cX3_chase 57 = .ok (.checkcast 45, 3) := dk_192 0 45 (dk_at dksX3_chase_2 10 rfl rfl)
theorem dX3_chase_60 : decode cX3_chase 60 = .ok (.aload_n 0, 1) := dk_42 (dk_at dksX3_chase_2 13 rfl rfl)
theorem dX3_chase_61 : decode cX3_chase 61 = .ok (.iload_n 1, 1) := dk_27 (dk_at dksX3_chase_2 14 rfl rfl)
theorem dX3_chase_62 : decode cX3_chase 62 = .ok (.invokevirtual 164, 3) := dk_182 0 164 (dk_at dksX3_chase_2 15 rfl rfl)
theorem dX3_chase_65 : decode cX3_chase 65 = .ok (.ifCond .eq 7, 3) := dk_153 0 7 (dk_at dksX3_chase_2 18 rfl rfl)
theorem dX3_chase_68 : decode cX3_chase 68 = .ok (.iconst (-1), 1) := dk_2 (dk_at dksX3_chase_2 21 rfl rfl)
theorem dX3_chase_69 : decode cX3_chase 69 = .ok (.goto 4, 3) := dk_167 0 4 (dk_at dksX3_chase_3 0 rfl rfl)
theorem dX3_chase_72 : decode cX3_chase 72 = .ok (.iload_n 1, 1) := dk_27 (dk_at dksX3_chase_3 3 rfl rfl)
theorem dX3_chase_73 : decode cX3_chase 73 = .ok (.putfield 93, 3) := dk_181 0 93 (dk_at dksX3_chase_3 4 rfl rfl)
theorem dX3_chase_76 : decode cX3_chase 76 = .ok (.aload 4, 2) := dk_25 4 (dk_at dksX3_chase_3 7 rfl rfl)
theorem dX3_chase_78 : decode cX3_chase 78 = .ok (.aload_n 3, 1) := dk_45 (dk_at dksX3_chase_3 9 rfl rfl)
theorem dX3_chase_79 : decode cX3_chase 79 = .ok (.getfield 90, 3) := dk_180 0 90 (dk_at dksX3_chase_3 10 rfl rfl)
theorem dX3_chase_82 : decode cX3_chase 82 = .ok (.putfield 90, 3) := dk_181 0 90 (dk_at dksX3_chase_3 13 rfl rfl)
theorem dX3_chase_85 : decode cX3_chase 85 = .ok (.aload_n 3, 1) := dk_45 (dk_at dksX3_chase_3 16 rfl rfl)
theorem dX3_chase_86 : decode cX3_chase 86 = .ok (.iload 5, 2) := dk_21 5 (dk_at dksX3_chase_3 17 rfl rfl)
theorem dX3_chase_88 : decode cX3_chase 88 = .ok (.putfield 90, 3) := dk_181 0 90 (dk_at dksX3_chase_3 19 rfl rfl)
theorem dX3_chase_91 : decode cX3_chase 91 = .ok (.aload 4, 2) := dk_25 4 (dk_at dksX3_chase_3 22 rfl rfl)
theorem dX3_chase_93 : decode cX3_chase 93 = .ok (.getfield 133, 3) := dk_180 0 133 (dk_at dksX3_chase_4 0 rfl rfl)
theorem dX3_chase_96 : decode cX3_chase 96 = .ok (.ifCond .le 18, 3) := dk_158 0 18 (dk_at dksX3_chase_4 3 rfl rfl)
theorem dX3_chase_99 : decode cX3_chase 99 = .ok (.aload 4, 2) := dk_25 4 (dk_at dksX3_chase_4 6 rfl rfl)
theorem dX3_chase_101 : decode cX3_chase 101 = .ok (.dup, 1) := dk_89 (dk_at dksX3_chase_4 8 rfl rfl)
theorem dX3_chase_102 : decode cX3_chase 102 = .ok (.getfield 133, 3) := dk_180 0 133 (dk_at dksX3_chase_4 9 rfl rfl)
theorem dX3_chase_105 : decode cX3_chase 105 = .ok (.aload_n 3, 1) := dk_45 (dk_at dksX3_chase_4 12 rfl rfl)
theorem dX3_chase_106 : decode cX3_chase 106 = .ok (.iconst 1, 1) := dk_4 (dk_at dksX3_chase_4 13 rfl rfl)
theorem dX3_chase_107 : decode cX3_chase 107 = .ok (.invokevirtual 177, 3) := dk_182 0 177 (dk_at dksX3_chase_4 14 rfl rfl)
theorem dX3_chase_110 : decode cX3_chase 110 = .ok (.isub, 1) := dk_100 (dk_at dksX3_chase_4 17 rfl rfl)
theorem dX3_chase_111 : decode cX3_chase 111 = .ok (.putfield 133, 3) := dk_181 0 133 (dk_at dksX3_chase_4 18 rfl rfl)
theorem dX3_chase_114 : decode cX3_chase 114 = .ok (.aload_n 0, 1) := dk_42 (dk_at dksX3_chase_4 21 rfl rfl)
theorem dX3_chase_115 : decode cX3_chase 115 = .ok (.iload 5, 2) := dk_21 5 (dk_at dksX3_chase_4 22 rfl rfl)
theorem dX3_chase_117 : decode cX3_chase 117 = .ok (.invokevirtual 96, 3) := dk_182 0 96 (dk_at dksX3_chase_5 0 rfl rfl)
theorem dX3_chase_120 : decode cX3_chase 120 = .ok (.iload_n 1, 1) := dk_27 (dk_at dksX3_chase_5 3 rfl rfl)
theorem dX3_chase_121 : decode cX3_chase 121 = .ok (.if_icmp .ne 7, 3) := dk_160 0 7 (dk_at dksX3_chase_5 4 rfl rfl)
theorem dX3_chase_124 : decode cX3_chase 124 = .ok (.iconst 1, 1) := dk_4 (dk_at dksX3_chase_5 7 rfl rfl)
theorem dX3_chase_125 : decode cX3_chase 125 = .ok (.goto 4, 3) := dk_167 0 4 (dk_at dksX3_chase_5 8 rfl rfl)
theorem dX3_chase_128 : decode cX3_chase 128 = .ok (.iconst 0, 1) := dk_3 (dk_at dksX3_chase_5 11 rfl rfl)
theorem dX3_chase_129 : decode cX3_chase 129 = .ok (.ireturn, 1) := dk_172 (dk_at dksX3_chase_5 12 rfl rfl)
abbrev cX3_canBuy : ByteArray := prog_7_method_12_code
def yX3_canBuy : MethodName := ⟨RX3, "canBuy", "(III)Z"⟩
def dkwX3_canBuy_2 : List UInt8 := [96, 16, 99, 163, 0, 7, 4, 167, 0, 4, 3, 172]
abbrev dktX3_canBuy_2 : List UInt8 := dkwX3_canBuy_2 ++ []
def dkwX3_canBuy_1 : List UInt8 := [180, 0, 133, 29, 161, 0, 30, 42, 180, 0, 21, 28, 185, 0, 86, 2, 0, 192, 0, 57, 180, 0, 133, 29]
abbrev dktX3_canBuy_1 : List UInt8 := dkwX3_canBuy_1 ++ dktX3_canBuy_2
def dkwX3_canBuy_0 : List UInt8 := [42, 27, 28, 182, 0, 129, 154, 0, 50, 42, 180, 0, 21, 27, 185, 0, 86, 2, 0, 192, 0, 57]
abbrev dktX3_canBuy_0 : List UInt8 := dkwX3_canBuy_0 ++ dktX3_canBuy_1
theorem dksX3_canBuy_0 : cX3_canBuy.data.toList.drop 0 = dktX3_canBuy_0 := by decide +kernel
theorem dksX3_canBuy_1 : cX3_canBuy.data.toList.drop 22 = dktX3_canBuy_1 := dk_seg dksX3_canBuy_0 22 rfl rfl
theorem dksX3_canBuy_2 : cX3_canBuy.data.toList.drop 46 = dktX3_canBuy_2 := dk_seg dksX3_canBuy_1 24 rfl rfl
theorem dX3_canBuy_0 : decode cX3_canBuy 0 = .ok (.aload_n 0, 1) := dk_42 (dk_at dksX3_canBuy_0 0 rfl rfl)
theorem dX3_canBuy_1 : decode cX3_canBuy 1 = .ok (.iload_n 1, 1) := dk_27 (dk_at dksX3_canBuy_0 1 rfl rfl)
theorem dX3_canBuy_2 : decode cX3_canBuy 2 = .ok (.iload_n 2, 1) := dk_28 (dk_at dksX3_canBuy_0 2 rfl rfl)
theorem dX3_canBuy_3 : decode cX3_canBuy 3 = .ok (.invokevirtual 129, 3) := dk_182 0 129 (dk_at dksX3_canBuy_0 3 rfl rfl)
theorem dX3_canBuy_6 : decode cX3_canBuy 6 = .ok (.ifCond .ne 50, 3) := dk_154 0 50 (dk_at dksX3_canBuy_0 6 rfl rfl)
theorem dX3_canBuy_9 : decode cX3_canBuy 9 = .ok (.aload_n 0, 1) := dk_42 (dk_at dksX3_canBuy_0 9 rfl rfl)
theorem dX3_canBuy_10 : decode cX3_canBuy 10 = .ok (.getfield 21, 3) := dk_180 0 21 (dk_at dksX3_canBuy_0 10 rfl rfl)
theorem dX3_canBuy_13 : decode cX3_canBuy 13 = .ok (.iload_n 1, 1) := dk_27 (dk_at dksX3_canBuy_0 13 rfl rfl)
theorem dX3_canBuy_14 : decode cX3_canBuy 14 = .ok (.invokeinterface 86 2, 5) := by decide +kernel
theorem dX3_canBuy_19 : decode cX3_canBuy 19 = .ok (.checkcast 57, 3) := dk_192 0 57 (dk_at dksX3_canBuy_0 19 rfl rfl)
theorem dX3_canBuy_22 : decode cX3_canBuy 22 = .ok (.getfield 133, 3) := dk_180 0 133 (dk_at dksX3_canBuy_1 0 rfl rfl)
theorem dX3_canBuy_25 : decode cX3_canBuy 25 = .ok (.iload_n 3, 1) := dk_29 (dk_at dksX3_canBuy_1 3 rfl rfl)
theorem dX3_canBuy_26 : decode cX3_canBuy 26 = .ok (.if_icmp .lt 30, 3) := dk_161 0 30 (dk_at dksX3_canBuy_1 4 rfl rfl)
theorem dX3_canBuy_29 : decode cX3_canBuy 29 = .ok (.aload_n 0, 1) := dk_42 (dk_at dksX3_canBuy_1 7 rfl rfl)
theorem dX3_canBuy_30 : decode cX3_canBuy 30 = .ok (.getfield 21, 3) := dk_180 0 21 (dk_at dksX3_canBuy_1 8 rfl rfl)
theorem dX3_canBuy_33 : decode cX3_canBuy 33 = .ok (.iload_n 2, 1) := dk_28 (dk_at dksX3_canBuy_1 11 rfl rfl)
theorem dX3_canBuy_34 : decode cX3_canBuy 34 = .ok (.invokeinterface 86 2, 5) := by decide +kernel
theorem dX3_canBuy_39 : decode cX3_canBuy 39 = .ok (.checkcast 57, 3) := dk_192 0 57 (dk_at dksX3_canBuy_1 17 rfl rfl)
theorem dX3_canBuy_42 : decode cX3_canBuy 42 = .ok (.getfield 133, 3) := dk_180 0 133 (dk_at dksX3_canBuy_1 20 rfl rfl)
theorem dX3_canBuy_45 : decode cX3_canBuy 45 = .ok (.iload_n 3, 1) := dk_29 (dk_at dksX3_canBuy_1 23 rfl rfl)
theorem dX3_canBuy_46 : decode cX3_canBuy 46 = .ok (.iadd, 1) := dk_96 (dk_at dksX3_canBuy_2 0 rfl rfl)
theorem dX3_canBuy_47 : decode cX3_canBuy 47 = .ok (.bipush 99, 2) := dk_16 99 (dk_at dksX3_canBuy_2 1 rfl rfl)
theorem dX3_canBuy_49 : decode cX3_canBuy 49 = .ok (.if_icmp .gt 7, 3) := dk_163 0 7 (dk_at dksX3_canBuy_2 3 rfl rfl)
theorem dX3_canBuy_52 : decode cX3_canBuy 52 = .ok (.iconst 1, 1) := dk_4 (dk_at dksX3_canBuy_2 6 rfl rfl)
theorem dX3_canBuy_53 : decode cX3_canBuy 53 = .ok (.goto 4, 3) := dk_167 0 4 (dk_at dksX3_canBuy_2 7 rfl rfl)
theorem dX3_canBuy_56 : decode cX3_canBuy 56 = .ok (.iconst 0, 1) := dk_3 (dk_at dksX3_canBuy_2 10 rfl rfl)
theorem dX3_canBuy_57 : decode cX3_canBuy 57 = .ok (.ireturn, 1) := dk_172 (dk_at dksX3_canBuy_2 11 rfl rfl)
abbrev cX3_buyTruce : ByteArray := prog_7_method_13_code
def yX3_buyTruce : MethodName := ⟨RX3, "buyTruce", "(IIII)I"⟩
def dkwX3_buyTruce_3 : List UInt8 := [104, 27, 96, 42, 180, 0, 72, 21, 4, 96, 79, 42, 180, 0, 72, 21, 4, 96, 172]
abbrev dktX3_buyTruce_3 : List UInt8 := dkwX3_buyTruce_3 ++ []
def dkwX3_buyTruce_2 : List UInt8 := [180, 0, 24, 27, 16, 8, 104, 28, 96, 42, 180, 0, 72, 21, 4, 96, 79, 42, 180, 0, 24, 28, 16, 8]
abbrev dktX3_buyTruce_2 : List UInt8 := dkwX3_buyTruce_2 ++ dktX3_buyTruce_3
def dkwX3_buyTruce_1 : List UInt8 := [180, 0, 21, 28, 185, 0, 86, 2, 0, 192, 0, 57, 89, 180, 0, 133, 29, 96, 181, 0, 133, 42]
abbrev dktX3_buyTruce_1 : List UInt8 := dkwX3_buyTruce_1 ++ dktX3_buyTruce_2
def dkwX3_buyTruce_0 : List UInt8 := [42, 180, 0, 21, 27, 185, 0, 86, 2, 0, 192, 0, 57, 89, 180, 0, 133, 29, 100, 181, 0, 133, 42]
abbrev dktX3_buyTruce_0 : List UInt8 := dkwX3_buyTruce_0 ++ dktX3_buyTruce_1
theorem dksX3_buyTruce_0 : cX3_buyTruce.data.toList.drop 0 = dktX3_buyTruce_0 := by decide +kernel
theorem dksX3_buyTruce_1 : cX3_buyTruce.data.toList.drop 23 = dktX3_buyTruce_1 := dk_seg dksX3_buyTruce_0 23 rfl rfl
theorem dksX3_buyTruce_2 : cX3_buyTruce.data.toList.drop 45 = dktX3_buyTruce_2 := dk_seg dksX3_buyTruce_1 22 rfl rfl
theorem dksX3_buyTruce_3 : cX3_buyTruce.data.toList.drop 69 = dktX3_buyTruce_3 := dk_seg dksX3_buyTruce_2 24 rfl rfl
theorem dX3_buyTruce_0 : decode cX3_buyTruce 0 = .ok (.aload_n 0, 1) := dk_42 (dk_at dksX3_buyTruce_0 0 rfl rfl)
theorem dX3_buyTruce_1 : decode cX3_buyTruce 1 = .ok (.getfield 21, 3) := dk_180 0 21 (dk_at dksX3_buyTruce_0 1 rfl rfl)
theorem dX3_buyTruce_4 : decode cX3_buyTruce 4 = .ok (.iload_n 1, 1) := dk_27 (dk_at dksX3_buyTruce_0 4 rfl rfl)
theorem dX3_buyTruce_5 : decode cX3_buyTruce 5 = .ok (.invokeinterface 86 2, 5) := by decide +kernel
theorem dX3_buyTruce_10 : decode cX3_buyTruce 10 = .ok (.checkcast 57, 3) := dk_192 0 57 (dk_at dksX3_buyTruce_0 10 rfl rfl)
theorem dX3_buyTruce_13 : decode cX3_buyTruce 13 = .ok (.dup, 1) := dk_89 (dk_at dksX3_buyTruce_0 13 rfl rfl)
theorem dX3_buyTruce_14 : decode cX3_buyTruce 14 = .ok (.getfield 133, 3) := dk_180 0 133 (dk_at dksX3_buyTruce_0 14 rfl rfl)
theorem dX3_buyTruce_17 : decode cX3_buyTruce 17 = .ok (.iload_n 3, 1) := dk_29 (dk_at dksX3_buyTruce_0 17 rfl rfl)
theorem dX3_buyTruce_18 : decode cX3_buyTruce 18 = .ok (.isub, 1) := dk_100 (dk_at dksX3_buyTruce_0 18 rfl rfl)
theorem dX3_buyTruce_19 : decode cX3_buyTruce 19 = .ok (.putfield 133, 3) := dk_181 0 133 (dk_at dksX3_buyTruce_0 19 rfl rfl)
theorem dX3_buyTruce_22 : decode cX3_buyTruce 22 = .ok (.aload_n 0, 1) := dk_42 (dk_at dksX3_buyTruce_0 22 rfl rfl)
theorem dX3_buyTruce_23 : decode cX3_buyTruce 23 = .ok (.getfield 21, 3) := dk_180 0 21 (dk_at dksX3_buyTruce_1 0 rfl rfl)
theorem dX3_buyTruce_26 : decode cX3_buyTruce 26 = .ok (.iload_n 2, 1) := dk_28 (dk_at dksX3_buyTruce_1 3 rfl rfl)
theorem dX3_buyTruce_27 : decode cX3_buyTruce 27 = .ok (.invokeinterface 86 2, 5) := by decide +kernel
theorem dX3_buyTruce_32 : decode cX3_buyTruce 32 = .ok (.checkcast 57, 3) := dk_192 0 57 (dk_at dksX3_buyTruce_1 9 rfl rfl)
theorem dX3_buyTruce_35 : decode cX3_buyTruce 35 = .ok (.dup, 1) := dk_89 (dk_at dksX3_buyTruce_1 12 rfl rfl)
theorem dX3_buyTruce_36 : decode cX3_buyTruce 36 = .ok (.getfield 133, 3) := dk_180 0 133 (dk_at dksX3_buyTruce_1 13 rfl rfl)
theorem dX3_buyTruce_39 : decode cX3_buyTruce 39 = .ok (.iload_n 3, 1) := dk_29 (dk_at dksX3_buyTruce_1 16 rfl rfl)
theorem dX3_buyTruce_40 : decode cX3_buyTruce 40 = .ok (.iadd, 1) := dk_96 (dk_at dksX3_buyTruce_1 17 rfl rfl)
theorem dX3_buyTruce_41 : decode cX3_buyTruce 41 = .ok (.putfield 133, 3) := dk_181 0 133 (dk_at dksX3_buyTruce_1 18 rfl rfl)
theorem dX3_buyTruce_44 : decode cX3_buyTruce 44 = .ok (.aload_n 0, 1) := dk_42 (dk_at dksX3_buyTruce_1 21 rfl rfl)
theorem dX3_buyTruce_45 : decode cX3_buyTruce 45 = .ok (.getfield 24, 3) := dk_180 0 24 (dk_at dksX3_buyTruce_2 0 rfl rfl)
theorem dX3_buyTruce_48 : decode cX3_buyTruce 48 = .ok (.iload_n 1, 1) := dk_27 (dk_at dksX3_buyTruce_2 3 rfl rfl)
theorem dX3_buyTruce_49 : decode cX3_buyTruce 49 = .ok (.bipush 8, 2) := dk_16 8 (dk_at dksX3_buyTruce_2 4 rfl rfl)
theorem dX3_buyTruce_51 : decode cX3_buyTruce 51 = .ok (.imul, 1) := dk_104 (dk_at dksX3_buyTruce_2 6 rfl rfl)
theorem dX3_buyTruce_52 : decode cX3_buyTruce 52 = .ok (.iload_n 2, 1) := dk_28 (dk_at dksX3_buyTruce_2 7 rfl rfl)
theorem dX3_buyTruce_53 : decode cX3_buyTruce 53 = .ok (.iadd, 1) := dk_96 (dk_at dksX3_buyTruce_2 8 rfl rfl)
theorem dX3_buyTruce_54 : decode cX3_buyTruce 54 = .ok (.aload_n 0, 1) := dk_42 (dk_at dksX3_buyTruce_2 9 rfl rfl)
theorem dX3_buyTruce_55 : decode cX3_buyTruce 55 = .ok (.getfield 72, 3) := dk_180 0 72 (dk_at dksX3_buyTruce_2 10 rfl rfl)
theorem dX3_buyTruce_58 : decode cX3_buyTruce 58 = .ok (.iload 4, 2) := dk_21 4 (dk_at dksX3_buyTruce_2 13 rfl rfl)
theorem dX3_buyTruce_60 : decode cX3_buyTruce 60 = .ok (.iadd, 1) := dk_96 (dk_at dksX3_buyTruce_2 15 rfl rfl)
theorem dX3_buyTruce_61 : decode cX3_buyTruce 61 = .ok (.iastore, 1) := dk_79 (dk_at dksX3_buyTruce_2 16 rfl rfl)
theorem dX3_buyTruce_62 : decode cX3_buyTruce 62 = .ok (.aload_n 0, 1) := dk_42 (dk_at dksX3_buyTruce_2 17 rfl rfl)
theorem dX3_buyTruce_63 : decode cX3_buyTruce 63 = .ok (.getfield 24, 3) := dk_180 0 24 (dk_at dksX3_buyTruce_2 18 rfl rfl)
theorem dX3_buyTruce_66 : decode cX3_buyTruce 66 = .ok (.iload_n 2, 1) := dk_28 (dk_at dksX3_buyTruce_2 21 rfl rfl)
theorem dX3_buyTruce_67 : decode cX3_buyTruce 67 = .ok (.bipush 8, 2) := dk_16 8 (dk_at dksX3_buyTruce_2 22 rfl rfl)
theorem dX3_buyTruce_69 : decode cX3_buyTruce 69 = .ok (.imul, 1) := dk_104 (dk_at dksX3_buyTruce_3 0 rfl rfl)
theorem dX3_buyTruce_70 : decode cX3_buyTruce 70 = .ok (.iload_n 1, 1) := dk_27 (dk_at dksX3_buyTruce_3 1 rfl rfl)
theorem dX3_buyTruce_71 : decode cX3_buyTruce 71 = .ok (.iadd, 1) := dk_96 (dk_at dksX3_buyTruce_3 2 rfl rfl)
theorem dX3_buyTruce_72 : decode cX3_buyTruce 72 = .ok (.aload_n 0, 1) := dk_42 (dk_at dksX3_buyTruce_3 3 rfl rfl)
theorem dX3_buyTruce_73 : decode cX3_buyTruce 73 = .ok (.getfield 72, 3) := dk_180 0 72 (dk_at dksX3_buyTruce_3 4 rfl rfl)
theorem dX3_buyTruce_76 : decode cX3_buyTruce 76 = .ok (.iload 4, 2) := dk_21 4 (dk_at dksX3_buyTruce_3 7 rfl rfl)
theorem dX3_buyTruce_78 : decode cX3_buyTruce 78 = .ok (.iadd, 1) := dk_96 (dk_at dksX3_buyTruce_3 9 rfl rfl)
theorem dX3_buyTruce_79 : decode cX3_buyTruce 79 = .ok (.iastore, 1) := dk_79 (dk_at dksX3_buyTruce_3 10 rfl rfl)
theorem dX3_buyTruce_80 : decode cX3_buyTruce 80 = .ok (.aload_n 0, 1) := dk_42 (dk_at dksX3_buyTruce_3 11 rfl rfl)
theorem dX3_buyTruce_81 : decode cX3_buyTruce 81 = .ok (.getfield 72, 3) := dk_180 0 72 (dk_at dksX3_buyTruce_3 12 rfl rfl)
theorem dX3_buyTruce_84 : decode cX3_buyTruce 84 = .ok (.iload 4, 2) := dk_21 4 (dk_at dksX3_buyTruce_3 15 rfl rfl)
theorem dX3_buyTruce_86 : decode cX3_buyTruce 86 = .ok (.iadd, 1) := dk_96 (dk_at dksX3_buyTruce_3 17 rfl rfl)
theorem dX3_buyTruce_87 : decode cX3_buyTruce 87 = .ok (.ireturn, 1) := dk_172 (dk_at dksX3_buyTruce_3 18 rfl rfl)
abbrev cX3_canNominate : ByteArray := prog_7_method_27_code
def yX3_canNominate : MethodName := ⟨RX3, "canNominate", "()Z"⟩
def dkwX3_canNominate_1 : List UInt8 := [185, 0, 82, 1, 0, 16, 8, 162, 0, 7, 4, 167, 0, 4, 3, 172]
abbrev dktX3_canNominate_1 : List UInt8 := dkwX3_canNominate_1 ++ []
def dkwX3_canNominate_0 : List UInt8 := [42, 180, 0, 68, 199, 0, 33, 42, 180, 0, 21, 185, 0, 179, 1, 0, 154, 0, 21, 42, 180, 0, 21]
abbrev dktX3_canNominate_0 : List UInt8 := dkwX3_canNominate_0 ++ dktX3_canNominate_1
theorem dksX3_canNominate_0 : cX3_canNominate.data.toList.drop 0 = dktX3_canNominate_0 := by decide +kernel
theorem dksX3_canNominate_1 : cX3_canNominate.data.toList.drop 23 = dktX3_canNominate_1 := dk_seg dksX3_canNominate_0 23 rfl rfl
theorem dX3_canNominate_0 : decode cX3_canNominate 0 = .ok (.aload_n 0, 1) := dk_42 (dk_at dksX3_canNominate_0 0 rfl rfl)
theorem dX3_canNominate_1 : decode cX3_canNominate 1 = .ok (.getfield 68, 3) := dk_180 0 68 (dk_at dksX3_canNominate_0 1 rfl rfl)
theorem dX3_canNominate_4 : decode cX3_canNominate 4 = .ok (.ifnonnull 33, 3) := dk_199 0 33 (dk_at dksX3_canNominate_0 4 rfl rfl)
theorem dX3_canNominate_7 : decode cX3_canNominate 7 = .ok (.aload_n 0, 1) := dk_42 (dk_at dksX3_canNominate_0 7 rfl rfl)
theorem dX3_canNominate_8 : decode cX3_canNominate 8 = .ok (.getfield 21, 3) := dk_180 0 21 (dk_at dksX3_canNominate_0 8 rfl rfl)
theorem dX3_canNominate_11 : decode cX3_canNominate 11 = .ok (.invokeinterface 179 1, 5) := by decide +kernel
theorem dX3_canNominate_16 : decode cX3_canNominate 16 = .ok (.ifCond .ne 21, 3) := dk_154 0 21 (dk_at dksX3_canNominate_0 16 rfl rfl)
theorem dX3_canNominate_19 : decode cX3_canNominate 19 = .ok (.aload_n 0, 1) := dk_42 (dk_at dksX3_canNominate_0 19 rfl rfl)
theorem dX3_canNominate_20 : decode cX3_canNominate 20 = .ok (.getfield 21, 3) := dk_180 0 21 (dk_at dksX3_canNominate_0 20 rfl rfl)
theorem dX3_canNominate_23 : decode cX3_canNominate 23 = .ok (.invokeinterface 82 1, 5) := by decide +kernel
theorem dX3_canNominate_28 : decode cX3_canNominate 28 = .ok (.bipush 8, 2) := dk_16 8 (dk_at dksX3_canNominate_1 5 rfl rfl)
theorem dX3_canNominate_30 : decode cX3_canNominate 30 = .ok (.if_icmp .ge 7, 3) := dk_162 0 7 (dk_at dksX3_canNominate_1 7 rfl rfl)
theorem dX3_canNominate_33 : decode cX3_canNominate 33 = .ok (.iconst 1, 1) := dk_4 (dk_at dksX3_canNominate_1 10 rfl rfl)
theorem dX3_canNominate_34 : decode cX3_canNominate 34 = .ok (.goto 4, 3) := dk_167 0 4 (dk_at dksX3_canNominate_1 11 rfl rfl)
theorem dX3_canNominate_37 : decode cX3_canNominate 37 = .ok (.iconst 0, 1) := dk_3 (dk_at dksX3_canNominate_1 14 rfl rfl)
theorem dX3_canNominate_38 : decode cX3_canNominate 38 = .ok (.ireturn, 1) := dk_172 (dk_at dksX3_canNominate_1 15 rfl rfl)
abbrev cX3_nominate : ByteArray := prog_7_method_28_code
def yX3_nominate : MethodName := ⟨RX3, "nominate", "(II)I"⟩
def dkwX3_nominate_1 : List UInt8 := [172]
abbrev dktX3_nominate_1 : List UInt8 := dkwX3_nominate_1 ++ []
def dkwX3_nominate_0 : List UInt8 := [42, 187, 0, 182, 89, 27, 28, 3, 3, 183, 0, 184, 181, 0, 68, 42, 180, 0, 21, 185, 0, 82, 1, 0]
abbrev dktX3_nominate_0 : List UInt8 := dkwX3_nominate_0 ++ dktX3_nominate_1
theorem dksX3_nominate_0 : cX3_nominate.data.toList.drop 0 = dktX3_nominate_0 := by decide +kernel
theorem dksX3_nominate_1 : cX3_nominate.data.toList.drop 24 = dktX3_nominate_1 := dk_seg dksX3_nominate_0 24 rfl rfl
theorem dX3_nominate_0 : decode cX3_nominate 0 = .ok (.aload_n 0, 1) := dk_42 (dk_at dksX3_nominate_0 0 rfl rfl)
theorem dX3_nominate_1 : decode cX3_nominate 1 = .ok (.new 182, 3) := dk_187 0 182 (dk_at dksX3_nominate_0 1 rfl rfl)
theorem dX3_nominate_4 : decode cX3_nominate 4 = .ok (.dup, 1) := dk_89 (dk_at dksX3_nominate_0 4 rfl rfl)
theorem dX3_nominate_5 : decode cX3_nominate 5 = .ok (.iload_n 1, 1) := dk_27 (dk_at dksX3_nominate_0 5 rfl rfl)
theorem dX3_nominate_6 : decode cX3_nominate 6 = .ok (.iload_n 2, 1) := dk_28 (dk_at dksX3_nominate_0 6 rfl rfl)
theorem dX3_nominate_7 : decode cX3_nominate 7 = .ok (.iconst 0, 1) := dk_3 (dk_at dksX3_nominate_0 7 rfl rfl)
theorem dX3_nominate_8 : decode cX3_nominate 8 = .ok (.iconst 0, 1) := dk_3 (dk_at dksX3_nominate_0 8 rfl rfl)
theorem dX3_nominate_9 : decode cX3_nominate 9 = .ok (.invokespecial 184, 3) := dk_183 0 184 (dk_at dksX3_nominate_0 9 rfl rfl)
theorem dX3_nominate_12 : decode cX3_nominate 12 = .ok (.putfield 68, 3) := dk_181 0 68 (dk_at dksX3_nominate_0 12 rfl rfl)
theorem dX3_nominate_15 : decode cX3_nominate 15 = .ok (.aload_n 0, 1) := dk_42 (dk_at dksX3_nominate_0 15 rfl rfl)
theorem dX3_nominate_16 : decode cX3_nominate 16 = .ok (.getfield 21, 3) := dk_180 0 21 (dk_at dksX3_nominate_0 16 rfl rfl)
theorem dX3_nominate_19 : decode cX3_nominate 19 = .ok (.invokeinterface 82 1, 5) := by decide +kernel
theorem dX3_nominate_24 : decode cX3_nominate 24 = .ok (.ireturn, 1) := dk_172 (dk_at dksX3_nominate_1 0 rfl rfl)
abbrev cX3_passNights : ByteArray := prog_7_method_37_code
def yX3_passNights : MethodName := ⟨RX3, "passNights", "(I)I"⟩
def dkwX3_passNights_0 : List UInt8 := [3, 61, 28, 27, 162, 0, 13, 42, 182, 0, 229, 132, 2, 1, 167, 255, 244, 42, 180, 0, 72, 172]
abbrev dktX3_passNights_0 : List UInt8 := dkwX3_passNights_0 ++ []
theorem dksX3_passNights_0 : cX3_passNights.data.toList.drop 0 = dktX3_passNights_0 := by decide +kernel
theorem dX3_passNights_0 : decode cX3_passNights 0 = .ok (.iconst 0, 1) := dk_3 (dk_at dksX3_passNights_0 0 rfl rfl)
theorem dX3_passNights_1 : decode cX3_passNights 1 = .ok (.istore_n 2, 1) := dk_61 (dk_at dksX3_passNights_0 1 rfl rfl)
theorem dX3_passNights_2 : decode cX3_passNights 2 = .ok (.iload_n 2, 1) := dk_28 (dk_at dksX3_passNights_0 2 rfl rfl)
theorem dX3_passNights_3 : decode cX3_passNights 3 = .ok (.iload_n 1, 1) := dk_27 (dk_at dksX3_passNights_0 3 rfl rfl)
theorem dX3_passNights_4 : decode cX3_passNights 4 = .ok (.if_icmp .ge 13, 3) := dk_162 0 13 (dk_at dksX3_passNights_0 4 rfl rfl)
theorem dX3_passNights_7 : decode cX3_passNights 7 = .ok (.aload_n 0, 1) := dk_42 (dk_at dksX3_passNights_0 7 rfl rfl)
theorem dX3_passNights_8 : decode cX3_passNights 8 = .ok (.invokevirtual 229, 3) := dk_182 0 229 (dk_at dksX3_passNights_0 8 rfl rfl)
theorem dX3_passNights_11 : decode cX3_passNights 11 = .ok (.iinc 2 1, 3) := dk_132 2 1 (dk_at dksX3_passNights_0 11 rfl rfl)
theorem dX3_passNights_14 : decode cX3_passNights 14 = .ok (.goto (-12), 3) := dk_167 255 244 (dk_at dksX3_passNights_0 14 rfl rfl)
theorem dX3_passNights_17 : decode cX3_passNights 17 = .ok (.aload_n 0, 1) := dk_42 (dk_at dksX3_passNights_0 17 rfl rfl)
theorem dX3_passNights_18 : decode cX3_passNights 18 = .ok (.getfield 72, 3) := dk_180 0 72 (dk_at dksX3_passNights_0 18 rfl rfl)
theorem dX3_passNights_21 : decode cX3_passNights 21 = .ok (.ireturn, 1) := dk_172 (dk_at dksX3_passNights_0 21 rfl rfl)
abbrev cX3_passNight : ByteArray := prog_7_method_35_code
def yX3_passNight : MethodName := ⟨RX3, "passNight", "()V"⟩
def dkwX3_passNight_5 : List UInt8 := [42, 42, 182, 0, 222, 182, 0, 225, 177]
abbrev dktX3_passNight_5 : List UInt8 := dkwX3_passNight_5 ++ []
def dkwX3_passNight_4 : List UInt8 := [182, 0, 219, 96, 181, 0, 79, 132, 1, 1, 167, 255, 168, 42, 180, 0, 72, 16, 8, 112, 7, 160, 0, 11]
abbrev dktX3_passNight_4 : List UInt8 := dkwX3_passNight_4 ++ dktX3_passNight_5
def dkwX3_passNight_3 : List UInt8 := [192, 0, 45, 180, 0, 117, 6, 108, 182, 0, 177, 96, 181, 0, 76, 167, 0, 16, 42, 89, 180, 0, 79, 44]
abbrev dktX3_passNight_3 : List UInt8 := dkwX3_passNight_3 ++ dktX3_passNight_4
def dkwX3_passNight_2 : List UInt8 := [153, 0, 40, 42, 89, 180, 0, 76, 44, 42, 180, 0, 12, 44, 180, 0, 90, 185, 0, 86, 2, 0]
abbrev dktX3_passNight_2 : List UInt8 := dkwX3_passNight_2 ++ dktX3_passNight_3
def dkwX3_passNight_1 : List UInt8 := [162, 0, 81, 42, 180, 0, 21, 27, 185, 0, 86, 2, 0, 192, 0, 57, 77, 42, 27, 182, 0, 110]
abbrev dktX3_passNight_1 : List UInt8 := dkwX3_passNight_1 ++ dktX3_passNight_2
def dkwX3_passNight_0 : List UInt8 := [42, 89, 180, 0, 72, 4, 96, 181, 0, 72, 3, 60, 27, 42, 180, 0, 21, 185, 0, 82, 1, 0]
abbrev dktX3_passNight_0 : List UInt8 := dkwX3_passNight_0 ++ dktX3_passNight_1
theorem dksX3_passNight_0 : cX3_passNight.data.toList.drop 0 = dktX3_passNight_0 := by decide +kernel
theorem dksX3_passNight_1 : cX3_passNight.data.toList.drop 22 = dktX3_passNight_1 := dk_seg dksX3_passNight_0 22 rfl rfl
theorem dksX3_passNight_2 : cX3_passNight.data.toList.drop 44 = dktX3_passNight_2 := dk_seg dksX3_passNight_1 22 rfl rfl
theorem dksX3_passNight_3 : cX3_passNight.data.toList.drop 66 = dktX3_passNight_3 := dk_seg dksX3_passNight_2 22 rfl rfl
theorem dksX3_passNight_4 : cX3_passNight.data.toList.drop 90 = dktX3_passNight_4 := dk_seg dksX3_passNight_3 24 rfl rfl
theorem dksX3_passNight_5 : cX3_passNight.data.toList.drop 114 = dktX3_passNight_5 := dk_seg dksX3_passNight_4 24 rfl rfl
theorem dX3_passNight_0 : decode cX3_passNight 0 = .ok (.aload_n 0, 1) := dk_42 (dk_at dksX3_passNight_0 0 rfl rfl)
theorem dX3_passNight_1 : decode cX3_passNight 1 = .ok (.dup, 1) := dk_89 (dk_at dksX3_passNight_0 1 rfl rfl)
theorem dX3_passNight_2 : decode cX3_passNight 2 = .ok (.getfield 72, 3) := dk_180 0 72 (dk_at dksX3_passNight_0 2 rfl rfl)
theorem dX3_passNight_5 : decode cX3_passNight 5 = .ok (.iconst 1, 1) := dk_4 (dk_at dksX3_passNight_0 5 rfl rfl)
theorem dX3_passNight_6 : decode cX3_passNight 6 = .ok (.iadd, 1) := dk_96 (dk_at dksX3_passNight_0 6 rfl rfl)
theorem dX3_passNight_7 : decode cX3_passNight 7 = .ok (.putfield 72, 3) := dk_181 0 72 (dk_at dksX3_passNight_0 7 rfl rfl)
theorem dX3_passNight_10 : decode cX3_passNight 10 = .ok (.iconst 0, 1) := dk_3 (dk_at dksX3_passNight_0 10 rfl rfl)
theorem dX3_passNight_11 : decode cX3_passNight 11 = .ok (.istore_n 1, 1) := dk_60 (dk_at dksX3_passNight_0 11 rfl rfl)
theorem dX3_passNight_12 : decode cX3_passNight 12 = .ok (.iload_n 1, 1) := dk_27 (dk_at dksX3_passNight_0 12 rfl rfl)
theorem dX3_passNight_13 : decode cX3_passNight 13 = .ok (.aload_n 0, 1) := dk_42 (dk_at dksX3_passNight_0 13 rfl rfl)
theorem dX3_passNight_14 : decode cX3_passNight 14 = .ok (.getfield 21, 3) := dk_180 0 21 (dk_at dksX3_passNight_0 14 rfl rfl)
theorem dX3_passNight_17 : decode cX3_passNight 17 = .ok (.invokeinterface 82 1, 5) := by decide +kernel
theorem dX3_passNight_22 : decode cX3_passNight 22 = .ok (.if_icmp .ge 81, 3) := dk_162 0 81 (dk_at dksX3_passNight_1 0 rfl rfl)
theorem dX3_passNight_25 : decode cX3_passNight 25 = .ok (.aload_n 0, 1) := dk_42 (dk_at dksX3_passNight_1 3 rfl rfl)
theorem dX3_passNight_26 : decode cX3_passNight 26 = .ok (.getfield 21, 3) := dk_180 0 21 (dk_at dksX3_passNight_1 4 rfl rfl)
theorem dX3_passNight_29 : decode cX3_passNight 29 = .ok (.iload_n 1, 1) := dk_27 (dk_at dksX3_passNight_1 7 rfl rfl)
theorem dX3_passNight_30 : decode cX3_passNight 30 = .ok (.invokeinterface 86 2, 5) := by decide +kernel
theorem dX3_passNight_35 : decode cX3_passNight 35 = .ok (.checkcast 57, 3) := dk_192 0 57 (dk_at dksX3_passNight_1 13 rfl rfl)
theorem dX3_passNight_38 : decode cX3_passNight 38 = .ok (.astore_n 2, 1) := dk_77 (dk_at dksX3_passNight_1 16 rfl rfl)
theorem dX3_passNight_39 : decode cX3_passNight 39 = .ok (.aload_n 0, 1) := dk_42 (dk_at dksX3_passNight_1 17 rfl rfl)
theorem dX3_passNight_40 : decode cX3_passNight 40 = .ok (.iload_n 1, 1) := dk_27 (dk_at dksX3_passNight_1 18 rfl rfl)
theorem dX3_passNight_41 : decode cX3_passNight 41 = .ok (.invokevirtual 110, 3) := dk_182 0 110 (dk_at dksX3_passNight_1 19 rfl rfl)
theorem dX3_passNight_44 : decode cX3_passNight 44 = .ok (.ifCond .eq 40, 3) := dk_153 0 40 (dk_at dksX3_passNight_2 0 rfl rfl)
theorem dX3_passNight_47 : decode cX3_passNight 47 = .ok (.aload_n 0, 1) := dk_42 (dk_at dksX3_passNight_2 3 rfl rfl)
theorem dX3_passNight_48 : decode cX3_passNight 48 = .ok (.dup, 1) := dk_89 (dk_at dksX3_passNight_2 4 rfl rfl)
theorem dX3_passNight_49 : decode cX3_passNight 49 = .ok (.getfield 76, 3) := dk_180 0 76 (dk_at dksX3_passNight_2 5 rfl rfl)
theorem dX3_passNight_52 : decode cX3_passNight 52 = .ok (.aload_n 2, 1) := dk_44 (dk_at dksX3_passNight_2 8 rfl rfl)
theorem dX3_passNight_53 : decode cX3_passNight 53 = .ok (.aload_n 0, 1) := dk_42 (dk_at dksX3_passNight_2 9 rfl rfl)
theorem dX3_passNight_54 : decode cX3_passNight 54 = .ok (.getfield 12, 3) := dk_180 0 12 (dk_at dksX3_passNight_2 10 rfl rfl)
theorem dX3_passNight_57 : decode cX3_passNight 57 = .ok (.aload_n 2, 1) := dk_44 (dk_at dksX3_passNight_2 13 rfl rfl)
theorem dX3_passNight_58 : decode cX3_passNight 58 = .ok (.getfield 90, 3) := dk_180 0 90 (dk_at dksX3_passNight_2 14 rfl rfl)
theorem dX3_passNight_61 : decode cX3_passNight 61 = .ok (.invokeinterface 86 2, 5) := by decide +kernel
theorem dX3_passNight_66 : decode cX3_passNight 66 = .ok (.checkcast 45, 3) := dk_192 0 45 (dk_at dksX3_passNight_3 0 rfl rfl)
theorem dX3_passNight_69 : decode cX3_passNight 69 = .ok (.getfield 117, 3) := dk_180 0 117 (dk_at dksX3_passNight_3 3 rfl rfl)
theorem dX3_passNight_72 : decode cX3_passNight 72 = .ok (.iconst 3, 1) := dk_6 (dk_at dksX3_passNight_3 6 rfl rfl)
theorem dX3_passNight_73 : decode cX3_passNight 73 = .ok (.idiv, 1) := dk_108 (dk_at dksX3_passNight_3 7 rfl rfl)
theorem dX3_passNight_74 : decode cX3_passNight 74 = .ok (.invokevirtual 177, 3) := dk_182 0 177 (dk_at dksX3_passNight_3 8 rfl rfl)
theorem dX3_passNight_77 : decode cX3_passNight 77 = .ok (.iadd, 1) := dk_96 (dk_at dksX3_passNight_3 11 rfl rfl)
theorem dX3_passNight_78 : decode cX3_passNight 78 = .ok (.putfield 76, 3) := dk_181 0 76 (dk_at dksX3_passNight_3 12 rfl rfl)
theorem dX3_passNight_81 : decode cX3_passNight 81 = .ok (.goto 16, 3) := dk_167 0 16 (dk_at dksX3_passNight_3 15 rfl rfl)
theorem dX3_passNight_84 : decode cX3_passNight 84 = .ok (.aload_n 0, 1) := dk_42 (dk_at dksX3_passNight_3 18 rfl rfl)
theorem dX3_passNight_85 : decode cX3_passNight 85 = .ok (.dup, 1) := dk_89 (dk_at dksX3_passNight_3 19 rfl rfl)
theorem dX3_passNight_86 : decode cX3_passNight 86 = .ok (.getfield 79, 3) := dk_180 0 79 (dk_at dksX3_passNight_3 20 rfl rfl)
theorem dX3_passNight_89 : decode cX3_passNight 89 = .ok (.aload_n 2, 1) := dk_44 (dk_at dksX3_passNight_3 23 rfl rfl)
theorem dX3_passNight_90 : decode cX3_passNight 90 = .ok (.invokevirtual 219, 3) := dk_182 0 219 (dk_at dksX3_passNight_4 0 rfl rfl)
theorem dX3_passNight_93 : decode cX3_passNight 93 = .ok (.iadd, 1) := dk_96 (dk_at dksX3_passNight_4 3 rfl rfl)
theorem dX3_passNight_94 : decode cX3_passNight 94 = .ok (.putfield 79, 3) := dk_181 0 79 (dk_at dksX3_passNight_4 4 rfl rfl)
theorem dX3_passNight_97 : decode cX3_passNight 97 = .ok (.iinc 1 1, 3) := dk_132 1 1 (dk_at dksX3_passNight_4 7 rfl rfl)
theorem dX3_passNight_100 : decode cX3_passNight 100 = .ok (.goto (-88), 3) := dk_167 255 168 (dk_at dksX3_passNight_4 10 rfl rfl)
theorem dX3_passNight_103 : decode cX3_passNight 103 = .ok (.aload_n 0, 1) := dk_42 (dk_at dksX3_passNight_4 13 rfl rfl)
theorem dX3_passNight_104 : decode cX3_passNight 104 = .ok (.getfield 72, 3) := dk_180 0 72 (dk_at dksX3_passNight_4 14 rfl rfl)
theorem dX3_passNight_107 : decode cX3_passNight 107 = .ok (.bipush 8, 2) := dk_16 8 (dk_at dksX3_passNight_4 17 rfl rfl)
theorem dX3_passNight_109 : decode cX3_passNight 109 = .ok (.irem, 1) := dk_112 (dk_at dksX3_passNight_4 19 rfl rfl)
theorem dX3_passNight_110 : decode cX3_passNight 110 = .ok (.iconst 4, 1) := dk_7 (dk_at dksX3_passNight_4 20 rfl rfl)
theorem dX3_passNight_111 : decode cX3_passNight 111 = .ok (.if_icmp .ne 11, 3) := dk_160 0 11 (dk_at dksX3_passNight_4 21 rfl rfl)
theorem dX3_passNight_114 : decode cX3_passNight 114 = .ok (.aload_n 0, 1) := dk_42 (dk_at dksX3_passNight_5 0 rfl rfl)
theorem dX3_passNight_115 : decode cX3_passNight 115 = .ok (.aload_n 0, 1) := dk_42 (dk_at dksX3_passNight_5 1 rfl rfl)
theorem dX3_passNight_116 : decode cX3_passNight 116 = .ok (.invokevirtual 222, 3) := dk_182 0 222 (dk_at dksX3_passNight_5 2 rfl rfl)
theorem dX3_passNight_119 : decode cX3_passNight 119 = .ok (.invokevirtual 225, 3) := dk_182 0 225 (dk_at dksX3_passNight_5 5 rfl rfl)
theorem dX3_passNight_122 : decode cX3_passNight 122 = .ok (.return_, 1) := dk_177 (dk_at dksX3_passNight_5 8 rfl rfl)
abbrev cX3_largestChoir : ByteArray := prog_7_method_34_code
def yX3_largestChoir : MethodName := ⟨RX3, "largestChoir", "()I"⟩
def dkwX3_largestChoir_1 : List UInt8 := [184, 0, 102, 27, 184, 0, 102, 164, 0, 5, 29, 60, 132, 2, 1, 167, 255, 221, 27, 172]
abbrev dktX3_largestChoir_1 : List UInt8 := dkwX3_largestChoir_1 ++ []
def dkwX3_largestChoir_0 : List UInt8 := [3, 60, 3, 61, 28, 42, 180, 0, 21, 185, 0, 82, 1, 0, 162, 0, 28, 42, 28, 182, 0, 213, 62, 29]
abbrev dktX3_largestChoir_0 : List UInt8 := dkwX3_largestChoir_0 ++ dktX3_largestChoir_1
theorem dksX3_largestChoir_0 : cX3_largestChoir.data.toList.drop 0 = dktX3_largestChoir_0 := by decide +kernel
theorem dksX3_largestChoir_1 : cX3_largestChoir.data.toList.drop 24 = dktX3_largestChoir_1 := dk_seg dksX3_largestChoir_0 24 rfl rfl
theorem dX3_largestChoir_0 : decode cX3_largestChoir 0 = .ok (.iconst 0, 1) := dk_3 (dk_at dksX3_largestChoir_0 0 rfl rfl)
theorem dX3_largestChoir_1 : decode cX3_largestChoir 1 = .ok (.istore_n 1, 1) := dk_60 (dk_at dksX3_largestChoir_0 1 rfl rfl)
theorem dX3_largestChoir_2 : decode cX3_largestChoir 2 = .ok (.iconst 0, 1) := dk_3 (dk_at dksX3_largestChoir_0 2 rfl rfl)
theorem dX3_largestChoir_3 : decode cX3_largestChoir 3 = .ok (.istore_n 2, 1) := dk_61 (dk_at dksX3_largestChoir_0 3 rfl rfl)
theorem dX3_largestChoir_4 : decode cX3_largestChoir 4 = .ok (.iload_n 2, 1) := dk_28 (dk_at dksX3_largestChoir_0 4 rfl rfl)
theorem dX3_largestChoir_5 : decode cX3_largestChoir 5 = .ok (.aload_n 0, 1) := dk_42 (dk_at dksX3_largestChoir_0 5 rfl rfl)
theorem dX3_largestChoir_6 : decode cX3_largestChoir 6 = .ok (.getfield 21, 3) := dk_180 0 21 (dk_at dksX3_largestChoir_0 6 rfl rfl)
theorem dX3_largestChoir_9 : decode cX3_largestChoir 9 = .ok (.invokeinterface 82 1, 5) := by decide +kernel
theorem dX3_largestChoir_14 : decode cX3_largestChoir 14 = .ok (.if_icmp .ge 28, 3) := dk_162 0 28 (dk_at dksX3_largestChoir_0 14 rfl rfl)
theorem dX3_largestChoir_17 : decode cX3_largestChoir 17 = .ok (.aload_n 0, 1) := dk_42 (dk_at dksX3_largestChoir_0 17 rfl rfl)
theorem dX3_largestChoir_18 : decode cX3_largestChoir 18 = .ok (.iload_n 2, 1) := dk_28 (dk_at dksX3_largestChoir_0 18 rfl rfl)
theorem dX3_largestChoir_19 : decode cX3_largestChoir 19 = .ok (.invokevirtual 213, 3) := dk_182 0 213 (dk_at dksX3_largestChoir_0 19 rfl rfl)
theorem dX3_largestChoir_22 : decode cX3_largestChoir 22 = .ok (.istore_n 3, 1) := dk_62 (dk_at dksX3_largestChoir_0 22 rfl rfl)
theorem dX3_largestChoir_23 : decode cX3_largestChoir 23 = .ok (.iload_n 3, 1) := dk_29 (dk_at dksX3_largestChoir_0 23 rfl rfl)
theorem dX3_largestChoir_24 : decode cX3_largestChoir 24 = .ok (.invokestatic 102, 3) := dk_184 0 102 (dk_at dksX3_largestChoir_1 0 rfl rfl)
theorem dX3_largestChoir_27 : decode cX3_largestChoir 27 = .ok (.iload_n 1, 1) := dk_27 (dk_at dksX3_largestChoir_1 3 rfl rfl)
theorem dX3_largestChoir_28 : decode cX3_largestChoir 28 = .ok (.invokestatic 102, 3) := dk_184 0 102 (dk_at dksX3_largestChoir_1 4 rfl rfl)
theorem dX3_largestChoir_31 : decode cX3_largestChoir 31 = .ok (.if_icmp .le 5, 3) := dk_164 0 5 (dk_at dksX3_largestChoir_1 7 rfl rfl)
theorem dX3_largestChoir_34 : decode cX3_largestChoir 34 = .ok (.iload_n 3, 1) := dk_29 (dk_at dksX3_largestChoir_1 10 rfl rfl)
theorem dX3_largestChoir_35 : decode cX3_largestChoir 35 = .ok (.istore_n 1, 1) := dk_60 (dk_at dksX3_largestChoir_1 11 rfl rfl)
theorem dX3_largestChoir_36 : decode cX3_largestChoir 36 = .ok (.iinc 2 1, 3) := dk_132 2 1 (dk_at dksX3_largestChoir_1 12 rfl rfl)
theorem dX3_largestChoir_39 : decode cX3_largestChoir 39 = .ok (.goto (-35), 3) := dk_167 255 221 (dk_at dksX3_largestChoir_1 15 rfl rfl)
theorem dX3_largestChoir_42 : decode cX3_largestChoir 42 = .ok (.iload_n 1, 1) := dk_27 (dk_at dksX3_largestChoir_1 18 rfl rfl)
theorem dX3_largestChoir_43 : decode cX3_largestChoir 43 = .ok (.ireturn, 1) := dk_172 (dk_at dksX3_largestChoir_1 19 rfl rfl)
abbrev cX3_choir : ByteArray := prog_7_method_32_code
def yX3_choir : MethodName := ⟨RX3, "choir", "(I)I"⟩
def dkwX3_choir_3 : List UInt8 := [29, 4, 21, 5, 120, 128, 62, 132, 5, 1, 167, 255, 211, 132, 4, 1, 167, 255, 188, 167, 255, 175, 28, 172]
abbrev dktX3_choir_3 : List UInt8 := dkwX3_choir_3 ++ []
def dkwX3_choir_2 : List UInt8 := [162, 0, 37, 28, 21, 4, 122, 4, 126, 4, 160, 0, 21, 42, 21, 4, 21, 5, 182, 0, 210, 153, 0, 10]
abbrev dktX3_choir_2 : List UInt8 := dkwX3_choir_2 ++ dktX3_choir_3
def dkwX3_choir_1 : List UInt8 := [185, 0, 82, 1, 0, 162, 0, 60, 3, 54, 5, 21, 5, 42, 180, 0, 21, 185, 0, 82, 1, 0]
abbrev dktX3_choir_1 : List UInt8 := dkwX3_choir_1 ++ dktX3_choir_2
def dkwX3_choir_0 : List UInt8 := [3, 61, 4, 27, 120, 62, 29, 28, 159, 0, 82, 29, 61, 3, 54, 4, 21, 4, 42, 180, 0, 21]
abbrev dktX3_choir_0 : List UInt8 := dkwX3_choir_0 ++ dktX3_choir_1
theorem dksX3_choir_0 : cX3_choir.data.toList.drop 0 = dktX3_choir_0 := by decide +kernel
theorem dksX3_choir_1 : cX3_choir.data.toList.drop 22 = dktX3_choir_1 := dk_seg dksX3_choir_0 22 rfl rfl
theorem dksX3_choir_2 : cX3_choir.data.toList.drop 44 = dktX3_choir_2 := dk_seg dksX3_choir_1 22 rfl rfl
theorem dksX3_choir_3 : cX3_choir.data.toList.drop 68 = dktX3_choir_3 := dk_seg dksX3_choir_2 24 rfl rfl
theorem dX3_choir_0 : decode cX3_choir 0 = .ok (.iconst 0, 1) := dk_3 (dk_at dksX3_choir_0 0 rfl rfl)
theorem dX3_choir_1 : decode cX3_choir 1 = .ok (.istore_n 2, 1) := dk_61 (dk_at dksX3_choir_0 1 rfl rfl)
theorem dX3_choir_2 : decode cX3_choir 2 = .ok (.iconst 1, 1) := dk_4 (dk_at dksX3_choir_0 2 rfl rfl)
theorem dX3_choir_3 : decode cX3_choir 3 = .ok (.iload_n 1, 1) := dk_27 (dk_at dksX3_choir_0 3 rfl rfl)
theorem dX3_choir_4 : decode cX3_choir 4 = .ok (.ishl, 1) := dk_120 (dk_at dksX3_choir_0 4 rfl rfl)
theorem dX3_choir_5 : decode cX3_choir 5 = .ok (.istore_n 3, 1) := dk_62 (dk_at dksX3_choir_0 5 rfl rfl)
theorem dX3_choir_6 : decode cX3_choir 6 = .ok (.iload_n 3, 1) := dk_29 (dk_at dksX3_choir_0 6 rfl rfl)
theorem dX3_choir_7 : decode cX3_choir 7 = .ok (.iload_n 2, 1) := dk_28 (dk_at dksX3_choir_0 7 rfl rfl)
theorem dX3_choir_8 : decode cX3_choir 8 = .ok (.if_icmp .eq 82, 3) := dk_159 0 82 (dk_at dksX3_choir_0 8 rfl rfl)
theorem dX3_choir_11 : decode cX3_choir 11 = .ok (.iload_n 3, 1) := dk_29 (dk_at dksX3_choir_0 11 rfl rfl)
theorem dX3_choir_12 : decode cX3_choir 12 = .ok (.istore_n 2, 1) := dk_61 (dk_at dksX3_choir_0 12 rfl rfl)
theorem dX3_choir_13 : decode cX3_choir 13 = .ok (.iconst 0, 1) := dk_3 (dk_at dksX3_choir_0 13 rfl rfl)
theorem dX3_choir_14 : decode cX3_choir 14 = .ok (.istore 4, 2) := dk_54 4 (dk_at dksX3_choir_0 14 rfl rfl)
theorem dX3_choir_16 : decode cX3_choir 16 = .ok (.iload 4, 2) := dk_21 4 (dk_at dksX3_choir_0 16 rfl rfl)
theorem dX3_choir_18 : decode cX3_choir 18 = .ok (.aload_n 0, 1) := dk_42 (dk_at dksX3_choir_0 18 rfl rfl)
theorem dX3_choir_19 : decode cX3_choir 19 = .ok (.getfield 21, 3) := dk_180 0 21 (dk_at dksX3_choir_0 19 rfl rfl)
theorem dX3_choir_22 : decode cX3_choir 22 = .ok (.invokeinterface 82 1, 5) := by decide +kernel
theorem dX3_choir_27 : decode cX3_choir 27 = .ok (.if_icmp .ge 60, 3) := dk_162 0 60 (dk_at dksX3_choir_1 5 rfl rfl)
theorem dX3_choir_30 : decode cX3_choir 30 = .ok (.iconst 0, 1) := dk_3 (dk_at dksX3_choir_1 8 rfl rfl)
theorem dX3_choir_31 : decode cX3_choir 31 = .ok (.istore 5, 2) := dk_54 5 (dk_at dksX3_choir_1 9 rfl rfl)
theorem dX3_choir_33 : decode cX3_choir 33 = .ok (.iload 5, 2) := dk_21 5 (dk_at dksX3_choir_1 11 rfl rfl)
theorem dX3_choir_35 : decode cX3_choir 35 = .ok (.aload_n 0, 1) := dk_42 (dk_at dksX3_choir_1 13 rfl rfl)
theorem dX3_choir_36 : decode cX3_choir 36 = .ok (.getfield 21, 3) := dk_180 0 21 (dk_at dksX3_choir_1 14 rfl rfl)
theorem dX3_choir_39 : decode cX3_choir 39 = .ok (.invokeinterface 82 1, 5) := by decide +kernel
theorem dX3_choir_44 : decode cX3_choir 44 = .ok (.if_icmp .ge 37, 3) := dk_162 0 37 (dk_at dksX3_choir_2 0 rfl rfl)
theorem dX3_choir_47 : decode cX3_choir 47 = .ok (.iload_n 2, 1) := dk_28 (dk_at dksX3_choir_2 3 rfl rfl)
theorem dX3_choir_48 : decode cX3_choir 48 = .ok (.iload 4, 2) := dk_21 4 (dk_at dksX3_choir_2 4 rfl rfl)
theorem dX3_choir_50 : decode cX3_choir 50 = .ok (.ishr, 1) := dk_122 (dk_at dksX3_choir_2 6 rfl rfl)
theorem dX3_choir_51 : decode cX3_choir 51 = .ok (.iconst 1, 1) := dk_4 (dk_at dksX3_choir_2 7 rfl rfl)
theorem dX3_choir_52 : decode cX3_choir 52 = .ok (.iand, 1) := dk_126 (dk_at dksX3_choir_2 8 rfl rfl)
theorem dX3_choir_53 : decode cX3_choir 53 = .ok (.iconst 1, 1) := dk_4 (dk_at dksX3_choir_2 9 rfl rfl)
theorem dX3_choir_54 : decode cX3_choir 54 = .ok (.if_icmp .ne 21, 3) := dk_160 0 21 (dk_at dksX3_choir_2 10 rfl rfl)
theorem dX3_choir_57 : decode cX3_choir 57 = .ok (.aload_n 0, 1) := dk_42 (dk_at dksX3_choir_2 13 rfl rfl)
theorem dX3_choir_58 : decode cX3_choir 58 = .ok (.iload 4, 2) := dk_21 4 (dk_at dksX3_choir_2 14 rfl rfl)
theorem dX3_choir_60 : decode cX3_choir 60 = .ok (.iload 5, 2) := dk_21 5 (dk_at dksX3_choir_2 16 rfl rfl)
theorem dX3_choir_62 : decode cX3_choir 62 = .ok (.invokevirtual 210, 3) := dk_182 0 210 (dk_at dksX3_choir_2 18 rfl rfl)
theorem dX3_choir_65 : decode cX3_choir 65 = .ok (.ifCond .eq 10, 3) := dk_153 0 10 (dk_at dksX3_choir_2 21 rfl rfl)
theorem dX3_choir_68 : decode cX3_choir 68 = .ok (.iload_n 3, 1) := dk_29 (dk_at dksX3_choir_3 0 rfl rfl)
theorem dX3_choir_69 : decode cX3_choir 69 = .ok (.iconst 1, 1) := dk_4 (dk_at dksX3_choir_3 1 rfl rfl)
theorem dX3_choir_70 : decode cX3_choir 70 = .ok (.iload 5, 2) := dk_21 5 (dk_at dksX3_choir_3 2 rfl rfl)
theorem dX3_choir_72 : decode cX3_choir 72 = .ok (.ishl, 1) := dk_120 (dk_at dksX3_choir_3 4 rfl rfl)
theorem dX3_choir_73 : decode cX3_choir 73 = .ok (.ior, 1) := dk_128 (dk_at dksX3_choir_3 5 rfl rfl)
theorem dX3_choir_74 : decode cX3_choir 74 = .ok (.istore_n 3, 1) := dk_62 (dk_at dksX3_choir_3 6 rfl rfl)
theorem dX3_choir_75 : decode cX3_choir 75 = .ok (.iinc 5 1, 3) := dk_132 5 1 (dk_at dksX3_choir_3 7 rfl rfl)
theorem dX3_choir_78 : decode cX3_choir 78 = .ok (.goto (-45), 3) := dk_167 255 211 (dk_at dksX3_choir_3 10 rfl rfl)
theorem dX3_choir_81 : decode cX3_choir 81 = .ok (.iinc 4 1, 3) := dk_132 4 1 (dk_at dksX3_choir_3 13 rfl rfl)
theorem dX3_choir_84 : decode cX3_choir 84 = .ok (.goto (-68), 3) := dk_167 255 188 (dk_at dksX3_choir_3 16 rfl rfl)
theorem dX3_choir_87 : decode cX3_choir 87 = .ok (.goto (-81), 3) := dk_167 255 175 (dk_at dksX3_choir_3 19 rfl rfl)
theorem dX3_choir_90 : decode cX3_choir 90 = .ok (.iload_n 2, 1) := dk_28 (dk_at dksX3_choir_3 22 rfl rfl)
theorem dX3_choir_91 : decode cX3_choir 91 = .ok (.ireturn, 1) := dk_172 (dk_at dksX3_choir_3 23 rfl rfl)
abbrev cX3_singTogether : ByteArray := prog_7_method_31_code
def yX3_singTogether : MethodName := ⟨RX3, "singTogether", "(II)Z"⟩
def dkwX3_singTogether_3 : List UInt8 := [132, 3, 1, 167, 255, 187, 3, 172]
abbrev dktX3_singTogether_3 : List UInt8 := dkwX3_singTogether_3 ++ []
def dkwX3_singTogether_2 : List UInt8 := [42, 180, 0, 21, 28, 185, 0, 86, 2, 0, 192, 0, 57, 180, 0, 90, 182, 0, 167, 153, 0, 5, 4, 172]
abbrev dktX3_singTogether_2 : List UInt8 := dkwX3_singTogether_2 ++ dktX3_singTogether_3
def dkwX3_singTogether_1 : List UInt8 := [185, 0, 86, 2, 0, 192, 0, 55, 42, 180, 0, 21, 27, 185, 0, 86, 2, 0, 192, 0, 57, 180, 0, 90]
abbrev dktX3_singTogether_1 : List UInt8 := dkwX3_singTogether_1 ++ dktX3_singTogether_2
def dkwX3_singTogether_0 : List UInt8 := [3, 62, 29, 42, 180, 0, 18, 185, 0, 82, 1, 0, 162, 0, 62, 42, 180, 0, 18, 29]
abbrev dktX3_singTogether_0 : List UInt8 := dkwX3_singTogether_0 ++ dktX3_singTogether_1
theorem dksX3_singTogether_0 : cX3_singTogether.data.toList.drop 0 = dktX3_singTogether_0 := by decide +kernel
theorem dksX3_singTogether_1 : cX3_singTogether.data.toList.drop 20 = dktX3_singTogether_1 := dk_seg dksX3_singTogether_0 20 rfl rfl
theorem dksX3_singTogether_2 : cX3_singTogether.data.toList.drop 44 = dktX3_singTogether_2 := dk_seg dksX3_singTogether_1 24 rfl rfl
theorem dksX3_singTogether_3 : cX3_singTogether.data.toList.drop 68 = dktX3_singTogether_3 := dk_seg dksX3_singTogether_2 24 rfl rfl
theorem dX3_singTogether_0 : decode cX3_singTogether 0 = .ok (.iconst 0, 1) := dk_3 (dk_at dksX3_singTogether_0 0 rfl rfl)
theorem dX3_singTogether_1 : decode cX3_singTogether 1 = .ok (.istore_n 3, 1) := dk_62 (dk_at dksX3_singTogether_0 1 rfl rfl)
theorem dX3_singTogether_2 : decode cX3_singTogether 2 = .ok (.iload_n 3, 1) := dk_29 (dk_at dksX3_singTogether_0 2 rfl rfl)
theorem dX3_singTogether_3 : decode cX3_singTogether 3 = .ok (.aload_n 0, 1) := dk_42 (dk_at dksX3_singTogether_0 3 rfl rfl)
theorem dX3_singTogether_4 : decode cX3_singTogether 4 = .ok (.getfield 18, 3) := dk_180 0 18 (dk_at dksX3_singTogether_0 4 rfl rfl)
theorem dX3_singTogether_7 : decode cX3_singTogether 7 = .ok (.invokeinterface 82 1, 5) := by decide +kernel
theorem dX3_singTogether_12 : decode cX3_singTogether 12 = .ok (.if_icmp .ge 62, 3) := dk_162 0 62 (dk_at dksX3_singTogether_0 12 rfl rfl)
theorem dX3_singTogether_15 : decode cX3_singTogether 15 = .ok (.aload_n 0, 1) := dk_42 (dk_at dksX3_singTogether_0 15 rfl rfl)
theorem dX3_singTogether_16 : decode cX3_singTogether 16 = .ok (.getfield 18, 3) := dk_180 0 18 (dk_at dksX3_singTogether_0 16 rfl rfl)
theorem dX3_singTogether_19 : decode cX3_singTogether 19 = .ok (.iload_n 3, 1) := dk_29 (dk_at dksX3_singTogether_0 19 rfl rfl)
theorem dX3_singTogether_20 : decode cX3_singTogether 20 = .ok (.invokeinterface 86 2, 5) := by decide +kernel
theorem dX3_singTogether_25 : decode cX3_singTogether 25 = .ok (.checkcast 55, 3) := dk_192 0 55 (dk_at dksX3_singTogether_1 5 rfl rfl)
theorem dX3_singTogether_28 : decode cX3_singTogether 28 = .ok (.aload_n 0, 1) := dk_42 (dk_at dksX3_singTogether_1 8 rfl rfl)
theorem dX3_singTogether_29 : decode cX3_singTogether 29 = .ok (.getfield 21, 3) := dk_180 0 21 (dk_at dksX3_singTogether_1 9 rfl rfl)
theorem dX3_singTogether_32 : decode cX3_singTogether 32 = .ok (.iload_n 1, 1) := dk_27 (dk_at dksX3_singTogether_1 12 rfl rfl)
theorem dX3_singTogether_33 : decode cX3_singTogether 33 = .ok (.invokeinterface 86 2, 5) := by decide +kernel
theorem dX3_singTogether_38 : decode cX3_singTogether 38 = .ok (.checkcast 57, 3) := dk_192 0 57 (dk_at dksX3_singTogether_1 18 rfl rfl)
theorem dX3_singTogether_41 : decode cX3_singTogether 41 = .ok (.getfield 90, 3) := dk_180 0 90 (dk_at dksX3_singTogether_1 21 rfl rfl)
theorem dX3_singTogether_44 : decode cX3_singTogether 44 = .ok (.aload_n 0, 1) := dk_42 (dk_at dksX3_singTogether_2 0 rfl rfl)
theorem dX3_singTogether_45 : decode cX3_singTogether 45 = .ok (.getfield 21, 3) := dk_180 0 21 (dk_at dksX3_singTogether_2 1 rfl rfl)
theorem dX3_singTogether_48 : decode cX3_singTogether 48 = .ok (.iload_n 2, 1) := dk_28 (dk_at dksX3_singTogether_2 4 rfl rfl)
theorem dX3_singTogether_49 : decode cX3_singTogether 49 = .ok (.invokeinterface 86 2, 5) := by decide +kernel
theorem dX3_singTogether_54 : decode cX3_singTogether 54 = .ok (.checkcast 57, 3) := dk_192 0 57 (dk_at dksX3_singTogether_2 10 rfl rfl)
theorem dX3_singTogether_57 : decode cX3_singTogether 57 = .ok (.getfield 90, 3) := dk_180 0 90 (dk_at dksX3_singTogether_2 13 rfl rfl)
theorem dX3_singTogether_60 : decode cX3_singTogether 60 = .ok (.invokevirtual 167, 3) := dk_182 0 167 (dk_at dksX3_singTogether_2 16 rfl rfl)
theorem dX3_singTogether_63 : decode cX3_singTogether 63 = .ok (.ifCond .eq 5, 3) := dk_153 0 5 (dk_at dksX3_singTogether_2 19 rfl rfl)
theorem dX3_singTogether_66 : decode cX3_singTogether 66 = .ok (.iconst 1, 1) := dk_4 (dk_at dksX3_singTogether_2 22 rfl rfl)
theorem dX3_singTogether_67 : decode cX3_singTogether 67 = .ok (.ireturn, 1) := dk_172 (dk_at dksX3_singTogether_2 23 rfl rfl)
theorem dX3_singTogether_68 : decode cX3_singTogether 68 = .ok (.iinc 3 1, 3) := dk_132 3 1 (dk_at dksX3_singTogether_3 0 rfl rfl)
theorem dX3_singTogether_71 : decode cX3_singTogether 71 = .ok (.goto (-69), 3) := dk_167 255 187 (dk_at dksX3_singTogether_3 3 rfl rfl)
theorem dX3_singTogether_74 : decode cX3_singTogether 74 = .ok (.iconst 0, 1) := dk_3 (dk_at dksX3_singTogether_3 6 rfl rfl)
theorem dX3_singTogether_75 : decode cX3_singTogether 75 = .ok (.ireturn, 1) := dk_172 (dk_at dksX3_singTogether_3 7 rfl rfl)
abbrev cX3_sing : ByteArray := prog_7_method_36_code
def yX3_sing : MethodName := ⟨RX3, "sing", "(I)V"⟩
def dkwX3_sing_2 : List UInt8 := [182, 0, 177, 96, 181, 0, 76, 132, 2, 1, 167, 255, 202, 177]
abbrev dktX3_sing_2 : List UInt8 := dkwX3_sing_2 ++ []
def dkwX3_sing_1 : List UInt8 := [42, 89, 180, 0, 76, 42, 180, 0, 21, 28, 185, 0, 86, 2, 0, 192, 0, 57, 27, 184, 0, 102]
abbrev dktX3_sing_1 : List UInt8 := dkwX3_sing_1 ++ dktX3_sing_2
def dkwX3_sing_0 : List UInt8 := [3, 61, 28, 42, 180, 0, 21, 185, 0, 82, 1, 0, 162, 0, 47, 27, 28, 122, 4, 126, 4, 160, 0, 32]
abbrev dktX3_sing_0 : List UInt8 := dkwX3_sing_0 ++ dktX3_sing_1
theorem dksX3_sing_0 : cX3_sing.data.toList.drop 0 = dktX3_sing_0 := by decide +kernel
theorem dksX3_sing_1 : cX3_sing.data.toList.drop 24 = dktX3_sing_1 := dk_seg dksX3_sing_0 24 rfl rfl
theorem dksX3_sing_2 : cX3_sing.data.toList.drop 46 = dktX3_sing_2 := dk_seg dksX3_sing_1 22 rfl rfl
theorem dX3_sing_0 : decode cX3_sing 0 = .ok (.iconst 0, 1) := dk_3 (dk_at dksX3_sing_0 0 rfl rfl)
theorem dX3_sing_1 : decode cX3_sing 1 = .ok (.istore_n 2, 1) := dk_61 (dk_at dksX3_sing_0 1 rfl rfl)
theorem dX3_sing_2 : decode cX3_sing 2 = .ok (.iload_n 2, 1) := dk_28 (dk_at dksX3_sing_0 2 rfl rfl)
theorem dX3_sing_3 : decode cX3_sing 3 = .ok (.aload_n 0, 1) := dk_42 (dk_at dksX3_sing_0 3 rfl rfl)
theorem dX3_sing_4 : decode cX3_sing 4 = .ok (.getfield 21, 3) := dk_180 0 21 (dk_at dksX3_sing_0 4 rfl rfl)
theorem dX3_sing_7 : decode cX3_sing 7 = .ok (.invokeinterface 82 1, 5) := by decide +kernel
theorem dX3_sing_12 : decode cX3_sing 12 = .ok (.if_icmp .ge 47, 3) := dk_162 0 47 (dk_at dksX3_sing_0 12 rfl rfl)
theorem dX3_sing_15 : decode cX3_sing 15 = .ok (.iload_n 1, 1) := dk_27 (dk_at dksX3_sing_0 15 rfl rfl)
theorem dX3_sing_16 : decode cX3_sing 16 = .ok (.iload_n 2, 1) := dk_28 (dk_at dksX3_sing_0 16 rfl rfl)
theorem dX3_sing_17 : decode cX3_sing 17 = .ok (.ishr, 1) := dk_122 (dk_at dksX3_sing_0 17 rfl rfl)
theorem dX3_sing_18 : decode cX3_sing 18 = .ok (.iconst 1, 1) := dk_4 (dk_at dksX3_sing_0 18 rfl rfl)
theorem dX3_sing_19 : decode cX3_sing 19 = .ok (.iand, 1) := dk_126 (dk_at dksX3_sing_0 19 rfl rfl)
theorem dX3_sing_20 : decode cX3_sing 20 = .ok (.iconst 1, 1) := dk_4 (dk_at dksX3_sing_0 20 rfl rfl)
theorem dX3_sing_21 : decode cX3_sing 21 = .ok (.if_icmp .ne 32, 3) := dk_160 0 32 (dk_at dksX3_sing_0 21 rfl rfl)
theorem dX3_sing_24 : decode cX3_sing 24 = .ok (.aload_n 0, 1) := dk_42 (dk_at dksX3_sing_1 0 rfl rfl)
theorem dX3_sing_25 : decode cX3_sing 25 = .ok (.dup, 1) := dk_89 (dk_at dksX3_sing_1 1 rfl rfl)
theorem dX3_sing_26 : decode cX3_sing 26 = .ok (.getfield 76, 3) := dk_180 0 76 (dk_at dksX3_sing_1 2 rfl rfl)
theorem dX3_sing_29 : decode cX3_sing 29 = .ok (.aload_n 0, 1) := dk_42 (dk_at dksX3_sing_1 5 rfl rfl)
theorem dX3_sing_30 : decode cX3_sing 30 = .ok (.getfield 21, 3) := dk_180 0 21 (dk_at dksX3_sing_1 6 rfl rfl)
theorem dX3_sing_33 : decode cX3_sing 33 = .ok (.iload_n 2, 1) := dk_28 (dk_at dksX3_sing_1 9 rfl rfl)
theorem dX3_sing_34 : decode cX3_sing 34 = .ok (.invokeinterface 86 2, 5) := by decide +kernel
theorem dX3_sing_39 : decode cX3_sing 39 = .ok (.checkcast 57, 3) := dk_192 0 57 (dk_at dksX3_sing_1 15 rfl rfl)
theorem dX3_sing_42 : decode cX3_sing 42 = .ok (.iload_n 1, 1) := dk_27 (dk_at dksX3_sing_1 18 rfl rfl)
theorem dX3_sing_43 : decode cX3_sing 43 = .ok (.invokestatic 102, 3) := dk_184 0 102 (dk_at dksX3_sing_1 19 rfl rfl)
theorem dX3_sing_46 : decode cX3_sing 46 = .ok (.invokevirtual 177, 3) := dk_182 0 177 (dk_at dksX3_sing_2 0 rfl rfl)
theorem dX3_sing_49 : decode cX3_sing 49 = .ok (.iadd, 1) := dk_96 (dk_at dksX3_sing_2 3 rfl rfl)
theorem dX3_sing_50 : decode cX3_sing 50 = .ok (.putfield 76, 3) := dk_181 0 76 (dk_at dksX3_sing_2 4 rfl rfl)
theorem dX3_sing_53 : decode cX3_sing 53 = .ok (.iinc 2 1, 3) := dk_132 2 1 (dk_at dksX3_sing_2 7 rfl rfl)
theorem dX3_sing_56 : decode cX3_sing 56 = .ok (.goto (-54), 3) := dk_167 255 202 (dk_at dksX3_sing_2 10 rfl rfl)
theorem dX3_sing_59 : decode cX3_sing 59 = .ok (.return_, 1) := dk_177 (dk_at dksX3_sing_2 13 rfl rfl)
abbrev cX3_canVote : ByteArray := prog_7_method_29_code
def yX3_canVote : MethodName := ⟨RX3, "canVote", "(I)Z"⟩
def dkwX3_canVote_0 : List UInt8 := [42, 180, 0, 68, 198, 0, 18, 42, 180, 0, 68, 27, 182, 0, 187, 154, 0, 7, 4, 167, 0, 4, 3, 172]
abbrev dktX3_canVote_0 : List UInt8 := dkwX3_canVote_0 ++ []
theorem dksX3_canVote_0 : cX3_canVote.data.toList.drop 0 = dktX3_canVote_0 := by decide +kernel
theorem dX3_canVote_0 : decode cX3_canVote 0 = .ok (.aload_n 0, 1) := dk_42 (dk_at dksX3_canVote_0 0 rfl rfl)
theorem dX3_canVote_1 : decode cX3_canVote 1 = .ok (.getfield 68, 3) := dk_180 0 68 (dk_at dksX3_canVote_0 1 rfl rfl)
theorem dX3_canVote_4 : decode cX3_canVote 4 = .ok (.ifnull 18, 3) := dk_198 0 18 (dk_at dksX3_canVote_0 4 rfl rfl)
theorem dX3_canVote_7 : decode cX3_canVote 7 = .ok (.aload_n 0, 1) := dk_42 (dk_at dksX3_canVote_0 7 rfl rfl)
theorem dX3_canVote_8 : decode cX3_canVote 8 = .ok (.getfield 68, 3) := dk_180 0 68 (dk_at dksX3_canVote_0 8 rfl rfl)
theorem dX3_canVote_11 : decode cX3_canVote 11 = .ok (.iload_n 1, 1) := dk_27 (dk_at dksX3_canVote_0 11 rfl rfl)
theorem dX3_canVote_12 : decode cX3_canVote 12 = .ok (.invokevirtual 187, 3) := dk_182 0 187 (dk_at dksX3_canVote_0 12 rfl rfl)
theorem dX3_canVote_15 : decode cX3_canVote 15 = .ok (.ifCond .ne 7, 3) := dk_154 0 7 (dk_at dksX3_canVote_0 15 rfl rfl)
theorem dX3_canVote_18 : decode cX3_canVote 18 = .ok (.iconst 1, 1) := dk_4 (dk_at dksX3_canVote_0 18 rfl rfl)
theorem dX3_canVote_19 : decode cX3_canVote 19 = .ok (.goto 4, 3) := dk_167 0 4 (dk_at dksX3_canVote_0 19 rfl rfl)
theorem dX3_canVote_22 : decode cX3_canVote 22 = .ok (.iconst 0, 1) := dk_3 (dk_at dksX3_canVote_0 22 rfl rfl)
theorem dX3_canVote_23 : decode cX3_canVote 23 = .ok (.ireturn, 1) := dk_172 (dk_at dksX3_canVote_0 23 rfl rfl)
abbrev cX3_vote : ByteArray := prog_7_method_30_code
def yX3_vote : MethodName := ⟨RX3, "vote", "(IZ)Z"⟩
def dkwX3_vote_5 : List UInt8 := [42, 180, 0, 68, 182, 0, 205, 183, 0, 207, 185, 0, 51, 2, 0, 87, 42, 1, 181, 0, 68, 21, 6, 172]
abbrev dktX3_vote_5 : List UInt8 := dkwX3_vote_5 ++ []
def dkwX3_vote_4 : List UInt8 := [54, 6, 21, 6, 153, 0, 36, 42, 180, 0, 21, 187, 0, 57, 89, 21, 5, 42, 180, 0, 68, 182, 0, 203]
abbrev dktX3_vote_4 : List UInt8 := dkwX3_vote_4 ++ dktX3_vote_5
def dkwX3_vote_3 : List UInt8 := [180, 0, 21, 185, 0, 82, 1, 0, 16, 8, 162, 0, 13, 21, 5, 2, 159, 0, 7, 4, 167, 0, 4, 3]
abbrev dktX3_vote_3 : List UInt8 := dkwX3_vote_3 ++ dktX3_vote_4
def dkwX3_vote_2 : List UInt8 := [185, 0, 82, 1, 0, 162, 0, 5, 3, 172, 42, 182, 0, 200, 54, 5, 29, 21, 4, 164, 0, 27, 42]
abbrev dktX3_vote_2 : List UInt8 := dkwX3_vote_2 ++ dktX3_vote_3
def dkwX3_vote_1 : List UInt8 := [42, 180, 0, 68, 182, 0, 197, 184, 0, 102, 54, 4, 29, 21, 4, 96, 42, 180, 0, 21]
abbrev dktX3_vote_1 : List UInt8 := dkwX3_vote_1 ++ dktX3_vote_2
def dkwX3_vote_0 : List UInt8 := [42, 42, 180, 0, 68, 27, 28, 182, 0, 190, 181, 0, 68, 42, 180, 0, 68, 182, 0, 194, 184, 0, 102, 62]
abbrev dktX3_vote_0 : List UInt8 := dkwX3_vote_0 ++ dktX3_vote_1
theorem dksX3_vote_0 : cX3_vote.data.toList.drop 0 = dktX3_vote_0 := by decide +kernel
theorem dksX3_vote_1 : cX3_vote.data.toList.drop 24 = dktX3_vote_1 := dk_seg dksX3_vote_0 24 rfl rfl
theorem dksX3_vote_2 : cX3_vote.data.toList.drop 44 = dktX3_vote_2 := dk_seg dksX3_vote_1 20 rfl rfl
theorem dksX3_vote_3 : cX3_vote.data.toList.drop 67 = dktX3_vote_3 := dk_seg dksX3_vote_2 23 rfl rfl
theorem dksX3_vote_4 : cX3_vote.data.toList.drop 91 = dktX3_vote_4 := dk_seg dksX3_vote_3 24 rfl rfl
theorem dksX3_vote_5 : cX3_vote.data.toList.drop 115 = dktX3_vote_5 := dk_seg dksX3_vote_4 24 rfl rfl
theorem dX3_vote_0 : decode cX3_vote 0 = .ok (.aload_n 0, 1) := dk_42 (dk_at dksX3_vote_0 0 rfl rfl)
theorem dX3_vote_1 : decode cX3_vote 1 = .ok (.aload_n 0, 1) := dk_42 (dk_at dksX3_vote_0 1 rfl rfl)
theorem dX3_vote_2 : decode cX3_vote 2 = .ok (.getfield 68, 3) := dk_180 0 68 (dk_at dksX3_vote_0 2 rfl rfl)
theorem dX3_vote_5 : decode cX3_vote 5 = .ok (.iload_n 1, 1) := dk_27 (dk_at dksX3_vote_0 5 rfl rfl)
theorem dX3_vote_6 : decode cX3_vote 6 = .ok (.iload_n 2, 1) := dk_28 (dk_at dksX3_vote_0 6 rfl rfl)
theorem dX3_vote_7 : decode cX3_vote 7 = .ok (.invokevirtual 190, 3) := dk_182 0 190 (dk_at dksX3_vote_0 7 rfl rfl)
theorem dX3_vote_10 : decode cX3_vote 10 = .ok (.putfield 68, 3) := dk_181 0 68 (dk_at dksX3_vote_0 10 rfl rfl)
theorem dX3_vote_13 : decode cX3_vote 13 = .ok (.aload_n 0, 1) := dk_42 (dk_at dksX3_vote_0 13 rfl rfl)
theorem dX3_vote_14 : decode cX3_vote 14 = .ok (.getfield 68, 3) := dk_180 0 68 (dk_at dksX3_vote_0 14 rfl rfl)
theorem dX3_vote_17 : decode cX3_vote 17 = .ok (.invokevirtual 194, 3) := dk_182 0 194 (dk_at dksX3_vote_0 17 rfl rfl)
theorem dX3_vote_20 : decode cX3_vote 20 = .ok (.invokestatic 102, 3) := dk_184 0 102 (dk_at dksX3_vote_0 20 rfl rfl)
theorem dX3_vote_23 : decode cX3_vote 23 = .ok (.istore_n 3, 1) := dk_62 (dk_at dksX3_vote_0 23 rfl rfl)
theorem dX3_vote_24 : decode cX3_vote 24 = .ok (.aload_n 0, 1) := dk_42 (dk_at dksX3_vote_1 0 rfl rfl)
theorem dX3_vote_25 : decode cX3_vote 25 = .ok (.getfield 68, 3) := dk_180 0 68 (dk_at dksX3_vote_1 1 rfl rfl)
theorem dX3_vote_28 : decode cX3_vote 28 = .ok (.invokevirtual 197, 3) := dk_182 0 197 (dk_at dksX3_vote_1 4 rfl rfl)
theorem dX3_vote_31 : decode cX3_vote 31 = .ok (.invokestatic 102, 3) := dk_184 0 102 (dk_at dksX3_vote_1 7 rfl rfl)
theorem dX3_vote_34 : decode cX3_vote 34 = .ok (.istore 4, 2) := dk_54 4 (dk_at dksX3_vote_1 10 rfl rfl)
theorem dX3_vote_36 : decode cX3_vote 36 = .ok (.iload_n 3, 1) := dk_29 (dk_at dksX3_vote_1 12 rfl rfl)
theorem dX3_vote_37 : decode cX3_vote 37 = .ok (.iload 4, 2) := dk_21 4 (dk_at dksX3_vote_1 13 rfl rfl)
theorem dX3_vote_39 : decode cX3_vote 39 = .ok (.iadd, 1) := dk_96 (dk_at dksX3_vote_1 15 rfl rfl)
theorem dX3_vote_40 : decode cX3_vote 40 = .ok (.aload_n 0, 1) := dk_42 (dk_at dksX3_vote_1 16 rfl rfl)
theorem dX3_vote_41 : decode cX3_vote 41 = .ok (.getfield 21, 3) := dk_180 0 21 (dk_at dksX3_vote_1 17 rfl rfl)
theorem dX3_vote_44 : decode cX3_vote 44 = .ok (.invokeinterface 82 1, 5) := by decide +kernel
theorem dX3_vote_49 : decode cX3_vote 49 = .ok (.if_icmp .ge 5, 3) := dk_162 0 5 (dk_at dksX3_vote_2 5 rfl rfl)
theorem dX3_vote_52 : decode cX3_vote 52 = .ok (.iconst 0, 1) := dk_3 (dk_at dksX3_vote_2 8 rfl rfl)
theorem dX3_vote_53 : decode cX3_vote 53 = .ok (.ireturn, 1) := dk_172 (dk_at dksX3_vote_2 9 rfl rfl)
theorem dX3_vote_54 : decode cX3_vote 54 = .ok (.aload_n 0, 1) := dk_42 (dk_at dksX3_vote_2 10 rfl rfl)
theorem dX3_vote_55 : decode cX3_vote 55 = .ok (.invokevirtual 200, 3) := dk_182 0 200 (dk_at dksX3_vote_2 11 rfl rfl)
theorem dX3_vote_58 : decode cX3_vote 58 = .ok (.istore 5, 2) := dk_54 5 (dk_at dksX3_vote_2 14 rfl rfl)
theorem dX3_vote_60 : decode cX3_vote 60 = .ok (.iload_n 3, 1) := dk_29 (dk_at dksX3_vote_2 16 rfl rfl)
theorem dX3_vote_61 : decode cX3_vote 61 = .ok (.iload 4, 2) := dk_21 4 (dk_at dksX3_vote_2 17 rfl rfl)
theorem dX3_vote_63 : decode cX3_vote 63 = .ok (.if_icmp .le 27, 3) := dk_164 0 27 (dk_at dksX3_vote_2 19 rfl rfl)
theorem dX3_vote_66 : decode cX3_vote 66 = .ok (.aload_n 0, 1) := dk_42 (dk_at dksX3_vote_2 22 rfl rfl)
theorem dX3_vote_67 : decode cX3_vote 67 = .ok (.getfield 21, 3) := dk_180 0 21 (dk_at dksX3_vote_3 0 rfl rfl)
theorem dX3_vote_70 : decode cX3_vote 70 = .ok (.invokeinterface 82 1, 5) := by decide +kernel
theorem dX3_vote_75 : decode cX3_vote 75 = .ok (.bipush 8, 2) := dk_16 8 (dk_at dksX3_vote_3 8 rfl rfl)
theorem dX3_vote_77 : decode cX3_vote 77 = .ok (.if_icmp .ge 13, 3) := dk_162 0 13 (dk_at dksX3_vote_3 10 rfl rfl)
theorem dX3_vote_80 : decode cX3_vote 80 = .ok (.iload 5, 2) := dk_21 5 (dk_at dksX3_vote_3 13 rfl rfl)
theorem dX3_vote_82 : decode cX3_vote 82 = .ok (.iconst (-1), 1) := dk_2 (dk_at dksX3_vote_3 15 rfl rfl)
theorem dX3_vote_83 : decode cX3_vote 83 = .ok (.if_icmp .eq 7, 3) := dk_159 0 7 (dk_at dksX3_vote_3 16 rfl rfl)
theorem dX3_vote_86 : decode cX3_vote 86 = .ok (.iconst 1, 1) := dk_4 (dk_at dksX3_vote_3 19 rfl rfl)
theorem dX3_vote_87 : decode cX3_vote 87 = .ok (.goto 4, 3) := dk_167 0 4 (dk_at dksX3_vote_3 20 rfl rfl)
theorem dX3_vote_90 : decode cX3_vote 90 = .ok (.iconst 0, 1) := dk_3 (dk_at dksX3_vote_3 23 rfl rfl)
theorem dX3_vote_91 : decode cX3_vote 91 = .ok (.istore 6, 2) := dk_54 6 (dk_at dksX3_vote_4 0 rfl rfl)
theorem dX3_vote_93 : decode cX3_vote 93 = .ok (.iload 6, 2) := dk_21 6 (dk_at dksX3_vote_4 2 rfl rfl)
theorem dX3_vote_95 : decode cX3_vote 95 = .ok (.ifCond .eq 36, 3) := dk_153 0 36 (dk_at dksX3_vote_4 4 rfl rfl)
theorem dX3_vote_98 : decode cX3_vote 98 = .ok (.aload_n 0, 1) := dk_42 (dk_at dksX3_vote_4 7 rfl rfl)
theorem dX3_vote_99 : decode cX3_vote 99 = .ok (.getfield 21, 3) := dk_180 0 21 (dk_at dksX3_vote_4 8 rfl rfl)
theorem dX3_vote_102 : decode cX3_vote 102 = .ok (.new 57, 3) := dk_187 0 57 (dk_at dksX3_vote_4 11 rfl rfl)
theorem dX3_vote_105 : decode cX3_vote 105 = .ok (.dup, 1) := dk_89 (dk_at dksX3_vote_4 14 rfl rfl)
theorem dX3_vote_106 : decode cX3_vote 106 = .ok (.iload 5, 2) := dk_21 5 (dk_at dksX3_vote_4 15 rfl rfl)
theorem dX3_vote_108 : decode cX3_vote 108 = .ok (.aload_n 0, 1) := dk_42 (dk_at dksX3_vote_4 17 rfl rfl)
theorem dX3_vote_109 : decode cX3_vote 109 = .ok (.getfield 68, 3) := dk_180 0 68 (dk_at dksX3_vote_4 18 rfl rfl)
theorem dX3_vote_112 : decode cX3_vote 112 = .ok (.invokevirtual 203, 3) := dk_182 0 203 (dk_at dksX3_vote_4 21 rfl rfl)
theorem dX3_vote_115 : decode cX3_vote 115 = .ok (.aload_n 0, 1) := dk_42 (dk_at dksX3_vote_5 0 rfl rfl)
theorem dX3_vote_116 : decode cX3_vote 116 = .ok (.getfield 68, 3) := dk_180 0 68 (dk_at dksX3_vote_5 1 rfl rfl)
theorem dX3_vote_119 : decode cX3_vote 119 = .ok (.invokevirtual 205, 3) := dk_182 0 205 (dk_at dksX3_vote_5 4 rfl rfl)
theorem dX3_vote_122 : decode cX3_vote 122 = .ok (.invokespecial 207, 3) := dk_183 0 207 (dk_at dksX3_vote_5 7 rfl rfl)
theorem dX3_vote_125 : decode cX3_vote 125 = .ok (.invokeinterface 51 2, 5) := by decide +kernel
theorem dX3_vote_130 : decode cX3_vote 130 = .ok (.pop, 1) := dk_87 (dk_at dksX3_vote_5 15 rfl rfl)
theorem dX3_vote_131 : decode cX3_vote 131 = .ok (.aload_n 0, 1) := dk_42 (dk_at dksX3_vote_5 16 rfl rfl)
theorem dX3_vote_132 : decode cX3_vote 132 = .ok (.aconst_null, 1) := dk_1 (dk_at dksX3_vote_5 17 rfl rfl)
theorem dX3_vote_133 : decode cX3_vote 133 = .ok (.putfield 68, 3) := dk_181 0 68 (dk_at dksX3_vote_5 18 rfl rfl)
theorem dX3_vote_136 : decode cX3_vote 136 = .ok (.iload 6, 2) := dk_21 6 (dk_at dksX3_vote_5 21 rfl rfl)
theorem dX3_vote_138 : decode cX3_vote 138 = .ok (.ireturn, 1) := dk_172 (dk_at dksX3_vote_5 23 rfl rfl)
abbrev cX3_warmestFree : ByteArray := prog_7_method_9_code
def yX3_warmestFree : MethodName := ⟨RX3, "warmestFree", "()I"⟩
def dkwX3_warmestFree_3 : List UInt8 := [167, 255, 189, 27, 172]
abbrev dktX3_warmestFree_3 : List UInt8 := dkwX3_warmestFree_3 ++ []
def dkwX3_warmestFree_2 : List UInt8 := [42, 180, 0, 12, 27, 185, 0, 86, 2, 0, 192, 0, 45, 180, 0, 117, 164, 0, 5, 28, 60, 132, 2, 1]
abbrev dktX3_warmestFree_2 : List UInt8 := dkwX3_warmestFree_2 ++ dktX3_warmestFree_3
def dkwX3_warmestFree_1 : List UInt8 := [160, 0, 45, 27, 2, 159, 0, 38, 42, 180, 0, 12, 28, 185, 0, 86, 2, 0, 192, 0, 45, 180, 0, 117]
abbrev dktX3_warmestFree_1 : List UInt8 := dkwX3_warmestFree_1 ++ dktX3_warmestFree_2
def dkwX3_warmestFree_0 : List UInt8 := [2, 60, 3, 61, 28, 42, 180, 0, 12, 185, 0, 82, 1, 0, 162, 0, 60, 42, 28, 182, 0, 114, 2]
abbrev dktX3_warmestFree_0 : List UInt8 := dkwX3_warmestFree_0 ++ dktX3_warmestFree_1
theorem dksX3_warmestFree_0 : cX3_warmestFree.data.toList.drop 0 = dktX3_warmestFree_0 := by decide +kernel
theorem dksX3_warmestFree_1 : cX3_warmestFree.data.toList.drop 23 = dktX3_warmestFree_1 := dk_seg dksX3_warmestFree_0 23 rfl rfl
theorem dksX3_warmestFree_2 : cX3_warmestFree.data.toList.drop 47 = dktX3_warmestFree_2 := dk_seg dksX3_warmestFree_1 24 rfl rfl
theorem dksX3_warmestFree_3 : cX3_warmestFree.data.toList.drop 71 = dktX3_warmestFree_3 := dk_seg dksX3_warmestFree_2 24 rfl rfl
theorem dX3_warmestFree_0 : decode cX3_warmestFree 0 = .ok (.iconst (-1), 1) := dk_2 (dk_at dksX3_warmestFree_0 0 rfl rfl)
theorem dX3_warmestFree_1 : decode cX3_warmestFree 1 = .ok (.istore_n 1, 1) := dk_60 (dk_at dksX3_warmestFree_0 1 rfl rfl)
theorem dX3_warmestFree_2 : decode cX3_warmestFree 2 = .ok (.iconst 0, 1) := dk_3 (dk_at dksX3_warmestFree_0 2 rfl rfl)
theorem dX3_warmestFree_3 : decode cX3_warmestFree 3 = .ok (.istore_n 2, 1) := dk_61 (dk_at dksX3_warmestFree_0 3 rfl rfl)
theorem dX3_warmestFree_4 : decode cX3_warmestFree 4 = .ok (.iload_n 2, 1) := dk_28 (dk_at dksX3_warmestFree_0 4 rfl rfl)
theorem dX3_warmestFree_5 : decode cX3_warmestFree 5 = .ok (.aload_n 0, 1) := dk_42 (dk_at dksX3_warmestFree_0 5 rfl rfl)
theorem dX3_warmestFree_6 : decode cX3_warmestFree 6 = .ok (.getfield 12, 3) := dk_180 0 12 (dk_at dksX3_warmestFree_0 6 rfl rfl)
theorem dX3_warmestFree_9 : decode cX3_warmestFree 9 = .ok (.invokeinterface 82 1, 5) := by decide +kernel
theorem dX3_warmestFree_14 : decode cX3_warmestFree 14 = .ok (.if_icmp .ge 60, 3) := dk_162 0 60 (dk_at dksX3_warmestFree_0 14 rfl rfl)
theorem dX3_warmestFree_17 : decode cX3_warmestFree 17 = .ok (.aload_n 0, 1) := dk_42 (dk_at dksX3_warmestFree_0 17 rfl rfl)
theorem dX3_warmestFree_18 : decode cX3_warmestFree 18 = .ok (.iload_n 2, 1) := dk_28 (dk_at dksX3_warmestFree_0 18 rfl rfl)
theorem dX3_warmestFree_19 : decode cX3_warmestFree 19 = .ok (.invokevirtual 114, 3) := dk_182 0 114 (dk_at dksX3_warmestFree_0 19 rfl rfl)
theorem dX3_warmestFree_22 : decode cX3_warmestFree 22 = .ok (.iconst (-1), 1) := dk_2 (dk_at dksX3_warmestFree_0 22 rfl rfl)
theorem dX3_warmestFree_23 : decode cX3_warmestFree 23 = .ok (.if_icmp .ne 45, 3) := dk_160 0 45 (dk_at dksX3_warmestFree_1 0 rfl rfl)
theorem dX3_warmestFree_26 : decode cX3_warmestFree 26 = .ok (.iload_n 1, 1) := dk_27 (dk_at dksX3_warmestFree_1 3 rfl rfl)
theorem dX3_warmestFree_27 : decode cX3_warmestFree 27 = .ok (.iconst (-1), 1) := dk_2 (dk_at dksX3_warmestFree_1 4 rfl rfl)
theorem dX3_warmestFree_28 : decode cX3_warmestFree 28 = .ok (.if_icmp .eq 38, 3) := dk_159 0 38 (dk_at dksX3_warmestFree_1 5 rfl rfl)
theorem dX3_warmestFree_31 : decode cX3_warmestFree 31 = .ok (.aload_n 0, 1) := dk_42 (dk_at dksX3_warmestFree_1 8 rfl rfl)
theorem dX3_warmestFree_32 : decode cX3_warmestFree 32 = .ok (.getfield 12, 3) := dk_180 0 12 (dk_at dksX3_warmestFree_1 9 rfl rfl)
theorem dX3_warmestFree_35 : decode cX3_warmestFree 35 = .ok (.iload_n 2, 1) := dk_28 (dk_at dksX3_warmestFree_1 12 rfl rfl)
theorem dX3_warmestFree_36 : decode cX3_warmestFree 36 = .ok (.invokeinterface 86 2, 5) := by decide +kernel
theorem dX3_warmestFree_41 : decode cX3_warmestFree 41 = .ok (.checkcast 45, 3) := dk_192 0 45 (dk_at dksX3_warmestFree_1 18 rfl rfl)
theorem dX3_warmestFree_44 : decode cX3_warmestFree 44 = .ok (.getfield 117, 3) := dk_180 0 117 (dk_at dksX3_warmestFree_1 21 rfl rfl)
theorem dX3_warmestFree_47 : decode cX3_warmestFree 47 = .ok (.aload_n 0, 1) := dk_42 (dk_at dksX3_warmestFree_2 0 rfl rfl)
theorem dX3_warmestFree_48 : decode cX3_warmestFree 48 = .ok (.getfield 12, 3) := dk_180 0 12 (dk_at dksX3_warmestFree_2 1 rfl rfl)
theorem dX3_warmestFree_51 : decode cX3_warmestFree 51 = .ok (.iload_n 1, 1) := dk_27 (dk_at dksX3_warmestFree_2 4 rfl rfl)
theorem dX3_warmestFree_52 : decode cX3_warmestFree 52 = .ok (.invokeinterface 86 2, 5) := by decide +kernel
theorem dX3_warmestFree_57 : decode cX3_warmestFree 57 = .ok (.checkcast 45, 3) := dk_192 0 45 (dk_at dksX3_warmestFree_2 10 rfl rfl)
theorem dX3_warmestFree_60 : decode cX3_warmestFree 60 = .ok (.getfield 117, 3) := dk_180 0 117 (dk_at dksX3_warmestFree_2 13 rfl rfl)
theorem dX3_warmestFree_63 : decode cX3_warmestFree 63 = .ok (.if_icmp .le 5, 3) := dk_164 0 5 (dk_at dksX3_warmestFree_2 16 rfl rfl)
theorem dX3_warmestFree_66 : decode cX3_warmestFree 66 = .ok (.iload_n 2, 1) := dk_28 (dk_at dksX3_warmestFree_2 19 rfl rfl)
theorem dX3_warmestFree_67 : decode cX3_warmestFree 67 = .ok (.istore_n 1, 1) := dk_60 (dk_at dksX3_warmestFree_2 20 rfl rfl)
theorem dX3_warmestFree_68 : decode cX3_warmestFree 68 = .ok (.iinc 2 1, 3) := dk_132 2 1 (dk_at dksX3_warmestFree_2 21 rfl rfl)
theorem dX3_warmestFree_71 : decode cX3_warmestFree 71 = .ok (.goto (-67), 3) := dk_167 255 189 (dk_at dksX3_warmestFree_3 0 rfl rfl)
theorem dX3_warmestFree_74 : decode cX3_warmestFree 74 = .ok (.iload_n 1, 1) := dk_27 (dk_at dksX3_warmestFree_3 3 rfl rfl)
theorem dX3_warmestFree_75 : decode cX3_warmestFree 75 = .ok (.ireturn, 1) := dk_172 (dk_at dksX3_warmestFree_3 4 rfl rfl)
abbrev cX3_copy : ByteArray := prog_7_method_2_code
def yX3_copy : MethodName := ⟨RX3, "copy", "()LRooftopCats$Roof;"⟩
def dkwX3_copy_8 : List UInt8 := [42, 180, 0, 76, 181, 0, 76, 43, 42, 180, 0, 79, 181, 0, 79, 43, 176]
abbrev dktX3_copy_8 : List UInt8 := dkwX3_copy_8 ++ []
def dkwX3_copy_7 : List UInt8 := [180, 0, 24, 190, 184, 0, 62, 43, 42, 180, 0, 68, 181, 0, 68, 43, 42, 180, 0, 72, 181, 0, 72, 43]
abbrev dktX3_copy_7 : List UInt8 := dkwX3_copy_7 ++ dktX3_copy_8
def dkwX3_copy_6 : List UInt8 := [182, 0, 59, 185, 0, 51, 2, 0, 87, 167, 255, 223, 42, 180, 0, 24, 3, 43, 180, 0, 24, 3, 42]
abbrev dktX3_copy_6 : List UInt8 := dkwX3_copy_6 ++ dktX3_copy_7
def dkwX3_copy_5 : List UInt8 := [185, 0, 35, 1, 0, 153, 0, 30, 44, 185, 0, 41, 1, 0, 192, 0, 57, 78, 43, 180, 0, 21, 45]
abbrev dktX3_copy_5 : List UInt8 := dkwX3_copy_5 ++ dktX3_copy_6
def dkwX3_copy_4 : List UInt8 := [185, 0, 51, 2, 0, 87, 167, 255, 226, 42, 180, 0, 21, 185, 0, 29, 1, 0, 77, 44]
abbrev dktX3_copy_4 : List UInt8 := dkwX3_copy_4 ++ dktX3_copy_5
def dkwX3_copy_3 : List UInt8 := [185, 0, 35, 1, 0, 153, 0, 27, 44, 185, 0, 41, 1, 0, 192, 0, 55, 78, 43, 180, 0, 18, 45]
abbrev dktX3_copy_3 : List UInt8 := dkwX3_copy_3 ++ dktX3_copy_4
def dkwX3_copy_2 : List UInt8 := [185, 0, 51, 2, 0, 87, 167, 255, 223, 42, 180, 0, 18, 185, 0, 29, 1, 0, 77, 44]
abbrev dktX3_copy_2 : List UInt8 := dkwX3_copy_2 ++ dktX3_copy_3
def dkwX3_copy_1 : List UInt8 := [153, 0, 30, 44, 185, 0, 41, 1, 0, 192, 0, 45, 78, 43, 180, 0, 12, 45, 182, 0, 47]
abbrev dktX3_copy_1 : List UInt8 := dkwX3_copy_1 ++ dktX3_copy_2
def dkwX3_copy_0 : List UInt8 := [187, 0, 13, 89, 183, 0, 28, 76, 42, 180, 0, 12, 185, 0, 29, 1, 0, 77, 44, 185, 0, 35, 1, 0]
abbrev dktX3_copy_0 : List UInt8 := dkwX3_copy_0 ++ dktX3_copy_1
theorem dksX3_copy_0 : cX3_copy.data.toList.drop 0 = dktX3_copy_0 := by decide +kernel
theorem dksX3_copy_1 : cX3_copy.data.toList.drop 24 = dktX3_copy_1 := dk_seg dksX3_copy_0 24 rfl rfl
theorem dksX3_copy_2 : cX3_copy.data.toList.drop 45 = dktX3_copy_2 := dk_seg dksX3_copy_1 21 rfl rfl
theorem dksX3_copy_3 : cX3_copy.data.toList.drop 65 = dktX3_copy_3 := dk_seg dksX3_copy_2 20 rfl rfl
theorem dksX3_copy_4 : cX3_copy.data.toList.drop 88 = dktX3_copy_4 := dk_seg dksX3_copy_3 23 rfl rfl
theorem dksX3_copy_5 : cX3_copy.data.toList.drop 108 = dktX3_copy_5 := dk_seg dksX3_copy_4 20 rfl rfl
theorem dksX3_copy_6 : cX3_copy.data.toList.drop 131 = dktX3_copy_6 := dk_seg dksX3_copy_5 23 rfl rfl
theorem dksX3_copy_7 : cX3_copy.data.toList.drop 154 = dktX3_copy_7 := dk_seg dksX3_copy_6 23 rfl rfl
theorem dksX3_copy_8 : cX3_copy.data.toList.drop 178 = dktX3_copy_8 := dk_seg dksX3_copy_7 24 rfl rfl
theorem dX3_copy_0 : decode cX3_copy 0 = .ok (.new 13, 3) := dk_187 0 13 (dk_at dksX3_copy_0 0 rfl rfl)
theorem dX3_copy_3 : decode cX3_copy 3 = .ok (.dup, 1) := dk_89 (dk_at dksX3_copy_0 3 rfl rfl)
theorem dX3_copy_4 : decode cX3_copy 4 = .ok (.invokespecial 28, 3) := dk_183 0 28 (dk_at dksX3_copy_0 4 rfl rfl)
theorem dX3_copy_7 : decode cX3_copy 7 = .ok (.astore_n 1, 1) := dk_76 (dk_at dksX3_copy_0 7 rfl rfl)
theorem dX3_copy_8 : decode cX3_copy 8 = .ok (.aload_n 0, 1) := dk_42 (dk_at dksX3_copy_0 8 rfl rfl)
theorem dX3_copy_9 : decode cX3_copy 9 = .ok (.getfield 12, 3) := dk_180 0 12 (dk_at dksX3_copy_0 9 rfl rfl)
theorem dX3_copy_12 : decode cX3_copy 12 = .ok (.invokeinterface 29 1, 5) := by decide +kernel
theorem dX3_copy_17 : decode cX3_copy 17 = .ok (.astore_n 2, 1) := dk_77 (dk_at dksX3_copy_0 17 rfl rfl)
theorem dX3_copy_18 : decode cX3_copy 18 = .ok (.aload_n 2, 1) := dk_44 (dk_at dksX3_copy_0 18 rfl rfl)
theorem dX3_copy_19 : decode cX3_copy 19 = .ok (.invokeinterface 35 1, 5) := by decide +kernel
theorem dX3_copy_24 : decode cX3_copy 24 = .ok (.ifCond .eq 30, 3) := dk_153 0 30 (dk_at dksX3_copy_1 0 rfl rfl)
theorem dX3_copy_27 : decode cX3_copy 27 = .ok (.aload_n 2, 1) := dk_44 (dk_at dksX3_copy_1 3 rfl rfl)
theorem dX3_copy_28 : decode cX3_copy 28 = .ok (.invokeinterface 41 1, 5) := by decide +kernel
theorem dX3_copy_33 : decode cX3_copy 33 = .ok (.checkcast 45, 3) := dk_192 0 45 (dk_at dksX3_copy_1 9 rfl rfl)
theorem dX3_copy_36 : decode cX3_copy 36 = .ok (.astore_n 3, 1) := dk_78 (dk_at dksX3_copy_1 12 rfl rfl)
theorem dX3_copy_37 : decode cX3_copy 37 = .ok (.aload_n 1, 1) := dk_43 (dk_at dksX3_copy_1 13 rfl rfl)
theorem dX3_copy_38 : decode cX3_copy 38 = .ok (.getfield 12, 3) := dk_180 0 12 (dk_at dksX3_copy_1 14 rfl rfl)
theorem dX3_copy_41 : decode cX3_copy 41 = .ok (.aload_n 3, 1) := dk_45 (dk_at dksX3_copy_1 17 rfl rfl)
theorem dX3_copy_42 : decode cX3_copy 42 = .ok (.invokevirtual 47, 3) := dk_182 0 47 (dk_at dksX3_copy_1 18 rfl rfl)
theorem dX3_copy_45 : decode cX3_copy 45 = .ok (.invokeinterface 51 2, 5) := by decide +kernel
theorem dX3_copy_50 : decode cX3_copy 50 = .ok (.pop, 1) := dk_87 (dk_at dksX3_copy_2 5 rfl rfl)
theorem dX3_copy_51 : decode cX3_copy 51 = .ok (.goto (-33), 3) := dk_167 255 223 (dk_at dksX3_copy_2 6 rfl rfl)
theorem dX3_copy_54 : decode cX3_copy 54 = .ok (.aload_n 0, 1) := dk_42 (dk_at dksX3_copy_2 9 rfl rfl)
theorem dX3_copy_55 : decode cX3_copy 55 = .ok (.getfield 18, 3) := dk_180 0 18 (dk_at dksX3_copy_2 10 rfl rfl)
theorem dX3_copy_58 : decode cX3_copy 58 = .ok (.invokeinterface 29 1, 5) := by decide +kernel
theorem dX3_copy_63 : decode cX3_copy 63 = .ok (.astore_n 2, 1) := dk_77 (dk_at dksX3_copy_2 18 rfl rfl)
theorem dX3_copy_64 : decode cX3_copy 64 = .ok (.aload_n 2, 1) := dk_44 (dk_at dksX3_copy_2 19 rfl rfl)
theorem dX3_copy_65 : decode cX3_copy 65 = .ok (.invokeinterface 35 1, 5) := by decide +kernel
theorem dX3_copy_70 : decode cX3_copy 70 = .ok (.ifCond .eq 27, 3) := dk_153 0 27 (dk_at dksX3_copy_3 5 rfl rfl)
theorem dX3_copy_73 : decode cX3_copy 73 = .ok (.aload_n 2, 1) := dk_44 (dk_at dksX3_copy_3 8 rfl rfl)
theorem dX3_copy_74 : decode cX3_copy 74 = .ok (.invokeinterface 41 1, 5) := by decide +kernel
theorem dX3_copy_79 : decode cX3_copy 79 = .ok (.checkcast 55, 3) := dk_192 0 55 (dk_at dksX3_copy_3 14 rfl rfl)
theorem dX3_copy_82 : decode cX3_copy 82 = .ok (.astore_n 3, 1) := dk_78 (dk_at dksX3_copy_3 17 rfl rfl)
theorem dX3_copy_83 : decode cX3_copy 83 = .ok (.aload_n 1, 1) := dk_43 (dk_at dksX3_copy_3 18 rfl rfl)
theorem dX3_copy_84 : decode cX3_copy 84 = .ok (.getfield 18, 3) := dk_180 0 18 (dk_at dksX3_copy_3 19 rfl rfl)
theorem dX3_copy_87 : decode cX3_copy 87 = .ok (.aload_n 3, 1) := dk_45 (dk_at dksX3_copy_3 22 rfl rfl)
theorem dX3_copy_88 : decode cX3_copy 88 = .ok (.invokeinterface 51 2, 5) := by decide +kernel
theorem dX3_copy_93 : decode cX3_copy 93 = .ok (.pop, 1) := dk_87 (dk_at dksX3_copy_4 5 rfl rfl)
theorem dX3_copy_94 : decode cX3_copy 94 = .ok (.goto (-30), 3) := dk_167 255 226 (dk_at dksX3_copy_4 6 rfl rfl)
theorem dX3_copy_97 : decode cX3_copy 97 = .ok (.aload_n 0, 1) := dk_42 (dk_at dksX3_copy_4 9 rfl rfl)
theorem dX3_copy_98 : decode cX3_copy 98 = .ok (.getfield 21, 3) := dk_180 0 21 (dk_at dksX3_copy_4 10 rfl rfl)
theorem dX3_copy_101 : decode cX3_copy 101 = .ok (.invokeinterface 29 1, 5) := by decide +kernel
theorem dX3_copy_106 : decode cX3_copy 106 = .ok (.astore_n 2, 1) := dk_77 (dk_at dksX3_copy_4 18 rfl rfl)
theorem dX3_copy_107 : decode cX3_copy 107 = .ok (.aload_n 2, 1) := dk_44 (dk_at dksX3_copy_4 19 rfl rfl)
theorem dX3_copy_108 : decode cX3_copy 108 = .ok (.invokeinterface 35 1, 5) := by decide +kernel
theorem dX3_copy_113 : decode cX3_copy 113 = .ok (.ifCond .eq 30, 3) := dk_153 0 30 (dk_at dksX3_copy_5 5 rfl rfl)
theorem dX3_copy_116 : decode cX3_copy 116 = .ok (.aload_n 2, 1) := dk_44 (dk_at dksX3_copy_5 8 rfl rfl)
theorem dX3_copy_117 : decode cX3_copy 117 = .ok (.invokeinterface 41 1, 5) := by decide +kernel
theorem dX3_copy_122 : decode cX3_copy 122 = .ok (.checkcast 57, 3) := dk_192 0 57 (dk_at dksX3_copy_5 14 rfl rfl)
theorem dX3_copy_125 : decode cX3_copy 125 = .ok (.astore_n 3, 1) := dk_78 (dk_at dksX3_copy_5 17 rfl rfl)
theorem dX3_copy_126 : decode cX3_copy 126 = .ok (.aload_n 1, 1) := dk_43 (dk_at dksX3_copy_5 18 rfl rfl)
theorem dX3_copy_127 : decode cX3_copy 127 = .ok (.getfield 21, 3) := dk_180 0 21 (dk_at dksX3_copy_5 19 rfl rfl)
theorem dX3_copy_130 : decode cX3_copy 130 = .ok (.aload_n 3, 1) := dk_45 (dk_at dksX3_copy_5 22 rfl rfl)
theorem dX3_copy_131 : decode cX3_copy 131 = .ok (.invokevirtual 59, 3) := dk_182 0 59 (dk_at dksX3_copy_6 0 rfl rfl)
theorem dX3_copy_134 : decode cX3_copy 134 = .ok (.invokeinterface 51 2, 5) := by decide +kernel
theorem dX3_copy_139 : decode cX3_copy 139 = .ok (.pop, 1) := dk_87 (dk_at dksX3_copy_6 8 rfl rfl)
theorem dX3_copy_140 : decode cX3_copy 140 = .ok (.goto (-33), 3) := dk_167 255 223 (dk_at dksX3_copy_6 9 rfl rfl)
theorem dX3_copy_143 : decode cX3_copy 143 = .ok (.aload_n 0, 1) := dk_42 (dk_at dksX3_copy_6 12 rfl rfl)
theorem dX3_copy_144 : decode cX3_copy 144 = .ok (.getfield 24, 3) := dk_180 0 24 (dk_at dksX3_copy_6 13 rfl rfl)
theorem dX3_copy_147 : decode cX3_copy 147 = .ok (.iconst 0, 1) := dk_3 (dk_at dksX3_copy_6 16 rfl rfl)
theorem dX3_copy_148 : decode cX3_copy 148 = .ok (.aload_n 1, 1) := dk_43 (dk_at dksX3_copy_6 17 rfl rfl)
theorem dX3_copy_149 : decode cX3_copy 149 = .ok (.getfield 24, 3) := dk_180 0 24 (dk_at dksX3_copy_6 18 rfl rfl)
theorem dX3_copy_152 : decode cX3_copy 152 = .ok (.iconst 0, 1) := dk_3 (dk_at dksX3_copy_6 21 rfl rfl)
theorem dX3_copy_153 : decode cX3_copy 153 = .ok (.aload_n 0, 1) := dk_42 (dk_at dksX3_copy_6 22 rfl rfl)
theorem dX3_copy_154 : decode cX3_copy 154 = .ok (.getfield 24, 3) := dk_180 0 24 (dk_at dksX3_copy_7 0 rfl rfl)
theorem dX3_copy_157 : decode cX3_copy 157 = .ok (.arraylength, 1) := dk_190 (dk_at dksX3_copy_7 3 rfl rfl)
theorem dX3_copy_158 : decode cX3_copy 158 = .ok (.invokestatic 62, 3) := dk_184 0 62 (dk_at dksX3_copy_7 4 rfl rfl)
theorem dX3_copy_161 : decode cX3_copy 161 = .ok (.aload_n 1, 1) := dk_43 (dk_at dksX3_copy_7 7 rfl rfl)
theorem dX3_copy_162 : decode cX3_copy 162 = .ok (.aload_n 0, 1) := dk_42 (dk_at dksX3_copy_7 8 rfl rfl)
theorem dX3_copy_163 : decode cX3_copy 163 = .ok (.getfield 68, 3) := dk_180 0 68 (dk_at dksX3_copy_7 9 rfl rfl)
theorem dX3_copy_166 : decode cX3_copy 166 = .ok (.putfield 68, 3) := dk_181 0 68 (dk_at dksX3_copy_7 12 rfl rfl)
theorem dX3_copy_169 : decode cX3_copy 169 = .ok (.aload_n 1, 1) := dk_43 (dk_at dksX3_copy_7 15 rfl rfl)
theorem dX3_copy_170 : decode cX3_copy 170 = .ok (.aload_n 0, 1) := dk_42 (dk_at dksX3_copy_7 16 rfl rfl)
theorem dX3_copy_171 : decode cX3_copy 171 = .ok (.getfield 72, 3) := dk_180 0 72 (dk_at dksX3_copy_7 17 rfl rfl)
theorem dX3_copy_174 : decode cX3_copy 174 = .ok (.putfield 72, 3) := dk_181 0 72 (dk_at dksX3_copy_7 20 rfl rfl)
theorem dX3_copy_177 : decode cX3_copy 177 = .ok (.aload_n 1, 1) := dk_43 (dk_at dksX3_copy_7 23 rfl rfl)
theorem dX3_copy_178 : decode cX3_copy 178 = .ok (.aload_n 0, 1) := dk_42 (dk_at dksX3_copy_8 0 rfl rfl)
theorem dX3_copy_179 : decode cX3_copy 179 = .ok (.getfield 76, 3) := dk_180 0 76 (dk_at dksX3_copy_8 1 rfl rfl)
theorem dX3_copy_182 : decode cX3_copy 182 = .ok (.putfield 76, 3) := dk_181 0 76 (dk_at dksX3_copy_8 4 rfl rfl)
theorem dX3_copy_185 : decode cX3_copy 185 = .ok (.aload_n 1, 1) := dk_43 (dk_at dksX3_copy_8 7 rfl rfl)
theorem dX3_copy_186 : decode cX3_copy 186 = .ok (.aload_n 0, 1) := dk_42 (dk_at dksX3_copy_8 8 rfl rfl)
theorem dX3_copy_187 : decode cX3_copy 187 = .ok (.getfield 79, 3) := dk_180 0 79 (dk_at dksX3_copy_8 9 rfl rfl)
theorem dX3_copy_190 : decode cX3_copy 190 = .ok (.putfield 79, 3) := dk_181 0 79 (dk_at dksX3_copy_8 12 rfl rfl)
theorem dX3_copy_193 : decode cX3_copy 193 = .ok (.aload_n 1, 1) := dk_43 (dk_at dksX3_copy_8 15 rfl rfl)
theorem dX3_copy_194 : decode cX3_copy 194 = .ok (.areturn, 1) := dk_176 (dk_at dksX3_copy_8 16 rfl rfl)
abbrev cX3_choirCount : ByteArray := prog_7_method_33_code
def yX3_choirCount : MethodName := ⟨RX3, "choirCount", "()I"⟩
def dkwX3_choirCount_1 : List UInt8 := [184, 0, 216, 28, 160, 0, 7, 4, 167, 0, 4, 3, 96, 60, 132, 2, 1, 167, 255, 220, 27, 172]
abbrev dktX3_choirCount_1 : List UInt8 := dkwX3_choirCount_1 ++ []
def dkwX3_choirCount_0 : List UInt8 := [3, 60, 3, 61, 28, 42, 180, 0, 21, 185, 0, 82, 1, 0, 162, 0, 29, 27, 42, 28, 182, 0, 213]
abbrev dktX3_choirCount_0 : List UInt8 := dkwX3_choirCount_0 ++ dktX3_choirCount_1
theorem dksX3_choirCount_0 : cX3_choirCount.data.toList.drop 0 = dktX3_choirCount_0 := by decide +kernel
theorem dksX3_choirCount_1 : cX3_choirCount.data.toList.drop 23 = dktX3_choirCount_1 := dk_seg dksX3_choirCount_0 23 rfl rfl
theorem dX3_choirCount_0 : decode cX3_choirCount 0 = .ok (.iconst 0, 1) := dk_3 (dk_at dksX3_choirCount_0 0 rfl rfl)
theorem dX3_choirCount_1 : decode cX3_choirCount 1 = .ok (.istore_n 1, 1) := dk_60 (dk_at dksX3_choirCount_0 1 rfl rfl)
theorem dX3_choirCount_2 : decode cX3_choirCount 2 = .ok (.iconst 0, 1) := dk_3 (dk_at dksX3_choirCount_0 2 rfl rfl)
theorem dX3_choirCount_3 : decode cX3_choirCount 3 = .ok (.istore_n 2, 1) := dk_61 (dk_at dksX3_choirCount_0 3 rfl rfl)
theorem dX3_choirCount_4 : decode cX3_choirCount 4 = .ok (.iload_n 2, 1) := dk_28 (dk_at dksX3_choirCount_0 4 rfl rfl)
theorem dX3_choirCount_5 : decode cX3_choirCount 5 = .ok (.aload_n 0, 1) := dk_42 (dk_at dksX3_choirCount_0 5 rfl rfl)
theorem dX3_choirCount_6 : decode cX3_choirCount 6 = .ok (.getfield 21, 3) := dk_180 0 21 (dk_at dksX3_choirCount_0 6 rfl rfl)
theorem dX3_choirCount_9 : decode cX3_choirCount 9 = .ok (.invokeinterface 82 1, 5) := by decide +kernel
theorem dX3_choirCount_14 : decode cX3_choirCount 14 = .ok (.if_icmp .ge 29, 3) := dk_162 0 29 (dk_at dksX3_choirCount_0 14 rfl rfl)
theorem dX3_choirCount_17 : decode cX3_choirCount 17 = .ok (.iload_n 1, 1) := dk_27 (dk_at dksX3_choirCount_0 17 rfl rfl)
theorem dX3_choirCount_18 : decode cX3_choirCount 18 = .ok (.aload_n 0, 1) := dk_42 (dk_at dksX3_choirCount_0 18 rfl rfl)
theorem dX3_choirCount_19 : decode cX3_choirCount 19 = .ok (.iload_n 2, 1) := dk_28 (dk_at dksX3_choirCount_0 19 rfl rfl)
theorem dX3_choirCount_20 : decode cX3_choirCount 20 = .ok (.invokevirtual 213, 3) := dk_182 0 213 (dk_at dksX3_choirCount_0 20 rfl rfl)
theorem dX3_choirCount_23 : decode cX3_choirCount 23 = .ok (.invokestatic 216, 3) := dk_184 0 216 (dk_at dksX3_choirCount_1 0 rfl rfl)
theorem dX3_choirCount_26 : decode cX3_choirCount 26 = .ok (.iload_n 2, 1) := dk_28 (dk_at dksX3_choirCount_1 3 rfl rfl)
theorem dX3_choirCount_27 : decode cX3_choirCount 27 = .ok (.if_icmp .ne 7, 3) := dk_160 0 7 (dk_at dksX3_choirCount_1 4 rfl rfl)
theorem dX3_choirCount_30 : decode cX3_choirCount 30 = .ok (.iconst 1, 1) := dk_4 (dk_at dksX3_choirCount_1 7 rfl rfl)
theorem dX3_choirCount_31 : decode cX3_choirCount 31 = .ok (.goto 4, 3) := dk_167 0 4 (dk_at dksX3_choirCount_1 8 rfl rfl)
theorem dX3_choirCount_34 : decode cX3_choirCount 34 = .ok (.iconst 0, 1) := dk_3 (dk_at dksX3_choirCount_1 11 rfl rfl)
theorem dX3_choirCount_35 : decode cX3_choirCount 35 = .ok (.iadd, 1) := dk_96 (dk_at dksX3_choirCount_1 12 rfl rfl)
theorem dX3_choirCount_36 : decode cX3_choirCount 36 = .ok (.istore_n 1, 1) := dk_60 (dk_at dksX3_choirCount_1 13 rfl rfl)
theorem dX3_choirCount_37 : decode cX3_choirCount 37 = .ok (.iinc 2 1, 3) := dk_132 2 1 (dk_at dksX3_choirCount_1 14 rfl rfl)
theorem dX3_choirCount_40 : decode cX3_choirCount 40 = .ok (.goto (-36), 3) := dk_167 255 220 (dk_at dksX3_choirCount_1 17 rfl rfl)
theorem dX3_choirCount_43 : decode cX3_choirCount 43 = .ok (.iload_n 1, 1) := dk_27 (dk_at dksX3_choirCount_1 20 rfl rfl)
theorem dX3_choirCount_44 : decode cX3_choirCount 44 = .ok (.ireturn, 1) := dk_172 (dk_at dksX3_choirCount_1 21 rfl rfl)
abbrev cX3_totalFish : ByteArray := prog_7_method_38_code
def yX3_totalFish : MethodName := ⟨RX3, "totalFish", "()I"⟩
def dkwX3_totalFish_1 : List UInt8 := [185, 0, 41, 1, 0, 192, 0, 57, 78, 27, 45, 180, 0, 133, 96, 60, 167, 255, 230, 27, 172]
abbrev dktX3_totalFish_1 : List UInt8 := dkwX3_totalFish_1 ++ []
def dkwX3_totalFish_0 : List UInt8 := [3, 60, 42, 180, 0, 21, 185, 0, 29, 1, 0, 77, 44, 185, 0, 35, 1, 0, 153, 0, 23, 44]
abbrev dktX3_totalFish_0 : List UInt8 := dkwX3_totalFish_0 ++ dktX3_totalFish_1
theorem dksX3_totalFish_0 : cX3_totalFish.data.toList.drop 0 = dktX3_totalFish_0 := by decide +kernel
theorem dksX3_totalFish_1 : cX3_totalFish.data.toList.drop 22 = dktX3_totalFish_1 := dk_seg dksX3_totalFish_0 22 rfl rfl
theorem dX3_totalFish_0 : decode cX3_totalFish 0 = .ok (.iconst 0, 1) := dk_3 (dk_at dksX3_totalFish_0 0 rfl rfl)
theorem dX3_totalFish_1 : decode cX3_totalFish 1 = .ok (.istore_n 1, 1) := dk_60 (dk_at dksX3_totalFish_0 1 rfl rfl)
theorem dX3_totalFish_2 : decode cX3_totalFish 2 = .ok (.aload_n 0, 1) := dk_42 (dk_at dksX3_totalFish_0 2 rfl rfl)
theorem dX3_totalFish_3 : decode cX3_totalFish 3 = .ok (.getfield 21, 3) := dk_180 0 21 (dk_at dksX3_totalFish_0 3 rfl rfl)
theorem dX3_totalFish_6 : decode cX3_totalFish 6 = .ok (.invokeinterface 29 1, 5) := by decide +kernel
theorem dX3_totalFish_11 : decode cX3_totalFish 11 = .ok (.astore_n 2, 1) := dk_77 (dk_at dksX3_totalFish_0 11 rfl rfl)
theorem dX3_totalFish_12 : decode cX3_totalFish 12 = .ok (.aload_n 2, 1) := dk_44 (dk_at dksX3_totalFish_0 12 rfl rfl)
theorem dX3_totalFish_13 : decode cX3_totalFish 13 = .ok (.invokeinterface 35 1, 5) := by decide +kernel
theorem dX3_totalFish_18 : decode cX3_totalFish 18 = .ok (.ifCond .eq 23, 3) := dk_153 0 23 (dk_at dksX3_totalFish_0 18 rfl rfl)
theorem dX3_totalFish_21 : decode cX3_totalFish 21 = .ok (.aload_n 2, 1) := dk_44 (dk_at dksX3_totalFish_0 21 rfl rfl)
theorem dX3_totalFish_22 : decode cX3_totalFish 22 = .ok (.invokeinterface 41 1, 5) := by decide +kernel
theorem dX3_totalFish_27 : decode cX3_totalFish 27 = .ok (.checkcast 57, 3) := dk_192 0 57 (dk_at dksX3_totalFish_1 5 rfl rfl)
theorem dX3_totalFish_30 : decode cX3_totalFish 30 = .ok (.astore_n 3, 1) := dk_78 (dk_at dksX3_totalFish_1 8 rfl rfl)
theorem dX3_totalFish_31 : decode cX3_totalFish 31 = .ok (.iload_n 1, 1) := dk_27 (dk_at dksX3_totalFish_1 9 rfl rfl)
theorem dX3_totalFish_32 : decode cX3_totalFish 32 = .ok (.aload_n 3, 1) := dk_45 (dk_at dksX3_totalFish_1 10 rfl rfl)
theorem dX3_totalFish_33 : decode cX3_totalFish 33 = .ok (.getfield 133, 3) := dk_180 0 133 (dk_at dksX3_totalFish_1 11 rfl rfl)
theorem dX3_totalFish_36 : decode cX3_totalFish 36 = .ok (.iadd, 1) := dk_96 (dk_at dksX3_totalFish_1 14 rfl rfl)
theorem dX3_totalFish_37 : decode cX3_totalFish 37 = .ok (.istore_n 1, 1) := dk_60 (dk_at dksX3_totalFish_1 15 rfl rfl)
theorem dX3_totalFish_38 : decode cX3_totalFish 38 = .ok (.goto (-26), 3) := dk_167 255 230 (dk_at dksX3_totalFish_1 16 rfl rfl)
theorem dX3_totalFish_41 : decode cX3_totalFish 41 = .ok (.iload_n 1, 1) := dk_27 (dk_at dksX3_totalFish_1 19 rfl rfl)
theorem dX3_totalFish_42 : decode cX3_totalFish 42 = .ok (.ireturn, 1) := dk_172 (dk_at dksX3_totalFish_1 20 rfl rfl)
abbrev cX3_widestWay : ByteArray := prog_7_method_21_code
def yX3_widestWay : MethodName := ⟨RX3, "widestWay", "(II)I"⟩
def dkwX3_widestWay_1 : List UInt8 := [132, 3, 255, 167, 255, 233, 2, 172]
abbrev dktX3_widestWay_1 : List UInt8 := dkwX3_widestWay_1 ++ []
def dkwX3_widestWay_0 : List UInt8 := [16, 9, 62, 29, 158, 0, 25, 42, 27, 29, 182, 0, 161, 28, 122, 4, 126, 4, 160, 0, 5, 29, 172]
abbrev dktX3_widestWay_0 : List UInt8 := dkwX3_widestWay_0 ++ dktX3_widestWay_1
theorem dksX3_widestWay_0 : cX3_widestWay.data.toList.drop 0 = dktX3_widestWay_0 := by decide +kernel
theorem dksX3_widestWay_1 : cX3_widestWay.data.toList.drop 23 = dktX3_widestWay_1 := dk_seg dksX3_widestWay_0 23 rfl rfl
theorem dX3_widestWay_0 : decode cX3_widestWay 0 = .ok (.bipush 9, 2) := dk_16 9 (dk_at dksX3_widestWay_0 0 rfl rfl)
theorem dX3_widestWay_2 : decode cX3_widestWay 2 = .ok (.istore_n 3, 1) := dk_62 (dk_at dksX3_widestWay_0 2 rfl rfl)
theorem dX3_widestWay_3 : decode cX3_widestWay 3 = .ok (.iload_n 3, 1) := dk_29 (dk_at dksX3_widestWay_0 3 rfl rfl)
theorem dX3_widestWay_4 : decode cX3_widestWay 4 = .ok (.ifCond .le 25, 3) := dk_158 0 25 (dk_at dksX3_widestWay_0 4 rfl rfl)
theorem dX3_widestWay_7 : decode cX3_widestWay 7 = .ok (.aload_n 0, 1) := dk_42 (dk_at dksX3_widestWay_0 7 rfl rfl)
theorem dX3_widestWay_8 : decode cX3_widestWay 8 = .ok (.iload_n 1, 1) := dk_27 (dk_at dksX3_widestWay_0 8 rfl rfl)
theorem dX3_widestWay_9 : decode cX3_widestWay 9 = .ok (.iload_n 3, 1) := dk_29 (dk_at dksX3_widestWay_0 9 rfl rfl)
theorem dX3_widestWay_10 : decode cX3_widestWay 10 = .ok (.invokevirtual 161, 3) := dk_182 0 161 (dk_at dksX3_widestWay_0 10 rfl rfl)
theorem dX3_widestWay_13 : decode cX3_widestWay 13 = .ok (.iload_n 2, 1) := dk_28 (dk_at dksX3_widestWay_0 13 rfl rfl)
theorem dX3_widestWay_14 : decode cX3_widestWay 14 = .ok (.ishr, 1) := dk_122 (dk_at dksX3_widestWay_0 14 rfl rfl)
theorem dX3_widestWay_15 : decode cX3_widestWay 15 = .ok (.iconst 1, 1) := dk_4 (dk_at dksX3_widestWay_0 15 rfl rfl)
theorem dX3_widestWay_16 : decode cX3_widestWay 16 = .ok (.iand, 1) := dk_126 (dk_at dksX3_widestWay_0 16 rfl rfl)
theorem dX3_widestWay_17 : decode cX3_widestWay 17 = .ok (.iconst 1, 1) := dk_4 (dk_at dksX3_widestWay_0 17 rfl rfl)
theorem dX3_widestWay_18 : decode cX3_widestWay 18 = .ok (.if_icmp .ne 5, 3) := dk_160 0 5 (dk_at dksX3_widestWay_0 18 rfl rfl)
theorem dX3_widestWay_21 : decode cX3_widestWay 21 = .ok (.iload_n 3, 1) := dk_29 (dk_at dksX3_widestWay_0 21 rfl rfl)
theorem dX3_widestWay_22 : decode cX3_widestWay 22 = .ok (.ireturn, 1) := dk_172 (dk_at dksX3_widestWay_0 22 rfl rfl)
theorem dX3_widestWay_23 : decode cX3_widestWay 23 = .ok (.iinc 3 (-1), 3) := dk_132 3 255 (dk_at dksX3_widestWay_1 0 rfl rfl)
theorem dX3_widestWay_26 : decode cX3_widestWay 26 = .ok (.goto (-23), 3) := dk_167 255 233 (dk_at dksX3_widestWay_1 3 rfl rfl)
theorem dX3_widestWay_29 : decode cX3_widestWay 29 = .ok (.iconst (-1), 1) := dk_2 (dk_at dksX3_widestWay_1 6 rfl rfl)
theorem dX3_widestWay_30 : decode cX3_widestWay 30 = .ok (.ireturn, 1) := dk_172 (dk_at dksX3_widestWay_1 7 rfl rfl)
abbrev cX3_connected : ByteArray := prog_7_method_20_code
def yX3_connected : MethodName := ⟨RX3, "connected", "(II)I"⟩
def dkwX3_connected_4 : List UInt8 := [167, 255, 183, 167, 255, 168, 29, 172]
abbrev dktX3_connected_4 : List UInt8 := dkwX3_connected_4 ++ []
def dkwX3_connected_3 : List UInt8 := [182, 0, 139, 28, 161, 0, 17, 29, 21, 7, 126, 153, 0, 10, 21, 4, 21, 7, 128, 54, 4, 132, 5, 1]
abbrev dktX3_connected_3 : List UInt8 := dkwX3_connected_3 ++ dktX3_connected_4
def dkwX3_connected_2 : List UInt8 := [192, 0, 55, 58, 6, 4, 25, 6, 182, 0, 155, 120, 4, 25, 6, 182, 0, 158, 120, 128, 54, 7, 25, 6]
abbrev dktX3_connected_2 : List UInt8 := dkwX3_connected_2 ++ dktX3_connected_3
def dkwX3_connected_1 : List UInt8 := [180, 0, 18, 185, 0, 82, 1, 0, 162, 0, 65, 42, 180, 0, 18, 21, 5, 185, 0, 86, 2, 0]
abbrev dktX3_connected_1 : List UInt8 := dkwX3_connected_1 ++ dktX3_connected_2
def dkwX3_connected_0 : List UInt8 := [3, 62, 4, 27, 120, 54, 4, 21, 4, 29, 159, 0, 88, 21, 4, 62, 3, 54, 5, 21, 5, 42]
abbrev dktX3_connected_0 : List UInt8 := dkwX3_connected_0 ++ dktX3_connected_1
theorem dksX3_connected_0 : cX3_connected.data.toList.drop 0 = dktX3_connected_0 := by decide +kernel
theorem dksX3_connected_1 : cX3_connected.data.toList.drop 22 = dktX3_connected_1 := dk_seg dksX3_connected_0 22 rfl rfl
theorem dksX3_connected_2 : cX3_connected.data.toList.drop 44 = dktX3_connected_2 := dk_seg dksX3_connected_1 22 rfl rfl
theorem dksX3_connected_3 : cX3_connected.data.toList.drop 68 = dktX3_connected_3 := dk_seg dksX3_connected_2 24 rfl rfl
theorem dksX3_connected_4 : cX3_connected.data.toList.drop 92 = dktX3_connected_4 := dk_seg dksX3_connected_3 24 rfl rfl
theorem dX3_connected_0 : decode cX3_connected 0 = .ok (.iconst 0, 1) := dk_3 (dk_at dksX3_connected_0 0 rfl rfl)
theorem dX3_connected_1 : decode cX3_connected 1 = .ok (.istore_n 3, 1) := dk_62 (dk_at dksX3_connected_0 1 rfl rfl)
theorem dX3_connected_2 : decode cX3_connected 2 = .ok (.iconst 1, 1) := dk_4 (dk_at dksX3_connected_0 2 rfl rfl)
theorem dX3_connected_3 : decode cX3_connected 3 = .ok (.iload_n 1, 1) := dk_27 (dk_at dksX3_connected_0 3 rfl rfl)
theorem dX3_connected_4 : decode cX3_connected 4 = .ok (.ishl, 1) := dk_120 (dk_at dksX3_connected_0 4 rfl rfl)
theorem dX3_connected_5 : decode cX3_connected 5 = .ok (.istore 4, 2) := dk_54 4 (dk_at dksX3_connected_0 5 rfl rfl)
theorem dX3_connected_7 : decode cX3_connected 7 = .ok (.iload 4, 2) := dk_21 4 (dk_at dksX3_connected_0 7 rfl rfl)
theorem dX3_connected_9 : decode cX3_connected 9 = .ok (.iload_n 3, 1) := dk_29 (dk_at dksX3_connected_0 9 rfl rfl)
theorem dX3_connected_10 : decode cX3_connected 10 = .ok (.if_icmp .eq 88, 3) := dk_159 0 88 (dk_at dksX3_connected_0 10 rfl rfl)
theorem dX3_connected_13 : decode cX3_connected 13 = .ok (.iload 4, 2) := dk_21 4 (dk_at dksX3_connected_0 13 rfl rfl)
theorem dX3_connected_15 : decode cX3_connected 15 = .ok (.istore_n 3, 1) := dk_62 (dk_at dksX3_connected_0 15 rfl rfl)
theorem dX3_connected_16 : decode cX3_connected 16 = .ok (.iconst 0, 1) := dk_3 (dk_at dksX3_connected_0 16 rfl rfl)
theorem dX3_connected_17 : decode cX3_connected 17 = .ok (.istore 5, 2) := dk_54 5 (dk_at dksX3_connected_0 17 rfl rfl)
theorem dX3_connected_19 : decode cX3_connected 19 = .ok (.iload 5, 2) := dk_21 5 (dk_at dksX3_connected_0 19 rfl rfl)
theorem dX3_connected_21 : decode cX3_connected 21 = .ok (.aload_n 0, 1) := dk_42 (dk_at dksX3_connected_0 21 rfl rfl)
theorem dX3_connected_22 : decode cX3_connected 22 = .ok (.getfield 18, 3) := dk_180 0 18 (dk_at dksX3_connected_1 0 rfl rfl)
theorem dX3_connected_25 : decode cX3_connected 25 = .ok (.invokeinterface 82 1, 5) := by decide +kernel
theorem dX3_connected_30 : decode cX3_connected 30 = .ok (.if_icmp .ge 65, 3) := dk_162 0 65 (dk_at dksX3_connected_1 8 rfl rfl)
theorem dX3_connected_33 : decode cX3_connected 33 = .ok (.aload_n 0, 1) := dk_42 (dk_at dksX3_connected_1 11 rfl rfl)
theorem dX3_connected_34 : decode cX3_connected 34 = .ok (.getfield 18, 3) := dk_180 0 18 (dk_at dksX3_connected_1 12 rfl rfl)
theorem dX3_connected_37 : decode cX3_connected 37 = .ok (.iload 5, 2) := dk_21 5 (dk_at dksX3_connected_1 15 rfl rfl)
theorem dX3_connected_39 : decode cX3_connected 39 = .ok (.invokeinterface 86 2, 5) := by decide +kernel
theorem dX3_connected_44 : decode cX3_connected 44 = .ok (.checkcast 55, 3) := dk_192 0 55 (dk_at dksX3_connected_2 0 rfl rfl)
theorem dX3_connected_47 : decode cX3_connected 47 = .ok (.astore 6, 2) := dk_58 6 (dk_at dksX3_connected_2 3 rfl rfl)
theorem dX3_connected_49 : decode cX3_connected 49 = .ok (.iconst 1, 1) := dk_4 (dk_at dksX3_connected_2 5 rfl rfl)
theorem dX3_connected_50 : decode cX3_connected 50 = .ok (.aload 6, 2) := dk_25 6 (dk_at dksX3_connected_2 6 rfl rfl)
theorem dX3_connected_52 : decode cX3_connected 52 = .ok (.invokevirtual 155, 3) := dk_182 0 155 (dk_at dksX3_connected_2 8 rfl rfl)
theorem dX3_connected_55 : decode cX3_connected 55 = .ok (.ishl, 1) := dk_120 (dk_at dksX3_connected_2 11 rfl rfl)
theorem dX3_connected_56 : decode cX3_connected 56 = .ok (.iconst 1, 1) := dk_4 (dk_at dksX3_connected_2 12 rfl rfl)
theorem dX3_connected_57 : decode cX3_connected 57 = .ok (.aload 6, 2) := dk_25 6 (dk_at dksX3_connected_2 13 rfl rfl)
theorem dX3_connected_59 : decode cX3_connected 59 = .ok (.invokevirtual 158, 3) := dk_182 0 158 (dk_at dksX3_connected_2 15 rfl rfl)
theorem dX3_connected_62 : decode cX3_connected 62 = .ok (.ishl, 1) := dk_120 (dk_at dksX3_connected_2 18 rfl rfl)
theorem dX3_connected_63 : decode cX3_connected 63 = .ok (.ior, 1) := dk_128 (dk_at dksX3_connected_2 19 rfl rfl)
theorem dX3_connected_64 : decode cX3_connected 64 = .ok (.istore 7, 2) := dk_54 7 (dk_at dksX3_connected_2 20 rfl rfl)
theorem dX3_connected_66 : decode cX3_connected 66 = .ok (.aload 6, 2) := dk_25 6 (dk_at dksX3_connected_2 22 rfl rfl)
theorem dX3_connected_68 : decode cX3_connected 68 = .ok (.invokevirtual 139, 3) := dk_182 0 139 (dk_at dksX3_connected_3 0 rfl rfl)
theorem dX3_connected_71 : decode cX3_connected 71 = .ok (.iload_n 2, 1) := dk_28 (dk_at dksX3_connected_3 3 rfl rfl)
theorem dX3_connected_72 : decode cX3_connected 72 = .ok (.if_icmp .lt 17, 3) := dk_161 0 17 (dk_at dksX3_connected_3 4 rfl rfl)
theorem dX3_connected_75 : decode cX3_connected 75 = .ok (.iload_n 3, 1) := dk_29 (dk_at dksX3_connected_3 7 rfl rfl)
theorem dX3_connected_76 : decode cX3_connected 76 = .ok (.iload 7, 2) := dk_21 7 (dk_at dksX3_connected_3 8 rfl rfl)
theorem dX3_connected_78 : decode cX3_connected 78 = .ok (.iand, 1) := dk_126 (dk_at dksX3_connected_3 10 rfl rfl)
theorem dX3_connected_79 : decode cX3_connected 79 = .ok (.ifCond .eq 10, 3) := dk_153 0 10 (dk_at dksX3_connected_3 11 rfl rfl)
theorem dX3_connected_82 : decode cX3_connected 82 = .ok (.iload 4, 2) := dk_21 4 (dk_at dksX3_connected_3 14 rfl rfl)
theorem dX3_connected_84 : decode cX3_connected 84 = .ok (.iload 7, 2) := dk_21 7 (dk_at dksX3_connected_3 16 rfl rfl)
theorem dX3_connected_86 : decode cX3_connected 86 = .ok (.ior, 1) := dk_128 (dk_at dksX3_connected_3 18 rfl rfl)
theorem dX3_connected_87 : decode cX3_connected 87 = .ok (.istore 4, 2) := dk_54 4 (dk_at dksX3_connected_3 19 rfl rfl)
theorem dX3_connected_89 : decode cX3_connected 89 = .ok (.iinc 5 1, 3) := dk_132 5 1 (dk_at dksX3_connected_3 21 rfl rfl)
theorem dX3_connected_92 : decode cX3_connected 92 = .ok (.goto (-73), 3) := dk_167 255 183 (dk_at dksX3_connected_4 0 rfl rfl)
theorem dX3_connected_95 : decode cX3_connected 95 = .ok (.goto (-88), 3) := dk_167 255 168 (dk_at dksX3_connected_4 3 rfl rfl)
theorem dX3_connected_98 : decode cX3_connected 98 = .ok (.iload_n 3, 1) := dk_29 (dk_at dksX3_connected_4 6 rfl rfl)
theorem dX3_connected_99 : decode cX3_connected 99 = .ok (.ireturn, 1) := dk_172 (dk_at dksX3_connected_4 7 rfl rfl)
abbrev cX3_reachable : ByteArray := prog_7_method_18_code
def yX3_reachable : MethodName := ⟨RX3, "reachable", "(I)I"⟩
def dkwX3_reachable_1 : List UInt8 := [159, 0, 15, 29, 61, 42, 27, 28, 182, 0, 152, 62, 167, 255, 242, 28, 172]
abbrev dktX3_reachable_1 : List UInt8 := dkwX3_reachable_1 ++ []
def dkwX3_reachable_0 : List UInt8 := [3, 61, 4, 42, 180, 0, 21, 27, 185, 0, 86, 2, 0, 192, 0, 57, 180, 0, 90, 120, 62, 29, 28]
abbrev dktX3_reachable_0 : List UInt8 := dkwX3_reachable_0 ++ dktX3_reachable_1
theorem dksX3_reachable_0 : cX3_reachable.data.toList.drop 0 = dktX3_reachable_0 := by decide +kernel
theorem dksX3_reachable_1 : cX3_reachable.data.toList.drop 23 = dktX3_reachable_1 := dk_seg dksX3_reachable_0 23 rfl rfl
theorem dX3_reachable_0 : decode cX3_reachable 0 = .ok (.iconst 0, 1) := dk_3 (dk_at dksX3_reachable_0 0 rfl rfl)
theorem dX3_reachable_1 : decode cX3_reachable 1 = .ok (.istore_n 2, 1) := dk_61 (dk_at dksX3_reachable_0 1 rfl rfl)
theorem dX3_reachable_2 : decode cX3_reachable 2 = .ok (.iconst 1, 1) := dk_4 (dk_at dksX3_reachable_0 2 rfl rfl)
theorem dX3_reachable_3 : decode cX3_reachable 3 = .ok (.aload_n 0, 1) := dk_42 (dk_at dksX3_reachable_0 3 rfl rfl)
theorem dX3_reachable_4 : decode cX3_reachable 4 = .ok (.getfield 21, 3) := dk_180 0 21 (dk_at dksX3_reachable_0 4 rfl rfl)
theorem dX3_reachable_7 : decode cX3_reachable 7 = .ok (.iload_n 1, 1) := dk_27 (dk_at dksX3_reachable_0 7 rfl rfl)
theorem dX3_reachable_8 : decode cX3_reachable 8 = .ok (.invokeinterface 86 2, 5) := by decide +kernel
theorem dX3_reachable_13 : decode cX3_reachable 13 = .ok (.checkcast 57, 3) := dk_192 0 57 (dk_at dksX3_reachable_0 13 rfl rfl)
theorem dX3_reachable_16 : decode cX3_reachable 16 = .ok (.getfield 90, 3) := dk_180 0 90 (dk_at dksX3_reachable_0 16 rfl rfl)
theorem dX3_reachable_19 : decode cX3_reachable 19 = .ok (.ishl, 1) := dk_120 (dk_at dksX3_reachable_0 19 rfl rfl)
theorem dX3_reachable_20 : decode cX3_reachable 20 = .ok (.istore_n 3, 1) := dk_62 (dk_at dksX3_reachable_0 20 rfl rfl)
theorem dX3_reachable_21 : decode cX3_reachable 21 = .ok (.iload_n 3, 1) := dk_29 (dk_at dksX3_reachable_0 21 rfl rfl)
theorem dX3_reachable_22 : decode cX3_reachable 22 = .ok (.iload_n 2, 1) := dk_28 (dk_at dksX3_reachable_0 22 rfl rfl)
theorem dX3_reachable_23 : decode cX3_reachable 23 = .ok (.if_icmp .eq 15, 3) := dk_159 0 15 (dk_at dksX3_reachable_1 0 rfl rfl)
theorem dX3_reachable_26 : decode cX3_reachable 26 = .ok (.iload_n 3, 1) := dk_29 (dk_at dksX3_reachable_1 3 rfl rfl)
theorem dX3_reachable_27 : decode cX3_reachable 27 = .ok (.istore_n 2, 1) := dk_61 (dk_at dksX3_reachable_1 4 rfl rfl)
theorem dX3_reachable_28 : decode cX3_reachable 28 = .ok (.aload_n 0, 1) := dk_42 (dk_at dksX3_reachable_1 5 rfl rfl)
theorem dX3_reachable_29 : decode cX3_reachable 29 = .ok (.iload_n 1, 1) := dk_27 (dk_at dksX3_reachable_1 6 rfl rfl)
theorem dX3_reachable_30 : decode cX3_reachable 30 = .ok (.iload_n 2, 1) := dk_28 (dk_at dksX3_reachable_1 7 rfl rfl)
theorem dX3_reachable_31 : decode cX3_reachable 31 = .ok (.invokevirtual 152, 3) := dk_182 0 152 (dk_at dksX3_reachable_1 8 rfl rfl)
theorem dX3_reachable_34 : decode cX3_reachable 34 = .ok (.istore_n 3, 1) := dk_62 (dk_at dksX3_reachable_1 11 rfl rfl)
theorem dX3_reachable_35 : decode cX3_reachable 35 = .ok (.goto (-14), 3) := dk_167 255 242 (dk_at dksX3_reachable_1 12 rfl rfl)
theorem dX3_reachable_38 : decode cX3_reachable 38 = .ok (.iload_n 2, 1) := dk_28 (dk_at dksX3_reachable_1 15 rfl rfl)
theorem dX3_reachable_39 : decode cX3_reachable 39 = .ok (.ireturn, 1) := dk_172 (dk_at dksX3_reachable_1 16 rfl rfl)
abbrev cX3_extended : ByteArray := prog_7_method_17_code
def yX3_extended : MethodName := ⟨RX3, "extended", "(II)I"⟩
def dkwX3_extended_4 : List UInt8 := [132, 5, 1, 167, 255, 191, 132, 4, 1, 167, 255, 156, 29, 172]
abbrev dktX3_extended_4 : List UInt8 := dkwX3_extended_4 ++ []
def dkwX3_extended_3 : List UInt8 := [29, 4, 42, 180, 0, 18, 21, 5, 185, 0, 86, 2, 0, 192, 0, 55, 21, 4, 182, 0, 145, 120, 128, 62]
abbrev dktX3_extended_3 : List UInt8 := dkwX3_extended_3 ++ dktX3_extended_4
def dkwX3_extended_2 : List UInt8 := [42, 27, 21, 4, 42, 180, 0, 18, 21, 5, 185, 0, 86, 2, 0, 192, 0, 55, 182, 0, 148, 154, 0, 27]
abbrev dktX3_extended_2 : List UInt8 := dkwX3_extended_2 ++ dktX3_extended_3
def dkwX3_extended_1 : List UInt8 := [126, 154, 0, 6, 167, 0, 74, 3, 54, 5, 21, 5, 42, 180, 0, 18, 185, 0, 82, 1, 0, 162, 0, 57]
abbrev dktX3_extended_1 : List UInt8 := dkwX3_extended_1 ++ dktX3_extended_2
def dkwX3_extended_0 : List UInt8 := [28, 62, 3, 54, 4, 21, 4, 42, 180, 0, 12, 185, 0, 82, 1, 0, 162, 0, 92, 28, 21, 4, 122, 4]
abbrev dktX3_extended_0 : List UInt8 := dkwX3_extended_0 ++ dktX3_extended_1
theorem dksX3_extended_0 : cX3_extended.data.toList.drop 0 = dktX3_extended_0 := by decide +kernel
theorem dksX3_extended_1 : cX3_extended.data.toList.drop 24 = dktX3_extended_1 := dk_seg dksX3_extended_0 24 rfl rfl
theorem dksX3_extended_2 : cX3_extended.data.toList.drop 48 = dktX3_extended_2 := dk_seg dksX3_extended_1 24 rfl rfl
theorem dksX3_extended_3 : cX3_extended.data.toList.drop 72 = dktX3_extended_3 := dk_seg dksX3_extended_2 24 rfl rfl
theorem dksX3_extended_4 : cX3_extended.data.toList.drop 96 = dktX3_extended_4 := dk_seg dksX3_extended_3 24 rfl rfl
theorem dX3_extended_0 : decode cX3_extended 0 = .ok (.iload_n 2, 1) := dk_28 (dk_at dksX3_extended_0 0 rfl rfl)
theorem dX3_extended_1 : decode cX3_extended 1 = .ok (.istore_n 3, 1) := dk_62 (dk_at dksX3_extended_0 1 rfl rfl)
theorem dX3_extended_2 : decode cX3_extended 2 = .ok (.iconst 0, 1) := dk_3 (dk_at dksX3_extended_0 2 rfl rfl)
theorem dX3_extended_3 : decode cX3_extended 3 = .ok (.istore 4, 2) := dk_54 4 (dk_at dksX3_extended_0 3 rfl rfl)
theorem dX3_extended_5 : decode cX3_extended 5 = .ok (.iload 4, 2) := dk_21 4 (dk_at dksX3_extended_0 5 rfl rfl)
theorem dX3_extended_7 : decode cX3_extended 7 = .ok (.aload_n 0, 1) := dk_42 (dk_at dksX3_extended_0 7 rfl rfl)
theorem dX3_extended_8 : decode cX3_extended 8 = .ok (.getfield 12, 3) := dk_180 0 12 (dk_at dksX3_extended_0 8 rfl rfl)
theorem dX3_extended_11 : decode cX3_extended 11 = .ok (.invokeinterface 82 1, 5) := by decide +kernel
theorem dX3_extended_16 : decode cX3_extended 16 = .ok (.if_icmp .ge 92, 3) := dk_162 0 92 (dk_at dksX3_extended_0 16 rfl rfl)
theorem dX3_extended_19 : decode cX3_extended 19 = .ok (.iload_n 2, 1) := dk_28 (dk_at dksX3_extended_0 19 rfl rfl)
theorem dX3_extended_20 : decode cX3_extended 20 = .ok (.iload 4, 2) := dk_21 4 (dk_at dksX3_extended_0 20 rfl rfl)
theorem dX3_extended_22 : decode cX3_extended 22 = .ok (.ishr, 1) := dk_122 (dk_at dksX3_extended_0 22 rfl rfl)
theorem dX3_extended_23 : decode cX3_extended 23 = .ok (.iconst 1, 1) := dk_4 (dk_at dksX3_extended_0 23 rfl rfl)
theorem dX3_extended_24 : decode cX3_extended 24 = .ok (.iand, 1) := dk_126 (dk_at dksX3_extended_1 0 rfl rfl)
theorem dX3_extended_25 : decode cX3_extended 25 = .ok (.ifCond .ne 6, 3) := dk_154 0 6 (dk_at dksX3_extended_1 1 rfl rfl)
theorem dX3_extended_28 : decode cX3_extended 28 = .ok (.goto 74, 3) := dk_167 0 74 (dk_at dksX3_extended_1 4 rfl rfl)
theorem dX3_extended_31 : decode cX3_extended 31 = .ok (.iconst 0, 1) := dk_3 (dk_at dksX3_extended_1 7 rfl rfl)
theorem dX3_extended_32 : decode cX3_extended 32 = .ok (.istore 5, 2) := dk_54 5 (dk_at dksX3_extended_1 8 rfl rfl)
theorem dX3_extended_34 : decode cX3_extended 34 = .ok (.iload 5, 2) := dk_21 5 (dk_at dksX3_extended_1 10 rfl rfl)
theorem dX3_extended_36 : decode cX3_extended 36 = .ok (.aload_n 0, 1) := dk_42 (dk_at dksX3_extended_1 12 rfl rfl)
theorem dX3_extended_37 : decode cX3_extended 37 = .ok (.getfield 18, 3) := dk_180 0 18 (dk_at dksX3_extended_1 13 rfl rfl)
theorem dX3_extended_40 : decode cX3_extended 40 = .ok (.invokeinterface 82 1, 5) := by decide +kernel
theorem dX3_extended_45 : decode cX3_extended 45 = .ok (.if_icmp .ge 57, 3) := dk_162 0 57 (dk_at dksX3_extended_1 21 rfl rfl)
theorem dX3_extended_48 : decode cX3_extended 48 = .ok (.aload_n 0, 1) := dk_42 (dk_at dksX3_extended_2 0 rfl rfl)
theorem dX3_extended_49 : decode cX3_extended 49 = .ok (.iload_n 1, 1) := dk_27 (dk_at dksX3_extended_2 1 rfl rfl)
theorem dX3_extended_50 : decode cX3_extended 50 = .ok (.iload 4, 2) := dk_21 4 (dk_at dksX3_extended_2 2 rfl rfl)
theorem dX3_extended_52 : decode cX3_extended 52 = .ok (.aload_n 0, 1) := dk_42 (dk_at dksX3_extended_2 4 rfl rfl)
theorem dX3_extended_53 : decode cX3_extended 53 = .ok (.getfield 18, 3) := dk_180 0 18 (dk_at dksX3_extended_2 5 rfl rfl)
theorem dX3_extended_56 : decode cX3_extended 56 = .ok (.iload 5, 2) := dk_21 5 (dk_at dksX3_extended_2 8 rfl rfl)
theorem dX3_extended_58 : decode cX3_extended 58 = .ok (.invokeinterface 86 2, 5) := by decide +kernel
theorem dX3_extended_63 : decode cX3_extended 63 = .ok (.checkcast 55, 3) := dk_192 0 55 (dk_at dksX3_extended_2 15 rfl rfl)
theorem dX3_extended_66 : decode cX3_extended 66 = .ok (.invokevirtual 148, 3) := dk_182 0 148 (dk_at dksX3_extended_2 18 rfl rfl)
theorem dX3_extended_69 : decode cX3_extended 69 = .ok (.ifCond .ne 27, 3) := dk_154 0 27 (dk_at dksX3_extended_2 21 rfl rfl)
theorem dX3_extended_72 : decode cX3_extended 72 = .ok (.iload_n 3, 1) := dk_29 (dk_at dksX3_extended_3 0 rfl rfl)
theorem dX3_extended_73 : decode cX3_extended 73 = .ok (.iconst 1, 1) := dk_4 (dk_at dksX3_extended_3 1 rfl rfl)
theorem dX3_extended_74 : decode cX3_extended 74 = .ok (.aload_n 0, 1) := dk_42 (dk_at dksX3_extended_3 2 rfl rfl)
theorem dX3_extended_75 : decode cX3_extended 75 = .ok (.getfield 18, 3) := dk_180 0 18 (dk_at dksX3_extended_3 3 rfl rfl)
theorem dX3_extended_78 : decode cX3_extended 78 = .ok (.iload 5, 2) := dk_21 5 (dk_at dksX3_extended_3 6 rfl rfl)
theorem dX3_extended_80 : decode cX3_extended 80 = .ok (.invokeinterface 86 2, 5) := by decide +kernel
theorem dX3_extended_85 : decode cX3_extended 85 = .ok (.checkcast 55, 3) := dk_192 0 55 (dk_at dksX3_extended_3 13 rfl rfl)
theorem dX3_extended_88 : decode cX3_extended 88 = .ok (.iload 4, 2) := dk_21 4 (dk_at dksX3_extended_3 16 rfl rfl)
theorem dX3_extended_90 : decode cX3_extended 90 = .ok (.invokevirtual 145, 3) := dk_182 0 145 (dk_at dksX3_extended_3 18 rfl rfl)
theorem dX3_extended_93 : decode cX3_extended 93 = .ok (.ishl, 1) := dk_120 (dk_at dksX3_extended_3 21 rfl rfl)
theorem dX3_extended_94 : decode cX3_extended 94 = .ok (.ior, 1) := dk_128 (dk_at dksX3_extended_3 22 rfl rfl)
theorem dX3_extended_95 : decode cX3_extended 95 = .ok (.istore_n 3, 1) := dk_62 (dk_at dksX3_extended_3 23 rfl rfl)
theorem dX3_extended_96 : decode cX3_extended 96 = .ok (.iinc 5 1, 3) := dk_132 5 1 (dk_at dksX3_extended_4 0 rfl rfl)
theorem dX3_extended_99 : decode cX3_extended 99 = .ok (.goto (-65), 3) := dk_167 255 191 (dk_at dksX3_extended_4 3 rfl rfl)
theorem dX3_extended_102 : decode cX3_extended 102 = .ok (.iinc 4 1, 3) := dk_132 4 1 (dk_at dksX3_extended_4 6 rfl rfl)
theorem dX3_extended_105 : decode cX3_extended 105 = .ok (.goto (-100), 3) := dk_167 255 156 (dk_at dksX3_extended_4 9 rfl rfl)
theorem dX3_extended_108 : decode cX3_extended 108 = .ok (.iload_n 3, 1) := dk_29 (dk_at dksX3_extended_4 12 rfl rfl)
theorem dX3_extended_109 : decode cX3_extended 109 = .ok (.ireturn, 1) := dk_172 (dk_at dksX3_extended_4 13 rfl rfl)
abbrev cX3_stepsTo : ByteArray := prog_7_method_19_code
def yX3_stepsTo : MethodName := ⟨RX3, "stepsTo", "(II)I"⟩
def dkwX3_stepsTo_2 : List UInt8 := [132, 4, 1, 167, 255, 227, 2, 172]
abbrev dktX3_stepsTo_2 : List UInt8 := dkwX3_stepsTo_2 ++ []
def dkwX3_stepsTo_1 : List UInt8 := [16, 10, 162, 0, 28, 29, 28, 122, 4, 126, 4, 160, 0, 6, 21, 4, 172, 42, 27, 29, 182, 0, 152, 62]
abbrev dktX3_stepsTo_1 : List UInt8 := dkwX3_stepsTo_1 ++ dktX3_stepsTo_2
def dkwX3_stepsTo_0 : List UInt8 := [4, 42, 180, 0, 21, 27, 185, 0, 86, 2, 0, 192, 0, 57, 180, 0, 90, 120, 62, 3, 54, 4, 21, 4]
abbrev dktX3_stepsTo_0 : List UInt8 := dkwX3_stepsTo_0 ++ dktX3_stepsTo_1
theorem dksX3_stepsTo_0 : cX3_stepsTo.data.toList.drop 0 = dktX3_stepsTo_0 := by decide +kernel
theorem dksX3_stepsTo_1 : cX3_stepsTo.data.toList.drop 24 = dktX3_stepsTo_1 := dk_seg dksX3_stepsTo_0 24 rfl rfl
theorem dksX3_stepsTo_2 : cX3_stepsTo.data.toList.drop 48 = dktX3_stepsTo_2 := dk_seg dksX3_stepsTo_1 24 rfl rfl
theorem dX3_stepsTo_0 : decode cX3_stepsTo 0 = .ok (.iconst 1, 1) := dk_4 (dk_at dksX3_stepsTo_0 0 rfl rfl)
theorem dX3_stepsTo_1 : decode cX3_stepsTo 1 = .ok (.aload_n 0, 1) := dk_42 (dk_at dksX3_stepsTo_0 1 rfl rfl)
theorem dX3_stepsTo_2 : decode cX3_stepsTo 2 = .ok (.getfield 21, 3) := dk_180 0 21 (dk_at dksX3_stepsTo_0 2 rfl rfl)
theorem dX3_stepsTo_5 : decode cX3_stepsTo 5 = .ok (.iload_n 1, 1) := dk_27 (dk_at dksX3_stepsTo_0 5 rfl rfl)
theorem dX3_stepsTo_6 : decode cX3_stepsTo 6 = .ok (.invokeinterface 86 2, 5) := by decide +kernel
theorem dX3_stepsTo_11 : decode cX3_stepsTo 11 = .ok (.checkcast 57, 3) := dk_192 0 57 (dk_at dksX3_stepsTo_0 11 rfl rfl)
theorem dX3_stepsTo_14 : decode cX3_stepsTo 14 = .ok (.getfield 90, 3) := dk_180 0 90 (dk_at dksX3_stepsTo_0 14 rfl rfl)
theorem dX3_stepsTo_17 : decode cX3_stepsTo 17 = .ok (.ishl, 1) := dk_120 (dk_at dksX3_stepsTo_0 17 rfl rfl)
theorem dX3_stepsTo_18 : decode cX3_stepsTo 18 = .ok (.istore_n 3, 1) := dk_62 (dk_at dksX3_stepsTo_0 18 rfl rfl)
theorem dX3_stepsTo_19 : decode cX3_stepsTo 19 = .ok (.iconst 0, 1) := dk_3 (dk_at dksX3_stepsTo_0 19 rfl rfl)
theorem dX3_stepsTo_20 : decode cX3_stepsTo 20 = .ok (.istore 4, 2) := dk_54 4 (dk_at dksX3_stepsTo_0 20 rfl rfl)
theorem dX3_stepsTo_22 : decode cX3_stepsTo 22 = .ok (.iload 4, 2) := dk_21 4 (dk_at dksX3_stepsTo_0 22 rfl rfl)
theorem dX3_stepsTo_24 : decode cX3_stepsTo 24 = .ok (.bipush 10, 2) := dk_16 10 (dk_at dksX3_stepsTo_1 0 rfl rfl)
theorem dX3_stepsTo_26 : decode cX3_stepsTo 26 = .ok (.if_icmp .ge 28, 3) := dk_162 0 28 (dk_at dksX3_stepsTo_1 2 rfl rfl)
theorem dX3_stepsTo_29 : decode cX3_stepsTo 29 = .ok (.iload_n 3, 1) := dk_29 (dk_at dksX3_stepsTo_1 5 rfl rfl)
theorem dX3_stepsTo_30 : decode cX3_stepsTo 30 = .ok (.iload_n 2, 1) := dk_28 (dk_at dksX3_stepsTo_1 6 rfl rfl)
theorem dX3_stepsTo_31 : decode cX3_stepsTo 31 = .ok (.ishr, 1) := dk_122 (dk_at dksX3_stepsTo_1 7 rfl rfl)
theorem dX3_stepsTo_32 : decode cX3_stepsTo 32 = .ok (.iconst 1, 1) := dk_4 (dk_at dksX3_stepsTo_1 8 rfl rfl)
theorem dX3_stepsTo_33 : decode cX3_stepsTo 33 = .ok (.iand, 1) := dk_126 (dk_at dksX3_stepsTo_1 9 rfl rfl)
theorem dX3_stepsTo_34 : decode cX3_stepsTo 34 = .ok (.iconst 1, 1) := dk_4 (dk_at dksX3_stepsTo_1 10 rfl rfl)
theorem dX3_stepsTo_35 : decode cX3_stepsTo 35 = .ok (.if_icmp .ne 6, 3) := dk_160 0 6 (dk_at dksX3_stepsTo_1 11 rfl rfl)
theorem dX3_stepsTo_38 : decode cX3_stepsTo 38 = .ok (.iload 4, 2) := dk_21 4 (dk_at dksX3_stepsTo_1 14 rfl rfl)
theorem dX3_stepsTo_40 : decode cX3_stepsTo 40 = .ok (.ireturn, 1) := dk_172 (dk_at dksX3_stepsTo_1 16 rfl rfl)
theorem dX3_stepsTo_41 : decode cX3_stepsTo 41 = .ok (.aload_n 0, 1) := dk_42 (dk_at dksX3_stepsTo_1 17 rfl rfl)
theorem dX3_stepsTo_42 : decode cX3_stepsTo 42 = .ok (.iload_n 1, 1) := dk_27 (dk_at dksX3_stepsTo_1 18 rfl rfl)
theorem dX3_stepsTo_43 : decode cX3_stepsTo 43 = .ok (.iload_n 3, 1) := dk_29 (dk_at dksX3_stepsTo_1 19 rfl rfl)
theorem dX3_stepsTo_44 : decode cX3_stepsTo 44 = .ok (.invokevirtual 152, 3) := dk_182 0 152 (dk_at dksX3_stepsTo_1 20 rfl rfl)
theorem dX3_stepsTo_47 : decode cX3_stepsTo 47 = .ok (.istore_n 3, 1) := dk_62 (dk_at dksX3_stepsTo_1 23 rfl rfl)
theorem dX3_stepsTo_48 : decode cX3_stepsTo 48 = .ok (.iinc 4 1, 3) := dk_132 4 1 (dk_at dksX3_stepsTo_2 0 rfl rfl)
theorem dX3_stepsTo_51 : decode cX3_stepsTo 51 = .ok (.goto (-29), 3) := dk_167 255 227 (dk_at dksX3_stepsTo_2 3 rfl rfl)
theorem dX3_stepsTo_54 : decode cX3_stepsTo 54 = .ok (.iconst (-1), 1) := dk_2 (dk_at dksX3_stepsTo_2 6 rfl rfl)
theorem dX3_stepsTo_55 : decode cX3_stepsTo 55 = .ok (.ireturn, 1) := dk_172 (dk_at dksX3_stepsTo_2 7 rfl rfl)
theorem q126 : (Jvm.Cond.initialized "RooftopCats$Roof") ∈ lw_all := lw_g (lw_at lw_m1 11 rfl) rfl
theorem q230 : (Jvm.Cond.instantiable "RooftopCats$Roof" (8 : Nat)) ∈ lw_all := lw_g (lw_at lw_m1 115 rfl) rfl
theorem q232 : (Jvm.Cond.instanceMethod ({ cls := "RooftopCats$Roof", name := "<init>", desc := "()V" } : Jvm.MethodName)) ∈ lw_all := lw_g (lw_at lw_m1 117 rfl) rfl
theorem q233 : (Jvm.Cond.code ({ cls := "RooftopCats$Roof", name := "<init>", desc := "()V" } : Jvm.MethodName) prog_7_method_1_code (1 : Nat) (Option.none : Option Jvm.ClassFile.FieldType)) ∈ lw_all := lw_g (lw_at lw_m1 118 rfl) rfl
theorem q234 : (Jvm.Cond.methodLink "RooftopCats$Roof" (3 : Nat) ({ cls := "java/lang/Object", name := "<init>", desc := "()V" } : Jvm.MethodName)) ∈ lw_all := lw_g (lw_at lw_m1 119 rfl) rfl
theorem q235 : (Jvm.Cond.classLink "RooftopCats$Roof" (9 : Nat) "java/util/ArrayList") ∈ lw_all := lw_g (lw_at lw_m1 120 rfl) rfl
theorem q237 : (Jvm.Cond.methodLink "RooftopCats$Roof" (11 : Nat) ({ cls := "java/util/ArrayList", name := "<init>", desc := "()V" } : Jvm.MethodName)) ∈ lw_all := lw_g (lw_at lw_m1 122 rfl) rfl
theorem q261 : (Jvm.Cond.fieldLink "RooftopCats$Roof" (12 : Nat) "RooftopCats$Roof" "chimneys" "Ljava/util/List;") ∈ lw_all := lw_g (lw_at lw_m1 146 rfl) rfl
theorem q264 : (Jvm.Cond.fieldLink "RooftopCats$Roof" (18 : Nat) "RooftopCats$Roof" "gutters" "Ljava/util/List;") ∈ lw_all := lw_g (lw_at lw_m1 149 rfl) rfl
theorem q267 : (Jvm.Cond.fieldLink "RooftopCats$Roof" (21 : Nat) "RooftopCats$Roof" "cats" "Ljava/util/List;") ∈ lw_all := lw_g (lw_at lw_m1 152 rfl) rfl
theorem q270 : (Jvm.Cond.fieldLink "RooftopCats$Roof" (24 : Nat) "RooftopCats$Roof" "truceEnds" "[I") ∈ lw_all := lw_g (lw_at lw_m1 155 rfl) rfl
theorem q271 : (Jvm.Cond.fieldLink "RooftopCats$Roof" (68 : Nat) "RooftopCats$Roof" "kitten" "LRooftopCats$Kitten;") ∈ lw_all := lw_g (lw_at lw_m1 156 rfl) rfl
theorem q273 : (Jvm.Cond.fieldLink "RooftopCats$Roof" (72 : Nat) "RooftopCats$Roof" "night" "I") ∈ lw_all := lw_g (lw_at lw_m1 158 rfl) rfl
theorem q276 : (Jvm.Cond.fieldLink "RooftopCats$Roof" (76 : Nat) "RooftopCats$Roof" "caught" "I") ∈ lw_all := lw_g (lw_at lw_m1 161 rfl) rfl
theorem q278 : (Jvm.Cond.fieldLink "RooftopCats$Roof" (79 : Nat) "RooftopCats$Roof" "eaten" "I") ∈ lw_all := lw_g (lw_at lw_m1 163 rfl) rfl
theorem q280 : (Jvm.Cond.laysFinal "RooftopCats$Roof" "RooftopCats$Roof" "chimneys" "Ljava/util/List;") ∈ lw_all := lw_g (lw_at lw_m1 165 rfl) rfl
theorem q281 : (Jvm.Cond.soleField "RooftopCats$Roof" "chimneys") ∈ lw_all := lw_g (lw_at lw_m1 166 rfl) rfl
theorem q282 : (Jvm.Cond.laysFinal "RooftopCats$Roof" "RooftopCats$Roof" "gutters" "Ljava/util/List;") ∈ lw_all := lw_g (lw_at lw_m1 167 rfl) rfl
theorem q283 : (Jvm.Cond.soleField "RooftopCats$Roof" "gutters") ∈ lw_all := lw_g (lw_at lw_m1 168 rfl) rfl
theorem q284 : (Jvm.Cond.laysFinal "RooftopCats$Roof" "RooftopCats$Roof" "cats" "Ljava/util/List;") ∈ lw_all := lw_g (lw_at lw_m1 169 rfl) rfl
theorem q285 : (Jvm.Cond.soleField "RooftopCats$Roof" "cats") ∈ lw_all := lw_g (lw_at lw_m1 170 rfl) rfl
theorem q286 : (Jvm.Cond.laysFinal "RooftopCats$Roof" "RooftopCats$Roof" "truceEnds" "[I") ∈ lw_all := lw_g (lw_at lw_m1 171 rfl) rfl
theorem q287 : (Jvm.Cond.soleField "RooftopCats$Roof" "truceEnds") ∈ lw_all := lw_g (lw_at lw_m1 172 rfl) rfl
theorem q288 : (Jvm.Cond.lays "RooftopCats$Roof" "RooftopCats$Roof" "kitten" "LRooftopCats$Kitten;") ∈ lw_all := lw_g (lw_at lw_m1 173 rfl) rfl
theorem q289 : (Jvm.Cond.soleField "RooftopCats$Roof" "kitten") ∈ lw_all := lw_g (lw_at lw_m1 174 rfl) rfl
theorem q290 : (Jvm.Cond.lays "RooftopCats$Roof" "RooftopCats$Roof" "night" "I") ∈ lw_all := lw_g (lw_at lw_m1 175 rfl) rfl
theorem q291 : (Jvm.Cond.soleField "RooftopCats$Roof" "night") ∈ lw_all := lw_g (lw_at lw_m1 176 rfl) rfl
theorem q292 : (Jvm.Cond.lays "RooftopCats$Roof" "RooftopCats$Roof" "caught" "I") ∈ lw_all := lw_g (lw_at lw_m1 177 rfl) rfl
theorem q293 : (Jvm.Cond.soleField "RooftopCats$Roof" "caught") ∈ lw_all := lw_g (lw_at lw_m1 178 rfl) rfl
theorem q294 : (Jvm.Cond.lays "RooftopCats$Roof" "RooftopCats$Roof" "eaten" "I") ∈ lw_all := lw_g (lw_at lw_m1 179 rfl) rfl
theorem q295 : (Jvm.Cond.soleField "RooftopCats$Roof" "eaten") ∈ lw_all := lw_g (lw_at lw_m1 180 rfl) rfl
theorem q296 : (Jvm.Cond.superclass "RooftopCats$Roof" "java/lang/Object") ∈ lw_all := lw_g (lw_at lw_m1 181 rfl) rfl
theorem q835 : (Jvm.Cond.fieldLinkNest "RooftopCats$Roof" (117 : Nat) "RooftopCats$Chimney" "warmth" "I" "RooftopCats") ∈ lw_tbl := lw_at lw_m4 0 rfl
theorem q838 : (Jvm.Cond.fieldLinkNest "RooftopCats$Roof" (93 : Nat) "RooftopCats$Chimney" "owner" "I" "RooftopCats") ∈ lw_tbl := lw_at lw_m4 3 rfl
theorem q880 : (Jvm.Cond.selects "RooftopCats$Roof" ({ cls := "java/lang/Object", name := "getClass", desc := "()Ljava/lang/Class;" } : Jvm.MethodName) ({ cls := "java/lang/Object", name := "getClass", desc := "()Ljava/lang/Class;" } : Jvm.MethodName)) ∈ lw_all := lw_g (lw_at lw_m4 45 rfl) rfl
theorem q932 : (Jvm.Cond.instanceMethod ({ cls := "RooftopCats$Roof", name := "catOn", desc := "(I)I" } : Jvm.MethodName)) ∈ lw_all := lw_g (lw_at lw_m4 97 rfl) rfl
theorem q933 : (Jvm.Cond.selects "RooftopCats$Roof" ({ cls := "RooftopCats$Roof", name := "catOn", desc := "(I)I" } : Jvm.MethodName) ({ cls := "RooftopCats$Roof", name := "catOn", desc := "(I)I" } : Jvm.MethodName)) ∈ lw_all := lw_g (lw_at lw_m4 98 rfl) rfl
theorem q934 : (Jvm.Cond.code ({ cls := "RooftopCats$Roof", name := "catOn", desc := "(I)I" } : Jvm.MethodName) prog_7_method_3_code (3 : Nat) (Option.some Jvm.ClassFile.FieldType.int)) ∈ lw_all := lw_g (lw_at lw_m4 99 rfl) rfl
theorem q935 : (Jvm.Cond.interfaceEntry "RooftopCats$Roof" (82 : Nat)) ∈ lw_tbl := lw_at lw_m4 100 rfl
theorem q936 : (Jvm.Cond.methodLink "RooftopCats$Roof" (82 : Nat) ({ cls := "java/util/List", name := "size", desc := "()I" } : Jvm.MethodName)) ∈ lw_all := lw_g (lw_at lw_m4 101 rfl) rfl
theorem q937 : (Jvm.Cond.interfaceEntry "RooftopCats$Roof" (86 : Nat)) ∈ lw_tbl := lw_at lw_m4 102 rfl
theorem q938 : (Jvm.Cond.methodLink "RooftopCats$Roof" (86 : Nat) ({ cls := "java/util/List", name := "get", desc := "(I)Ljava/lang/Object;" } : Jvm.MethodName)) ∈ lw_all := lw_g (lw_at lw_m4 103 rfl) rfl
theorem q954 : (Jvm.Cond.classLink "RooftopCats$Roof" (57 : Nat) "RooftopCats$Cat") ∈ lw_all := lw_g (lw_at lw_m4 119 rfl) rfl
theorem q962 : (Jvm.Cond.fieldLinkNest "RooftopCats$Roof" (142 : Nat) "RooftopCats$Cat" "girth" "I" "RooftopCats") ∈ lw_tbl := lw_at lw_m4 127 rfl
theorem q965 : (Jvm.Cond.fieldLinkNest "RooftopCats$Roof" (107 : Nat) "RooftopCats$Cat" "strength" "I" "RooftopCats") ∈ lw_tbl := lw_at lw_m4 130 rfl
theorem q967 : (Jvm.Cond.fieldLinkNest "RooftopCats$Roof" (90 : Nat) "RooftopCats$Cat" "chimney" "I" "RooftopCats") ∈ lw_tbl := lw_at lw_m4 132 rfl
theorem q970 : (Jvm.Cond.fieldLinkNest "RooftopCats$Roof" (133 : Nat) "RooftopCats$Cat" "fish" "I" "RooftopCats") ∈ lw_tbl := lw_at lw_m4 135 rfl
theorem q986 : (Jvm.Cond.instanceMethod ({ cls := "RooftopCats$Roof", name := "owner", desc := "(I)I" } : Jvm.MethodName)) ∈ lw_all := lw_g (lw_at lw_m4 151 rfl) rfl
theorem q987 : (Jvm.Cond.selects "RooftopCats$Roof" ({ cls := "RooftopCats$Roof", name := "owner", desc := "(I)I" } : Jvm.MethodName) ({ cls := "RooftopCats$Roof", name := "owner", desc := "(I)I" } : Jvm.MethodName)) ∈ lw_all := lw_g (lw_at lw_m4 152 rfl) rfl
theorem q988 : (Jvm.Cond.code ({ cls := "RooftopCats$Roof", name := "owner", desc := "(I)I" } : Jvm.MethodName) prog_7_method_4_code (2 : Nat) (Option.some Jvm.ClassFile.FieldType.int)) ∈ lw_all := lw_g (lw_at lw_m4 153 rfl) rfl
theorem q989 : (Jvm.Cond.classLink "RooftopCats$Roof" (45 : Nat) "RooftopCats$Chimney") ∈ lw_all := lw_g (lw_at lw_m4 154 rfl) rfl
theorem q997 : (Jvm.Cond.instanceMethod ({ cls := "RooftopCats$Roof", name := "judgeClaim", desc := "(I)I" } : Jvm.MethodName)) ∈ lw_all := lw_g (lw_at lw_m4 162 rfl) rfl
theorem q998 : (Jvm.Cond.selects "RooftopCats$Roof" ({ cls := "RooftopCats$Roof", name := "judgeClaim", desc := "(I)I" } : Jvm.MethodName) ({ cls := "RooftopCats$Roof", name := "judgeClaim", desc := "(I)I" } : Jvm.MethodName)) ∈ lw_all := lw_g (lw_at lw_m4 163 rfl) rfl
theorem q999 : (Jvm.Cond.code ({ cls := "RooftopCats$Roof", name := "judgeClaim", desc := "(I)I" } : Jvm.MethodName) prog_7_method_22_code (2 : Nat) (Option.some Jvm.ClassFile.FieldType.int)) ∈ lw_all := lw_g (lw_at lw_m4 164 rfl) rfl
theorem q1000 : (Jvm.Cond.methodLink "RooftopCats$Roof" (96 : Nat) ({ cls := "RooftopCats$Roof", name := "owner", desc := "(I)I" } : Jvm.MethodName)) ∈ lw_all := lw_g (lw_at lw_m4 165 rfl) rfl
theorem q1001 : (Jvm.Cond.methodLink "RooftopCats$Roof" (164 : Nat) ({ cls := "RooftopCats$Roof", name := "ownsEnough", desc := "(I)Z" } : Jvm.MethodName)) ∈ lw_all := lw_g (lw_at lw_m4 166 rfl) rfl
theorem q1002 : (Jvm.Cond.instanceMethod ({ cls := "RooftopCats$Roof", name := "ownsEnough", desc := "(I)Z" } : Jvm.MethodName)) ∈ lw_all := lw_g (lw_at lw_m4 167 rfl) rfl
theorem q1003 : (Jvm.Cond.selects "RooftopCats$Roof" ({ cls := "RooftopCats$Roof", name := "ownsEnough", desc := "(I)Z" } : Jvm.MethodName) ({ cls := "RooftopCats$Roof", name := "ownsEnough", desc := "(I)Z" } : Jvm.MethodName)) ∈ lw_all := lw_g (lw_at lw_m4 168 rfl) rfl
theorem q1004 : (Jvm.Cond.code ({ cls := "RooftopCats$Roof", name := "ownsEnough", desc := "(I)Z" } : Jvm.MethodName) prog_7_method_6_code (2 : Nat) (Option.some Jvm.ClassFile.FieldType.boolean)) ∈ lw_all := lw_g (lw_at lw_m4 169 rfl) rfl
theorem q1005 : (Jvm.Cond.methodLink "RooftopCats$Roof" (99 : Nat) ({ cls := "RooftopCats$Roof", name := "owned", desc := "(I)I" } : Jvm.MethodName)) ∈ lw_all := lw_g (lw_at lw_m4 170 rfl) rfl
theorem q1006 : (Jvm.Cond.instanceMethod ({ cls := "RooftopCats$Roof", name := "owned", desc := "(I)I" } : Jvm.MethodName)) ∈ lw_all := lw_g (lw_at lw_m4 171 rfl) rfl
theorem q1007 : (Jvm.Cond.selects "RooftopCats$Roof" ({ cls := "RooftopCats$Roof", name := "owned", desc := "(I)I" } : Jvm.MethodName) ({ cls := "RooftopCats$Roof", name := "owned", desc := "(I)I" } : Jvm.MethodName)) ∈ lw_all := lw_g (lw_at lw_m4 172 rfl) rfl
theorem q1008 : (Jvm.Cond.code ({ cls := "RooftopCats$Roof", name := "owned", desc := "(I)I" } : Jvm.MethodName) prog_7_method_5_code (4 : Nat) (Option.some Jvm.ClassFile.FieldType.int)) ∈ lw_all := lw_g (lw_at lw_m4 173 rfl) rfl
theorem q1009 : (Jvm.Cond.methodLink "RooftopCats$Roof" (102 : Nat) ({ cls := "java/lang/Integer", name := "bitCount", desc := "(I)I" } : Jvm.MethodName)) ∈ lw_all := lw_g (lw_at lw_m4 174 rfl) rfl
theorem q1016 : (Jvm.Cond.instanceMethod ({ cls := "RooftopCats$Roof", name := "claim", desc := "(I)I" } : Jvm.MethodName)) ∈ lw_all := lw_g (lw_at lw_m4 181 rfl) rfl
theorem q1017 : (Jvm.Cond.selects "RooftopCats$Roof" ({ cls := "RooftopCats$Roof", name := "claim", desc := "(I)I" } : Jvm.MethodName) ({ cls := "RooftopCats$Roof", name := "claim", desc := "(I)I" } : Jvm.MethodName)) ∈ lw_all := lw_g (lw_at lw_m4 182 rfl) rfl
theorem q1018 : (Jvm.Cond.code ({ cls := "RooftopCats$Roof", name := "claim", desc := "(I)I" } : Jvm.MethodName) prog_7_method_23_code (2 : Nat) (Option.some Jvm.ClassFile.FieldType.int)) ∈ lw_all := lw_g (lw_at lw_m4 183 rfl) rfl
theorem q1020 : (Jvm.Cond.instanceMethod ({ cls := "RooftopCats$Roof", name := "judgeStep", desc := "(II)I" } : Jvm.MethodName)) ∈ lw_all := lw_g (lw_at lw_m4 185 rfl) rfl
theorem q1021 : (Jvm.Cond.selects "RooftopCats$Roof" ({ cls := "RooftopCats$Roof", name := "judgeStep", desc := "(II)I" } : Jvm.MethodName) ({ cls := "RooftopCats$Roof", name := "judgeStep", desc := "(II)I" } : Jvm.MethodName)) ∈ lw_all := lw_g (lw_at lw_m4 186 rfl) rfl
theorem q1022 : (Jvm.Cond.code ({ cls := "RooftopCats$Roof", name := "judgeStep", desc := "(II)I" } : Jvm.MethodName) prog_7_method_15_code (3 : Nat) (Option.some Jvm.ClassFile.FieldType.int)) ∈ lw_all := lw_g (lw_at lw_m4 187 rfl) rfl
theorem q1023 : (Jvm.Cond.classLink "RooftopCats$Roof" (55 : Nat) "RooftopCats$Gutter") ∈ lw_all := lw_g (lw_at lw_m4 188 rfl) rfl
theorem q1024 : (Jvm.Cond.methodLink "RooftopCats$Roof" (148 : Nat) ({ cls := "RooftopCats$Roof", name := "judgeWalk", desc := "(IILRooftopCats$Gutter;)I" } : Jvm.MethodName)) ∈ lw_all := lw_g (lw_at lw_m4 189 rfl) rfl
theorem q1025 : (Jvm.Cond.instanceMethod ({ cls := "RooftopCats$Roof", name := "judgeWalk", desc := "(IILRooftopCats$Gutter;)I" } : Jvm.MethodName)) ∈ lw_all := lw_g (lw_at lw_m4 190 rfl) rfl
theorem q1026 : (Jvm.Cond.selects "RooftopCats$Roof" ({ cls := "RooftopCats$Roof", name := "judgeWalk", desc := "(IILRooftopCats$Gutter;)I" } : Jvm.MethodName) ({ cls := "RooftopCats$Roof", name := "judgeWalk", desc := "(IILRooftopCats$Gutter;)I" } : Jvm.MethodName)) ∈ lw_all := lw_g (lw_at lw_m4 191 rfl) rfl
theorem q1027 : (Jvm.Cond.code ({ cls := "RooftopCats$Roof", name := "judgeWalk", desc := "(IILRooftopCats$Gutter;)I" } : Jvm.MethodName) prog_7_method_14_code (7 : Nat) (Option.some Jvm.ClassFile.FieldType.int)) ∈ lw_all := lw_g (lw_at lw_m4 192 rfl) rfl
theorem q1028 : (Jvm.Cond.methodLink "RooftopCats$Roof" (136 : Nat) ({ cls := "RooftopCats$Gutter", name := "endsAt", desc := "(I)Z" } : Jvm.MethodName)) ∈ lw_all := lw_g (lw_at lw_m4 193 rfl) rfl
theorem q1032 : (Jvm.Cond.methodLink "RooftopCats$Roof" (139 : Nat) ({ cls := "RooftopCats$Gutter", name := "width", desc := "()I" } : Jvm.MethodName)) ∈ lw_all := lw_g (lw_at lw_m4 197 rfl) rfl
theorem q1036 : (Jvm.Cond.methodLink "RooftopCats$Roof" (145 : Nat) ({ cls := "RooftopCats$Gutter", name := "from", desc := "(I)I" } : Jvm.MethodName)) ∈ lw_all := lw_g (lw_at lw_m4 201 rfl) rfl
theorem q1040 : (Jvm.Cond.methodLink "RooftopCats$Roof" (114 : Nat) ({ cls := "RooftopCats$Roof", name := "catOn", desc := "(I)I" } : Jvm.MethodName)) ∈ lw_all := lw_g (lw_at lw_m4 205 rfl) rfl
theorem q1041 : (Jvm.Cond.methodLink "RooftopCats$Roof" (129 : Nat) ({ cls := "RooftopCats$Roof", name := "isTruce", desc := "(II)Z" } : Jvm.MethodName)) ∈ lw_all := lw_g (lw_at lw_m4 206 rfl) rfl
theorem q1042 : (Jvm.Cond.instanceMethod ({ cls := "RooftopCats$Roof", name := "isTruce", desc := "(II)Z" } : Jvm.MethodName)) ∈ lw_all := lw_g (lw_at lw_m4 207 rfl) rfl
theorem q1043 : (Jvm.Cond.selects "RooftopCats$Roof" ({ cls := "RooftopCats$Roof", name := "isTruce", desc := "(II)Z" } : Jvm.MethodName) ({ cls := "RooftopCats$Roof", name := "isTruce", desc := "(II)Z" } : Jvm.MethodName)) ∈ lw_all := lw_g (lw_at lw_m4 208 rfl) rfl
theorem q1044 : (Jvm.Cond.code ({ cls := "RooftopCats$Roof", name := "isTruce", desc := "(II)Z" } : Jvm.MethodName) prog_7_method_11_code (3 : Nat) (Option.some Jvm.ClassFile.FieldType.boolean)) ∈ lw_all := lw_g (lw_at lw_m4 209 rfl) rfl
theorem q1045 : (Jvm.Cond.methodLink "RooftopCats$Roof" (126 : Nat) ({ cls := "RooftopCats$Roof", name := "truceNights", desc := "(II)I" } : Jvm.MethodName)) ∈ lw_all := lw_g (lw_at lw_m4 210 rfl) rfl
theorem q1046 : (Jvm.Cond.instanceMethod ({ cls := "RooftopCats$Roof", name := "truceNights", desc := "(II)I" } : Jvm.MethodName)) ∈ lw_all := lw_g (lw_at lw_m4 211 rfl) rfl
theorem q1047 : (Jvm.Cond.selects "RooftopCats$Roof" ({ cls := "RooftopCats$Roof", name := "truceNights", desc := "(II)I" } : Jvm.MethodName) ({ cls := "RooftopCats$Roof", name := "truceNights", desc := "(II)I" } : Jvm.MethodName)) ∈ lw_all := lw_g (lw_at lw_m4 212 rfl) rfl
theorem q1048 : (Jvm.Cond.code ({ cls := "RooftopCats$Roof", name := "truceNights", desc := "(II)I" } : Jvm.MethodName) prog_7_method_10_code (3 : Nat) (Option.some Jvm.ClassFile.FieldType.int)) ∈ lw_all := lw_g (lw_at lw_m4 213 rfl) rfl
theorem q1049 : (Jvm.Cond.methodLink "RooftopCats$Roof" (120 : Nat) ({ cls := "java/lang/Math", name := "max", desc := "(II)I" } : Jvm.MethodName)) ∈ lw_all := lw_g (lw_at lw_m4 214 rfl) rfl
theorem q1051 : (Jvm.Cond.instanceMethod ({ cls := "RooftopCats$Roof", name := "step", desc := "(II)I" } : Jvm.MethodName)) ∈ lw_all := lw_g (lw_at lw_m4 216 rfl) rfl
theorem q1052 : (Jvm.Cond.selects "RooftopCats$Roof" ({ cls := "RooftopCats$Roof", name := "step", desc := "(II)I" } : Jvm.MethodName) ({ cls := "RooftopCats$Roof", name := "step", desc := "(II)I" } : Jvm.MethodName)) ∈ lw_all := lw_g (lw_at lw_m4 217 rfl) rfl
theorem q1053 : (Jvm.Cond.code ({ cls := "RooftopCats$Roof", name := "step", desc := "(II)I" } : Jvm.MethodName) prog_7_method_16_code (4 : Nat) (Option.some Jvm.ClassFile.FieldType.int)) ∈ lw_all := lw_g (lw_at lw_m4 218 rfl) rfl
theorem q1059 : (Jvm.Cond.instanceMethod ({ cls := "RooftopCats$Roof", name := "judgeChase", desc := "(II)I" } : Jvm.MethodName)) ∈ lw_all := lw_g (lw_at lw_m4 224 rfl) rfl
theorem q1060 : (Jvm.Cond.selects "RooftopCats$Roof" ({ cls := "RooftopCats$Roof", name := "judgeChase", desc := "(II)I" } : Jvm.MethodName) ({ cls := "RooftopCats$Roof", name := "judgeChase", desc := "(II)I" } : Jvm.MethodName)) ∈ lw_all := lw_g (lw_at lw_m4 225 rfl) rfl
theorem q1061 : (Jvm.Cond.code ({ cls := "RooftopCats$Roof", name := "judgeChase", desc := "(II)I" } : Jvm.MethodName) prog_7_method_25_code (3 : Nat) (Option.some Jvm.ClassFile.FieldType.int)) ∈ lw_all := lw_g (lw_at lw_m4 226 rfl) rfl
theorem q1062 : (Jvm.Cond.methodLink "RooftopCats$Roof" (170 : Nat) ({ cls := "RooftopCats$Roof", name := "isNear", desc := "(LRooftopCats$Cat;LRooftopCats$Cat;)Z" } : Jvm.MethodName)) ∈ lw_all := lw_g (lw_at lw_m4 227 rfl) rfl
theorem q1063 : (Jvm.Cond.instanceMethod ({ cls := "RooftopCats$Roof", name := "isNear", desc := "(LRooftopCats$Cat;LRooftopCats$Cat;)Z" } : Jvm.MethodName)) ∈ lw_all := lw_g (lw_at lw_m4 228 rfl) rfl
theorem q1064 : (Jvm.Cond.selects "RooftopCats$Roof" ({ cls := "RooftopCats$Roof", name := "isNear", desc := "(LRooftopCats$Cat;LRooftopCats$Cat;)Z" } : Jvm.MethodName) ({ cls := "RooftopCats$Roof", name := "isNear", desc := "(LRooftopCats$Cat;LRooftopCats$Cat;)Z" } : Jvm.MethodName)) ∈ lw_all := lw_g (lw_at lw_m4 229 rfl) rfl
theorem q1065 : (Jvm.Cond.code ({ cls := "RooftopCats$Roof", name := "isNear", desc := "(LRooftopCats$Cat;LRooftopCats$Cat;)Z" } : Jvm.MethodName) prog_7_method_24_code (5 : Nat) (Option.some Jvm.ClassFile.FieldType.boolean)) ∈ lw_all := lw_g (lw_at lw_m4 230 rfl) rfl
theorem q1066 : (Jvm.Cond.methodLink "RooftopCats$Roof" (167 : Nat) ({ cls := "RooftopCats$Gutter", name := "connects", desc := "(II)Z" } : Jvm.MethodName)) ∈ lw_all := lw_g (lw_at lw_m4 231 rfl) rfl
theorem q1071 : (Jvm.Cond.methodLink "RooftopCats$Roof" (174 : Nat) ({ cls := "RooftopCats$Roof", name := "power", desc := "(I)I" } : Jvm.MethodName)) ∈ lw_all := lw_g (lw_at lw_m4 236 rfl) rfl
theorem q1072 : (Jvm.Cond.instanceMethod ({ cls := "RooftopCats$Roof", name := "power", desc := "(I)I" } : Jvm.MethodName)) ∈ lw_all := lw_g (lw_at lw_m4 237 rfl) rfl
theorem q1073 : (Jvm.Cond.selects "RooftopCats$Roof" ({ cls := "RooftopCats$Roof", name := "power", desc := "(I)I" } : Jvm.MethodName) ({ cls := "RooftopCats$Roof", name := "power", desc := "(I)I" } : Jvm.MethodName)) ∈ lw_all := lw_g (lw_at lw_m4 238 rfl) rfl
theorem q1074 : (Jvm.Cond.code ({ cls := "RooftopCats$Roof", name := "power", desc := "(I)I" } : Jvm.MethodName) prog_7_method_8_code (2 : Nat) (Option.some Jvm.ClassFile.FieldType.int)) ∈ lw_all := lw_g (lw_at lw_m4 239 rfl) rfl
theorem q1075 : (Jvm.Cond.methodLink "RooftopCats$Roof" (110 : Nat) ({ cls := "RooftopCats$Roof", name := "isHome", desc := "(I)Z" } : Jvm.MethodName)) ∈ lw_all := lw_g (lw_at lw_m5 0 rfl) rfl
theorem q1076 : (Jvm.Cond.instanceMethod ({ cls := "RooftopCats$Roof", name := "isHome", desc := "(I)Z" } : Jvm.MethodName)) ∈ lw_all := lw_g (lw_at lw_m5 1 rfl) rfl
theorem q1077 : (Jvm.Cond.selects "RooftopCats$Roof" ({ cls := "RooftopCats$Roof", name := "isHome", desc := "(I)Z" } : Jvm.MethodName) ({ cls := "RooftopCats$Roof", name := "isHome", desc := "(I)Z" } : Jvm.MethodName)) ∈ lw_all := lw_g (lw_at lw_m5 2 rfl) rfl
theorem q1078 : (Jvm.Cond.code ({ cls := "RooftopCats$Roof", name := "isHome", desc := "(I)Z" } : Jvm.MethodName) prog_7_method_7_code (2 : Nat) (Option.some Jvm.ClassFile.FieldType.boolean)) ∈ lw_all := lw_g (lw_at lw_m5 3 rfl) rfl
theorem q1080 : (Jvm.Cond.instanceMethod ({ cls := "RooftopCats$Roof", name := "chase", desc := "(II)Z" } : Jvm.MethodName)) ∈ lw_all := lw_g (lw_at lw_m5 5 rfl) rfl
theorem q1081 : (Jvm.Cond.selects "RooftopCats$Roof" ({ cls := "RooftopCats$Roof", name := "chase", desc := "(II)Z" } : Jvm.MethodName) ({ cls := "RooftopCats$Roof", name := "chase", desc := "(II)Z" } : Jvm.MethodName)) ∈ lw_all := lw_g (lw_at lw_m5 6 rfl) rfl
theorem q1082 : (Jvm.Cond.code ({ cls := "RooftopCats$Roof", name := "chase", desc := "(II)Z" } : Jvm.MethodName) prog_7_method_26_code (6 : Nat) (Option.some Jvm.ClassFile.FieldType.boolean)) ∈ lw_all := lw_g (lw_at lw_m5 7 rfl) rfl
theorem q1083 : (Jvm.Cond.methodLink "RooftopCats$Roof" (177 : Nat) ({ cls := "RooftopCats$Cat", name := "get", desc := "(I)I" } : Jvm.MethodName)) ∈ lw_all := lw_g (lw_at lw_m5 8 rfl) rfl
theorem q1089 : (Jvm.Cond.instanceMethod ({ cls := "RooftopCats$Roof", name := "canBuy", desc := "(III)Z" } : Jvm.MethodName)) ∈ lw_all := lw_g (lw_at lw_m5 14 rfl) rfl
theorem q1090 : (Jvm.Cond.selects "RooftopCats$Roof" ({ cls := "RooftopCats$Roof", name := "canBuy", desc := "(III)Z" } : Jvm.MethodName) ({ cls := "RooftopCats$Roof", name := "canBuy", desc := "(III)Z" } : Jvm.MethodName)) ∈ lw_all := lw_g (lw_at lw_m5 15 rfl) rfl
theorem q1091 : (Jvm.Cond.code ({ cls := "RooftopCats$Roof", name := "canBuy", desc := "(III)Z" } : Jvm.MethodName) prog_7_method_12_code (4 : Nat) (Option.some Jvm.ClassFile.FieldType.boolean)) ∈ lw_all := lw_g (lw_at lw_m5 16 rfl) rfl
theorem q1093 : (Jvm.Cond.instanceMethod ({ cls := "RooftopCats$Roof", name := "buyTruce", desc := "(IIII)I" } : Jvm.MethodName)) ∈ lw_all := lw_g (lw_at lw_m5 18 rfl) rfl
theorem q1094 : (Jvm.Cond.selects "RooftopCats$Roof" ({ cls := "RooftopCats$Roof", name := "buyTruce", desc := "(IIII)I" } : Jvm.MethodName) ({ cls := "RooftopCats$Roof", name := "buyTruce", desc := "(IIII)I" } : Jvm.MethodName)) ∈ lw_all := lw_g (lw_at lw_m5 19 rfl) rfl
theorem q1095 : (Jvm.Cond.code ({ cls := "RooftopCats$Roof", name := "buyTruce", desc := "(IIII)I" } : Jvm.MethodName) prog_7_method_13_code (5 : Nat) (Option.some Jvm.ClassFile.FieldType.int)) ∈ lw_all := lw_g (lw_at lw_m5 20 rfl) rfl
theorem q1097 : (Jvm.Cond.instanceMethod ({ cls := "RooftopCats$Roof", name := "canNominate", desc := "()Z" } : Jvm.MethodName)) ∈ lw_all := lw_g (lw_at lw_m5 22 rfl) rfl
theorem q1098 : (Jvm.Cond.selects "RooftopCats$Roof" ({ cls := "RooftopCats$Roof", name := "canNominate", desc := "()Z" } : Jvm.MethodName) ({ cls := "RooftopCats$Roof", name := "canNominate", desc := "()Z" } : Jvm.MethodName)) ∈ lw_all := lw_g (lw_at lw_m5 23 rfl) rfl
theorem q1099 : (Jvm.Cond.code ({ cls := "RooftopCats$Roof", name := "canNominate", desc := "()Z" } : Jvm.MethodName) prog_7_method_27_code (1 : Nat) (Option.some Jvm.ClassFile.FieldType.boolean)) ∈ lw_all := lw_g (lw_at lw_m5 24 rfl) rfl
theorem q1100 : (Jvm.Cond.interfaceEntry "RooftopCats$Roof" (179 : Nat)) ∈ lw_tbl := lw_at lw_m5 25 rfl
theorem q1101 : (Jvm.Cond.methodLink "RooftopCats$Roof" (179 : Nat) ({ cls := "java/util/List", name := "isEmpty", desc := "()Z" } : Jvm.MethodName)) ∈ lw_all := lw_g (lw_at lw_m5 26 rfl) rfl
theorem q1110 : (Jvm.Cond.instanceMethod ({ cls := "RooftopCats$Roof", name := "nominate", desc := "(II)I" } : Jvm.MethodName)) ∈ lw_all := lw_g (lw_at lw_m5 35 rfl) rfl
theorem q1111 : (Jvm.Cond.selects "RooftopCats$Roof" ({ cls := "RooftopCats$Roof", name := "nominate", desc := "(II)I" } : Jvm.MethodName) ({ cls := "RooftopCats$Roof", name := "nominate", desc := "(II)I" } : Jvm.MethodName)) ∈ lw_all := lw_g (lw_at lw_m5 36 rfl) rfl
theorem q1112 : (Jvm.Cond.code ({ cls := "RooftopCats$Roof", name := "nominate", desc := "(II)I" } : Jvm.MethodName) prog_7_method_28_code (3 : Nat) (Option.some Jvm.ClassFile.FieldType.int)) ∈ lw_all := lw_g (lw_at lw_m5 37 rfl) rfl
theorem q1113 : (Jvm.Cond.classLink "RooftopCats$Roof" (182 : Nat) "RooftopCats$Kitten") ∈ lw_all := lw_g (lw_at lw_m5 38 rfl) rfl
theorem q1115 : (Jvm.Cond.methodLinkNest "RooftopCats$Roof" (184 : Nat) ({ cls := "RooftopCats$Kitten", name := "<init>", desc := "(IIII)V" } : Jvm.MethodName) "RooftopCats") ∈ lw_tbl := lw_at lw_m5 40 rfl
theorem q1133 : (Jvm.Cond.instanceMethod ({ cls := "RooftopCats$Roof", name := "passNights", desc := "(I)I" } : Jvm.MethodName)) ∈ lw_all := lw_g (lw_at lw_m5 58 rfl) rfl
theorem q1134 : (Jvm.Cond.selects "RooftopCats$Roof" ({ cls := "RooftopCats$Roof", name := "passNights", desc := "(I)I" } : Jvm.MethodName) ({ cls := "RooftopCats$Roof", name := "passNights", desc := "(I)I" } : Jvm.MethodName)) ∈ lw_all := lw_g (lw_at lw_m5 59 rfl) rfl
theorem q1135 : (Jvm.Cond.code ({ cls := "RooftopCats$Roof", name := "passNights", desc := "(I)I" } : Jvm.MethodName) prog_7_method_37_code (3 : Nat) (Option.some Jvm.ClassFile.FieldType.int)) ∈ lw_all := lw_g (lw_at lw_m5 60 rfl) rfl
theorem q1136 : (Jvm.Cond.methodLink "RooftopCats$Roof" (229 : Nat) ({ cls := "RooftopCats$Roof", name := "passNight", desc := "()V" } : Jvm.MethodName)) ∈ lw_all := lw_g (lw_at lw_m5 61 rfl) rfl
theorem q1137 : (Jvm.Cond.instanceMethod ({ cls := "RooftopCats$Roof", name := "passNight", desc := "()V" } : Jvm.MethodName)) ∈ lw_all := lw_g (lw_at lw_m5 62 rfl) rfl
theorem q1138 : (Jvm.Cond.selects "RooftopCats$Roof" ({ cls := "RooftopCats$Roof", name := "passNight", desc := "()V" } : Jvm.MethodName) ({ cls := "RooftopCats$Roof", name := "passNight", desc := "()V" } : Jvm.MethodName)) ∈ lw_all := lw_g (lw_at lw_m5 63 rfl) rfl
theorem q1139 : (Jvm.Cond.code ({ cls := "RooftopCats$Roof", name := "passNight", desc := "()V" } : Jvm.MethodName) prog_7_method_35_code (3 : Nat) (Option.none : Option Jvm.ClassFile.FieldType)) ∈ lw_all := lw_g (lw_at lw_m5 64 rfl) rfl
theorem q1140 : (Jvm.Cond.methodLink "RooftopCats$Roof" (219 : Nat) ({ cls := "RooftopCats$Cat", name := "eat", desc := "()I" } : Jvm.MethodName)) ∈ lw_all := lw_g (lw_at lw_m5 65 rfl) rfl
theorem q1144 : (Jvm.Cond.methodLink "RooftopCats$Roof" (222 : Nat) ({ cls := "RooftopCats$Roof", name := "largestChoir", desc := "()I" } : Jvm.MethodName)) ∈ lw_all := lw_g (lw_at lw_m5 69 rfl) rfl
theorem q1145 : (Jvm.Cond.instanceMethod ({ cls := "RooftopCats$Roof", name := "largestChoir", desc := "()I" } : Jvm.MethodName)) ∈ lw_all := lw_g (lw_at lw_m5 70 rfl) rfl
theorem q1146 : (Jvm.Cond.selects "RooftopCats$Roof" ({ cls := "RooftopCats$Roof", name := "largestChoir", desc := "()I" } : Jvm.MethodName) ({ cls := "RooftopCats$Roof", name := "largestChoir", desc := "()I" } : Jvm.MethodName)) ∈ lw_all := lw_g (lw_at lw_m5 71 rfl) rfl
theorem q1147 : (Jvm.Cond.code ({ cls := "RooftopCats$Roof", name := "largestChoir", desc := "()I" } : Jvm.MethodName) prog_7_method_34_code (4 : Nat) (Option.some Jvm.ClassFile.FieldType.int)) ∈ lw_all := lw_g (lw_at lw_m5 72 rfl) rfl
theorem q1148 : (Jvm.Cond.methodLink "RooftopCats$Roof" (213 : Nat) ({ cls := "RooftopCats$Roof", name := "choir", desc := "(I)I" } : Jvm.MethodName)) ∈ lw_all := lw_g (lw_at lw_m5 73 rfl) rfl
theorem q1149 : (Jvm.Cond.instanceMethod ({ cls := "RooftopCats$Roof", name := "choir", desc := "(I)I" } : Jvm.MethodName)) ∈ lw_all := lw_g (lw_at lw_m5 74 rfl) rfl
theorem q1150 : (Jvm.Cond.selects "RooftopCats$Roof" ({ cls := "RooftopCats$Roof", name := "choir", desc := "(I)I" } : Jvm.MethodName) ({ cls := "RooftopCats$Roof", name := "choir", desc := "(I)I" } : Jvm.MethodName)) ∈ lw_all := lw_g (lw_at lw_m5 75 rfl) rfl
theorem q1151 : (Jvm.Cond.code ({ cls := "RooftopCats$Roof", name := "choir", desc := "(I)I" } : Jvm.MethodName) prog_7_method_32_code (6 : Nat) (Option.some Jvm.ClassFile.FieldType.int)) ∈ lw_all := lw_g (lw_at lw_m5 76 rfl) rfl
theorem q1152 : (Jvm.Cond.methodLink "RooftopCats$Roof" (210 : Nat) ({ cls := "RooftopCats$Roof", name := "singTogether", desc := "(II)Z" } : Jvm.MethodName)) ∈ lw_all := lw_g (lw_at lw_m5 77 rfl) rfl
theorem q1153 : (Jvm.Cond.instanceMethod ({ cls := "RooftopCats$Roof", name := "singTogether", desc := "(II)Z" } : Jvm.MethodName)) ∈ lw_all := lw_g (lw_at lw_m5 78 rfl) rfl
theorem q1154 : (Jvm.Cond.selects "RooftopCats$Roof" ({ cls := "RooftopCats$Roof", name := "singTogether", desc := "(II)Z" } : Jvm.MethodName) ({ cls := "RooftopCats$Roof", name := "singTogether", desc := "(II)Z" } : Jvm.MethodName)) ∈ lw_all := lw_g (lw_at lw_m5 79 rfl) rfl
theorem q1155 : (Jvm.Cond.code ({ cls := "RooftopCats$Roof", name := "singTogether", desc := "(II)Z" } : Jvm.MethodName) prog_7_method_31_code (4 : Nat) (Option.some Jvm.ClassFile.FieldType.boolean)) ∈ lw_all := lw_g (lw_at lw_m5 80 rfl) rfl
theorem q1156 : (Jvm.Cond.methodLink "RooftopCats$Roof" (225 : Nat) ({ cls := "RooftopCats$Roof", name := "sing", desc := "(I)V" } : Jvm.MethodName)) ∈ lw_all := lw_g (lw_at lw_m5 81 rfl) rfl
theorem q1157 : (Jvm.Cond.privateMethod ({ cls := "RooftopCats$Roof", name := "sing", desc := "(I)V" } : Jvm.MethodName)) ∈ lw_tbl := lw_at lw_m5 82 rfl
theorem q1158 : (Jvm.Cond.instanceMethod ({ cls := "RooftopCats$Roof", name := "sing", desc := "(I)V" } : Jvm.MethodName)) ∈ lw_all := lw_g (lw_at lw_m5 83 rfl) rfl
theorem q1159 : (Jvm.Cond.code ({ cls := "RooftopCats$Roof", name := "sing", desc := "(I)V" } : Jvm.MethodName) prog_7_method_36_code (3 : Nat) (Option.none : Option Jvm.ClassFile.FieldType)) ∈ lw_all := lw_g (lw_at lw_m5 84 rfl) rfl
theorem q1161 : (Jvm.Cond.instanceMethod ({ cls := "RooftopCats$Roof", name := "canVote", desc := "(I)Z" } : Jvm.MethodName)) ∈ lw_all := lw_g (lw_at lw_m5 86 rfl) rfl
theorem q1162 : (Jvm.Cond.selects "RooftopCats$Roof" ({ cls := "RooftopCats$Roof", name := "canVote", desc := "(I)Z" } : Jvm.MethodName) ({ cls := "RooftopCats$Roof", name := "canVote", desc := "(I)Z" } : Jvm.MethodName)) ∈ lw_all := lw_g (lw_at lw_m5 87 rfl) rfl
theorem q1163 : (Jvm.Cond.code ({ cls := "RooftopCats$Roof", name := "canVote", desc := "(I)Z" } : Jvm.MethodName) prog_7_method_29_code (2 : Nat) (Option.some Jvm.ClassFile.FieldType.boolean)) ∈ lw_all := lw_g (lw_at lw_m5 88 rfl) rfl
theorem q1164 : (Jvm.Cond.methodLink "RooftopCats$Roof" (187 : Nat) ({ cls := "RooftopCats$Kitten", name := "hasVote", desc := "(I)Z" } : Jvm.MethodName)) ∈ lw_all := lw_g (lw_at lw_m5 89 rfl) rfl
theorem q1169 : (Jvm.Cond.instanceMethod ({ cls := "RooftopCats$Roof", name := "vote", desc := "(IZ)Z" } : Jvm.MethodName)) ∈ lw_all := lw_g (lw_at lw_m5 94 rfl) rfl
theorem q1170 : (Jvm.Cond.selects "RooftopCats$Roof" ({ cls := "RooftopCats$Roof", name := "vote", desc := "(IZ)Z" } : Jvm.MethodName) ({ cls := "RooftopCats$Roof", name := "vote", desc := "(IZ)Z" } : Jvm.MethodName)) ∈ lw_all := lw_g (lw_at lw_m5 95 rfl) rfl
theorem q1171 : (Jvm.Cond.code ({ cls := "RooftopCats$Roof", name := "vote", desc := "(IZ)Z" } : Jvm.MethodName) prog_7_method_30_code (7 : Nat) (Option.some Jvm.ClassFile.FieldType.boolean)) ∈ lw_all := lw_g (lw_at lw_m5 96 rfl) rfl
theorem q1172 : (Jvm.Cond.methodLink "RooftopCats$Roof" (190 : Nat) ({ cls := "RooftopCats$Kitten", name := "with", desc := "(IZ)LRooftopCats$Kitten;" } : Jvm.MethodName)) ∈ lw_all := lw_g (lw_at lw_m5 97 rfl) rfl
theorem q1178 : (Jvm.Cond.methodLink "RooftopCats$Roof" (194 : Nat) ({ cls := "RooftopCats$Kitten", name := "yes", desc := "()I" } : Jvm.MethodName)) ∈ lw_all := lw_g (lw_at lw_m5 103 rfl) rfl
theorem q1182 : (Jvm.Cond.methodLink "RooftopCats$Roof" (197 : Nat) ({ cls := "RooftopCats$Kitten", name := "no", desc := "()I" } : Jvm.MethodName)) ∈ lw_all := lw_g (lw_at lw_m5 107 rfl) rfl
theorem q1186 : (Jvm.Cond.methodLink "RooftopCats$Roof" (200 : Nat) ({ cls := "RooftopCats$Roof", name := "warmestFree", desc := "()I" } : Jvm.MethodName)) ∈ lw_all := lw_g (lw_at lw_m5 111 rfl) rfl
theorem q1187 : (Jvm.Cond.instanceMethod ({ cls := "RooftopCats$Roof", name := "warmestFree", desc := "()I" } : Jvm.MethodName)) ∈ lw_all := lw_g (lw_at lw_m5 112 rfl) rfl
theorem q1188 : (Jvm.Cond.selects "RooftopCats$Roof" ({ cls := "RooftopCats$Roof", name := "warmestFree", desc := "()I" } : Jvm.MethodName) ({ cls := "RooftopCats$Roof", name := "warmestFree", desc := "()I" } : Jvm.MethodName)) ∈ lw_all := lw_g (lw_at lw_m5 113 rfl) rfl
theorem q1189 : (Jvm.Cond.code ({ cls := "RooftopCats$Roof", name := "warmestFree", desc := "()I" } : Jvm.MethodName) prog_7_method_9_code (3 : Nat) (Option.some Jvm.ClassFile.FieldType.int)) ∈ lw_all := lw_g (lw_at lw_m5 114 rfl) rfl
theorem q1190 : (Jvm.Cond.methodLink "RooftopCats$Roof" (203 : Nat) ({ cls := "RooftopCats$Kitten", name := "girth", desc := "()I" } : Jvm.MethodName)) ∈ lw_all := lw_g (lw_at lw_m5 115 rfl) rfl
theorem q1194 : (Jvm.Cond.methodLink "RooftopCats$Roof" (205 : Nat) ({ cls := "RooftopCats$Kitten", name := "strength", desc := "()I" } : Jvm.MethodName)) ∈ lw_all := lw_g (lw_at lw_m5 119 rfl) rfl
theorem q1198 : (Jvm.Cond.methodLink "RooftopCats$Roof" (207 : Nat) ({ cls := "RooftopCats$Cat", name := "<init>", desc := "(III)V" } : Jvm.MethodName)) ∈ lw_all := lw_g (lw_at lw_m5 123 rfl) rfl
theorem q1199 : (Jvm.Cond.interfaceEntry "RooftopCats$Roof" (51 : Nat)) ∈ lw_tbl := lw_at lw_m5 124 rfl
theorem q1200 : (Jvm.Cond.methodLink "RooftopCats$Roof" (51 : Nat) ({ cls := "java/util/List", name := "add", desc := "(Ljava/lang/Object;)Z" } : Jvm.MethodName)) ∈ lw_all := lw_g (lw_at lw_m5 125 rfl) rfl
theorem q1399 : (Jvm.Cond.instanceMethod ({ cls := "RooftopCats$Roof", name := "copy", desc := "()LRooftopCats$Roof;" } : Jvm.MethodName)) ∈ lw_all := lw_g (lw_at lw_m6 84 rfl) rfl
theorem q1400 : (Jvm.Cond.selects "RooftopCats$Roof" ({ cls := "RooftopCats$Roof", name := "copy", desc := "()LRooftopCats$Roof;" } : Jvm.MethodName) ({ cls := "RooftopCats$Roof", name := "copy", desc := "()LRooftopCats$Roof;" } : Jvm.MethodName)) ∈ lw_all := lw_g (lw_at lw_m6 85 rfl) rfl
theorem q1401 : (Jvm.Cond.code ({ cls := "RooftopCats$Roof", name := "copy", desc := "()LRooftopCats$Roof;" } : Jvm.MethodName) prog_7_method_2_code (4 : Nat) (Option.some (Jvm.ClassFile.FieldType.object "RooftopCats$Roof"))) ∈ lw_all := lw_g (lw_at lw_m6 86 rfl) rfl
theorem q1402 : (Jvm.Cond.classLink "RooftopCats$Roof" (13 : Nat) "RooftopCats$Roof") ∈ lw_all := lw_g (lw_at lw_m6 87 rfl) rfl
theorem q1403 : (Jvm.Cond.methodLink "RooftopCats$Roof" (28 : Nat) ({ cls := "RooftopCats$Roof", name := "<init>", desc := "()V" } : Jvm.MethodName)) ∈ lw_all := lw_g (lw_at lw_m6 88 rfl) rfl
theorem q1404 : (Jvm.Cond.interfaceEntry "RooftopCats$Roof" (29 : Nat)) ∈ lw_tbl := lw_at lw_m6 89 rfl
theorem q1405 : (Jvm.Cond.methodLink "RooftopCats$Roof" (29 : Nat) ({ cls := "java/util/List", name := "iterator", desc := "()Ljava/util/Iterator;" } : Jvm.MethodName)) ∈ lw_all := lw_g (lw_at lw_m6 90 rfl) rfl
theorem q1432 : (Jvm.Cond.interfaceEntry "RooftopCats$Roof" (35 : Nat)) ∈ lw_tbl := lw_at lw_m6 117 rfl
theorem q1433 : (Jvm.Cond.methodLink "RooftopCats$Roof" (35 : Nat) ({ cls := "java/util/Iterator", name := "hasNext", desc := "()Z" } : Jvm.MethodName)) ∈ lw_all := lw_g (lw_at lw_m6 118 rfl) rfl
theorem q1442 : (Jvm.Cond.interfaceEntry "RooftopCats$Roof" (41 : Nat)) ∈ lw_tbl := lw_at lw_m6 127 rfl
theorem q1443 : (Jvm.Cond.methodLink "RooftopCats$Roof" (41 : Nat) ({ cls := "java/util/Iterator", name := "next", desc := "()Ljava/lang/Object;" } : Jvm.MethodName)) ∈ lw_all := lw_g (lw_at lw_m6 128 rfl) rfl
theorem q1457 : (Jvm.Cond.methodLink "RooftopCats$Roof" (47 : Nat) ({ cls := "RooftopCats$Chimney", name := "copy", desc := "()LRooftopCats$Chimney;" } : Jvm.MethodName)) ∈ lw_all := lw_g (lw_at lw_m6 142 rfl) rfl
theorem q1463 : (Jvm.Cond.methodLink "RooftopCats$Roof" (59 : Nat) ({ cls := "RooftopCats$Cat", name := "copy", desc := "()LRooftopCats$Cat;" } : Jvm.MethodName)) ∈ lw_all := lw_g (lw_at lw_m6 148 rfl) rfl
theorem q1469 : (Jvm.Cond.methodLink "RooftopCats$Roof" (62 : Nat) ({ cls := "java/lang/System", name := "arraycopy", desc := "(Ljava/lang/Object;ILjava/lang/Object;II)V" } : Jvm.MethodName)) ∈ lw_all := lw_g (lw_at lw_m6 154 rfl) rfl
theorem q1553 : (Jvm.Cond.instanceMethod ({ cls := "RooftopCats$Roof", name := "choirCount", desc := "()I" } : Jvm.MethodName)) ∈ lw_all := lw_g (lw_at lw_m6 238 rfl) rfl
theorem q1554 : (Jvm.Cond.selects "RooftopCats$Roof" ({ cls := "RooftopCats$Roof", name := "choirCount", desc := "()I" } : Jvm.MethodName) ({ cls := "RooftopCats$Roof", name := "choirCount", desc := "()I" } : Jvm.MethodName)) ∈ lw_all := lw_g (lw_at lw_m6 239 rfl) rfl
theorem q1555 : (Jvm.Cond.code ({ cls := "RooftopCats$Roof", name := "choirCount", desc := "()I" } : Jvm.MethodName) prog_7_method_33_code (3 : Nat) (Option.some Jvm.ClassFile.FieldType.int)) ∈ lw_all := lw_g (lw_at lw_m7 0 rfl) rfl
theorem q1556 : (Jvm.Cond.methodLink "RooftopCats$Roof" (216 : Nat) ({ cls := "java/lang/Integer", name := "numberOfTrailingZeros", desc := "(I)I" } : Jvm.MethodName)) ∈ lw_all := lw_g (lw_at lw_m7 1 rfl) rfl
theorem q1581 : (Jvm.Cond.instanceMethod ({ cls := "RooftopCats$Roof", name := "totalFish", desc := "()I" } : Jvm.MethodName)) ∈ lw_all := lw_g (lw_at lw_m7 26 rfl) rfl
theorem q1582 : (Jvm.Cond.selects "RooftopCats$Roof" ({ cls := "RooftopCats$Roof", name := "totalFish", desc := "()I" } : Jvm.MethodName) ({ cls := "RooftopCats$Roof", name := "totalFish", desc := "()I" } : Jvm.MethodName)) ∈ lw_all := lw_g (lw_at lw_m7 27 rfl) rfl
theorem q1583 : (Jvm.Cond.code ({ cls := "RooftopCats$Roof", name := "totalFish", desc := "()I" } : Jvm.MethodName) prog_7_method_38_code (4 : Nat) (Option.some Jvm.ClassFile.FieldType.int)) ∈ lw_all := lw_g (lw_at lw_m7 28 rfl) rfl
theorem q1869 : (Jvm.Cond.instanceMethod ({ cls := "RooftopCats$Roof", name := "widestWay", desc := "(II)I" } : Jvm.MethodName)) ∈ lw_all := lw_g (lw_at lw_m8 74 rfl) rfl
theorem q1870 : (Jvm.Cond.selects "RooftopCats$Roof" ({ cls := "RooftopCats$Roof", name := "widestWay", desc := "(II)I" } : Jvm.MethodName) ({ cls := "RooftopCats$Roof", name := "widestWay", desc := "(II)I" } : Jvm.MethodName)) ∈ lw_all := lw_g (lw_at lw_m8 75 rfl) rfl
theorem q1871 : (Jvm.Cond.code ({ cls := "RooftopCats$Roof", name := "widestWay", desc := "(II)I" } : Jvm.MethodName) prog_7_method_21_code (4 : Nat) (Option.some Jvm.ClassFile.FieldType.int)) ∈ lw_all := lw_g (lw_at lw_m8 76 rfl) rfl
theorem q1872 : (Jvm.Cond.methodLink "RooftopCats$Roof" (161 : Nat) ({ cls := "RooftopCats$Roof", name := "connected", desc := "(II)I" } : Jvm.MethodName)) ∈ lw_all := lw_g (lw_at lw_m8 77 rfl) rfl
theorem q1873 : (Jvm.Cond.instanceMethod ({ cls := "RooftopCats$Roof", name := "connected", desc := "(II)I" } : Jvm.MethodName)) ∈ lw_all := lw_g (lw_at lw_m8 78 rfl) rfl
theorem q1874 : (Jvm.Cond.selects "RooftopCats$Roof" ({ cls := "RooftopCats$Roof", name := "connected", desc := "(II)I" } : Jvm.MethodName) ({ cls := "RooftopCats$Roof", name := "connected", desc := "(II)I" } : Jvm.MethodName)) ∈ lw_all := lw_g (lw_at lw_m8 79 rfl) rfl
theorem q1875 : (Jvm.Cond.code ({ cls := "RooftopCats$Roof", name := "connected", desc := "(II)I" } : Jvm.MethodName) prog_7_method_20_code (8 : Nat) (Option.some Jvm.ClassFile.FieldType.int)) ∈ lw_all := lw_g (lw_at lw_m8 80 rfl) rfl
theorem q1876 : (Jvm.Cond.methodLink "RooftopCats$Roof" (155 : Nat) ({ cls := "RooftopCats$Gutter", name := "one", desc := "()I" } : Jvm.MethodName)) ∈ lw_all := lw_g (lw_at lw_m8 81 rfl) rfl
theorem q1877 : (Jvm.Cond.methodLink "RooftopCats$Roof" (158 : Nat) ({ cls := "RooftopCats$Gutter", name := "other", desc := "()I" } : Jvm.MethodName)) ∈ lw_all := lw_g (lw_at lw_m8 82 rfl) rfl
theorem q1930 : (Jvm.Cond.instanceMethod ({ cls := "RooftopCats$Roof", name := "reachable", desc := "(I)I" } : Jvm.MethodName)) ∈ lw_all := lw_g (lw_at lw_m8 135 rfl) rfl
theorem q1931 : (Jvm.Cond.selects "RooftopCats$Roof" ({ cls := "RooftopCats$Roof", name := "reachable", desc := "(I)I" } : Jvm.MethodName) ({ cls := "RooftopCats$Roof", name := "reachable", desc := "(I)I" } : Jvm.MethodName)) ∈ lw_all := lw_g (lw_at lw_m8 136 rfl) rfl
theorem q1932 : (Jvm.Cond.code ({ cls := "RooftopCats$Roof", name := "reachable", desc := "(I)I" } : Jvm.MethodName) prog_7_method_18_code (4 : Nat) (Option.some Jvm.ClassFile.FieldType.int)) ∈ lw_all := lw_g (lw_at lw_m8 137 rfl) rfl
theorem q1933 : (Jvm.Cond.methodLink "RooftopCats$Roof" (152 : Nat) ({ cls := "RooftopCats$Roof", name := "extended", desc := "(II)I" } : Jvm.MethodName)) ∈ lw_all := lw_g (lw_at lw_m8 138 rfl) rfl
theorem q1934 : (Jvm.Cond.instanceMethod ({ cls := "RooftopCats$Roof", name := "extended", desc := "(II)I" } : Jvm.MethodName)) ∈ lw_all := lw_g (lw_at lw_m8 139 rfl) rfl
theorem q1935 : (Jvm.Cond.selects "RooftopCats$Roof" ({ cls := "RooftopCats$Roof", name := "extended", desc := "(II)I" } : Jvm.MethodName) ({ cls := "RooftopCats$Roof", name := "extended", desc := "(II)I" } : Jvm.MethodName)) ∈ lw_all := lw_g (lw_at lw_m8 140 rfl) rfl
theorem q1936 : (Jvm.Cond.code ({ cls := "RooftopCats$Roof", name := "extended", desc := "(II)I" } : Jvm.MethodName) prog_7_method_17_code (6 : Nat) (Option.some Jvm.ClassFile.FieldType.int)) ∈ lw_all := lw_g (lw_at lw_m8 141 rfl) rfl
theorem q1945 : (Jvm.Cond.instanceMethod ({ cls := "RooftopCats$Roof", name := "stepsTo", desc := "(II)I" } : Jvm.MethodName)) ∈ lw_all := lw_g (lw_at lw_m8 150 rfl) rfl
theorem q1946 : (Jvm.Cond.selects "RooftopCats$Roof" ({ cls := "RooftopCats$Roof", name := "stepsTo", desc := "(II)I" } : Jvm.MethodName) ({ cls := "RooftopCats$Roof", name := "stepsTo", desc := "(II)I" } : Jvm.MethodName)) ∈ lw_all := lw_g (lw_at lw_m8 151 rfl) rfl
theorem q1947 : (Jvm.Cond.code ({ cls := "RooftopCats$Roof", name := "stepsTo", desc := "(II)I" } : Jvm.MethodName) prog_7_method_19_code (5 : Nat) (Option.some Jvm.ClassFile.FieldType.int)) ∈ lw_all := lw_g (lw_at lw_m8 152 rfl) rfl
theorem q2724 : (Jvm.Cond.castable "RooftopCats$Roof" "java/lang/Object") ∈ lw_tbl := lw_at lw_m11 209 rfl
theorem in_X3 : ∀ w ∈ wsX30, w ∈ lw_all := lw_in wsX30 [280, 282, 284, 286, 288, 290, 292, 294] (by decide +kernel) (by decide +kernel)

/-! RooftopCats$ScriptException -/
set_option maxRecDepth 100000
def RX4 : String := "RooftopCats$ScriptException"
def TX4 : u_T := fun k => match k with
  | 0 => ("java/lang/Throwable", "cause", "Ljava/lang/Throwable;", false)
  | 1 => ("java/lang/Throwable", "stackTrace", "[Ljava/lang/StackTraceElement;", false)
  | 2 => ("java/lang/Throwable", "suppressedExceptions", "Ljava/util/List;", false)
  | 3 => ("java/lang/Throwable", "detailMessage", "Ljava/lang/String;", false)
  | 4 => ("java/lang/Throwable", "backtrace", "Ljava/lang/Object;", false)
  | 5 => ("java/lang/Throwable", "depth", "I", false)
  | 6 => ("RooftopCats$ScriptException", "kind", "I", true)
  | _ => ("RooftopCats$ScriptException", "offset", "I", true)
def tyX4 : Nat → FieldType := fun k => match k with
  | 0 => .object "java/lang/Throwable"
  | 1 => .array (.object "java/lang/StackTraceElement")
  | 2 => .object "java/util/List"
  | 3 => .object "java/lang/String"
  | 4 => .object "java/lang/Object"
  | 5 => .int
  | 6 => .int
  | _ => .int
abbrev wsX40 : List Cond := u_ws RX4 TX4 8
theorem nmX4 : ∀ a, a < 8 → ∀ b, b < 8 → a ≠ b → (TX4 a).2.1 ≠ (TX4 b).2.1 := by decide +kernel
theorem tyX4_ok : ∀ k, k < 8 → parseFieldDescriptor (TX4 k).2.2.1 = some (tyX4 k) := by decide +kernel
abbrev cX4_init : ByteArray := prog_8_method_1_code
def yX4_init : MethodName := ⟨RX4, "<init>", "(II)V"⟩
def dkwX4_init_0 : List UInt8 := [42, 183, 0, 1, 42, 27, 181, 0, 7, 42, 28, 181, 0, 13, 177]
abbrev dktX4_init_0 : List UInt8 := dkwX4_init_0 ++ []
theorem dksX4_init_0 : cX4_init.data.toList.drop 0 = dktX4_init_0 := by decide +kernel
theorem dX4_init_0 : decode cX4_init 0 = .ok (.aload_n 0, 1) := dk_42 (dk_at dksX4_init_0 0 rfl rfl)
theorem dX4_init_1 : decode cX4_init 1 = .ok (.invokespecial 1, 3) := dk_183 0 1 (dk_at dksX4_init_0 1 rfl rfl)
theorem dX4_init_4 : decode cX4_init 4 = .ok (.aload_n 0, 1) := dk_42 (dk_at dksX4_init_0 4 rfl rfl)
theorem dX4_init_5 : decode cX4_init 5 = .ok (.iload_n 1, 1) := dk_27 (dk_at dksX4_init_0 5 rfl rfl)
theorem dX4_init_6 : decode cX4_init 6 = .ok (.putfield 7, 3) := dk_181 0 7 (dk_at dksX4_init_0 6 rfl rfl)
theorem dX4_init_9 : decode cX4_init 9 = .ok (.aload_n 0, 1) := dk_42 (dk_at dksX4_init_0 9 rfl rfl)
theorem dX4_init_10 : decode cX4_init 10 = .ok (.iload_n 2, 1) := dk_28 (dk_at dksX4_init_0 10 rfl rfl)
theorem dX4_init_11 : decode cX4_init 11 = .ok (.putfield 13, 3) := dk_181 0 13 (dk_at dksX4_init_0 11 rfl rfl)
theorem dX4_init_14 : decode cX4_init 14 = .ok (.return_, 1) := dk_177 (dk_at dksX4_init_0 14 rfl rfl)
theorem q141 : (Jvm.Cond.initialized "RooftopCats$ScriptException") ∈ lw_all := lw_g (lw_at lw_m1 26 rfl) rfl
theorem q412 : (Jvm.Cond.selects "RooftopCats$ScriptException" ({ cls := "java/lang/Throwable", name := "fillInStackTrace", desc := "()Ljava/lang/Throwable;" } : Jvm.MethodName) ({ cls := "java/lang/Throwable", name := "fillInStackTrace", desc := "()Ljava/lang/Throwable;" } : Jvm.MethodName)) ∈ lw_all := lw_g (lw_at lw_m2 57 rfl) rfl
theorem q700 : (Jvm.Cond.instantiable "RooftopCats$ScriptException" (8 : Nat)) ∈ lw_all := lw_g (lw_at lw_m3 105 rfl) rfl
theorem q701 : (Jvm.Cond.castable "RooftopCats$ScriptException" "RooftopCats$ScriptException") ∈ lw_tbl := lw_at lw_m3 106 rfl
theorem q702 : (Jvm.Cond.selects "RooftopCats$ScriptException" ({ cls := "java/lang/Throwable", name := "fillInStackTrace", desc := "(I)Ljava/lang/Throwable;" } : Jvm.MethodName) ({ cls := "java/lang/Throwable", name := "fillInStackTrace", desc := "(I)Ljava/lang/Throwable;" } : Jvm.MethodName)) ∈ lw_all := lw_g (lw_at lw_m3 107 rfl) rfl
theorem q703 : (Jvm.Cond.lays "RooftopCats$ScriptException" "java/lang/Throwable" "cause" "Ljava/lang/Throwable;") ∈ lw_all := lw_g (lw_at lw_m3 108 rfl) rfl
theorem q704 : (Jvm.Cond.lays "RooftopCats$ScriptException" "java/lang/Throwable" "stackTrace" "[Ljava/lang/StackTraceElement;") ∈ lw_all := lw_g (lw_at lw_m3 109 rfl) rfl
theorem q705 : (Jvm.Cond.lays "RooftopCats$ScriptException" "java/lang/Throwable" "suppressedExceptions" "Ljava/util/List;") ∈ lw_all := lw_g (lw_at lw_m3 110 rfl) rfl
theorem q706 : (Jvm.Cond.lays "RooftopCats$ScriptException" "java/lang/Throwable" "detailMessage" "Ljava/lang/String;") ∈ lw_all := lw_g (lw_at lw_m3 111 rfl) rfl
theorem q707 : (Jvm.Cond.lays "RooftopCats$ScriptException" "java/lang/Throwable" "backtrace" "Ljava/lang/Object;") ∈ lw_all := lw_g (lw_at lw_m3 112 rfl) rfl
theorem q709 : (Jvm.Cond.instanceMethod ({ cls := "RooftopCats$ScriptException", name := "<init>", desc := "(II)V" } : Jvm.MethodName)) ∈ lw_all := lw_g (lw_at lw_m3 114 rfl) rfl
theorem q710 : (Jvm.Cond.code ({ cls := "RooftopCats$ScriptException", name := "<init>", desc := "(II)V" } : Jvm.MethodName) prog_8_method_1_code (3 : Nat) (Option.none : Option Jvm.ClassFile.FieldType)) ∈ lw_all := lw_g (lw_at lw_m3 115 rfl) rfl
theorem q711 : (Jvm.Cond.methodLink "RooftopCats$ScriptException" (1 : Nat) ({ cls := "java/lang/Exception", name := "<init>", desc := "()V" } : Jvm.MethodName)) ∈ lw_all := lw_g (lw_at lw_m3 116 rfl) rfl
theorem q715 : (Jvm.Cond.fieldLink "RooftopCats$ScriptException" (7 : Nat) "RooftopCats$ScriptException" "kind" "I") ∈ lw_all := lw_g (lw_at lw_m3 120 rfl) rfl
theorem q717 : (Jvm.Cond.fieldLink "RooftopCats$ScriptException" (13 : Nat) "RooftopCats$ScriptException" "offset" "I") ∈ lw_all := lw_g (lw_at lw_m3 122 rfl) rfl
theorem q719 : (Jvm.Cond.laysFinal "RooftopCats$ScriptException" "RooftopCats$ScriptException" "kind" "I") ∈ lw_all := lw_g (lw_at lw_m3 124 rfl) rfl
theorem q720 : (Jvm.Cond.soleField "RooftopCats$ScriptException" "kind") ∈ lw_all := lw_g (lw_at lw_m3 125 rfl) rfl
theorem q721 : (Jvm.Cond.laysFinal "RooftopCats$ScriptException" "RooftopCats$ScriptException" "offset" "I") ∈ lw_all := lw_g (lw_at lw_m3 126 rfl) rfl
theorem q722 : (Jvm.Cond.soleField "RooftopCats$ScriptException" "offset") ∈ lw_all := lw_g (lw_at lw_m3 127 rfl) rfl
theorem q723 : (Jvm.Cond.lays "RooftopCats$ScriptException" "java/lang/Throwable" "depth" "I") ∈ lw_all := lw_g (lw_at lw_m3 128 rfl) rfl
theorem q724 : (Jvm.Cond.superclass "RooftopCats$ScriptException" "java/lang/Exception") ∈ lw_all := lw_g (lw_at lw_m3 129 rfl) rfl
theorem q881 : (Jvm.Cond.selects "RooftopCats$ScriptException" ({ cls := "java/lang/Object", name := "getClass", desc := "()Ljava/lang/Class;" } : Jvm.MethodName) ({ cls := "java/lang/Object", name := "getClass", desc := "()Ljava/lang/Class;" } : Jvm.MethodName)) ∈ lw_all := lw_g (lw_at lw_m4 46 rfl) rfl
theorem q2728 : (Jvm.Cond.castable "RooftopCats$ScriptException" "java/lang/Object") ∈ lw_tbl := lw_at lw_m11 213 rfl
theorem in_X4 : ∀ w ∈ wsX40, w ∈ lw_all := lw_in wsX40 [703, 704, 705, 706, 707, 723, 719, 721] (by decide +kernel) (by decide +kernel)

/-! RooftopCats$Chimney -/
set_option maxRecDepth 100000
def RX5 : String := "RooftopCats$Chimney"
def TX5 : u_T := fun k => match k with
  | 0 => ("RooftopCats$Chimney", "warmth", "I", true)
  | _ => ("RooftopCats$Chimney", "owner", "I", false)
def tyX5 : Nat → FieldType := fun k => match k with
  | 0 => .int
  | _ => .int
abbrev wsX50 : List Cond := u_ws RX5 TX5 2
theorem nmX5 : ∀ a, a < 2 → ∀ b, b < 2 → a ≠ b → (TX5 a).2.1 ≠ (TX5 b).2.1 := by decide +kernel
theorem tyX5_ok : ∀ k, k < 2 → parseFieldDescriptor (TX5 k).2.2.1 = some (tyX5 k) := by decide +kernel
abbrev cX5_init : ByteArray := prog_3_method_1_code
def yX5_init : MethodName := ⟨RX5, "<init>", "(I)V"⟩
def dkwX5_init_0 : List UInt8 := [42, 183, 0, 3, 42, 2, 181, 0, 9, 42, 27, 181, 0, 15, 177]
abbrev dktX5_init_0 : List UInt8 := dkwX5_init_0 ++ []
theorem dksX5_init_0 : cX5_init.data.toList.drop 0 = dktX5_init_0 := by decide +kernel
theorem dX5_init_0 : decode cX5_init 0 = .ok (.aload_n 0, 1) := dk_42 (dk_at dksX5_init_0 0 rfl rfl)
theorem dX5_init_1 : decode cX5_init 1 = .ok (.invokespecial 3, 3) := dk_183 0 3 (dk_at dksX5_init_0 1 rfl rfl)
theorem dX5_init_4 : decode cX5_init 4 = .ok (.aload_n 0, 1) := dk_42 (dk_at dksX5_init_0 4 rfl rfl)
theorem dX5_init_5 : decode cX5_init 5 = .ok (.iconst (-1), 1) := dk_2 (dk_at dksX5_init_0 5 rfl rfl)
theorem dX5_init_6 : decode cX5_init 6 = .ok (.putfield 9, 3) := dk_181 0 9 (dk_at dksX5_init_0 6 rfl rfl)
theorem dX5_init_9 : decode cX5_init 9 = .ok (.aload_n 0, 1) := dk_42 (dk_at dksX5_init_0 9 rfl rfl)
theorem dX5_init_10 : decode cX5_init 10 = .ok (.iload_n 1, 1) := dk_27 (dk_at dksX5_init_0 10 rfl rfl)
theorem dX5_init_11 : decode cX5_init 11 = .ok (.putfield 15, 3) := dk_181 0 15 (dk_at dksX5_init_0 11 rfl rfl)
theorem dX5_init_14 : decode cX5_init 14 = .ok (.return_, 1) := dk_177 (dk_at dksX5_init_0 14 rfl rfl)
abbrev cX5_copy : ByteArray := prog_3_method_2_code
def yX5_copy : MethodName := ⟨RX5, "copy", "()LRooftopCats$Chimney;"⟩
def dkwX5_copy_0 : List UInt8 := [187, 0, 10, 89, 42, 180, 0, 15, 183, 0, 18, 76, 43, 42, 180, 0, 9, 181, 0, 9, 43, 176]
abbrev dktX5_copy_0 : List UInt8 := dkwX5_copy_0 ++ []
theorem dksX5_copy_0 : cX5_copy.data.toList.drop 0 = dktX5_copy_0 := by decide +kernel
theorem dX5_copy_0 : decode cX5_copy 0 = .ok (.new 10, 3) := dk_187 0 10 (dk_at dksX5_copy_0 0 rfl rfl)
theorem dX5_copy_3 : decode cX5_copy 3 = .ok (.dup, 1) := dk_89 (dk_at dksX5_copy_0 3 rfl rfl)
theorem dX5_copy_4 : decode cX5_copy 4 = .ok (.aload_n 0, 1) := dk_42 (dk_at dksX5_copy_0 4 rfl rfl)
theorem dX5_copy_5 : decode cX5_copy 5 = .ok (.getfield 15, 3) := dk_180 0 15 (dk_at dksX5_copy_0 5 rfl rfl)
theorem dX5_copy_8 : decode cX5_copy 8 = .ok (.invokespecial 18, 3) := dk_183 0 18 (dk_at dksX5_copy_0 8 rfl rfl)
theorem dX5_copy_11 : decode cX5_copy 11 = .ok (.astore_n 1, 1) := dk_76 (dk_at dksX5_copy_0 11 rfl rfl)
theorem dX5_copy_12 : decode cX5_copy 12 = .ok (.aload_n 1, 1) := dk_43 (dk_at dksX5_copy_0 12 rfl rfl)
theorem dX5_copy_13 : decode cX5_copy 13 = .ok (.aload_n 0, 1) := dk_42 (dk_at dksX5_copy_0 13 rfl rfl)
theorem dX5_copy_14 : decode cX5_copy 14 = .ok (.getfield 9, 3) := dk_180 0 9 (dk_at dksX5_copy_0 14 rfl rfl)
theorem dX5_copy_17 : decode cX5_copy 17 = .ok (.putfield 9, 3) := dk_181 0 9 (dk_at dksX5_copy_0 17 rfl rfl)
theorem dX5_copy_20 : decode cX5_copy 20 = .ok (.aload_n 1, 1) := dk_43 (dk_at dksX5_copy_0 20 rfl rfl)
theorem dX5_copy_21 : decode cX5_copy 21 = .ok (.areturn, 1) := dk_176 (dk_at dksX5_copy_0 21 rfl rfl)
theorem q142 : (Jvm.Cond.initialized "RooftopCats$Chimney") ∈ lw_all := lw_g (lw_at lw_m1 27 rfl) rfl
theorem q829 : (Jvm.Cond.instantiable "RooftopCats$Chimney" (2 : Nat)) ∈ lw_all := lw_g (lw_at lw_m3 234 rfl) rfl
theorem q831 : (Jvm.Cond.instanceMethod ({ cls := "RooftopCats$Chimney", name := "<init>", desc := "(I)V" } : Jvm.MethodName)) ∈ lw_all := lw_g (lw_at lw_m3 236 rfl) rfl
theorem q832 : (Jvm.Cond.code ({ cls := "RooftopCats$Chimney", name := "<init>", desc := "(I)V" } : Jvm.MethodName) prog_3_method_1_code (2 : Nat) (Option.none : Option Jvm.ClassFile.FieldType)) ∈ lw_all := lw_g (lw_at lw_m3 237 rfl) rfl
theorem q833 : (Jvm.Cond.methodLink "RooftopCats$Chimney" (3 : Nat) ({ cls := "java/lang/Object", name := "<init>", desc := "()V" } : Jvm.MethodName)) ∈ lw_all := lw_g (lw_at lw_m3 238 rfl) rfl
theorem q834 : (Jvm.Cond.fieldLink "RooftopCats$Chimney" (15 : Nat) "RooftopCats$Chimney" "warmth" "I") ∈ lw_all := lw_g (lw_at lw_m3 239 rfl) rfl
theorem q837 : (Jvm.Cond.fieldLink "RooftopCats$Chimney" (9 : Nat) "RooftopCats$Chimney" "owner" "I") ∈ lw_all := lw_g (lw_at lw_m4 2 rfl) rfl
theorem q841 : (Jvm.Cond.laysFinal "RooftopCats$Chimney" "RooftopCats$Chimney" "warmth" "I") ∈ lw_all := lw_g (lw_at lw_m4 6 rfl) rfl
theorem q842 : (Jvm.Cond.soleField "RooftopCats$Chimney" "warmth") ∈ lw_all := lw_g (lw_at lw_m4 7 rfl) rfl
theorem q843 : (Jvm.Cond.lays "RooftopCats$Chimney" "RooftopCats$Chimney" "owner" "I") ∈ lw_all := lw_g (lw_at lw_m4 8 rfl) rfl
theorem q844 : (Jvm.Cond.soleField "RooftopCats$Chimney" "owner") ∈ lw_all := lw_g (lw_at lw_m4 9 rfl) rfl
theorem q845 : (Jvm.Cond.superclass "RooftopCats$Chimney" "java/lang/Object") ∈ lw_all := lw_g (lw_at lw_m4 10 rfl) rfl
theorem q876 : (Jvm.Cond.selects "RooftopCats$Chimney" ({ cls := "java/lang/Object", name := "getClass", desc := "()Ljava/lang/Class;" } : Jvm.MethodName) ({ cls := "java/lang/Object", name := "getClass", desc := "()Ljava/lang/Class;" } : Jvm.MethodName)) ∈ lw_all := lw_g (lw_at lw_m4 41 rfl) rfl
theorem q1458 : (Jvm.Cond.instanceMethod ({ cls := "RooftopCats$Chimney", name := "copy", desc := "()LRooftopCats$Chimney;" } : Jvm.MethodName)) ∈ lw_all := lw_g (lw_at lw_m6 143 rfl) rfl
theorem q1459 : (Jvm.Cond.selects "RooftopCats$Chimney" ({ cls := "RooftopCats$Chimney", name := "copy", desc := "()LRooftopCats$Chimney;" } : Jvm.MethodName) ({ cls := "RooftopCats$Chimney", name := "copy", desc := "()LRooftopCats$Chimney;" } : Jvm.MethodName)) ∈ lw_all := lw_g (lw_at lw_m6 144 rfl) rfl
theorem q1460 : (Jvm.Cond.code ({ cls := "RooftopCats$Chimney", name := "copy", desc := "()LRooftopCats$Chimney;" } : Jvm.MethodName) prog_3_method_2_code (2 : Nat) (Option.some (Jvm.ClassFile.FieldType.object "RooftopCats$Chimney"))) ∈ lw_all := lw_g (lw_at lw_m6 145 rfl) rfl
theorem q1461 : (Jvm.Cond.classLink "RooftopCats$Chimney" (10 : Nat) "RooftopCats$Chimney") ∈ lw_all := lw_g (lw_at lw_m6 146 rfl) rfl
theorem q1462 : (Jvm.Cond.methodLink "RooftopCats$Chimney" (18 : Nat) ({ cls := "RooftopCats$Chimney", name := "<init>", desc := "(I)V" } : Jvm.MethodName)) ∈ lw_all := lw_g (lw_at lw_m6 147 rfl) rfl
theorem q2730 : (Jvm.Cond.castable "RooftopCats$Chimney" "java/lang/Object") ∈ lw_tbl := lw_at lw_m11 215 rfl
theorem in_X5 : ∀ w ∈ wsX50, w ∈ lw_all := lw_in wsX50 [841, 843] (by decide +kernel) (by decide +kernel)

/-! RooftopCats$Gutter -/
set_option maxRecDepth 100000
def RX6 : String := "RooftopCats$Gutter"
def TX6 : u_T := fun k => match k with
  | 0 => ("RooftopCats$Gutter", "one", "I", true)
  | 1 => ("RooftopCats$Gutter", "other", "I", true)
  | _ => ("RooftopCats$Gutter", "width", "I", true)
def tyX6 : Nat → FieldType := fun k => match k with
  | 0 => .int
  | 1 => .int
  | _ => .int
abbrev wsX60 : List Cond := u_ws RX6 TX6 3
theorem nmX6 : ∀ a, a < 3 → ∀ b, b < 3 → a ≠ b → (TX6 a).2.1 ≠ (TX6 b).2.1 := by decide +kernel
theorem tyX6_ok : ∀ k, k < 3 → parseFieldDescriptor (TX6 k).2.2.1 = some (tyX6 k) := by decide +kernel
abbrev cX6_init : ByteArray := prog_4_method_1_code
def yX6_init : MethodName := ⟨RX6, "<init>", "(III)V"⟩
def dkwX6_init_0 : List UInt8 := [42, 183, 0, 1, 42, 27, 181, 0, 7, 42, 28, 181, 0, 13, 42, 29, 181, 0, 16, 177]
abbrev dktX6_init_0 : List UInt8 := dkwX6_init_0 ++ []
theorem dksX6_init_0 : cX6_init.data.toList.drop 0 = dktX6_init_0 := by decide +kernel
theorem dX6_init_0 : decode cX6_init 0 = .ok (.aload_n 0, 1) := dk_42 (dk_at dksX6_init_0 0 rfl rfl)
theorem dX6_init_1 : decode cX6_init 1 = .ok (.invokespecial 1, 3) := dk_183 0 1 (dk_at dksX6_init_0 1 rfl rfl)
theorem dX6_init_4 : decode cX6_init 4 = .ok (.aload_n 0, 1) := dk_42 (dk_at dksX6_init_0 4 rfl rfl)
theorem dX6_init_5 : decode cX6_init 5 = .ok (.iload_n 1, 1) := dk_27 (dk_at dksX6_init_0 5 rfl rfl)
theorem dX6_init_6 : decode cX6_init 6 = .ok (.putfield 7, 3) := dk_181 0 7 (dk_at dksX6_init_0 6 rfl rfl)
theorem dX6_init_9 : decode cX6_init 9 = .ok (.aload_n 0, 1) := dk_42 (dk_at dksX6_init_0 9 rfl rfl)
theorem dX6_init_10 : decode cX6_init 10 = .ok (.iload_n 2, 1) := dk_28 (dk_at dksX6_init_0 10 rfl rfl)
theorem dX6_init_11 : decode cX6_init 11 = .ok (.putfield 13, 3) := dk_181 0 13 (dk_at dksX6_init_0 11 rfl rfl)
theorem dX6_init_14 : decode cX6_init 14 = .ok (.aload_n 0, 1) := dk_42 (dk_at dksX6_init_0 14 rfl rfl)
theorem dX6_init_15 : decode cX6_init 15 = .ok (.iload_n 3, 1) := dk_29 (dk_at dksX6_init_0 15 rfl rfl)
theorem dX6_init_16 : decode cX6_init 16 = .ok (.putfield 16, 3) := dk_181 0 16 (dk_at dksX6_init_0 16 rfl rfl)
theorem dX6_init_19 : decode cX6_init 19 = .ok (.return_, 1) := dk_177 (dk_at dksX6_init_0 19 rfl rfl)
abbrev cX6_endsAt : ByteArray := prog_4_method_2_code
def yX6_endsAt : MethodName := ⟨RX6, "endsAt", "(I)Z"⟩
def dkwX6_endsAt_0 : List UInt8 := [42, 180, 0, 7, 27, 159, 0, 11, 42, 180, 0, 13, 27, 160, 0, 7, 4, 167, 0, 4, 3, 172]
abbrev dktX6_endsAt_0 : List UInt8 := dkwX6_endsAt_0 ++ []
theorem dksX6_endsAt_0 : cX6_endsAt.data.toList.drop 0 = dktX6_endsAt_0 := by decide +kernel
theorem dX6_endsAt_0 : decode cX6_endsAt 0 = .ok (.aload_n 0, 1) := dk_42 (dk_at dksX6_endsAt_0 0 rfl rfl)
theorem dX6_endsAt_1 : decode cX6_endsAt 1 = .ok (.getfield 7, 3) := dk_180 0 7 (dk_at dksX6_endsAt_0 1 rfl rfl)
theorem dX6_endsAt_4 : decode cX6_endsAt 4 = .ok (.iload_n 1, 1) := dk_27 (dk_at dksX6_endsAt_0 4 rfl rfl)
theorem dX6_endsAt_5 : decode cX6_endsAt 5 = .ok (.if_icmp .eq 11, 3) := dk_159 0 11 (dk_at dksX6_endsAt_0 5 rfl rfl)
theorem dX6_endsAt_8 : decode cX6_endsAt 8 = .ok (.aload_n 0, 1) := dk_42 (dk_at dksX6_endsAt_0 8 rfl rfl)
theorem dX6_endsAt_9 : decode cX6_endsAt 9 = .ok (.getfield 13, 3) := dk_180 0 13 (dk_at dksX6_endsAt_0 9 rfl rfl)
theorem dX6_endsAt_12 : decode cX6_endsAt 12 = .ok (.iload_n 1, 1) := dk_27 (dk_at dksX6_endsAt_0 12 rfl rfl)
theorem dX6_endsAt_13 : decode cX6_endsAt 13 = .ok (.if_icmp .ne 7, 3) := dk_160 0 7 (dk_at dksX6_endsAt_0 13 rfl rfl)
theorem dX6_endsAt_16 : decode cX6_endsAt 16 = .ok (.iconst 1, 1) := dk_4 (dk_at dksX6_endsAt_0 16 rfl rfl)
theorem dX6_endsAt_17 : decode cX6_endsAt 17 = .ok (.goto 4, 3) := dk_167 0 4 (dk_at dksX6_endsAt_0 17 rfl rfl)
theorem dX6_endsAt_20 : decode cX6_endsAt 20 = .ok (.iconst 0, 1) := dk_3 (dk_at dksX6_endsAt_0 20 rfl rfl)
theorem dX6_endsAt_21 : decode cX6_endsAt 21 = .ok (.ireturn, 1) := dk_172 (dk_at dksX6_endsAt_0 21 rfl rfl)
abbrev cX6_width : ByteArray := prog_4_method_10_code
def yX6_width : MethodName := ⟨RX6, "width", "()I"⟩
theorem dX6_width_0 : decode cX6_width 0 = .ok (.aload_n 0, 1) := by decide +kernel
theorem dX6_width_1 : decode cX6_width 1 = .ok (.getfield 16, 3) := by decide +kernel
theorem dX6_width_4 : decode cX6_width 4 = .ok (.ireturn, 1) := by decide +kernel
abbrev cX6_from : ByteArray := prog_4_method_4_code
def yX6_from : MethodName := ⟨RX6, "from", "(I)I"⟩
def dkwX6_from_0 : List UInt8 := [42, 180, 0, 7, 27, 160, 0, 10, 42, 180, 0, 13, 167, 0, 7, 42, 180, 0, 7, 172]
abbrev dktX6_from_0 : List UInt8 := dkwX6_from_0 ++ []
theorem dksX6_from_0 : cX6_from.data.toList.drop 0 = dktX6_from_0 := by decide +kernel
theorem dX6_from_0 : decode cX6_from 0 = .ok (.aload_n 0, 1) := dk_42 (dk_at dksX6_from_0 0 rfl rfl)
theorem dX6_from_1 : decode cX6_from 1 = .ok (.getfield 7, 3) := dk_180 0 7 (dk_at dksX6_from_0 1 rfl rfl)
theorem dX6_from_4 : decode cX6_from 4 = .ok (.iload_n 1, 1) := dk_27 (dk_at dksX6_from_0 4 rfl rfl)
theorem dX6_from_5 : decode cX6_from 5 = .ok (.if_icmp .ne 10, 3) := dk_160 0 10 (dk_at dksX6_from_0 5 rfl rfl)
theorem dX6_from_8 : decode cX6_from 8 = .ok (.aload_n 0, 1) := dk_42 (dk_at dksX6_from_0 8 rfl rfl)
theorem dX6_from_9 : decode cX6_from 9 = .ok (.getfield 13, 3) := dk_180 0 13 (dk_at dksX6_from_0 9 rfl rfl)
theorem dX6_from_12 : decode cX6_from 12 = .ok (.goto 7, 3) := dk_167 0 7 (dk_at dksX6_from_0 12 rfl rfl)
theorem dX6_from_15 : decode cX6_from 15 = .ok (.aload_n 0, 1) := dk_42 (dk_at dksX6_from_0 15 rfl rfl)
theorem dX6_from_16 : decode cX6_from 16 = .ok (.getfield 7, 3) := dk_180 0 7 (dk_at dksX6_from_0 16 rfl rfl)
theorem dX6_from_19 : decode cX6_from 19 = .ok (.ireturn, 1) := dk_172 (dk_at dksX6_from_0 19 rfl rfl)
abbrev cX6_connects : ByteArray := prog_4_method_3_code
def yX6_connects : MethodName := ⟨RX6, "connects", "(II)Z"⟩
def dkwX6_connects_1 : List UInt8 := [167, 0, 4, 3, 172]
abbrev dktX6_connects_1 : List UInt8 := dkwX6_connects_1 ++ []
def dkwX6_connects_0 : List UInt8 := [27, 28, 159, 0, 23, 42, 27, 182, 0, 19, 153, 0, 15, 42, 28, 182, 0, 19, 153, 0, 7, 4]
abbrev dktX6_connects_0 : List UInt8 := dkwX6_connects_0 ++ dktX6_connects_1
theorem dksX6_connects_0 : cX6_connects.data.toList.drop 0 = dktX6_connects_0 := by decide +kernel
theorem dksX6_connects_1 : cX6_connects.data.toList.drop 22 = dktX6_connects_1 := dk_seg dksX6_connects_0 22 rfl rfl
theorem dX6_connects_0 : decode cX6_connects 0 = .ok (.iload_n 1, 1) := dk_27 (dk_at dksX6_connects_0 0 rfl rfl)
theorem dX6_connects_1 : decode cX6_connects 1 = .ok (.iload_n 2, 1) := dk_28 (dk_at dksX6_connects_0 1 rfl rfl)
theorem dX6_connects_2 : decode cX6_connects 2 = .ok (.if_icmp .eq 23, 3) := dk_159 0 23 (dk_at dksX6_connects_0 2 rfl rfl)
theorem dX6_connects_5 : decode cX6_connects 5 = .ok (.aload_n 0, 1) := dk_42 (dk_at dksX6_connects_0 5 rfl rfl)
theorem dX6_connects_6 : decode cX6_connects 6 = .ok (.iload_n 1, 1) := dk_27 (dk_at dksX6_connects_0 6 rfl rfl)
theorem dX6_connects_7 : decode cX6_connects 7 = .ok (.invokevirtual 19, 3) := dk_182 0 19 (dk_at dksX6_connects_0 7 rfl rfl)
theorem dX6_connects_10 : decode cX6_connects 10 = .ok (.ifCond .eq 15, 3) := dk_153 0 15 (dk_at dksX6_connects_0 10 rfl rfl)
theorem dX6_connects_13 : decode cX6_connects 13 = .ok (.aload_n 0, 1) := dk_42 (dk_at dksX6_connects_0 13 rfl rfl)
theorem dX6_connects_14 : decode cX6_connects 14 = .ok (.iload_n 2, 1) := dk_28 (dk_at dksX6_connects_0 14 rfl rfl)
theorem dX6_connects_15 : decode cX6_connects 15 = .ok (.invokevirtual 19, 3) := dk_182 0 19 (dk_at dksX6_connects_0 15 rfl rfl)
theorem dX6_connects_18 : decode cX6_connects 18 = .ok (.ifCond .eq 7, 3) := dk_153 0 7 (dk_at dksX6_connects_0 18 rfl rfl)
theorem dX6_connects_21 : decode cX6_connects 21 = .ok (.iconst 1, 1) := dk_4 (dk_at dksX6_connects_0 21 rfl rfl)
theorem dX6_connects_22 : decode cX6_connects 22 = .ok (.goto 4, 3) := dk_167 0 4 (dk_at dksX6_connects_1 0 rfl rfl)
theorem dX6_connects_25 : decode cX6_connects 25 = .ok (.iconst 0, 1) := dk_3 (dk_at dksX6_connects_1 3 rfl rfl)
theorem dX6_connects_26 : decode cX6_connects 26 = .ok (.ireturn, 1) := dk_172 (dk_at dksX6_connects_1 4 rfl rfl)
abbrev cX6_one : ByteArray := prog_4_method_8_code
def yX6_one : MethodName := ⟨RX6, "one", "()I"⟩
theorem dX6_one_0 : decode cX6_one 0 = .ok (.aload_n 0, 1) := by decide +kernel
theorem dX6_one_1 : decode cX6_one 1 = .ok (.getfield 7, 3) := by decide +kernel
theorem dX6_one_4 : decode cX6_one 4 = .ok (.ireturn, 1) := by decide +kernel
abbrev cX6_other : ByteArray := prog_4_method_9_code
def yX6_other : MethodName := ⟨RX6, "other", "()I"⟩
theorem dX6_other_0 : decode cX6_other 0 = .ok (.aload_n 0, 1) := by decide +kernel
theorem dX6_other_1 : decode cX6_other 1 = .ok (.getfield 13, 3) := by decide +kernel
theorem dX6_other_4 : decode cX6_other 4 = .ok (.ireturn, 1) := by decide +kernel
theorem q144 : (Jvm.Cond.initialized "RooftopCats$Gutter") ∈ lw_all := lw_g (lw_at lw_m1 29 rfl) rfl
theorem q877 : (Jvm.Cond.selects "RooftopCats$Gutter" ({ cls := "java/lang/Object", name := "getClass", desc := "()Ljava/lang/Class;" } : Jvm.MethodName) ({ cls := "java/lang/Object", name := "getClass", desc := "()Ljava/lang/Class;" } : Jvm.MethodName)) ∈ lw_all := lw_g (lw_at lw_m4 42 rfl) rfl
theorem q913 : (Jvm.Cond.instantiable "RooftopCats$Gutter" (3 : Nat)) ∈ lw_all := lw_g (lw_at lw_m4 78 rfl) rfl
theorem q915 : (Jvm.Cond.instanceMethod ({ cls := "RooftopCats$Gutter", name := "<init>", desc := "(III)V" } : Jvm.MethodName)) ∈ lw_all := lw_g (lw_at lw_m4 80 rfl) rfl
theorem q916 : (Jvm.Cond.code ({ cls := "RooftopCats$Gutter", name := "<init>", desc := "(III)V" } : Jvm.MethodName) prog_4_method_1_code (4 : Nat) (Option.none : Option Jvm.ClassFile.FieldType)) ∈ lw_all := lw_g (lw_at lw_m4 81 rfl) rfl
theorem q917 : (Jvm.Cond.methodLink "RooftopCats$Gutter" (1 : Nat) ({ cls := "java/lang/Record", name := "<init>", desc := "()V" } : Jvm.MethodName)) ∈ lw_all := lw_g (lw_at lw_m4 82 rfl) rfl
theorem q921 : (Jvm.Cond.fieldLink "RooftopCats$Gutter" (7 : Nat) "RooftopCats$Gutter" "one" "I") ∈ lw_all := lw_g (lw_at lw_m4 86 rfl) rfl
theorem q922 : (Jvm.Cond.fieldLink "RooftopCats$Gutter" (13 : Nat) "RooftopCats$Gutter" "other" "I") ∈ lw_all := lw_g (lw_at lw_m4 87 rfl) rfl
theorem q923 : (Jvm.Cond.fieldLink "RooftopCats$Gutter" (16 : Nat) "RooftopCats$Gutter" "width" "I") ∈ lw_all := lw_g (lw_at lw_m4 88 rfl) rfl
theorem q924 : (Jvm.Cond.laysFinal "RooftopCats$Gutter" "RooftopCats$Gutter" "one" "I") ∈ lw_all := lw_g (lw_at lw_m4 89 rfl) rfl
theorem q925 : (Jvm.Cond.soleField "RooftopCats$Gutter" "one") ∈ lw_all := lw_g (lw_at lw_m4 90 rfl) rfl
theorem q926 : (Jvm.Cond.laysFinal "RooftopCats$Gutter" "RooftopCats$Gutter" "other" "I") ∈ lw_all := lw_g (lw_at lw_m4 91 rfl) rfl
theorem q927 : (Jvm.Cond.soleField "RooftopCats$Gutter" "other") ∈ lw_all := lw_g (lw_at lw_m4 92 rfl) rfl
theorem q928 : (Jvm.Cond.laysFinal "RooftopCats$Gutter" "RooftopCats$Gutter" "width" "I") ∈ lw_all := lw_g (lw_at lw_m4 93 rfl) rfl
theorem q929 : (Jvm.Cond.soleField "RooftopCats$Gutter" "width") ∈ lw_all := lw_g (lw_at lw_m4 94 rfl) rfl
theorem q930 : (Jvm.Cond.superclass "RooftopCats$Gutter" "java/lang/Record") ∈ lw_all := lw_g (lw_at lw_m4 95 rfl) rfl
theorem q1029 : (Jvm.Cond.instanceMethod ({ cls := "RooftopCats$Gutter", name := "endsAt", desc := "(I)Z" } : Jvm.MethodName)) ∈ lw_all := lw_g (lw_at lw_m4 194 rfl) rfl
theorem q1030 : (Jvm.Cond.selects "RooftopCats$Gutter" ({ cls := "RooftopCats$Gutter", name := "endsAt", desc := "(I)Z" } : Jvm.MethodName) ({ cls := "RooftopCats$Gutter", name := "endsAt", desc := "(I)Z" } : Jvm.MethodName)) ∈ lw_all := lw_g (lw_at lw_m4 195 rfl) rfl
theorem q1031 : (Jvm.Cond.code ({ cls := "RooftopCats$Gutter", name := "endsAt", desc := "(I)Z" } : Jvm.MethodName) prog_4_method_2_code (2 : Nat) (Option.some Jvm.ClassFile.FieldType.boolean)) ∈ lw_all := lw_g (lw_at lw_m4 196 rfl) rfl
theorem q1033 : (Jvm.Cond.instanceMethod ({ cls := "RooftopCats$Gutter", name := "width", desc := "()I" } : Jvm.MethodName)) ∈ lw_all := lw_g (lw_at lw_m4 198 rfl) rfl
theorem q1034 : (Jvm.Cond.selects "RooftopCats$Gutter" ({ cls := "RooftopCats$Gutter", name := "width", desc := "()I" } : Jvm.MethodName) ({ cls := "RooftopCats$Gutter", name := "width", desc := "()I" } : Jvm.MethodName)) ∈ lw_all := lw_g (lw_at lw_m4 199 rfl) rfl
theorem q1035 : (Jvm.Cond.code ({ cls := "RooftopCats$Gutter", name := "width", desc := "()I" } : Jvm.MethodName) prog_4_method_10_code (1 : Nat) (Option.some Jvm.ClassFile.FieldType.int)) ∈ lw_all := lw_g (lw_at lw_m4 200 rfl) rfl
theorem q1037 : (Jvm.Cond.instanceMethod ({ cls := "RooftopCats$Gutter", name := "from", desc := "(I)I" } : Jvm.MethodName)) ∈ lw_all := lw_g (lw_at lw_m4 202 rfl) rfl
theorem q1038 : (Jvm.Cond.selects "RooftopCats$Gutter" ({ cls := "RooftopCats$Gutter", name := "from", desc := "(I)I" } : Jvm.MethodName) ({ cls := "RooftopCats$Gutter", name := "from", desc := "(I)I" } : Jvm.MethodName)) ∈ lw_all := lw_g (lw_at lw_m4 203 rfl) rfl
theorem q1039 : (Jvm.Cond.code ({ cls := "RooftopCats$Gutter", name := "from", desc := "(I)I" } : Jvm.MethodName) prog_4_method_4_code (2 : Nat) (Option.some Jvm.ClassFile.FieldType.int)) ∈ lw_all := lw_g (lw_at lw_m4 204 rfl) rfl
theorem q1067 : (Jvm.Cond.instanceMethod ({ cls := "RooftopCats$Gutter", name := "connects", desc := "(II)Z" } : Jvm.MethodName)) ∈ lw_all := lw_g (lw_at lw_m4 232 rfl) rfl
theorem q1068 : (Jvm.Cond.selects "RooftopCats$Gutter" ({ cls := "RooftopCats$Gutter", name := "connects", desc := "(II)Z" } : Jvm.MethodName) ({ cls := "RooftopCats$Gutter", name := "connects", desc := "(II)Z" } : Jvm.MethodName)) ∈ lw_all := lw_g (lw_at lw_m4 233 rfl) rfl
theorem q1069 : (Jvm.Cond.code ({ cls := "RooftopCats$Gutter", name := "connects", desc := "(II)Z" } : Jvm.MethodName) prog_4_method_3_code (3 : Nat) (Option.some Jvm.ClassFile.FieldType.boolean)) ∈ lw_all := lw_g (lw_at lw_m4 234 rfl) rfl
theorem q1070 : (Jvm.Cond.methodLink "RooftopCats$Gutter" (19 : Nat) ({ cls := "RooftopCats$Gutter", name := "endsAt", desc := "(I)Z" } : Jvm.MethodName)) ∈ lw_all := lw_g (lw_at lw_m4 235 rfl) rfl
theorem q1846 : (Jvm.Cond.instanceMethod ({ cls := "RooftopCats$Gutter", name := "one", desc := "()I" } : Jvm.MethodName)) ∈ lw_all := lw_g (lw_at lw_m8 51 rfl) rfl
theorem q1847 : (Jvm.Cond.selects "RooftopCats$Gutter" ({ cls := "RooftopCats$Gutter", name := "one", desc := "()I" } : Jvm.MethodName) ({ cls := "RooftopCats$Gutter", name := "one", desc := "()I" } : Jvm.MethodName)) ∈ lw_all := lw_g (lw_at lw_m8 52 rfl) rfl
theorem q1848 : (Jvm.Cond.code ({ cls := "RooftopCats$Gutter", name := "one", desc := "()I" } : Jvm.MethodName) prog_4_method_8_code (1 : Nat) (Option.some Jvm.ClassFile.FieldType.int)) ∈ lw_all := lw_g (lw_at lw_m8 53 rfl) rfl
theorem q1850 : (Jvm.Cond.instanceMethod ({ cls := "RooftopCats$Gutter", name := "other", desc := "()I" } : Jvm.MethodName)) ∈ lw_all := lw_g (lw_at lw_m8 55 rfl) rfl
theorem q1851 : (Jvm.Cond.selects "RooftopCats$Gutter" ({ cls := "RooftopCats$Gutter", name := "other", desc := "()I" } : Jvm.MethodName) ({ cls := "RooftopCats$Gutter", name := "other", desc := "()I" } : Jvm.MethodName)) ∈ lw_all := lw_g (lw_at lw_m8 56 rfl) rfl
theorem q1852 : (Jvm.Cond.code ({ cls := "RooftopCats$Gutter", name := "other", desc := "()I" } : Jvm.MethodName) prog_4_method_9_code (1 : Nat) (Option.some Jvm.ClassFile.FieldType.int)) ∈ lw_all := lw_g (lw_at lw_m8 57 rfl) rfl
theorem q2731 : (Jvm.Cond.castable "RooftopCats$Gutter" "java/lang/Object") ∈ lw_tbl := lw_at lw_m11 216 rfl
theorem in_X6 : ∀ w ∈ wsX60, w ∈ lw_all := lw_in wsX60 [924, 926, 928] (by decide +kernel) (by decide +kernel)

/-! RooftopCats$Cat -/
set_option maxRecDepth 100000
def RX7 : String := "RooftopCats$Cat"
def TX7 : u_T := fun k => match k with
  | 0 => ("RooftopCats$Cat", "girth", "I", true)
  | 1 => ("RooftopCats$Cat", "strength", "I", true)
  | 2 => ("RooftopCats$Cat", "chimney", "I", false)
  | _ => ("RooftopCats$Cat", "fish", "I", false)
def tyX7 : Nat → FieldType := fun k => match k with
  | 0 => .int
  | 1 => .int
  | 2 => .int
  | _ => .int
abbrev wsX70 : List Cond := u_ws RX7 TX7 4
theorem nmX7 : ∀ a, a < 4 → ∀ b, b < 4 → a ≠ b → (TX7 a).2.1 ≠ (TX7 b).2.1 := by decide +kernel
theorem tyX7_ok : ∀ k, k < 4 → parseFieldDescriptor (TX7 k).2.2.1 = some (tyX7 k) := by decide +kernel
abbrev cX7_init : ByteArray := prog_2_method_1_code
def yX7_init : MethodName := ⟨RX7, "<init>", "(III)V"⟩
def dkwX7_init_1 : List UInt8 := [177]
abbrev dktX7_init_1 : List UInt8 := dkwX7_init_1 ++ []
def dkwX7_init_0 : List UInt8 := [42, 183, 0, 3, 42, 8, 181, 0, 9, 42, 27, 181, 0, 15, 42, 28, 181, 0, 18, 42, 29, 181, 0, 21]
abbrev dktX7_init_0 : List UInt8 := dkwX7_init_0 ++ dktX7_init_1
theorem dksX7_init_0 : cX7_init.data.toList.drop 0 = dktX7_init_0 := by decide +kernel
theorem dksX7_init_1 : cX7_init.data.toList.drop 24 = dktX7_init_1 := dk_seg dksX7_init_0 24 rfl rfl
theorem dX7_init_0 : decode cX7_init 0 = .ok (.aload_n 0, 1) := dk_42 (dk_at dksX7_init_0 0 rfl rfl)
theorem dX7_init_1 : decode cX7_init 1 = .ok (.invokespecial 3, 3) := dk_183 0 3 (dk_at dksX7_init_0 1 rfl rfl)
theorem dX7_init_4 : decode cX7_init 4 = .ok (.aload_n 0, 1) := dk_42 (dk_at dksX7_init_0 4 rfl rfl)
theorem dX7_init_5 : decode cX7_init 5 = .ok (.iconst 5, 1) := dk_8 (dk_at dksX7_init_0 5 rfl rfl)
theorem dX7_init_6 : decode cX7_init 6 = .ok (.putfield 9, 3) := dk_181 0 9 (dk_at dksX7_init_0 6 rfl rfl)
theorem dX7_init_9 : decode cX7_init 9 = .ok (.aload_n 0, 1) := dk_42 (dk_at dksX7_init_0 9 rfl rfl)
theorem dX7_init_10 : decode cX7_init 10 = .ok (.iload_n 1, 1) := dk_27 (dk_at dksX7_init_0 10 rfl rfl)
theorem dX7_init_11 : decode cX7_init 11 = .ok (.putfield 15, 3) := dk_181 0 15 (dk_at dksX7_init_0 11 rfl rfl)
theorem dX7_init_14 : decode cX7_init 14 = .ok (.aload_n 0, 1) := dk_42 (dk_at dksX7_init_0 14 rfl rfl)
theorem dX7_init_15 : decode cX7_init 15 = .ok (.iload_n 2, 1) := dk_28 (dk_at dksX7_init_0 15 rfl rfl)
theorem dX7_init_16 : decode cX7_init 16 = .ok (.putfield 18, 3) := dk_181 0 18 (dk_at dksX7_init_0 16 rfl rfl)
theorem dX7_init_19 : decode cX7_init 19 = .ok (.aload_n 0, 1) := dk_42 (dk_at dksX7_init_0 19 rfl rfl)
theorem dX7_init_20 : decode cX7_init 20 = .ok (.iload_n 3, 1) := dk_29 (dk_at dksX7_init_0 20 rfl rfl)
theorem dX7_init_21 : decode cX7_init 21 = .ok (.putfield 21, 3) := dk_181 0 21 (dk_at dksX7_init_0 21 rfl rfl)
theorem dX7_init_24 : decode cX7_init 24 = .ok (.return_, 1) := dk_177 (dk_at dksX7_init_1 0 rfl rfl)
abbrev cX7_get : ByteArray := prog_2_method_3_code
def yX7_get : MethodName := ⟨RX7, "get", "(I)I"⟩
def dkwX7_get_0 : List UInt8 := [27, 16, 99, 42, 180, 0, 9, 100, 184, 0, 27, 61, 42, 89, 180, 0, 9, 28, 96, 181, 0, 9, 28, 172]
abbrev dktX7_get_0 : List UInt8 := dkwX7_get_0 ++ []
theorem dksX7_get_0 : cX7_get.data.toList.drop 0 = dktX7_get_0 := by decide +kernel
theorem dX7_get_0 : decode cX7_get 0 = .ok (.iload_n 1, 1) := dk_27 (dk_at dksX7_get_0 0 rfl rfl)
theorem dX7_get_1 : decode cX7_get 1 = .ok (.bipush 99, 2) := dk_16 99 (dk_at dksX7_get_0 1 rfl rfl)
theorem dX7_get_3 : decode cX7_get 3 = .ok (.aload_n 0, 1) := dk_42 (dk_at dksX7_get_0 3 rfl rfl)
theorem dX7_get_4 : decode cX7_get 4 = .ok (.getfield 9, 3) := dk_180 0 9 (dk_at dksX7_get_0 4 rfl rfl)
theorem dX7_get_7 : decode cX7_get 7 = .ok (.isub, 1) := dk_100 (dk_at dksX7_get_0 7 rfl rfl)
theorem dX7_get_8 : decode cX7_get 8 = .ok (.invokestatic 27, 3) := dk_184 0 27 (dk_at dksX7_get_0 8 rfl rfl)
theorem dX7_get_11 : decode cX7_get 11 = .ok (.istore_n 2, 1) := dk_61 (dk_at dksX7_get_0 11 rfl rfl)
theorem dX7_get_12 : decode cX7_get 12 = .ok (.aload_n 0, 1) := dk_42 (dk_at dksX7_get_0 12 rfl rfl)
theorem dX7_get_13 : decode cX7_get 13 = .ok (.dup, 1) := dk_89 (dk_at dksX7_get_0 13 rfl rfl)
theorem dX7_get_14 : decode cX7_get 14 = .ok (.getfield 9, 3) := dk_180 0 9 (dk_at dksX7_get_0 14 rfl rfl)
theorem dX7_get_17 : decode cX7_get 17 = .ok (.iload_n 2, 1) := dk_28 (dk_at dksX7_get_0 17 rfl rfl)
theorem dX7_get_18 : decode cX7_get 18 = .ok (.iadd, 1) := dk_96 (dk_at dksX7_get_0 18 rfl rfl)
theorem dX7_get_19 : decode cX7_get 19 = .ok (.putfield 9, 3) := dk_181 0 9 (dk_at dksX7_get_0 19 rfl rfl)
theorem dX7_get_22 : decode cX7_get 22 = .ok (.iload_n 2, 1) := dk_28 (dk_at dksX7_get_0 22 rfl rfl)
theorem dX7_get_23 : decode cX7_get 23 = .ok (.ireturn, 1) := dk_172 (dk_at dksX7_get_0 23 rfl rfl)
abbrev cX7_eat : ByteArray := prog_2_method_4_code
def yX7_eat : MethodName := ⟨RX7, "eat", "()I"⟩
def dkwX7_eat_0 : List UInt8 := [4, 42, 180, 0, 9, 184, 0, 27, 60, 42, 89, 180, 0, 9, 27, 100, 181, 0, 9, 27, 172]
abbrev dktX7_eat_0 : List UInt8 := dkwX7_eat_0 ++ []
theorem dksX7_eat_0 : cX7_eat.data.toList.drop 0 = dktX7_eat_0 := by decide +kernel
theorem dX7_eat_0 : decode cX7_eat 0 = .ok (.iconst 1, 1) := dk_4 (dk_at dksX7_eat_0 0 rfl rfl)
theorem dX7_eat_1 : decode cX7_eat 1 = .ok (.aload_n 0, 1) := dk_42 (dk_at dksX7_eat_0 1 rfl rfl)
theorem dX7_eat_2 : decode cX7_eat 2 = .ok (.getfield 9, 3) := dk_180 0 9 (dk_at dksX7_eat_0 2 rfl rfl)
theorem dX7_eat_5 : decode cX7_eat 5 = .ok (.invokestatic 27, 3) := dk_184 0 27 (dk_at dksX7_eat_0 5 rfl rfl)
theorem dX7_eat_8 : decode cX7_eat 8 = .ok (.istore_n 1, 1) := dk_60 (dk_at dksX7_eat_0 8 rfl rfl)
theorem dX7_eat_9 : decode cX7_eat 9 = .ok (.aload_n 0, 1) := dk_42 (dk_at dksX7_eat_0 9 rfl rfl)
theorem dX7_eat_10 : decode cX7_eat 10 = .ok (.dup, 1) := dk_89 (dk_at dksX7_eat_0 10 rfl rfl)
theorem dX7_eat_11 : decode cX7_eat 11 = .ok (.getfield 9, 3) := dk_180 0 9 (dk_at dksX7_eat_0 11 rfl rfl)
theorem dX7_eat_14 : decode cX7_eat 14 = .ok (.iload_n 1, 1) := dk_27 (dk_at dksX7_eat_0 14 rfl rfl)
theorem dX7_eat_15 : decode cX7_eat 15 = .ok (.isub, 1) := dk_100 (dk_at dksX7_eat_0 15 rfl rfl)
theorem dX7_eat_16 : decode cX7_eat 16 = .ok (.putfield 9, 3) := dk_181 0 9 (dk_at dksX7_eat_0 16 rfl rfl)
theorem dX7_eat_19 : decode cX7_eat 19 = .ok (.iload_n 1, 1) := dk_27 (dk_at dksX7_eat_0 19 rfl rfl)
theorem dX7_eat_20 : decode cX7_eat 20 = .ok (.ireturn, 1) := dk_172 (dk_at dksX7_eat_0 20 rfl rfl)
abbrev cX7_copy : ByteArray := prog_2_method_2_code
def yX7_copy : MethodName := ⟨RX7, "copy", "()LRooftopCats$Cat;"⟩
def dkwX7_copy_1 : List UInt8 := [180, 0, 9, 181, 0, 9, 43, 176]
abbrev dktX7_copy_1 : List UInt8 := dkwX7_copy_1 ++ []
def dkwX7_copy_0 : List UInt8 := [187, 0, 10, 89, 42, 180, 0, 15, 42, 180, 0, 18, 42, 180, 0, 21, 183, 0, 24, 76, 43, 42]
abbrev dktX7_copy_0 : List UInt8 := dkwX7_copy_0 ++ dktX7_copy_1
theorem dksX7_copy_0 : cX7_copy.data.toList.drop 0 = dktX7_copy_0 := by decide +kernel
theorem dksX7_copy_1 : cX7_copy.data.toList.drop 22 = dktX7_copy_1 := dk_seg dksX7_copy_0 22 rfl rfl
theorem dX7_copy_0 : decode cX7_copy 0 = .ok (.new 10, 3) := dk_187 0 10 (dk_at dksX7_copy_0 0 rfl rfl)
theorem dX7_copy_3 : decode cX7_copy 3 = .ok (.dup, 1) := dk_89 (dk_at dksX7_copy_0 3 rfl rfl)
theorem dX7_copy_4 : decode cX7_copy 4 = .ok (.aload_n 0, 1) := dk_42 (dk_at dksX7_copy_0 4 rfl rfl)
theorem dX7_copy_5 : decode cX7_copy 5 = .ok (.getfield 15, 3) := dk_180 0 15 (dk_at dksX7_copy_0 5 rfl rfl)
theorem dX7_copy_8 : decode cX7_copy 8 = .ok (.aload_n 0, 1) := dk_42 (dk_at dksX7_copy_0 8 rfl rfl)
theorem dX7_copy_9 : decode cX7_copy 9 = .ok (.getfield 18, 3) := dk_180 0 18 (dk_at dksX7_copy_0 9 rfl rfl)
theorem dX7_copy_12 : decode cX7_copy 12 = .ok (.aload_n 0, 1) := dk_42 (dk_at dksX7_copy_0 12 rfl rfl)
theorem dX7_copy_13 : decode cX7_copy 13 = .ok (.getfield 21, 3) := dk_180 0 21 (dk_at dksX7_copy_0 13 rfl rfl)
theorem dX7_copy_16 : decode cX7_copy 16 = .ok (.invokespecial 24, 3) := dk_183 0 24 (dk_at dksX7_copy_0 16 rfl rfl)
theorem dX7_copy_19 : decode cX7_copy 19 = .ok (.astore_n 1, 1) := dk_76 (dk_at dksX7_copy_0 19 rfl rfl)
theorem dX7_copy_20 : decode cX7_copy 20 = .ok (.aload_n 1, 1) := dk_43 (dk_at dksX7_copy_0 20 rfl rfl)
theorem dX7_copy_21 : decode cX7_copy 21 = .ok (.aload_n 0, 1) := dk_42 (dk_at dksX7_copy_0 21 rfl rfl)
theorem dX7_copy_22 : decode cX7_copy 22 = .ok (.getfield 9, 3) := dk_180 0 9 (dk_at dksX7_copy_1 0 rfl rfl)
theorem dX7_copy_25 : decode cX7_copy 25 = .ok (.putfield 9, 3) := dk_181 0 9 (dk_at dksX7_copy_1 3 rfl rfl)
theorem dX7_copy_28 : decode cX7_copy 28 = .ok (.aload_n 1, 1) := dk_43 (dk_at dksX7_copy_1 6 rfl rfl)
theorem dX7_copy_29 : decode cX7_copy 29 = .ok (.areturn, 1) := dk_176 (dk_at dksX7_copy_1 7 rfl rfl)
theorem q146 : (Jvm.Cond.initialized "RooftopCats$Cat") ∈ lw_all := lw_g (lw_at lw_m1 31 rfl) rfl
theorem q875 : (Jvm.Cond.selects "RooftopCats$Cat" ({ cls := "java/lang/Object", name := "getClass", desc := "()Ljava/lang/Class;" } : Jvm.MethodName) ({ cls := "java/lang/Object", name := "getClass", desc := "()Ljava/lang/Class;" } : Jvm.MethodName)) ∈ lw_all := lw_g (lw_at lw_m4 40 rfl) rfl
theorem q956 : (Jvm.Cond.instantiable "RooftopCats$Cat" (4 : Nat)) ∈ lw_all := lw_g (lw_at lw_m4 121 rfl) rfl
theorem q958 : (Jvm.Cond.instanceMethod ({ cls := "RooftopCats$Cat", name := "<init>", desc := "(III)V" } : Jvm.MethodName)) ∈ lw_all := lw_g (lw_at lw_m4 123 rfl) rfl
theorem q959 : (Jvm.Cond.code ({ cls := "RooftopCats$Cat", name := "<init>", desc := "(III)V" } : Jvm.MethodName) prog_2_method_1_code (4 : Nat) (Option.none : Option Jvm.ClassFile.FieldType)) ∈ lw_all := lw_g (lw_at lw_m4 124 rfl) rfl
theorem q960 : (Jvm.Cond.methodLink "RooftopCats$Cat" (3 : Nat) ({ cls := "java/lang/Object", name := "<init>", desc := "()V" } : Jvm.MethodName)) ∈ lw_all := lw_g (lw_at lw_m4 125 rfl) rfl
theorem q961 : (Jvm.Cond.fieldLink "RooftopCats$Cat" (18 : Nat) "RooftopCats$Cat" "girth" "I") ∈ lw_all := lw_g (lw_at lw_m4 126 rfl) rfl
theorem q964 : (Jvm.Cond.fieldLink "RooftopCats$Cat" (21 : Nat) "RooftopCats$Cat" "strength" "I") ∈ lw_all := lw_g (lw_at lw_m4 129 rfl) rfl
theorem q966 : (Jvm.Cond.fieldLink "RooftopCats$Cat" (15 : Nat) "RooftopCats$Cat" "chimney" "I") ∈ lw_all := lw_g (lw_at lw_m4 131 rfl) rfl
theorem q969 : (Jvm.Cond.fieldLink "RooftopCats$Cat" (9 : Nat) "RooftopCats$Cat" "fish" "I") ∈ lw_all := lw_g (lw_at lw_m4 134 rfl) rfl
theorem q972 : (Jvm.Cond.laysFinal "RooftopCats$Cat" "RooftopCats$Cat" "girth" "I") ∈ lw_all := lw_g (lw_at lw_m4 137 rfl) rfl
theorem q973 : (Jvm.Cond.soleField "RooftopCats$Cat" "girth") ∈ lw_all := lw_g (lw_at lw_m4 138 rfl) rfl
theorem q974 : (Jvm.Cond.laysFinal "RooftopCats$Cat" "RooftopCats$Cat" "strength" "I") ∈ lw_all := lw_g (lw_at lw_m4 139 rfl) rfl
theorem q975 : (Jvm.Cond.soleField "RooftopCats$Cat" "strength") ∈ lw_all := lw_g (lw_at lw_m4 140 rfl) rfl
theorem q976 : (Jvm.Cond.lays "RooftopCats$Cat" "RooftopCats$Cat" "chimney" "I") ∈ lw_all := lw_g (lw_at lw_m4 141 rfl) rfl
theorem q977 : (Jvm.Cond.soleField "RooftopCats$Cat" "chimney") ∈ lw_all := lw_g (lw_at lw_m4 142 rfl) rfl
theorem q978 : (Jvm.Cond.lays "RooftopCats$Cat" "RooftopCats$Cat" "fish" "I") ∈ lw_all := lw_g (lw_at lw_m4 143 rfl) rfl
theorem q979 : (Jvm.Cond.soleField "RooftopCats$Cat" "fish") ∈ lw_all := lw_g (lw_at lw_m4 144 rfl) rfl
theorem q980 : (Jvm.Cond.superclass "RooftopCats$Cat" "java/lang/Object") ∈ lw_all := lw_g (lw_at lw_m4 145 rfl) rfl
theorem q1084 : (Jvm.Cond.instanceMethod ({ cls := "RooftopCats$Cat", name := "get", desc := "(I)I" } : Jvm.MethodName)) ∈ lw_all := lw_g (lw_at lw_m5 9 rfl) rfl
theorem q1085 : (Jvm.Cond.selects "RooftopCats$Cat" ({ cls := "RooftopCats$Cat", name := "get", desc := "(I)I" } : Jvm.MethodName) ({ cls := "RooftopCats$Cat", name := "get", desc := "(I)I" } : Jvm.MethodName)) ∈ lw_all := lw_g (lw_at lw_m5 10 rfl) rfl
theorem q1086 : (Jvm.Cond.code ({ cls := "RooftopCats$Cat", name := "get", desc := "(I)I" } : Jvm.MethodName) prog_2_method_3_code (3 : Nat) (Option.some Jvm.ClassFile.FieldType.int)) ∈ lw_all := lw_g (lw_at lw_m5 11 rfl) rfl
theorem q1087 : (Jvm.Cond.methodLink "RooftopCats$Cat" (27 : Nat) ({ cls := "java/lang/Math", name := "min", desc := "(II)I" } : Jvm.MethodName)) ∈ lw_all := lw_g (lw_at lw_m5 12 rfl) rfl
theorem q1141 : (Jvm.Cond.instanceMethod ({ cls := "RooftopCats$Cat", name := "eat", desc := "()I" } : Jvm.MethodName)) ∈ lw_all := lw_g (lw_at lw_m5 66 rfl) rfl
theorem q1142 : (Jvm.Cond.selects "RooftopCats$Cat" ({ cls := "RooftopCats$Cat", name := "eat", desc := "()I" } : Jvm.MethodName) ({ cls := "RooftopCats$Cat", name := "eat", desc := "()I" } : Jvm.MethodName)) ∈ lw_all := lw_g (lw_at lw_m5 67 rfl) rfl
theorem q1143 : (Jvm.Cond.code ({ cls := "RooftopCats$Cat", name := "eat", desc := "()I" } : Jvm.MethodName) prog_2_method_4_code (2 : Nat) (Option.some Jvm.ClassFile.FieldType.int)) ∈ lw_all := lw_g (lw_at lw_m5 68 rfl) rfl
theorem q1464 : (Jvm.Cond.instanceMethod ({ cls := "RooftopCats$Cat", name := "copy", desc := "()LRooftopCats$Cat;" } : Jvm.MethodName)) ∈ lw_all := lw_g (lw_at lw_m6 149 rfl) rfl
theorem q1465 : (Jvm.Cond.selects "RooftopCats$Cat" ({ cls := "RooftopCats$Cat", name := "copy", desc := "()LRooftopCats$Cat;" } : Jvm.MethodName) ({ cls := "RooftopCats$Cat", name := "copy", desc := "()LRooftopCats$Cat;" } : Jvm.MethodName)) ∈ lw_all := lw_g (lw_at lw_m6 150 rfl) rfl
theorem q1466 : (Jvm.Cond.code ({ cls := "RooftopCats$Cat", name := "copy", desc := "()LRooftopCats$Cat;" } : Jvm.MethodName) prog_2_method_2_code (2 : Nat) (Option.some (Jvm.ClassFile.FieldType.object "RooftopCats$Cat"))) ∈ lw_all := lw_g (lw_at lw_m6 151 rfl) rfl
theorem q1467 : (Jvm.Cond.classLink "RooftopCats$Cat" (10 : Nat) "RooftopCats$Cat") ∈ lw_all := lw_g (lw_at lw_m6 152 rfl) rfl
theorem q1468 : (Jvm.Cond.methodLink "RooftopCats$Cat" (24 : Nat) ({ cls := "RooftopCats$Cat", name := "<init>", desc := "(III)V" } : Jvm.MethodName)) ∈ lw_all := lw_g (lw_at lw_m6 153 rfl) rfl
theorem q2732 : (Jvm.Cond.castable "RooftopCats$Cat" "java/lang/Object") ∈ lw_tbl := lw_at lw_m11 217 rfl
theorem in_X7 : ∀ w ∈ wsX70, w ∈ lw_all := lw_in wsX70 [972, 974, 976, 978] (by decide +kernel) (by decide +kernel)

/-! RooftopCats$Kitten -/
set_option maxRecDepth 100000
def RX8 : String := "RooftopCats$Kitten"
def TX8 : u_T := fun k => match k with
  | 0 => ("RooftopCats$Kitten", "girth", "I", true)
  | 1 => ("RooftopCats$Kitten", "strength", "I", true)
  | 2 => ("RooftopCats$Kitten", "yes", "I", true)
  | _ => ("RooftopCats$Kitten", "no", "I", true)
def tyX8 : Nat → FieldType := fun k => match k with
  | 0 => .int
  | 1 => .int
  | 2 => .int
  | _ => .int
abbrev wsX80 : List Cond := u_ws RX8 TX8 4
theorem nmX8 : ∀ a, a < 4 → ∀ b, b < 4 → a ≠ b → (TX8 a).2.1 ≠ (TX8 b).2.1 := by decide +kernel
theorem tyX8_ok : ∀ k, k < 4 → parseFieldDescriptor (TX8 k).2.2.1 = some (tyX8 k) := by decide +kernel
abbrev cX8_init : ByteArray := prog_5_method_1_code
def yX8_init : MethodName := ⟨RX8, "<init>", "(IIII)V"⟩
def dkwX8_init_1 : List UInt8 := [181, 0, 19, 177]
abbrev dktX8_init_1 : List UInt8 := dkwX8_init_1 ++ []
def dkwX8_init_0 : List UInt8 := [42, 183, 0, 1, 42, 27, 181, 0, 7, 42, 28, 181, 0, 13, 42, 29, 181, 0, 16, 42, 21, 4]
abbrev dktX8_init_0 : List UInt8 := dkwX8_init_0 ++ dktX8_init_1
theorem dksX8_init_0 : cX8_init.data.toList.drop 0 = dktX8_init_0 := by decide +kernel
theorem dksX8_init_1 : cX8_init.data.toList.drop 22 = dktX8_init_1 := dk_seg dksX8_init_0 22 rfl rfl
theorem dX8_init_0 : decode cX8_init 0 = .ok (.aload_n 0, 1) := dk_42 (dk_at dksX8_init_0 0 rfl rfl)
theorem dX8_init_1 : decode cX8_init 1 = .ok (.invokespecial 1, 3) := dk_183 0 1 (dk_at dksX8_init_0 1 rfl rfl)
theorem dX8_init_4 : decode cX8_init 4 = .ok (.aload_n 0, 1) := dk_42 (dk_at dksX8_init_0 4 rfl rfl)
theorem dX8_init_5 : decode cX8_init 5 = .ok (.iload_n 1, 1) := dk_27 (dk_at dksX8_init_0 5 rfl rfl)
theorem dX8_init_6 : decode cX8_init 6 = .ok (.putfield 7, 3) := dk_181 0 7 (dk_at dksX8_init_0 6 rfl rfl)
theorem dX8_init_9 : decode cX8_init 9 = .ok (.aload_n 0, 1) := dk_42 (dk_at dksX8_init_0 9 rfl rfl)
theorem dX8_init_10 : decode cX8_init 10 = .ok (.iload_n 2, 1) := dk_28 (dk_at dksX8_init_0 10 rfl rfl)
theorem dX8_init_11 : decode cX8_init 11 = .ok (.putfield 13, 3) := dk_181 0 13 (dk_at dksX8_init_0 11 rfl rfl)
theorem dX8_init_14 : decode cX8_init 14 = .ok (.aload_n 0, 1) := dk_42 (dk_at dksX8_init_0 14 rfl rfl)
theorem dX8_init_15 : decode cX8_init 15 = .ok (.iload_n 3, 1) := dk_29 (dk_at dksX8_init_0 15 rfl rfl)
theorem dX8_init_16 : decode cX8_init 16 = .ok (.putfield 16, 3) := dk_181 0 16 (dk_at dksX8_init_0 16 rfl rfl)
theorem dX8_init_19 : decode cX8_init 19 = .ok (.aload_n 0, 1) := dk_42 (dk_at dksX8_init_0 19 rfl rfl)
theorem dX8_init_20 : decode cX8_init 20 = .ok (.iload 4, 2) := dk_21 4 (dk_at dksX8_init_0 20 rfl rfl)
theorem dX8_init_22 : decode cX8_init 22 = .ok (.putfield 19, 3) := dk_181 0 19 (dk_at dksX8_init_1 0 rfl rfl)
theorem dX8_init_25 : decode cX8_init 25 = .ok (.return_, 1) := dk_177 (dk_at dksX8_init_1 3 rfl rfl)
abbrev cX8_hasVote : ByteArray := prog_5_method_2_code
def yX8_hasVote : MethodName := ⟨RX8, "hasVote", "(I)Z"⟩
def dkwX8_hasVote_0 : List UInt8 := [42, 180, 0, 16, 42, 180, 0, 19, 128, 27, 122, 4, 126, 4, 160, 0, 7, 4, 167, 0, 4, 3, 172]
abbrev dktX8_hasVote_0 : List UInt8 := dkwX8_hasVote_0 ++ []
theorem dksX8_hasVote_0 : cX8_hasVote.data.toList.drop 0 = dktX8_hasVote_0 := by decide +kernel
theorem dX8_hasVote_0 : decode cX8_hasVote 0 = .ok (.aload_n 0, 1) := dk_42 (dk_at dksX8_hasVote_0 0 rfl rfl)
theorem dX8_hasVote_1 : decode cX8_hasVote 1 = .ok (.getfield 16, 3) := dk_180 0 16 (dk_at dksX8_hasVote_0 1 rfl rfl)
theorem dX8_hasVote_4 : decode cX8_hasVote 4 = .ok (.aload_n 0, 1) := dk_42 (dk_at dksX8_hasVote_0 4 rfl rfl)
theorem dX8_hasVote_5 : decode cX8_hasVote 5 = .ok (.getfield 19, 3) := dk_180 0 19 (dk_at dksX8_hasVote_0 5 rfl rfl)
theorem dX8_hasVote_8 : decode cX8_hasVote 8 = .ok (.ior, 1) := dk_128 (dk_at dksX8_hasVote_0 8 rfl rfl)
theorem dX8_hasVote_9 : decode cX8_hasVote 9 = .ok (.iload_n 1, 1) := dk_27 (dk_at dksX8_hasVote_0 9 rfl rfl)
theorem dX8_hasVote_10 : decode cX8_hasVote 10 = .ok (.ishr, 1) := dk_122 (dk_at dksX8_hasVote_0 10 rfl rfl)
theorem dX8_hasVote_11 : decode cX8_hasVote 11 = .ok (.iconst 1, 1) := dk_4 (dk_at dksX8_hasVote_0 11 rfl rfl)
theorem dX8_hasVote_12 : decode cX8_hasVote 12 = .ok (.iand, 1) := dk_126 (dk_at dksX8_hasVote_0 12 rfl rfl)
theorem dX8_hasVote_13 : decode cX8_hasVote 13 = .ok (.iconst 1, 1) := dk_4 (dk_at dksX8_hasVote_0 13 rfl rfl)
theorem dX8_hasVote_14 : decode cX8_hasVote 14 = .ok (.if_icmp .ne 7, 3) := dk_160 0 7 (dk_at dksX8_hasVote_0 14 rfl rfl)
theorem dX8_hasVote_17 : decode cX8_hasVote 17 = .ok (.iconst 1, 1) := dk_4 (dk_at dksX8_hasVote_0 17 rfl rfl)
theorem dX8_hasVote_18 : decode cX8_hasVote 18 = .ok (.goto 4, 3) := dk_167 0 4 (dk_at dksX8_hasVote_0 18 rfl rfl)
theorem dX8_hasVote_21 : decode cX8_hasVote 21 = .ok (.iconst 0, 1) := dk_3 (dk_at dksX8_hasVote_0 21 rfl rfl)
theorem dX8_hasVote_22 : decode cX8_hasVote 22 = .ok (.ireturn, 1) := dk_172 (dk_at dksX8_hasVote_0 22 rfl rfl)
abbrev cX8_with : ByteArray := prog_5_method_3_code
def yX8_with : MethodName := ⟨RX8, "with", "(IZ)LRooftopCats$Kitten;"⟩
def dkwX8_with_2 : List UInt8 := [180, 0, 16, 42, 180, 0, 19, 4, 27, 120, 128, 183, 0, 22, 176]
abbrev dktX8_with_2 : List UInt8 := dkwX8_with_2 ++ []
def dkwX8_with_1 : List UInt8 := [42, 180, 0, 19, 183, 0, 22, 167, 0, 30, 187, 0, 8, 89, 42, 180, 0, 7, 42, 180, 0, 13, 42]
abbrev dktX8_with_1 : List UInt8 := dkwX8_with_1 ++ dktX8_with_2
def dkwX8_with_0 : List UInt8 := [28, 153, 0, 33, 187, 0, 8, 89, 42, 180, 0, 7, 42, 180, 0, 13, 42, 180, 0, 16, 4, 27, 120, 128]
abbrev dktX8_with_0 : List UInt8 := dkwX8_with_0 ++ dktX8_with_1
theorem dksX8_with_0 : cX8_with.data.toList.drop 0 = dktX8_with_0 := by decide +kernel
theorem dksX8_with_1 : cX8_with.data.toList.drop 24 = dktX8_with_1 := dk_seg dksX8_with_0 24 rfl rfl
theorem dksX8_with_2 : cX8_with.data.toList.drop 47 = dktX8_with_2 := dk_seg dksX8_with_1 23 rfl rfl
theorem dX8_with_0 : decode cX8_with 0 = .ok (.iload_n 2, 1) := dk_28 (dk_at dksX8_with_0 0 rfl rfl)
theorem dX8_with_1 : decode cX8_with 1 = .ok (.ifCond .eq 33, 3) := dk_153 0 33 (dk_at dksX8_with_0 1 rfl rfl)
theorem dX8_with_4 : decode cX8_with 4 = .ok (.new 8, 3) := dk_187 0 8 (dk_at dksX8_with_0 4 rfl rfl)
theorem dX8_with_7 : decode cX8_with 7 = .ok (.dup, 1) := dk_89 (dk_at dksX8_with_0 7 rfl rfl)
theorem dX8_with_8 : decode cX8_with 8 = .ok (.aload_n 0, 1) := dk_42 (dk_at dksX8_with_0 8 rfl rfl)
theorem dX8_with_9 : decode cX8_with 9 = .ok (.getfield 7, 3) := dk_180 0 7 (dk_at dksX8_with_0 9 rfl rfl)
theorem dX8_with_12 : decode cX8_with 12 = .ok (.aload_n 0, 1) := dk_42 (dk_at dksX8_with_0 12 rfl rfl)
theorem dX8_with_13 : decode cX8_with 13 = .ok (.getfield 13, 3) := dk_180 0 13 (dk_at dksX8_with_0 13 rfl rfl)
theorem dX8_with_16 : decode cX8_with 16 = .ok (.aload_n 0, 1) := dk_42 (dk_at dksX8_with_0 16 rfl rfl)
theorem dX8_with_17 : decode cX8_with 17 = .ok (.getfield 16, 3) := dk_180 0 16 (dk_at dksX8_with_0 17 rfl rfl)
theorem dX8_with_20 : decode cX8_with 20 = .ok (.iconst 1, 1) := dk_4 (dk_at dksX8_with_0 20 rfl rfl)
theorem dX8_with_21 : decode cX8_with 21 = .ok (.iload_n 1, 1) := dk_27 (dk_at dksX8_with_0 21 rfl rfl)
theorem dX8_with_22 : decode cX8_with 22 = .ok (.ishl, 1) := dk_120 (dk_at dksX8_with_0 22 rfl rfl)
theorem dX8_with_23 : decode cX8_with 23 = .ok (.ior, 1) := dk_128 (dk_at dksX8_with_0 23 rfl rfl)
theorem dX8_with_24 : decode cX8_with 24 = .ok (.aload_n 0, 1) := dk_42 (dk_at dksX8_with_1 0 rfl rfl)
theorem dX8_with_25 : decode cX8_with 25 = .ok (.getfield 19, 3) := dk_180 0 19 (dk_at dksX8_with_1 1 rfl rfl)
theorem dX8_with_28 : decode cX8_with 28 = .ok (.invokespecial 22, 3) := dk_183 0 22 (dk_at dksX8_with_1 4 rfl rfl)
theorem dX8_with_31 : decode cX8_with 31 = .ok (.goto 30, 3) := dk_167 0 30 (dk_at dksX8_with_1 7 rfl rfl)
theorem dX8_with_34 : decode cX8_with 34 = .ok (.new 8, 3) := dk_187 0 8 (dk_at dksX8_with_1 10 rfl rfl)
theorem dX8_with_37 : decode cX8_with 37 = .ok (.dup, 1) := dk_89 (dk_at dksX8_with_1 13 rfl rfl)
theorem dX8_with_38 : decode cX8_with 38 = .ok (.aload_n 0, 1) := dk_42 (dk_at dksX8_with_1 14 rfl rfl)
theorem dX8_with_39 : decode cX8_with 39 = .ok (.getfield 7, 3) := dk_180 0 7 (dk_at dksX8_with_1 15 rfl rfl)
theorem dX8_with_42 : decode cX8_with 42 = .ok (.aload_n 0, 1) := dk_42 (dk_at dksX8_with_1 18 rfl rfl)
theorem dX8_with_43 : decode cX8_with 43 = .ok (.getfield 13, 3) := dk_180 0 13 (dk_at dksX8_with_1 19 rfl rfl)
theorem dX8_with_46 : decode cX8_with 46 = .ok (.aload_n 0, 1) := dk_42 (dk_at dksX8_with_1 22 rfl rfl)
theorem dX8_with_47 : decode cX8_with 47 = .ok (.getfield 16, 3) := dk_180 0 16 (dk_at dksX8_with_2 0 rfl rfl)
theorem dX8_with_50 : decode cX8_with 50 = .ok (.aload_n 0, 1) := dk_42 (dk_at dksX8_with_2 3 rfl rfl)
theorem dX8_with_51 : decode cX8_with 51 = .ok (.getfield 19, 3) := dk_180 0 19 (dk_at dksX8_with_2 4 rfl rfl)
theorem dX8_with_54 : decode cX8_with 54 = .ok (.iconst 1, 1) := dk_4 (dk_at dksX8_with_2 7 rfl rfl)
theorem dX8_with_55 : decode cX8_with 55 = .ok (.iload_n 1, 1) := dk_27 (dk_at dksX8_with_2 8 rfl rfl)
theorem dX8_with_56 : decode cX8_with 56 = .ok (.ishl, 1) := dk_120 (dk_at dksX8_with_2 9 rfl rfl)
theorem dX8_with_57 : decode cX8_with 57 = .ok (.ior, 1) := dk_128 (dk_at dksX8_with_2 10 rfl rfl)
theorem dX8_with_58 : decode cX8_with 58 = .ok (.invokespecial 22, 3) := dk_183 0 22 (dk_at dksX8_with_2 11 rfl rfl)
theorem dX8_with_61 : decode cX8_with 61 = .ok (.areturn, 1) := dk_176 (dk_at dksX8_with_2 14 rfl rfl)
abbrev cX8_yes : ByteArray := prog_5_method_9_code
def yX8_yes : MethodName := ⟨RX8, "yes", "()I"⟩
theorem dX8_yes_0 : decode cX8_yes 0 = .ok (.aload_n 0, 1) := by decide +kernel
theorem dX8_yes_1 : decode cX8_yes 1 = .ok (.getfield 16, 3) := by decide +kernel
theorem dX8_yes_4 : decode cX8_yes 4 = .ok (.ireturn, 1) := by decide +kernel
abbrev cX8_no : ByteArray := prog_5_method_10_code
def yX8_no : MethodName := ⟨RX8, "no", "()I"⟩
theorem dX8_no_0 : decode cX8_no 0 = .ok (.aload_n 0, 1) := by decide +kernel
theorem dX8_no_1 : decode cX8_no 1 = .ok (.getfield 19, 3) := by decide +kernel
theorem dX8_no_4 : decode cX8_no 4 = .ok (.ireturn, 1) := by decide +kernel
abbrev cX8_girth : ByteArray := prog_5_method_7_code
def yX8_girth : MethodName := ⟨RX8, "girth", "()I"⟩
theorem dX8_girth_0 : decode cX8_girth 0 = .ok (.aload_n 0, 1) := by decide +kernel
theorem dX8_girth_1 : decode cX8_girth 1 = .ok (.getfield 7, 3) := by decide +kernel
theorem dX8_girth_4 : decode cX8_girth 4 = .ok (.ireturn, 1) := by decide +kernel
abbrev cX8_strength : ByteArray := prog_5_method_8_code
def yX8_strength : MethodName := ⟨RX8, "strength", "()I"⟩
theorem dX8_strength_0 : decode cX8_strength 0 = .ok (.aload_n 0, 1) := by decide +kernel
theorem dX8_strength_1 : decode cX8_strength 1 = .ok (.getfield 13, 3) := by decide +kernel
theorem dX8_strength_4 : decode cX8_strength 4 = .ok (.ireturn, 1) := by decide +kernel
theorem q147 : (Jvm.Cond.initialized "RooftopCats$Kitten") ∈ lw_all := lw_g (lw_at lw_m1 32 rfl) rfl
theorem q878 : (Jvm.Cond.selects "RooftopCats$Kitten" ({ cls := "java/lang/Object", name := "getClass", desc := "()Ljava/lang/Class;" } : Jvm.MethodName) ({ cls := "java/lang/Object", name := "getClass", desc := "()Ljava/lang/Class;" } : Jvm.MethodName)) ∈ lw_all := lw_g (lw_at lw_m4 43 rfl) rfl
theorem q1114 : (Jvm.Cond.instantiable "RooftopCats$Kitten" (4 : Nat)) ∈ lw_all := lw_g (lw_at lw_m5 39 rfl) rfl
theorem q1116 : (Jvm.Cond.instanceMethod ({ cls := "RooftopCats$Kitten", name := "<init>", desc := "(IIII)V" } : Jvm.MethodName)) ∈ lw_all := lw_g (lw_at lw_m5 41 rfl) rfl
theorem q1117 : (Jvm.Cond.code ({ cls := "RooftopCats$Kitten", name := "<init>", desc := "(IIII)V" } : Jvm.MethodName) prog_5_method_1_code (5 : Nat) (Option.none : Option Jvm.ClassFile.FieldType)) ∈ lw_all := lw_g (lw_at lw_m5 42 rfl) rfl
theorem q1118 : (Jvm.Cond.methodLink "RooftopCats$Kitten" (1 : Nat) ({ cls := "java/lang/Record", name := "<init>", desc := "()V" } : Jvm.MethodName)) ∈ lw_all := lw_g (lw_at lw_m5 43 rfl) rfl
theorem q1119 : (Jvm.Cond.fieldLink "RooftopCats$Kitten" (7 : Nat) "RooftopCats$Kitten" "girth" "I") ∈ lw_all := lw_g (lw_at lw_m5 44 rfl) rfl
theorem q1120 : (Jvm.Cond.fieldLink "RooftopCats$Kitten" (13 : Nat) "RooftopCats$Kitten" "strength" "I") ∈ lw_all := lw_g (lw_at lw_m5 45 rfl) rfl
theorem q1121 : (Jvm.Cond.fieldLink "RooftopCats$Kitten" (16 : Nat) "RooftopCats$Kitten" "yes" "I") ∈ lw_all := lw_g (lw_at lw_m5 46 rfl) rfl
theorem q1122 : (Jvm.Cond.fieldLink "RooftopCats$Kitten" (19 : Nat) "RooftopCats$Kitten" "no" "I") ∈ lw_all := lw_g (lw_at lw_m5 47 rfl) rfl
theorem q1123 : (Jvm.Cond.laysFinal "RooftopCats$Kitten" "RooftopCats$Kitten" "girth" "I") ∈ lw_all := lw_g (lw_at lw_m5 48 rfl) rfl
theorem q1124 : (Jvm.Cond.soleField "RooftopCats$Kitten" "girth") ∈ lw_all := lw_g (lw_at lw_m5 49 rfl) rfl
theorem q1125 : (Jvm.Cond.laysFinal "RooftopCats$Kitten" "RooftopCats$Kitten" "strength" "I") ∈ lw_all := lw_g (lw_at lw_m5 50 rfl) rfl
theorem q1126 : (Jvm.Cond.soleField "RooftopCats$Kitten" "strength") ∈ lw_all := lw_g (lw_at lw_m5 51 rfl) rfl
theorem q1127 : (Jvm.Cond.laysFinal "RooftopCats$Kitten" "RooftopCats$Kitten" "yes" "I") ∈ lw_all := lw_g (lw_at lw_m5 52 rfl) rfl
theorem q1128 : (Jvm.Cond.soleField "RooftopCats$Kitten" "yes") ∈ lw_all := lw_g (lw_at lw_m5 53 rfl) rfl
theorem q1129 : (Jvm.Cond.laysFinal "RooftopCats$Kitten" "RooftopCats$Kitten" "no" "I") ∈ lw_all := lw_g (lw_at lw_m5 54 rfl) rfl
theorem q1130 : (Jvm.Cond.soleField "RooftopCats$Kitten" "no") ∈ lw_all := lw_g (lw_at lw_m5 55 rfl) rfl
theorem q1131 : (Jvm.Cond.superclass "RooftopCats$Kitten" "java/lang/Record") ∈ lw_all := lw_g (lw_at lw_m5 56 rfl) rfl
theorem q1165 : (Jvm.Cond.instanceMethod ({ cls := "RooftopCats$Kitten", name := "hasVote", desc := "(I)Z" } : Jvm.MethodName)) ∈ lw_all := lw_g (lw_at lw_m5 90 rfl) rfl
theorem q1166 : (Jvm.Cond.selects "RooftopCats$Kitten" ({ cls := "RooftopCats$Kitten", name := "hasVote", desc := "(I)Z" } : Jvm.MethodName) ({ cls := "RooftopCats$Kitten", name := "hasVote", desc := "(I)Z" } : Jvm.MethodName)) ∈ lw_all := lw_g (lw_at lw_m5 91 rfl) rfl
theorem q1167 : (Jvm.Cond.code ({ cls := "RooftopCats$Kitten", name := "hasVote", desc := "(I)Z" } : Jvm.MethodName) prog_5_method_2_code (2 : Nat) (Option.some Jvm.ClassFile.FieldType.boolean)) ∈ lw_all := lw_g (lw_at lw_m5 92 rfl) rfl
theorem q1173 : (Jvm.Cond.instanceMethod ({ cls := "RooftopCats$Kitten", name := "with", desc := "(IZ)LRooftopCats$Kitten;" } : Jvm.MethodName)) ∈ lw_all := lw_g (lw_at lw_m5 98 rfl) rfl
theorem q1174 : (Jvm.Cond.selects "RooftopCats$Kitten" ({ cls := "RooftopCats$Kitten", name := "with", desc := "(IZ)LRooftopCats$Kitten;" } : Jvm.MethodName) ({ cls := "RooftopCats$Kitten", name := "with", desc := "(IZ)LRooftopCats$Kitten;" } : Jvm.MethodName)) ∈ lw_all := lw_g (lw_at lw_m5 99 rfl) rfl
theorem q1175 : (Jvm.Cond.code ({ cls := "RooftopCats$Kitten", name := "with", desc := "(IZ)LRooftopCats$Kitten;" } : Jvm.MethodName) prog_5_method_3_code (3 : Nat) (Option.some (Jvm.ClassFile.FieldType.object "RooftopCats$Kitten"))) ∈ lw_all := lw_g (lw_at lw_m5 100 rfl) rfl
theorem q1176 : (Jvm.Cond.classLink "RooftopCats$Kitten" (8 : Nat) "RooftopCats$Kitten") ∈ lw_all := lw_g (lw_at lw_m5 101 rfl) rfl
theorem q1177 : (Jvm.Cond.methodLink "RooftopCats$Kitten" (22 : Nat) ({ cls := "RooftopCats$Kitten", name := "<init>", desc := "(IIII)V" } : Jvm.MethodName)) ∈ lw_all := lw_g (lw_at lw_m5 102 rfl) rfl
theorem q1179 : (Jvm.Cond.instanceMethod ({ cls := "RooftopCats$Kitten", name := "yes", desc := "()I" } : Jvm.MethodName)) ∈ lw_all := lw_g (lw_at lw_m5 104 rfl) rfl
theorem q1180 : (Jvm.Cond.selects "RooftopCats$Kitten" ({ cls := "RooftopCats$Kitten", name := "yes", desc := "()I" } : Jvm.MethodName) ({ cls := "RooftopCats$Kitten", name := "yes", desc := "()I" } : Jvm.MethodName)) ∈ lw_all := lw_g (lw_at lw_m5 105 rfl) rfl
theorem q1181 : (Jvm.Cond.code ({ cls := "RooftopCats$Kitten", name := "yes", desc := "()I" } : Jvm.MethodName) prog_5_method_9_code (1 : Nat) (Option.some Jvm.ClassFile.FieldType.int)) ∈ lw_all := lw_g (lw_at lw_m5 106 rfl) rfl
theorem q1183 : (Jvm.Cond.instanceMethod ({ cls := "RooftopCats$Kitten", name := "no", desc := "()I" } : Jvm.MethodName)) ∈ lw_all := lw_g (lw_at lw_m5 108 rfl) rfl
theorem q1184 : (Jvm.Cond.selects "RooftopCats$Kitten" ({ cls := "RooftopCats$Kitten", name := "no", desc := "()I" } : Jvm.MethodName) ({ cls := "RooftopCats$Kitten", name := "no", desc := "()I" } : Jvm.MethodName)) ∈ lw_all := lw_g (lw_at lw_m5 109 rfl) rfl
theorem q1185 : (Jvm.Cond.code ({ cls := "RooftopCats$Kitten", name := "no", desc := "()I" } : Jvm.MethodName) prog_5_method_10_code (1 : Nat) (Option.some Jvm.ClassFile.FieldType.int)) ∈ lw_all := lw_g (lw_at lw_m5 110 rfl) rfl
theorem q1191 : (Jvm.Cond.instanceMethod ({ cls := "RooftopCats$Kitten", name := "girth", desc := "()I" } : Jvm.MethodName)) ∈ lw_all := lw_g (lw_at lw_m5 116 rfl) rfl
theorem q1192 : (Jvm.Cond.selects "RooftopCats$Kitten" ({ cls := "RooftopCats$Kitten", name := "girth", desc := "()I" } : Jvm.MethodName) ({ cls := "RooftopCats$Kitten", name := "girth", desc := "()I" } : Jvm.MethodName)) ∈ lw_all := lw_g (lw_at lw_m5 117 rfl) rfl
theorem q1193 : (Jvm.Cond.code ({ cls := "RooftopCats$Kitten", name := "girth", desc := "()I" } : Jvm.MethodName) prog_5_method_7_code (1 : Nat) (Option.some Jvm.ClassFile.FieldType.int)) ∈ lw_all := lw_g (lw_at lw_m5 118 rfl) rfl
theorem q1195 : (Jvm.Cond.instanceMethod ({ cls := "RooftopCats$Kitten", name := "strength", desc := "()I" } : Jvm.MethodName)) ∈ lw_all := lw_g (lw_at lw_m5 120 rfl) rfl
theorem q1196 : (Jvm.Cond.selects "RooftopCats$Kitten" ({ cls := "RooftopCats$Kitten", name := "strength", desc := "()I" } : Jvm.MethodName) ({ cls := "RooftopCats$Kitten", name := "strength", desc := "()I" } : Jvm.MethodName)) ∈ lw_all := lw_g (lw_at lw_m5 121 rfl) rfl
theorem q1197 : (Jvm.Cond.code ({ cls := "RooftopCats$Kitten", name := "strength", desc := "()I" } : Jvm.MethodName) prog_5_method_8_code (1 : Nat) (Option.some Jvm.ClassFile.FieldType.int)) ∈ lw_all := lw_g (lw_at lw_m5 122 rfl) rfl
theorem q2733 : (Jvm.Cond.castable "RooftopCats$Kitten" "java/lang/Object") ∈ lw_tbl := lw_at lw_m11 218 rfl
theorem in_X8 : ∀ w ∈ wsX80, w ∈ lw_all := lw_in wsX80 [1123, 1125, 1127, 1129] (by decide +kernel) (by decide +kernel)
