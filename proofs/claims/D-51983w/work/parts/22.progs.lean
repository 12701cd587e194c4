set_option maxRecDepth 100000
/-! PROGRAMS (printed by gen.py): the methods, decompiled -/
def rp_J0_init (v0 : Option Nat) : rc_M Unit :=
rc_bind (rc_nn v0) fun _ =>
rc_pure ()
def rp_J1_init (v0 : Option Nat) : rc_M Unit :=
rc_bind (rc_nn v0) fun _ =>
rc_bind (rp_J0_init v0) fun _ =>
rc_bind (rc_newa 4 (17 : Int32)) fun x1 =>
rc_bind (rc_put 9 0 (.array (.object "java/lang/Object")) v0 (rc_q x1)) fun _ =>
rc_pure ()
def rp_J5_newBytesLength (v0 : Int32) : rc_M Int32 :=
(if 0 ≤ v0 then
(if v0 < (1073741823 : Int32) then
rc_pure (v0 <<< ((1 : Int32) &&& 31))
else
rc_fail)
else
rc_fail)
def rp_J5_newBytesFor (v0 : Int32) : rc_M (Option Nat) :=
rc_bind (rp_J5_newBytesLength v0) fun x1 =>
rc_bind (rc_newa 2 x1) fun x2 =>
rc_pure x2
def rp_J2_init (v0 : Option Nat) (v1 : Int32) : rc_M Unit :=
rc_bind (rc_nn v0) fun _ =>
rc_bind (rc_stati 7) fun x1 =>
(if x1 = 0 then
rc_bind (rp_J5_newBytesFor v1) fun x2 =>
rc_bind (rc_put 10 0 (.array .byte) v0 (rc_q x2)) fun _ =>
rc_bind (rc_put 10 1 .byte v0 (rc_i (1 : Int32))) fun _ =>
rc_pure ()
else
rc_bind (rc_newa 2 v1) fun x3 =>
rc_bind (rc_put 10 0 (.array .byte) v0 (rc_q x3)) fun _ =>
rc_bind (rc_put 10 1 .byte v0 (rc_i (0 : Int32))) fun _ =>
rc_pure ())
def rp_J3_init (v0 : Option Nat) : rc_M Unit :=
rc_bind (rc_nn v0) fun _ =>
rc_bind (rp_J2_init v0 (16 : Int32)) fun _ =>
rc_pure ()
def rp_J6_init (v0 : Option Nat) : rc_M Unit :=
rc_bind (rc_nn v0) fun _ =>
rc_bind (rp_J0_init v0) fun _ =>
rc_bind (rc_put 12 0 .int v0 (rc_i (0 : Int32))) fun _ =>
rc_pure ()
def rp_J7_init (v0 : Option Nat) : rc_M Unit :=
rc_bind (rc_nn v0) fun _ =>
rc_bind (rp_J6_init v0) fun _ =>
rc_bind (rc_stat 8) fun x1 =>
rc_bind (rc_put 12 1 (.array (.object "java/lang/Object")) v0 (rc_q x1)) fun _ =>
rc_pure ()
def rp_J4_coder (v0 : Option Nat) : rc_M Int32 :=
rc_bind (rc_stati 7) fun x1 =>
(if x1 = 0 then
rc_pure (1 : Int32)
else
rc_bind (rc_geti 11 1 v0) fun x2 =>
rc_bind (rc_narM .byte x2) fun _ =>
rc_pure x2)
def rp_J4_length (v0 : Option Nat) : rc_M Int32 :=
rc_bind (rc_getq 11 0 v0) fun x1 =>
rc_bind (rc_alen 2 x1) fun x2 =>
rc_bind (rc_is 11 v0) fun _ =>
rc_bind (rp_J4_coder v0) fun x3 =>
rc_pure (x2 >>> (x3 &&& 31))
def rp_J4_isLatin1 (v0 : Option Nat) : rc_M Int32 :=
rc_bind (rc_stati 7) fun x1 =>
(if x1 = 0 then
rc_pure (0 : Int32)
else
rc_bind (rc_geti 11 1 v0) fun x2 =>
(if x2 = 0 then
rc_pure (1 : Int32)
else
rc_pure (0 : Int32)))
def rp_J9_checkIndex (v0 : Int32) (v1 : Int32) (v2 : Option Nat) : rc_M Int32 :=
(if v0 < 0 then
rc_fail
else
(if v0 < v1 then
rc_pure v0
else
rc_fail))
def rp_J4_checkIndex (v0 : Int32) (v1 : Int32) : rc_M Unit :=
rc_bind (rc_stat 9) fun x1 =>
rc_bind (rp_J9_checkIndex v0 v1 x1) fun x2 =>
rc_pure ()
def rp_J8_charAt (v0 : Option Nat) (v1 : Int32) : rc_M Int32 :=
rc_bind (rc_alen 2 v0) fun x1 =>
rc_bind (rp_J4_checkIndex v1 x1) fun _ =>
rc_bind (rc_ald 2 v0 v1) fun x2 =>
rc_bind (rc_narM .char (((x2 &&& (255 : Int32)).toUInt32 % 65536).toInt32)) fun _ =>
rc_pure (((x2 &&& (255 : Int32)).toUInt32 % 65536).toInt32)
def rp_J5_length (v0 : Option Nat) : rc_M Int32 :=
rc_bind (rc_alen 2 v0) fun x1 =>
rc_pure (x1 >>> ((1 : Int32) &&& 31))
def rp_J5_checkIndex (v0 : Int32) (v1 : Option Nat) : rc_M Unit :=
rc_bind (rp_J5_length v1) fun x1 =>
rc_bind (rp_J4_checkIndex v0 x1) fun _ =>
rc_pure ()
def rp_J5_getChar (v0 : Option Nat) (v1 : Int32) : rc_M Int32 :=
rc_fail
def rp_J5_charAt (v0 : Option Nat) (v1 : Int32) : rc_M Int32 :=
rc_bind (rp_J5_checkIndex v1 v0) fun _ =>
rc_bind (rp_J5_getChar v0 v1) fun x1 =>
rc_bind (rc_narM .char x1) fun _ =>
rc_pure x1
def rp_J4_charAt (v0 : Option Nat) (v1 : Int32) : rc_M Int32 :=
rc_bind (rc_is 11 v0) fun _ =>
rc_bind (rp_J4_isLatin1 v0) fun x1 =>
(if x1 = 0 then
rc_bind (rc_getq 11 0 v0) fun x2 =>
rc_bind (rp_J5_charAt x2 v1) fun x3 =>
rc_bind (rc_narM .char x3) fun _ =>
rc_pure x3
else
rc_bind (rc_getq 11 0 v0) fun x4 =>
rc_bind (rp_J8_charAt x4 v1) fun x5 =>
rc_bind (rc_narM .char x5) fun _ =>
rc_pure x5)
def rp_J9_checkFromToIndex (v0 : Int32) (v1 : Int32) (v2 : Int32) (v3 : Option Nat) : rc_M Int32 :=
(if v0 < 0 then
rc_fail
else
(if v1 < v0 then
rc_fail
else
(if v1 ≤ v2 then
rc_pure v0
else
rc_fail)))
def rp_J4_checkBoundsBeginEnd (v0 : Int32) (v1 : Int32) (v2 : Int32) : rc_M Unit :=
rc_bind (rc_stat 9) fun x1 =>
rc_bind (rp_J9_checkFromToIndex v0 v1 v2 x1) fun x2 =>
rc_pure ()
def rp_J10_checkLength (v0 : Int32) (v1 : Int32) : rc_M Unit :=
(if v0 ≤ v1 then
rc_pure ()
else
rc_fail)
def rp_J17_min (v0 : Int32) (v1 : Int32) : rc_M Int32 :=
(if v1 < v0 then
rc_pure v1
else
rc_pure v0)
def rp_J10_copyOfRangeByte (v0 : Option Nat) (v1 : Int32) (v2 : Int32) : rc_M (Option Nat) :=
rc_bind (rp_J10_checkLength v1 v2) fun _ =>
rc_bind (rc_newa 2 (v2 - v1)) fun x1 =>
rc_bind (rc_alen 2 v0) fun x2 =>
rc_bind (rp_J17_min (x2 - v1) (v2 - v1)) fun x3 =>
rc_bind (rc_acopy 2 v0 v1 x1 (0 : Int32) x3) fun _ =>
rc_pure x1
def rp_J10_copyOfRange_L10 (v0 : Option Nat) (v1 : Int32) (v2 : Int32) : rc_M (Option Nat) :=
rc_bind (rp_J10_copyOfRangeByte v0 v1 v2) fun x1 =>
rc_pure x1
def rp_J10_copyOfRange (v0 : Option Nat) (v1 : Int32) (v2 : Int32) : rc_M (Option Nat) :=
(if v1 = 0 then
rc_bind (rc_alen 2 v0) fun x1 =>
(if v2 = x1 then
rc_bind (rc_clone v0) fun x2 =>
rc_bind (rc_casta 2 x2) fun _ =>
rc_pure x2
else
rp_J10_copyOfRange_L10 v0 v1 v2)
else
rp_J10_copyOfRange_L10 v0 v1 v2)
def rp_J4_init_3 (v0 : Option Nat) (v1 : Option Nat) (v2 : Int32) : rc_M Unit :=
rc_bind (rc_nn v0) fun _ =>
rc_bind (rc_put 11 0 (.array .byte) v0 (rc_q v1)) fun _ =>
rc_bind (rc_put 11 1 .byte v0 (rc_i v2)) fun _ =>
rc_pure ()
def rp_J8_newString (v0 : Option Nat) (v1 : Int32) (v2 : Int32) : rc_M (Option Nat) :=
(if v2 = 0 then
rc_bind (rc_text 3) fun x3 =>
rc_pure x3
else
rc_bind (rc_new 11 4 [rc_q none, rc_i 0, rc_i 0, rc_i 0]) fun x1 =>
rc_bind (rp_J10_copyOfRange v0 v1 (v1 + v2)) fun x2 =>
rc_bind (rc_nn x1) fun _ =>
rc_bind (rp_J4_init_3 x1 x2 (0 : Int32)) fun _ =>
rc_pure x1)
def rp_J9_checkFromIndexSize (v0 : Int32) (v1 : Int32) (v2 : Int32) (v3 : Option Nat) : rc_M Int32 :=
(if ((v2 ||| v0) ||| v1) < 0 then
rc_fail
else
(if v1 ≤ (v2 - v0) then
rc_pure v0
else
rc_fail))
def rp_J4_checkBoundsOffCount (v0 : Int32) (v1 : Int32) (v2 : Int32) : rc_M Int32 :=
rc_bind (rc_stat 9) fun x1 =>
rc_bind (rp_J9_checkFromIndexSize v0 v1 v2 x1) fun x2 =>
rc_pure x2
def rp_J5_checkBoundsOffCount (v0 : Int32) (v1 : Int32) (v2 : Option Nat) : rc_M Unit :=
rc_bind (rp_J5_length v2) fun x1 =>
rc_bind (rp_J4_checkBoundsOffCount v0 v1 x1) fun x2 =>
rc_pure ()
def rp_J5_compress_2_L10 : Nat → Option Nat → Int32 → Option Nat → Int32 → Int32 → Int32 → rc_M Int32
  | 0, _, _, _, _, _, _ => rc_fail
  | n + 1, v0, v1, v2, v3, v4, v5 =>
    (if v4 ≤ v5 then
    rc_pure v4
    else
    rc_bind (rp_J5_getChar v0 v1) fun x1 =>
    (if x1 ≤ (255 : Int32) then
    rc_bind (rc_ast 2 v2 v3 (x1.toInt8.toInt32)) fun _ =>
    rp_J5_compress_2_L10 n v0 (v1 + (1 : Int32)) v2 (v3 + (1 : Int32)) v4 (v5 + (1 : Int32))
    else
    rc_pure v5))
def rp_J5_compress_2 (v0 : Option Nat) (v1 : Int32) (v2 : Option Nat) (v3 : Int32) (v4 : Int32) : rc_M Int32 :=
rc_bind (rp_J5_checkBoundsOffCount v1 v4 v0) fun _ =>
rc_bind rc_fuel fun x1 =>
rp_J5_compress_2_L10 x1 v0 v1 v2 v3 v4 (0 : Int32)
def rp_J5_compress (v0 : Option Nat) (v1 : Int32) (v2 : Int32) : rc_M (Option Nat) :=
rc_bind (rc_newa 2 v2) fun x1 =>
rc_bind (rp_J5_compress_2 v0 v1 x1 (0 : Int32) v2) fun x2 =>
(if x2 = v2 then
rc_pure x1
else
rc_bind (rp_J5_newBytesLength (v1 + v2)) fun x3 =>
rc_bind (rp_J10_copyOfRange v0 (v1 <<< ((1 : Int32) &&& 31)) x3) fun x4 =>
rc_bind (rp_J5_getChar x4 x2) fun x5 =>
(if (255 : Int32) < x5 then
rc_pure x4
else
rc_bind (rp_J5_compress_2 x4 (0 : Int32) x1 (0 : Int32) v2) fun x6 =>
(if x6 = v2 then
rc_pure x1
else
rc_pure x4)))
def rp_J5_coderFromArrayLen (v0 : Option Nat) (v1 : Int32) : rc_M Int32 :=
rc_bind (rc_alen 2 v0) fun x1 =>
rc_bind (rc_narM .byte ((((v1 - x1).toUInt32 >>> ((31 : Int32).toUInt32 &&& Int32.toUInt32 31)).toInt32).toInt8.toInt32)) fun _ =>
rc_pure ((((v1 - x1).toUInt32 >>> ((31 : Int32).toUInt32 &&& Int32.toUInt32 31)).toInt32).toInt8.toInt32)
def rp_J5_newString (v0 : Option Nat) (v1 : Int32) (v2 : Int32) : rc_M (Option Nat) :=
(if v2 = 0 then
rc_bind (rc_text 5) fun x7 =>
rc_pure x7
else
rc_bind (rc_stati 7) fun x1 =>
(if x1 = 0 then
rc_bind (rc_new 11 4 [rc_q none, rc_i 0, rc_i 0, rc_i 0]) fun x2 =>
rc_bind (rp_J10_copyOfRange v0 (v1 <<< ((1 : Int32) &&& 31)) ((v1 + v2) <<< ((1 : Int32) &&& 31))) fun x3 =>
rc_bind (rc_nn x2) fun _ =>
rc_bind (rp_J4_init_3 x2 x3 (1 : Int32)) fun _ =>
rc_pure x2
else
rc_bind (rp_J5_compress v0 v1 v2) fun x4 =>
rc_bind (rp_J5_coderFromArrayLen x4 v2) fun x5 =>
rc_bind (rc_new 11 4 [rc_q none, rc_i 0, rc_i 0, rc_i 0]) fun x6 =>
rc_bind (rc_nn x6) fun _ =>
rc_bind (rp_J4_init_3 x6 x4 x5) fun _ =>
rc_pure x6))
def rp_J4_substring_L22 (v0 : Option Nat) (v1 : Int32) (v2 : Int32) : rc_M (Option Nat) :=
rc_bind (rc_is 11 v0) fun _ =>
rc_bind (rp_J4_isLatin1 v0) fun x1 =>
(if x1 = 0 then
rc_bind (rc_getq 11 0 v0) fun x2 =>
rc_bind (rp_J5_newString x2 v1 (v2 - v1)) fun x3 =>
rc_pure x3
else
rc_bind (rc_getq 11 0 v0) fun x4 =>
rc_bind (rp_J8_newString x4 v1 (v2 - v1)) fun x5 =>
rc_pure x5)
def rp_J4_substring (v0 : Option Nat) (v1 : Int32) (v2 : Int32) : rc_M (Option Nat) :=
rc_bind (rc_is 11 v0) fun _ =>
rc_bind (rp_J4_length v0) fun x1 =>
rc_bind (rp_J4_checkBoundsBeginEnd v1 v2 x1) fun _ =>
(if v1 = 0 then
(if v2 = x1 then
rc_pure v0
else
rp_J4_substring_L22 v0 v1 v2)
else
rp_J4_substring_L22 v0 v1 v2)
def rp_J8_equals_L9 : Nat → Option Nat → Option Nat → Int32 → rc_M Int32
  | 0, _, _, _ => rc_fail
  | n + 1, v0, v1, v2 =>
    rc_bind (rc_alen 2 v0) fun x1 =>
    (if x1 ≤ v2 then
    rc_pure (1 : Int32)
    else
    rc_bind (rc_ald 2 v0 v2) fun x2 =>
    rc_bind (rc_ald 2 v1 v2) fun x3 =>
    (if x2 = x3 then
    rp_J8_equals_L9 n v0 v1 (v2 + (1 : Int32))
    else
    rc_pure (0 : Int32)))
def rp_J8_equals (v0 : Option Nat) (v1 : Option Nat) : rc_M Int32 :=
rc_bind (rc_alen 2 v0) fun x1 =>
rc_bind (rc_alen 2 v1) fun x2 =>
(if x1 = x2 then
rc_bind rc_fuel fun x3 =>
rp_J8_equals_L9 x3 v0 v1 (0 : Int32)
else
rc_pure (0 : Int32))
def rp_J4_equals_L36 (v0 : Option Nat) (v2 : Option Nat) : rc_M Int32 :=
rc_bind (rc_getq 11 0 v0) fun x1 =>
rc_bind (rc_getq 11 0 v2) fun x2 =>
rc_bind (rp_J8_equals x1 x2) fun x3 =>
(if x3 = 0 then
rc_pure (0 : Int32)
else
rc_pure (1 : Int32))
def rp_J4_equals (v0 : Option Nat) (v1 : Option Nat) : rc_M Int32 :=
(if v0 = v1 then
rc_pure (1 : Int32)
else
rc_bind (rc_instM 11 v1) fun x1 =>
(if x1 = 0 then
rc_pure (0 : Int32)
else
rc_bind (rc_castM 11 v1) fun _ =>
rc_bind (rc_stati 7) fun x2 =>
(if x2 = 0 then
rp_J4_equals_L36 v0 v1
else
rc_bind (rc_geti 11 1 v0) fun x3 =>
rc_bind (rc_geti 11 1 v1) fun x4 =>
(if x3 = x4 then
rp_J4_equals_L36 v0 v1
else
rc_pure (0 : Int32)))))
def rp_J16_signedHashCode_L8 : Nat → Int32 → Option Nat → Int32 → Int32 → rc_M Int32
  | 0, _, _, _, _ => rc_fail
  | n + 1, v0, v1, v4, v5 =>
    (if v4 ≤ v5 then
    rc_pure v0
    else
    rc_bind (rc_ald 2 v1 v5) fun x1 =>
    rp_J16_signedHashCode_L8 n (((31 : Int32) * v0) + (x1 &&& (255 : Int32))) v1 v4 (v5 + (1 : Int32)))
def rp_J16_signedHashCode (v0 : Int32) (v1 : Option Nat) (v2 : Int32) (v3 : Int32) : rc_M Int32 :=
rc_bind rc_fuel fun x1 =>
rp_J16_signedHashCode_L8 x1 v0 v1 (v2 + v3) v2
def rp_J16_hashCode_2_L8 : Nat → Int32 → Option Nat → Int32 → Int32 → rc_M Int32
  | 0, _, _, _, _ => rc_fail
  | n + 1, v0, v1, v4, v5 =>
    (if v4 ≤ v5 then
    rc_pure v0
    else
    rc_bind (rc_ald 2 v1 v5) fun x1 =>
    rp_J16_hashCode_2_L8 n (((31 : Int32) * v0) + x1) v1 v4 (v5 + (1 : Int32)))
def rp_J16_hashCode_2 (v0 : Int32) (v1 : Option Nat) (v2 : Int32) (v3 : Int32) : rc_M Int32 :=
rc_bind rc_fuel fun x1 =>
rp_J16_hashCode_2_L8 x1 v0 v1 (v2 + v3) v2
def rp_J16_hashCode_4_L8 : Nat → Int32 → Option Nat → Int32 → Int32 → rc_M Int32
  | 0, _, _, _, _ => rc_fail
  | n + 1, v0, v1, v4, v5 =>
    (if v4 ≤ v5 then
    rc_pure v0
    else
    rc_bind (rc_ald 0 v1 v5) fun x1 =>
    rp_J16_hashCode_4_L8 n (((31 : Int32) * v0) + x1) v1 v4 (v5 + (1 : Int32)))
def rp_J16_hashCode_4 (v0 : Int32) (v1 : Option Nat) (v2 : Int32) (v3 : Int32) : rc_M Int32 :=
rc_bind rc_fuel fun x1 =>
rp_J16_hashCode_4_L8 x1 v0 v1 (v2 + v3) v2
def rp_J16_vectorizedHashCode (v0 : Option Nat) (v1 : Int32) (v2 : Int32) (v3 : Int32) (v4 : Int32) : rc_M Int32 :=
(if v4 = (4 : Int32) then
rc_bind (rc_casta 2 v0) fun _ =>
rc_bind (rp_J16_signedHashCode v3 v0 v1 v2) fun x1 =>
rc_pure x1
else
(if v4 = (5 : Int32) then
rc_fail
else
(if v4 = (6 : Int32) then
rc_fail
else
(if v4 = (7 : Int32) then
rc_fail
else
(if v4 = (8 : Int32) then
rc_bind (rc_casta 2 v0) fun _ =>
rc_bind (rp_J16_hashCode_2 v3 v0 v1 v2) fun x2 =>
rc_pure x2
else
(if v4 = (9 : Int32) then
rc_fail
else
(if v4 = (10 : Int32) then
rc_bind (rc_casta 0 v0) fun _ =>
rc_bind (rp_J16_hashCode_4 v3 v0 v1 v2) fun x3 =>
rc_pure x3
else
rc_fail)))))))
def rp_J8_hashCode (v0 : Option Nat) : rc_M Int32 :=
rc_bind (rc_alen 2 v0) fun x1 =>
(if x1 = (0 : Int32) then
rc_pure (0 : Int32)
else
(if x1 = (1 : Int32) then
rc_bind (rc_ald 2 v0 (0 : Int32)) fun x4 =>
rc_pure (x4 &&& (255 : Int32))
else
rc_bind (rc_alen 2 v0) fun x2 =>
rc_bind (rp_J16_vectorizedHashCode v0 (0 : Int32) x2 (0 : Int32) (4 : Int32)) fun x3 =>
rc_pure x3))
def rp_J5_hashCode (v0 : Option Nat) : rc_M Int32 :=
rc_bind (rc_alen 2 v0) fun x1 =>
(if x1 = (0 : Int32) then
rc_pure (0 : Int32)
else
(if x1 = (2 : Int32) then
rc_bind (rp_J5_getChar v0 (0 : Int32)) fun x4 =>
rc_pure x4
else
rc_bind (rc_alen 2 v0) fun x2 =>
rc_bind (rp_J16_vectorizedHashCode v0 (0 : Int32) (x2 >>> ((1 : Int32) &&& 31)) (0 : Int32) (5 : Int32)) fun x3 =>
rc_pure x3))
def rp_J4_hashCode_L40 (v0 : Option Nat) (s0 : Int32) : rc_M Int32 :=
(if s0 = 0 then
rc_bind (rc_put 11 3 .boolean v0 (rc_i (1 : Int32))) fun _ =>
rc_pure s0
else
rc_bind (rc_put 11 2 .int v0 (rc_i s0)) fun _ =>
rc_pure s0)
def rp_J4_hashCode (v0 : Option Nat) : rc_M Int32 :=
rc_bind (rc_geti 11 2 v0) fun x1 =>
(if x1 = 0 then
rc_bind (rc_geti 11 3 v0) fun x2 =>
(if x2 = 0 then
rc_bind (rc_is 11 v0) fun _ =>
rc_bind (rp_J4_isLatin1 v0) fun x3 =>
(if x3 = 0 then
rc_bind (rc_getq 11 0 v0) fun x4 =>
rc_bind (rp_J5_hashCode x4) fun x5 =>
rp_J4_hashCode_L40 v0 x5
else
rc_bind (rc_getq 11 0 v0) fun x6 =>
rc_bind (rp_J8_hashCode x6) fun x7 =>
rp_J4_hashCode_L40 v0 x7)
else
rc_pure x1)
else
rc_pure x1)
def rp_J7_size (v0 : Option Nat) : rc_M Int32 :=
rc_bind (rc_geti 12 2 v0) fun x1 =>
rc_pure x1
def rp_J17_max (v0 : Int32) (v1 : Int32) : rc_M Int32 :=
(if v0 < v1 then
rc_pure v1
else
rc_pure v0)
def rp_J16_hugeLength (v0 : Int32) (v1 : Int32) : rc_M Int32 :=
(if 0 ≤ (v0 + v1) then
(if (2147483639 : Int32) < (v0 + v1) then
rc_pure (v0 + v1)
else
rc_pure (2147483639 : Int32))
else
rc_fail)
def rp_J16_newLength_L21 (v0 : Int32) (v1 : Int32) : rc_M Int32 :=
rc_bind (rp_J16_hugeLength v0 v1) fun x1 =>
rc_pure x1
def rp_J16_newLength (v0 : Int32) (v1 : Int32) (v2 : Int32) : rc_M Int32 :=
rc_bind (rp_J17_max v1 v2) fun x1 =>
(if (v0 + x1) ≤ (0 : Int32) then
rp_J16_newLength_L21 v0 v1
else
(if (2147483639 : Int32) < (v0 + x1) then
rp_J16_newLength_L21 v0 v1
else
rc_pure (v0 + x1)))
def rp_J10_copyOf_3 (v0 : Option Nat) (v1 : Int32) (v2 : Option Nat) : rc_M (Option Nat) :=
rc_bind (rc_mir) fun x1 =>
(if v2 = x1 then
rc_bind (rc_newa 4 v1) fun x2 =>
rc_bind (rc_alen 4 v0) fun x3 =>
rc_bind (rp_J17_min x3 v1) fun x4 =>
rc_bind (rc_acopy 4 v0 (0 : Int32) x2 (0 : Int32) x4) fun _ =>
rc_pure x2
else
rc_fail)
def rp_J10_copyOf_2 (v0 : Option Nat) (v1 : Int32) : rc_M (Option Nat) :=
rc_bind (rc_getC v0) fun x1 =>
rc_bind (rp_J10_copyOf_3 v0 v1 x1) fun x2 =>
rc_pure x2
def rp_J7_grow_2_L20 (v0 : Option Nat) (v1 : Int32) (v2 : Int32) : rc_M (Option Nat) :=
rc_bind (rp_J16_newLength v2 (v1 - v2) (v2 >>> ((1 : Int32) &&& 31))) fun x1 =>
rc_bind (rc_getq 12 1 v0) fun x2 =>
rc_bind (rp_J10_copyOf_2 x2 x1) fun x3 =>
rc_bind (rc_put 12 1 (.array (.object "java/lang/Object")) v0 (rc_q x3)) fun _ =>
rc_pure x3
def rp_J7_grow_2 (v0 : Option Nat) (v1 : Int32) : rc_M (Option Nat) :=
rc_bind (rc_getq 12 1 v0) fun x1 =>
rc_bind (rc_alen 4 x1) fun x2 =>
(if 0 < x2 then
rp_J7_grow_2_L20 v0 v1 x2
else
rc_bind (rc_getq 12 1 v0) fun x3 =>
rc_bind (rc_stat 8) fun x4 =>
(if x3 = x4 then
rc_bind (rp_J17_max (10 : Int32) v1) fun x5 =>
rc_bind (rc_newa 4 x5) fun x6 =>
rc_bind (rc_put 12 1 (.array (.object "java/lang/Object")) v0 (rc_q x6)) fun _ =>
rc_pure x6
else
rp_J7_grow_2_L20 v0 v1 x2))
def rp_J7_grow (v0 : Option Nat) : rc_M (Option Nat) :=
rc_bind (rc_geti 12 2 v0) fun x1 =>
rc_bind (rc_is 12 v0) fun _ =>
rc_bind (rp_J7_grow_2 v0 (x1 + (1 : Int32))) fun x2 =>
rc_pure x2
def rp_J7_add_2_L11 (v0 : Option Nat) (v1 : Option Nat) (v2 : Option Nat) (v3 : Int32) : rc_M Unit :=
rc_bind (rc_astq v2 v3 v1) fun _ =>
rc_bind (rc_put 12 2 .int v0 (rc_i (v3 + (1 : Int32)))) fun _ =>
rc_pure ()
def rp_J7_add_2 (v0 : Option Nat) (v1 : Option Nat) (v2 : Option Nat) (v3 : Int32) : rc_M Unit :=
rc_bind (rc_alen 4 v2) fun x1 =>
(if v3 = x1 then
rc_bind (rc_is 12 v0) fun _ =>
rc_bind (rp_J7_grow v0) fun x2 =>
rp_J7_add_2_L11 v0 v1 x2 v3
else
rp_J7_add_2_L11 v0 v1 v2 v3)
def rp_J7_add (v0 : Option Nat) (v1 : Option Nat) : rc_M Int32 :=
rc_bind (rc_geti 12 0 v0) fun x1 =>
rc_bind (rc_put 12 0 .int v0 (rc_i (x1 + (1 : Int32)))) fun _ =>
rc_bind (rc_getq 12 1 v0) fun x2 =>
rc_bind (rc_geti 12 2 v0) fun x3 =>
rc_bind (rc_is 12 v0) fun _ =>
rc_bind (rp_J7_add_2 v0 v1 x2 x3) fun _ =>
rc_pure (1 : Int32)
def rp_J18_init (v0 : Option Nat) : rc_M Unit :=
rc_bind (rc_nn v0) fun _ =>
rc_pure ()
def rp_J19_checkIndex (v0 : Int32) (v1 : Int32) : rc_M Int32 :=
rc_bind (rp_J9_checkIndex v0 v1 none) fun x1 =>
rc_pure x1
def rp_J7_elementData (v0 : Option Nat) (v1 : Int32) : rc_M (Option Nat) :=
rc_bind (rc_getq 12 1 v0) fun x1 =>
rc_bind (rc_aldq x1 v1) fun x2 =>
rc_pure x2
def rp_J7_get (v0 : Option Nat) (v1 : Int32) : rc_M (Option Nat) :=
rc_bind (rc_geti 12 2 v0) fun x1 =>
rc_bind (rp_J19_checkIndex v1 x1) fun x2 =>
rc_bind (rc_is 12 v0) fun _ =>
rc_bind (rp_J7_elementData v0 v1) fun x3 =>
rc_pure x3
def rp_J15_bitCount (v0 : Int32) : rc_M Int32 :=
rc_pure ((((((((v0 - (((v0.toUInt32 >>> ((1 : Int32).toUInt32 &&& Int32.toUInt32 31)).toInt32) &&& (1431655765 : Int32))) &&& (858993459 : Int32)) + ((((v0 - (((v0.toUInt32 >>> ((1 : Int32).toUInt32 &&& Int32.toUInt32 31)).toInt32) &&& (1431655765 : Int32))).toUInt32 >>> ((2 : Int32).toUInt32 &&& Int32.toUInt32 31)).toInt32) &&& (858993459 : Int32))) + (((((v0 - (((v0.toUInt32 >>> ((1 : Int32).toUInt32 &&& Int32.toUInt32 31)).toInt32) &&& (1431655765 : Int32))) &&& (858993459 : Int32)) + ((((v0 - (((v0.toUInt32 >>> ((1 : Int32).toUInt32 &&& Int32.toUInt32 31)).toInt32) &&& (1431655765 : Int32))).toUInt32 >>> ((2 : Int32).toUInt32 &&& Int32.toUInt32 31)).toInt32) &&& (858993459 : Int32))).toUInt32 >>> ((4 : Int32).toUInt32 &&& Int32.toUInt32 31)).toInt32)) &&& (252645135 : Int32)) + (((((((v0 - (((v0.toUInt32 >>> ((1 : Int32).toUInt32 &&& Int32.toUInt32 31)).toInt32) &&& (1431655765 : Int32))) &&& (858993459 : Int32)) + ((((v0 - (((v0.toUInt32 >>> ((1 : Int32).toUInt32 &&& Int32.toUInt32 31)).toInt32) &&& (1431655765 : Int32))).toUInt32 >>> ((2 : Int32).toUInt32 &&& Int32.toUInt32 31)).toInt32) &&& (858993459 : Int32))) + (((((v0 - (((v0.toUInt32 >>> ((1 : Int32).toUInt32 &&& Int32.toUInt32 31)).toInt32) &&& (1431655765 : Int32))) &&& (858993459 : Int32)) + ((((v0 - (((v0.toUInt32 >>> ((1 : Int32).toUInt32 &&& Int32.toUInt32 31)).toInt32) &&& (1431655765 : Int32))).toUInt32 >>> ((2 : Int32).toUInt32 &&& Int32.toUInt32 31)).toInt32) &&& (858993459 : Int32))).toUInt32 >>> ((4 : Int32).toUInt32 &&& Int32.toUInt32 31)).toInt32)) &&& (252645135 : Int32)).toUInt32 >>> ((8 : Int32).toUInt32 &&& Int32.toUInt32 31)).toInt32)) + ((((((((v0 - (((v0.toUInt32 >>> ((1 : Int32).toUInt32 &&& Int32.toUInt32 31)).toInt32) &&& (1431655765 : Int32))) &&& (858993459 : Int32)) + ((((v0 - (((v0.toUInt32 >>> ((1 : Int32).toUInt32 &&& Int32.toUInt32 31)).toInt32) &&& (1431655765 : Int32))).toUInt32 >>> ((2 : Int32).toUInt32 &&& Int32.toUInt32 31)).toInt32) &&& (858993459 : Int32))) + (((((v0 - (((v0.toUInt32 >>> ((1 : Int32).toUInt32 &&& Int32.toUInt32 31)).toInt32) &&& (1431655765 : Int32))) &&& (858993459 : Int32)) + ((((v0 - (((v0.toUInt32 >>> ((1 : Int32).toUInt32 &&& Int32.toUInt32 31)).toInt32) &&& (1431655765 : Int32))).toUInt32 >>> ((2 : Int32).toUInt32 &&& Int32.toUInt32 31)).toInt32) &&& (858993459 : Int32))).toUInt32 >>> ((4 : Int32).toUInt32 &&& Int32.toUInt32 31)).toInt32)) &&& (252645135 : Int32)) + (((((((v0 - (((v0.toUInt32 >>> ((1 : Int32).toUInt32 &&& Int32.toUInt32 31)).toInt32) &&& (1431655765 : Int32))) &&& (858993459 : Int32)) + ((((v0 - (((v0.toUInt32 >>> ((1 : Int32).toUInt32 &&& Int32.toUInt32 31)).toInt32) &&& (1431655765 : Int32))).toUInt32 >>> ((2 : Int32).toUInt32 &&& Int32.toUInt32 31)).toInt32) &&& (858993459 : Int32))) + (((((v0 - (((v0.toUInt32 >>> ((1 : Int32).toUInt32 &&& Int32.toUInt32 31)).toInt32) &&& (1431655765 : Int32))) &&& (858993459 : Int32)) + ((((v0 - (((v0.toUInt32 >>> ((1 : Int32).toUInt32 &&& Int32.toUInt32 31)).toInt32) &&& (1431655765 : Int32))).toUInt32 >>> ((2 : Int32).toUInt32 &&& Int32.toUInt32 31)).toInt32) &&& (858993459 : Int32))).toUInt32 >>> ((4 : Int32).toUInt32 &&& Int32.toUInt32 31)).toInt32)) &&& (252645135 : Int32)).toUInt32 >>> ((8 : Int32).toUInt32 &&& Int32.toUInt32 31)).toInt32)).toUInt32 >>> ((16 : Int32).toUInt32 &&& Int32.toUInt32 31)).toInt32)) &&& (63 : Int32))
def rp_J7_isEmpty (v0 : Option Nat) : rc_M Int32 :=
rc_bind (rc_geti 12 2 v0) fun x1 =>
(if x1 = 0 then
rc_pure (1 : Int32)
else
rc_pure (0 : Int32))
def rp_J2_length (v0 : Option Nat) : rc_M Int32 :=
rc_bind (rc_geti 10 3 v0) fun x1 =>
rc_pure x1
def rp_J3_length (v0 : Option Nat) : rc_M Int32 :=
rc_bind (rc_is 10 v0) fun _ =>
rc_bind (rp_J2_length v0) fun x1 =>
rc_pure x1
def rp_J2_newCapacity (v0 : Option Nat) (v1 : Int32) : rc_M Int32 :=
rc_bind (rc_getq 10 0 v0) fun x1 =>
rc_bind (rc_alen 2 x1) fun x2 =>
rc_bind (rc_geti 10 1 v0) fun x3 =>
rc_bind (rc_geti 10 1 v0) fun x4 =>
rc_bind (rp_J16_newLength x2 ((v1 <<< (x3 &&& 31)) - x2) (x2 + ((2 : Int32) <<< (x4 &&& 31)))) fun x5 =>
(if x5 = (2147483647 : Int32) then
rc_fail
else
rc_bind (rc_geti 10 1 v0) fun x6 =>
rc_pure (x5 >>> (x6 &&& 31)))
def rp_J10_copyOf (v0 : Option Nat) (v1 : Int32) : rc_M (Option Nat) :=
rc_bind (rc_alen 2 v0) fun x1 =>
(if v1 = x1 then
rc_bind (rc_clone v0) fun x5 =>
rc_bind (rc_casta 2 x5) fun _ =>
rc_pure x5
else
rc_bind (rc_newa 2 v1) fun x2 =>
rc_bind (rc_alen 2 v0) fun x3 =>
rc_bind (rp_J17_min x3 v1) fun x4 =>
rc_bind (rc_acopy 2 v0 (0 : Int32) x2 (0 : Int32) x4) fun _ =>
rc_pure x2)
def rp_J2_ensureCapacityInternal (v0 : Option Nat) (v1 : Int32) : rc_M Unit :=
rc_bind (rc_getq 10 0 v0) fun x1 =>
rc_bind (rc_alen 2 x1) fun x2 =>
rc_bind (rc_geti 10 1 v0) fun x3 =>
(if (v1 - (x2 >>> (x3 &&& 31))) ≤ 0 then
rc_pure ()
else
rc_bind (rc_getq 10 0 v0) fun x4 =>
rc_bind (rc_is 10 v0) fun _ =>
rc_bind (rp_J2_newCapacity v0 v1) fun x5 =>
rc_bind (rc_geti 10 1 v0) fun x6 =>
rc_bind (rp_J10_copyOf x4 (x5 <<< (x6 &&& 31))) fun x7 =>
rc_bind (rc_put 10 0 (.array .byte) v0 (rc_q x7)) fun _ =>
rc_pure ())
def rp_J2_isLatin1 (v0 : Option Nat) : rc_M Int32 :=
rc_bind (rc_stati 7) fun x1 =>
(if x1 = 0 then
rc_pure (0 : Int32)
else
rc_bind (rc_geti 10 1 v0) fun x2 =>
(if x2 = 0 then
rc_pure (1 : Int32)
else
rc_pure (0 : Int32)))
def rp_J8_canEncode (v0 : Int32) : rc_M Int32 :=
(if (255 : Int32) < v0 then
rc_pure (0 : Int32)
else
rc_pure (1 : Int32))
def rp_J5_putChar (v0 : Option Nat) (v1 : Int32) (v2 : Int32) : rc_M Unit :=
rc_fail
def rp_J5_inflate_L10 : Nat → Option Nat → Int32 → Option Nat → Int32 → Int32 → Int32 → rc_M Unit
  | 0, _, _, _, _, _, _ => rc_fail
  | n + 1, v0, v1, v2, v3, v4, v5 =>
    (if v4 ≤ v5 then
    rc_pure ()
    else
    rc_bind (rc_ald 2 v0 v1) fun x1 =>
    rc_bind (rp_J5_putChar v2 v3 (x1 &&& (255 : Int32))) fun _ =>
    rp_J5_inflate_L10 n v0 (v1 + (1 : Int32)) v2 (v3 + (1 : Int32)) v4 (v5 + (1 : Int32)))
def rp_J5_inflate (v0 : Option Nat) (v1 : Int32) (v2 : Option Nat) (v3 : Int32) (v4 : Int32) : rc_M Unit :=
rc_bind (rp_J5_checkBoundsOffCount v3 v4 v2) fun _ =>
rc_bind rc_fuel fun x1 =>
rp_J5_inflate_L10 x1 v0 v1 v2 v3 v4 (0 : Int32)
def rp_J8_inflate (v0 : Option Nat) (v1 : Int32) (v2 : Option Nat) (v3 : Int32) (v4 : Int32) : rc_M Unit :=
rc_bind (rp_J5_inflate v0 v1 v2 v3 v4) fun _ =>
rc_pure ()
def rp_J2_inflate (v0 : Option Nat) : rc_M Unit :=
rc_bind (rc_is 10 v0) fun _ =>
rc_bind (rp_J2_isLatin1 v0) fun x1 =>
(if x1 = 0 then
rc_pure ()
else
rc_bind (rc_getq 10 0 v0) fun x2 =>
rc_bind (rc_alen 2 x2) fun x3 =>
rc_bind (rp_J5_newBytesFor x3) fun x4 =>
rc_bind (rc_getq 10 0 v0) fun x5 =>
rc_bind (rc_geti 10 3 v0) fun x6 =>
rc_bind (rp_J8_inflate x5 (0 : Int32) x4 (0 : Int32) x6) fun _ =>
rc_bind (rc_put 10 0 (.array .byte) v0 (rc_q x4)) fun _ =>
rc_bind (rc_put 10 1 .byte v0 (rc_i (1 : Int32))) fun _ =>
rc_pure ())
def rp_J5_putCharSB (v0 : Option Nat) (v1 : Int32) (v2 : Int32) : rc_M Unit :=
rc_bind (rp_J5_checkIndex v1 v0) fun _ =>
rc_bind (rp_J5_putChar v0 v1 v2) fun _ =>
rc_pure ()
def rp_J2_append_3_L56 (v0 : Option Nat) (v1 : Int32) : rc_M (Option Nat) :=
rc_bind (rc_getq 10 0 v0) fun x1 =>
rc_bind (rc_geti 10 3 v0) fun x2 =>
rc_bind (rc_put 10 3 .int v0 (rc_i (x2 + (1 : Int32)))) fun _ =>
rc_bind (rp_J5_putCharSB x1 x2 v1) fun _ =>
rc_pure v0
def rp_J2_append_3_L45 (v0 : Option Nat) (v1 : Int32) : rc_M (Option Nat) :=
rc_bind (rc_is 10 v0) fun _ =>
rc_bind (rp_J2_isLatin1 v0) fun x1 =>
(if x1 = 0 then
rp_J2_append_3_L56 v0 v1
else
rc_bind (rc_is 10 v0) fun _ =>
rc_bind (rp_J2_inflate v0) fun _ =>
rp_J2_append_3_L56 v0 v1)
def rp_J2_append_3 (v0 : Option Nat) (v1 : Int32) : rc_M (Option Nat) :=
rc_bind (rc_geti 10 3 v0) fun x1 =>
rc_bind (rc_is 10 v0) fun _ =>
rc_bind (rp_J2_ensureCapacityInternal v0 (x1 + (1 : Int32))) fun _ =>
rc_bind (rc_is 10 v0) fun _ =>
rc_bind (rp_J2_isLatin1 v0) fun x2 =>
(if x2 = 0 then
rp_J2_append_3_L45 v0 v1
else
rc_bind (rp_J8_canEncode v1) fun x3 =>
(if x3 = 0 then
rp_J2_append_3_L45 v0 v1
else
rc_bind (rc_getq 10 0 v0) fun x4 =>
rc_bind (rc_geti 10 3 v0) fun x5 =>
rc_bind (rc_put 10 3 .int v0 (rc_i (x5 + (1 : Int32)))) fun _ =>
rc_bind (rc_ast 2 x4 x5 (v1.toInt8.toInt32)) fun _ =>
rc_pure v0))
def rp_J3_append_3 (v0 : Option Nat) (v1 : Int32) : rc_M (Option Nat) :=
rc_bind (rc_is 10 v0) fun _ =>
rc_bind (rp_J2_append_3 v0 v1) fun x1 =>
rc_pure v0
def rp_J2_getValue (v0 : Option Nat) : rc_M (Option Nat) :=
rc_bind (rc_getq 10 0 v0) fun x1 =>
rc_pure x1
def rp_J4_init_2_L79 (v0 : Option Nat) (v3 : Option Nat) (v4 : Int32) : rc_M Unit :=
rc_bind (rc_put 11 1 .byte v0 (rc_i (1 : Int32))) fun _ =>
rc_bind (rp_J10_copyOfRange v3 (0 : Int32) (v4 <<< ((1 : Int32) &&& 31))) fun x1 =>
rc_bind (rc_put 11 0 (.array .byte) v0 (rc_q x1)) fun _ =>
rc_pure ()
def rp_J4_init_2 (v0 : Option Nat) (v1 : Option Nat) (v2 : Option Nat) : rc_M Unit :=
rc_bind (rc_nn v0) fun _ =>
rc_bind (rc_is 10 v1) fun _ =>
rc_bind (rp_J2_getValue v1) fun x1 =>
rc_bind (rc_is 10 v1) fun _ =>
rc_bind (rp_J3_length v1) fun x2 =>
rc_bind (rc_is 10 v1) fun _ =>
rc_bind (rp_J2_isLatin1 v1) fun x3 =>
(if x3 = 0 then
rc_bind (rc_stati 7) fun x4 =>
(if x4 = 0 then
rp_J4_init_2_L79 v0 x1 x2
else
rc_bind (rc_geti 10 2 v1) fun x5 =>
(if x5 = 0 then
rp_J4_init_2_L79 v0 x1 x2
else
rc_bind (rp_J5_compress x1 (0 : Int32) x2) fun x6 =>
rc_bind (rc_put 11 0 (.array .byte) v0 (rc_q x6)) fun _ =>
rc_bind (rc_getq 11 0 v0) fun x7 =>
rc_bind (rp_J5_coderFromArrayLen x7 x2) fun x8 =>
rc_bind (rc_put 11 1 .byte v0 (rc_i x8)) fun _ =>
rc_pure ()))
else
rc_bind (rc_put 11 1 .byte v0 (rc_i (0 : Int32))) fun _ =>
rc_bind (rp_J10_copyOfRange x1 (0 : Int32) x2) fun x9 =>
rc_bind (rc_put 11 0 (.array .byte) v0 (rc_q x9)) fun _ =>
rc_pure ())
def rp_J4_init (v0 : Option Nat) (v1 : Option Nat) : rc_M Unit :=
rc_bind (rc_nn v0) fun _ =>
rc_bind (rp_J4_init_2 v0 v1 none) fun _ =>
rc_pure ()
def rp_J3_toString (v0 : Option Nat) : rc_M (Option Nat) :=
rc_bind (rc_new 11 4 [rc_q none, rc_i 0, rc_i 0, rc_i 0]) fun x1 =>
rc_bind (rc_nn x1) fun _ =>
rc_bind (rp_J4_init x1 v0) fun _ =>
rc_pure x1
def rp_J10_rangeCheck (v0 : Int32) (v1 : Int32) (v2 : Int32) : rc_M Unit :=
(if v1 ≤ v2 then
(if 0 ≤ v1 then
(if v2 ≤ v0 then
rc_pure ()
else
rc_fail)
else
rc_fail)
else
rc_fail)
def rp_J10_fill_L10 : Nat → Option Nat → Int32 → Int32 → Int32 → rc_M Unit
  | 0, _, _, _, _ => rc_fail
  | n + 1, v0, v2, v3, v4 =>
    (if v2 ≤ v4 then
    rc_pure ()
    else
    rc_bind (rc_ast 2 v0 v4 v3) fun _ =>
    rp_J10_fill_L10 n v0 v2 v3 (v4 + (1 : Int32)))
def rp_J10_fill (v0 : Option Nat) (v1 : Int32) (v2 : Int32) (v3 : Int32) : rc_M Unit :=
rc_bind (rc_alen 2 v0) fun x1 =>
rc_bind (rp_J10_rangeCheck x1 v1 v2) fun _ =>
rc_bind rc_fuel fun x2 =>
rp_J10_fill_L10 x2 v0 v2 v3 v1
def rp_J8_fillNull (v0 : Option Nat) (v1 : Int32) (v2 : Int32) : rc_M Unit :=
rc_bind (rp_J10_fill v0 v1 v2 (0 : Int32)) fun _ =>
rc_pure ()
def rp_J5_fillNull (v0 : Option Nat) (v1 : Int32) (v2 : Int32) : rc_M Unit :=
rc_bind (rp_J10_fill v0 (v1 <<< ((1 : Int32) &&& 31)) (v2 <<< ((1 : Int32) &&& 31)) (0 : Int32)) fun _ =>
rc_pure ()
def rp_J2_setLength_L76 (v0 : Option Nat) (v1 : Int32) : rc_M Unit :=
rc_bind (rc_put 10 3 .int v0 (rc_i v1)) fun _ =>
rc_pure ()
def rp_J2_setLength (v0 : Option Nat) (v1 : Int32) : rc_M Unit :=
(if 0 ≤ v1 then
rc_bind (rc_is 10 v0) fun _ =>
rc_bind (rp_J2_ensureCapacityInternal v0 v1) fun _ =>
rc_bind (rc_geti 10 3 v0) fun x1 =>
(if v1 ≤ x1 then
rc_bind (rc_geti 10 3 v0) fun x2 =>
(if x2 ≤ v1 then
rp_J2_setLength_L76 v0 v1
else
rc_bind (rc_put 10 2 .boolean v0 (rc_i (1 : Int32))) fun _ =>
rp_J2_setLength_L76 v0 v1)
else
rc_bind (rc_is 10 v0) fun _ =>
rc_bind (rp_J2_isLatin1 v0) fun x3 =>
(if x3 = 0 then
rc_bind (rc_getq 10 0 v0) fun x4 =>
rc_bind (rc_geti 10 3 v0) fun x5 =>
rc_bind (rp_J5_fillNull x4 x5 v1) fun _ =>
rp_J2_setLength_L76 v0 v1
else
rc_bind (rc_getq 10 0 v0) fun x6 =>
rc_bind (rc_geti 10 3 v0) fun x7 =>
rc_bind (rp_J8_fillNull x6 x7 v1) fun _ =>
rp_J2_setLength_L76 v0 v1))
else
rc_fail)
def rp_J3_setLength (v0 : Option Nat) (v1 : Int32) : rc_M Unit :=
rc_bind (rc_is 10 v0) fun _ =>
rc_bind (rp_J2_setLength v0 v1) fun _ =>
rc_pure ()
def rp_J1_inc (v0 : Int32) (v1 : Int32) : rc_M Int32 :=
(if (v0 + (1 : Int32)) < v1 then
rc_pure (v0 + (1 : Int32))
else
rc_pure (0 : Int32))
def rp_J1_newCapacity (v0 : Option Nat) (v1 : Int32) (v2 : Int32) : rc_M Int32 :=
rc_bind (rc_getq 9 0 v0) fun x1 =>
rc_bind (rc_alen 4 x1) fun x2 =>
(if ((x2 + v1) - (2147483639 : Int32)) ≤ 0 then
(if v1 ≤ v2 then
(if 0 ≤ ((x2 + v2) - (2147483639 : Int32)) then
rc_pure (2147483639 : Int32)
else
rc_pure (x2 + v2))
else
rc_pure (x2 + v1))
else
(if 0 ≤ (x2 + v1) then
rc_pure (2147483647 : Int32)
else
rc_fail))
def rp_J1_grow_L145 : Nat → Option Nat → Int32 → Int32 → rc_M Unit
  | 0, _, _, _ => rc_fail
  | n + 1, v5, v7, v8 =>
    (if v8 ≤ v7 then
    rc_pure ()
    else
    rc_bind (rc_astq v5 v7 none) fun _ =>
    rp_J1_grow_L145 n v5 (v7 + (1 : Int32)) v8)
def rp_J1_grow_L96 (v0 : Option Nat) (v2 : Int32) (v3 : Int32) (v5 : Option Nat) : rc_M Unit :=
rc_bind (rc_geti 9 1 v0) fun x1 =>
rc_bind (rc_geti 9 1 v0) fun x2 =>
rc_bind (rc_geti 9 1 v0) fun x3 =>
rc_bind (rc_acopy 4 v5 x1 v5 (x2 + (v3 - v2)) (v2 - x3)) fun _ =>
rc_bind (rc_geti 9 1 v0) fun x4 =>
rc_bind (rc_geti 9 1 v0) fun x5 =>
rc_bind (rc_put 9 1 .int v0 (rc_i (x5 + (v3 - v2)))) fun _ =>
rc_bind rc_fuel fun x6 =>
rp_J1_grow_L145 x6 v5 x4 (x5 + (v3 - v2))
def rp_J1_grow_L49 (v0 : Option Nat) (v2 : Int32) (v3 : Int32) : rc_M Unit :=
rc_bind (rc_getq 9 0 v0) fun x1 =>
rc_bind (rp_J10_copyOf_2 x1 v3) fun x2 =>
rc_bind (rc_put 9 0 (.array (.object "java/lang/Object")) v0 (rc_q x2)) fun _ =>
rc_bind (rc_geti 9 2 v0) fun x3 =>
rc_bind (rc_geti 9 1 v0) fun x4 =>
(if x3 < x4 then
rp_J1_grow_L96 v0 v2 v3 x2
else
rc_bind (rc_geti 9 2 v0) fun x5 =>
rc_bind (rc_geti 9 1 v0) fun x6 =>
(if x5 = x6 then
rc_bind (rc_geti 9 1 v0) fun x7 =>
rc_bind (rc_aldq x2 x7) fun x8 =>
(if x8 = none then
rc_pure ()
else
rp_J1_grow_L96 v0 v2 v3 x2)
else
rc_pure ()))
def rp_J1_grow_L41 (v0 : Option Nat) (v1 : Int32) (v2 : Int32) (v4 : Int32) : rc_M Unit :=
rc_bind (rc_is 9 v0) fun _ =>
rc_bind (rp_J1_newCapacity v0 v1 v4) fun x1 =>
rp_J1_grow_L49 v0 v2 x1
def rp_J1_grow_L21 (v0 : Option Nat) (v1 : Int32) (v2 : Int32) (s0 : Int32) : rc_M Unit :=
(if s0 < v1 then
rp_J1_grow_L41 v0 v1 v2 s0
else
(if ((v2 + s0) - (2147483639 : Int32)) ≤ 0 then
rp_J1_grow_L49 v0 v2 (v2 + s0)
else
rp_J1_grow_L41 v0 v1 v2 s0))
def rp_J1_grow (v0 : Option Nat) (v1 : Int32) : rc_M Unit :=
rc_bind (rc_getq 9 0 v0) fun x1 =>
rc_bind (rc_alen 4 x1) fun x2 =>
(if (64 : Int32) ≤ x2 then
rp_J1_grow_L21 v0 v1 x2 (x2 >>> ((1 : Int32) &&& 31))
else
rp_J1_grow_L21 v0 v1 x2 (x2 + (2 : Int32)))
def rp_J1_addLast (v0 : Option Nat) (v1 : Option Nat) : rc_M Unit :=
(if v1 = none then
rc_fail
else
rc_bind (rc_getq 9 0 v0) fun x1 =>
rc_bind (rc_geti 9 2 v0) fun x2 =>
rc_bind (rc_astq x1 x2 v1) fun _ =>
rc_bind (rc_geti 9 1 v0) fun x3 =>
rc_bind (rc_geti 9 2 v0) fun x4 =>
rc_bind (rc_alen 4 x1) fun x5 =>
rc_bind (rp_J1_inc x4 x5) fun x6 =>
rc_bind (rc_put 9 2 .int v0 (rc_i x6)) fun _ =>
(if x3 = x6 then
rc_bind (rc_is 9 v0) fun _ =>
rc_bind (rp_J1_grow v0 (1 : Int32)) fun _ =>
rc_pure ()
else
rc_pure ()))
def rp_J1_sub (v0 : Int32) (v1 : Int32) (v2 : Int32) : rc_M Int32 :=
(if 0 ≤ (v0 - v1) then
rc_pure (v0 - v1)
else
rc_pure ((v0 - v1) + v2))
def rp_J1_size (v0 : Option Nat) : rc_M Int32 :=
rc_bind (rc_geti 9 2 v0) fun x1 =>
rc_bind (rc_geti 9 1 v0) fun x2 =>
rc_bind (rc_getq 9 0 v0) fun x3 =>
rc_bind (rc_alen 4 x3) fun x4 =>
rc_bind (rp_J1_sub x1 x2 x4) fun x5 =>
rc_pure x5
def rp_J1_elementAt (v0 : Option Nat) (v1 : Int32) : rc_M (Option Nat) :=
rc_bind (rc_aldq v0 v1) fun x1 =>
rc_pure x1
def rp_J1_pollFirst (v0 : Option Nat) : rc_M (Option Nat) :=
rc_bind (rc_getq 9 0 v0) fun x1 =>
rc_bind (rc_geti 9 1 v0) fun x2 =>
rc_bind (rp_J1_elementAt x1 x2) fun x3 =>
(if x3 = none then
rc_pure x3
else
rc_bind (rc_astq x1 x2 none) fun _ =>
rc_bind (rc_alen 4 x1) fun x4 =>
rc_bind (rp_J1_inc x2 x4) fun x5 =>
rc_bind (rc_put 9 1 .int v0 (rc_i x5)) fun _ =>
rc_pure x3)
def rp_J1_removeFirst (v0 : Option Nat) : rc_M (Option Nat) :=
rc_bind (rc_is 9 v0) fun _ =>
rc_bind (rp_J1_pollFirst v0) fun x1 =>
(if x1 = none then
rc_thr 3
else
rc_pure x1)
def rp_J25_init (v0 : Option Nat) (v1 : Option Nat) : rc_M Unit :=
rc_bind (rc_put 13 3 (.object "java/util/ArrayList") v0 (rc_q v1)) fun _ =>
rc_bind (rc_nn v0) fun _ =>
rc_bind (rc_put 13 1 .int v0 (rc_i (-1 : Int32))) fun _ =>
rc_bind (rc_getq 13 3 v0) fun x1 =>
rc_bind (rc_geti 12 0 x1) fun x2 =>
rc_bind (rc_put 13 2 .int v0 (rc_i x2)) fun _ =>
rc_pure ()
def rp_J7_iterator (v0 : Option Nat) : rc_M (Option Nat) :=
rc_bind (rc_new 13 4 [rc_i 0, rc_i 0, rc_i 0, rc_q none]) fun x1 =>
rc_bind (rc_nn x1) fun _ =>
rc_bind (rp_J25_init x1 v0) fun _ =>
rc_pure x1
def rp_J25_hasNext (v0 : Option Nat) : rc_M Int32 :=
rc_bind (rc_geti 13 0 v0) fun x1 =>
rc_bind (rc_getq 13 3 v0) fun x2 =>
rc_bind (rc_geti 12 2 x2) fun x3 =>
(if x1 = x3 then
rc_pure (0 : Int32)
else
rc_pure (1 : Int32))
def rp_J25_checkForComodification (v0 : Option Nat) : rc_M Unit :=
rc_bind (rc_getq 13 3 v0) fun x1 =>
rc_bind (rc_geti 12 0 x1) fun x2 =>
rc_bind (rc_geti 13 2 v0) fun x3 =>
(if x2 = x3 then
rc_pure ()
else
rc_fail)
def rp_J25_next (v0 : Option Nat) : rc_M (Option Nat) :=
rc_bind (rc_is 13 v0) fun _ =>
rc_bind (rp_J25_checkForComodification v0) fun _ =>
rc_bind (rc_geti 13 0 v0) fun x1 =>
rc_bind (rc_getq 13 3 v0) fun x2 =>
rc_bind (rc_geti 12 2 x2) fun x3 =>
(if x1 < x3 then
rc_bind (rc_getq 13 3 v0) fun x4 =>
rc_bind (rc_getq 12 1 x4) fun x5 =>
rc_bind (rc_alen 4 x5) fun x6 =>
(if x1 < x6 then
rc_bind (rc_put 13 0 .int v0 (rc_i (x1 + (1 : Int32)))) fun _ =>
rc_bind (rc_put 13 1 .int v0 (rc_i x1)) fun _ =>
rc_bind (rc_aldq x5 x1) fun x7 =>
rc_pure x7
else
rc_fail)
else
rc_thr 3)
def rp_J1_isEmpty (v0 : Option Nat) : rc_M Int32 :=
rc_bind (rc_geti 9 1 v0) fun x1 =>
rc_bind (rc_geti 9 2 v0) fun x2 =>
(if x1 = x2 then
rc_pure (1 : Int32)
else
rc_pure (0 : Int32))
def rp_J1_dec (v0 : Int32) (v1 : Int32) : rc_M Int32 :=
(if 0 ≤ (v0 + (-1 : Int32)) then
rc_pure (v0 + (-1 : Int32))
else
rc_pure (v1 - (1 : Int32)))
def rp_J1_pollLast (v0 : Option Nat) : rc_M (Option Nat) :=
rc_bind (rc_getq 9 0 v0) fun x1 =>
rc_bind (rc_geti 9 2 v0) fun x2 =>
rc_bind (rc_alen 4 x1) fun x3 =>
rc_bind (rp_J1_dec x2 x3) fun x4 =>
rc_bind (rp_J1_elementAt x1 x4) fun x5 =>
(if x5 = none then
rc_pure x5
else
rc_bind (rc_put 9 2 .int v0 (rc_i x4)) fun _ =>
rc_bind (rc_astq x1 x4 none) fun _ =>
rc_pure x5)
def rp_J1_removeLast (v0 : Option Nat) : rc_M (Option Nat) :=
rc_bind (rc_is 9 v0) fun _ =>
rc_bind (rp_J1_pollLast v0) fun x1 =>
(if x1 = none then
rc_thr 3
else
rc_pure x1)
def rp_J15_numberOfTrailingZeros_L74 (v0 : Int32) (v1 : Int32) : rc_M Int32 :=
rc_pure (v1 + ((v0.toUInt32 >>> ((1 : Int32).toUInt32 &&& Int32.toUInt32 31)).toInt32))
def rp_J15_numberOfTrailingZeros_L62 (v0 : Int32) (v1 : Int32) : rc_M Int32 :=
(if v0 ≤ (4 : Int32) then
rp_J15_numberOfTrailingZeros_L74 v0 v1
else
rp_J15_numberOfTrailingZeros_L74 ((v0.toUInt32 >>> ((2 : Int32).toUInt32 &&& Int32.toUInt32 31)).toInt32) (v1 + (2 : Int32)))
def rp_J15_numberOfTrailingZeros_L49 (v0 : Int32) (v1 : Int32) : rc_M Int32 :=
(if v0 ≤ (16 : Int32) then
rp_J15_numberOfTrailingZeros_L62 v0 v1
else
rp_J15_numberOfTrailingZeros_L62 ((v0.toUInt32 >>> ((4 : Int32).toUInt32 &&& Int32.toUInt32 31)).toInt32) (v1 + (4 : Int32)))
def rp_J15_numberOfTrailingZeros_L34 (v0 : Int32) (v1 : Int32) : rc_M Int32 :=
(if v0 ≤ (256 : Int32) then
rp_J15_numberOfTrailingZeros_L49 v0 v1
else
rp_J15_numberOfTrailingZeros_L49 ((v0.toUInt32 >>> ((8 : Int32).toUInt32 &&& Int32.toUInt32 31)).toInt32) (v1 + (8 : Int32)))
def rp_J15_numberOfTrailingZeros (v0 : Int32) : rc_M Int32 :=
(if 0 < ((v0 ^^^ (-1 : Int32)) &&& (v0 - (1 : Int32))) then
(if ((v0 ^^^ (-1 : Int32)) &&& (v0 - (1 : Int32))) ≤ (65536 : Int32) then
rp_J15_numberOfTrailingZeros_L34 ((v0 ^^^ (-1 : Int32)) &&& (v0 - (1 : Int32))) (1 : Int32)
else
rp_J15_numberOfTrailingZeros_L34 ((((v0 ^^^ (-1 : Int32)) &&& (v0 - (1 : Int32))).toUInt32 >>> ((16 : Int32).toUInt32 &&& Int32.toUInt32 31)).toInt32) ((1 : Int32) + (16 : Int32)))
else
rc_pure (((v0 ^^^ (-1 : Int32)) &&& (v0 - (1 : Int32))) &&& (32 : Int32)))
def rp_J17_abs (v0 : Int32) : rc_M Int32 :=
(if 0 ≤ v0 then
rc_pure v0
else
rc_pure (-v0))
def rp_J5_checkBoundsBeginEnd (v0 : Int32) (v1 : Int32) (v2 : Option Nat) : rc_M Unit :=
rc_bind (rp_J5_length v2) fun x1 =>
rc_bind (rp_J4_checkBoundsBeginEnd v0 v1 x1) fun _ =>
rc_pure ()
def rp_J5_putCharsAt (v0 : Option Nat) (v1 : Int32) (v2 : Int32) (v3 : Int32) (v4 : Int32) (v5 : Int32) : rc_M Int32 :=
rc_bind (rp_J5_checkBoundsBeginEnd v1 (v1 + (4 : Int32)) v0) fun _ =>
rc_bind (rp_J5_putChar v0 v1 v2) fun _ =>
rc_bind (rp_J5_putChar v0 (v1 + (1 : Int32)) v3) fun _ =>
rc_bind (rp_J5_putChar v0 ((v1 + (1 : Int32)) + (1 : Int32)) v4) fun _ =>
rc_bind (rp_J5_putChar v0 (((v1 + (1 : Int32)) + (1 : Int32)) + (1 : Int32)) v5) fun _ =>
rc_fail
def rp_J2_appendNull_L76 (v0 : Option Nat) (v1 : Int32) : rc_M (Option Nat) :=
rc_bind (rc_put 10 3 .int v0 (rc_i v1)) fun _ =>
rc_pure v0
def rp_J2_appendNull (v0 : Option Nat) : rc_M (Option Nat) :=
rc_bind (rc_geti 10 3 v0) fun x1 =>
rc_bind (rc_is 10 v0) fun _ =>
rc_bind (rp_J2_ensureCapacityInternal v0 (x1 + (4 : Int32))) fun _ =>
rc_bind (rc_geti 10 3 v0) fun x2 =>
rc_bind (rc_getq 10 0 v0) fun x3 =>
rc_bind (rc_is 10 v0) fun _ =>
rc_bind (rp_J2_isLatin1 v0) fun x4 =>
(if x4 = 0 then
rc_bind (rp_J5_putCharsAt x3 x2 (110 : Int32) (117 : Int32) (108 : Int32) (108 : Int32)) fun x5 =>
rp_J2_appendNull_L76 v0 x5
else
rc_bind (rc_ast 2 x3 x2 (110 : Int32)) fun _ =>
rc_bind (rc_ast 2 x3 (x2 + (1 : Int32)) (117 : Int32)) fun _ =>
rc_bind (rc_ast 2 x3 ((x2 + (1 : Int32)) + (1 : Int32)) (108 : Int32)) fun _ =>
rc_bind (rc_ast 2 x3 (((x2 + (1 : Int32)) + (1 : Int32)) + (1 : Int32)) (108 : Int32)) fun _ =>
rp_J2_appendNull_L76 v0 ((((x2 + (1 : Int32)) + (1 : Int32)) + (1 : Int32)) + (1 : Int32)))
def rp_J2_inflateIfNeededFor (v0 : Option Nat) (v1 : Option Nat) : rc_M Unit :=
rc_bind (rc_stati 7) fun x1 =>
(if x1 = 0 then
rc_pure ()
else
rc_bind (rc_geti 10 1 v0) fun x2 =>
rc_bind (rc_is 11 v1) fun _ =>
rc_bind (rp_J4_coder v1) fun x3 =>
(if x2 = x3 then
rc_pure ()
else
rc_bind (rc_is 10 v0) fun _ =>
rc_bind (rp_J2_inflate v0) fun _ =>
rc_pure ()))
def rp_J4_getBytes (v0 : Option Nat) (v1 : Option Nat) (v2 : Int32) (v3 : Int32) : rc_M Unit :=
rc_bind (rc_is 11 v0) fun _ =>
rc_bind (rp_J4_coder v0) fun x1 =>
(if x1 = v3 then
rc_bind (rc_getq 11 0 v0) fun x5 =>
rc_bind (rc_getq 11 0 v0) fun x6 =>
rc_bind (rc_alen 2 x6) fun x7 =>
rc_bind (rc_acopy 2 x5 (0 : Int32) v1 (v2 <<< (v3 &&& 31)) x7) fun _ =>
rc_pure ()
else
rc_bind (rc_getq 11 0 v0) fun x2 =>
rc_bind (rc_getq 11 0 v0) fun x3 =>
rc_bind (rc_alen 2 x3) fun x4 =>
rc_bind (rp_J8_inflate x2 (0 : Int32) v1 v2 x4) fun _ =>
rc_pure ())
def rp_J2_putStringAt (v0 : Option Nat) (v1 : Int32) (v2 : Option Nat) : rc_M Unit :=
rc_bind (rc_is 10 v0) fun _ =>
rc_bind (rp_J2_inflateIfNeededFor v0 v2) fun _ =>
rc_bind (rc_getq 10 0 v0) fun x1 =>
rc_bind (rc_geti 10 1 v0) fun x2 =>
rc_bind (rc_is 11 v2) fun _ =>
rc_bind (rp_J4_getBytes v2 x1 v1 x2) fun _ =>
rc_pure ()
def rp_J2_append_2 (v0 : Option Nat) (v1 : Option Nat) : rc_M (Option Nat) :=
(if v1 = none then
rc_bind (rc_is 10 v0) fun _ =>
rc_bind (rp_J2_appendNull v0) fun x5 =>
rc_pure x5
else
rc_bind (rc_is 11 v1) fun _ =>
rc_bind (rp_J4_length v1) fun x1 =>
rc_bind (rc_geti 10 3 v0) fun x2 =>
rc_bind (rc_is 10 v0) fun _ =>
rc_bind (rp_J2_ensureCapacityInternal v0 (x2 + x1)) fun _ =>
rc_bind (rc_geti 10 3 v0) fun x3 =>
rc_bind (rc_is 10 v0) fun _ =>
rc_bind (rp_J2_putStringAt v0 x3 v1) fun _ =>
rc_bind (rc_geti 10 3 v0) fun x4 =>
rc_bind (rc_put 10 3 .int v0 (rc_i (x4 + x1))) fun _ =>
rc_pure v0)
def rp_J3_append_2 (v0 : Option Nat) (v1 : Option Nat) : rc_M (Option Nat) :=
rc_bind (rc_is 10 v0) fun _ =>
rc_bind (rp_J2_append_2 v0 v1) fun x1 =>
rc_pure v0
def rp_J15_stringSize_L16 : Nat → Int32 → Int32 → Int32 → Int32 → rc_M Int32
  | 0, _, _, _, _ => rc_fail
  | n + 1, v0, v1, v2, v3 =>
    (if (10 : Int32) ≤ v3 then
    rc_pure ((10 : Int32) + v1)
    else
    (if v0 ≤ v2 then
    rp_J15_stringSize_L16 n v0 v1 ((10 : Int32) * v2) (v3 + (1 : Int32))
    else
    rc_pure (v3 + v1)))
def rp_J15_stringSize_L11 (v0 : Int32) (v1 : Int32) : rc_M Int32 :=
rc_bind rc_fuel fun x1 =>
rp_J15_stringSize_L16 x1 v0 v1 (-10 : Int32) (1 : Int32)
def rp_J15_stringSize (v0 : Int32) : rc_M Int32 :=
(if v0 < 0 then
rp_J15_stringSize_L11 v0 (1 : Int32)
else
rp_J15_stringSize_L11 (-v0) (0 : Int32))
def rp_J15_getChars_L22 (v0 : Int32) (v2 : Option Nat) (v5 : Int32) : rc_M Int32 :=
(if (-100 : Int32) < v0 then
rc_fail
else
rc_fail)
def rp_J15_getChars_L12 (v0 : Int32) (v2 : Option Nat) (v5 : Int32) (s0 : Int32) : rc_M Int32 :=
(if s0 = 0 then
rp_J15_getChars_L22 (-v0) v2 v5
else
rp_J15_getChars_L22 v0 v2 v5)
def rp_J15_getChars (v0 : Int32) (v1 : Int32) (v2 : Option Nat) : rc_M Int32 :=
(if 0 ≤ v0 then
rp_J15_getChars_L12 v0 v2 v1 (0 : Int32)
else
rp_J15_getChars_L12 v0 v2 v1 (1 : Int32))
def rp_J5_getChars_2_L22 (v0 : Int32) (v2 : Option Nat) (v5 : Int32) : rc_M Int32 :=
(if (-100 : Int32) < v0 then
rc_fail
else
rc_fail)
def rp_J5_getChars_2_L12 (v0 : Int32) (v2 : Option Nat) (v5 : Int32) (s0 : Int32) : rc_M Int32 :=
(if s0 = 0 then
rp_J5_getChars_2_L22 (-v0) v2 v5
else
rp_J5_getChars_2_L22 v0 v2 v5)
def rp_J5_getChars_2 (v0 : Int32) (v1 : Int32) (v2 : Option Nat) : rc_M Int32 :=
(if 0 ≤ v0 then
rp_J5_getChars_2_L12 v0 v2 v1 (0 : Int32)
else
rp_J5_getChars_2_L12 v0 v2 v1 (1 : Int32))
def rp_J5_getChars (v0 : Int32) (v1 : Int32) (v2 : Int32) (v3 : Option Nat) : rc_M Int32 :=
rc_bind (rp_J5_checkBoundsBeginEnd v1 v2 v3) fun _ =>
rc_bind (rp_J5_getChars_2 v0 v2 v3) fun x1 =>
rc_fail
def rp_J2_append_L48 (v0 : Option Nat) (v3 : Int32) : rc_M (Option Nat) :=
rc_bind (rc_put 10 3 .int v0 (rc_i v3)) fun _ =>
rc_pure v0
def rp_J2_append (v0 : Option Nat) (v1 : Int32) : rc_M (Option Nat) :=
rc_bind (rc_geti 10 3 v0) fun x1 =>
rc_bind (rp_J15_stringSize v1) fun x2 =>
rc_bind (rc_is 10 v0) fun _ =>
rc_bind (rp_J2_ensureCapacityInternal v0 (x1 + x2)) fun _ =>
rc_bind (rc_is 10 v0) fun _ =>
rc_bind (rp_J2_isLatin1 v0) fun x3 =>
(if x3 = 0 then
rc_bind (rc_getq 10 0 v0) fun x4 =>
rc_bind (rp_J5_getChars v1 x1 (x1 + x2) x4) fun x5 =>
rp_J2_append_L48 v0 (x1 + x2)
else
rc_bind (rc_getq 10 0 v0) fun x6 =>
rc_bind (rp_J15_getChars v1 (x1 + x2) x6) fun x7 =>
rp_J2_append_L48 v0 (x1 + x2))
def rp_J3_append (v0 : Option Nat) (v1 : Int32) : rc_M (Option Nat) :=
rc_bind (rc_is 10 v0) fun _ =>
rc_bind (rp_J2_append v0 v1) fun x1 =>
rc_pure v0
def rp_J1_circularClear_L12 : Nat → Option Nat → Int32 → Int32 → Int32 → rc_M Unit
  | 0, _, _, _, _ => rc_fail
  | n + 1, v0, v1, v2, v3 =>
    (if v3 ≤ v1 then
    (if v3 = v2 then
    rc_pure ()
    else
    rp_J1_circularClear_L12 n v0 (0 : Int32) v2 v2)
    else
    rc_bind (rc_astq v0 v1 none) fun _ =>
    rp_J1_circularClear_L12 n v0 (v1 + (1 : Int32)) v2 v3)
def rp_J1_circularClear_L11 (v0 : Option Nat) (v1 : Int32) (v2 : Int32) (s0 : Int32) : rc_M Unit :=
rc_bind rc_fuel fun x1 =>
rp_J1_circularClear_L12 x1 v0 v1 v2 s0
def rp_J1_circularClear (v0 : Option Nat) (v1 : Int32) (v2 : Int32) : rc_M Unit :=
(if v2 < v1 then
rc_bind (rc_alen 4 v0) fun x1 =>
rp_J1_circularClear_L11 v0 v1 v2 x1
else
rp_J1_circularClear_L11 v0 v1 v2 v2)
def rp_J1_clear (v0 : Option Nat) : rc_M Unit :=
rc_bind (rc_getq 9 0 v0) fun x1 =>
rc_bind (rc_geti 9 1 v0) fun x2 =>
rc_bind (rc_geti 9 2 v0) fun x3 =>
rc_bind (rp_J1_circularClear x1 x2 x3) fun _ =>
rc_bind (rc_put 9 2 .int v0 (rc_i (0 : Int32))) fun _ =>
rc_bind (rc_put 9 1 .int v0 (rc_i (0 : Int32))) fun _ =>
rc_pure ()
def rp_X3_init (v0 : Option Nat) : rc_M Unit :=
rc_bind (rc_nn v0) fun _ =>
rc_bind (rc_new 12 3 [rc_i 0, rc_q none, rc_i 0]) fun x1 =>
rc_bind (rc_nn x1) fun _ =>
rc_bind (rp_J7_init x1) fun _ =>
rc_bind (rc_put 2 0 (.object "java/util/List") v0 (rc_q x1)) fun _ =>
rc_bind (rc_new 12 3 [rc_i 0, rc_q none, rc_i 0]) fun x2 =>
rc_bind (rc_nn x2) fun _ =>
rc_bind (rp_J7_init x2) fun _ =>
rc_bind (rc_put 2 1 (.object "java/util/List") v0 (rc_q x2)) fun _ =>
rc_bind (rc_new 12 3 [rc_i 0, rc_q none, rc_i 0]) fun x3 =>
rc_bind (rc_nn x3) fun _ =>
rc_bind (rp_J7_init x3) fun _ =>
rc_bind (rc_put 2 2 (.object "java/util/List") v0 (rc_q x3)) fun _ =>
rc_bind (rc_newa 0 (64 : Int32)) fun x4 =>
rc_bind (rc_put 2 3 (.array .int) v0 (rc_q x4)) fun _ =>
rc_pure ()
def rp_X5_init (v0 : Option Nat) (v1 : Int32) : rc_M Unit :=
rc_bind (rc_nn v0) fun _ =>
rc_bind (rc_put 4 1 .int v0 (rc_i (-1 : Int32))) fun _ =>
rc_bind (rc_put 4 0 .int v0 (rc_i v1)) fun _ =>
rc_pure ()
def rp_X6_init (v0 : Option Nat) (v1 : Int32) (v2 : Int32) (v3 : Int32) : rc_M Unit :=
rc_bind (rc_nn v0) fun _ =>
rc_bind (rp_J18_init v0) fun _ =>
rc_bind (rc_put 5 0 .int v0 (rc_i v1)) fun _ =>
rc_bind (rc_put 5 1 .int v0 (rc_i v2)) fun _ =>
rc_bind (rc_put 5 2 .int v0 (rc_i v3)) fun _ =>
rc_pure ()
def rp_X3_catOn_L2 : Nat → Option Nat → Int32 → Int32 → rc_M Int32
  | 0, _, _, _ => rc_fail
  | n + 1, v0, v1, v2 =>
    rc_bind (rc_getq 2 2 v0) fun x1 =>
    rc_bind (rc_is 12 x1) fun _ =>
    rc_bind (rp_J7_size x1) fun x2 =>
    (if x2 ≤ v2 then
    rc_pure (-1 : Int32)
    else
    rc_bind (rc_getq 2 2 v0) fun x3 =>
    rc_bind (rc_is 12 x3) fun _ =>
    rc_bind (rp_J7_get x3 v2) fun x4 =>
    rc_bind (rc_castM 6 x4) fun _ =>
    rc_bind (rc_geti 6 2 x4) fun x5 =>
    (if x5 = v1 then
    rc_pure v2
    else
    rp_X3_catOn_L2 n v0 v1 (v2 + (1 : Int32))))
def rp_X3_catOn (v0 : Option Nat) (v1 : Int32) : rc_M Int32 :=
rc_bind rc_fuel fun x1 =>
rp_X3_catOn_L2 x1 v0 v1 (0 : Int32)
def rp_X7_init (v0 : Option Nat) (v1 : Int32) (v2 : Int32) (v3 : Int32) : rc_M Unit :=
rc_bind (rc_nn v0) fun _ =>
rc_bind (rc_put 6 3 .int v0 (rc_i (5 : Int32))) fun _ =>
rc_bind (rc_put 6 2 .int v0 (rc_i v1)) fun _ =>
rc_bind (rc_put 6 0 .int v0 (rc_i v2)) fun _ =>
rc_bind (rc_put 6 1 .int v0 (rc_i v3)) fun _ =>
rc_pure ()
def rp_X3_owner (v0 : Option Nat) (v1 : Int32) : rc_M Int32 :=
rc_bind (rc_getq 2 0 v0) fun x1 =>
rc_bind (rc_is 12 x1) fun _ =>
rc_bind (rp_J7_get x1 v1) fun x2 =>
rc_bind (rc_castM 4 x2) fun _ =>
rc_bind (rc_geti 4 1 x2) fun x3 =>
rc_pure x3
def rp_X3_owned_L34 (k4 : Option Nat → Int32 → Int32 → Int32 → rc_M Int32) (v0 : Option Nat) (v1 : Int32) (v3 : Int32) (s0 : Int32) (s1 : Int32) : rc_M Int32 :=
k4 v0 v1 (s1 ||| s0) (v3 + (1 : Int32))
def rp_X3_owned_L4 : Nat → Option Nat → Int32 → Int32 → Int32 → rc_M Int32
  | 0, _, _, _, _ => rc_fail
  | n + 1, v0, v1, v2, v3 =>
    rc_bind (rc_getq 2 0 v0) fun x1 =>
    rc_bind (rc_is 12 x1) fun _ =>
    rc_bind (rp_J7_size x1) fun x2 =>
    (if x2 ≤ v3 then
    rc_pure v2
    else
    rc_bind (rc_is 2 v0) fun _ =>
    rc_bind (rp_X3_owner v0 v3) fun x3 =>
    (if x3 = v1 then
    rp_X3_owned_L34 (rp_X3_owned_L4  n) v0 v1 v3 ((1 : Int32) <<< (v3 &&& 31)) v2
    else
    rp_X3_owned_L34 (rp_X3_owned_L4  n) v0 v1 v3 (0 : Int32) v2))
def rp_X3_owned (v0 : Option Nat) (v1 : Int32) : rc_M Int32 :=
rc_bind rc_fuel fun x1 =>
rp_X3_owned_L4 x1 v0 v1 (0 : Int32) (0 : Int32)
def rp_X3_ownsEnough (v0 : Option Nat) (v1 : Int32) : rc_M Int32 :=
rc_bind (rc_is 2 v0) fun _ =>
rc_bind (rp_X3_owned v0 v1) fun x1 =>
rc_bind (rp_J15_bitCount x1) fun x2 =>
(if x2 < (4 : Int32) then
rc_pure (0 : Int32)
else
rc_pure (1 : Int32))
def rp_X3_judgeClaim (v0 : Option Nat) (v1 : Int32) : rc_M Int32 :=
rc_bind (rc_getq 2 2 v0) fun x1 =>
rc_bind (rc_is 12 x1) fun _ =>
rc_bind (rp_J7_get x1 v1) fun x2 =>
rc_bind (rc_castM 6 x2) fun _ =>
rc_bind (rc_geti 6 2 x2) fun x3 =>
rc_bind (rc_is 2 v0) fun _ =>
rc_bind (rp_X3_owner v0 x3) fun x4 =>
(if x4 = (-1 : Int32) then
rc_bind (rc_is 2 v0) fun _ =>
rc_bind (rp_X3_ownsEnough v0 v1) fun x5 =>
(if x5 = 0 then
rc_pure (0 : Int32)
else
rc_pure (6 : Int32))
else
rc_pure (5 : Int32))
def rp_X3_claim (v0 : Option Nat) (v1 : Int32) : rc_M Int32 :=
rc_bind (rc_getq 2 0 v0) fun x1 =>
rc_bind (rc_getq 2 2 v0) fun x2 =>
rc_bind (rc_is 12 x2) fun _ =>
rc_bind (rp_J7_get x2 v1) fun x3 =>
rc_bind (rc_castM 6 x3) fun _ =>
rc_bind (rc_geti 6 2 x3) fun x4 =>
rc_bind (rc_is 12 x1) fun _ =>
rc_bind (rp_J7_get x1 x4) fun x5 =>
rc_bind (rc_castM 4 x5) fun _ =>
rc_bind (rc_put 4 1 .int x5 (rc_i v1)) fun _ =>
rc_bind (rc_is 2 v0) fun _ =>
rc_bind (rp_X3_owned v0 v1) fun x6 =>
rc_bind (rp_J15_bitCount x6) fun x7 =>
rc_pure x7
def rp_X6_endsAt_L16 : rc_M Int32 :=
rc_pure (1 : Int32)
def rp_X6_endsAt (v0 : Option Nat) (v1 : Int32) : rc_M Int32 :=
rc_bind (rc_geti 5 0 v0) fun x1 =>
(if x1 = v1 then
rp_X6_endsAt_L16
else
rc_bind (rc_geti 5 1 v0) fun x2 =>
(if x2 = v1 then
rp_X6_endsAt_L16
else
rc_pure (0 : Int32)))
def rp_X6_width (v0 : Option Nat) : rc_M Int32 :=
rc_bind (rc_geti 5 2 v0) fun x1 =>
rc_pure x1
def rp_X6_from (v0 : Option Nat) (v1 : Int32) : rc_M Int32 :=
rc_bind (rc_geti 5 0 v0) fun x1 =>
(if x1 = v1 then
rc_bind (rc_geti 5 1 v0) fun x3 =>
rc_pure x3
else
rc_bind (rc_geti 5 0 v0) fun x2 =>
rc_pure x2)
def rp_X3_truceNights (v0 : Option Nat) (v1 : Int32) (v2 : Int32) : rc_M Int32 :=
rc_bind (rc_getq 2 3 v0) fun x1 =>
rc_bind (rc_ald 0 x1 ((v1 * (8 : Int32)) + v2)) fun x2 =>
rc_bind (rc_geti 2 5 v0) fun x3 =>
rc_bind (rp_J17_max (0 : Int32) (x2 - x3)) fun x4 =>
rc_pure x4
def rp_X3_isTruce (v0 : Option Nat) (v1 : Int32) (v2 : Int32) : rc_M Int32 :=
rc_bind (rc_is 2 v0) fun _ =>
rc_bind (rp_X3_truceNights v0 v1 v2) fun x1 =>
(if x1 ≤ 0 then
rc_pure (0 : Int32)
else
rc_pure (1 : Int32))
def rp_X3_judgeWalk_L64 (v0 : Option Nat) (v1 : Int32) (v4 : Int32) : rc_M Int32 :=
rc_bind (rc_is 2 v0) fun _ =>
rc_bind (rp_X3_owner v0 v4) fun x1 =>
(if x1 = (-1 : Int32) then
rc_pure (0 : Int32)
else
(if x1 = v1 then
rc_pure (0 : Int32)
else
rc_bind (rc_is 2 v0) fun _ =>
rc_bind (rp_X3_isTruce v0 v1 x1) fun x2 =>
(if x2 = 0 then
rc_pure (4 : Int32)
else
rc_pure (0 : Int32))))
def rp_X3_judgeWalk (v0 : Option Nat) (v1 : Int32) (v2 : Int32) (v3 : Option Nat) : rc_M Int32 :=
rc_bind (rc_is 5 v3) fun _ =>
rc_bind (rp_X6_endsAt v3 v2) fun x1 =>
(if x1 = 0 then
rc_pure (1 : Int32)
else
rc_bind (rc_is 5 v3) fun _ =>
rc_bind (rp_X6_width v3) fun x2 =>
rc_bind (rc_getq 2 2 v0) fun x3 =>
rc_bind (rc_is 12 x3) fun _ =>
rc_bind (rp_J7_get x3 v1) fun x4 =>
rc_bind (rc_castM 6 x4) fun _ =>
rc_bind (rc_geti 6 0 x4) fun x5 =>
(if x5 ≤ x2 then
rc_bind (rc_is 5 v3) fun _ =>
rc_bind (rp_X6_from v3 v2) fun x6 =>
rc_bind (rc_is 2 v0) fun _ =>
rc_bind (rp_X3_catOn v0 x6) fun x7 =>
(if x7 = (-1 : Int32) then
rp_X3_judgeWalk_L64 v0 v1 x6
else
(if x7 = v1 then
rp_X3_judgeWalk_L64 v0 v1 x6
else
rc_pure (3 : Int32)))
else
rc_pure (2 : Int32)))
def rp_X3_judgeStep (v0 : Option Nat) (v1 : Int32) (v2 : Int32) : rc_M Int32 :=
rc_bind (rc_getq 2 2 v0) fun x1 =>
rc_bind (rc_is 12 x1) fun _ =>
rc_bind (rp_J7_get x1 v1) fun x2 =>
rc_bind (rc_castM 6 x2) fun _ =>
rc_bind (rc_geti 6 2 x2) fun x3 =>
rc_bind (rc_getq 2 1 v0) fun x4 =>
rc_bind (rc_is 12 x4) fun _ =>
rc_bind (rp_J7_get x4 v2) fun x5 =>
rc_bind (rc_castM 5 x5) fun _ =>
rc_bind (rc_is 2 v0) fun _ =>
rc_bind (rp_X3_judgeWalk v0 v1 x3 x5) fun x6 =>
rc_pure x6
def rp_X3_step (v0 : Option Nat) (v1 : Int32) (v2 : Int32) : rc_M Int32 :=
rc_bind (rc_getq 2 2 v0) fun x1 =>
rc_bind (rc_is 12 x1) fun _ =>
rc_bind (rp_J7_get x1 v1) fun x2 =>
rc_bind (rc_castM 6 x2) fun _ =>
rc_bind (rc_getq 2 1 v0) fun x3 =>
rc_bind (rc_is 12 x3) fun _ =>
rc_bind (rp_J7_get x3 v2) fun x4 =>
rc_bind (rc_castM 5 x4) fun _ =>
rc_bind (rc_geti 6 2 x2) fun x5 =>
rc_bind (rc_is 5 x4) fun _ =>
rc_bind (rp_X6_from x4 x5) fun x6 =>
rc_bind (rc_put 6 2 .int x2 (rc_i x6)) fun _ =>
rc_bind (rc_geti 6 2 x2) fun x7 =>
rc_pure x7
def rp_X6_connects (v0 : Option Nat) (v1 : Int32) (v2 : Int32) : rc_M Int32 :=
(if v1 = v2 then
rc_pure (0 : Int32)
else
rc_bind (rc_is 5 v0) fun _ =>
rc_bind (rp_X6_endsAt v0 v1) fun x1 =>
(if x1 = 0 then
rc_pure (0 : Int32)
else
rc_bind (rc_is 5 v0) fun _ =>
rc_bind (rp_X6_endsAt v0 v2) fun x2 =>
(if x2 = 0 then
rc_pure (0 : Int32)
else
rc_pure (1 : Int32))))
def rp_X3_isNear_L60 (k2 : Option Nat → Option Nat → Option Nat → Int32 → rc_M Int32) (v0 : Option Nat) (v1 : Option Nat) (v2 : Option Nat) (v3 : Int32) : rc_M Int32 :=
k2 v0 v1 v2 (v3 + (1 : Int32))
def rp_X3_isNear_L2 : Nat → Option Nat → Option Nat → Option Nat → Int32 → rc_M Int32
  | 0, _, _, _, _ => rc_fail
  | n + 1, v0, v1, v2, v3 =>
    rc_bind (rc_getq 2 1 v0) fun x1 =>
    rc_bind (rc_is 12 x1) fun _ =>
    rc_bind (rp_J7_size x1) fun x2 =>
    (if x2 ≤ v3 then
    rc_pure (0 : Int32)
    else
    rc_bind (rc_getq 2 1 v0) fun x3 =>
    rc_bind (rc_is 12 x3) fun _ =>
    rc_bind (rp_J7_get x3 v3) fun x4 =>
    rc_bind (rc_castM 5 x4) fun _ =>
    rc_bind (rc_is 5 x4) fun _ =>
    rc_bind (rp_X6_width x4) fun x5 =>
    rc_bind (rc_geti 6 0 v1) fun x6 =>
    (if x5 < x6 then
    rp_X3_isNear_L60 (rp_X3_isNear_L2  n) v0 v1 v2 v3
    else
    rc_bind (rc_geti 6 2 v1) fun x7 =>
    rc_bind (rc_geti 6 2 v2) fun x8 =>
    rc_bind (rc_is 5 x4) fun _ =>
    rc_bind (rp_X6_connects x4 x7 x8) fun x9 =>
    (if x9 = 0 then
    rp_X3_isNear_L60 (rp_X3_isNear_L2  n) v0 v1 v2 v3
    else
    rc_pure (1 : Int32))))
def rp_X3_isNear (v0 : Option Nat) (v1 : Option Nat) (v2 : Option Nat) : rc_M Int32 :=
rc_bind rc_fuel fun x1 =>
rp_X3_isNear_L2 x1 v0 v1 v2 (0 : Int32)
def rp_X3_isHome (v0 : Option Nat) (v1 : Int32) : rc_M Int32 :=
rc_bind (rc_getq 2 2 v0) fun x1 =>
rc_bind (rc_is 12 x1) fun _ =>
rc_bind (rp_J7_get x1 v1) fun x2 =>
rc_bind (rc_castM 6 x2) fun _ =>
rc_bind (rc_geti 6 2 x2) fun x3 =>
rc_bind (rc_is 2 v0) fun _ =>
rc_bind (rp_X3_owner v0 x3) fun x4 =>
(if x4 = v1 then
rc_pure (1 : Int32)
else
rc_pure (0 : Int32))
def rp_X3_power (v0 : Option Nat) (v1 : Int32) : rc_M Int32 :=
rc_bind (rc_getq 2 2 v0) fun x1 =>
rc_bind (rc_is 12 x1) fun _ =>
rc_bind (rp_J7_get x1 v1) fun x2 =>
rc_bind (rc_castM 6 x2) fun _ =>
rc_bind (rc_geti 6 1 x2) fun x3 =>
rc_bind (rc_is 2 v0) fun _ =>
rc_bind (rp_X3_isHome v0 v1) fun x4 =>
(if x4 = 0 then
rc_pure (x3 + (0 : Int32))
else
rc_pure (x3 + (2 : Int32)))
def rp_X3_judgeChase (v0 : Option Nat) (v1 : Int32) (v2 : Int32) : rc_M Int32 :=
rc_bind (rc_getq 2 2 v0) fun x1 =>
rc_bind (rc_is 12 x1) fun _ =>
rc_bind (rp_J7_get x1 v1) fun x2 =>
rc_bind (rc_castM 6 x2) fun _ =>
rc_bind (rc_getq 2 2 v0) fun x3 =>
rc_bind (rc_is 12 x3) fun _ =>
rc_bind (rp_J7_get x3 v2) fun x4 =>
rc_bind (rc_castM 6 x4) fun _ =>
rc_bind (rc_is 2 v0) fun _ =>
rc_bind (rp_X3_isNear v0 x2 x4) fun x5 =>
(if x5 = 0 then
rc_pure (7 : Int32)
else
rc_bind (rc_is 2 v0) fun _ =>
rc_bind (rp_X3_isTruce v0 v1 v2) fun x6 =>
(if x6 = 0 then
rc_bind (rc_is 2 v0) fun _ =>
rc_bind (rp_X3_power v0 v1) fun x7 =>
rc_bind (rc_is 2 v0) fun _ =>
rc_bind (rp_X3_power v0 v2) fun x8 =>
(if x7 ≤ x8 then
rc_pure (9 : Int32)
else
rc_pure (0 : Int32))
else
rc_pure (8 : Int32)))
def rp_X7_get (v0 : Option Nat) (v1 : Int32) : rc_M Int32 :=
rc_bind (rc_geti 6 3 v0) fun x1 =>
rc_bind (rp_J17_min v1 ((99 : Int32) - x1)) fun x2 =>
rc_bind (rc_geti 6 3 v0) fun x3 =>
rc_bind (rc_put 6 3 .int v0 (rc_i (x3 + x2))) fun _ =>
rc_pure x2
def rp_X3_chase_L114 (v0 : Option Nat) (v1 : Int32) (v5 : Int32) : rc_M Int32 :=
rc_bind (rc_is 2 v0) fun _ =>
rc_bind (rp_X3_owner v0 v5) fun x1 =>
(if x1 = v1 then
rc_pure (1 : Int32)
else
rc_pure (0 : Int32))
def rp_X3_chase_L76 (v0 : Option Nat) (v1 : Int32) (v3 : Option Nat) (v4 : Option Nat) (v5 : Int32) : rc_M Int32 :=
rc_bind (rc_geti 6 2 v3) fun x1 =>
rc_bind (rc_put 6 2 .int v4 (rc_i x1)) fun _ =>
rc_bind (rc_put 6 2 .int v3 (rc_i v5)) fun _ =>
rc_bind (rc_geti 6 3 v4) fun x2 =>
(if x2 ≤ 0 then
rp_X3_chase_L114 v0 v1 v5
else
rc_bind (rc_geti 6 3 v4) fun x3 =>
rc_bind (rc_is 6 v3) fun _ =>
rc_bind (rp_X7_get v3 (1 : Int32)) fun x4 =>
rc_bind (rc_put 6 3 .int v4 (rc_i (x3 - x4))) fun _ =>
rp_X3_chase_L114 v0 v1 v5)
def rp_X3_chase_L73 (v0 : Option Nat) (v1 : Int32) (v3 : Option Nat) (v4 : Option Nat) (v5 : Int32) (s0 : Int32) (s1 : Option Nat) : rc_M Int32 :=
rc_bind (rc_put 4 1 .int s1 (rc_i s0)) fun _ =>
rp_X3_chase_L76 v0 v1 v3 v4 v5
def rp_X3_chase (v0 : Option Nat) (v1 : Int32) (v2 : Int32) : rc_M Int32 :=
rc_bind (rc_getq 2 2 v0) fun x1 =>
rc_bind (rc_is 12 x1) fun _ =>
rc_bind (rp_J7_get x1 v1) fun x2 =>
rc_bind (rc_castM 6 x2) fun _ =>
rc_bind (rc_getq 2 2 v0) fun x3 =>
rc_bind (rc_is 12 x3) fun _ =>
rc_bind (rp_J7_get x3 v2) fun x4 =>
rc_bind (rc_castM 6 x4) fun _ =>
rc_bind (rc_geti 6 2 x4) fun x5 =>
rc_bind (rc_is 2 v0) fun _ =>
rc_bind (rp_X3_owner v0 x5) fun x6 =>
(if x6 = v2 then
rc_bind (rc_getq 2 0 v0) fun x7 =>
rc_bind (rc_is 12 x7) fun _ =>
rc_bind (rp_J7_get x7 x5) fun x8 =>
rc_bind (rc_castM 4 x8) fun _ =>
rc_bind (rc_is 2 v0) fun _ =>
rc_bind (rp_X3_ownsEnough v0 v1) fun x9 =>
(if x9 = 0 then
rp_X3_chase_L73 v0 v1 x2 x4 x5 v1 x8
else
rp_X3_chase_L73 v0 v1 x2 x4 x5 (-1 : Int32) x8)
else
rp_X3_chase_L76 v0 v1 x2 x4 x5)
def rp_X3_canBuy (v0 : Option Nat) (v1 : Int32) (v2 : Int32) (v3 : Int32) : rc_M Int32 :=
rc_bind (rc_is 2 v0) fun _ =>
rc_bind (rp_X3_isTruce v0 v1 v2) fun x1 =>
(if x1 = 0 then
rc_bind (rc_getq 2 2 v0) fun x2 =>
rc_bind (rc_is 12 x2) fun _ =>
rc_bind (rp_J7_get x2 v1) fun x3 =>
rc_bind (rc_castM 6 x3) fun _ =>
rc_bind (rc_geti 6 3 x3) fun x4 =>
(if x4 < v3 then
rc_pure (0 : Int32)
else
rc_bind (rc_getq 2 2 v0) fun x5 =>
rc_bind (rc_is 12 x5) fun _ =>
rc_bind (rp_J7_get x5 v2) fun x6 =>
rc_bind (rc_castM 6 x6) fun _ =>
rc_bind (rc_geti 6 3 x6) fun x7 =>
(if (99 : Int32) < (x7 + v3) then
rc_pure (0 : Int32)
else
rc_pure (1 : Int32)))
else
rc_pure (0 : Int32))
def rp_X3_buyTruce (v0 : Option Nat) (v1 : Int32) (v2 : Int32) (v3 : Int32) (v4 : Int32) : rc_M Int32 :=
rc_bind (rc_getq 2 2 v0) fun x1 =>
rc_bind (rc_is 12 x1) fun _ =>
rc_bind (rp_J7_get x1 v1) fun x2 =>
rc_bind (rc_castM 6 x2) fun _ =>
rc_bind (rc_geti 6 3 x2) fun x3 =>
rc_bind (rc_put 6 3 .int x2 (rc_i (x3 - v3))) fun _ =>
rc_bind (rc_getq 2 2 v0) fun x4 =>
rc_bind (rc_is 12 x4) fun _ =>
rc_bind (rp_J7_get x4 v2) fun x5 =>
rc_bind (rc_castM 6 x5) fun _ =>
rc_bind (rc_geti 6 3 x5) fun x6 =>
rc_bind (rc_put 6 3 .int x5 (rc_i (x6 + v3))) fun _ =>
rc_bind (rc_getq 2 3 v0) fun x7 =>
rc_bind (rc_geti 2 5 v0) fun x8 =>
rc_bind (rc_ast 0 x7 ((v1 * (8 : Int32)) + v2) (x8 + v4)) fun _ =>
rc_bind (rc_getq 2 3 v0) fun x9 =>
rc_bind (rc_geti 2 5 v0) fun x10 =>
rc_bind (rc_ast 0 x9 ((v2 * (8 : Int32)) + v1) (x10 + v4)) fun _ =>
rc_bind (rc_geti 2 5 v0) fun x11 =>
rc_pure (x11 + v4)
def rp_X3_canNominate (v0 : Option Nat) : rc_M Int32 :=
rc_bind (rc_getq 2 4 v0) fun x1 =>
(if x1 = none then
rc_bind (rc_getq 2 2 v0) fun x2 =>
rc_bind (rc_is 12 x2) fun _ =>
rc_bind (rp_J7_isEmpty x2) fun x3 =>
(if x3 = 0 then
rc_bind (rc_getq 2 2 v0) fun x4 =>
rc_bind (rc_is 12 x4) fun _ =>
rc_bind (rp_J7_size x4) fun x5 =>
(if (8 : Int32) ≤ x5 then
rc_pure (0 : Int32)
else
rc_pure (1 : Int32))
else
rc_pure (0 : Int32))
else
rc_pure (0 : Int32))
def rp_X8_init (v0 : Option Nat) (v1 : Int32) (v2 : Int32) (v3 : Int32) (v4 : Int32) : rc_M Unit :=
rc_bind (rc_nn v0) fun _ =>
rc_bind (rp_J18_init v0) fun _ =>
rc_bind (rc_put 7 0 .int v0 (rc_i v1)) fun _ =>
rc_bind (rc_put 7 1 .int v0 (rc_i v2)) fun _ =>
rc_bind (rc_put 7 2 .int v0 (rc_i v3)) fun _ =>
rc_bind (rc_put 7 3 .int v0 (rc_i v4)) fun _ =>
rc_pure ()
def rp_X3_nominate (v0 : Option Nat) (v1 : Int32) (v2 : Int32) : rc_M Int32 :=
rc_bind (rc_new 7 4 [rc_i 0, rc_i 0, rc_i 0, rc_i 0]) fun x1 =>
rc_bind (rc_nn x1) fun _ =>
rc_bind (rp_X8_init x1 v1 v2 (0 : Int32) (0 : Int32)) fun _ =>
rc_bind (rc_put 2 4 (.object "RooftopCats$Kitten") v0 (rc_q x1)) fun _ =>
rc_bind (rc_getq 2 2 v0) fun x2 =>
rc_bind (rc_is 12 x2) fun _ =>
rc_bind (rp_J7_size x2) fun x3 =>
rc_pure x3
def rp_X7_eat (v0 : Option Nat) : rc_M Int32 :=
rc_bind (rc_geti 6 3 v0) fun x1 =>
rc_bind (rp_J17_min (1 : Int32) x1) fun x2 =>
rc_bind (rc_geti 6 3 v0) fun x3 =>
rc_bind (rc_put 6 3 .int v0 (rc_i (x3 - x2))) fun _ =>
rc_pure x2
def rp_X3_singTogether_L2 : Nat → Option Nat → Int32 → Int32 → Int32 → rc_M Int32
  | 0, _, _, _, _ => rc_fail
  | n + 1, v0, v1, v2, v3 =>
    rc_bind (rc_getq 2 1 v0) fun x1 =>
    rc_bind (rc_is 12 x1) fun _ =>
    rc_bind (rp_J7_size x1) fun x2 =>
    (if x2 ≤ v3 then
    rc_pure (0 : Int32)
    else
    rc_bind (rc_getq 2 1 v0) fun x3 =>
    rc_bind (rc_is 12 x3) fun _ =>
    rc_bind (rp_J7_get x3 v3) fun x4 =>
    rc_bind (rc_castM 5 x4) fun _ =>
    rc_bind (rc_getq 2 2 v0) fun x5 =>
    rc_bind (rc_is 12 x5) fun _ =>
    rc_bind (rp_J7_get x5 v1) fun x6 =>
    rc_bind (rc_castM 6 x6) fun _ =>
    rc_bind (rc_geti 6 2 x6) fun x7 =>
    rc_bind (rc_getq 2 2 v0) fun x8 =>
    rc_bind (rc_is 12 x8) fun _ =>
    rc_bind (rp_J7_get x8 v2) fun x9 =>
    rc_bind (rc_castM 6 x9) fun _ =>
    rc_bind (rc_geti 6 2 x9) fun x10 =>
    rc_bind (rc_is 5 x4) fun _ =>
    rc_bind (rp_X6_connects x4 x7 x10) fun x11 =>
    (if x11 = 0 then
    rp_X3_singTogether_L2 n v0 v1 v2 (v3 + (1 : Int32))
    else
    rc_pure (1 : Int32)))
def rp_X3_singTogether (v0 : Option Nat) (v1 : Int32) (v2 : Int32) : rc_M Int32 :=
rc_bind rc_fuel fun x1 =>
rp_X3_singTogether_L2 x1 v0 v1 v2 (0 : Int32)
def rp_X3_choir_L75 (k6 : Option Nat → Int32 → Int32 → rc_M Int32) (k16 : Option Nat → Int32 → Int32 → Int32 → rc_M Int32) (k33 : Option Nat → Int32 → Int32 → Int32 → Int32 → rc_M Int32) (v0 : Option Nat) (v2 : Int32) (v3 : Int32) (v4 : Int32) (v5 : Int32) : rc_M Int32 :=
k33 v0 v2 v3 v4 (v5 + (1 : Int32))
def rp_X3_choir_L33 (k6 : Option Nat → Int32 → Int32 → rc_M Int32) (k16 : Option Nat → Int32 → Int32 → Int32 → rc_M Int32) : Nat → Option Nat → Int32 → Int32 → Int32 → Int32 → rc_M Int32
  | 0, _, _, _, _, _ => rc_fail
  | n + 1, v0, v2, v3, v4, v5 =>
    rc_bind (rc_getq 2 2 v0) fun x1 =>
    rc_bind (rc_is 12 x1) fun _ =>
    rc_bind (rp_J7_size x1) fun x2 =>
    (if x2 ≤ v5 then
    k16 v0 v2 v3 (v4 + (1 : Int32))
    else
    (if ((v2 >>> (v4 &&& 31)) &&& (1 : Int32)) = (1 : Int32) then
    rc_bind (rc_is 2 v0) fun _ =>
    rc_bind (rp_X3_singTogether v0 v4 v5) fun x3 =>
    (if x3 = 0 then
    rp_X3_choir_L75 k6 k16 (rp_X3_choir_L33 k6 k16 n) v0 v2 v3 v4 v5
    else
    rp_X3_choir_L75 k6 k16 (rp_X3_choir_L33 k6 k16 n) v0 v2 (v3 ||| ((1 : Int32) <<< (v5 &&& 31))) v4 v5)
    else
    rp_X3_choir_L75 k6 k16 (rp_X3_choir_L33 k6 k16 n) v0 v2 v3 v4 v5))
def rp_X3_choir_L16 (k6 : Option Nat → Int32 → Int32 → rc_M Int32) : Nat → Option Nat → Int32 → Int32 → Int32 → rc_M Int32
  | 0, _, _, _, _ => rc_fail
  | n + 1, v0, v2, v3, v4 =>
    rc_bind (rc_getq 2 2 v0) fun x1 =>
    rc_bind (rc_is 12 x1) fun _ =>
    rc_bind (rp_J7_size x1) fun x2 =>
    (if x2 ≤ v4 then
    k6 v0 v2 v3
    else
    rc_bind rc_fuel fun x3 =>
    rp_X3_choir_L33 k6 (rp_X3_choir_L16 k6 n) x3 v0 v2 v3 v4 (0 : Int32))
def rp_X3_choir_L6 : Nat → Option Nat → Int32 → Int32 → rc_M Int32
  | 0, _, _, _ => rc_fail
  | n + 1, v0, v2, v3 =>
    (if v3 = v2 then
    rc_pure v2
    else
    rc_bind rc_fuel fun x1 =>
    rp_X3_choir_L16 (rp_X3_choir_L6  n) x1 v0 v3 v3 (0 : Int32))
def rp_X3_choir (v0 : Option Nat) (v1 : Int32) : rc_M Int32 :=
rc_bind rc_fuel fun x1 =>
rp_X3_choir_L6 x1 v0 (0 : Int32) ((1 : Int32) <<< (v1 &&& 31))
def rp_X3_largestChoir_L36 (k4 : Option Nat → Int32 → Int32 → rc_M Int32) (v0 : Option Nat) (v1 : Int32) (v2 : Int32) : rc_M Int32 :=
k4 v0 v1 (v2 + (1 : Int32))
def rp_X3_largestChoir_L4 : Nat → Option Nat → Int32 → Int32 → rc_M Int32
  | 0, _, _, _ => rc_fail
  | n + 1, v0, v1, v2 =>
    rc_bind (rc_getq 2 2 v0) fun x1 =>
    rc_bind (rc_is 12 x1) fun _ =>
    rc_bind (rp_J7_size x1) fun x2 =>
    (if x2 ≤ v2 then
    rc_pure v1
    else
    rc_bind (rc_is 2 v0) fun _ =>
    rc_bind (rp_X3_choir v0 v2) fun x3 =>
    rc_bind (rp_J15_bitCount x3) fun x4 =>
    rc_bind (rp_J15_bitCount v1) fun x5 =>
    (if x4 ≤ x5 then
    rp_X3_largestChoir_L36 (rp_X3_largestChoir_L4  n) v0 v1 v2
    else
    rp_X3_largestChoir_L36 (rp_X3_largestChoir_L4  n) v0 x3 v2))
def rp_X3_largestChoir (v0 : Option Nat) : rc_M Int32 :=
rc_bind rc_fuel fun x1 =>
rp_X3_largestChoir_L4 x1 v0 (0 : Int32) (0 : Int32)
def rp_X3_sing_L53 (k2 : Option Nat → Int32 → Int32 → rc_M Unit) (v0 : Option Nat) (v1 : Int32) (v2 : Int32) : rc_M Unit :=
k2 v0 v1 (v2 + (1 : Int32))
def rp_X3_sing_L2 : Nat → Option Nat → Int32 → Int32 → rc_M Unit
  | 0, _, _, _ => rc_fail
  | n + 1, v0, v1, v2 =>
    rc_bind (rc_getq 2 2 v0) fun x1 =>
    rc_bind (rc_is 12 x1) fun _ =>
    rc_bind (rp_J7_size x1) fun x2 =>
    (if x2 ≤ v2 then
    rc_pure ()
    else
    (if ((v1 >>> (v2 &&& 31)) &&& (1 : Int32)) = (1 : Int32) then
    rc_bind (rc_geti 2 6 v0) fun x3 =>
    rc_bind (rc_getq 2 2 v0) fun x4 =>
    rc_bind (rc_is 12 x4) fun _ =>
    rc_bind (rp_J7_get x4 v2) fun x5 =>
    rc_bind (rc_castM 6 x5) fun _ =>
    rc_bind (rp_J15_bitCount v1) fun x6 =>
    rc_bind (rc_is 6 x5) fun _ =>
    rc_bind (rp_X7_get x5 x6) fun x7 =>
    rc_bind (rc_put 2 6 .int v0 (rc_i (x3 + x7))) fun _ =>
    rp_X3_sing_L53 (rp_X3_sing_L2  n) v0 v1 v2
    else
    rp_X3_sing_L53 (rp_X3_sing_L2  n) v0 v1 v2))
def rp_X3_sing (v0 : Option Nat) (v1 : Int32) : rc_M Unit :=
rc_bind rc_fuel fun x1 =>
rp_X3_sing_L2 x1 v0 v1 (0 : Int32)
def rp_X3_passNight_L97 (k12 : Option Nat → Int32 → rc_M Unit) (v0 : Option Nat) (v1 : Int32) : rc_M Unit :=
k12 v0 (v1 + (1 : Int32))
def rp_X3_passNight_L12 : Nat → Option Nat → Int32 → rc_M Unit
  | 0, _, _ => rc_fail
  | n + 1, v0, v1 =>
    rc_bind (rc_getq 2 2 v0) fun x1 =>
    rc_bind (rc_is 12 x1) fun _ =>
    rc_bind (rp_J7_size x1) fun x2 =>
    (if x2 ≤ v1 then
    rc_bind (rc_geti 2 5 v0) fun x3 =>
    (if (x3 - x3 / (8 : Int32) * (8 : Int32)) = (4 : Int32) then
    rc_bind (rc_is 2 v0) fun _ =>
    rc_bind (rp_X3_largestChoir v0) fun x4 =>
    rc_bind (rc_is 2 v0) fun _ =>
    rc_bind (rp_X3_sing v0 x4) fun _ =>
    rc_pure ()
    else
    rc_pure ())
    else
    rc_bind (rc_getq 2 2 v0) fun x5 =>
    rc_bind (rc_is 12 x5) fun _ =>
    rc_bind (rp_J7_get x5 v1) fun x6 =>
    rc_bind (rc_castM 6 x6) fun _ =>
    rc_bind (rc_is 2 v0) fun _ =>
    rc_bind (rp_X3_isHome v0 v1) fun x7 =>
    (if x7 = 0 then
    rc_bind (rc_geti 2 7 v0) fun x8 =>
    rc_bind (rc_is 6 x6) fun _ =>
    rc_bind (rp_X7_eat x6) fun x9 =>
    rc_bind (rc_put 2 7 .int v0 (rc_i (x8 + x9))) fun _ =>
    rp_X3_passNight_L97 (rp_X3_passNight_L12  n) v0 v1
    else
    rc_bind (rc_geti 2 6 v0) fun x10 =>
    rc_bind (rc_getq 2 0 v0) fun x11 =>
    rc_bind (rc_geti 6 2 x6) fun x12 =>
    rc_bind (rc_is 12 x11) fun _ =>
    rc_bind (rp_J7_get x11 x12) fun x13 =>
    rc_bind (rc_castM 4 x13) fun _ =>
    rc_bind (rc_geti 4 0 x13) fun x14 =>
    rc_bind (rc_is 6 x6) fun _ =>
    rc_bind (rp_X7_get x6 (x14 / (3 : Int32))) fun x15 =>
    rc_bind (rc_put 2 6 .int v0 (rc_i (x10 + x15))) fun _ =>
    rp_X3_passNight_L97 (rp_X3_passNight_L12  n) v0 v1))
def rp_X3_passNight (v0 : Option Nat) : rc_M Unit :=
rc_bind (rc_geti 2 5 v0) fun x1 =>
rc_bind (rc_put 2 5 .int v0 (rc_i (x1 + (1 : Int32)))) fun _ =>
rc_bind rc_fuel fun x2 =>
rp_X3_passNight_L12 x2 v0 (0 : Int32)
def rp_X3_passNights_L2 : Nat → Option Nat → Int32 → Int32 → rc_M Int32
  | 0, _, _, _ => rc_fail
  | n + 1, v0, v1, v2 =>
    (if v1 ≤ v2 then
    rc_bind (rc_geti 2 5 v0) fun x1 =>
    rc_pure x1
    else
    rc_bind (rc_is 2 v0) fun _ =>
    rc_bind (rp_X3_passNight v0) fun _ =>
    rp_X3_passNights_L2 n v0 v1 (v2 + (1 : Int32)))
def rp_X3_passNights (v0 : Option Nat) (v1 : Int32) : rc_M Int32 :=
rc_bind rc_fuel fun x1 =>
rp_X3_passNights_L2 x1 v0 v1 (0 : Int32)
def rp_X8_hasVote (v0 : Option Nat) (v1 : Int32) : rc_M Int32 :=
rc_bind (rc_geti 7 2 v0) fun x1 =>
rc_bind (rc_geti 7 3 v0) fun x2 =>
(if (((x1 ||| x2) >>> (v1 &&& 31)) &&& (1 : Int32)) = (1 : Int32) then
rc_pure (1 : Int32)
else
rc_pure (0 : Int32))
def rp_X3_canVote (v0 : Option Nat) (v1 : Int32) : rc_M Int32 :=
rc_bind (rc_getq 2 4 v0) fun x1 =>
(if x1 = none then
rc_pure (0 : Int32)
else
rc_bind (rc_getq 2 4 v0) fun x2 =>
rc_bind (rc_is 7 x2) fun _ =>
rc_bind (rp_X8_hasVote x2 v1) fun x3 =>
(if x3 = 0 then
rc_pure (1 : Int32)
else
rc_pure (0 : Int32)))
def rp_X8_with (v0 : Option Nat) (v1 : Int32) (v2 : Int32) : rc_M (Option Nat) :=
(if v2 = 0 then
rc_bind (rc_new 7 4 [rc_i 0, rc_i 0, rc_i 0, rc_i 0]) fun x1 =>
rc_bind (rc_geti 7 0 v0) fun x2 =>
rc_bind (rc_geti 7 1 v0) fun x3 =>
rc_bind (rc_geti 7 2 v0) fun x4 =>
rc_bind (rc_geti 7 3 v0) fun x5 =>
rc_bind (rc_nn x1) fun _ =>
rc_bind (rp_X8_init x1 x2 x3 x4 (x5 ||| ((1 : Int32) <<< (v1 &&& 31)))) fun _ =>
rc_pure x1
else
rc_bind (rc_new 7 4 [rc_i 0, rc_i 0, rc_i 0, rc_i 0]) fun x6 =>
rc_bind (rc_geti 7 0 v0) fun x7 =>
rc_bind (rc_geti 7 1 v0) fun x8 =>
rc_bind (rc_geti 7 2 v0) fun x9 =>
rc_bind (rc_geti 7 3 v0) fun x10 =>
rc_bind (rc_nn x6) fun _ =>
rc_bind (rp_X8_init x6 x7 x8 (x9 ||| ((1 : Int32) <<< (v1 &&& 31))) x10) fun _ =>
rc_pure x6)
def rp_X8_yes (v0 : Option Nat) : rc_M Int32 :=
rc_bind (rc_geti 7 2 v0) fun x1 =>
rc_pure x1
def rp_X8_no (v0 : Option Nat) : rc_M Int32 :=
rc_bind (rc_geti 7 3 v0) fun x1 =>
rc_pure x1
def rp_X3_warmestFree_L68 (k4 : Option Nat → Int32 → Int32 → rc_M Int32) (v0 : Option Nat) (v1 : Int32) (v2 : Int32) : rc_M Int32 :=
k4 v0 v1 (v2 + (1 : Int32))
def rp_X3_warmestFree_L66 (k4 : Option Nat → Int32 → Int32 → rc_M Int32) (v0 : Option Nat) (v2 : Int32) : rc_M Int32 :=
rp_X3_warmestFree_L68 k4 v0 v2 v2
def rp_X3_warmestFree_L4 : Nat → Option Nat → Int32 → Int32 → rc_M Int32
  | 0, _, _, _ => rc_fail
  | n + 1, v0, v1, v2 =>
    rc_bind (rc_getq 2 0 v0) fun x1 =>
    rc_bind (rc_is 12 x1) fun _ =>
    rc_bind (rp_J7_size x1) fun x2 =>
    (if x2 ≤ v2 then
    rc_pure v1
    else
    rc_bind (rc_is 2 v0) fun _ =>
    rc_bind (rp_X3_catOn v0 v2) fun x3 =>
    (if x3 = (-1 : Int32) then
    (if v1 = (-1 : Int32) then
    rp_X3_warmestFree_L66 (rp_X3_warmestFree_L4  n) v0 v2
    else
    rc_bind (rc_getq 2 0 v0) fun x4 =>
    rc_bind (rc_is 12 x4) fun _ =>
    rc_bind (rp_J7_get x4 v2) fun x5 =>
    rc_bind (rc_castM 4 x5) fun _ =>
    rc_bind (rc_geti 4 0 x5) fun x6 =>
    rc_bind (rc_getq 2 0 v0) fun x7 =>
    rc_bind (rc_is 12 x7) fun _ =>
    rc_bind (rp_J7_get x7 v1) fun x8 =>
    rc_bind (rc_castM 4 x8) fun _ =>
    rc_bind (rc_geti 4 0 x8) fun x9 =>
    (if x6 ≤ x9 then
    rp_X3_warmestFree_L68 (rp_X3_warmestFree_L4  n) v0 v1 v2
    else
    rp_X3_warmestFree_L66 (rp_X3_warmestFree_L4  n) v0 v2))
    else
    rp_X3_warmestFree_L68 (rp_X3_warmestFree_L4  n) v0 v1 v2))
def rp_X3_warmestFree (v0 : Option Nat) : rc_M Int32 :=
rc_bind rc_fuel fun x1 =>
rp_X3_warmestFree_L4 x1 v0 (-1 : Int32) (0 : Int32)
def rp_X8_girth (v0 : Option Nat) : rc_M Int32 :=
rc_bind (rc_geti 7 0 v0) fun x1 =>
rc_pure x1
def rp_X8_strength (v0 : Option Nat) : rc_M Int32 :=
rc_bind (rc_geti 7 1 v0) fun x1 =>
rc_pure x1
def rp_X3_vote_L131 (v0 : Option Nat) (v6 : Int32) : rc_M Int32 :=
rc_bind (rc_put 2 4 (.object "RooftopCats$Kitten") v0 (rc_q none)) fun _ =>
rc_bind (rc_narM .boolean v6) fun _ =>
rc_pure v6
def rp_X3_vote_L91 (v0 : Option Nat) (v5 : Int32) (s0 : Int32) : rc_M Int32 :=
(if s0 = 0 then
rp_X3_vote_L131 v0 s0
else
rc_bind (rc_getq 2 2 v0) fun x1 =>
rc_bind (rc_new 6 4 [rc_i 0, rc_i 0, rc_i 0, rc_i 0]) fun x2 =>
rc_bind (rc_getq 2 4 v0) fun x3 =>
rc_bind (rc_is 7 x3) fun _ =>
rc_bind (rp_X8_girth x3) fun x4 =>
rc_bind (rc_getq 2 4 v0) fun x5 =>
rc_bind (rc_is 7 x5) fun _ =>
rc_bind (rp_X8_strength x5) fun x6 =>
rc_bind (rc_nn x2) fun _ =>
rc_bind (rp_X7_init x2 v5 x4 x6) fun _ =>
rc_bind (rc_is 12 x1) fun _ =>
rc_bind (rp_J7_add x1 x2) fun x7 =>
rp_X3_vote_L131 v0 s0)
def rp_X3_vote_L90 (v0 : Option Nat) (v5 : Int32) : rc_M Int32 :=
rp_X3_vote_L91 v0 v5 (0 : Int32)
def rp_X3_vote (v0 : Option Nat) (v1 : Int32) (v2 : Int32) : rc_M Int32 :=
rc_bind (rc_getq 2 4 v0) fun x1 =>
rc_bind (rc_is 7 x1) fun _ =>
rc_bind (rp_X8_with x1 v1 v2) fun x2 =>
rc_bind (rc_put 2 4 (.object "RooftopCats$Kitten") v0 (rc_q x2)) fun _ =>
rc_bind (rc_getq 2 4 v0) fun x3 =>
rc_bind (rc_is 7 x3) fun _ =>
rc_bind (rp_X8_yes x3) fun x4 =>
rc_bind (rp_J15_bitCount x4) fun x5 =>
rc_bind (rc_getq 2 4 v0) fun x6 =>
rc_bind (rc_is 7 x6) fun _ =>
rc_bind (rp_X8_no x6) fun x7 =>
rc_bind (rp_J15_bitCount x7) fun x8 =>
rc_bind (rc_getq 2 2 v0) fun x9 =>
rc_bind (rc_is 12 x9) fun _ =>
rc_bind (rp_J7_size x9) fun x10 =>
(if x10 ≤ (x5 + x8) then
rc_bind (rc_is 2 v0) fun _ =>
rc_bind (rp_X3_warmestFree v0) fun x11 =>
(if x5 ≤ x8 then
rp_X3_vote_L90 v0 x11
else
rc_bind (rc_getq 2 2 v0) fun x12 =>
rc_bind (rc_is 12 x12) fun _ =>
rc_bind (rp_J7_size x12) fun x13 =>
(if (8 : Int32) ≤ x13 then
rp_X3_vote_L90 v0 x11
else
(if x11 = (-1 : Int32) then
rp_X3_vote_L90 v0 x11
else
rp_X3_vote_L91 v0 x11 (1 : Int32))))
else
rc_pure (0 : Int32))
def rp_X5_copy (v0 : Option Nat) : rc_M (Option Nat) :=
rc_bind (rc_new 4 2 [rc_i 0, rc_i 0]) fun x1 =>
rc_bind (rc_geti 4 0 v0) fun x2 =>
rc_bind (rc_nn x1) fun _ =>
rc_bind (rp_X5_init x1 x2) fun _ =>
rc_bind (rc_geti 4 1 v0) fun x3 =>
rc_bind (rc_put 4 1 .int x1 (rc_i x3)) fun _ =>
rc_pure x1
def rp_X7_copy (v0 : Option Nat) : rc_M (Option Nat) :=
rc_bind (rc_new 6 4 [rc_i 0, rc_i 0, rc_i 0, rc_i 0]) fun x1 =>
rc_bind (rc_geti 6 2 v0) fun x2 =>
rc_bind (rc_geti 6 0 v0) fun x3 =>
rc_bind (rc_geti 6 1 v0) fun x4 =>
rc_bind (rc_nn x1) fun _ =>
rc_bind (rp_X7_init x1 x2 x3 x4) fun _ =>
rc_bind (rc_geti 6 3 v0) fun x5 =>
rc_bind (rc_put 6 3 .int x1 (rc_i x5)) fun _ =>
rc_pure x1
def rp_X3_copy_L107 : Nat → Option Nat → Option Nat → Option Nat → rc_M (Option Nat)
  | 0, _, _, _ => rc_fail
  | n + 1, v0, v1, v2 =>
    rc_bind (rc_is 13 v2) fun _ =>
    rc_bind (rp_J25_hasNext v2) fun x1 =>
    (if x1 = 0 then
    rc_bind (rc_getq 2 3 v0) fun x2 =>
    rc_bind (rc_getq 2 3 v1) fun x3 =>
    rc_bind (rc_getq 2 3 v0) fun x4 =>
    rc_bind (rc_alen 0 x4) fun x5 =>
    rc_bind (rc_acopy 0 x2 (0 : Int32) x3 (0 : Int32) x5) fun _ =>
    rc_bind (rc_getq 2 4 v0) fun x6 =>
    rc_bind (rc_put 2 4 (.object "RooftopCats$Kitten") v1 (rc_q x6)) fun _ =>
    rc_bind (rc_geti 2 5 v0) fun x7 =>
    rc_bind (rc_put 2 5 .int v1 (rc_i x7)) fun _ =>
    rc_bind (rc_geti 2 6 v0) fun x8 =>
    rc_bind (rc_put 2 6 .int v1 (rc_i x8)) fun _ =>
    rc_bind (rc_geti 2 7 v0) fun x9 =>
    rc_bind (rc_put 2 7 .int v1 (rc_i x9)) fun _ =>
    rc_pure v1
    else
    rc_bind (rc_is 13 v2) fun _ =>
    rc_bind (rp_J25_next v2) fun x10 =>
    rc_bind (rc_castM 6 x10) fun _ =>
    rc_bind (rc_getq 2 2 v1) fun x11 =>
    rc_bind (rc_is 6 x10) fun _ =>
    rc_bind (rp_X7_copy x10) fun x12 =>
    rc_bind (rc_is 12 x11) fun _ =>
    rc_bind (rp_J7_add x11 x12) fun x13 =>
    rp_X3_copy_L107 n v0 v1 v2)
def rp_X3_copy_L64 : Nat → Option Nat → Option Nat → Option Nat → rc_M (Option Nat)
  | 0, _, _, _ => rc_fail
  | n + 1, v0, v1, v2 =>
    rc_bind (rc_is 13 v2) fun _ =>
    rc_bind (rp_J25_hasNext v2) fun x1 =>
    (if x1 = 0 then
    rc_bind (rc_getq 2 2 v0) fun x2 =>
    rc_bind (rc_is 12 x2) fun _ =>
    rc_bind (rp_J7_iterator x2) fun x3 =>
    rc_bind rc_fuel fun x4 =>
    rp_X3_copy_L107 x4 v0 v1 x3
    else
    rc_bind (rc_is 13 v2) fun _ =>
    rc_bind (rp_J25_next v2) fun x5 =>
    rc_bind (rc_castM 5 x5) fun _ =>
    rc_bind (rc_getq 2 1 v1) fun x6 =>
    rc_bind (rc_is 12 x6) fun _ =>
    rc_bind (rp_J7_add x6 x5) fun x7 =>
    rp_X3_copy_L64 n v0 v1 v2)
def rp_X3_copy_L18 : Nat → Option Nat → Option Nat → Option Nat → rc_M (Option Nat)
  | 0, _, _, _ => rc_fail
  | n + 1, v0, v1, v2 =>
    rc_bind (rc_is 13 v2) fun _ =>
    rc_bind (rp_J25_hasNext v2) fun x1 =>
    (if x1 = 0 then
    rc_bind (rc_getq 2 1 v0) fun x2 =>
    rc_bind (rc_is 12 x2) fun _ =>
    rc_bind (rp_J7_iterator x2) fun x3 =>
    rc_bind rc_fuel fun x4 =>
    rp_X3_copy_L64 x4 v0 v1 x3
    else
    rc_bind (rc_is 13 v2) fun _ =>
    rc_bind (rp_J25_next v2) fun x5 =>
    rc_bind (rc_castM 4 x5) fun _ =>
    rc_bind (rc_getq 2 0 v1) fun x6 =>
    rc_bind (rc_is 4 x5) fun _ =>
    rc_bind (rp_X5_copy x5) fun x7 =>
    rc_bind (rc_is 12 x6) fun _ =>
    rc_bind (rp_J7_add x6 x7) fun x8 =>
    rp_X3_copy_L18 n v0 v1 v2)
def rp_X3_copy (v0 : Option Nat) : rc_M (Option Nat) :=
rc_bind (rc_new 2 8 [rc_q none, rc_q none, rc_q none, rc_q none, rc_q none, rc_i 0, rc_i 0, rc_i 0]) fun x1 =>
rc_bind (rc_nn x1) fun _ =>
rc_bind (rp_X3_init x1) fun _ =>
rc_bind (rc_getq 2 0 v0) fun x2 =>
rc_bind (rc_is 12 x2) fun _ =>
rc_bind (rp_J7_iterator x2) fun x3 =>
rc_bind rc_fuel fun x4 =>
rp_X3_copy_L18 x4 v0 x1 x3
def rp_X3_choirCount_L35 (k4 : Option Nat → Int32 → Int32 → rc_M Int32) (v0 : Option Nat) (v2 : Int32) (s0 : Int32) (s1 : Int32) : rc_M Int32 :=
k4 v0 (s1 + s0) (v2 + (1 : Int32))
def rp_X3_choirCount_L4 : Nat → Option Nat → Int32 → Int32 → rc_M Int32
  | 0, _, _, _ => rc_fail
  | n + 1, v0, v1, v2 =>
    rc_bind (rc_getq 2 2 v0) fun x1 =>
    rc_bind (rc_is 12 x1) fun _ =>
    rc_bind (rp_J7_size x1) fun x2 =>
    (if x2 ≤ v2 then
    rc_pure v1
    else
    rc_bind (rc_is 2 v0) fun _ =>
    rc_bind (rp_X3_choir v0 v2) fun x3 =>
    rc_bind (rp_J15_numberOfTrailingZeros x3) fun x4 =>
    (if x4 = v2 then
    rp_X3_choirCount_L35 (rp_X3_choirCount_L4  n) v0 v2 (1 : Int32) v1
    else
    rp_X3_choirCount_L35 (rp_X3_choirCount_L4  n) v0 v2 (0 : Int32) v1))
def rp_X3_choirCount (v0 : Option Nat) : rc_M Int32 :=
rc_bind rc_fuel fun x1 =>
rp_X3_choirCount_L4 x1 v0 (0 : Int32) (0 : Int32)
def rp_X3_totalFish_L12 : Nat → Int32 → Option Nat → rc_M Int32
  | 0, _, _ => rc_fail
  | n + 1, v1, v2 =>
    rc_bind (rc_is 13 v2) fun _ =>
    rc_bind (rp_J25_hasNext v2) fun x1 =>
    (if x1 = 0 then
    rc_pure v1
    else
    rc_bind (rc_is 13 v2) fun _ =>
    rc_bind (rp_J25_next v2) fun x2 =>
    rc_bind (rc_castM 6 x2) fun _ =>
    rc_bind (rc_geti 6 3 x2) fun x3 =>
    rp_X3_totalFish_L12 n (v1 + x3) v2)
def rp_X3_totalFish (v0 : Option Nat) : rc_M Int32 :=
rc_bind (rc_getq 2 2 v0) fun x1 =>
rc_bind (rc_is 12 x1) fun _ =>
rc_bind (rp_J7_iterator x1) fun x2 =>
rc_bind rc_fuel fun x3 =>
rp_X3_totalFish_L12 x3 (0 : Int32) x2
def rp_X6_one (v0 : Option Nat) : rc_M Int32 :=
rc_bind (rc_geti 5 0 v0) fun x1 =>
rc_pure x1
def rp_X6_other (v0 : Option Nat) : rc_M Int32 :=
rc_bind (rc_geti 5 1 v0) fun x1 =>
rc_pure x1
def rp_X3_connected_L89 (k7 : Option Nat → Int32 → Int32 → Int32 → rc_M Int32) (k19 : Option Nat → Int32 → Int32 → Int32 → Int32 → rc_M Int32) (v0 : Option Nat) (v2 : Int32) (v3 : Int32) (v4 : Int32) (v5 : Int32) : rc_M Int32 :=
k19 v0 v2 v3 v4 (v5 + (1 : Int32))
def rp_X3_connected_L19 (k7 : Option Nat → Int32 → Int32 → Int32 → rc_M Int32) : Nat → Option Nat → Int32 → Int32 → Int32 → Int32 → rc_M Int32
  | 0, _, _, _, _, _ => rc_fail
  | n + 1, v0, v2, v3, v4, v5 =>
    rc_bind (rc_getq 2 1 v0) fun x1 =>
    rc_bind (rc_is 12 x1) fun _ =>
    rc_bind (rp_J7_size x1) fun x2 =>
    (if x2 ≤ v5 then
    k7 v0 v2 v3 v4
    else
    rc_bind (rc_getq 2 1 v0) fun x3 =>
    rc_bind (rc_is 12 x3) fun _ =>
    rc_bind (rp_J7_get x3 v5) fun x4 =>
    rc_bind (rc_castM 5 x4) fun _ =>
    rc_bind (rc_is 5 x4) fun _ =>
    rc_bind (rp_X6_one x4) fun x5 =>
    rc_bind (rc_is 5 x4) fun _ =>
    rc_bind (rp_X6_other x4) fun x6 =>
    rc_bind (rc_is 5 x4) fun _ =>
    rc_bind (rp_X6_width x4) fun x7 =>
    (if x7 < v2 then
    rp_X3_connected_L89 k7 (rp_X3_connected_L19 k7 n) v0 v2 v3 v4 v5
    else
    (if (v3 &&& (((1 : Int32) <<< (x5 &&& 31)) ||| ((1 : Int32) <<< (x6 &&& 31)))) = 0 then
    rp_X3_connected_L89 k7 (rp_X3_connected_L19 k7 n) v0 v2 v3 v4 v5
    else
    rp_X3_connected_L89 k7 (rp_X3_connected_L19 k7 n) v0 v2 v3 (v4 ||| (((1 : Int32) <<< (x5 &&& 31)) ||| ((1 : Int32) <<< (x6 &&& 31)))) v5)))
def rp_X3_connected_L7 : Nat → Option Nat → Int32 → Int32 → Int32 → rc_M Int32
  | 0, _, _, _, _ => rc_fail
  | n + 1, v0, v2, v3, v4 =>
    (if v4 = v3 then
    rc_pure v3
    else
    rc_bind rc_fuel fun x1 =>
    rp_X3_connected_L19 (rp_X3_connected_L7  n) x1 v0 v2 v4 v4 (0 : Int32))
def rp_X3_connected (v0 : Option Nat) (v1 : Int32) (v2 : Int32) : rc_M Int32 :=
rc_bind rc_fuel fun x1 =>
rp_X3_connected_L7 x1 v0 v2 (0 : Int32) ((1 : Int32) <<< (v1 &&& 31))
def rp_X3_widestWay_L3 : Nat → Option Nat → Int32 → Int32 → Int32 → rc_M Int32
  | 0, _, _, _, _ => rc_fail
  | n + 1, v0, v1, v2, v3 =>
    (if v3 ≤ 0 then
    rc_pure (-1 : Int32)
    else
    rc_bind (rc_is 2 v0) fun _ =>
    rc_bind (rp_X3_connected v0 v1 v3) fun x1 =>
    (if ((x1 >>> (v2 &&& 31)) &&& (1 : Int32)) = (1 : Int32) then
    rc_pure v3
    else
    rp_X3_widestWay_L3 n v0 v1 v2 (v3 + (-1 : Int32))))
def rp_X3_widestWay (v0 : Option Nat) (v1 : Int32) (v2 : Int32) : rc_M Int32 :=
rc_bind rc_fuel fun x1 =>
rp_X3_widestWay_L3 x1 v0 v1 v2 (9 : Int32)
def rp_X3_extended_L96 (k5 : Option Nat → Int32 → Int32 → Int32 → Int32 → rc_M Int32) (k34 : Option Nat → Int32 → Int32 → Int32 → Int32 → Int32 → rc_M Int32) (v0 : Option Nat) (v1 : Int32) (v2 : Int32) (v3 : Int32) (v4 : Int32) (v5 : Int32) : rc_M Int32 :=
k34 v0 v1 v2 v3 v4 (v5 + (1 : Int32))
def rp_X3_extended_L102 (k5 : Option Nat → Int32 → Int32 → Int32 → Int32 → rc_M Int32) (v0 : Option Nat) (v1 : Int32) (v2 : Int32) (v3 : Int32) (v4 : Int32) : rc_M Int32 :=
k5 v0 v1 v2 v3 (v4 + (1 : Int32))
def rp_X3_extended_L34 (k5 : Option Nat → Int32 → Int32 → Int32 → Int32 → rc_M Int32) : Nat → Option Nat → Int32 → Int32 → Int32 → Int32 → Int32 → rc_M Int32
  | 0, _, _, _, _, _, _ => rc_fail
  | n + 1, v0, v1, v2, v3, v4, v5 =>
    rc_bind (rc_getq 2 1 v0) fun x1 =>
    rc_bind (rc_is 12 x1) fun _ =>
    rc_bind (rp_J7_size x1) fun x2 =>
    (if x2 ≤ v5 then
    rp_X3_extended_L102 k5 v0 v1 v2 v3 v4
    else
    rc_bind (rc_getq 2 1 v0) fun x3 =>
    rc_bind (rc_is 12 x3) fun _ =>
    rc_bind (rp_J7_get x3 v5) fun x4 =>
    rc_bind (rc_castM 5 x4) fun _ =>
    rc_bind (rc_is 2 v0) fun _ =>
    rc_bind (rp_X3_judgeWalk v0 v1 v4 x4) fun x5 =>
    (if x5 = 0 then
    rc_bind (rc_getq 2 1 v0) fun x6 =>
    rc_bind (rc_is 12 x6) fun _ =>
    rc_bind (rp_J7_get x6 v5) fun x7 =>
    rc_bind (rc_castM 5 x7) fun _ =>
    rc_bind (rc_is 5 x7) fun _ =>
    rc_bind (rp_X6_from x7 v4) fun x8 =>
    rp_X3_extended_L96 k5 (rp_X3_extended_L34 k5 n) v0 v1 v2 (v3 ||| ((1 : Int32) <<< (x8 &&& 31))) v4 v5
    else
    rp_X3_extended_L96 k5 (rp_X3_extended_L34 k5 n) v0 v1 v2 v3 v4 v5))
def rp_X3_extended_L5 : Nat → Option Nat → Int32 → Int32 → Int32 → Int32 → rc_M Int32
  | 0, _, _, _, _, _ => rc_fail
  | n + 1, v0, v1, v2, v3, v4 =>
    rc_bind (rc_getq 2 0 v0) fun x1 =>
    rc_bind (rc_is 12 x1) fun _ =>
    rc_bind (rp_J7_size x1) fun x2 =>
    (if x2 ≤ v4 then
    rc_pure v3
    else
    (if ((v2 >>> (v4 &&& 31)) &&& (1 : Int32)) = 0 then
    rp_X3_extended_L102 (rp_X3_extended_L5  n) v0 v1 v2 v3 v4
    else
    rc_bind rc_fuel fun x3 =>
    rp_X3_extended_L34 (rp_X3_extended_L5  n) x3 v0 v1 v2 v3 v4 (0 : Int32)))
def rp_X3_extended (v0 : Option Nat) (v1 : Int32) (v2 : Int32) : rc_M Int32 :=
rc_bind rc_fuel fun x1 =>
rp_X3_extended_L5 x1 v0 v1 v2 v2 (0 : Int32)
def rp_X3_reachable_L21 : Nat → Option Nat → Int32 → Int32 → Int32 → rc_M Int32
  | 0, _, _, _, _ => rc_fail
  | n + 1, v0, v1, v2, v3 =>
    (if v3 = v2 then
    rc_pure v2
    else
    rc_bind (rc_is 2 v0) fun _ =>
    rc_bind (rp_X3_extended v0 v1 v3) fun x1 =>
    rp_X3_reachable_L21 n v0 v1 v3 x1)
def rp_X3_reachable (v0 : Option Nat) (v1 : Int32) : rc_M Int32 :=
rc_bind (rc_getq 2 2 v0) fun x1 =>
rc_bind (rc_is 12 x1) fun _ =>
rc_bind (rp_J7_get x1 v1) fun x2 =>
rc_bind (rc_castM 6 x2) fun _ =>
rc_bind (rc_geti 6 2 x2) fun x3 =>
rc_bind rc_fuel fun x4 =>
rp_X3_reachable_L21 x4 v0 v1 (0 : Int32) ((1 : Int32) <<< (x3 &&& 31))
def rp_X3_stepsTo_L22 : Nat → Option Nat → Int32 → Int32 → Int32 → Int32 → rc_M Int32
  | 0, _, _, _, _, _ => rc_fail
  | n + 1, v0, v1, v2, v3, v4 =>
    (if (10 : Int32) ≤ v4 then
    rc_pure (-1 : Int32)
    else
    (if ((v3 >>> (v2 &&& 31)) &&& (1 : Int32)) = (1 : Int32) then
    rc_pure v4
    else
    rc_bind (rc_is 2 v0) fun _ =>
    rc_bind (rp_X3_extended v0 v1 v3) fun x1 =>
    rp_X3_stepsTo_L22 n v0 v1 v2 x1 (v4 + (1 : Int32))))
def rp_X3_stepsTo (v0 : Option Nat) (v1 : Int32) (v2 : Int32) : rc_M Int32 :=
rc_bind (rc_getq 2 2 v0) fun x1 =>
rc_bind (rc_is 12 x1) fun _ =>
rc_bind (rp_J7_get x1 v1) fun x2 =>
rc_bind (rc_castM 6 x2) fun _ =>
rc_bind (rc_geti 6 2 x2) fun x3 =>
rc_bind rc_fuel fun x4 =>
rp_X3_stepsTo_L22 x4 v0 v1 v2 ((1 : Int32) <<< (x3 &&& 31)) (0 : Int32)
def rp_X2_isAt (v0 : Option Nat) (v1 : Int32) (v2 : Int32) : rc_M Int32 :=
rc_bind (rc_geti 1 1 v0) fun x1 =>
rc_bind (rc_getq 1 0 v0) fun x2 =>
rc_bind (rc_is 11 x2) fun _ =>
rc_bind (rp_J4_length x2) fun x3 =>
(if x3 ≤ x1 then
rc_pure (0 : Int32)
else
rc_bind (rc_getq 1 0 v0) fun x4 =>
rc_bind (rc_geti 1 1 v0) fun x5 =>
rc_bind (rc_is 11 x4) fun _ =>
rc_bind (rp_J4_charAt x4 x5) fun x6 =>
(if x6 < v1 then
rc_pure (0 : Int32)
else
rc_bind (rc_getq 1 0 v0) fun x7 =>
rc_bind (rc_geti 1 1 v0) fun x8 =>
rc_bind (rc_is 11 x7) fun _ =>
rc_bind (rp_J4_charAt x7 x8) fun x9 =>
(if v2 < x9 then
rc_pure (0 : Int32)
else
rc_pure (1 : Int32))))
def rp_X2_readDigits_L55 (k5 : Option Nat → rc_M Unit) (v0 : Option Nat) : rc_M Unit :=
rc_bind (rc_geti 1 1 v0) fun x1 =>
rc_bind (rc_put 1 1 .int v0 (rc_i (x1 + (1 : Int32)))) fun _ =>
k5 v0
def rp_X2_readDigits_L91 (s0 : Option Nat) (s1 : Option Nat) : rc_M Unit :=
rc_bind (rc_put 1 3 (.object "RooftopCats$Token") s1 (rc_q s0)) fun _ =>
rc_pure ()
def rp_X2_readDigits_L5 : Nat → Option Nat → rc_M Unit
  | 0, _ => rc_fail
  | n + 1, v0 =>
    rc_bind (rc_is 1 v0) fun _ =>
    rc_bind (rp_X2_isAt v0 (48 : Int32) (57 : Int32)) fun x1 =>
    (if x1 = 0 then
    rc_bind (rc_geti 1 1 v0) fun x2 =>
    rc_bind (rc_geti 1 2 v0) fun x3 =>
    (if (x2 - x3) ≤ (3 : Int32) then
    rc_bind (rc_stat 1) fun x4 =>
    rp_X2_readDigits_L91 x4 v0
    else
    rc_bind (rc_stat 5) fun x5 =>
    rp_X2_readDigits_L91 x5 v0)
    else
    rc_bind (rc_geti 1 1 v0) fun x6 =>
    rc_bind (rc_geti 1 2 v0) fun x7 =>
    (if (3 : Int32) ≤ (x6 - x7) then
    rp_X2_readDigits_L55 (rp_X2_readDigits_L5  n) v0
    else
    rc_bind (rc_geti 1 5 v0) fun x8 =>
    rc_bind (rc_getq 1 0 v0) fun x9 =>
    rc_bind (rc_geti 1 1 v0) fun x10 =>
    rc_bind (rc_is 11 x9) fun _ =>
    rc_bind (rp_J4_charAt x9 x10) fun x11 =>
    rc_bind (rc_put 1 5 .int v0 (rc_i ((((10 : Int32) * x8) + x11) - (48 : Int32)))) fun _ =>
    rp_X2_readDigits_L55 (rp_X2_readDigits_L5  n) v0))
def rp_X2_readDigits (v0 : Option Nat) : rc_M Unit :=
rc_bind (rc_put 1 5 .int v0 (rc_i (0 : Int32))) fun _ =>
rc_bind rc_fuel fun x1 =>
rp_X2_readDigits_L5 x1 v0
def rp_X2_sign (v0 : Int32) : rc_M (Option Nat) :=
(if v0 = (40 : Int32) then
rc_bind (rc_stat 3) fun x2 =>
rc_pure x2
else
(if v0 = (41 : Int32) then
rc_bind (rc_stat 4) fun x3 =>
rc_pure x3
else
(if v0 = (59 : Int32) then
rc_bind (rc_stat 2) fun x4 =>
rc_pure x4
else
rc_bind (rc_stat 5) fun x1 =>
rc_pure x1)))
def rp_X2_advance_L22 (k0 : Option Nat → rc_M Unit) (v0 : Option Nat) : rc_M Unit :=
rc_bind (rc_geti 1 1 v0) fun x1 =>
rc_bind (rc_put 1 1 .int v0 (rc_i (x1 + (1 : Int32)))) fun _ =>
k0 v0
def rp_X2_advance_L78 : Nat → Option Nat → rc_M Unit
  | 0, _ => rc_fail
  | n + 1, v0 =>
    rc_bind (rc_is 1 v0) fun _ =>
    rc_bind (rp_X2_isAt v0 (97 : Int32) (122 : Int32)) fun x1 =>
    (if x1 = 0 then
    rc_bind (rc_getq 1 0 v0) fun x2 =>
    rc_bind (rc_geti 1 2 v0) fun x3 =>
    rc_bind (rc_geti 1 1 v0) fun x4 =>
    rc_bind (rc_is 11 x2) fun _ =>
    rc_bind (rp_J4_substring x2 x3 x4) fun x5 =>
    rc_bind (rc_put 1 4 (.object "java/lang/String") v0 (rc_q x5)) fun _ =>
    rc_bind (rc_stat 0) fun x6 =>
    rc_bind (rc_put 1 3 (.object "RooftopCats$Token") v0 (rc_q x6)) fun _ =>
    rc_pure ()
    else
    rc_bind (rc_geti 1 1 v0) fun x7 =>
    rc_bind (rc_put 1 1 .int v0 (rc_i (x7 + (1 : Int32)))) fun _ =>
    rp_X2_advance_L78 n v0)
def rp_X2_advance_L0 : Nat → Option Nat → rc_M Unit
  | 0, _ => rc_fail
  | n + 1, v0 =>
    rc_bind (rc_is 1 v0) fun _ =>
    rc_bind (rp_X2_isAt v0 (32 : Int32) (32 : Int32)) fun x1 =>
    (if x1 = 0 then
    rc_bind (rc_is 1 v0) fun _ =>
    rc_bind (rp_X2_isAt v0 (10 : Int32) (10 : Int32)) fun x2 =>
    (if x2 = 0 then
    rc_bind (rc_geti 1 1 v0) fun x3 =>
    rc_bind (rc_put 1 2 .int v0 (rc_i x3)) fun _ =>
    rc_bind (rc_geti 1 1 v0) fun x4 =>
    rc_bind (rc_getq 1 0 v0) fun x5 =>
    rc_bind (rc_is 11 x5) fun _ =>
    rc_bind (rp_J4_length x5) fun x6 =>
    (if x4 = x6 then
    rc_bind (rc_stat 6) fun x15 =>
    rc_bind (rc_put 1 3 (.object "RooftopCats$Token") v0 (rc_q x15)) fun _ =>
    rc_pure ()
    else
    rc_bind (rc_is 1 v0) fun _ =>
    rc_bind (rp_X2_isAt v0 (97 : Int32) (122 : Int32)) fun x7 =>
    (if x7 = 0 then
    rc_bind (rc_is 1 v0) fun _ =>
    rc_bind (rp_X2_isAt v0 (48 : Int32) (57 : Int32)) fun x8 =>
    (if x8 = 0 then
    rc_bind (rc_getq 1 0 v0) fun x9 =>
    rc_bind (rc_geti 1 1 v0) fun x10 =>
    rc_bind (rc_is 11 x9) fun _ =>
    rc_bind (rp_J4_charAt x9 x10) fun x11 =>
    rc_bind (rp_X2_sign x11) fun x12 =>
    rc_bind (rc_put 1 3 (.object "RooftopCats$Token") v0 (rc_q x12)) fun _ =>
    rc_bind (rc_geti 1 1 v0) fun x13 =>
    rc_bind (rc_put 1 1 .int v0 (rc_i (x13 + (1 : Int32)))) fun _ =>
    rc_pure ()
    else
    rc_bind (rc_is 1 v0) fun _ =>
    rc_bind (rp_X2_readDigits v0) fun _ =>
    rc_pure ())
    else
    rc_bind rc_fuel fun x14 =>
    rp_X2_advance_L78 x14 v0))
    else
    rp_X2_advance_L22 (rp_X2_advance_L0  n) v0)
    else
    rp_X2_advance_L22 (rp_X2_advance_L0  n) v0)
def rp_X2_advance (v0 : Option Nat) : rc_M Unit :=
rc_bind rc_fuel fun x1 =>
rp_X2_advance_L0 x1 v0
def rp_X2_init (v0 : Option Nat) (v1 : Option Nat) : rc_M Unit :=
rc_bind (rc_nn v0) fun _ =>
rc_bind (rc_stat 6) fun x1 =>
rc_bind (rc_put 1 3 (.object "RooftopCats$Token") v0 (rc_q x1)) fun _ =>
rc_bind (rc_text 2) fun x2 =>
rc_bind (rc_put 1 4 (.object "java/lang/String") v0 (rc_q x2)) fun _ =>
rc_bind (rc_new 2 8 [rc_q none, rc_q none, rc_q none, rc_q none, rc_q none, rc_i 0, rc_i 0, rc_i 0]) fun x3 =>
rc_bind (rc_nn x3) fun _ =>
rc_bind (rp_X3_init x3) fun _ =>
rc_bind (rc_put 1 8 (.object "RooftopCats$Roof") v0 (rc_q x3)) fun _ =>
rc_bind (rc_put 1 0 (.object "java/lang/String") v0 (rc_q v1)) fun _ =>
rc_bind (rc_is 1 v0) fun _ =>
rc_bind (rp_X2_advance v0) fun _ =>
rc_pure ()
def rp_X4_init (v0 : Option Nat) (v1 : Int32) (v2 : Int32) : rc_M Unit :=
rc_bind (rc_sxi v0) fun _ =>
rc_bind (rc_put 3 6 .int v0 (rc_i v1)) fun _ =>
rc_bind (rc_put 3 7 .int v0 (rc_i v2)) fun _ =>
rc_pure ()
def rp_X2_check (v0 : Option Nat) (v1 : Int32) (v2 : Int32) : rc_M Unit :=
(if v1 = 0 then
rc_bind (rc_new 3 8 [rc_q none, rc_q none, rc_q none, rc_q none, rc_q none, rc_i 0, rc_i 0, rc_i 0]) fun x1 =>
rc_bind (rc_geti 1 2 v0) fun x2 =>
rc_bind (rc_nn x1) fun _ =>
rc_bind (rp_X4_init x1 v2 x2) fun _ =>
rc_bind (rc_isX x1) fun _ =>
rc_raise 100 x1
else
rc_pure ())
def rp_X2_end_L16 (v0 : Option Nat) (v1 : Int32) (s0 : Int32) (s1 : Option Nat) : rc_M Unit :=
rc_bind (rc_is 1 s1) fun _ =>
rc_bind (rp_X2_check s1 s0 (1 : Int32)) fun _ =>
rc_bind (rc_is 1 v0) fun _ =>
rc_bind (rp_X2_check v0 v1 (3 : Int32)) fun _ =>
rc_pure ()
def rp_X2_end (v0 : Option Nat) (v1 : Int32) : rc_M Unit :=
rc_bind (rc_getq 1 3 v0) fun x1 =>
rc_bind (rc_stat 2) fun x2 =>
(if x1 = x2 then
rp_X2_end_L16 v0 v1 (1 : Int32) v0
else
rp_X2_end_L16 v0 v1 (0 : Int32) v0)
def rp_X2_number_L42 (v0 : Option Nat) (s0 : Int32) (s1 : Option Nat) : rc_M Int32 :=
rc_bind (rc_is 1 s1) fun _ =>
rc_bind (rp_X2_check s1 s0 (2 : Int32)) fun _ =>
rc_bind (rc_geti 1 5 v0) fun x1 =>
rc_bind (rc_is 1 v0) fun _ =>
rc_bind (rp_X2_advance v0) fun _ =>
rc_pure x1
def rp_X2_number_L41 (v0 : Option Nat) (s0 : Option Nat) : rc_M Int32 :=
rp_X2_number_L42 v0 (0 : Int32) s0
def rp_X2_number_L16 (v0 : Option Nat) (v1 : Int32) (v2 : Int32) (s0 : Int32) (s1 : Option Nat) : rc_M Int32 :=
rc_bind (rc_is 1 s1) fun _ =>
rc_bind (rp_X2_check s1 s0 (1 : Int32)) fun _ =>
rc_bind (rc_geti 1 5 v0) fun x1 =>
(if x1 < v1 then
rp_X2_number_L41 v0 v0
else
rc_bind (rc_geti 1 5 v0) fun x2 =>
(if v2 < x2 then
rp_X2_number_L41 v0 v0
else
rp_X2_number_L42 v0 (1 : Int32) v0))
def rp_X2_number (v0 : Option Nat) (v1 : Int32) (v2 : Int32) : rc_M Int32 :=
rc_bind (rc_getq 1 3 v0) fun x1 =>
rc_bind (rc_stat 1) fun x2 =>
(if x1 = x2 then
rp_X2_number_L16 v0 v1 v2 (1 : Int32) v0
else
rp_X2_number_L16 v0 v1 v2 (0 : Int32) v0)
def rp_X2_isCommand_L352 : rc_M Int32 :=
rc_pure (1 : Int32)
def rp_X2_isCommand_L287 (v2 : Int32) : rc_M Int32 :=
(if v2 = (0 : Int32) then
rp_X2_isCommand_L352
else
(if v2 = (1 : Int32) then
rp_X2_isCommand_L352
else
(if v2 = (2 : Int32) then
rp_X2_isCommand_L352
else
(if v2 = (3 : Int32) then
rp_X2_isCommand_L352
else
(if v2 = (4 : Int32) then
rp_X2_isCommand_L352
else
(if v2 = (5 : Int32) then
rp_X2_isCommand_L352
else
(if v2 = (6 : Int32) then
rp_X2_isCommand_L352
else
(if v2 = (7 : Int32) then
rp_X2_isCommand_L352
else
(if v2 = (8 : Int32) then
rp_X2_isCommand_L352
else
(if v2 = (9 : Int32) then
rp_X2_isCommand_L352
else
(if v2 = (10 : Int32) then
rp_X2_isCommand_L352
else
(if v2 = (11 : Int32) then
rp_X2_isCommand_L352
else
rc_pure (0 : Int32)))))))))))))
def rp_X2_isCommand (v0 : Option Nat) : rc_M Int32 :=
rc_bind (rc_is 11 v0) fun _ =>
rc_bind (rp_J4_hashCode v0) fun x1 =>
(if x1 = (-1234542309 : Int32) then
rc_bind (rc_text 10) fun x2 =>
rc_bind (rc_is 11 v0) fun _ =>
rc_bind (rp_J4_equals v0 x2) fun x3 =>
(if x3 = 0 then
rp_X2_isCommand_L287 (-1 : Int32)
else
rp_X2_isCommand_L287 (1 : Int32))
else
(if x1 = (-1207841163 : Int32) then
rc_bind (rc_text 14) fun x4 =>
rc_bind (rc_is 11 v0) fun _ =>
rc_bind (rp_J4_equals v0 x4) fun x5 =>
(if x5 = 0 then
rp_X2_isCommand_L287 (-1 : Int32)
else
rp_X2_isCommand_L287 (5 : Int32))
else
(if x1 = (-1131107961 : Int32) then
rc_bind (rc_text 17) fun x6 =>
rc_bind (rc_is 11 v0) fun _ =>
rc_bind (rp_J4_equals v0 x6) fun x7 =>
(if x7 = 0 then
rp_X2_isCommand_L287 (-1 : Int32)
else
rp_X2_isCommand_L287 (8 : Int32))
else
(if x1 = (-1045618853 : Int32) then
rc_bind (rc_text 20) fun x8 =>
rc_bind (rc_is 11 v0) fun _ =>
rc_bind (rp_J4_equals v0 x8) fun x9 =>
(if x9 = 0 then
rp_X2_isCommand_L287 (-1 : Int32)
else
rp_X2_isCommand_L287 (11 : Int32))
else
(if x1 = (3521 : Int32) then
rc_bind (rc_text 19) fun x10 =>
rc_bind (rc_is 11 v0) fun _ =>
rc_bind (rp_J4_equals v0 x10) fun x11 =>
(if x11 = 0 then
rp_X2_isCommand_L287 (-1 : Int32)
else
rp_X2_isCommand_L287 (10 : Int32))
else
(if x1 = (98262 : Int32) then
rc_bind (rc_text 11) fun x12 =>
rc_bind (rc_is 11 v0) fun _ =>
rc_bind (rp_J4_equals v0 x12) fun x13 =>
(if x13 = 0 then
rp_X2_isCommand_L287 (-1 : Int32)
else
rp_X2_isCommand_L287 (2 : Int32))
else
(if x1 = (119527 : Int32) then
rc_bind (rc_text 18) fun x14 =>
rc_bind (rc_is 11 v0) fun _ =>
rc_bind (rp_J4_equals v0 x14) fun x15 =>
(if x15 = 0 then
rp_X2_isCommand_L287 (-1 : Int32)
else
rp_X2_isCommand_L287 (9 : Int32))
else
(if x1 = (3540684 : Int32) then
rc_bind (rc_text 12) fun x16 =>
rc_bind (rc_is 11 v0) fun _ =>
rc_bind (rp_J4_equals v0 x16) fun x17 =>
(if x17 = 0 then
rp_X2_isCommand_L287 (-1 : Int32)
else
rp_X2_isCommand_L287 (3 : Int32))
else
(if x1 = (94623726 : Int32) then
rc_bind (rc_text 15) fun x18 =>
rc_bind (rc_is 11 v0) fun _ =>
rc_bind (rp_J4_equals v0 x18) fun x19 =>
(if x19 = 0 then
rp_X2_isCommand_L287 (-1 : Int32)
else
rp_X2_isCommand_L287 (6 : Int32))
else
(if x1 = (94742588 : Int32) then
rc_bind (rc_text 13) fun x20 =>
rc_bind (rc_is 11 v0) fun _ =>
rc_bind (rp_J4_equals v0 x20) fun x21 =>
(if x21 = 0 then
rp_X2_isCommand_L287 (-1 : Int32)
else
rp_X2_isCommand_L287 (4 : Int32))
else
(if x1 = (110640217 : Int32) then
rc_bind (rc_text 16) fun x22 =>
rc_bind (rc_is 11 v0) fun _ =>
rc_bind (rp_J4_equals v0 x22) fun x23 =>
(if x23 = 0 then
rp_X2_isCommand_L287 (-1 : Int32)
else
rp_X2_isCommand_L287 (7 : Int32))
else
(if x1 = (746308793 : Int32) then
rc_bind (rc_text 9) fun x24 =>
rc_bind (rc_is 11 v0) fun _ =>
rc_bind (rp_J4_equals v0 x24) fun x25 =>
(if x25 = 0 then
rp_X2_isCommand_L287 (-1 : Int32)
else
rp_X2_isCommand_L287 (0 : Int32))
else
rp_X2_isCommand_L287 (-1 : Int32)))))))))))))
def rp_X2_chimney (v0 : Option Nat) : rc_M Int32 :=
rc_bind (rc_getq 1 8 v0) fun x1 =>
rc_bind (rc_getq 2 0 x1) fun x2 =>
rc_bind (rc_is 12 x2) fun _ =>
rc_bind (rp_J7_size x2) fun x3 =>
rc_bind (rc_is 1 v0) fun _ =>
rc_bind (rp_X2_number v0 (0 : Int32) (x3 - (1 : Int32))) fun x4 =>
rc_pure x4
def rp_X2_numberBut_L34 (v0 : Option Nat) (v2 : Int32) (s0 : Int32) (s1 : Option Nat) : rc_M Int32 :=
rc_bind (rc_is 1 s1) fun _ =>
rc_bind (rp_X2_check s1 s0 (2 : Int32)) fun _ =>
rc_bind (rc_is 1 v0) fun _ =>
rc_bind (rp_X2_number v0 (0 : Int32) (v2 - (1 : Int32))) fun x1 =>
rc_pure x1
def rp_X2_numberBut_L16 (v0 : Option Nat) (v1 : Int32) (v2 : Int32) (s0 : Int32) (s1 : Option Nat) : rc_M Int32 :=
rc_bind (rc_is 1 s1) fun _ =>
rc_bind (rp_X2_check s1 s0 (1 : Int32)) fun _ =>
rc_bind (rc_geti 1 5 v0) fun x1 =>
(if x1 = v1 then
rp_X2_numberBut_L34 v0 v2 (0 : Int32) v0
else
rp_X2_numberBut_L34 v0 v2 (1 : Int32) v0)
def rp_X2_numberBut (v0 : Option Nat) (v1 : Int32) (v2 : Int32) : rc_M Int32 :=
rc_bind (rc_getq 1 3 v0) fun x1 =>
rc_bind (rc_stat 1) fun x2 =>
(if x1 = x2 then
rp_X2_numberBut_L16 v0 v1 v2 (1 : Int32) v0
else
rp_X2_numberBut_L16 v0 v1 v2 (0 : Int32) v0)
def rp_X2_build_L40 (v0 : Option Nat) (v2 : Int32) (s0 : Int32) (s1 : Option Nat) : rc_M Unit :=
rc_bind (rc_is 1 s1) fun _ =>
rc_bind (rp_X2_end s1 s0) fun _ =>
rc_bind (rc_getq 1 8 v0) fun x1 =>
rc_bind (rc_getq 2 0 x1) fun x2 =>
rc_bind (rc_new 4 2 [rc_i 0, rc_i 0]) fun x3 =>
rc_bind (rc_nn x3) fun _ =>
rc_bind (rp_X5_init x3 v2) fun _ =>
rc_bind (rc_is 12 x2) fun _ =>
rc_bind (rp_J7_add x2 x3) fun x4 =>
rc_pure ()
def rp_X2_build_L131 (v0 : Option Nat) (v2 : Int32) (v3 : Int32) (v4 : Int32) (s0 : Int32) (s1 : Option Nat) : rc_M Unit :=
rc_bind (rc_is 1 s1) fun _ =>
rc_bind (rp_X2_end s1 s0) fun _ =>
rc_bind (rc_getq 1 8 v0) fun x1 =>
rc_bind (rc_getq 2 1 x1) fun x2 =>
rc_bind (rc_new 5 3 [rc_i 0, rc_i 0, rc_i 0]) fun x3 =>
rc_bind (rc_nn x3) fun _ =>
rc_bind (rp_X6_init x3 v2 v3 v4) fun _ =>
rc_bind (rc_is 12 x2) fun _ =>
rc_bind (rp_J7_add x2 x3) fun x4 =>
rc_pure ()
def rp_X2_build_L218 (v0 : Option Nat) (v2 : Int32) (v3 : Int32) (v4 : Int32) (s0 : Int32) (s1 : Option Nat) : rc_M Unit :=
rc_bind (rc_is 1 s1) fun _ =>
rc_bind (rp_X2_end s1 s0) fun _ =>
rc_bind (rc_getq 1 8 v0) fun x1 =>
rc_bind (rc_getq 2 2 x1) fun x2 =>
rc_bind (rc_new 6 4 [rc_i 0, rc_i 0, rc_i 0, rc_i 0]) fun x3 =>
rc_bind (rc_nn x3) fun _ =>
rc_bind (rp_X7_init x3 v2 v3 v4) fun _ =>
rc_bind (rc_is 12 x2) fun _ =>
rc_bind (rp_J7_add x2 x3) fun x4 =>
rc_pure ()
def rp_X2_build_L217 (v0 : Option Nat) (v2 : Int32) (v3 : Int32) (v4 : Int32) (s0 : Option Nat) : rc_M Unit :=
rp_X2_build_L218 v0 v2 v3 v4 (0 : Int32) s0
def rp_X2_build (v0 : Option Nat) (v1 : Option Nat) : rc_M Unit :=
rc_bind (rc_text 9) fun x1 =>
rc_bind (rc_is 11 v1) fun _ =>
rc_bind (rp_J4_equals v1 x1) fun x2 =>
(if x2 = 0 then
rc_bind (rc_text 10) fun x3 =>
rc_bind (rc_is 11 v1) fun _ =>
rc_bind (rp_J4_equals v1 x3) fun x4 =>
(if x4 = 0 then
rc_bind (rc_is 1 v0) fun _ =>
rc_bind (rp_X2_chimney v0) fun x5 =>
rc_bind (rc_is 1 v0) fun _ =>
rc_bind (rp_X2_number v0 (1 : Int32) (9 : Int32)) fun x6 =>
rc_bind (rc_is 1 v0) fun _ =>
rc_bind (rp_X2_number v0 (1 : Int32) (9 : Int32)) fun x7 =>
rc_bind (rc_getq 1 8 v0) fun x8 =>
rc_bind (rc_getq 2 2 x8) fun x9 =>
rc_bind (rc_is 12 x9) fun _ =>
rc_bind (rp_J7_size x9) fun x10 =>
(if (8 : Int32) ≤ x10 then
rp_X2_build_L217 v0 x5 x6 x7 v0
else
rc_bind (rc_getq 1 8 v0) fun x11 =>
rc_bind (rc_is 2 x11) fun _ =>
rc_bind (rp_X3_catOn x11 x5) fun x12 =>
(if x12 = (-1 : Int32) then
rp_X2_build_L218 v0 x5 x6 x7 (1 : Int32) v0
else
rp_X2_build_L217 v0 x5 x6 x7 v0))
else
rc_bind (rc_is 1 v0) fun _ =>
rc_bind (rp_X2_chimney v0) fun x13 =>
rc_bind (rc_getq 1 8 v0) fun x14 =>
rc_bind (rc_getq 2 0 x14) fun x15 =>
rc_bind (rc_is 12 x15) fun _ =>
rc_bind (rp_J7_size x15) fun x16 =>
rc_bind (rc_is 1 v0) fun _ =>
rc_bind (rp_X2_numberBut v0 x13 x16) fun x17 =>
rc_bind (rc_is 1 v0) fun _ =>
rc_bind (rp_X2_number v0 (1 : Int32) (9 : Int32)) fun x18 =>
rc_bind (rc_getq 1 8 v0) fun x19 =>
rc_bind (rc_getq 2 1 x19) fun x20 =>
rc_bind (rc_is 12 x20) fun _ =>
rc_bind (rp_J7_size x20) fun x21 =>
(if (20 : Int32) ≤ x21 then
rp_X2_build_L131 v0 x13 x17 x18 (0 : Int32) v0
else
rp_X2_build_L131 v0 x13 x17 x18 (1 : Int32) v0))
else
rc_bind (rc_is 1 v0) fun _ =>
rc_bind (rp_X2_number v0 (0 : Int32) (9 : Int32)) fun x22 =>
rc_bind (rc_getq 1 8 v0) fun x23 =>
rc_bind (rc_getq 2 0 x23) fun x24 =>
rc_bind (rc_is 12 x24) fun _ =>
rc_bind (rp_J7_size x24) fun x25 =>
(if (10 : Int32) ≤ x25 then
rp_X2_build_L40 v0 x22 (0 : Int32) v0
else
rp_X2_build_L40 v0 x22 (1 : Int32) v0))
def rp_X2_cat (v0 : Option Nat) : rc_M Int32 :=
rc_bind (rc_getq 1 8 v0) fun x1 =>
rc_bind (rc_getq 2 2 x1) fun x2 =>
rc_bind (rc_is 12 x2) fun _ =>
rc_bind (rp_J7_size x2) fun x3 =>
rc_bind (rc_is 1 v0) fun _ =>
rc_bind (rp_X2_number v0 (0 : Int32) (x3 - (1 : Int32))) fun x4 =>
rc_pure x4
def rp_X2_walk_L32 (v0 : Option Nat) (v2 : Int32) (s0 : Int32) (s1 : Option Nat) : rc_M Unit :=
rc_bind (rc_is 1 s1) fun _ =>
rc_bind (rp_X2_end s1 s0) fun _ =>
rc_bind (rc_getq 1 8 v0) fun x1 =>
rc_bind (rc_getq 2 0 x1) fun x2 =>
rc_bind (rc_is 12 x2) fun _ =>
rc_bind (rp_J7_get x2 v2) fun x3 =>
rc_bind (rc_castM 4 x3) fun _ =>
rc_bind (rc_put 4 1 .int x3 (rc_i (-1 : Int32))) fun _ =>
rc_pure ()
def rp_X2_walk_L87 (v0 : Option Nat) (v2 : Int32) (s0 : Int32) (s1 : Option Nat) : rc_M Unit :=
rc_bind (rc_is 1 s1) fun _ =>
rc_bind (rp_X2_end s1 s0) fun _ =>
rc_bind (rc_getq 1 8 v0) fun x1 =>
rc_bind (rc_is 2 x1) fun _ =>
rc_bind (rp_X3_claim x1 v2) fun x2 =>
rc_pure ()
def rp_X2_walk_L140 (v0 : Option Nat) (v2 : Int32) (v3 : Int32) (s0 : Int32) (s1 : Option Nat) : rc_M Unit :=
rc_bind (rc_is 1 s1) fun _ =>
rc_bind (rp_X2_end s1 s0) fun _ =>
rc_bind (rc_getq 1 8 v0) fun x1 =>
rc_bind (rc_is 2 x1) fun _ =>
rc_bind (rp_X3_step x1 v2 v3) fun x2 =>
rc_pure ()
def rp_X2_walk (v0 : Option Nat) (v1 : Option Nat) : rc_M Unit :=
rc_bind (rc_text 14) fun x1 =>
rc_bind (rc_is 11 v1) fun _ =>
rc_bind (rp_J4_equals v1 x1) fun x2 =>
(if x2 = 0 then
rc_bind (rc_is 1 v0) fun _ =>
rc_bind (rp_X2_cat v0) fun x3 =>
rc_bind (rc_text 13) fun x4 =>
rc_bind (rc_is 11 v1) fun _ =>
rc_bind (rp_J4_equals v1 x4) fun x5 =>
(if x5 = 0 then
rc_bind (rc_getq 1 8 v0) fun x6 =>
rc_bind (rc_getq 2 1 x6) fun x7 =>
rc_bind (rc_is 12 x7) fun _ =>
rc_bind (rp_J7_size x7) fun x8 =>
rc_bind (rc_is 1 v0) fun _ =>
rc_bind (rp_X2_number v0 (0 : Int32) (x8 - (1 : Int32))) fun x9 =>
rc_bind (rc_getq 1 8 v0) fun x10 =>
rc_bind (rc_is 2 x10) fun _ =>
rc_bind (rp_X3_judgeStep x10 x3 x9) fun x11 =>
(if x11 = 0 then
rp_X2_walk_L140 v0 x3 x9 (1 : Int32) v0
else
rp_X2_walk_L140 v0 x3 x9 (0 : Int32) v0)
else
rc_bind (rc_getq 1 8 v0) fun x12 =>
rc_bind (rc_is 2 x12) fun _ =>
rc_bind (rp_X3_judgeClaim x12 x3) fun x13 =>
(if x13 = 0 then
rp_X2_walk_L87 v0 x3 (1 : Int32) v0
else
rp_X2_walk_L87 v0 x3 (0 : Int32) v0))
else
rc_bind (rc_is 1 v0) fun _ =>
rc_bind (rp_X2_chimney v0) fun x14 =>
rc_bind (rc_getq 1 8 v0) fun x15 =>
rc_bind (rc_is 2 x15) fun _ =>
rc_bind (rp_X3_owner x15 x14) fun x16 =>
(if x16 = (-1 : Int32) then
rp_X2_walk_L32 v0 x14 (0 : Int32) v0
else
rp_X2_walk_L32 v0 x14 (1 : Int32) v0))
def rp_X2_meet_L50 (v0 : Option Nat) (v2 : Int32) (v3 : Int32) (s0 : Int32) (s1 : Option Nat) : rc_M Unit :=
rc_bind (rc_is 1 s1) fun _ =>
rc_bind (rp_X2_end s1 s0) fun _ =>
rc_bind (rc_getq 1 8 v0) fun x1 =>
rc_bind (rc_is 2 x1) fun _ =>
rc_bind (rp_X3_chase x1 v2 v3) fun x2 =>
rc_pure ()
def rp_X2_meet (v0 : Option Nat) (v1 : Option Nat) : rc_M Unit :=
rc_bind (rc_is 1 v0) fun _ =>
rc_bind (rp_X2_cat v0) fun x1 =>
rc_bind (rc_getq 1 8 v0) fun x2 =>
rc_bind (rc_getq 2 2 x2) fun x3 =>
rc_bind (rc_is 12 x3) fun _ =>
rc_bind (rp_J7_size x3) fun x4 =>
rc_bind (rc_is 1 v0) fun _ =>
rc_bind (rp_X2_numberBut v0 x1 x4) fun x5 =>
rc_bind (rc_text 15) fun x6 =>
rc_bind (rc_is 11 v1) fun _ =>
rc_bind (rp_J4_equals v1 x6) fun x7 =>
(if x7 = 0 then
rc_bind (rc_is 1 v0) fun _ =>
rc_bind (rp_X2_number v0 (1 : Int32) (9 : Int32)) fun x8 =>
rc_bind (rc_is 1 v0) fun _ =>
rc_bind (rp_X2_number v0 (1 : Int32) (20 : Int32)) fun x9 =>
rc_bind (rc_getq 1 8 v0) fun x10 =>
rc_bind (rc_is 2 x10) fun _ =>
rc_bind (rp_X3_canBuy x10 x1 x5 x8) fun x11 =>
rc_bind (rc_is 1 v0) fun _ =>
rc_bind (rp_X2_end v0 x11) fun _ =>
rc_bind (rc_getq 1 8 v0) fun x12 =>
rc_bind (rc_is 2 x12) fun _ =>
rc_bind (rp_X3_buyTruce x12 x1 x5 x8 x9) fun x13 =>
rc_pure ()
else
rc_bind (rc_getq 1 8 v0) fun x14 =>
rc_bind (rc_is 2 x14) fun _ =>
rc_bind (rp_X3_judgeChase x14 x1 x5) fun x15 =>
(if x15 = 0 then
rp_X2_meet_L50 v0 x1 x5 (1 : Int32) v0
else
rp_X2_meet_L50 v0 x1 x5 (0 : Int32) v0))
def rp_X2_repeat_L81 (R : Option Nat → rc_M Unit) (k67 : Option Nat → Int32 → Int32 → Int32 → rc_M Unit) : Nat → Option Nat → Int32 → Int32 → Int32 → rc_M Unit
  | 0, _, _, _, _ => rc_fail
  | n + 1, v0, v1, v2, v3 =>
    rc_bind (rc_getq 1 3 v0) fun x1 =>
    rc_bind (rc_stat 4) fun x2 =>
    (if x1 = x2 then
    k67 v0 v1 v2 (v3 + (1 : Int32))
    else
    rc_bind (rc_is 1 v0) fun _ =>
    rc_bind (R v0) fun _ =>
    rp_X2_repeat_L81 R k67 n v0 v1 v2 v3)
def rp_X2_repeat_L67 (R : Option Nat → rc_M Unit) : Nat → Option Nat → Int32 → Int32 → Int32 → rc_M Unit
  | 0, _, _, _, _ => rc_fail
  | n + 1, v0, v1, v2, v3 =>
    (if v1 ≤ v3 then
    rc_bind (rc_geti 1 6 v0) fun x1 =>
    rc_bind (rc_put 1 6 .int v0 (rc_i (x1 - (1 : Int32)))) fun _ =>
    rc_bind (rc_is 1 v0) fun _ =>
    rc_bind (rp_X2_advance v0) fun _ =>
    rc_bind (rc_is 1 v0) fun _ =>
    rc_bind (rp_X2_end v0 (1 : Int32)) fun _ =>
    rc_bind (rc_is 1 v0) fun _ =>
    rc_bind (rp_X2_advance v0) fun _ =>
    rc_pure ()
    else
    rc_bind (rc_put 1 1 .int v0 (rc_i v2)) fun _ =>
    rc_bind (rc_is 1 v0) fun _ =>
    rc_bind (rp_X2_advance v0) fun _ =>
    rc_bind rc_fuel fun x2 =>
    rp_X2_repeat_L81 R (rp_X2_repeat_L67 R n) x2 v0 v1 v2 v3)
def rp_X2_repeat_L46 (R : Option Nat → rc_M Unit) (v0 : Option Nat) (v1 : Int32) (s0 : Int32) (s1 : Option Nat) : rc_M Unit :=
rc_bind (rc_is 1 s1) fun _ =>
rc_bind (rp_X2_check s1 s0 (1 : Int32)) fun _ =>
rc_bind (rc_geti 1 1 v0) fun x1 =>
rc_bind (rc_geti 1 6 v0) fun x2 =>
rc_bind (rc_put 1 6 .int v0 (rc_i (x2 + (1 : Int32)))) fun _ =>
rc_bind rc_fuel fun x3 =>
rp_X2_repeat_L67 R x3 v0 v1 x1 (0 : Int32)
def rp_X2_repeat_L14 (R : Option Nat → rc_M Unit) (v0 : Option Nat) (s0 : Int32) (s1 : Option Nat) : rc_M Unit :=
rc_bind (rc_is 1 s1) fun _ =>
rc_bind (rp_X2_check s1 s0 (4 : Int32)) fun _ =>
rc_bind (rc_is 1 v0) fun _ =>
rc_bind (rp_X2_advance v0) fun _ =>
rc_bind (rc_is 1 v0) fun _ =>
rc_bind (rp_X2_number v0 (1 : Int32) (20 : Int32)) fun x1 =>
rc_bind (rc_getq 1 3 v0) fun x2 =>
rc_bind (rc_stat 3) fun x3 =>
(if x2 = x3 then
rp_X2_repeat_L46 R v0 x1 (1 : Int32) v0
else
rp_X2_repeat_L46 R v0 x1 (0 : Int32) v0)
def rp_X2_repeat (R : Option Nat → rc_M Unit) (v0 : Option Nat) : rc_M Unit :=
rc_bind (rc_geti 1 6 v0) fun x1 =>
(if (2 : Int32) ≤ x1 then
rp_X2_repeat_L14 R v0 (0 : Int32) v0
else
rp_X2_repeat_L14 R v0 (1 : Int32) v0)
abbrev rp_X2_repeat_q0 : Option Nat → rc_M Unit := rp_X2_repeat (fun _ => rc_fail)
def rp_X2_command_L534 (R : Option Nat → rc_M Unit) (v0 : Option Nat) : rc_M Unit :=
rc_bind (rc_is 1 v0) fun _ =>
rc_bind (rp_X2_advance v0) fun _ =>
rc_pure ()
def rp_X2_command_L384 (R : Option Nat → rc_M Unit) (v0 : Option Nat) (v1 : Option Nat) : rc_M Unit :=
rc_bind (rc_is 1 v0) fun _ =>
rc_bind (rp_X2_build v0 v1) fun _ =>
rp_X2_command_L534 R v0
def rp_X2_command_L392 (R : Option Nat → rc_M Unit) (v0 : Option Nat) (v1 : Option Nat) : rc_M Unit :=
rc_bind (rc_is 1 v0) fun _ =>
rc_bind (rp_X2_walk v0 v1) fun _ =>
rp_X2_command_L534 R v0
def rp_X2_command_L400 (R : Option Nat → rc_M Unit) (v0 : Option Nat) (v1 : Option Nat) : rc_M Unit :=
rc_bind (rc_is 1 v0) fun _ =>
rc_bind (rp_X2_meet v0 v1) fun _ =>
rp_X2_command_L534 R v0
def rp_X2_command_L483 (R : Option Nat → rc_M Unit) (v0 : Option Nat) (v4 : Int32) (s0 : Int32) (s1 : Option Nat) : rc_M Unit :=
rc_bind (rc_is 1 s1) fun _ =>
rc_bind (rp_X2_end s1 s0) fun _ =>
rc_bind (rc_getq 1 8 v0) fun x1 =>
rc_bind (rc_is 2 x1) fun _ =>
rc_bind (rp_X3_passNights x1 v4) fun x2 =>
rp_X2_command_L534 R v0
def rp_X2_command_L329 (R : Option Nat → rc_M Unit) (v0 : Option Nat) (v1 : Option Nat) (v3 : Int32) : rc_M Unit :=
(if v3 = (0 : Int32) then
rp_X2_command_L384 R v0 v1
else
(if v3 = (1 : Int32) then
rp_X2_command_L384 R v0 v1
else
(if v3 = (2 : Int32) then
rp_X2_command_L384 R v0 v1
else
(if v3 = (3 : Int32) then
rp_X2_command_L392 R v0 v1
else
(if v3 = (4 : Int32) then
rp_X2_command_L392 R v0 v1
else
(if v3 = (5 : Int32) then
rp_X2_command_L392 R v0 v1
else
(if v3 = (6 : Int32) then
rp_X2_command_L400 R v0 v1
else
(if v3 = (7 : Int32) then
rp_X2_command_L400 R v0 v1
else
(if v3 = (8 : Int32) then
rc_bind (rc_is 1 v0) fun _ =>
rc_bind (rp_X2_number v0 (1 : Int32) (9 : Int32)) fun x8 =>
rc_bind (rc_is 1 v0) fun _ =>
rc_bind (rp_X2_number v0 (1 : Int32) (9 : Int32)) fun x9 =>
rc_bind (rc_getq 1 8 v0) fun x10 =>
rc_bind (rc_is 2 x10) fun _ =>
rc_bind (rp_X3_canNominate x10) fun x11 =>
rc_bind (rc_is 1 v0) fun _ =>
rc_bind (rp_X2_end v0 x11) fun _ =>
rc_bind (rc_getq 1 8 v0) fun x12 =>
rc_bind (rc_is 2 x12) fun _ =>
rc_bind (rp_X3_nominate x12 x8 x9) fun x13 =>
rp_X2_command_L534 R v0
else
(if v3 = (9 : Int32) then
rc_bind (rc_is 1 v0) fun _ =>
rc_bind (rp_X2_number v0 (1 : Int32) (30 : Int32)) fun x14 =>
rc_bind (rc_getq 1 8 v0) fun x15 =>
rc_bind (rc_geti 2 5 x15) fun x16 =>
(if (999 : Int32) < (x16 + x14) then
rp_X2_command_L483 R v0 x14 (0 : Int32) v0
else
rp_X2_command_L483 R v0 x14 (1 : Int32) v0)
else
rc_bind (rc_is 1 v0) fun _ =>
rc_bind (rp_X2_cat v0) fun x1 =>
rc_bind (rc_getq 1 8 v0) fun x2 =>
rc_bind (rc_is 2 x2) fun _ =>
rc_bind (rp_X3_canVote x2 x1) fun x3 =>
rc_bind (rc_is 1 v0) fun _ =>
rc_bind (rp_X2_end v0 x3) fun _ =>
rc_bind (rc_getq 1 8 v0) fun x4 =>
rc_bind (rc_text 18) fun x5 =>
rc_bind (rc_is 11 v1) fun _ =>
rc_bind (rp_J4_equals v1 x5) fun x6 =>
rc_bind (rc_is 2 x4) fun _ =>
rc_bind (rp_X3_vote x4 x1 x6) fun x7 =>
rp_X2_command_L534 R v0))))))))))
def rp_X2_command_L65 (R : Option Nat → rc_M Unit) (v0 : Option Nat) (s0 : Int32) (s1 : Option Nat) : rc_M Unit :=
rc_bind (rc_is 1 s1) fun _ =>
rc_bind (rp_X2_check s1 s0 (5 : Int32)) fun _ =>
rc_bind (rc_geti 1 7 v0) fun x1 =>
rc_bind (rc_put 1 7 .int v0 (rc_i (x1 + (1 : Int32)))) fun _ =>
rc_bind (rc_getq 1 4 v0) fun x2 =>
rc_bind (rc_is 1 v0) fun _ =>
rc_bind (rp_X2_advance v0) fun _ =>
rc_bind (rc_is 11 x2) fun _ =>
rc_bind (rp_J4_hashCode x2) fun x3 =>
(if x3 = (-1234542309 : Int32) then
rc_bind (rc_text 10) fun x4 =>
rc_bind (rc_is 11 x2) fun _ =>
rc_bind (rp_J4_equals x2 x4) fun x5 =>
(if x5 = 0 then
rp_X2_command_L329 R v0 x2 (-1 : Int32)
else
rp_X2_command_L329 R v0 x2 (1 : Int32))
else
(if x3 = (-1207841163 : Int32) then
rc_bind (rc_text 14) fun x6 =>
rc_bind (rc_is 11 x2) fun _ =>
rc_bind (rp_J4_equals x2 x6) fun x7 =>
(if x7 = 0 then
rp_X2_command_L329 R v0 x2 (-1 : Int32)
else
rp_X2_command_L329 R v0 x2 (5 : Int32))
else
(if x3 = (-1131107961 : Int32) then
rc_bind (rc_text 17) fun x8 =>
rc_bind (rc_is 11 x2) fun _ =>
rc_bind (rp_J4_equals x2 x8) fun x9 =>
(if x9 = 0 then
rp_X2_command_L329 R v0 x2 (-1 : Int32)
else
rp_X2_command_L329 R v0 x2 (8 : Int32))
else
(if x3 = (-1045618853 : Int32) then
rc_bind (rc_text 20) fun x10 =>
rc_bind (rc_is 11 x2) fun _ =>
rc_bind (rp_J4_equals x2 x10) fun x11 =>
(if x11 = 0 then
rp_X2_command_L329 R v0 x2 (-1 : Int32)
else
rp_X2_command_L329 R v0 x2 (9 : Int32))
else
(if x3 = (98262 : Int32) then
rc_bind (rc_text 11) fun x12 =>
rc_bind (rc_is 11 x2) fun _ =>
rc_bind (rp_J4_equals x2 x12) fun x13 =>
(if x13 = 0 then
rp_X2_command_L329 R v0 x2 (-1 : Int32)
else
rp_X2_command_L329 R v0 x2 (2 : Int32))
else
(if x3 = (3540684 : Int32) then
rc_bind (rc_text 12) fun x14 =>
rc_bind (rc_is 11 x2) fun _ =>
rc_bind (rp_J4_equals x2 x14) fun x15 =>
(if x15 = 0 then
rp_X2_command_L329 R v0 x2 (-1 : Int32)
else
rp_X2_command_L329 R v0 x2 (3 : Int32))
else
(if x3 = (94623726 : Int32) then
rc_bind (rc_text 15) fun x16 =>
rc_bind (rc_is 11 x2) fun _ =>
rc_bind (rp_J4_equals x2 x16) fun x17 =>
(if x17 = 0 then
rp_X2_command_L329 R v0 x2 (-1 : Int32)
else
rp_X2_command_L329 R v0 x2 (6 : Int32))
else
(if x3 = (94742588 : Int32) then
rc_bind (rc_text 13) fun x18 =>
rc_bind (rc_is 11 x2) fun _ =>
rc_bind (rp_J4_equals x2 x18) fun x19 =>
(if x19 = 0 then
rp_X2_command_L329 R v0 x2 (-1 : Int32)
else
rp_X2_command_L329 R v0 x2 (4 : Int32))
else
(if x3 = (110640217 : Int32) then
rc_bind (rc_text 16) fun x20 =>
rc_bind (rc_is 11 x2) fun _ =>
rc_bind (rp_J4_equals x2 x20) fun x21 =>
(if x21 = 0 then
rp_X2_command_L329 R v0 x2 (-1 : Int32)
else
rp_X2_command_L329 R v0 x2 (7 : Int32))
else
(if x3 = (746308793 : Int32) then
rc_bind (rc_text 9) fun x22 =>
rc_bind (rc_is 11 x2) fun _ =>
rc_bind (rp_J4_equals x2 x22) fun x23 =>
(if x23 = 0 then
rp_X2_command_L329 R v0 x2 (-1 : Int32)
else
rp_X2_command_L329 R v0 x2 (0 : Int32))
else
rp_X2_command_L329 R v0 x2 (-1 : Int32)))))))))))
def rp_X2_command_L16 (R : Option Nat → rc_M Unit) (v0 : Option Nat) (s0 : Int32) (s1 : Option Nat) : rc_M Unit :=
rc_bind (rc_is 1 s1) fun _ =>
rc_bind (rp_X2_check s1 s0 (1 : Int32)) fun _ =>
rc_bind (rc_getq 1 4 v0) fun x1 =>
rc_bind (rc_text 7) fun x2 =>
rc_bind (rc_is 11 x1) fun _ =>
rc_bind (rp_J4_equals x1 x2) fun x3 =>
(if x3 = 0 then
rc_bind (rc_getq 1 4 v0) fun x4 =>
rc_bind (rp_X2_isCommand x4) fun x5 =>
rc_bind (rc_is 1 v0) fun _ =>
rc_bind (rp_X2_check v0 x5 (1 : Int32)) fun _ =>
rc_bind (rc_geti 1 7 v0) fun x6 =>
(if (200 : Int32) ≤ x6 then
rp_X2_command_L65 R v0 (0 : Int32) v0
else
rp_X2_command_L65 R v0 (1 : Int32) v0)
else
rc_bind (rc_is 1 v0) fun _ =>
rc_bind (R v0) fun _ =>
rc_pure ())
def rp_X2_command (R : Option Nat → rc_M Unit) (v0 : Option Nat) : rc_M Unit :=
rc_bind (rc_getq 1 3 v0) fun x1 =>
rc_bind (rc_stat 0) fun x2 =>
(if x1 = x2 then
rp_X2_command_L16 R v0 (1 : Int32) v0
else
rp_X2_command_L16 R v0 (0 : Int32) v0)
abbrev rp_X2_command_q0 : Option Nat → rc_M Unit := rp_X2_command rp_X2_repeat_q0
abbrev rp_X2_repeat_q1 : Option Nat → rc_M Unit := rp_X2_repeat rp_X2_command_q0
abbrev rp_X2_command_q1 : Option Nat → rc_M Unit := rp_X2_command rp_X2_repeat_q1
abbrev rp_X2_repeat_q2 : Option Nat → rc_M Unit := rp_X2_repeat rp_X2_command_q1
abbrev rp_X2_command_q2 : Option Nat → rc_M Unit := rp_X2_command rp_X2_repeat_q2
def rp_X2_parse_L45 : Nat → Option Nat → rc_M (Option Nat)
  | 0, _ => rc_fail
  | n + 1, v0 =>
    rc_bind (rc_getq 1 3 v0) fun x1 =>
    rc_bind (rc_stat 6) fun x2 =>
    (if x1 = x2 then
    rc_bind (rc_getq 1 8 v0) fun x3 =>
    rc_pure x3
    else
    rc_bind (rc_is 1 v0) fun _ =>
    rc_bind (rp_X2_command_q2 v0) fun _ =>
    rp_X2_parse_L45 n v0)
def rp_X2_parse_L28 (v0 : Option Nat) (s0 : Int32) (s1 : Option Nat) : rc_M (Option Nat) :=
rc_bind (rc_is 1 s1) fun _ =>
rc_bind (rp_X2_check s1 s0 (1 : Int32)) fun _ =>
rc_bind (rc_is 1 v0) fun _ =>
rc_bind (rp_X2_advance v0) fun _ =>
rc_bind (rc_is 1 v0) fun _ =>
rc_bind (rp_X2_end v0 (1 : Int32)) fun _ =>
rc_bind (rc_is 1 v0) fun _ =>
rc_bind (rp_X2_advance v0) fun _ =>
rc_bind rc_fuel fun x1 =>
rp_X2_parse_L45 x1 v0
def rp_X2_parse_L27 (v0 : Option Nat) (s0 : Option Nat) : rc_M (Option Nat) :=
rp_X2_parse_L28 v0 (0 : Int32) s0
def rp_X2_parse (v0 : Option Nat) : rc_M (Option Nat) :=
rc_bind (rc_getq 1 3 v0) fun x1 =>
rc_bind (rc_stat 0) fun x2 =>
(if x1 = x2 then
rc_bind (rc_getq 1 4 v0) fun x3 =>
rc_bind (rc_text 6) fun x4 =>
rc_bind (rc_is 11 x3) fun _ =>
rc_bind (rp_J4_equals x3 x4) fun x5 =>
(if x5 = 0 then
rp_X2_parse_L27 v0 v0
else
rp_X2_parse_L28 v0 (1 : Int32) v0)
else
rp_X2_parse_L27 v0 v0)
def rp_X1_appendBytes_L24 (k8 : Option Nat → Option Nat → Int32 → Int32 → rc_M Unit) : Nat → Option Nat → Option Nat → Int32 → Int32 → Int32 → Int32 → rc_M Unit
  | 0, _, _, _, _, _, _ => rc_fail
  | n + 1, v0, v2, v3, v4, v5, v6 =>
    (if v6 < 0 then
    k8 v0 v2 v3 (v4 + (1 : Int32))
    else
    rc_bind (rc_getq 0 3 v0) fun x1 =>
    rc_bind (rc_is 10 x1) fun _ =>
    rc_bind (rp_J3_append_3 x1 (((((v5.toUInt32 >>> (v6.toUInt32 &&& Int32.toUInt32 31)).toInt32) &&& (255 : Int32)).toUInt32 % 65536).toInt32)) fun x2 =>
    rp_X1_appendBytes_L24 k8 n v0 v2 v3 v4 v5 (v6 + (-8 : Int32)))
def rp_X1_appendBytes_L8 : Nat → Option Nat → Option Nat → Int32 → Int32 → rc_M Unit
  | 0, _, _, _, _ => rc_fail
  | n + 1, v0, v2, v3, v4 =>
    (if v3 ≤ v4 then
    rc_pure ()
    else
    rc_bind (rc_ald 0 v2 v4) fun x1 =>
    rc_bind rc_fuel fun x2 =>
    rp_X1_appendBytes_L24 (rp_X1_appendBytes_L8  n) x2 v0 v2 v3 v4 x1 (24 : Int32))
def rp_X1_appendBytes (v0 : Option Nat) (v1 : Option Nat) : rc_M Unit :=
rc_bind (rc_alen 0 v1) fun x1 =>
rc_bind rc_fuel fun x2 =>
rp_X1_appendBytes_L8 x2 v0 v1 x1 (0 : Int32)
def rp_X1_append (v0 : Option Nat) (v1 : Int32) (v2 : Int32) (v3 : Int32) (v4 : Int32) (v5 : Int32) : rc_M Int32 :=
rc_bind (rc_getq 0 3 v0) fun x1 =>
rc_bind (rc_is 10 x1) fun _ =>
rc_bind (rp_J3_length x1) fun x2 =>
(if (x2 + (20 : Int32)) ≤ (600 : Int32) then
rc_bind (rc_newa 0 (5 : Int32)) fun x3 =>
rc_bind (rc_ast 0 x3 (0 : Int32) v1) fun _ =>
rc_bind (rc_ast 0 x3 (1 : Int32) v2) fun _ =>
rc_bind (rc_ast 0 x3 (2 : Int32) v3) fun _ =>
rc_bind (rc_ast 0 x3 (3 : Int32) v4) fun _ =>
rc_bind (rc_ast 0 x3 (4 : Int32) v5) fun _ =>
rc_bind (rc_is 0 v0) fun _ =>
rc_bind (rp_X1_appendBytes v0 x3) fun _ =>
rc_bind (rc_getq 0 3 v0) fun x4 =>
rc_bind (rc_is 10 x4) fun _ =>
rc_bind (rp_J3_length x4) fun x5 =>
rc_pure x5
else
rc_pure (-1 : Int32))
def rp_X1_remember_L31 (v0 : Option Nat) : rc_M Unit :=
rc_bind (rc_getq 0 0 v0) fun x1 =>
rc_bind (rc_is 2 x1) fun _ =>
rc_bind (rp_X3_copy x1) fun x2 =>
rc_bind (rc_put 0 0 (.object "RooftopCats$Roof") v0 (rc_q x2)) fun _ =>
rc_pure ()
def rp_X1_remember (v0 : Option Nat) : rc_M Unit :=
rc_bind (rc_getq 0 1 v0) fun x1 =>
rc_bind (rc_getq 0 0 v0) fun x2 =>
rc_bind (rc_is 9 x1) fun _ =>
rc_bind (rp_J1_addLast x1 x2) fun _ =>
rc_bind (rc_getq 0 1 v0) fun x3 =>
rc_bind (rc_is 9 x3) fun _ =>
rc_bind (rp_J1_size x3) fun x4 =>
(if x4 ≤ (8 : Int32) then
rp_X1_remember_L31 v0
else
rc_bind (rc_getq 0 1 v0) fun x5 =>
rc_bind (rc_is 9 x5) fun _ =>
rc_bind (rp_J1_removeFirst x5) fun x6 =>
rp_X1_remember_L31 v0)
def rp_X1_undo (v0 : Option Nat) : rc_M Int32 :=
rc_bind (rc_getq 0 1 v0) fun x1 =>
rc_bind (rc_is 9 x1) fun _ =>
rc_bind (rp_J1_isEmpty x1) fun x2 =>
(if x2 = 0 then
rc_bind (rc_getq 0 1 v0) fun x3 =>
rc_bind (rc_is 9 x3) fun _ =>
rc_bind (rp_J1_removeLast x3) fun x4 =>
rc_bind (rc_castM 2 x4) fun _ =>
rc_bind (rc_put 0 0 (.object "RooftopCats$Roof") v0 (rc_q x4)) fun _ =>
rc_bind (rc_getq 0 1 v0) fun x5 =>
rc_bind (rc_is 9 x5) fun _ =>
rc_bind (rp_J1_size x5) fun x6 =>
rc_pure x6
else
rc_pure (-1 : Int32))
def rp_X1_undoCount (v0 : Option Nat) : rc_M Int32 :=
rc_bind (rc_getq 0 1 v0) fun x1 =>
rc_bind (rc_is 9 x1) fun _ =>
rc_bind (rp_J1_size x1) fun x2 =>
rc_pure x2
def rp_X1_saveSnapshot (v0 : Option Nat) : rc_M Int32 :=
rc_bind (rc_getq 0 0 v0) fun x1 =>
rc_bind (rc_is 2 x1) fun _ =>
rc_bind (rp_X3_copy x1) fun x2 =>
rc_bind (rc_put 0 2 (.object "RooftopCats$Roof") v0 (rc_q x2)) fun _ =>
rc_bind (rc_getq 0 0 v0) fun x3 =>
rc_bind (rc_geti 2 5 x3) fun x4 =>
rc_pure x4
def rp_X1_scriptErrorKind (v0 : Option Nat) : rc_M Int32 :=
rc_bind (rc_geti 0 5 v0) fun x1 =>
rc_pure x1
def rp_X1_scriptErrorOffset (v0 : Option Nat) : rc_M Int32 :=
rc_bind (rc_geti 0 6 v0) fun x1 =>
rc_pure x1
def rp_X1_chimneyCount (v0 : Option Nat) : rc_M Int32 :=
rc_bind (rc_getq 0 0 v0) fun x1 =>
rc_bind (rc_getq 2 0 x1) fun x2 =>
rc_bind (rc_is 12 x2) fun _ =>
rc_bind (rp_J7_size x2) fun x3 =>
rc_pure x3
def rp_X1_gutterCount (v0 : Option Nat) : rc_M Int32 :=
rc_bind (rc_getq 0 0 v0) fun x1 =>
rc_bind (rc_getq 2 1 x1) fun x2 =>
rc_bind (rc_is 12 x2) fun _ =>
rc_bind (rp_J7_size x2) fun x3 =>
rc_pure x3
def rp_X1_catCount (v0 : Option Nat) : rc_M Int32 :=
rc_bind (rc_getq 0 0 v0) fun x1 =>
rc_bind (rc_getq 2 2 x1) fun x2 =>
rc_bind (rc_is 12 x2) fun _ =>
rc_bind (rp_J7_size x2) fun x3 =>
rc_pure x3
def rp_X1_night (v0 : Option Nat) : rc_M Int32 :=
rc_bind (rc_getq 0 0 v0) fun x1 =>
rc_bind (rc_geti 2 5 x1) fun x2 =>
rc_pure x2
def rp_X1_moonPhase (v0 : Option Nat) : rc_M Int32 :=
rc_bind (rc_getq 0 0 v0) fun x1 =>
rc_bind (rc_geti 2 5 x1) fun x2 =>
rc_pure (x2 - x2 / (8 : Int32) * (8 : Int32))
def rp_X1_warmestFree (v0 : Option Nat) : rc_M Int32 :=
rc_bind (rc_getq 0 0 v0) fun x1 =>
rc_bind (rc_is 2 x1) fun _ =>
rc_bind (rp_X3_warmestFree x1) fun x2 =>
rc_pure x2
def rp_X1_isKittenWaiting (v0 : Option Nat) : rc_M Int32 :=
rc_bind (rc_getq 0 0 v0) fun x1 =>
rc_bind (rc_getq 2 4 x1) fun x2 =>
(if x2 = none then
rc_pure (0 : Int32)
else
rc_pure (1 : Int32))
def rp_X1_votesFor (v0 : Option Nat) : rc_M Int32 :=
rc_bind (rc_getq 0 0 v0) fun x1 =>
rc_bind (rc_getq 2 4 x1) fun x2 =>
(if x2 = none then
rc_pure (0 : Int32)
else
rc_bind (rc_getq 0 0 v0) fun x3 =>
rc_bind (rc_getq 2 4 x3) fun x4 =>
rc_bind (rc_is 7 x4) fun _ =>
rc_bind (rp_X8_yes x4) fun x5 =>
rc_bind (rp_J15_bitCount x5) fun x6 =>
rc_pure x6)
def rp_X1_votesAgainst (v0 : Option Nat) : rc_M Int32 :=
rc_bind (rc_getq 0 0 v0) fun x1 =>
rc_bind (rc_getq 2 4 x1) fun x2 =>
(if x2 = none then
rc_pure (0 : Int32)
else
rc_bind (rc_getq 0 0 v0) fun x3 =>
rc_bind (rc_getq 2 4 x3) fun x4 =>
rc_bind (rc_is 7 x4) fun _ =>
rc_bind (rp_X8_no x4) fun x5 =>
rc_bind (rp_J15_bitCount x5) fun x6 =>
rc_pure x6)
def rp_X1_choirCount (v0 : Option Nat) : rc_M Int32 :=
rc_bind (rc_getq 0 0 v0) fun x1 =>
rc_bind (rc_is 2 x1) fun _ =>
rc_bind (rp_X3_choirCount x1) fun x2 =>
rc_pure x2
def rp_X1_largestChoir (v0 : Option Nat) : rc_M Int32 :=
rc_bind (rc_getq 0 0 v0) fun x1 =>
rc_bind (rc_is 2 x1) fun _ =>
rc_bind (rp_X3_largestChoir x1) fun x2 =>
rc_pure x2
def rp_X1_nightsToFullMoon (v0 : Option Nat) : rc_M Int32 :=
rc_bind (rc_getq 0 0 v0) fun x1 =>
rc_bind (rc_geti 2 5 x1) fun x2 =>
(if ((((4 : Int32) - (x2 - x2 / (8 : Int32) * (8 : Int32))) + (8 : Int32)) - (((4 : Int32) - (x2 - x2 / (8 : Int32) * (8 : Int32))) + (8 : Int32)) / (8 : Int32) * (8 : Int32)) = 0 then
rc_pure (8 : Int32)
else
rc_pure ((((4 : Int32) - (x2 - x2 / (8 : Int32) * (8 : Int32))) + (8 : Int32)) - (((4 : Int32) - (x2 - x2 / (8 : Int32) * (8 : Int32))) + (8 : Int32)) / (8 : Int32) * (8 : Int32)))
def rp_X1_richestCat_L68 (k4 : Option Nat → Int32 → Int32 → rc_M Int32) (v0 : Option Nat) (v1 : Int32) (v2 : Int32) : rc_M Int32 :=
k4 v0 v1 (v2 + (1 : Int32))
def rp_X1_richestCat_L66 (k4 : Option Nat → Int32 → Int32 → rc_M Int32) (v0 : Option Nat) (v2 : Int32) : rc_M Int32 :=
rp_X1_richestCat_L68 k4 v0 v2 v2
def rp_X1_richestCat_L4 : Nat → Option Nat → Int32 → Int32 → rc_M Int32
  | 0, _, _, _ => rc_fail
  | n + 1, v0, v1, v2 =>
    rc_bind (rc_getq 0 0 v0) fun x1 =>
    rc_bind (rc_getq 2 2 x1) fun x2 =>
    rc_bind (rc_is 12 x2) fun _ =>
    rc_bind (rp_J7_size x2) fun x3 =>
    (if x3 ≤ v2 then
    rc_pure v1
    else
    (if v1 = (-1 : Int32) then
    rp_X1_richestCat_L66 (rp_X1_richestCat_L4  n) v0 v2
    else
    rc_bind (rc_getq 0 0 v0) fun x4 =>
    rc_bind (rc_getq 2 2 x4) fun x5 =>
    rc_bind (rc_is 12 x5) fun _ =>
    rc_bind (rp_J7_get x5 v2) fun x6 =>
    rc_bind (rc_castM 6 x6) fun _ =>
    rc_bind (rc_geti 6 3 x6) fun x7 =>
    rc_bind (rc_getq 0 0 v0) fun x8 =>
    rc_bind (rc_getq 2 2 x8) fun x9 =>
    rc_bind (rc_is 12 x9) fun _ =>
    rc_bind (rp_J7_get x9 v1) fun x10 =>
    rc_bind (rc_castM 6 x10) fun _ =>
    rc_bind (rc_geti 6 3 x10) fun x11 =>
    (if x7 ≤ x11 then
    rp_X1_richestCat_L68 (rp_X1_richestCat_L4  n) v0 v1 v2
    else
    rp_X1_richestCat_L66 (rp_X1_richestCat_L4  n) v0 v2)))
def rp_X1_richestCat (v0 : Option Nat) : rc_M Int32 :=
rc_bind rc_fuel fun x1 =>
rp_X1_richestCat_L4 x1 v0 (-1 : Int32) (0 : Int32)
def rp_X1_totalFish (v0 : Option Nat) : rc_M Int32 :=
rc_bind (rc_getq 0 0 v0) fun x1 =>
rc_bind (rc_is 2 x1) fun _ =>
rc_bind (rp_X3_totalFish x1) fun x2 =>
rc_pure x2
def rp_X1_meanFish (v0 : Option Nat) : rc_M UInt64 :=
rc_bind (rc_getq 0 0 v0) fun x1 =>
rc_bind (rc_getq 2 2 x1) fun x2 =>
rc_bind (rc_is 12 x2) fun _ =>
rc_bind (rp_J7_isEmpty x2) fun x3 =>
(if x3 = 0 then
rc_bind (rc_getq 0 0 v0) fun x4 =>
rc_bind (rc_is 2 x4) fun _ =>
rc_bind (rp_X3_totalFish x4) fun x5 =>
rc_bind (rc_getq 0 0 v0) fun x6 =>
rc_bind (rc_getq 2 2 x6) fun x7 =>
rc_bind (rc_is 12 x7) fun _ =>
rc_bind (rp_J7_size x7) fun x8 =>
rc_bind (rc_ddivM (FP.i2d x5) (FP.i2d x8)) fun x9 =>
rc_pure x9
else
rc_pure FP.dconst0)
def rp_X1_ownedShare_L48 (k15 : Option Nat → Int32 → Option Nat → rc_M UInt32) (v0 : Option Nat) (v2 : Option Nat) (s0 : Int32) (s1 : Int32) : rc_M UInt32 :=
k15 v0 (s1 + s0) v2
def rp_X1_ownedShare_L15 : Nat → Option Nat → Int32 → Option Nat → rc_M UInt32
  | 0, _, _, _ => rc_fail
  | n + 1, v0, v1, v2 =>
    rc_bind (rc_is 13 v2) fun _ =>
    rc_bind (rp_J25_hasNext v2) fun x1 =>
    (if x1 = 0 then
    rc_bind (rc_getq 0 0 v0) fun x2 =>
    rc_bind (rc_getq 2 0 x2) fun x3 =>
    rc_bind (rc_is 12 x3) fun _ =>
    rc_bind (rp_J7_isEmpty x3) fun x4 =>
    (if x4 = 0 then
    rc_bind (rc_getq 0 0 v0) fun x5 =>
    rc_bind (rc_getq 2 0 x5) fun x6 =>
    rc_bind (rc_is 12 x6) fun _ =>
    rc_bind (rp_J7_size x6) fun x7 =>
    rc_bind (rc_fdivM (FP.i2f v1) (FP.i2f x7)) fun x8 =>
    rc_pure x8
    else
    rc_pure FP.fconst0)
    else
    rc_bind (rc_is 13 v2) fun _ =>
    rc_bind (rp_J25_next v2) fun x9 =>
    rc_bind (rc_castM 4 x9) fun _ =>
    rc_bind (rc_geti 4 1 x9) fun x10 =>
    (if x10 = (-1 : Int32) then
    rp_X1_ownedShare_L48 (rp_X1_ownedShare_L15  n) v0 v2 (0 : Int32) v1
    else
    rp_X1_ownedShare_L48 (rp_X1_ownedShare_L15  n) v0 v2 (1 : Int32) v1))
def rp_X1_ownedShare (v0 : Option Nat) : rc_M UInt32 :=
rc_bind (rc_getq 0 0 v0) fun x1 =>
rc_bind (rc_getq 2 0 x1) fun x2 =>
rc_bind (rc_is 12 x2) fun _ =>
rc_bind (rp_J7_iterator x2) fun x3 =>
rc_bind rc_fuel fun x4 =>
rp_X1_ownedShare_L15 x4 v0 (0 : Int32) x3
def rp_X1_isWrong_L30 : rc_M Int32 :=
rc_pure (1 : Int32)
def rp_X1_isWrong (v0 : Option Nat) (v1 : Int32) : rc_M Int32 :=
rc_bind (rc_getq 0 0 v0) fun x1 =>
rc_bind (rc_getq 2 2 x1) fun x2 =>
rc_bind (rc_is 12 x2) fun _ =>
rc_bind (rp_J7_get x2 v1) fun x3 =>
rc_bind (rc_castM 6 x3) fun _ =>
rc_bind (rc_geti 6 3 x3) fun x4 =>
(if x4 < 0 then
rp_X1_isWrong_L30
else
(if x4 ≤ (99 : Int32) then
rc_pure (0 : Int32)
else
rp_X1_isWrong_L30))
def rp_X1_violations_L141 (k49 : Option Nat → Int32 → Int32 → Int32 → Int32 → rc_M Int32) (v0 : Option Nat) (v2 : Int32) (v3 : Int32) (v4 : Int32) (s0 : Int32) (s1 : Int32) : rc_M Int32 :=
k49 v0 (s1 + s0) v2 v3 (v4 + (1 : Int32))
def rp_X1_violations_L124 (k49 : Option Nat → Int32 → Int32 → Int32 → Int32 → rc_M Int32) (v0 : Option Nat) (v2 : Int32) (v3 : Int32) (v4 : Int32) (s0 : Int32) (s1 : Int32) : rc_M Int32 :=
rc_bind (rc_is 0 v0) fun _ =>
rc_bind (rp_X1_isWrong v0 v4) fun x1 =>
(if x1 = 0 then
rp_X1_violations_L141 k49 v0 v2 v3 v4 (0 : Int32) (s1 + s0)
else
rp_X1_violations_L141 k49 v0 v2 v3 v4 (1 : Int32) (s1 + s0))
def rp_X1_violations_L49 : Nat → Option Nat → Int32 → Int32 → Int32 → Int32 → rc_M Int32
  | 0, _, _, _, _, _ => rc_fail
  | n + 1, v0, v1, v2, v3, v4 =>
    rc_bind (rc_getq 0 0 v0) fun x1 =>
    rc_bind (rc_getq 2 2 x1) fun x2 =>
    rc_bind (rc_is 12 x2) fun _ =>
    rc_bind (rp_J7_size x2) fun x3 =>
    (if x3 ≤ v4 then
    rc_bind (rp_J15_bitCount v3) fun x4 =>
    rc_pure (v1 + x4)
    else
    rc_bind (rc_getq 0 0 v0) fun x5 =>
    rc_bind (rc_getq 2 2 x5) fun x6 =>
    rc_bind (rc_is 12 x6) fun _ =>
    rc_bind (rp_J7_get x6 v4) fun x7 =>
    rc_bind (rc_castM 6 x7) fun _ =>
    rc_bind (rc_geti 6 2 x7) fun x8 =>
    rc_bind (rc_getq 0 0 v0) fun x9 =>
    rc_bind (rc_is 2 x9) fun _ =>
    rc_bind (rp_X3_owned x9 v4) fun x10 =>
    rc_bind (rp_J15_bitCount x10) fun x11 =>
    (if x11 ≤ (4 : Int32) then
    rp_X1_violations_L124 (rp_X1_violations_L49  n) v0 (v2 ||| ((1 : Int32) <<< (x8 &&& 31))) (v3 ||| (v2 &&& ((1 : Int32) <<< (x8 &&& 31)))) v4 (0 : Int32) v1
    else
    rp_X1_violations_L124 (rp_X1_violations_L49  n) v0 (v2 ||| ((1 : Int32) <<< (x8 &&& 31))) (v3 ||| (v2 &&& ((1 : Int32) <<< (x8 &&& 31)))) v4 (1 : Int32) v1))
def rp_X1_violations (v0 : Option Nat) : rc_M Int32 :=
rc_bind (rc_getq 0 0 v0) fun x1 =>
rc_bind (rc_is 2 x1) fun _ =>
rc_bind (rp_X3_totalFish x1) fun x2 =>
rc_bind (rc_getq 0 0 v0) fun x3 =>
rc_bind (rc_getq 2 2 x3) fun x4 =>
rc_bind (rc_is 12 x4) fun _ =>
rc_bind (rp_J7_size x4) fun x5 =>
rc_bind (rc_getq 0 0 v0) fun x6 =>
rc_bind (rc_geti 2 6 x6) fun x7 =>
rc_bind (rc_getq 0 0 v0) fun x8 =>
rc_bind (rc_geti 2 7 x8) fun x9 =>
rc_bind (rp_J17_abs (((x2 - ((5 : Int32) * x5)) - x7) + x9)) fun x10 =>
rc_bind rc_fuel fun x11 =>
rp_X1_violations_L49 x11 v0 x10 (0 : Int32) (0 : Int32) (0 : Int32)
def rp_X1_writeRoof_L125 (k10 : Option Nat → Option Nat → Int32 → rc_M Int32) (v0 : Option Nat) (v1 : Option Nat) (v2 : Int32) : rc_M Int32 :=
k10 v0 v1 (v2 + (1 : Int32))
def rp_X1_writeRoof_L95 (k10 : Option Nat → Option Nat → Int32 → rc_M Int32) (v0 : Option Nat) (v1 : Option Nat) (v2 : Int32) : rc_M Int32 :=
rc_bind (rc_getq 0 0 v0) fun x1 =>
rc_bind (rc_is 2 x1) fun _ =>
rc_bind (rp_X3_owner x1 v2) fun x2 =>
(if x2 = (-1 : Int32) then
rp_X1_writeRoof_L125 k10 v0 v1 v2
else
rc_bind (rc_is 10 v1) fun _ =>
rc_bind (rp_J3_append_3 v1 (111 : Int32)) fun x3 =>
rc_bind (rc_getq 0 0 v0) fun x4 =>
rc_bind (rc_is 2 x4) fun _ =>
rc_bind (rp_X3_owner x4 v2) fun x5 =>
rc_bind (rc_is 10 x3) fun _ =>
rc_bind (rp_J3_append x3 x5) fun x6 =>
rp_X1_writeRoof_L125 k10 v0 v1 v2)
def rp_X1_writeRoof_L39 (k10 : Option Nat → Option Nat → Int32 → rc_M Int32) (v0 : Option Nat) (v1 : Option Nat) (v2 : Int32) (s0 : Option Nat) (s1 : Option Nat) : rc_M Int32 :=
rc_bind (rc_is 10 s1) fun _ =>
rc_bind (rp_J3_append_2 s1 s0) fun x1 =>
rc_bind (rc_getq 0 0 v0) fun x2 =>
rc_bind (rc_getq 2 0 x2) fun x3 =>
rc_bind (rc_is 12 x3) fun _ =>
rc_bind (rp_J7_get x3 v2) fun x4 =>
rc_bind (rc_castM 4 x4) fun _ =>
rc_bind (rc_geti 4 0 x4) fun x5 =>
rc_bind (rc_is 10 x1) fun _ =>
rc_bind (rp_J3_append x1 x5) fun x6 =>
rc_bind (rc_getq 0 0 v0) fun x7 =>
rc_bind (rc_is 2 x7) fun _ =>
rc_bind (rp_X3_catOn x7 v2) fun x8 =>
(if x8 = (-1 : Int32) then
rp_X1_writeRoof_L95 k10 v0 v1 v2
else
rc_bind (rc_is 10 v1) fun _ =>
rc_bind (rp_J3_append_3 v1 (99 : Int32)) fun x9 =>
rc_bind (rc_getq 0 0 v0) fun x10 =>
rc_bind (rc_is 2 x10) fun _ =>
rc_bind (rp_X3_catOn x10 v2) fun x11 =>
rc_bind (rc_is 10 x9) fun _ =>
rc_bind (rp_J3_append x9 x11) fun x12 =>
rp_X1_writeRoof_L95 k10 v0 v1 v2)
def rp_X1_writeRoof_L10 : Nat → Option Nat → Option Nat → Int32 → rc_M Int32
  | 0, _, _, _ => rc_fail
  | n + 1, v0, v1, v2 =>
    rc_bind (rc_getq 0 0 v0) fun x1 =>
    rc_bind (rc_getq 2 0 x1) fun x2 =>
    rc_bind (rc_is 12 x2) fun _ =>
    rc_bind (rp_J7_size x2) fun x3 =>
    (if x3 ≤ v2 then
    rc_bind (rc_is 10 v1) fun _ =>
    rc_bind (rp_J3_toString v1) fun x4 =>
    rc_bind (rc_put 0 4 (.object "java/lang/String") v0 (rc_q x4)) fun _ =>
    rc_bind (rc_getq 0 4 v0) fun x5 =>
    rc_bind (rc_is 11 x5) fun _ =>
    rc_bind (rp_J4_length x5) fun x6 =>
    rc_pure x6
    else
    (if v2 = 0 then
    rc_bind (rc_text 0) fun x8 =>
    rp_X1_writeRoof_L39 (rp_X1_writeRoof_L10  n) v0 v1 v2 x8 v1
    else
    rc_bind (rc_text 27) fun x7 =>
    rp_X1_writeRoof_L39 (rp_X1_writeRoof_L10  n) v0 v1 v2 x7 v1))
def rp_X1_writeRoof (v0 : Option Nat) : rc_M Int32 :=
rc_bind (rc_new 10 4 [rc_q none, rc_i 0, rc_i 0, rc_i 0]) fun x1 =>
rc_bind (rc_nn x1) fun _ =>
rc_bind (rp_J3_init x1) fun _ =>
rc_bind rc_fuel fun x2 =>
rp_X1_writeRoof_L10 x2 v0 x1 (0 : Int32)
def rp_X1_reportByte_L15 : rc_M Int32 :=
rc_pure (-1 : Int32)
def rp_X1_reportByte (v0 : Option Nat) (v1 : Int32) : rc_M Int32 :=
(if v1 < 0 then
rp_X1_reportByte_L15
else
rc_bind (rc_getq 0 4 v0) fun x1 =>
rc_bind (rc_is 11 x1) fun _ =>
rc_bind (rp_J4_length x1) fun x2 =>
(if v1 < x2 then
rc_bind (rc_getq 0 4 v0) fun x3 =>
rc_bind (rc_is 11 x3) fun _ =>
rc_bind (rp_J4_charAt x3 v1) fun x4 =>
rc_pure x4
else
rp_X1_reportByte_L15))
def rp_X1_checkArgument (v0 : Int32) : rc_M Unit :=
(if v0 = 0 then
rc_thr 1
else
rc_pure ())
def rp_X1_checkRange_L15 (s0 : Int32) : rc_M Unit :=
rc_bind (rp_X1_checkArgument s0) fun _ =>
rc_pure ()
def rp_X1_checkRange_L14 : rc_M Unit :=
rp_X1_checkRange_L15 (0 : Int32)
def rp_X1_checkRange (v0 : Int32) (v1 : Int32) (v2 : Int32) : rc_M Unit :=
(if v0 < v1 then
rp_X1_checkRange_L14
else
(if v2 < v0 then
rp_X1_checkRange_L14
else
rp_X1_checkRange_L15 (1 : Int32)))
def rp_X1_truncateInput (v0 : Option Nat) (v1 : Int32) : rc_M Int32 :=
rc_bind (rc_getq 0 3 v0) fun x1 =>
rc_bind (rc_is 10 x1) fun _ =>
rc_bind (rp_J3_length x1) fun x2 =>
rc_bind (rp_X1_checkRange v1 (0 : Int32) x2) fun _ =>
rc_bind (rc_getq 0 3 v0) fun x3 =>
rc_bind (rc_is 10 x3) fun _ =>
rc_bind (rp_J3_setLength x3 v1) fun _ =>
rc_pure v1
def rp_X1_checkState (v0 : Int32) : rc_M Unit :=
(if v0 = 0 then
rc_thr 2
else
rc_pure ())
def rp_X1_addChimney_L29 (v0 : Option Nat) (v1 : Int32) (s0 : Int32) : rc_M Int32 :=
rc_bind (rp_X1_checkState s0) fun _ =>
rc_bind (rc_is 0 v0) fun _ =>
rc_bind (rp_X1_remember v0) fun _ =>
rc_bind (rc_getq 0 0 v0) fun x1 =>
rc_bind (rc_getq 2 0 x1) fun x2 =>
rc_bind (rc_new 4 2 [rc_i 0, rc_i 0]) fun x3 =>
rc_bind (rc_nn x3) fun _ =>
rc_bind (rp_X5_init x3 v1) fun _ =>
rc_bind (rc_is 12 x2) fun _ =>
rc_bind (rp_J7_add x2 x3) fun x4 =>
rc_bind (rc_getq 0 0 v0) fun x5 =>
rc_bind (rc_getq 2 0 x5) fun x6 =>
rc_bind (rc_is 12 x6) fun _ =>
rc_bind (rp_J7_size x6) fun x7 =>
rc_pure (x7 - (1 : Int32))
def rp_X1_addChimney (v0 : Option Nat) (v1 : Int32) : rc_M Int32 :=
rc_bind (rp_X1_checkRange v1 (0 : Int32) (9 : Int32)) fun _ =>
rc_bind (rc_getq 0 0 v0) fun x1 =>
rc_bind (rc_getq 2 0 x1) fun x2 =>
rc_bind (rc_is 12 x2) fun _ =>
rc_bind (rp_J7_size x2) fun x3 =>
(if (10 : Int32) ≤ x3 then
rp_X1_addChimney_L29 v0 v1 (0 : Int32)
else
rp_X1_addChimney_L29 v0 v1 (1 : Int32))
def rp_X1_checked (v0 : Int32) (v1 : Int32) : rc_M Int32 :=
(if v0 < 0 then
rc_thr 0
else
(if v0 < v1 then
rc_pure v0
else
rc_thr 0))
def rp_X1_chimney (v0 : Option Nat) (v1 : Int32) : rc_M Int32 :=
rc_bind (rc_getq 0 0 v0) fun x1 =>
rc_bind (rc_getq 2 0 x1) fun x2 =>
rc_bind (rc_is 12 x2) fun _ =>
rc_bind (rp_J7_size x2) fun x3 =>
rc_bind (rp_X1_checked v1 x3) fun x4 =>
rc_pure x4
def rp_X1_addGutter_L54 (v0 : Option Nat) (v1 : Int32) (v2 : Int32) (v3 : Int32) (s0 : Int32) : rc_M Int32 :=
rc_bind (rp_X1_checkState s0) fun _ =>
rc_bind (rc_is 0 v0) fun _ =>
rc_bind (rp_X1_remember v0) fun _ =>
rc_bind (rc_getq 0 0 v0) fun x1 =>
rc_bind (rc_getq 2 1 x1) fun x2 =>
rc_bind (rc_new 5 3 [rc_i 0, rc_i 0, rc_i 0]) fun x3 =>
rc_bind (rc_nn x3) fun _ =>
rc_bind (rp_X6_init x3 v1 v2 v3) fun _ =>
rc_bind (rc_is 12 x2) fun _ =>
rc_bind (rp_J7_add x2 x3) fun x4 =>
rc_bind (rc_getq 0 0 v0) fun x5 =>
rc_bind (rc_getq 2 1 x5) fun x6 =>
rc_bind (rc_is 12 x6) fun _ =>
rc_bind (rp_J7_size x6) fun x7 =>
rc_pure (x7 - (1 : Int32))
def rp_X1_addGutter_L22 (v0 : Option Nat) (v1 : Int32) (v2 : Int32) (v3 : Int32) (s0 : Int32) : rc_M Int32 :=
rc_bind (rp_X1_checkArgument s0) fun _ =>
rc_bind (rp_X1_checkRange v3 (1 : Int32) (9 : Int32)) fun _ =>
rc_bind (rc_getq 0 0 v0) fun x1 =>
rc_bind (rc_getq 2 1 x1) fun x2 =>
rc_bind (rc_is 12 x2) fun _ =>
rc_bind (rp_J7_size x2) fun x3 =>
(if (20 : Int32) ≤ x3 then
rp_X1_addGutter_L54 v0 v1 v2 v3 (0 : Int32)
else
rp_X1_addGutter_L54 v0 v1 v2 v3 (1 : Int32))
def rp_X1_addGutter (v0 : Option Nat) (v1 : Int32) (v2 : Int32) (v3 : Int32) : rc_M Int32 :=
rc_bind (rc_is 0 v0) fun _ =>
rc_bind (rp_X1_chimney v0 v1) fun x1 =>
rc_bind (rc_is 0 v0) fun _ =>
rc_bind (rp_X1_chimney v0 v2) fun x2 =>
(if v1 = v2 then
rp_X1_addGutter_L22 v0 v1 v2 v3 (0 : Int32)
else
rp_X1_addGutter_L22 v0 v1 v2 v3 (1 : Int32))
def rp_X1_checkBody (v0 : Int32) (v1 : Int32) : rc_M Unit :=
rc_bind (rp_X1_checkRange v0 (1 : Int32) (9 : Int32)) fun _ =>
rc_bind (rp_X1_checkRange v1 (1 : Int32) (9 : Int32)) fun _ =>
rc_pure ()
def rp_X1_addCat_L45 (v0 : Option Nat) (v1 : Int32) (v2 : Int32) (v3 : Int32) (s0 : Int32) : rc_M Int32 :=
rc_bind (rp_X1_checkState s0) fun _ =>
rc_bind (rc_is 0 v0) fun _ =>
rc_bind (rp_X1_remember v0) fun _ =>
rc_bind (rc_getq 0 0 v0) fun x1 =>
rc_bind (rc_getq 2 2 x1) fun x2 =>
rc_bind (rc_new 6 4 [rc_i 0, rc_i 0, rc_i 0, rc_i 0]) fun x3 =>
rc_bind (rc_nn x3) fun _ =>
rc_bind (rp_X7_init x3 v1 v2 v3) fun _ =>
rc_bind (rc_is 12 x2) fun _ =>
rc_bind (rp_J7_add x2 x3) fun x4 =>
rc_bind (rc_getq 0 0 v0) fun x5 =>
rc_bind (rc_getq 2 2 x5) fun x6 =>
rc_bind (rc_is 12 x6) fun _ =>
rc_bind (rp_J7_size x6) fun x7 =>
rc_pure (x7 - (1 : Int32))
def rp_X1_addCat_L44 (v0 : Option Nat) (v1 : Int32) (v2 : Int32) (v3 : Int32) : rc_M Int32 :=
rp_X1_addCat_L45 v0 v1 v2 v3 (0 : Int32)
def rp_X1_addCat (v0 : Option Nat) (v1 : Int32) (v2 : Int32) (v3 : Int32) : rc_M Int32 :=
rc_bind (rc_is 0 v0) fun _ =>
rc_bind (rp_X1_chimney v0 v1) fun x1 =>
rc_bind (rp_X1_checkBody v2 v3) fun _ =>
rc_bind (rc_getq 0 0 v0) fun x2 =>
rc_bind (rc_getq 2 2 x2) fun x3 =>
rc_bind (rc_is 12 x3) fun _ =>
rc_bind (rp_J7_size x3) fun x4 =>
(if (8 : Int32) ≤ x4 then
rp_X1_addCat_L44 v0 v1 v2 v3
else
rc_bind (rc_getq 0 0 v0) fun x5 =>
rc_bind (rc_is 2 x5) fun _ =>
rc_bind (rp_X3_catOn x5 v1) fun x6 =>
(if x6 = (-1 : Int32) then
rp_X1_addCat_L45 v0 v1 v2 v3 (1 : Int32)
else
rp_X1_addCat_L44 v0 v1 v2 v3))
def rp_X1_cat (v0 : Option Nat) (v1 : Int32) : rc_M Int32 :=
rc_bind (rc_getq 0 0 v0) fun x1 =>
rc_bind (rc_getq 2 2 x1) fun x2 =>
rc_bind (rc_is 12 x2) fun _ =>
rc_bind (rp_J7_size x2) fun x3 =>
rc_bind (rp_X1_checked v1 x3) fun x4 =>
rc_pure x4
def rp_X1_whyNoStep (v0 : Option Nat) (v1 : Int32) (v2 : Int32) : rc_M Int32 :=
rc_bind (rc_is 0 v0) fun _ =>
rc_bind (rp_X1_cat v0 v1) fun x1 =>
rc_bind (rc_getq 0 0 v0) fun x2 =>
rc_bind (rc_getq 0 0 v0) fun x3 =>
rc_bind (rc_getq 2 1 x3) fun x4 =>
rc_bind (rc_is 12 x4) fun _ =>
rc_bind (rp_J7_size x4) fun x5 =>
rc_bind (rp_X1_checked v2 x5) fun x6 =>
rc_bind (rc_is 2 x2) fun _ =>
rc_bind (rp_X3_judgeStep x2 v1 x6) fun x7 =>
rc_pure x7
def rp_X1_step_L14 (v0 : Option Nat) (v1 : Int32) (v2 : Int32) (s0 : Int32) : rc_M Int32 :=
rc_bind (rp_X1_checkState s0) fun _ =>
rc_bind (rc_is 0 v0) fun _ =>
rc_bind (rp_X1_remember v0) fun _ =>
rc_bind (rc_getq 0 0 v0) fun x1 =>
rc_bind (rc_is 2 x1) fun _ =>
rc_bind (rp_X3_step x1 v1 v2) fun x2 =>
rc_pure x2
def rp_X1_step (v0 : Option Nat) (v1 : Int32) (v2 : Int32) : rc_M Int32 :=
rc_bind (rc_is 0 v0) fun _ =>
rc_bind (rp_X1_whyNoStep v0 v1 v2) fun x1 =>
(if x1 = 0 then
rp_X1_step_L14 v0 v1 v2 (1 : Int32)
else
rp_X1_step_L14 v0 v1 v2 (0 : Int32))
def rp_X1_whyNoClaim (v0 : Option Nat) (v1 : Int32) : rc_M Int32 :=
rc_bind (rc_getq 0 0 v0) fun x1 =>
rc_bind (rc_is 0 v0) fun _ =>
rc_bind (rp_X1_cat v0 v1) fun x2 =>
rc_bind (rc_is 2 x1) fun _ =>
rc_bind (rp_X3_judgeClaim x1 x2) fun x3 =>
rc_pure x3
def rp_X1_claim_L13 (v0 : Option Nat) (v1 : Int32) (s0 : Int32) : rc_M Int32 :=
rc_bind (rp_X1_checkState s0) fun _ =>
rc_bind (rc_is 0 v0) fun _ =>
rc_bind (rp_X1_remember v0) fun _ =>
rc_bind (rc_getq 0 0 v0) fun x1 =>
rc_bind (rc_is 2 x1) fun _ =>
rc_bind (rp_X3_claim x1 v1) fun x2 =>
rc_pure x2
def rp_X1_claim (v0 : Option Nat) (v1 : Int32) : rc_M Int32 :=
rc_bind (rc_is 0 v0) fun _ =>
rc_bind (rp_X1_whyNoClaim v0 v1) fun x1 =>
(if x1 = 0 then
rp_X1_claim_L13 v0 v1 (1 : Int32)
else
rp_X1_claim_L13 v0 v1 (0 : Int32))
def rp_X1_ownerOf (v0 : Option Nat) (v1 : Int32) : rc_M Int32 :=
rc_bind (rc_getq 0 0 v0) fun x1 =>
rc_bind (rc_is 0 v0) fun _ =>
rc_bind (rp_X1_chimney v0 v1) fun x2 =>
rc_bind (rc_is 2 x1) fun _ =>
rc_bind (rp_X3_owner x1 x2) fun x3 =>
rc_pure x3
def rp_X1_abandon_L16 (v0 : Option Nat) (v1 : Int32) (v2 : Int32) (s0 : Int32) : rc_M Int32 :=
rc_bind (rp_X1_checkState s0) fun _ =>
rc_bind (rc_is 0 v0) fun _ =>
rc_bind (rp_X1_remember v0) fun _ =>
rc_bind (rc_getq 0 0 v0) fun x1 =>
rc_bind (rc_getq 2 0 x1) fun x2 =>
rc_bind (rc_is 12 x2) fun _ =>
rc_bind (rp_J7_get x2 v1) fun x3 =>
rc_bind (rc_castM 4 x3) fun _ =>
rc_bind (rc_put 4 1 .int x3 (rc_i (-1 : Int32))) fun _ =>
rc_pure v2
def rp_X1_abandon (v0 : Option Nat) (v1 : Int32) : rc_M Int32 :=
rc_bind (rc_is 0 v0) fun _ =>
rc_bind (rp_X1_ownerOf v0 v1) fun x1 =>
(if x1 = (-1 : Int32) then
rp_X1_abandon_L16 v0 v1 x1 (0 : Int32)
else
rp_X1_abandon_L16 v0 v1 x1 (1 : Int32))
def rp_X1_checkCats_L22 (s0 : Int32) : rc_M Unit :=
rc_bind (rp_X1_checkArgument s0) fun _ =>
rc_pure ()
def rp_X1_checkCats (v0 : Option Nat) (v1 : Int32) (v2 : Int32) : rc_M Unit :=
rc_bind (rc_is 0 v0) fun _ =>
rc_bind (rp_X1_cat v0 v1) fun x1 =>
rc_bind (rc_is 0 v0) fun _ =>
rc_bind (rp_X1_cat v0 v2) fun x2 =>
(if v1 = v2 then
rp_X1_checkCats_L22 (0 : Int32)
else
rp_X1_checkCats_L22 (1 : Int32))
def rp_X1_whyNoChase (v0 : Option Nat) (v1 : Int32) (v2 : Int32) : rc_M Int32 :=
rc_bind (rc_is 0 v0) fun _ =>
rc_bind (rp_X1_checkCats v0 v1 v2) fun _ =>
rc_bind (rc_getq 0 0 v0) fun x1 =>
rc_bind (rc_is 2 x1) fun _ =>
rc_bind (rp_X3_judgeChase x1 v1 v2) fun x2 =>
rc_pure x2
def rp_X1_chase_L14 (v0 : Option Nat) (v1 : Int32) (v2 : Int32) (s0 : Int32) : rc_M Int32 :=
rc_bind (rp_X1_checkState s0) fun _ =>
rc_bind (rc_is 0 v0) fun _ =>
rc_bind (rp_X1_remember v0) fun _ =>
rc_bind (rc_getq 0 0 v0) fun x1 =>
rc_bind (rc_is 2 x1) fun _ =>
rc_bind (rp_X3_chase x1 v1 v2) fun x2 =>
rc_bind (rc_narM .boolean x2) fun _ =>
rc_pure x2
def rp_X1_chase (v0 : Option Nat) (v1 : Int32) (v2 : Int32) : rc_M Int32 :=
rc_bind (rc_is 0 v0) fun _ =>
rc_bind (rp_X1_whyNoChase v0 v1 v2) fun x1 =>
(if x1 = 0 then
rp_X1_chase_L14 v0 v1 v2 (1 : Int32)
else
rp_X1_chase_L14 v0 v1 v2 (0 : Int32))
def rp_X1_buyTruce (v0 : Option Nat) (v1 : Int32) (v2 : Int32) (v3 : Int32) (v4 : Int32) : rc_M Int32 :=
rc_bind (rc_is 0 v0) fun _ =>
rc_bind (rp_X1_checkCats v0 v1 v2) fun _ =>
rc_bind (rp_X1_checkRange v3 (1 : Int32) (9 : Int32)) fun _ =>
rc_bind (rp_X1_checkRange v4 (1 : Int32) (20 : Int32)) fun _ =>
rc_bind (rc_getq 0 0 v0) fun x1 =>
rc_bind (rc_is 2 x1) fun _ =>
rc_bind (rp_X3_canBuy x1 v1 v2 v3) fun x2 =>
rc_bind (rp_X1_checkState x2) fun _ =>
rc_bind (rc_is 0 v0) fun _ =>
rc_bind (rp_X1_remember v0) fun _ =>
rc_bind (rc_getq 0 0 v0) fun x3 =>
rc_bind (rc_is 2 x3) fun _ =>
rc_bind (rp_X3_buyTruce x3 v1 v2 v3 v4) fun x4 =>
rc_pure x4
def rp_X1_nominate (v0 : Option Nat) (v1 : Int32) (v2 : Int32) : rc_M Int32 :=
rc_bind (rp_X1_checkBody v1 v2) fun _ =>
rc_bind (rc_getq 0 0 v0) fun x1 =>
rc_bind (rc_is 2 x1) fun _ =>
rc_bind (rp_X3_canNominate x1) fun x2 =>
rc_bind (rp_X1_checkState x2) fun _ =>
rc_bind (rc_is 0 v0) fun _ =>
rc_bind (rp_X1_remember v0) fun _ =>
rc_bind (rc_getq 0 0 v0) fun x3 =>
rc_bind (rc_is 2 x3) fun _ =>
rc_bind (rp_X3_nominate x3 v1 v2) fun x4 =>
rc_pure x4
def rp_X1_vote (v0 : Option Nat) (v1 : Int32) (v2 : Int32) : rc_M Int32 :=
rc_bind (rc_getq 0 0 v0) fun x1 =>
rc_bind (rc_is 0 v0) fun _ =>
rc_bind (rp_X1_cat v0 v1) fun x2 =>
rc_bind (rc_is 2 x1) fun _ =>
rc_bind (rp_X3_canVote x1 x2) fun x3 =>
rc_bind (rp_X1_checkState x3) fun _ =>
rc_bind (rc_is 0 v0) fun _ =>
rc_bind (rp_X1_remember v0) fun _ =>
rc_bind (rc_getq 0 0 v0) fun x4 =>
rc_bind (rc_is 2 x4) fun _ =>
rc_bind (rp_X3_vote x4 v1 v2) fun x5 =>
rc_bind (rc_narM .boolean x5) fun _ =>
rc_pure x5
def rp_X1_passNights_L27 (v0 : Option Nat) (v1 : Int32) (s0 : Int32) : rc_M Int32 :=
rc_bind (rp_X1_checkState s0) fun _ =>
rc_bind (rc_is 0 v0) fun _ =>
rc_bind (rp_X1_remember v0) fun _ =>
rc_bind (rc_getq 0 0 v0) fun x1 =>
rc_bind (rc_is 2 x1) fun _ =>
rc_bind (rp_X3_passNights x1 v1) fun x2 =>
rc_pure x2
def rp_X1_passNights (v0 : Option Nat) (v1 : Int32) : rc_M Int32 :=
rc_bind (rp_X1_checkRange v1 (1 : Int32) (30 : Int32)) fun _ =>
rc_bind (rc_getq 0 0 v0) fun x1 =>
rc_bind (rc_geti 2 5 x1) fun x2 =>
(if (999 : Int32) < (x2 + v1) then
rp_X1_passNights_L27 v0 v1 (0 : Int32)
else
rp_X1_passNights_L27 v0 v1 (1 : Int32))
def rp_X1_restoreSnapshot (v0 : Option Nat) : rc_M Int32 :=
rc_bind (rc_getq 0 2 v0) fun x1 =>
(if x1 = none then
rc_thr 3
else
rc_bind (rc_getq 0 2 v0) fun x2 =>
rc_bind (rc_is 2 x2) fun _ =>
rc_bind (rp_X3_copy x2) fun x3 =>
rc_bind (rc_put 0 0 (.object "RooftopCats$Roof") v0 (rc_q x3)) fun _ =>
rc_bind (rc_getq 0 1 v0) fun x4 =>
rc_bind (rc_is 9 x4) fun _ =>
rc_bind (rp_J1_clear x4) fun _ =>
rc_bind (rc_getq 0 0 v0) fun x5 =>
rc_bind (rc_geti 2 5 x5) fun x6 =>
rc_pure x6)
def rp_X1_warmth (v0 : Option Nat) (v1 : Int32) : rc_M Int32 :=
rc_bind (rc_getq 0 0 v0) fun x1 =>
rc_bind (rc_getq 2 0 x1) fun x2 =>
rc_bind (rc_is 0 v0) fun _ =>
rc_bind (rp_X1_chimney v0 v1) fun x3 =>
rc_bind (rc_is 12 x2) fun _ =>
rc_bind (rp_J7_get x2 x3) fun x4 =>
rc_bind (rc_castM 4 x4) fun _ =>
rc_bind (rc_geti 4 0 x4) fun x5 =>
rc_pure x5
def rp_X1_catOn (v0 : Option Nat) (v1 : Int32) : rc_M Int32 :=
rc_bind (rc_getq 0 0 v0) fun x1 =>
rc_bind (rc_is 0 v0) fun _ =>
rc_bind (rp_X1_chimney v0 v1) fun x2 =>
rc_bind (rc_is 2 x1) fun _ =>
rc_bind (rp_X3_catOn x1 x2) fun x3 =>
rc_pure x3
def rp_X1_gutter (v0 : Option Nat) (v1 : Int32) : rc_M (Option Nat) :=
rc_bind (rc_getq 0 0 v0) fun x1 =>
rc_bind (rc_getq 2 1 x1) fun x2 =>
rc_bind (rc_getq 0 0 v0) fun x3 =>
rc_bind (rc_getq 2 1 x3) fun x4 =>
rc_bind (rc_is 12 x4) fun _ =>
rc_bind (rp_J7_size x4) fun x5 =>
rc_bind (rp_X1_checked v1 x5) fun x6 =>
rc_bind (rc_is 12 x2) fun _ =>
rc_bind (rp_J7_get x2 x6) fun x7 =>
rc_bind (rc_castM 5 x7) fun _ =>
rc_pure x7
def rp_X1_gutterEnds (v0 : Option Nat) (v1 : Int32) : rc_M Int32 :=
rc_bind (rc_is 0 v0) fun _ =>
rc_bind (rp_X1_gutter v0 v1) fun x1 =>
rc_bind (rc_is 5 x1) fun _ =>
rc_bind (rp_X6_one x1) fun x2 =>
rc_bind (rc_is 0 v0) fun _ =>
rc_bind (rp_X1_gutter v0 v1) fun x3 =>
rc_bind (rc_is 5 x3) fun _ =>
rc_bind (rp_X6_other x3) fun x4 =>
rc_pure (((1 : Int32) <<< (x2 &&& 31)) ||| ((1 : Int32) <<< (x4 &&& 31)))
def rp_X1_width (v0 : Option Nat) (v1 : Int32) : rc_M Int32 :=
rc_bind (rc_is 0 v0) fun _ =>
rc_bind (rp_X1_gutter v0 v1) fun x1 =>
rc_bind (rc_is 5 x1) fun _ =>
rc_bind (rp_X6_width x1) fun x2 =>
rc_pure x2
def rp_X1_widestWay (v0 : Option Nat) (v1 : Int32) (v2 : Int32) : rc_M Int32 :=
rc_bind (rc_is 0 v0) fun _ =>
rc_bind (rp_X1_chimney v0 v1) fun x1 =>
rc_bind (rc_getq 0 0 v0) fun x2 =>
rc_bind (rc_is 0 v0) fun _ =>
rc_bind (rp_X1_chimney v0 v2) fun x3 =>
rc_bind (rc_is 2 x2) fun _ =>
rc_bind (rp_X3_widestWay x2 v1 x3) fun x4 =>
rc_pure x4
def rp_X1_girth (v0 : Option Nat) (v1 : Int32) : rc_M Int32 :=
rc_bind (rc_getq 0 0 v0) fun x1 =>
rc_bind (rc_getq 2 2 x1) fun x2 =>
rc_bind (rc_is 0 v0) fun _ =>
rc_bind (rp_X1_cat v0 v1) fun x3 =>
rc_bind (rc_is 12 x2) fun _ =>
rc_bind (rp_J7_get x2 x3) fun x4 =>
rc_bind (rc_castM 6 x4) fun _ =>
rc_bind (rc_geti 6 0 x4) fun x5 =>
rc_pure x5
def rp_X1_power (v0 : Option Nat) (v1 : Int32) : rc_M Int32 :=
rc_bind (rc_getq 0 0 v0) fun x1 =>
rc_bind (rc_is 0 v0) fun _ =>
rc_bind (rp_X1_cat v0 v1) fun x2 =>
rc_bind (rc_is 2 x1) fun _ =>
rc_bind (rp_X3_power x1 x2) fun x3 =>
rc_pure x3
def rp_X1_fish (v0 : Option Nat) (v1 : Int32) : rc_M Int32 :=
rc_bind (rc_getq 0 0 v0) fun x1 =>
rc_bind (rc_getq 2 2 x1) fun x2 =>
rc_bind (rc_is 0 v0) fun _ =>
rc_bind (rp_X1_cat v0 v1) fun x3 =>
rc_bind (rc_is 12 x2) fun _ =>
rc_bind (rp_J7_get x2 x3) fun x4 =>
rc_bind (rc_castM 6 x4) fun _ =>
rc_bind (rc_geti 6 3 x4) fun x5 =>
rc_pure x5
def rp_X1_chimneyOf (v0 : Option Nat) (v1 : Int32) : rc_M Int32 :=
rc_bind (rc_getq 0 0 v0) fun x1 =>
rc_bind (rc_getq 2 2 x1) fun x2 =>
rc_bind (rc_is 0 v0) fun _ =>
rc_bind (rp_X1_cat v0 v1) fun x3 =>
rc_bind (rc_is 12 x2) fun _ =>
rc_bind (rp_J7_get x2 x3) fun x4 =>
rc_bind (rc_castM 6 x4) fun _ =>
rc_bind (rc_geti 6 2 x4) fun x5 =>
rc_pure x5
def rp_X1_ownedChimneys (v0 : Option Nat) (v1 : Int32) : rc_M Int32 :=
rc_bind (rc_getq 0 0 v0) fun x1 =>
rc_bind (rc_is 0 v0) fun _ =>
rc_bind (rp_X1_cat v0 v1) fun x2 =>
rc_bind (rc_is 2 x1) fun _ =>
rc_bind (rp_X3_owned x1 x2) fun x3 =>
rc_pure x3
def rp_X1_truceNights (v0 : Option Nat) (v1 : Int32) (v2 : Int32) : rc_M Int32 :=
rc_bind (rc_is 0 v0) fun _ =>
rc_bind (rp_X1_checkCats v0 v1 v2) fun _ =>
rc_bind (rc_getq 0 0 v0) fun x1 =>
rc_bind (rc_is 2 x1) fun _ =>
rc_bind (rp_X3_truceNights x1 v1 v2) fun x2 =>
rc_pure x2
def rp_X1_reachable (v0 : Option Nat) (v1 : Int32) : rc_M Int32 :=
rc_bind (rc_getq 0 0 v0) fun x1 =>
rc_bind (rc_is 0 v0) fun _ =>
rc_bind (rp_X1_cat v0 v1) fun x2 =>
rc_bind (rc_is 2 x1) fun _ =>
rc_bind (rp_X3_reachable x1 x2) fun x3 =>
rc_pure x3
def rp_X1_stepsTo (v0 : Option Nat) (v1 : Int32) (v2 : Int32) : rc_M Int32 :=
rc_bind (rc_is 0 v0) fun _ =>
rc_bind (rp_X1_cat v0 v1) fun x1 =>
rc_bind (rc_getq 0 0 v0) fun x2 =>
rc_bind (rc_is 0 v0) fun _ =>
rc_bind (rp_X1_chimney v0 v2) fun x3 =>
rc_bind (rc_is 2 x2) fun _ =>
rc_bind (rp_X3_stepsTo x2 v1 x3) fun x4 =>
rc_pure x4
def rp_X1_openGutters_L46 (k10 : Option Nat → Int32 → Int32 → Int32 → rc_M Int32) (v0 : Option Nat) (v1 : Int32) (v3 : Int32) (s0 : Int32) (s1 : Int32) : rc_M Int32 :=
k10 v0 v1 (s1 ||| s0) (v3 + (1 : Int32))
def rp_X1_openGutters_L10 : Nat → Option Nat → Int32 → Int32 → Int32 → rc_M Int32
  | 0, _, _, _, _ => rc_fail
  | n + 1, v0, v1, v2, v3 =>
    rc_bind (rc_getq 0 0 v0) fun x1 =>
    rc_bind (rc_getq 2 1 x1) fun x2 =>
    rc_bind (rc_is 12 x2) fun _ =>
    rc_bind (rp_J7_size x2) fun x3 =>
    (if x3 ≤ v3 then
    rc_pure v2
    else
    rc_bind (rc_getq 0 0 v0) fun x4 =>
    rc_bind (rc_is 2 x4) fun _ =>
    rc_bind (rp_X3_judgeStep x4 v1 v3) fun x5 =>
    (if x5 = 0 then
    rp_X1_openGutters_L46 (rp_X1_openGutters_L10  n) v0 v1 v3 ((1 : Int32) <<< (v3 &&& 31)) v2
    else
    rp_X1_openGutters_L46 (rp_X1_openGutters_L10  n) v0 v1 v3 (0 : Int32) v2))
def rp_X1_openGutters (v0 : Option Nat) (v1 : Int32) : rc_M Int32 :=
rc_bind (rc_is 0 v0) fun _ =>
rc_bind (rp_X1_cat v0 v1) fun x1 =>
rc_bind rc_fuel fun x2 =>
rp_X1_openGutters_L10 x2 v0 v1 (0 : Int32) (0 : Int32)
def rp_X1_preyOf_L51 (k10 : Option Nat → Int32 → Int32 → Int32 → rc_M Int32) (v0 : Option Nat) (v1 : Int32) (v3 : Int32) (s0 : Int32) (s1 : Int32) : rc_M Int32 :=
k10 v0 v1 (s1 ||| s0) (v3 + (1 : Int32))
def rp_X1_preyOf_L50 (k10 : Option Nat → Int32 → Int32 → Int32 → rc_M Int32) (v0 : Option Nat) (v1 : Int32) (v3 : Int32) (s0 : Int32) : rc_M Int32 :=
rp_X1_preyOf_L51 k10 v0 v1 v3 (0 : Int32) s0
def rp_X1_preyOf_L10 : Nat → Option Nat → Int32 → Int32 → Int32 → rc_M Int32
  | 0, _, _, _, _ => rc_fail
  | n + 1, v0, v1, v2, v3 =>
    rc_bind (rc_getq 0 0 v0) fun x1 =>
    rc_bind (rc_getq 2 2 x1) fun x2 =>
    rc_bind (rc_is 12 x2) fun _ =>
    rc_bind (rp_J7_size x2) fun x3 =>
    (if x3 ≤ v3 then
    rc_pure v2
    else
    (if v3 = v1 then
    rp_X1_preyOf_L50 (rp_X1_preyOf_L10  n) v0 v1 v3 v2
    else
    rc_bind (rc_getq 0 0 v0) fun x4 =>
    rc_bind (rc_is 2 x4) fun _ =>
    rc_bind (rp_X3_judgeChase x4 v1 v3) fun x5 =>
    (if x5 = 0 then
    rp_X1_preyOf_L51 (rp_X1_preyOf_L10  n) v0 v1 v3 ((1 : Int32) <<< (v3 &&& 31)) v2
    else
    rp_X1_preyOf_L50 (rp_X1_preyOf_L10  n) v0 v1 v3 v2)))
def rp_X1_preyOf (v0 : Option Nat) (v1 : Int32) : rc_M Int32 :=
rc_bind (rc_is 0 v0) fun _ =>
rc_bind (rp_X1_cat v0 v1) fun x1 =>
rc_bind rc_fuel fun x2 =>
rp_X1_preyOf_L10 x2 v0 v1 (0 : Int32) (0 : Int32)
def rp_X1_hasVoted (v0 : Option Nat) (v1 : Int32) : rc_M Int32 :=
rc_bind (rc_is 0 v0) fun _ =>
rc_bind (rp_X1_cat v0 v1) fun x1 =>
rc_bind (rc_getq 0 0 v0) fun x2 =>
rc_bind (rc_getq 2 4 x2) fun x3 =>
(if x3 = none then
rc_pure (0 : Int32)
else
rc_bind (rc_getq 0 0 v0) fun x4 =>
rc_bind (rc_getq 2 4 x4) fun x5 =>
rc_bind (rc_is 7 x5) fun _ =>
rc_bind (rp_X8_hasVote x5 v1) fun x6 =>
(if x6 = 0 then
rc_pure (0 : Int32)
else
rc_pure (1 : Int32)))
def rp_X1_choirOf (v0 : Option Nat) (v1 : Int32) : rc_M Int32 :=
rc_bind (rc_getq 0 0 v0) fun x1 =>
rc_bind (rc_is 0 v0) fun _ =>
rc_bind (rp_X1_cat v0 v1) fun x2 =>
rc_bind (rc_is 2 x1) fun _ =>
rc_bind (rp_X3_choir x1 x2) fun x3 =>
rc_pure x3
def rp_X1_fishAfter_L24 : Nat → Int32 → Int32 → Option Nat → Int32 → rc_M Int32
  | 0, _, _, _, _ => rc_fail
  | n + 1, v1, v2, v3, v4 =>
    (if v2 ≤ v4 then
    rc_bind (rc_getq 2 2 v3) fun x1 =>
    rc_bind (rc_is 12 x1) fun _ =>
    rc_bind (rp_J7_get x1 v1) fun x2 =>
    rc_bind (rc_castM 6 x2) fun _ =>
    rc_bind (rc_geti 6 3 x2) fun x3 =>
    rc_pure x3
    else
    rc_bind (rc_is 2 v3) fun _ =>
    rc_bind (rp_X3_passNight v3) fun _ =>
    rp_X1_fishAfter_L24 n v1 v2 v3 (v4 + (1 : Int32)))
def rp_X1_fishAfter (v0 : Option Nat) (v1 : Int32) (v2 : Int32) : rc_M Int32 :=
rc_bind (rc_is 0 v0) fun _ =>
rc_bind (rp_X1_cat v0 v1) fun x1 =>
rc_bind (rp_X1_checkRange v2 (0 : Int32) (30 : Int32)) fun _ =>
rc_bind (rc_getq 0 0 v0) fun x2 =>
rc_bind (rc_is 2 x2) fun _ =>
rc_bind (rp_X3_copy x2) fun x3 =>
rc_bind rc_fuel fun x4 =>
rp_X1_fishAfter_L24 x4 v1 v2 x3 (0 : Int32)
def rp_X9_tell_L2 : Nat → Option Nat → Int32 → rc_M Unit
  | 0, _, _ => rc_fail
  | n + 1, v1, v2 =>
    rc_bind (rc_is 11 v1) fun _ =>
    rc_bind (rp_J4_length v1) fun x1 =>
    (if x1 ≤ v2 then
    rc_pure ()
    else
    rc_bind (rc_mget 11) fun x3 =>
    rc_bind (rc_is 11 v1) fun _ =>
    rc_bind (rp_J4_charAt v1 v2) fun x4 =>
    rc_bind (rc_mast 8 x3 x4) fun _ =>
    rc_bind (rc_mget 11) fun x5 =>
    rc_bind (rc_mput 11 .int (x5 + (1 : Int32))) fun _ =>
    rp_X9_tell_L2 n v1 (v2 + (1 : Int32)))
def rp_X9_tell (v1 : Option Nat) : rc_M Unit :=
rc_bind rc_fuel fun x1 =>
rp_X9_tell_L2 x1 v1 (0 : Int32)
def rp_X9_sortOf_L42 (v0 : Int32) : rc_M Int32 :=
(if v0 = (40 : Int32) then
rc_pure (4 : Int32)
else
(if v0 = (41 : Int32) then
rc_pure (5 : Int32)
else
rc_pure (6 : Int32)))
def rp_X9_sortOf_L26 (v0 : Int32) : rc_M Int32 :=
(if v0 < (48 : Int32) then
rp_X9_sortOf_L42 v0
else
(if (57 : Int32) < v0 then
rp_X9_sortOf_L42 v0
else
rc_pure (3 : Int32)))
def rp_X9_sortOf (v0 : Int32) : rc_M Int32 :=
(if v0 = (59 : Int32) then
rc_pure (1 : Int32)
else
(if v0 < (97 : Int32) then
rp_X9_sortOf_L26 v0
else
(if (122 : Int32) < v0 then
rp_X9_sortOf_L26 v0
else
rc_pure (2 : Int32))))
def rp_X9_next_L47 (k8 : rc_M Unit) : rc_M Unit :=
rc_bind (rc_mget 18) fun x1 =>
rc_bind (rc_mput 18 .int (x1 + (1 : Int32))) fun _ =>
k8 
def rp_X9_next_L207 : Nat → Int32 → rc_M Unit
  | 0, _ => rc_fail
  | n + 1, v1 =>
    rc_bind (rc_mget 19) fun x1 =>
    (if x1 ≤ v1 then
    rc_pure ()
    else
    rc_bind (rc_mget 17) fun x2 =>
    (if x2 = (3 : Int32) then
    rc_bind (rc_mget 20) fun x3 =>
    rc_bind (rc_mald 8 v1) fun x5 =>
    rc_bind (rc_mput 20 .int ((((10 : Int32) * x3) + x5) - (48 : Int32))) fun _ =>
    rp_X9_next_L207 n (v1 + (1 : Int32))
    else
    rc_pure ()))
def rp_X9_next_L197 : rc_M Unit :=
rc_bind (rc_mput 20 .int (0 : Int32)) fun _ =>
rc_bind (rc_mget 18) fun x1 =>
rc_bind rc_fuel fun x2 =>
rp_X9_next_L207 x2 x1
def rp_X9_next_L170 : rc_M Unit :=
rc_bind (rc_mget 17) fun x1 =>
(if x1 = (3 : Int32) then
rc_bind (rc_mget 19) fun x2 =>
rc_bind (rc_mget 18) fun x3 =>
(if (x2 - x3) ≤ (3 : Int32) then
rp_X9_next_L197
else
rc_bind (rc_mput 17 .int (6 : Int32)) fun _ =>
rp_X9_next_L197)
else
rp_X9_next_L197)
def rp_X9_next_L127 (k111 : rc_M Unit) : rc_M Unit :=
rc_bind (rc_mget 19) fun x1 =>
rc_bind (rc_mget 11) fun x2 =>
(if x2 ≤ x1 then
rp_X9_next_L170
else
rc_bind (rc_mget 19) fun x4 =>
rc_bind (rc_mald 8 x4) fun x5 =>
rc_bind (rp_X9_sortOf x5) fun x6 =>
rc_bind (rc_mget 17) fun x7 =>
(if x6 = x7 then
rc_bind (rc_mget 19) fun x8 =>
rc_bind (rc_mput 19 .int (x8 + (1 : Int32))) fun _ =>
k111 
else
rp_X9_next_L170))
def rp_X9_next_L111 : Nat → rc_M Unit
  | 0 => rc_fail
  | n + 1 =>
    rc_bind (rc_mget 17) fun x1 =>
    (if x1 = (2 : Int32) then
    rp_X9_next_L127 (rp_X9_next_L111  n)
    else
    rc_bind (rc_mget 17) fun x2 =>
    (if x2 = (3 : Int32) then
    rp_X9_next_L127 (rp_X9_next_L111  n)
    else
    rp_X9_next_L170))
def rp_X9_next_L60 : rc_M Unit :=
rc_bind (rc_mget 18) fun x1 =>
rc_bind (rc_mput 19 .int x1) fun _ =>
rc_bind (rc_mget 18) fun x2 =>
rc_bind (rc_mget 11) fun x3 =>
(if x2 = x3 then
rc_bind (rc_mput 17 .int (0 : Int32)) fun _ =>
rc_pure ()
else
rc_bind (rc_mget 18) fun x5 =>
rc_bind (rc_mald 8 x5) fun x6 =>
rc_bind (rp_X9_sortOf x6) fun x7 =>
rc_bind (rc_mput 17 .int x7) fun _ =>
rc_bind (rc_mget 19) fun x8 =>
rc_bind (rc_mput 19 .int (x8 + (1 : Int32))) fun _ =>
rc_bind rc_fuel fun x9 =>
rp_X9_next_L111 x9)
def rp_X9_next_L8 : Nat → rc_M Unit
  | 0 => rc_fail
  | n + 1 =>
    rc_bind (rc_mget 18) fun x1 =>
    rc_bind (rc_mget 11) fun x2 =>
    (if x2 ≤ x1 then
    rp_X9_next_L60
    else
    rc_bind (rc_mget 18) fun x4 =>
    rc_bind (rc_mald 8 x4) fun x5 =>
    (if x5 = (32 : Int32) then
    rp_X9_next_L47 (rp_X9_next_L8  n)
    else
    rc_bind (rc_mget 18) fun x7 =>
    rc_bind (rc_mald 8 x7) fun x8 =>
    (if x8 = (10 : Int32) then
    rp_X9_next_L47 (rp_X9_next_L8  n)
    else
    rp_X9_next_L60)))
def rp_X9_next : rc_M Unit :=
rc_bind (rc_mget 19) fun x1 =>
rc_bind (rc_mput 18 .int x1) fun _ =>
rc_bind rc_fuel fun x2 =>
rp_X9_next_L8 x2
def rp_X9_says_L28 : Nat → Option Nat → Int32 → rc_M Int32
  | 0, _, _ => rc_fail
  | n + 1, v1, v2 =>
    rc_bind (rc_is 11 v1) fun _ =>
    rc_bind (rp_J4_length v1) fun x1 =>
    (if x1 ≤ v2 then
    rc_pure (1 : Int32)
    else
    rc_bind (rc_mget 18) fun x3 =>
    rc_bind (rc_mald 8 (x3 + v2)) fun x4 =>
    rc_bind (rc_is 11 v1) fun _ =>
    rc_bind (rp_J4_charAt v1 v2) fun x5 =>
    (if x4 = x5 then
    rp_X9_says_L28 n v1 (v2 + (1 : Int32))
    else
    rc_pure (0 : Int32)))
def rp_X9_says (v1 : Option Nat) : rc_M Int32 :=
rc_bind (rc_mget 17) fun x1 =>
(if x1 = (2 : Int32) then
rc_bind (rc_mget 19) fun x2 =>
rc_bind (rc_mget 18) fun x3 =>
rc_bind (rc_is 11 v1) fun _ =>
rc_bind (rp_J4_length v1) fun x4 =>
(if (x2 - x3) = x4 then
rc_bind rc_fuel fun x5 =>
rp_X9_says_L28 x5 v1 (0 : Int32)
else
rc_pure (0 : Int32))
else
rc_pure (0 : Int32))
def rp_X9_fail (v1 : Int32) : rc_M Int32 :=
rc_bind (rc_mget 12) fun x1 =>
(if x1 = 0 then
rc_bind (rc_mput 12 .int v1) fun _ =>
rc_bind (rc_mget 18) fun x2 =>
rc_bind (rc_mput 13 .int x2) fun _ =>
rc_pure (0 : Int32)
else
rc_pure (0 : Int32))
def rp_X9_is_L16 : rc_M Int32 :=
rc_pure (1 : Int32)
def rp_X9_is (v1 : Int32) : rc_M Int32 :=
rc_bind (rc_mget 17) fun x1 =>
(if x1 = v1 then
rp_X9_is_L16
else
rc_bind (rp_X9_fail (1 : Int32)) fun x2 =>
(if x2 = 0 then
rc_pure (0 : Int32)
else
rp_X9_is_L16))
def rp_X9_laterWord : rc_M Int32 :=
rc_bind (rc_text 37) fun x1 =>
rc_bind (rp_X9_says x1) fun x2 =>
(if x2 = 0 then
rc_bind (rc_text 38) fun x3 =>
rc_bind (rp_X9_says x3) fun x4 =>
(if x4 = 0 then
rc_bind (rc_text 39) fun x5 =>
rc_bind (rp_X9_says x5) fun x6 =>
(if x6 = 0 then
rc_bind (rc_text 40) fun x7 =>
rc_bind (rp_X9_says x7) fun x8 =>
(if x8 = 0 then
rc_bind (rc_text 41) fun x9 =>
rc_bind (rp_X9_says x9) fun x10 =>
(if x10 = 0 then
rc_bind (rc_text 42) fun x11 =>
rc_bind (rp_X9_says x11) fun x12 =>
(if x12 = 0 then
rc_bind (rc_text 43) fun x13 =>
rc_bind (rp_X9_says x13) fun x14 =>
(if x14 = 0 then
rc_pure (-1 : Int32)
else
rc_pure (12 : Int32))
else
rc_pure (11 : Int32))
else
rc_pure (10 : Int32))
else
rc_pure (9 : Int32))
else
rc_pure (8 : Int32))
else
rc_pure (7 : Int32))
else
rc_pure (6 : Int32))
def rp_X9_wordAhead : rc_M Int32 :=
rc_bind (rc_text 31) fun x1 =>
rc_bind (rp_X9_says x1) fun x2 =>
(if x2 = 0 then
rc_bind (rc_text 32) fun x3 =>
rc_bind (rp_X9_says x3) fun x4 =>
(if x4 = 0 then
rc_bind (rc_text 33) fun x5 =>
rc_bind (rp_X9_says x5) fun x6 =>
(if x6 = 0 then
rc_bind (rc_text 34) fun x7 =>
rc_bind (rp_X9_says x7) fun x8 =>
(if x8 = 0 then
rc_bind (rc_text 35) fun x9 =>
rc_bind (rp_X9_says x9) fun x10 =>
(if x10 = 0 then
rc_bind (rc_text 36) fun x11 =>
rc_bind (rp_X9_says x11) fun x12 =>
(if x12 = 0 then
rc_bind (rp_X9_laterWord) fun x13 =>
rc_pure x13
else
rc_pure (5 : Int32))
else
rc_pure (4 : Int32))
else
rc_pure (3 : Int32))
else
rc_pure (2 : Int32))
else
rc_pure (1 : Int32))
else
rc_pure (0 : Int32))
def rp_X9_in (v0 : Int32) (v1 : Int32) (v2 : Int32) : rc_M Int32 :=
(if v0 < v1 then
rc_pure (0 : Int32)
else
(if v2 < v0 then
rc_pure (0 : Int32)
else
rc_pure (1 : Int32)))
def rp_X9_number (v1 : Int32) (v2 : Int32) (v3 : Int32) : rc_M Int32 :=
rc_bind (rp_X9_is (3 : Int32)) fun x1 =>
(if x1 = 0 then
rc_pure (0 : Int32)
else
rc_bind (rc_mget 20) fun x2 =>
rc_bind (rp_X9_in x2 v2 v3) fun x3 =>
(if x3 = 0 then
rc_bind (rp_X9_fail (2 : Int32)) fun x6 =>
rc_bind (rc_narM .boolean x6) fun _ =>
rc_pure x6
else
rc_bind (rc_mget 20) fun x5 =>
rc_bind (rc_mast 22 v1 x5) fun _ =>
rc_bind (rp_X9_next) fun _ =>
rc_pure (1 : Int32)))
def rp_X9_stops_L20 : rc_M Int32 :=
rc_pure (1 : Int32)
def rp_X9_stops (v1 : Int32) : rc_M Int32 :=
rc_bind (rp_X9_is (1 : Int32)) fun x1 =>
(if x1 = 0 then
rc_pure (0 : Int32)
else
(if v1 = 0 then
rc_bind (rp_X9_fail (3 : Int32)) fun x2 =>
(if x2 = 0 then
rc_pure (0 : Int32)
else
rp_X9_stops_L20)
else
rp_X9_stops_L20))
def rp_X9_builds (v1 : Int32) : rc_M Int32 :=
rc_bind (rc_mald 0 (0 : Int32)) fun x3 =>
rc_bind (rc_mast 0 ((10 : Int32) + x3) v1) fun _ =>
rc_bind (rc_mald 0 (0 : Int32)) fun x6 =>
rc_bind (rc_mast 0 ((20 : Int32) + x6) (-1 : Int32)) fun _ =>
rc_bind (rc_mald 0 (0 : Int32)) fun x8 =>
rc_bind (rc_mast 0 (0 : Int32) (x8 + (1 : Int32))) fun _ =>
rc_bind (rc_mald 0 (0 : Int32)) fun x10 =>
rc_pure (x10 - (1 : Int32))
def rp_X9_readsChimney_L28 (s0 : Int32) : rc_M Int32 :=
rc_bind (rp_X9_stops s0) fun x1 =>
(if x1 = 0 then
rc_pure (0 : Int32)
else
rc_bind (rc_mald 22 (0 : Int32)) fun x3 =>
rc_bind (rp_X9_builds x3) fun x4 =>
rc_pure (1 : Int32))
def rp_X9_readsChimney : rc_M Int32 :=
rc_bind (rp_X9_number (0 : Int32) (0 : Int32) (9 : Int32)) fun x1 =>
(if x1 = 0 then
rc_pure (0 : Int32)
else
rc_bind (rc_mald 0 (0 : Int32)) fun x3 =>
(if (10 : Int32) ≤ x3 then
rp_X9_readsChimney_L28 (0 : Int32)
else
rp_X9_readsChimney_L28 (1 : Int32)))
def rp_X9_chimneyAt (v1 : Int32) : rc_M Int32 :=
rc_bind (rc_mald 0 (0 : Int32)) fun x2 =>
rc_bind (rp_X9_number v1 (0 : Int32) (x2 - (1 : Int32))) fun x3 =>
rc_bind (rc_narM .boolean x3) fun _ =>
rc_pure x3
def rp_X9_another_L29 (v1 : Int32) : rc_M Int32 :=
rc_bind (rp_X9_number (1 : Int32) (0 : Int32) v1) fun x1 =>
rc_bind (rc_narM .boolean x1) fun _ =>
rc_pure x1
def rp_X9_another (v1 : Int32) : rc_M Int32 :=
rc_bind (rc_mget 17) fun x1 =>
(if x1 = (3 : Int32) then
rc_bind (rc_mget 20) fun x2 =>
rc_bind (rc_mald 22 (0 : Int32)) fun x4 =>
(if x2 = x4 then
rc_bind (rp_X9_fail (2 : Int32)) fun x5 =>
rc_bind (rc_narM .boolean x5) fun _ =>
rc_pure x5
else
rp_X9_another_L29 v1)
else
rp_X9_another_L29 v1)
def rp_X9_lays (v1 : Int32) (v2 : Int32) (v3 : Int32) : rc_M Int32 :=
rc_bind (rc_mald 0 (1 : Int32)) fun x2 =>
rc_bind (rc_mast 0 (((30 : Int32) + ((3 : Int32) * x2)) + (0 : Int32)) v1) fun _ =>
rc_bind (rc_mast 0 (((30 : Int32) + ((3 : Int32) * x2)) + (1 : Int32)) v2) fun _ =>
rc_bind (rc_mast 0 (((30 : Int32) + ((3 : Int32) * x2)) + (2 : Int32)) v3) fun _ =>
rc_bind (rc_mald 0 (1 : Int32)) fun x7 =>
rc_bind (rc_mast 0 (1 : Int32) (x7 + (1 : Int32))) fun _ =>
rc_bind (rc_mald 0 (1 : Int32)) fun x9 =>
rc_pure (x9 - (1 : Int32))
def rp_X9_readsGutter_L51 (s0 : Int32) : rc_M Int32 :=
rc_bind (rp_X9_stops s0) fun x1 =>
(if x1 = 0 then
rc_pure (0 : Int32)
else
rc_bind (rc_mald 22 (0 : Int32)) fun x3 =>
rc_bind (rc_mald 22 (1 : Int32)) fun x5 =>
rc_bind (rc_mald 22 (2 : Int32)) fun x7 =>
rc_bind (rp_X9_lays x3 x5 x7) fun x8 =>
rc_pure (1 : Int32))
def rp_X9_readsGutter : rc_M Int32 :=
rc_bind (rp_X9_chimneyAt (0 : Int32)) fun x1 =>
(if x1 = 0 then
rc_pure (0 : Int32)
else
rc_bind (rc_mald 0 (0 : Int32)) fun x3 =>
rc_bind (rp_X9_another (x3 - (1 : Int32))) fun x4 =>
(if x4 = 0 then
rc_pure (0 : Int32)
else
rc_bind (rp_X9_number (2 : Int32) (1 : Int32) (9 : Int32)) fun x5 =>
(if x5 = 0 then
rc_pure (0 : Int32)
else
rc_bind (rc_mald 0 (1 : Int32)) fun x7 =>
(if (20 : Int32) ≤ x7 then
rp_X9_readsGutter_L51 (0 : Int32)
else
rp_X9_readsGutter_L51 (1 : Int32)))))
def rp_X9_sizesAt (v1 : Int32) : rc_M Int32 :=
rc_bind (rp_X9_number v1 (1 : Int32) (9 : Int32)) fun x1 =>
(if x1 = 0 then
rc_pure (0 : Int32)
else
rc_bind (rp_X9_number (v1 + (1 : Int32)) (1 : Int32) (9 : Int32)) fun x2 =>
(if x2 = 0 then
rc_pure (0 : Int32)
else
rc_pure (1 : Int32)))
def rp_X9_of (v1 : Int32) (v2 : Int32) : rc_M Int32 :=
rc_bind (rc_mald 0 (((90 : Int32) + ((4 : Int32) * v1)) + v2)) fun x2 =>
rc_pure x2
def rp_X9_sitter_L2 : Nat → Int32 → Int32 → rc_M Int32
  | 0, _, _ => rc_fail
  | n + 1, v1, v2 =>
    rc_bind (rc_mald 0 (2 : Int32)) fun x2 =>
    (if x2 ≤ v2 then
    rc_pure (-1 : Int32)
    else
    rc_bind (rp_X9_of v2 (3 : Int32)) fun x3 =>
    (if x3 = v1 then
    rc_pure v2
    else
    rp_X9_sitter_L2 n v1 (v2 + (1 : Int32))))
def rp_X9_sitter (v1 : Int32) : rc_M Int32 :=
rc_bind rc_fuel fun x1 =>
rp_X9_sitter_L2 x1 v1 (0 : Int32)
def rp_X9_canEnter (v1 : Int32) : rc_M Int32 :=
rc_bind (rc_mald 0 (2 : Int32)) fun x2 =>
(if (8 : Int32) ≤ x2 then
rc_pure (0 : Int32)
else
rc_bind (rp_X9_sitter v1) fun x3 =>
(if x3 = (-1 : Int32) then
rc_pure (1 : Int32)
else
rc_pure (0 : Int32)))
def rp_X9_to (v1 : Int32) (v2 : Int32) (v3 : Int32) : rc_M Unit :=
rc_bind (rc_mast 0 (((90 : Int32) + ((4 : Int32) * v1)) + v2) v3) fun _ =>
rc_pure ()
def rp_X9_enters (v1 : Int32) (v2 : Int32) (v3 : Int32) : rc_M Int32 :=
rc_bind (rc_mald 0 (2 : Int32)) fun x2 =>
rc_bind (rc_mald 0 (2 : Int32)) fun x4 =>
rc_bind (rc_mast 0 (2 : Int32) (x4 + (1 : Int32))) fun _ =>
rc_bind (rp_X9_to x2 (0 : Int32) v2) fun _ =>
rc_bind (rp_X9_to x2 (1 : Int32) v3) fun _ =>
rc_bind (rp_X9_to x2 (2 : Int32) (5 : Int32)) fun _ =>
rc_bind (rp_X9_to x2 (3 : Int32) v1) fun _ =>
rc_pure x2
def rp_X9_readsCat : rc_M Int32 :=
rc_bind (rp_X9_chimneyAt (0 : Int32)) fun x1 =>
(if x1 = 0 then
rc_pure (0 : Int32)
else
rc_bind (rp_X9_sizesAt (1 : Int32)) fun x2 =>
(if x2 = 0 then
rc_pure (0 : Int32)
else
rc_bind (rc_mald 22 (0 : Int32)) fun x4 =>
rc_bind (rp_X9_canEnter x4) fun x5 =>
rc_bind (rp_X9_stops x5) fun x6 =>
(if x6 = 0 then
rc_pure (0 : Int32)
else
rc_bind (rc_mald 22 (0 : Int32)) fun x8 =>
rc_bind (rc_mald 22 (1 : Int32)) fun x10 =>
rc_bind (rc_mald 22 (2 : Int32)) fun x12 =>
rc_bind (rp_X9_enters x8 x10 x12) fun x13 =>
rc_pure (1 : Int32))))
def rp_X9_catAt (v1 : Int32) : rc_M Int32 :=
rc_bind (rc_mald 0 (2 : Int32)) fun x2 =>
rc_bind (rp_X9_number v1 (0 : Int32) (x2 - (1 : Int32))) fun x3 =>
rc_bind (rc_narM .boolean x3) fun _ =>
rc_pure x3
def rp_X9_gutter (v1 : Int32) (v2 : Int32) : rc_M Int32 :=
rc_bind (rc_mald 0 (((30 : Int32) + ((3 : Int32) * v1)) + v2)) fun x2 =>
rc_pure x2
def rp_X9_across (v1 : Int32) (v2 : Int32) : rc_M Int32 :=
rc_bind (rp_X9_gutter v1 (0 : Int32)) fun x1 =>
(if x1 = v2 then
rc_bind (rp_X9_gutter v1 (1 : Int32)) fun x4 =>
rc_pure x4
else
rc_bind (rp_X9_gutter v1 (1 : Int32)) fun x2 =>
(if x2 = v2 then
rc_bind (rp_X9_gutter v1 (0 : Int32)) fun x3 =>
rc_pure x3
else
rc_pure (-1 : Int32)))
def rp_X9_owner (v1 : Int32) : rc_M Int32 :=
rc_bind (rc_mald 0 ((20 : Int32) + v1)) fun x2 =>
rc_pure x2
def rp_X9_truceLeft (v1 : Int32) (v2 : Int32) : rc_M Int32 :=
rc_bind (rc_mald 0 (((122 : Int32) + ((8 : Int32) * v1)) + v2)) fun x2 =>
rc_bind (rc_mald 0 (3 : Int32)) fun x4 =>
rc_bind (rp_J17_max (0 : Int32) (x2 - x4)) fun x5 =>
rc_pure x5
def rp_X9_whyNotIn_L18 (v1 : Int32) (v2 : Int32) : rc_M Int32 :=
rc_bind (rp_X9_owner v2) fun x1 =>
(if x1 = (-1 : Int32) then
rc_pure (0 : Int32)
else
(if x1 = v1 then
rc_pure (0 : Int32)
else
rc_bind (rp_X9_truceLeft v1 x1) fun x2 =>
(if x2 = 0 then
rc_pure (4 : Int32)
else
rc_pure (0 : Int32))))
def rp_X9_whyNotIn (v1 : Int32) (v2 : Int32) : rc_M Int32 :=
rc_bind (rp_X9_sitter v2) fun x1 =>
(if x1 = (-1 : Int32) then
rp_X9_whyNotIn_L18 v1 v2
else
(if x1 = v1 then
rp_X9_whyNotIn_L18 v1 v2
else
rc_pure (3 : Int32)))
def rp_X9_whyStays (v1 : Int32) (v2 : Int32) : rc_M Int32 :=
rc_bind (rp_X9_of v1 (3 : Int32)) fun x1 =>
rc_bind (rp_X9_across v2 x1) fun x2 =>
(if x2 = (-1 : Int32) then
rc_pure (1 : Int32)
else
rc_bind (rp_X9_gutter v2 (2 : Int32)) fun x3 =>
rc_bind (rp_X9_of v1 (0 : Int32)) fun x4 =>
(if x4 ≤ x3 then
rc_bind (rp_X9_whyNotIn v1 x2) fun x5 =>
rc_pure x5
else
rc_pure (2 : Int32)))
def rp_X9_goes (v1 : Int32) (v2 : Int32) : rc_M Int32 :=
rc_bind (rp_X9_of v1 (3 : Int32)) fun x1 =>
rc_bind (rp_X9_across v2 x1) fun x2 =>
rc_bind (rp_X9_to v1 (3 : Int32) x2) fun _ =>
rc_bind (rp_X9_of v1 (3 : Int32)) fun x3 =>
rc_pure x3
def rp_X9_readsStep_L50 (s0 : Int32) : rc_M Int32 :=
rc_bind (rp_X9_stops s0) fun x1 =>
(if x1 = 0 then
rc_pure (0 : Int32)
else
rc_bind (rc_mald 22 (0 : Int32)) fun x3 =>
rc_bind (rc_mald 22 (1 : Int32)) fun x5 =>
rc_bind (rp_X9_goes x3 x5) fun x6 =>
rc_pure (1 : Int32))
def rp_X9_readsStep : rc_M Int32 :=
rc_bind (rp_X9_catAt (0 : Int32)) fun x1 =>
(if x1 = 0 then
rc_pure (0 : Int32)
else
rc_bind (rc_mald 0 (1 : Int32)) fun x3 =>
rc_bind (rp_X9_number (1 : Int32) (0 : Int32) (x3 - (1 : Int32))) fun x4 =>
(if x4 = 0 then
rc_pure (0 : Int32)
else
rc_bind (rc_mald 22 (0 : Int32)) fun x6 =>
rc_bind (rc_mald 22 (1 : Int32)) fun x8 =>
rc_bind (rp_X9_whyStays x6 x8) fun x9 =>
(if x9 = 0 then
rp_X9_readsStep_L50 (1 : Int32)
else
rp_X9_readsStep_L50 (0 : Int32))))
def rp_X9_owns_L29 (k4 : Int32 → Int32 → Int32 → rc_M Int32) (v1 : Int32) (v3 : Int32) (s0 : Int32) (s1 : Int32) : rc_M Int32 :=
k4 v1 (s1 + s0) (v3 + (1 : Int32))
def rp_X9_owns_L4 : Nat → Int32 → Int32 → Int32 → rc_M Int32
  | 0, _, _, _ => rc_fail
  | n + 1, v1, v2, v3 =>
    rc_bind (rc_mald 0 (0 : Int32)) fun x2 =>
    (if x2 ≤ v3 then
    rc_pure v2
    else
    rc_bind (rp_X9_owner v3) fun x3 =>
    (if x3 = v1 then
    rp_X9_owns_L29 (rp_X9_owns_L4  n) v1 v3 (1 : Int32) v2
    else
    rp_X9_owns_L29 (rp_X9_owns_L4  n) v1 v3 (0 : Int32) v2))
def rp_X9_owns (v1 : Int32) : rc_M Int32 :=
rc_bind rc_fuel fun x1 =>
rp_X9_owns_L4 x1 v1 (0 : Int32) (0 : Int32)
def rp_X9_whyLeaves (v1 : Int32) : rc_M Int32 :=
rc_bind (rp_X9_of v1 (3 : Int32)) fun x1 =>
rc_bind (rp_X9_owner x1) fun x2 =>
(if x2 = (-1 : Int32) then
rc_bind (rp_X9_owns v1) fun x3 =>
(if x3 = (4 : Int32) then
rc_pure (6 : Int32)
else
rc_pure (0 : Int32))
else
rc_pure (5 : Int32))
def rp_X9_claims (v1 : Int32) : rc_M Int32 :=
rc_bind (rp_X9_of v1 (3 : Int32)) fun x2 =>
rc_bind (rc_mast 0 ((20 : Int32) + x2) v1) fun _ =>
rc_bind (rp_X9_owns v1) fun x3 =>
rc_pure x3
def rp_X9_readsClaim_L27 (s0 : Int32) : rc_M Int32 :=
rc_bind (rp_X9_stops s0) fun x1 =>
(if x1 = 0 then
rc_pure (0 : Int32)
else
rc_bind (rc_mald 22 (0 : Int32)) fun x3 =>
rc_bind (rp_X9_claims x3) fun x4 =>
rc_pure (1 : Int32))
def rp_X9_readsClaim : rc_M Int32 :=
rc_bind (rp_X9_catAt (0 : Int32)) fun x1 =>
(if x1 = 0 then
rc_pure (0 : Int32)
else
rc_bind (rc_mald 22 (0 : Int32)) fun x3 =>
rc_bind (rp_X9_whyLeaves x3) fun x4 =>
(if x4 = 0 then
rp_X9_readsClaim_L27 (1 : Int32)
else
rp_X9_readsClaim_L27 (0 : Int32)))
def rp_X9_leaves (v1 : Int32) : rc_M Int32 :=
rc_bind (rp_X9_owner v1) fun x1 =>
rc_bind (rc_mast 0 ((20 : Int32) + v1) (-1 : Int32)) fun _ =>
rc_pure x1
def rp_X9_readsAbandon_L28 (s0 : Int32) : rc_M Int32 :=
rc_bind (rp_X9_stops s0) fun x1 =>
(if x1 = 0 then
rc_pure (0 : Int32)
else
rc_bind (rc_mald 22 (0 : Int32)) fun x3 =>
rc_bind (rp_X9_leaves x3) fun x4 =>
rc_pure (1 : Int32))
def rp_X9_readsAbandon : rc_M Int32 :=
rc_bind (rp_X9_chimneyAt (0 : Int32)) fun x1 =>
(if x1 = 0 then
rc_pure (0 : Int32)
else
rc_bind (rc_mald 22 (0 : Int32)) fun x3 =>
rc_bind (rp_X9_owner x3) fun x4 =>
(if x4 = (-1 : Int32) then
rp_X9_readsAbandon_L28 (0 : Int32)
else
rp_X9_readsAbandon_L28 (1 : Int32)))
def rp_X9_joins_L40 : rc_M Int32 :=
rc_pure (1 : Int32)
def rp_X9_joins_L20 (v1 : Int32) (v2 : Int32) (v3 : Int32) : rc_M Int32 :=
rc_bind (rp_X9_gutter v1 (0 : Int32)) fun x1 =>
(if x1 = v3 then
rc_bind (rp_X9_gutter v1 (1 : Int32)) fun x2 =>
(if x2 = v2 then
rp_X9_joins_L40
else
rc_pure (0 : Int32))
else
rc_pure (0 : Int32))
def rp_X9_joins (v1 : Int32) (v2 : Int32) (v3 : Int32) : rc_M Int32 :=
rc_bind (rp_X9_gutter v1 (0 : Int32)) fun x1 =>
(if x1 = v2 then
rc_bind (rp_X9_gutter v1 (1 : Int32)) fun x2 =>
(if x2 = v3 then
rp_X9_joins_L40
else
rp_X9_joins_L20 v1 v2 v3)
else
rp_X9_joins_L20 v1 v2 v3)
def rp_X9_widestBetween_L42 (k5 : Int32 → Int32 → Int32 → Int32 → rc_M Int32) (v1 : Int32) (v2 : Int32) (v4 : Int32) (s0 : Int32) : rc_M Int32 :=
k5 v1 v2 s0 (v4 + (1 : Int32))
def rp_X9_widestBetween_L5 : Nat → Int32 → Int32 → Int32 → Int32 → rc_M Int32
  | 0, _, _, _, _ => rc_fail
  | n + 1, v1, v2, v3, v4 =>
    rc_bind (rc_mald 0 (1 : Int32)) fun x2 =>
    (if x2 ≤ v4 then
    rc_pure v3
    else
    rc_bind (rp_X9_joins v4 v1 v2) fun x3 =>
    (if x3 = 0 then
    rp_X9_widestBetween_L42 (rp_X9_widestBetween_L5  n) v1 v2 v4 v3
    else
    rc_bind (rp_X9_gutter v4 (2 : Int32)) fun x4 =>
    rc_bind (rp_J17_max v3 x4) fun x5 =>
    rp_X9_widestBetween_L42 (rp_X9_widestBetween_L5  n) v1 v2 v4 x5))
def rp_X9_widestBetween (v1 : Int32) (v2 : Int32) : rc_M Int32 :=
rc_bind rc_fuel fun x1 =>
rp_X9_widestBetween_L5 x1 v1 v2 (0 : Int32) (0 : Int32)
def rp_X9_isHome (v1 : Int32) : rc_M Int32 :=
rc_bind (rp_X9_of v1 (3 : Int32)) fun x1 =>
rc_bind (rp_X9_owner x1) fun x2 =>
(if x2 = v1 then
rc_pure (1 : Int32)
else
rc_pure (0 : Int32))
def rp_X9_powerOf (v1 : Int32) : rc_M Int32 :=
rc_bind (rp_X9_of v1 (1 : Int32)) fun x1 =>
rc_bind (rp_X9_isHome v1) fun x2 =>
(if x2 = 0 then
rc_pure (x1 + (0 : Int32))
else
rc_pure (x1 + (2 : Int32)))
def rp_X9_whySpares (v1 : Int32) (v2 : Int32) : rc_M Int32 :=
rc_bind (rp_X9_of v1 (3 : Int32)) fun x1 =>
rc_bind (rp_X9_of v2 (3 : Int32)) fun x2 =>
rc_bind (rp_X9_widestBetween x1 x2) fun x3 =>
rc_bind (rp_X9_of v1 (0 : Int32)) fun x4 =>
(if x4 ≤ x3 then
rc_bind (rp_X9_truceLeft v1 v2) fun x5 =>
(if x5 ≤ 0 then
rc_bind (rp_X9_powerOf v1) fun x6 =>
rc_bind (rp_X9_powerOf v2) fun x7 =>
(if x7 < x6 then
rc_pure (0 : Int32)
else
rc_pure (9 : Int32))
else
rc_pure (8 : Int32))
else
rc_pure (7 : Int32))
def rp_X9_chases_L112 (v1 : Int32) (v4 : Int32) : rc_M Int32 :=
rc_bind (rp_X9_owner v4) fun x1 =>
(if x1 = v1 then
rc_pure (1 : Int32)
else
rc_pure (0 : Int32))
def rp_X9_chases_L49 (v1 : Int32) (v2 : Int32) (v3 : Int32) (v4 : Int32) : rc_M Int32 :=
rc_bind (rp_X9_to v1 (3 : Int32) v4) fun _ =>
rc_bind (rp_X9_to v2 (3 : Int32) v3) fun _ =>
rc_bind (rp_X9_of v2 (2 : Int32)) fun x1 =>
(if x1 ≤ 0 then
rp_X9_chases_L112 v1 v4
else
rc_bind (rp_X9_of v1 (2 : Int32)) fun x2 =>
(if (99 : Int32) ≤ x2 then
rp_X9_chases_L112 v1 v4
else
rc_bind (rp_X9_of v2 (2 : Int32)) fun x3 =>
rc_bind (rp_X9_to v2 (2 : Int32) (x3 - (1 : Int32))) fun _ =>
rc_bind (rp_X9_of v1 (2 : Int32)) fun x4 =>
rc_bind (rp_X9_to v1 (2 : Int32) (x4 + (1 : Int32))) fun _ =>
rp_X9_chases_L112 v1 v4))
def rp_X9_chases_L48 (v1 : Int32) (v2 : Int32) (v3 : Int32) (v4 : Int32) (s0 : Int32) (s1 : Int32) : rc_M Int32 :=
rc_bind (rc_mast 0 s1 s0) fun _ =>
rp_X9_chases_L49 v1 v2 v3 v4
def rp_X9_chases (v1 : Int32) (v2 : Int32) : rc_M Int32 :=
rc_bind (rp_X9_of v1 (3 : Int32)) fun x1 =>
rc_bind (rp_X9_of v2 (3 : Int32)) fun x2 =>
rc_bind (rp_X9_owner x2) fun x3 =>
(if x3 = v2 then
rc_bind (rp_X9_owns v1) fun x5 =>
(if (4 : Int32) ≤ x5 then
rp_X9_chases_L48 v1 v2 x1 x2 (-1 : Int32) ((20 : Int32) + x2)
else
rp_X9_chases_L48 v1 v2 x1 x2 v1 ((20 : Int32) + x2))
else
rp_X9_chases_L49 v1 v2 x1 x2)
def rp_X9_readsChase_L48 (s0 : Int32) : rc_M Int32 :=
rc_bind (rp_X9_stops s0) fun x1 =>
(if x1 = 0 then
rc_pure (0 : Int32)
else
rc_bind (rc_mald 22 (0 : Int32)) fun x3 =>
rc_bind (rc_mald 22 (1 : Int32)) fun x5 =>
rc_bind (rp_X9_chases x3 x5) fun x6 =>
rc_pure (1 : Int32))
def rp_X9_readsChase : rc_M Int32 :=
rc_bind (rp_X9_catAt (0 : Int32)) fun x1 =>
(if x1 = 0 then
rc_pure (0 : Int32)
else
rc_bind (rc_mald 0 (2 : Int32)) fun x3 =>
rc_bind (rp_X9_another (x3 - (1 : Int32))) fun x4 =>
(if x4 = 0 then
rc_pure (0 : Int32)
else
rc_bind (rc_mald 22 (0 : Int32)) fun x6 =>
rc_bind (rc_mald 22 (1 : Int32)) fun x8 =>
rc_bind (rp_X9_whySpares x6 x8) fun x9 =>
(if x9 = 0 then
rp_X9_readsChase_L48 (1 : Int32)
else
rp_X9_readsChase_L48 (0 : Int32))))
def rp_X9_canBuy (v1 : Int32) (v2 : Int32) (v3 : Int32) : rc_M Int32 :=
rc_bind (rp_X9_truceLeft v1 v2) fun x1 =>
(if x1 = 0 then
rc_bind (rp_X9_of v1 (2 : Int32)) fun x2 =>
(if x2 < v3 then
rc_pure (0 : Int32)
else
rc_bind (rp_X9_of v2 (2 : Int32)) fun x3 =>
(if (99 : Int32) < (x3 + v3) then
rc_pure (0 : Int32)
else
rc_pure (1 : Int32)))
else
rc_pure (0 : Int32))
def rp_X9_buys (v1 : Int32) (v2 : Int32) (v3 : Int32) (v4 : Int32) : rc_M Int32 :=
rc_bind (rp_X9_of v1 (2 : Int32)) fun x1 =>
rc_bind (rp_X9_to v1 (2 : Int32) (x1 - v3)) fun _ =>
rc_bind (rp_X9_of v2 (2 : Int32)) fun x2 =>
rc_bind (rp_X9_to v2 (2 : Int32) (x2 + v3)) fun _ =>
rc_bind (rc_mald 0 (3 : Int32)) fun x5 =>
rc_bind (rc_mast 0 (((122 : Int32) + ((8 : Int32) * v1)) + v2) (x5 + v4)) fun _ =>
rc_bind (rc_mald 0 (3 : Int32)) fun x8 =>
rc_bind (rc_mast 0 (((122 : Int32) + ((8 : Int32) * v2)) + v1) (x8 + v4)) fun _ =>
rc_bind (rc_mald 0 (3 : Int32)) fun x10 =>
rc_pure (x10 + v4)
def rp_X9_readsTruce : rc_M Int32 :=
rc_bind (rp_X9_catAt (0 : Int32)) fun x1 =>
(if x1 = 0 then
rc_pure (0 : Int32)
else
rc_bind (rc_mald 0 (2 : Int32)) fun x3 =>
rc_bind (rp_X9_another (x3 - (1 : Int32))) fun x4 =>
(if x4 = 0 then
rc_pure (0 : Int32)
else
rc_bind (rp_X9_number (2 : Int32) (1 : Int32) (9 : Int32)) fun x5 =>
(if x5 = 0 then
rc_pure (0 : Int32)
else
rc_bind (rp_X9_number (3 : Int32) (1 : Int32) (20 : Int32)) fun x6 =>
(if x6 = 0 then
rc_pure (0 : Int32)
else
rc_bind (rc_mald 22 (0 : Int32)) fun x8 =>
rc_bind (rc_mald 22 (1 : Int32)) fun x10 =>
rc_bind (rc_mald 22 (2 : Int32)) fun x12 =>
rc_bind (rp_X9_canBuy x8 x10 x12) fun x13 =>
rc_bind (rp_X9_stops x13) fun x14 =>
(if x14 = 0 then
rc_pure (0 : Int32)
else
rc_bind (rc_mald 22 (0 : Int32)) fun x16 =>
rc_bind (rc_mald 22 (1 : Int32)) fun x18 =>
rc_bind (rc_mald 22 (2 : Int32)) fun x20 =>
rc_bind (rc_mald 22 (3 : Int32)) fun x22 =>
rc_bind (rp_X9_buys x16 x18 x20 x22) fun x23 =>
rc_pure (1 : Int32))))))
def rp_X9_waits : rc_M Int32 :=
rc_bind (rc_mald 0 (4 : Int32)) fun x2 =>
(if x2 ≤ 0 then
rc_pure (0 : Int32)
else
rc_pure (1 : Int32))
def rp_X9_canNominate : rc_M Int32 :=
rc_bind (rp_X9_waits) fun x1 =>
(if x1 = 0 then
rc_bind (rc_mald 0 (2 : Int32)) fun x3 =>
(if x3 ≤ 0 then
rc_pure (0 : Int32)
else
rc_bind (rc_mald 0 (2 : Int32)) fun x5 =>
(if (8 : Int32) ≤ x5 then
rc_pure (0 : Int32)
else
rc_pure (1 : Int32)))
else
rc_pure (0 : Int32))
def rp_X9_nominates (v1 : Int32) (v2 : Int32) : rc_M Int32 :=
rc_bind (rc_mast 0 (4 : Int32) v1) fun _ =>
rc_bind (rc_mast 0 (5 : Int32) v2) fun _ =>
rc_bind (rc_mast 0 (6 : Int32) (0 : Int32)) fun _ =>
rc_bind (rc_mast 0 (7 : Int32) (0 : Int32)) fun _ =>
rc_bind (rc_mald 0 (2 : Int32)) fun x6 =>
rc_pure x6
def rp_X9_readsKitten : rc_M Int32 :=
rc_bind (rp_X9_sizesAt (0 : Int32)) fun x1 =>
(if x1 = 0 then
rc_pure (0 : Int32)
else
rc_bind (rp_X9_canNominate) fun x2 =>
rc_bind (rp_X9_stops x2) fun x3 =>
(if x3 = 0 then
rc_pure (0 : Int32)
else
rc_bind (rc_mald 22 (0 : Int32)) fun x5 =>
rc_bind (rc_mald 22 (1 : Int32)) fun x7 =>
rc_bind (rp_X9_nominates x5 x7) fun x8 =>
rc_pure (1 : Int32)))
def rp_X9_canVote (v1 : Int32) : rc_M Int32 :=
rc_bind (rp_X9_waits) fun x1 =>
(if x1 = 0 then
rc_pure (0 : Int32)
else
rc_bind (rc_mald 0 (6 : Int32)) fun x3 =>
(if ((x3 >>> (v1 &&& 31)) &&& (1 : Int32)) = 0 then
rc_pure (1 : Int32)
else
rc_pure (0 : Int32)))
def rp_X9_warmestPlace_L51 (k4 : Int32 → Int32 → rc_M Int32) (v1 : Int32) (v2 : Int32) : rc_M Int32 :=
k4 v1 (v2 + (1 : Int32))
def rp_X9_warmestPlace_L49 (k4 : Int32 → Int32 → rc_M Int32) (v2 : Int32) : rc_M Int32 :=
rp_X9_warmestPlace_L51 k4 v2 v2
def rp_X9_warmestPlace_L4 : Nat → Int32 → Int32 → rc_M Int32
  | 0, _, _ => rc_fail
  | n + 1, v1, v2 =>
    rc_bind (rc_mald 0 (0 : Int32)) fun x2 =>
    (if x2 ≤ v2 then
    rc_pure v1
    else
    rc_bind (rp_X9_sitter v2) fun x3 =>
    (if x3 = (-1 : Int32) then
    (if v1 = (-1 : Int32) then
    rp_X9_warmestPlace_L49 (rp_X9_warmestPlace_L4  n) v2
    else
    rc_bind (rc_mald 0 ((10 : Int32) + v2)) fun x5 =>
    rc_bind (rc_mald 0 ((10 : Int32) + v1)) fun x7 =>
    (if x5 ≤ x7 then
    rp_X9_warmestPlace_L51 (rp_X9_warmestPlace_L4  n) v1 v2
    else
    rp_X9_warmestPlace_L49 (rp_X9_warmestPlace_L4  n) v2))
    else
    rp_X9_warmestPlace_L51 (rp_X9_warmestPlace_L4  n) v1 v2))
def rp_X9_warmestPlace : rc_M Int32 :=
rc_bind rc_fuel fun x1 =>
rp_X9_warmestPlace_L4 x1 (-1 : Int32) (0 : Int32)
def rp_X9_bits_L4 : Nat → Int32 → Int32 → rc_M Int32
  | 0, _, _ => rc_fail
  | n + 1, v1, v2 =>
    (if v2 ≤ 0 then
    rc_pure v1
    else
    rp_X9_bits_L4 n (v1 + (v2 - v2 / (2 : Int32) * (2 : Int32))) (v2 / (2 : Int32)))
def rp_X9_bits (v0 : Int32) : rc_M Int32 :=
rc_bind rc_fuel fun x1 =>
rp_X9_bits_L4 x1 (0 : Int32) v0
def rp_X9_decides_L74 (v2 : Int32) : rc_M Int32 :=
rc_bind (rc_mast 0 (4 : Int32) (0 : Int32)) fun _ =>
rc_bind (rc_mast 0 (5 : Int32) (0 : Int32)) fun _ =>
rc_bind (rc_mast 0 (6 : Int32) (0 : Int32)) fun _ =>
rc_bind (rc_mast 0 (7 : Int32) (0 : Int32)) fun _ =>
rc_bind (rc_narM .boolean v2) fun _ =>
rc_pure v2
def rp_X9_decides_L51 (v1 : Int32) (s0 : Int32) : rc_M Int32 :=
(if s0 = 0 then
rp_X9_decides_L74 s0
else
rc_bind (rc_mald 0 (4 : Int32)) fun x2 =>
rc_bind (rc_mald 0 (5 : Int32)) fun x4 =>
rc_bind (rp_X9_enters v1 x2 x4) fun x5 =>
rp_X9_decides_L74 s0)
def rp_X9_decides_L50 (v1 : Int32) : rc_M Int32 :=
rp_X9_decides_L51 v1 (0 : Int32)
def rp_X9_decides : rc_M Int32 :=
rc_bind (rp_X9_warmestPlace) fun x1 =>
rc_bind (rc_mald 0 (7 : Int32)) fun x3 =>
rc_bind (rp_X9_bits x3) fun x4 =>
rc_bind (rc_mald 0 (6 : Int32)) fun x6 =>
rc_bind (rp_X9_bits x6) fun x7 =>
(if ((2 : Int32) * x4) ≤ x7 then
rp_X9_decides_L50 x1
else
rc_bind (rc_mald 0 (2 : Int32)) fun x9 =>
(if (8 : Int32) ≤ x9 then
rp_X9_decides_L50 x1
else
(if x1 = (-1 : Int32) then
rp_X9_decides_L50 x1
else
rp_X9_decides_L51 x1 (1 : Int32))))
def rp_X9_votes_L32 (s0 : Int32) (s1 : Int32) (s2 : Int32) : rc_M Int32 :=
rc_bind (rc_mast 0 s2 (s1 ||| s0)) fun _ =>
rc_bind (rc_mald 0 (6 : Int32)) fun x2 =>
rc_bind (rc_mald 0 (2 : Int32)) fun x4 =>
(if x2 = (((1 : Int32) <<< (x4 &&& 31)) - (1 : Int32)) then
rc_bind (rp_X9_decides) fun x5 =>
(if x5 = 0 then
rc_pure (0 : Int32)
else
rc_pure (1 : Int32))
else
rc_pure (0 : Int32))
def rp_X9_votes (v1 : Int32) (v2 : Int32) : rc_M Int32 :=
rc_bind (rc_mald 0 (6 : Int32)) fun x2 =>
rc_bind (rc_mast 0 (6 : Int32) (x2 ||| ((1 : Int32) <<< (v1 &&& 31)))) fun _ =>
rc_bind (rc_mald 0 (7 : Int32)) fun x4 =>
(if v2 = 0 then
rp_X9_votes_L32 (0 : Int32) x4 (7 : Int32)
else
rp_X9_votes_L32 ((1 : Int32) <<< (v1 &&& 31)) x4 (7 : Int32))
def rp_X9_readsVote (v1 : Int32) : rc_M Int32 :=
rc_bind (rp_X9_catAt (0 : Int32)) fun x1 =>
(if x1 = 0 then
rc_pure (0 : Int32)
else
rc_bind (rc_mald 22 (0 : Int32)) fun x3 =>
rc_bind (rp_X9_canVote x3) fun x4 =>
rc_bind (rp_X9_stops x4) fun x5 =>
(if x5 = 0 then
rc_pure (0 : Int32)
else
rc_bind (rc_mald 22 (0 : Int32)) fun x7 =>
rc_bind (rp_X9_votes x7 v1) fun x8 =>
rc_pure (1 : Int32)))
def rp_X9_feeds (v1 : Int32) (v2 : Int32) : rc_M Unit :=
rc_bind (rp_X9_of v1 (2 : Int32)) fun x1 =>
rc_bind (rp_J17_min v2 ((99 : Int32) - x1)) fun x2 =>
rc_bind (rp_X9_of v1 (2 : Int32)) fun x3 =>
rc_bind (rp_X9_to v1 (2 : Int32) (x3 + x2)) fun _ =>
rc_bind (rc_mald 0 (8 : Int32)) fun x5 =>
rc_bind (rc_mast 0 (8 : Int32) (x5 + x2)) fun _ =>
rc_pure ()
def rp_X9_eats (v1 : Int32) : rc_M Unit :=
rc_bind (rp_X9_of v1 (2 : Int32)) fun x1 =>
(if x1 ≤ 0 then
rc_pure ()
else
rc_bind (rp_X9_of v1 (2 : Int32)) fun x2 =>
rc_bind (rp_X9_to v1 (2 : Int32) (x2 - (1 : Int32))) fun _ =>
rc_bind (rc_mald 0 (9 : Int32)) fun x4 =>
rc_bind (rc_mast 0 (9 : Int32) (x4 + (1 : Int32))) fun _ =>
rc_pure ())
def rp_X9_choir_L96 (k6 : Int32 → Int32 → rc_M Int32) (k19 : Int32 → Int32 → Int32 → rc_M Int32) (k33 : Int32 → Int32 → Int32 → Int32 → rc_M Int32) (v3 : Int32) (v4 : Int32) (v5 : Int32) (s0 : Int32) (s1 : Int32) : rc_M Int32 :=
k33 (s1 ||| s0) v3 v4 (v5 + (1 : Int32))
def rp_X9_choir_L80 (k6 : Int32 → Int32 → rc_M Int32) (k19 : Int32 → Int32 → Int32 → rc_M Int32) (k33 : Int32 → Int32 → Int32 → Int32 → rc_M Int32) (v2 : Int32) (v3 : Int32) (v4 : Int32) (v5 : Int32) (s0 : Int32) : rc_M Int32 :=
(if s0 = 0 then
rp_X9_choir_L96 k6 k19 k33 v3 v4 v5 (0 : Int32) v2
else
rp_X9_choir_L96 k6 k19 k33 v3 v4 v5 ((1 : Int32) <<< (v5 &&& 31)) v2)
def rp_X9_choir_L79 (k6 : Int32 → Int32 → rc_M Int32) (k19 : Int32 → Int32 → Int32 → rc_M Int32) (k33 : Int32 → Int32 → Int32 → Int32 → rc_M Int32) (v2 : Int32) (v3 : Int32) (v4 : Int32) (v5 : Int32) : rc_M Int32 :=
rp_X9_choir_L80 k6 k19 k33 v2 v3 v4 v5 (0 : Int32)
def rp_X9_choir_L33 (k6 : Int32 → Int32 → rc_M Int32) (k19 : Int32 → Int32 → Int32 → rc_M Int32) : Nat → Int32 → Int32 → Int32 → Int32 → rc_M Int32
  | 0, _, _, _, _ => rc_fail
  | n + 1, v2, v3, v4, v5 =>
    rc_bind (rc_mald 0 (2 : Int32)) fun x2 =>
    (if x2 ≤ v5 then
    k19 v2 v3 (v4 + (1 : Int32))
    else
    (if ((v2 >>> (v4 &&& 31)) &&& (1 : Int32)) = (1 : Int32) then
    rc_bind (rp_X9_of v4 (3 : Int32)) fun x3 =>
    rc_bind (rp_X9_of v5 (3 : Int32)) fun x4 =>
    rc_bind (rp_X9_widestBetween x3 x4) fun x5 =>
    (if x5 ≤ 0 then
    rp_X9_choir_L79 k6 k19 (rp_X9_choir_L33 k6 k19 n) v2 v3 v4 v5
    else
    rp_X9_choir_L80 k6 k19 (rp_X9_choir_L33 k6 k19 n) v2 v3 v4 v5 (1 : Int32))
    else
    rp_X9_choir_L79 k6 k19 (rp_X9_choir_L33 k6 k19 n) v2 v3 v4 v5))
def rp_X9_choir_L19 (k6 : Int32 → Int32 → rc_M Int32) : Nat → Int32 → Int32 → Int32 → rc_M Int32
  | 0, _, _, _ => rc_fail
  | n + 1, v2, v3, v4 =>
    rc_bind (rc_mald 0 (2 : Int32)) fun x2 =>
    (if x2 ≤ v4 then
    k6 v2 (v3 + (1 : Int32))
    else
    rc_bind rc_fuel fun x3 =>
    rp_X9_choir_L33 k6 (rp_X9_choir_L19 k6 n) x3 v2 v3 v4 (0 : Int32))
def rp_X9_choir_L6 : Nat → Int32 → Int32 → rc_M Int32
  | 0, _, _ => rc_fail
  | n + 1, v2, v3 =>
    rc_bind (rc_mald 0 (2 : Int32)) fun x2 =>
    (if x2 ≤ v3 then
    rc_pure v2
    else
    rc_bind rc_fuel fun x3 =>
    rp_X9_choir_L19 (rp_X9_choir_L6  n) x3 v2 v3 (0 : Int32))
def rp_X9_choir (v1 : Int32) : rc_M Int32 :=
rc_bind rc_fuel fun x1 =>
rp_X9_choir_L6 x1 ((1 : Int32) <<< (v1 &&& 31)) (0 : Int32)
def rp_X9_greatestChoir_L36 (k4 : Int32 → Int32 → rc_M Int32) (v2 : Int32) (s0 : Int32) : rc_M Int32 :=
k4 s0 (v2 + (1 : Int32))
def rp_X9_greatestChoir_L4 : Nat → Int32 → Int32 → rc_M Int32
  | 0, _, _ => rc_fail
  | n + 1, v1, v2 =>
    rc_bind (rc_mald 0 (2 : Int32)) fun x2 =>
    (if x2 ≤ v2 then
    rc_pure v1
    else
    rc_bind (rp_X9_choir v2) fun x3 =>
    rc_bind (rp_X9_bits x3) fun x4 =>
    rc_bind (rp_X9_bits v1) fun x5 =>
    (if x4 ≤ x5 then
    rp_X9_greatestChoir_L36 (rp_X9_greatestChoir_L4  n) v2 v1
    else
    rp_X9_greatestChoir_L36 (rp_X9_greatestChoir_L4  n) v2 x3))
def rp_X9_greatestChoir : rc_M Int32 :=
rc_bind rc_fuel fun x1 =>
rp_X9_greatestChoir_L4 x1 (0 : Int32) (0 : Int32)
def rp_X9_sings_L35 (k7 : Int32 → Int32 → rc_M Unit) (v1 : Int32) (v2 : Int32) : rc_M Unit :=
k7 v1 (v2 + (1 : Int32))
def rp_X9_sings_L7 : Nat → Int32 → Int32 → rc_M Unit
  | 0, _, _ => rc_fail
  | n + 1, v1, v2 =>
    rc_bind (rc_mald 0 (2 : Int32)) fun x2 =>
    (if x2 ≤ v2 then
    rc_pure ()
    else
    (if ((v1 >>> (v2 &&& 31)) &&& (1 : Int32)) = (1 : Int32) then
    rc_bind (rp_X9_bits v1) fun x3 =>
    rc_bind (rp_X9_feeds v2 x3) fun _ =>
    rp_X9_sings_L35 (rp_X9_sings_L7  n) v1 v2
    else
    rp_X9_sings_L35 (rp_X9_sings_L7  n) v1 v2))
def rp_X9_sings : rc_M Unit :=
rc_bind (rp_X9_greatestChoir) fun x1 =>
rc_bind rc_fuel fun x2 =>
rp_X9_sings_L7 x2 x1 (0 : Int32)
def rp_X9_passes_L66 (k2 : Int32 → Int32 → rc_M Int32) (k19 : Int32 → Int32 → Int32 → rc_M Int32) (v1 : Int32) (v2 : Int32) (v3 : Int32) : rc_M Int32 :=
k19 v1 v2 (v3 + (1 : Int32))
def rp_X9_passes_L89 (k2 : Int32 → Int32 → rc_M Int32) (v1 : Int32) (v2 : Int32) : rc_M Int32 :=
k2 v1 (v2 + (1 : Int32))
def rp_X9_passes_L19 (k2 : Int32 → Int32 → rc_M Int32) : Nat → Int32 → Int32 → Int32 → rc_M Int32
  | 0, _, _, _ => rc_fail
  | n + 1, v1, v2, v3 =>
    rc_bind (rc_mald 0 (2 : Int32)) fun x2 =>
    (if x2 ≤ v3 then
    rc_bind (rc_mald 0 (3 : Int32)) fun x4 =>
    (if (x4 - x4 / (8 : Int32) * (8 : Int32)) = (4 : Int32) then
    rc_bind (rp_X9_sings) fun _ =>
    rp_X9_passes_L89 k2 v1 v2
    else
    rp_X9_passes_L89 k2 v1 v2)
    else
    rc_bind (rp_X9_isHome v3) fun x5 =>
    (if x5 = 0 then
    rc_bind (rp_X9_eats v3) fun _ =>
    rp_X9_passes_L66 k2 (rp_X9_passes_L19 k2 n) v1 v2 v3
    else
    rc_bind (rp_X9_of v3 (3 : Int32)) fun x7 =>
    rc_bind (rc_mald 0 ((10 : Int32) + x7)) fun x8 =>
    rc_bind (rp_X9_feeds v3 (x8 / (3 : Int32))) fun _ =>
    rp_X9_passes_L66 k2 (rp_X9_passes_L19 k2 n) v1 v2 v3))
def rp_X9_passes_L2 : Nat → Int32 → Int32 → rc_M Int32
  | 0, _, _ => rc_fail
  | n + 1, v1, v2 =>
    (if v1 ≤ v2 then
    rc_bind (rc_mald 0 (3 : Int32)) fun x2 =>
    rc_pure x2
    else
    rc_bind (rc_mald 0 (3 : Int32)) fun x4 =>
    rc_bind (rc_mast 0 (3 : Int32) (x4 + (1 : Int32))) fun _ =>
    rc_bind rc_fuel fun x5 =>
    rp_X9_passes_L19 (rp_X9_passes_L2  n) x5 v1 v2 (0 : Int32))
def rp_X9_passes (v1 : Int32) : rc_M Int32 :=
rc_bind rc_fuel fun x1 =>
rp_X9_passes_L2 x1 v1 (0 : Int32)
def rp_X9_readsNights_L36 (s0 : Int32) : rc_M Int32 :=
rc_bind (rp_X9_stops s0) fun x1 =>
(if x1 = 0 then
rc_pure (0 : Int32)
else
rc_bind (rc_mald 22 (0 : Int32)) fun x3 =>
rc_bind (rp_X9_passes x3) fun x4 =>
rc_pure (1 : Int32))
def rp_X9_readsNights : rc_M Int32 :=
rc_bind (rp_X9_number (0 : Int32) (1 : Int32) (30 : Int32)) fun x1 =>
(if x1 = 0 then
rc_pure (0 : Int32)
else
rc_bind (rc_mald 0 (3 : Int32)) fun x3 =>
rc_bind (rc_mald 22 (0 : Int32)) fun x5 =>
(if (999 : Int32) < (x3 + x5) then
rp_X9_readsNights_L36 (0 : Int32)
else
rp_X9_readsNights_L36 (1 : Int32)))
def rp_X9_readsWord (v1 : Int32) : rc_M Int32 :=
(if v1 = (0 : Int32) then
rc_bind (rp_X9_readsChimney) fun x2 =>
rc_bind (rc_narM .boolean x2) fun _ =>
rc_pure x2
else
(if v1 = (1 : Int32) then
rc_bind (rp_X9_readsGutter) fun x3 =>
rc_bind (rc_narM .boolean x3) fun _ =>
rc_pure x3
else
(if v1 = (2 : Int32) then
rc_bind (rp_X9_readsCat) fun x4 =>
rc_bind (rc_narM .boolean x4) fun _ =>
rc_pure x4
else
(if v1 = (3 : Int32) then
rc_bind (rp_X9_readsStep) fun x5 =>
rc_bind (rc_narM .boolean x5) fun _ =>
rc_pure x5
else
(if v1 = (4 : Int32) then
rc_bind (rp_X9_readsClaim) fun x6 =>
rc_bind (rc_narM .boolean x6) fun _ =>
rc_pure x6
else
(if v1 = (5 : Int32) then
rc_bind (rp_X9_readsAbandon) fun x7 =>
rc_bind (rc_narM .boolean x7) fun _ =>
rc_pure x7
else
(if v1 = (6 : Int32) then
rc_bind (rp_X9_readsChase) fun x8 =>
rc_bind (rc_narM .boolean x8) fun _ =>
rc_pure x8
else
(if v1 = (7 : Int32) then
rc_bind (rp_X9_readsTruce) fun x9 =>
rc_bind (rc_narM .boolean x9) fun _ =>
rc_pure x9
else
(if v1 = (8 : Int32) then
rc_bind (rp_X9_readsKitten) fun x10 =>
rc_bind (rc_narM .boolean x10) fun _ =>
rc_pure x10
else
(if v1 = (9 : Int32) then
rc_bind (rp_X9_readsVote (1 : Int32)) fun x11 =>
rc_bind (rc_narM .boolean x11) fun _ =>
rc_pure x11
else
(if v1 = (10 : Int32) then
rc_bind (rp_X9_readsVote (0 : Int32)) fun x12 =>
rc_bind (rc_narM .boolean x12) fun _ =>
rc_pure x12
else
rc_bind (rp_X9_readsNights) fun x1 =>
rc_bind (rc_narM .boolean x1) fun _ =>
rc_pure x1)))))))))))
def rp_X9_readsRepeat_L51 (R : Int32 → rc_M Int32) (k36 : Int32 → Int32 → Int32 → Int32 → rc_M Int32) : Nat → Int32 → Int32 → Int32 → Int32 → rc_M Int32
  | 0, _, _, _, _ => rc_fail
  | n + 1, v1, v2, v3, v4 =>
    rc_bind (rc_mget 17) fun x1 =>
    (if x1 = (5 : Int32) then
    k36 v1 v2 v3 (v4 + (1 : Int32))
    else
    rc_bind (R (v1 + (1 : Int32))) fun x3 =>
    (if x3 = 0 then
    rc_pure (0 : Int32)
    else
    rc_bind (rp_X9_next) fun _ =>
    rp_X9_readsRepeat_L51 R k36 n v1 v2 v3 v4))
def rp_X9_readsRepeat_L36 (R : Int32 → rc_M Int32) : Nat → Int32 → Int32 → Int32 → Int32 → rc_M Int32
  | 0, _, _, _, _ => rc_fail
  | n + 1, v1, v2, v3, v4 =>
    (if v2 ≤ v4 then
    rc_bind (rp_X9_next) fun _ =>
    rc_bind (rp_X9_is (1 : Int32)) fun x1 =>
    rc_bind (rc_narM .boolean x1) fun _ =>
    rc_pure x1
    else
    rc_bind (rc_mput 19 .int v3) fun _ =>
    rc_bind (rp_X9_next) fun _ =>
    rc_bind rc_fuel fun x2 =>
    rp_X9_readsRepeat_L51 R (rp_X9_readsRepeat_L36 R n) x2 v1 v2 v3 v4)
def rp_X9_readsRepeat (R : Int32 → rc_M Int32) (v1 : Int32) : rc_M Int32 :=
rc_bind (rp_X9_number (0 : Int32) (1 : Int32) (20 : Int32)) fun x1 =>
(if x1 = 0 then
rc_pure (0 : Int32)
else
rc_bind (rp_X9_is (4 : Int32)) fun x2 =>
(if x2 = 0 then
rc_pure (0 : Int32)
else
rc_bind (rc_mald 22 (0 : Int32)) fun x4 =>
rc_bind (rc_mget 19) fun x5 =>
rc_bind rc_fuel fun x6 =>
rp_X9_readsRepeat_L36 R x6 v1 x4 x5 (0 : Int32)))
abbrev rp_X9_readsRepeat_q0 : Int32 → rc_M Int32 := rp_X9_readsRepeat (fun _ => rc_fail)
def rp_X9_readsCommand (R : Int32 → rc_M Int32) (v1 : Int32) : rc_M Int32 :=
rc_bind (rp_X9_wordAhead) fun x1 =>
(if x1 = (-1 : Int32) then
rc_bind (rp_X9_fail (1 : Int32)) fun x8 =>
rc_bind (rc_narM .boolean x8) fun _ =>
rc_pure x8
else
(if x1 = (12 : Int32) then
(if v1 = (2 : Int32) then
rc_bind (rp_X9_fail (4 : Int32)) fun x7 =>
rc_bind (rc_narM .boolean x7) fun _ =>
rc_pure x7
else
rc_bind (rp_X9_next) fun _ =>
rc_bind (R v1) fun x6 =>
rc_bind (rc_narM .boolean x6) fun _ =>
rc_pure x6)
else
rc_bind (rc_mget 21) fun x2 =>
(if x2 = (200 : Int32) then
rc_bind (rp_X9_fail (5 : Int32)) fun x5 =>
rc_bind (rc_narM .boolean x5) fun _ =>
rc_pure x5
else
rc_bind (rc_mget 21) fun x3 =>
rc_bind (rc_mput 21 .int (x3 + (1 : Int32))) fun _ =>
rc_bind (rp_X9_next) fun _ =>
rc_bind (rp_X9_readsWord x1) fun x4 =>
rc_bind (rc_narM .boolean x4) fun _ =>
rc_pure x4)))
abbrev rp_X9_readsCommand_q0 : Int32 → rc_M Int32 := rp_X9_readsCommand rp_X9_readsRepeat_q0
abbrev rp_X9_readsRepeat_q1 : Int32 → rc_M Int32 := rp_X9_readsRepeat rp_X9_readsCommand_q0
abbrev rp_X9_readsCommand_q1 : Int32 → rc_M Int32 := rp_X9_readsCommand rp_X9_readsRepeat_q1
abbrev rp_X9_readsRepeat_q2 : Int32 → rc_M Int32 := rp_X9_readsRepeat rp_X9_readsCommand_q1
abbrev rp_X9_readsCommand_q2 : Int32 → rc_M Int32 := rp_X9_readsCommand rp_X9_readsRepeat_q2
def rp_X9_readsAll_L34 : Nat → rc_M Int32
  | 0 => rc_fail
  | n + 1 =>
    rc_bind (rc_mget 17) fun x1 =>
    (if x1 = 0 then
    rc_pure (1 : Int32)
    else
    rc_bind (rp_X9_readsCommand_q2 (0 : Int32)) fun x2 =>
    (if x2 = 0 then
    rc_pure (0 : Int32)
    else
    rc_bind (rp_X9_next) fun _ =>
    rp_X9_readsAll_L34 n ))
def rp_X9_readsAll : rc_M Int32 :=
rc_bind (rc_text 30) fun x1 =>
rc_bind (rp_X9_says x1) fun x2 =>
(if x2 = 0 then
rc_bind (rp_X9_fail (1 : Int32)) fun x5 =>
rc_bind (rc_narM .boolean x5) fun _ =>
rc_pure x5
else
rc_bind (rp_X9_next) fun _ =>
rc_bind (rp_X9_is (1 : Int32)) fun x3 =>
(if x3 = 0 then
rc_pure (0 : Int32)
else
rc_bind (rp_X9_next) fun _ =>
rc_bind rc_fuel fun x4 =>
rp_X9_readsAll_L34 x4))
def rp_X9_parses_L2 : Nat → Int32 → rc_M Int32
  | 0, _ => rc_fail
  | n + 1, v1 =>
    (if (186 : Int32) ≤ v1 then
    rc_bind (rc_mput 12 .int (0 : Int32)) fun _ =>
    rc_bind (rc_mput 13 .int (-1 : Int32)) fun _ =>
    rc_bind (rc_mput 21 .int (0 : Int32)) fun _ =>
    rc_bind (rc_mput 19 .int (0 : Int32)) fun _ =>
    rc_bind (rp_X9_next) fun _ =>
    rc_bind (rp_X9_readsAll) fun x1 =>
    rc_bind (rc_narM .boolean x1) fun _ =>
    rc_pure x1
    else
    rc_bind (rc_mast 0 v1 (0 : Int32)) fun _ =>
    rp_X9_parses_L2 n (v1 + (1 : Int32)))
def rp_X9_parses : rc_M Int32 :=
rc_bind rc_fuel fun x1 =>
rp_X9_parses_L2 x1 (0 : Int32)
def rp_X9_thrown : rc_M Int32 :=
rc_bind (rc_mget 16) fun x1 =>
rc_pure x1
def rp_X9_type_L3 : Nat → Int32 → Int32 → rc_M Unit
  | 0, _, _ => rc_fail
  | n + 1, v1, v2 =>
    (if v2 < 0 then
    rc_pure ()
    else
    rc_bind (rc_mget 10) fun x2 =>
    rc_bind (rc_mast 7 x2 ((v1 >>> (v2 &&& 31)) &&& (255 : Int32))) fun _ =>
    rc_bind (rc_mget 10) fun x3 =>
    rc_bind (rc_mput 10 .int (x3 + (1 : Int32))) fun _ =>
    rp_X9_type_L3 n v1 (v2 + (-8 : Int32)))
def rp_X9_type (v1 : Int32) : rc_M Unit :=
rc_bind rc_fuel fun x1 =>
rp_X9_type_L3 x1 v1 (24 : Int32)
def rp_X9_append (v1 : Int32) (v2 : Int32) (v3 : Int32) (v4 : Int32) (v5 : Int32) : rc_M Int32 :=
rc_bind (rc_mput 16 .int (0 : Int32)) fun _ =>
rc_bind (rc_mget 10) fun x1 =>
(if (x1 + (20 : Int32)) ≤ (600 : Int32) then
rc_bind (rp_X9_type v1) fun _ =>
rc_bind (rp_X9_type v2) fun _ =>
rc_bind (rp_X9_type v3) fun _ =>
rc_bind (rp_X9_type v4) fun _ =>
rc_bind (rp_X9_type v5) fun _ =>
rc_bind (rc_mget 10) fun x2 =>
rc_pure x2
else
rc_pure (-1 : Int32))
def rp_X9_throwsOne_L10 (v1 : Int32) (s0 : Int32) : rc_M Int32 :=
rc_bind (rc_mput 16 .int s0) fun _ =>
rc_bind (rc_narM .boolean v1) fun _ =>
rc_pure v1
def rp_X9_throwsOne (v1 : Int32) : rc_M Int32 :=
(if v1 = 0 then
rp_X9_throwsOne_L10 v1 (0 : Int32)
else
rp_X9_throwsOne_L10 v1 (1 : Int32))
def rp_X9_truncateInput_L18 (v1 : Int32) (s0 : Int32) : rc_M Int32 :=
rc_bind (rp_X9_throwsOne s0) fun x1 =>
(if x1 = 0 then
rc_bind (rc_mput 10 .int v1) fun _ =>
rc_pure v1
else
rc_pure (0 : Int32))
def rp_X9_truncateInput (v1 : Int32) : rc_M Int32 :=
rc_bind (rc_mget 10) fun x1 =>
rc_bind (rp_X9_in v1 (0 : Int32) x1) fun x2 =>
(if x2 = 0 then
rp_X9_truncateInput_L18 v1 (1 : Int32)
else
rp_X9_truncateInput_L18 v1 (0 : Int32))
def rp_X9_begins_L2 : Nat → Int32 → rc_M Unit
  | 0, _ => rc_fail
  | n + 1, v1 =>
    (if (186 : Int32) ≤ v1 then
    rc_pure ()
    else
    rc_bind (rc_mald 0 v1) fun x3 =>
    rc_bind (rc_mast 1 v1 x3) fun _ =>
    rp_X9_begins_L2 n (v1 + (1 : Int32)))
def rp_X9_begins : rc_M Unit :=
rc_bind rc_fuel fun x1 =>
rp_X9_begins_L2 x1 (0 : Int32)
def rp_X9_remember_L54 : Nat → Int32 → Int32 → rc_M Int32
  | 0, _, _ => rc_fail
  | n + 1, v1, v2 =>
    (if (186 : Int32) ≤ v2 then
    rc_bind (rc_mget 5) fun x1 =>
    rc_bind (rc_mput 5 .int (x1 + (1 : Int32))) fun _ =>
    rc_pure v1
    else
    rc_bind (rc_mget 5) fun x3 =>
    rc_bind (rc_mald 1 v2) fun x5 =>
    rc_bind (rc_mast 3 (((186 : Int32) * x3) + v2) x5) fun _ =>
    rp_X9_remember_L54 n v1 (v2 + (1 : Int32)))
def rp_X9_remember_L52 (v1 : Int32) : rc_M Int32 :=
rc_bind rc_fuel fun x1 =>
rp_X9_remember_L54 x1 v1 (0 : Int32)
def rp_X9_remember_L13 : Nat → Int32 → Int32 → rc_M Int32
  | 0, _, _ => rc_fail
  | n + 1, v1, v2 =>
    (if (1488 : Int32) ≤ v2 then
    rc_bind (rc_mget 5) fun x1 =>
    rc_bind (rc_mput 5 .int (x1 - (1 : Int32))) fun _ =>
    rp_X9_remember_L52 v1
    else
    rc_bind (rc_mald 3 v2) fun x4 =>
    rc_bind (rc_mast 3 (v2 - (186 : Int32)) x4) fun _ =>
    rp_X9_remember_L13 n v1 (v2 + (1 : Int32)))
def rp_X9_remember (v1 : Int32) : rc_M Int32 :=
rc_bind (rc_mget 5) fun x1 =>
(if x1 = (8 : Int32) then
rc_bind rc_fuel fun x2 =>
rp_X9_remember_L13 x2 v1 (186 : Int32)
else
rp_X9_remember_L52 v1)
def rp_X9_runScript_L59 : Nat → Int32 → rc_M Int32
  | 0, _ => rc_fail
  | n + 1, v1 =>
    (if (186 : Int32) ≤ v1 then
    rc_pure (-1 : Int32)
    else
    rc_bind (rc_mald 1 v1) fun x3 =>
    rc_bind (rc_mast 0 v1 x3) fun _ =>
    rp_X9_runScript_L59 n (v1 + (1 : Int32)))
def rp_X9_runScript_L7 : Nat → Int32 → rc_M Int32
  | 0, _ => rc_fail
  | n + 1, v1 =>
    rc_bind (rc_mget 10) fun x1 =>
    (if x1 ≤ v1 then
    rc_bind (rc_mget 10) fun x2 =>
    rc_bind (rc_mput 11 .int x2) fun _ =>
    rc_bind (rc_mput 10 .int (0 : Int32)) fun _ =>
    rc_bind (rp_X9_begins) fun _ =>
    rc_bind (rp_X9_parses) fun x3 =>
    (if x3 = 0 then
    rc_bind rc_fuel fun x7 =>
    rp_X9_runScript_L59 x7 (0 : Int32)
    else
    rc_bind (rc_mald 0 (2 : Int32)) fun x5 =>
    rc_bind (rp_X9_remember x5) fun x6 =>
    rc_pure x6)
    else
    rc_bind (rc_mald 7 v1) fun x10 =>
    rc_bind (rc_mast 8 v1 x10) fun _ =>
    rp_X9_runScript_L7 n (v1 + (1 : Int32)))
def rp_X9_runScript : rc_M Int32 :=
rc_bind (rc_mput 16 .int (0 : Int32)) fun _ =>
rc_bind rc_fuel fun x1 =>
rp_X9_runScript_L7 x1 (0 : Int32)
def rp_X9_throwsOne_2_L29 : rc_M Int32 :=
rc_pure (1 : Int32)
def rp_X9_throwsOne_2_L18 (v1 : Int32) (v2 : Int32) (s0 : Int32) : rc_M Int32 :=
rc_bind (rc_mput 16 .int s0) fun _ =>
(if v1 = 0 then
(if v2 = 0 then
rc_pure (0 : Int32)
else
rp_X9_throwsOne_2_L29)
else
rp_X9_throwsOne_2_L29)
def rp_X9_throwsOne_2 (v1 : Int32) (v2 : Int32) : rc_M Int32 :=
(if v1 = 0 then
(if v2 = 0 then
rp_X9_throwsOne_2_L18 v1 v2 (0 : Int32)
else
rp_X9_throwsOne_2_L18 v1 v2 (2 : Int32))
else
rp_X9_throwsOne_2_L18 v1 v2 (1 : Int32))
def rp_X9_addChimney_L32 (v1 : Int32) (s0 : Int32) (s1 : Int32) : rc_M Int32 :=
rc_bind (rp_X9_throwsOne_2 s1 s0) fun x1 =>
(if x1 = 0 then
rc_bind (rp_X9_begins) fun _ =>
rc_bind (rp_X9_builds v1) fun x2 =>
rc_bind (rp_X9_remember x2) fun x3 =>
rc_pure x3
else
rc_pure (0 : Int32))
def rp_X9_addChimney_L16 (v1 : Int32) (s0 : Int32) : rc_M Int32 :=
rc_bind (rc_mald 0 (0 : Int32)) fun x2 =>
(if x2 = (10 : Int32) then
rp_X9_addChimney_L32 v1 (1 : Int32) s0
else
rp_X9_addChimney_L32 v1 (0 : Int32) s0)
def rp_X9_addChimney (v1 : Int32) : rc_M Int32 :=
rc_bind (rp_X9_in v1 (0 : Int32) (9 : Int32)) fun x1 =>
(if x1 = 0 then
rp_X9_addChimney_L16 v1 (1 : Int32)
else
rp_X9_addChimney_L16 v1 (0 : Int32))
def rp_X9_isChimney (v1 : Int32) : rc_M Int32 :=
rc_bind (rc_mald 0 (0 : Int32)) fun x2 =>
rc_bind (rp_X9_in v1 (0 : Int32) (x2 - (1 : Int32))) fun x3 =>
rc_bind (rc_narM .boolean x3) fun _ =>
rc_pure x3
def rp_X9_throwsOne_3_L41 : rc_M Int32 :=
rc_pure (1 : Int32)
def rp_X9_throwsOne_3_L26 (v1 : Int32) (v2 : Int32) (v3 : Int32) (s0 : Int32) : rc_M Int32 :=
rc_bind (rc_mput 16 .int s0) fun _ =>
(if v1 = 0 then
(if v2 = 0 then
(if v3 = 0 then
rc_pure (0 : Int32)
else
rp_X9_throwsOne_3_L41)
else
rp_X9_throwsOne_3_L41)
else
rp_X9_throwsOne_3_L41)
def rp_X9_throwsOne_3 (v1 : Int32) (v2 : Int32) (v3 : Int32) : rc_M Int32 :=
(if v1 = 0 then
(if v2 = 0 then
(if v3 = 0 then
rp_X9_throwsOne_3_L26 v1 v2 v3 (0 : Int32)
else
rp_X9_throwsOne_3_L26 v1 v2 v3 (3 : Int32))
else
rp_X9_throwsOne_3_L26 v1 v2 v3 (2 : Int32))
else
rp_X9_throwsOne_3_L26 v1 v2 v3 (1 : Int32))
def rp_X9_addGutter_L58 (v1 : Int32) (v2 : Int32) (v3 : Int32) (s0 : Int32) (s1 : Int32) (s2 : Int32) : rc_M Int32 :=
rc_bind (rp_X9_throwsOne_3 s2 s1 s0) fun x1 =>
(if x1 = 0 then
rc_bind (rp_X9_begins) fun _ =>
rc_bind (rp_X9_lays v1 v2 v3) fun x2 =>
rc_bind (rp_X9_remember x2) fun x3 =>
rc_pure x3
else
rc_pure (0 : Int32))
def rp_X9_addGutter_L42 (v1 : Int32) (v2 : Int32) (v3 : Int32) (s0 : Int32) (s1 : Int32) : rc_M Int32 :=
rc_bind (rc_mald 0 (1 : Int32)) fun x2 =>
(if x2 = (20 : Int32) then
rp_X9_addGutter_L58 v1 v2 v3 (1 : Int32) s0 s1
else
rp_X9_addGutter_L58 v1 v2 v3 (0 : Int32) s0 s1)
def rp_X9_addGutter_L37 (v1 : Int32) (v2 : Int32) (v3 : Int32) (s0 : Int32) : rc_M Int32 :=
rp_X9_addGutter_L42 v1 v2 v3 (1 : Int32) s0
def rp_X9_addGutter_L22 (v1 : Int32) (v2 : Int32) (v3 : Int32) (s0 : Int32) : rc_M Int32 :=
(if v1 = v2 then
rp_X9_addGutter_L37 v1 v2 v3 s0
else
rc_bind (rp_X9_in v3 (1 : Int32) (9 : Int32)) fun x1 =>
(if x1 = 0 then
rp_X9_addGutter_L37 v1 v2 v3 s0
else
rp_X9_addGutter_L42 v1 v2 v3 (0 : Int32) s0))
def rp_X9_addGutter_L17 (v1 : Int32) (v2 : Int32) (v3 : Int32) : rc_M Int32 :=
rp_X9_addGutter_L22 v1 v2 v3 (1 : Int32)
def rp_X9_addGutter (v1 : Int32) (v2 : Int32) (v3 : Int32) : rc_M Int32 :=
rc_bind (rp_X9_isChimney v1) fun x1 =>
(if x1 = 0 then
rp_X9_addGutter_L17 v1 v2 v3
else
rc_bind (rp_X9_isChimney v2) fun x2 =>
(if x2 = 0 then
rp_X9_addGutter_L17 v1 v2 v3
else
rp_X9_addGutter_L22 v1 v2 v3 (0 : Int32)))
def rp_X9_areSizes (v0 : Int32) (v1 : Int32) : rc_M Int32 :=
rc_bind (rp_X9_in v0 (1 : Int32) (9 : Int32)) fun x1 =>
(if x1 = 0 then
rc_pure (0 : Int32)
else
rc_bind (rp_X9_in v1 (1 : Int32) (9 : Int32)) fun x2 =>
(if x2 = 0 then
rc_pure (0 : Int32)
else
rc_pure (1 : Int32)))
def rp_X9_addCat_L49 (v1 : Int32) (v2 : Int32) (v3 : Int32) (s0 : Int32) (s1 : Int32) (s2 : Int32) : rc_M Int32 :=
rc_bind (rp_X9_throwsOne_3 s2 s1 s0) fun x1 =>
(if x1 = 0 then
rc_bind (rp_X9_begins) fun _ =>
rc_bind (rp_X9_enters v1 v2 v3) fun x2 =>
rc_bind (rp_X9_remember x2) fun x3 =>
rc_pure x3
else
rc_pure (0 : Int32))
def rp_X9_addCat_L48 (v1 : Int32) (v2 : Int32) (v3 : Int32) (s0 : Int32) (s1 : Int32) : rc_M Int32 :=
rp_X9_addCat_L49 v1 v2 v3 (0 : Int32) s0 s1
def rp_X9_addCat_L31 (v1 : Int32) (v2 : Int32) (v3 : Int32) (v4 : Int32) (s0 : Int32) (s1 : Int32) : rc_M Int32 :=
(if v4 = 0 then
rp_X9_addCat_L48 v1 v2 v3 s0 s1
else
rc_bind (rp_X9_canEnter v1) fun x1 =>
(if x1 = 0 then
rp_X9_addCat_L49 v1 v2 v3 (1 : Int32) s0 s1
else
rp_X9_addCat_L48 v1 v2 v3 s0 s1))
def rp_X9_addCat_L18 (v1 : Int32) (v2 : Int32) (v3 : Int32) (v4 : Int32) (s0 : Int32) : rc_M Int32 :=
rc_bind (rp_X9_areSizes v2 v3) fun x1 =>
(if x1 = 0 then
rp_X9_addCat_L31 v1 v2 v3 v4 (1 : Int32) s0
else
rp_X9_addCat_L31 v1 v2 v3 v4 (0 : Int32) s0)
def rp_X9_addCat (v1 : Int32) (v2 : Int32) (v3 : Int32) : rc_M Int32 :=
rc_bind (rp_X9_isChimney v1) fun x1 =>
(if x1 = 0 then
rp_X9_addCat_L18 v1 v2 v3 x1 (1 : Int32)
else
rp_X9_addCat_L18 v1 v2 v3 x1 (0 : Int32))
def rp_X9_isCat (v1 : Int32) : rc_M Int32 :=
rc_bind (rc_mald 0 (2 : Int32)) fun x2 =>
rc_bind (rp_X9_in v1 (0 : Int32) (x2 - (1 : Int32))) fun x3 =>
rc_bind (rc_narM .boolean x3) fun _ =>
rc_pure x3
def rp_X9_isGutter (v1 : Int32) : rc_M Int32 :=
rc_bind (rc_mald 0 (1 : Int32)) fun x2 =>
rc_bind (rp_X9_in v1 (0 : Int32) (x2 - (1 : Int32))) fun x3 =>
rc_bind (rc_narM .boolean x3) fun _ =>
rc_pure x3
def rp_X9_step_L50 (v1 : Int32) (v2 : Int32) (s0 : Int32) (s1 : Int32) : rc_M Int32 :=
rc_bind (rp_X9_throwsOne_2 s1 s0) fun x1 =>
(if x1 = 0 then
rc_bind (rp_X9_begins) fun _ =>
rc_bind (rp_X9_goes v1 v2) fun x2 =>
rc_bind (rp_X9_remember x2) fun x3 =>
rc_pure x3
else
rc_pure (0 : Int32))
def rp_X9_step_L49 (v1 : Int32) (v2 : Int32) (s0 : Int32) : rc_M Int32 :=
rp_X9_step_L50 v1 v2 (0 : Int32) s0
def rp_X9_step_L32 (v1 : Int32) (v2 : Int32) (v3 : Int32) (s0 : Int32) : rc_M Int32 :=
(if v3 = 0 then
rp_X9_step_L49 v1 v2 s0
else
rc_bind (rp_X9_whyStays v1 v2) fun x1 =>
(if x1 = 0 then
rp_X9_step_L49 v1 v2 s0
else
rp_X9_step_L50 v1 v2 (1 : Int32) s0))
def rp_X9_step_L21 (v1 : Int32) (v2 : Int32) (s0 : Int32) : rc_M Int32 :=
(if s0 = 0 then
rp_X9_step_L32 v1 v2 s0 (1 : Int32)
else
rp_X9_step_L32 v1 v2 s0 (0 : Int32))
def rp_X9_step_L20 (v1 : Int32) (v2 : Int32) : rc_M Int32 :=
rp_X9_step_L21 v1 v2 (0 : Int32)
def rp_X9_step (v1 : Int32) (v2 : Int32) : rc_M Int32 :=
rc_bind (rp_X9_isCat v1) fun x1 =>
(if x1 = 0 then
rp_X9_step_L20 v1 v2
else
rc_bind (rp_X9_isGutter v2) fun x2 =>
(if x2 = 0 then
rp_X9_step_L20 v1 v2
else
rp_X9_step_L21 v1 v2 (1 : Int32)))
def rp_X9_claim_L33 (v1 : Int32) (s0 : Int32) (s1 : Int32) : rc_M Int32 :=
rc_bind (rp_X9_throwsOne_2 s1 s0) fun x1 =>
(if x1 = 0 then
rc_bind (rp_X9_begins) fun _ =>
rc_bind (rp_X9_claims v1) fun x2 =>
rc_bind (rp_X9_remember x2) fun x3 =>
rc_pure x3
else
rc_pure (0 : Int32))
def rp_X9_claim_L32 (v1 : Int32) (s0 : Int32) : rc_M Int32 :=
rp_X9_claim_L33 v1 (0 : Int32) s0
def rp_X9_claim_L16 (v1 : Int32) (v2 : Int32) (s0 : Int32) : rc_M Int32 :=
(if v2 = 0 then
rp_X9_claim_L32 v1 s0
else
rc_bind (rp_X9_whyLeaves v1) fun x1 =>
(if x1 = 0 then
rp_X9_claim_L32 v1 s0
else
rp_X9_claim_L33 v1 (1 : Int32) s0))
def rp_X9_claim (v1 : Int32) : rc_M Int32 :=
rc_bind (rp_X9_isCat v1) fun x1 =>
(if x1 = 0 then
rp_X9_claim_L16 v1 x1 (1 : Int32)
else
rp_X9_claim_L16 v1 x1 (0 : Int32))
def rp_X9_abandon_L34 (v1 : Int32) (s0 : Int32) (s1 : Int32) : rc_M Int32 :=
rc_bind (rp_X9_throwsOne_2 s1 s0) fun x1 =>
(if x1 = 0 then
rc_bind (rp_X9_begins) fun _ =>
rc_bind (rp_X9_leaves v1) fun x2 =>
rc_bind (rp_X9_remember x2) fun x3 =>
rc_pure x3
else
rc_pure (0 : Int32))
def rp_X9_abandon_L33 (v1 : Int32) (s0 : Int32) : rc_M Int32 :=
rp_X9_abandon_L34 v1 (0 : Int32) s0
def rp_X9_abandon_L16 (v1 : Int32) (v2 : Int32) (s0 : Int32) : rc_M Int32 :=
(if v2 = 0 then
rp_X9_abandon_L33 v1 s0
else
rc_bind (rp_X9_owner v1) fun x1 =>
(if x1 = (-1 : Int32) then
rp_X9_abandon_L34 v1 (1 : Int32) s0
else
rp_X9_abandon_L33 v1 s0))
def rp_X9_abandon (v1 : Int32) : rc_M Int32 :=
rc_bind (rp_X9_isChimney v1) fun x1 =>
(if x1 = 0 then
rp_X9_abandon_L16 v1 x1 (1 : Int32)
else
rp_X9_abandon_L16 v1 x1 (0 : Int32))
def rp_X9_areCats (v1 : Int32) (v2 : Int32) : rc_M Int32 :=
rc_bind (rp_X9_isCat v1) fun x1 =>
(if x1 = 0 then
rc_pure (0 : Int32)
else
rc_bind (rp_X9_isCat v2) fun x2 =>
(if x2 = 0 then
rc_pure (0 : Int32)
else
rc_pure (1 : Int32)))
def rp_X9_chase_L77 (s0 : Int32) : rc_M Int32 :=
rc_bind (rp_X9_remember s0) fun x1 =>
(if x1 = (1 : Int32) then
rc_pure (1 : Int32)
else
rc_pure (0 : Int32))
def rp_X9_chase_L50 (v1 : Int32) (v2 : Int32) (s0 : Int32) (s1 : Int32) (s2 : Int32) : rc_M Int32 :=
rc_bind (rp_X9_throwsOne_3 s2 s1 s0) fun x1 =>
(if x1 = 0 then
rc_bind (rp_X9_begins) fun _ =>
rc_bind (rp_X9_chases v1 v2) fun x2 =>
(if x2 = 0 then
rp_X9_chase_L77 (0 : Int32)
else
rp_X9_chase_L77 (1 : Int32))
else
rc_pure (0 : Int32))
def rp_X9_chase_L49 (v1 : Int32) (v2 : Int32) (s0 : Int32) (s1 : Int32) : rc_M Int32 :=
rp_X9_chase_L50 v1 v2 (0 : Int32) s0 s1
def rp_X9_chase_L27 (v1 : Int32) (v2 : Int32) (v3 : Int32) (s0 : Int32) (s1 : Int32) : rc_M Int32 :=
(if v3 = 0 then
rp_X9_chase_L49 v1 v2 s0 s1
else
(if v1 = v2 then
rp_X9_chase_L49 v1 v2 s0 s1
else
rc_bind (rp_X9_whySpares v1 v2) fun x1 =>
(if x1 = 0 then
rp_X9_chase_L49 v1 v2 s0 s1
else
rp_X9_chase_L50 v1 v2 (1 : Int32) s0 s1)))
def rp_X9_chase_L17 (v1 : Int32) (v2 : Int32) (v3 : Int32) (s0 : Int32) : rc_M Int32 :=
(if v1 = v2 then
rp_X9_chase_L27 v1 v2 v3 (1 : Int32) s0
else
rp_X9_chase_L27 v1 v2 v3 (0 : Int32) s0)
def rp_X9_chase (v1 : Int32) (v2 : Int32) : rc_M Int32 :=
rc_bind (rp_X9_areCats v1 v2) fun x1 =>
(if x1 = 0 then
rp_X9_chase_L17 v1 v2 x1 (1 : Int32)
else
rp_X9_chase_L17 v1 v2 x1 (0 : Int32))
def rp_X9_buyTruce_L79 (v1 : Int32) (v2 : Int32) (v3 : Int32) (v4 : Int32) (s0 : Int32) (s1 : Int32) (s2 : Int32) : rc_M Int32 :=
rc_bind (rp_X9_throwsOne_3 s2 s1 s0) fun x1 =>
(if x1 = 0 then
rc_bind (rp_X9_begins) fun _ =>
rc_bind (rp_X9_buys v1 v2 v3 v4) fun x2 =>
rc_bind (rp_X9_remember x2) fun x3 =>
rc_pure x3
else
rc_pure (0 : Int32))
def rp_X9_buyTruce_L78 (v1 : Int32) (v2 : Int32) (v3 : Int32) (v4 : Int32) (s0 : Int32) (s1 : Int32) : rc_M Int32 :=
rp_X9_buyTruce_L79 v1 v2 v3 v4 (0 : Int32) s0 s1
def rp_X9_buyTruce_L52 (v1 : Int32) (v2 : Int32) (v3 : Int32) (v4 : Int32) (v5 : Int32) (v6 : Int32) (s0 : Int32) : rc_M Int32 :=
(if v5 = 0 then
rp_X9_buyTruce_L78 v1 v2 v3 v4 v6 s0
else
(if v6 = 0 then
rc_bind (rp_X9_canBuy v1 v2 v3) fun x1 =>
(if x1 = 0 then
rp_X9_buyTruce_L79 v1 v2 v3 v4 (1 : Int32) v6 s0
else
rp_X9_buyTruce_L78 v1 v2 v3 v4 v6 s0)
else
rp_X9_buyTruce_L78 v1 v2 v3 v4 v6 s0))
def rp_X9_buyTruce_L39 (v1 : Int32) (v2 : Int32) (v3 : Int32) (v4 : Int32) (v5 : Int32) (s0 : Int32) : rc_M Int32 :=
(if v5 = 0 then
rp_X9_buyTruce_L52 v1 v2 v3 v4 v5 s0 (1 : Int32)
else
rp_X9_buyTruce_L52 v1 v2 v3 v4 v5 s0 (0 : Int32))
def rp_X9_buyTruce_L34 (v1 : Int32) (v2 : Int32) (v3 : Int32) (v4 : Int32) (v5 : Int32) : rc_M Int32 :=
rp_X9_buyTruce_L39 v1 v2 v3 v4 v5 (1 : Int32)
def rp_X9_buyTruce (v1 : Int32) (v2 : Int32) (v3 : Int32) (v4 : Int32) : rc_M Int32 :=
rc_bind (rp_X9_areCats v1 v2) fun x1 =>
(if v1 = v2 then
rp_X9_buyTruce_L34 v1 v2 v3 v4 x1
else
rc_bind (rp_X9_in v3 (1 : Int32) (9 : Int32)) fun x2 =>
(if x2 = 0 then
rp_X9_buyTruce_L34 v1 v2 v3 v4 x1
else
rc_bind (rp_X9_in v4 (1 : Int32) (20 : Int32)) fun x3 =>
(if x3 = 0 then
rp_X9_buyTruce_L34 v1 v2 v3 v4 x1
else
rp_X9_buyTruce_L39 v1 v2 v3 v4 x1 (0 : Int32))))
def rp_X9_nominate_L26 (v1 : Int32) (v2 : Int32) (s0 : Int32) (s1 : Int32) : rc_M Int32 :=
rc_bind (rp_X9_throwsOne_2 s1 s0) fun x1 =>
(if x1 = 0 then
rc_bind (rp_X9_begins) fun _ =>
rc_bind (rp_X9_nominates v1 v2) fun x2 =>
rc_bind (rp_X9_remember x2) fun x3 =>
rc_pure x3
else
rc_pure (0 : Int32))
def rp_X9_nominate_L14 (v1 : Int32) (v2 : Int32) (s0 : Int32) : rc_M Int32 :=
rc_bind (rp_X9_canNominate) fun x1 =>
(if x1 = 0 then
rp_X9_nominate_L26 v1 v2 (1 : Int32) s0
else
rp_X9_nominate_L26 v1 v2 (0 : Int32) s0)
def rp_X9_nominate (v1 : Int32) (v2 : Int32) : rc_M Int32 :=
rc_bind (rp_X9_areSizes v1 v2) fun x1 =>
(if x1 = 0 then
rp_X9_nominate_L14 v1 v2 (1 : Int32)
else
rp_X9_nominate_L14 v1 v2 (0 : Int32))
def rp_X9_vote_L60 (s0 : Int32) : rc_M Int32 :=
rc_bind (rp_X9_remember s0) fun x1 =>
(if x1 = (1 : Int32) then
rc_pure (1 : Int32)
else
rc_pure (0 : Int32))
def rp_X9_vote_L33 (v1 : Int32) (v2 : Int32) (s0 : Int32) (s1 : Int32) : rc_M Int32 :=
rc_bind (rp_X9_throwsOne_2 s1 s0) fun x1 =>
(if x1 = 0 then
rc_bind (rp_X9_begins) fun _ =>
rc_bind (rp_X9_votes v1 v2) fun x2 =>
(if x2 = 0 then
rp_X9_vote_L60 (0 : Int32)
else
rp_X9_vote_L60 (1 : Int32))
else
rc_pure (0 : Int32))
def rp_X9_vote_L32 (v1 : Int32) (v2 : Int32) (s0 : Int32) : rc_M Int32 :=
rp_X9_vote_L33 v1 v2 (0 : Int32) s0
def rp_X9_vote_L16 (v1 : Int32) (v2 : Int32) (v3 : Int32) (s0 : Int32) : rc_M Int32 :=
(if v3 = 0 then
rp_X9_vote_L32 v1 v2 s0
else
rc_bind (rp_X9_canVote v1) fun x1 =>
(if x1 = 0 then
rp_X9_vote_L33 v1 v2 (1 : Int32) s0
else
rp_X9_vote_L32 v1 v2 s0))
def rp_X9_vote (v1 : Int32) (v2 : Int32) : rc_M Int32 :=
rc_bind (rp_X9_isCat v1) fun x1 =>
(if x1 = 0 then
rp_X9_vote_L16 v1 v2 x1 (1 : Int32)
else
rp_X9_vote_L16 v1 v2 x1 (0 : Int32))
def rp_X9_passNights_L41 (v1 : Int32) (s0 : Int32) (s1 : Int32) : rc_M Int32 :=
rc_bind (rp_X9_throwsOne_2 s1 s0) fun x1 =>
(if x1 = 0 then
rc_bind (rp_X9_begins) fun _ =>
rc_bind (rp_X9_passes v1) fun x2 =>
rc_bind (rp_X9_remember x2) fun x3 =>
rc_pure x3
else
rc_pure (0 : Int32))
def rp_X9_passNights_L40 (v1 : Int32) (s0 : Int32) : rc_M Int32 :=
rp_X9_passNights_L41 v1 (0 : Int32) s0
def rp_X9_passNights_L15 (v1 : Int32) (s0 : Int32) : rc_M Int32 :=
(if s0 = 0 then
rc_bind (rc_mald 0 (3 : Int32)) fun x2 =>
(if (x2 + v1) ≤ (999 : Int32) then
rp_X9_passNights_L40 v1 s0
else
rp_X9_passNights_L41 v1 (1 : Int32) s0)
else
rp_X9_passNights_L40 v1 s0)
def rp_X9_passNights (v1 : Int32) : rc_M Int32 :=
rc_bind (rp_X9_in v1 (1 : Int32) (30 : Int32)) fun x1 =>
(if x1 = 0 then
rp_X9_passNights_L15 v1 (1 : Int32)
else
rp_X9_passNights_L15 v1 (0 : Int32))
def rp_X9_undo_L26 : Nat → Int32 → rc_M Int32
  | 0, _ => rc_fail
  | n + 1, v1 =>
    (if (186 : Int32) ≤ v1 then
    rc_bind (rc_mget 5) fun x1 =>
    rc_pure x1
    else
    rc_bind (rc_mget 5) fun x4 =>
    rc_bind (rc_mald 3 (((186 : Int32) * x4) + v1)) fun x5 =>
    rc_bind (rc_mast 0 v1 x5) fun _ =>
    rp_X9_undo_L26 n (v1 + (1 : Int32)))
def rp_X9_undo : rc_M Int32 :=
rc_bind (rc_mput 16 .int (0 : Int32)) fun _ =>
rc_bind (rc_mget 5) fun x1 =>
(if x1 = 0 then
rc_pure (-1 : Int32)
else
rc_bind (rc_mget 5) fun x2 =>
rc_bind (rc_mput 5 .int (x2 - (1 : Int32))) fun _ =>
rc_bind rc_fuel fun x3 =>
rp_X9_undo_L26 x3 (0 : Int32))
def rp_X9_undoCount : rc_M Int32 :=
rc_bind (rc_mput 16 .int (0 : Int32)) fun _ =>
rc_bind (rc_mget 5) fun x1 =>
rc_pure x1
def rp_X9_saveSnapshot_L12 : Nat → Int32 → rc_M Int32
  | 0, _ => rc_fail
  | n + 1, v1 =>
    (if (186 : Int32) ≤ v1 then
    rc_bind (rc_mald 0 (3 : Int32)) fun x2 =>
    rc_pure x2
    else
    rc_bind (rc_mald 0 v1) fun x5 =>
    rc_bind (rc_mast 4 v1 x5) fun _ =>
    rp_X9_saveSnapshot_L12 n (v1 + (1 : Int32)))
def rp_X9_saveSnapshot : rc_M Int32 :=
rc_bind (rc_mput 16 .int (0 : Int32)) fun _ =>
rc_bind (rc_mput 6 .boolean (1 : Int32)) fun _ =>
rc_bind rc_fuel fun x1 =>
rp_X9_saveSnapshot_L12 x1 (0 : Int32)
def rp_X9_restoreSnapshot_L23 : Nat → Int32 → rc_M Int32
  | 0, _ => rc_fail
  | n + 1, v1 =>
    (if (186 : Int32) ≤ v1 then
    rc_bind (rc_mput 5 .int (0 : Int32)) fun _ =>
    rc_bind (rc_mald 0 (3 : Int32)) fun x2 =>
    rc_pure x2
    else
    rc_bind (rc_mald 4 v1) fun x5 =>
    rc_bind (rc_mast 0 v1 x5) fun _ =>
    rp_X9_restoreSnapshot_L23 n (v1 + (1 : Int32)))
def rp_X9_restoreSnapshot_L13 (s0 : Int32) : rc_M Int32 :=
rc_bind (rp_X9_throwsOne s0) fun x1 =>
(if x1 = 0 then
rc_bind rc_fuel fun x2 =>
rp_X9_restoreSnapshot_L23 x2 (0 : Int32)
else
rc_pure (0 : Int32))
def rp_X9_restoreSnapshot : rc_M Int32 :=
rc_bind (rc_mget 6) fun x1 =>
(if x1 = 0 then
rp_X9_restoreSnapshot_L13 (1 : Int32)
else
rp_X9_restoreSnapshot_L13 (0 : Int32))
def rp_X9_scriptErrorKind : rc_M Int32 :=
rc_bind (rc_mput 16 .int (0 : Int32)) fun _ =>
rc_bind (rc_mget 12) fun x1 =>
rc_pure x1
def rp_X9_scriptErrorOffset : rc_M Int32 :=
rc_bind (rc_mput 16 .int (0 : Int32)) fun _ =>
rc_bind (rc_mget 13) fun x1 =>
rc_pure x1
def rp_X9_told (v1 : Int32) : rc_M Int32 :=
rc_bind (rc_mput 16 .int (0 : Int32)) fun _ =>
rc_bind (rc_mald 0 v1) fun x2 =>
rc_pure x2
def rp_X9_chimneyCount : rc_M Int32 :=
rc_bind (rp_X9_told (0 : Int32)) fun x1 =>
rc_pure x1
def rp_X9_gutterCount : rc_M Int32 :=
rc_bind (rp_X9_told (1 : Int32)) fun x1 =>
rc_pure x1
def rp_X9_catCount : rc_M Int32 :=
rc_bind (rp_X9_told (2 : Int32)) fun x1 =>
rc_pure x1
def rp_X9_night : rc_M Int32 :=
rc_bind (rp_X9_told (3 : Int32)) fun x1 =>
rc_pure x1
def rp_X9_moonPhase : rc_M Int32 :=
rc_bind (rp_X9_told (3 : Int32)) fun x1 =>
rc_pure (x1 - x1 / (8 : Int32) * (8 : Int32))
def rp_X9_warmth_L14 (v1 : Int32) (s0 : Int32) : rc_M Int32 :=
rc_bind (rp_X9_throwsOne s0) fun x1 =>
(if x1 = 0 then
rc_bind (rc_mald 0 ((10 : Int32) + v1)) fun x3 =>
rc_pure x3
else
rc_pure (0 : Int32))
def rp_X9_warmth (v1 : Int32) : rc_M Int32 :=
rc_bind (rp_X9_isChimney v1) fun x1 =>
(if x1 = 0 then
rp_X9_warmth_L14 v1 (1 : Int32)
else
rp_X9_warmth_L14 v1 (0 : Int32))
def rp_X9_ownerOf_L14 (v1 : Int32) (s0 : Int32) : rc_M Int32 :=
rc_bind (rp_X9_throwsOne s0) fun x1 =>
(if x1 = 0 then
rc_bind (rp_X9_owner v1) fun x2 =>
rc_pure x2
else
rc_pure (0 : Int32))
def rp_X9_ownerOf (v1 : Int32) : rc_M Int32 :=
rc_bind (rp_X9_isChimney v1) fun x1 =>
(if x1 = 0 then
rp_X9_ownerOf_L14 v1 (1 : Int32)
else
rp_X9_ownerOf_L14 v1 (0 : Int32))
def rp_X9_catOn_L14 (v1 : Int32) (s0 : Int32) : rc_M Int32 :=
rc_bind (rp_X9_throwsOne s0) fun x1 =>
(if x1 = 0 then
rc_bind (rp_X9_sitter v1) fun x2 =>
rc_pure x2
else
rc_pure (0 : Int32))
def rp_X9_catOn (v1 : Int32) : rc_M Int32 :=
rc_bind (rp_X9_isChimney v1) fun x1 =>
(if x1 = 0 then
rp_X9_catOn_L14 v1 (1 : Int32)
else
rp_X9_catOn_L14 v1 (0 : Int32))
def rp_X9_gutterEnds_L14 (v1 : Int32) (s0 : Int32) : rc_M Int32 :=
rc_bind (rp_X9_throwsOne s0) fun x1 =>
(if x1 = 0 then
rc_bind (rp_X9_gutter v1 (0 : Int32)) fun x2 =>
rc_bind (rp_X9_gutter v1 (1 : Int32)) fun x3 =>
rc_pure (((1 : Int32) <<< (x2 &&& 31)) ||| ((1 : Int32) <<< (x3 &&& 31)))
else
rc_pure (0 : Int32))
def rp_X9_gutterEnds (v1 : Int32) : rc_M Int32 :=
rc_bind (rp_X9_isGutter v1) fun x1 =>
(if x1 = 0 then
rp_X9_gutterEnds_L14 v1 (1 : Int32)
else
rp_X9_gutterEnds_L14 v1 (0 : Int32))
def rp_X9_width_L14 (v1 : Int32) (s0 : Int32) : rc_M Int32 :=
rc_bind (rp_X9_throwsOne s0) fun x1 =>
(if x1 = 0 then
rc_bind (rp_X9_gutter v1 (2 : Int32)) fun x2 =>
rc_pure x2
else
rc_pure (0 : Int32))
def rp_X9_width (v1 : Int32) : rc_M Int32 :=
rc_bind (rp_X9_isGutter v1) fun x1 =>
(if x1 = 0 then
rp_X9_width_L14 v1 (1 : Int32)
else
rp_X9_width_L14 v1 (0 : Int32))
def rp_X9_reachedBy_L78 (k7 : Int32 → Int32 → Int32 → rc_M Int32) (k21 : Int32 → Int32 → Int32 → Int32 → rc_M Int32) (v1 : Int32) (v4 : Int32) (v5 : Int32) (s0 : Int32) (s1 : Int32) : rc_M Int32 :=
k21 v1 (s1 ||| s0) v4 (v5 + (1 : Int32))
def rp_X9_reachedBy_L77 (k7 : Int32 → Int32 → Int32 → rc_M Int32) (k21 : Int32 → Int32 → Int32 → Int32 → rc_M Int32) (v1 : Int32) (v4 : Int32) (v5 : Int32) (s0 : Int32) : rc_M Int32 :=
rp_X9_reachedBy_L78 k7 k21 v1 v4 v5 (0 : Int32) s0
def rp_X9_reachedBy_L21 (k7 : Int32 → Int32 → Int32 → rc_M Int32) : Nat → Int32 → Int32 → Int32 → Int32 → rc_M Int32
  | 0, _, _, _, _ => rc_fail
  | n + 1, v1, v3, v4, v5 =>
    rc_bind (rc_mald 0 (1 : Int32)) fun x2 =>
    (if x2 ≤ v5 then
    k7 v1 v3 (v4 + (1 : Int32))
    else
    rc_bind (rp_X9_gutter v5 (0 : Int32)) fun x3 =>
    rc_bind (rp_X9_gutter v5 (1 : Int32)) fun x4 =>
    rc_bind (rp_X9_gutter v5 (2 : Int32)) fun x5 =>
    (if x5 < v1 then
    rp_X9_reachedBy_L77 k7 (rp_X9_reachedBy_L21 k7 n) v1 v4 v5 v3
    else
    (if (v3 &&& (((1 : Int32) <<< (x3 &&& 31)) ||| ((1 : Int32) <<< (x4 &&& 31)))) = 0 then
    rp_X9_reachedBy_L77 k7 (rp_X9_reachedBy_L21 k7 n) v1 v4 v5 v3
    else
    rp_X9_reachedBy_L78 k7 (rp_X9_reachedBy_L21 k7 n) v1 v4 v5 (((1 : Int32) <<< (x3 &&& 31)) ||| ((1 : Int32) <<< (x4 &&& 31))) v3)))
def rp_X9_reachedBy_L7 : Nat → Int32 → Int32 → Int32 → rc_M Int32
  | 0, _, _, _ => rc_fail
  | n + 1, v1, v3, v4 =>
    rc_bind (rc_mald 0 (0 : Int32)) fun x2 =>
    (if x2 ≤ v4 then
    rc_pure v3
    else
    rc_bind rc_fuel fun x3 =>
    rp_X9_reachedBy_L21 (rp_X9_reachedBy_L7  n) x3 v1 v3 v4 (0 : Int32))
def rp_X9_reachedBy (v1 : Int32) (v2 : Int32) : rc_M Int32 :=
rc_bind rc_fuel fun x1 =>
rp_X9_reachedBy_L7 x1 v1 ((1 : Int32) <<< (v2 &&& 31)) (0 : Int32)
def rp_X9_widestWay_L33 : Nat → Int32 → Int32 → Int32 → rc_M Int32
  | 0, _, _, _ => rc_fail
  | n + 1, v1, v2, v3 =>
    (if v3 ≤ 0 then
    rc_pure (-1 : Int32)
    else
    rc_bind (rp_X9_reachedBy v3 v1) fun x1 =>
    (if ((x1 >>> (v2 &&& 31)) &&& (1 : Int32)) = (1 : Int32) then
    rc_pure v3
    else
    rp_X9_widestWay_L33 n v1 v2 (v3 + (-1 : Int32))))
def rp_X9_widestWay_L22 (v1 : Int32) (v2 : Int32) (s0 : Int32) : rc_M Int32 :=
rc_bind (rp_X9_throwsOne s0) fun x1 =>
(if x1 = 0 then
rc_bind rc_fuel fun x2 =>
rp_X9_widestWay_L33 x2 v1 v2 (9 : Int32)
else
rc_pure (0 : Int32))
def rp_X9_widestWay_L17 (v1 : Int32) (v2 : Int32) : rc_M Int32 :=
rp_X9_widestWay_L22 v1 v2 (1 : Int32)
def rp_X9_widestWay (v1 : Int32) (v2 : Int32) : rc_M Int32 :=
rc_bind (rp_X9_isChimney v1) fun x1 =>
(if x1 = 0 then
rp_X9_widestWay_L17 v1 v2
else
rc_bind (rp_X9_isChimney v2) fun x2 =>
(if x2 = 0 then
rp_X9_widestWay_L17 v1 v2
else
rp_X9_widestWay_L22 v1 v2 (0 : Int32)))
def rp_X9_warmestFree : rc_M Int32 :=
rc_bind (rc_mput 16 .int (0 : Int32)) fun _ =>
rc_bind (rp_X9_warmestPlace) fun x1 =>
rc_pure x1
def rp_X9_catTold_L14 (v1 : Int32) (v2 : Int32) (s0 : Int32) : rc_M Int32 :=
rc_bind (rp_X9_throwsOne s0) fun x1 =>
(if x1 = 0 then
rc_bind (rp_X9_of v1 v2) fun x2 =>
rc_pure x2
else
rc_pure (0 : Int32))
def rp_X9_catTold (v1 : Int32) (v2 : Int32) : rc_M Int32 :=
rc_bind (rp_X9_isCat v1) fun x1 =>
(if x1 = 0 then
rp_X9_catTold_L14 v1 v2 (1 : Int32)
else
rp_X9_catTold_L14 v1 v2 (0 : Int32))
def rp_X9_girth (v1 : Int32) : rc_M Int32 :=
rc_bind (rp_X9_catTold v1 (0 : Int32)) fun x1 =>
rc_pure x1
def rp_X9_power_L14 (v1 : Int32) (s0 : Int32) : rc_M Int32 :=
rc_bind (rp_X9_throwsOne s0) fun x1 =>
(if x1 = 0 then
rc_bind (rp_X9_powerOf v1) fun x2 =>
rc_pure x2
else
rc_pure (0 : Int32))
def rp_X9_power (v1 : Int32) : rc_M Int32 :=
rc_bind (rp_X9_isCat v1) fun x1 =>
(if x1 = 0 then
rp_X9_power_L14 v1 (1 : Int32)
else
rp_X9_power_L14 v1 (0 : Int32))
def rp_X9_fish (v1 : Int32) : rc_M Int32 :=
rc_bind (rp_X9_catTold v1 (2 : Int32)) fun x1 =>
rc_pure x1
def rp_X9_chimneyOf (v1 : Int32) : rc_M Int32 :=
rc_bind (rp_X9_catTold v1 (3 : Int32)) fun x1 =>
rc_pure x1
def rp_X9_ownedChimneys_L53 (k26 : Int32 → Int32 → Int32 → rc_M Int32) (v1 : Int32) (v3 : Int32) (s0 : Int32) (s1 : Int32) : rc_M Int32 :=
k26 v1 (s1 ||| s0) (v3 + (1 : Int32))
def rp_X9_ownedChimneys_L26 : Nat → Int32 → Int32 → Int32 → rc_M Int32
  | 0, _, _, _ => rc_fail
  | n + 1, v1, v2, v3 =>
    rc_bind (rc_mald 0 (0 : Int32)) fun x2 =>
    (if x2 ≤ v3 then
    rc_pure v2
    else
    rc_bind (rp_X9_owner v3) fun x3 =>
    (if x3 = v1 then
    rp_X9_ownedChimneys_L53 (rp_X9_ownedChimneys_L26  n) v1 v3 ((1 : Int32) <<< (v3 &&& 31)) v2
    else
    rp_X9_ownedChimneys_L53 (rp_X9_ownedChimneys_L26  n) v1 v3 (0 : Int32) v2))
def rp_X9_ownedChimneys_L14 (v1 : Int32) (s0 : Int32) : rc_M Int32 :=
rc_bind (rp_X9_throwsOne s0) fun x1 =>
(if x1 = 0 then
rc_bind rc_fuel fun x2 =>
rp_X9_ownedChimneys_L26 x2 v1 (0 : Int32) (0 : Int32)
else
rc_pure (0 : Int32))
def rp_X9_ownedChimneys (v1 : Int32) : rc_M Int32 :=
rc_bind (rp_X9_isCat v1) fun x1 =>
(if x1 = 0 then
rp_X9_ownedChimneys_L14 v1 (1 : Int32)
else
rp_X9_ownedChimneys_L14 v1 (0 : Int32))
def rp_X9_truceNights_L25 (v1 : Int32) (v2 : Int32) (s0 : Int32) (s1 : Int32) : rc_M Int32 :=
rc_bind (rp_X9_throwsOne_2 s1 s0) fun x1 =>
(if x1 = 0 then
rc_bind (rp_X9_truceLeft v1 v2) fun x2 =>
rc_pure x2
else
rc_pure (0 : Int32))
def rp_X9_truceNights_L15 (v1 : Int32) (v2 : Int32) (s0 : Int32) : rc_M Int32 :=
(if v1 = v2 then
rp_X9_truceNights_L25 v1 v2 (1 : Int32) s0
else
rp_X9_truceNights_L25 v1 v2 (0 : Int32) s0)
def rp_X9_truceNights (v1 : Int32) (v2 : Int32) : rc_M Int32 :=
rc_bind (rp_X9_areCats v1 v2) fun x1 =>
(if x1 = 0 then
rp_X9_truceNights_L15 v1 v2 (1 : Int32)
else
rp_X9_truceNights_L15 v1 v2 (0 : Int32))
def rp_X9_spreads_L74 (k3 : Int32 → Int32 → Int32 → Int32 → rc_M Unit) (v1 : Int32) (v2 : Int32) (v3 : Int32) (v4 : Int32) : rc_M Unit :=
k3 v1 v2 v3 (v4 + (1 : Int32))
def rp_X9_spreads_L3 : Nat → Int32 → Int32 → Int32 → Int32 → rc_M Unit
  | 0, _, _, _, _ => rc_fail
  | n + 1, v1, v2, v3, v4 =>
    rc_bind (rc_mald 0 (1 : Int32)) fun x2 =>
    (if x2 ≤ v4 then
    rc_pure ()
    else
    rc_bind (rp_X9_across v4 v2) fun x3 =>
    (if x3 = (-1 : Int32) then
    rp_X9_spreads_L74 (rp_X9_spreads_L3  n) v1 v2 v3 v4
    else
    rc_bind (rc_mald 9 x3) fun x5 =>
    (if x5 = (-1 : Int32) then
    rc_bind (rp_X9_gutter v4 (2 : Int32)) fun x6 =>
    rc_bind (rp_X9_of v1 (0 : Int32)) fun x7 =>
    (if x6 < x7 then
    rp_X9_spreads_L74 (rp_X9_spreads_L3  n) v1 v2 v3 v4
    else
    rc_bind (rp_X9_whyNotIn v1 x3) fun x8 =>
    (if x8 = 0 then
    rc_bind (rc_mast 9 x3 v3) fun _ =>
    rp_X9_spreads_L74 (rp_X9_spreads_L3  n) v1 v2 v3 v4
    else
    rp_X9_spreads_L74 (rp_X9_spreads_L3  n) v1 v2 v3 v4))
    else
    rp_X9_spreads_L74 (rp_X9_spreads_L3  n) v1 v2 v3 v4)))
def rp_X9_spreads (v1 : Int32) (v2 : Int32) (v3 : Int32) : rc_M Unit :=
rc_bind rc_fuel fun x1 =>
rp_X9_spreads_L3 x1 v1 v2 v3 (0 : Int32)
def rp_X9_walks_L76 (k35 : Int32 → Int32 → rc_M Unit) (k47 : Int32 → Int32 → Int32 → rc_M Unit) (v1 : Int32) (v2 : Int32) (v3 : Int32) : rc_M Unit :=
k47 v1 v2 (v3 + (1 : Int32))
def rp_X9_walks_L47 (k35 : Int32 → Int32 → rc_M Unit) : Nat → Int32 → Int32 → Int32 → rc_M Unit
  | 0, _, _, _ => rc_fail
  | n + 1, v1, v2, v3 =>
    rc_bind (rc_mald 0 (0 : Int32)) fun x2 =>
    (if x2 ≤ v3 then
    k35 v1 (v2 + (1 : Int32))
    else
    rc_bind (rc_mald 9 v3) fun x4 =>
    (if x4 = v2 then
    rc_bind (rp_X9_spreads v1 v3 (v2 + (1 : Int32))) fun _ =>
    rp_X9_walks_L76 k35 (rp_X9_walks_L47 k35 n) v1 v2 v3
    else
    rp_X9_walks_L76 k35 (rp_X9_walks_L47 k35 n) v1 v2 v3))
def rp_X9_walks_L35 : Nat → Int32 → Int32 → rc_M Unit
  | 0, _, _ => rc_fail
  | n + 1, v1, v2 =>
    rc_bind (rc_mald 0 (0 : Int32)) fun x2 =>
    (if x2 ≤ v2 then
    rc_pure ()
    else
    rc_bind rc_fuel fun x3 =>
    rp_X9_walks_L47 (rp_X9_walks_L35  n) x3 v1 v2 (0 : Int32))
def rp_X9_walks_L2 : Nat → Int32 → Int32 → rc_M Unit
  | 0, _, _ => rc_fail
  | n + 1, v1, v2 =>
    (if (10 : Int32) ≤ v2 then
    rc_bind (rp_X9_of v1 (3 : Int32)) fun x2 =>
    rc_bind (rc_mast 9 x2 (0 : Int32)) fun _ =>
    rc_bind rc_fuel fun x3 =>
    rp_X9_walks_L35 x3 v1 (0 : Int32)
    else
    rc_bind (rc_mast 9 v2 (-1 : Int32)) fun _ =>
    rp_X9_walks_L2 n v1 (v2 + (1 : Int32)))
def rp_X9_walks (v1 : Int32) : rc_M Unit :=
rc_bind rc_fuel fun x1 =>
rp_X9_walks_L2 x1 v1 (0 : Int32)
def rp_X9_reachable_L59 (k31 : Int32 → Int32 → rc_M Int32) (v3 : Int32) (s0 : Int32) (s1 : Int32) : rc_M Int32 :=
k31 (s1 ||| s0) (v3 + (1 : Int32))
def rp_X9_reachable_L31 : Nat → Int32 → Int32 → rc_M Int32
  | 0, _, _ => rc_fail
  | n + 1, v2, v3 =>
    rc_bind (rc_mald 0 (0 : Int32)) fun x2 =>
    (if x2 ≤ v3 then
    rc_pure v2
    else
    rc_bind (rc_mald 9 v3) fun x4 =>
    (if x4 = (-1 : Int32) then
    rp_X9_reachable_L59 (rp_X9_reachable_L31  n) v3 (0 : Int32) v2
    else
    rp_X9_reachable_L59 (rp_X9_reachable_L31  n) v3 ((1 : Int32) <<< (v3 &&& 31)) v2))
def rp_X9_reachable_L14 (v1 : Int32) (s0 : Int32) : rc_M Int32 :=
rc_bind (rp_X9_throwsOne s0) fun x1 =>
(if x1 = 0 then
rc_bind (rp_X9_walks v1) fun _ =>
rc_bind rc_fuel fun x2 =>
rp_X9_reachable_L31 x2 (0 : Int32) (0 : Int32)
else
rc_pure (0 : Int32))
def rp_X9_reachable (v1 : Int32) : rc_M Int32 :=
rc_bind (rp_X9_isCat v1) fun x1 =>
(if x1 = 0 then
rp_X9_reachable_L14 v1 (1 : Int32)
else
rp_X9_reachable_L14 v1 (0 : Int32))
def rp_X9_stepsTo_L22 (v1 : Int32) (v2 : Int32) (s0 : Int32) : rc_M Int32 :=
rc_bind (rp_X9_throwsOne s0) fun x1 =>
(if x1 = 0 then
rc_bind (rp_X9_walks v1) fun _ =>
rc_bind (rc_mald 9 v2) fun x3 =>
rc_pure x3
else
rc_pure (0 : Int32))
def rp_X9_stepsTo_L17 (v1 : Int32) (v2 : Int32) : rc_M Int32 :=
rp_X9_stepsTo_L22 v1 v2 (1 : Int32)
def rp_X9_stepsTo (v1 : Int32) (v2 : Int32) : rc_M Int32 :=
rc_bind (rp_X9_isCat v1) fun x1 =>
(if x1 = 0 then
rp_X9_stepsTo_L17 v1 v2
else
rc_bind (rp_X9_isChimney v2) fun x2 =>
(if x2 = 0 then
rp_X9_stepsTo_L17 v1 v2
else
rp_X9_stepsTo_L22 v1 v2 (0 : Int32)))
def rp_X9_openGutters_L53 (k26 : Int32 → Int32 → Int32 → rc_M Int32) (v1 : Int32) (v3 : Int32) (s0 : Int32) (s1 : Int32) : rc_M Int32 :=
k26 v1 (s1 ||| s0) (v3 + (1 : Int32))
def rp_X9_openGutters_L26 : Nat → Int32 → Int32 → Int32 → rc_M Int32
  | 0, _, _, _ => rc_fail
  | n + 1, v1, v2, v3 =>
    rc_bind (rc_mald 0 (1 : Int32)) fun x2 =>
    (if x2 ≤ v3 then
    rc_pure v2
    else
    rc_bind (rp_X9_whyStays v1 v3) fun x3 =>
    (if x3 = 0 then
    rp_X9_openGutters_L53 (rp_X9_openGutters_L26  n) v1 v3 ((1 : Int32) <<< (v3 &&& 31)) v2
    else
    rp_X9_openGutters_L53 (rp_X9_openGutters_L26  n) v1 v3 (0 : Int32) v2))
def rp_X9_openGutters_L14 (v1 : Int32) (s0 : Int32) : rc_M Int32 :=
rc_bind (rp_X9_throwsOne s0) fun x1 =>
(if x1 = 0 then
rc_bind rc_fuel fun x2 =>
rp_X9_openGutters_L26 x2 v1 (0 : Int32) (0 : Int32)
else
rc_pure (0 : Int32))
def rp_X9_openGutters (v1 : Int32) : rc_M Int32 :=
rc_bind (rp_X9_isCat v1) fun x1 =>
(if x1 = 0 then
rp_X9_openGutters_L14 v1 (1 : Int32)
else
rp_X9_openGutters_L14 v1 (0 : Int32))
def rp_X9_whyNoStep_L22 (v1 : Int32) (v2 : Int32) (s0 : Int32) : rc_M Int32 :=
rc_bind (rp_X9_throwsOne s0) fun x1 =>
(if x1 = 0 then
rc_bind (rp_X9_whyStays v1 v2) fun x2 =>
rc_pure x2
else
rc_pure (0 : Int32))
def rp_X9_whyNoStep_L17 (v1 : Int32) (v2 : Int32) : rc_M Int32 :=
rp_X9_whyNoStep_L22 v1 v2 (1 : Int32)
def rp_X9_whyNoStep (v1 : Int32) (v2 : Int32) : rc_M Int32 :=
rc_bind (rp_X9_isCat v1) fun x1 =>
(if x1 = 0 then
rp_X9_whyNoStep_L17 v1 v2
else
rc_bind (rp_X9_isGutter v2) fun x2 =>
(if x2 = 0 then
rp_X9_whyNoStep_L17 v1 v2
else
rp_X9_whyNoStep_L22 v1 v2 (0 : Int32)))
def rp_X9_whyNoClaim_L14 (v1 : Int32) (s0 : Int32) : rc_M Int32 :=
rc_bind (rp_X9_throwsOne s0) fun x1 =>
(if x1 = 0 then
rc_bind (rp_X9_whyLeaves v1) fun x2 =>
rc_pure x2
else
rc_pure (0 : Int32))
def rp_X9_whyNoClaim (v1 : Int32) : rc_M Int32 :=
rc_bind (rp_X9_isCat v1) fun x1 =>
(if x1 = 0 then
rp_X9_whyNoClaim_L14 v1 (1 : Int32)
else
rp_X9_whyNoClaim_L14 v1 (0 : Int32))
def rp_X9_whyNoChase_L25 (v1 : Int32) (v2 : Int32) (s0 : Int32) (s1 : Int32) : rc_M Int32 :=
rc_bind (rp_X9_throwsOne_2 s1 s0) fun x1 =>
(if x1 = 0 then
rc_bind (rp_X9_whySpares v1 v2) fun x2 =>
rc_pure x2
else
rc_pure (0 : Int32))
def rp_X9_whyNoChase_L15 (v1 : Int32) (v2 : Int32) (s0 : Int32) : rc_M Int32 :=
(if v1 = v2 then
rp_X9_whyNoChase_L25 v1 v2 (1 : Int32) s0
else
rp_X9_whyNoChase_L25 v1 v2 (0 : Int32) s0)
def rp_X9_whyNoChase (v1 : Int32) (v2 : Int32) : rc_M Int32 :=
rc_bind (rp_X9_areCats v1 v2) fun x1 =>
(if x1 = 0 then
rp_X9_whyNoChase_L15 v1 v2 (1 : Int32)
else
rp_X9_whyNoChase_L15 v1 v2 (0 : Int32))
def rp_X9_preyOf_L58 (k26 : Int32 → Int32 → Int32 → rc_M Int32) (v1 : Int32) (v3 : Int32) (s0 : Int32) (s1 : Int32) : rc_M Int32 :=
k26 v1 (s1 ||| s0) (v3 + (1 : Int32))
def rp_X9_preyOf_L57 (k26 : Int32 → Int32 → Int32 → rc_M Int32) (v1 : Int32) (v3 : Int32) (s0 : Int32) : rc_M Int32 :=
rp_X9_preyOf_L58 k26 v1 v3 (0 : Int32) s0
def rp_X9_preyOf_L26 : Nat → Int32 → Int32 → Int32 → rc_M Int32
  | 0, _, _, _ => rc_fail
  | n + 1, v1, v2, v3 =>
    rc_bind (rc_mald 0 (2 : Int32)) fun x2 =>
    (if x2 ≤ v3 then
    rc_pure v2
    else
    (if v3 = v1 then
    rp_X9_preyOf_L57 (rp_X9_preyOf_L26  n) v1 v3 v2
    else
    rc_bind (rp_X9_whySpares v1 v3) fun x3 =>
    (if x3 = 0 then
    rp_X9_preyOf_L58 (rp_X9_preyOf_L26  n) v1 v3 ((1 : Int32) <<< (v3 &&& 31)) v2
    else
    rp_X9_preyOf_L57 (rp_X9_preyOf_L26  n) v1 v3 v2)))
def rp_X9_preyOf_L14 (v1 : Int32) (s0 : Int32) : rc_M Int32 :=
rc_bind (rp_X9_throwsOne s0) fun x1 =>
(if x1 = 0 then
rc_bind rc_fuel fun x2 =>
rp_X9_preyOf_L26 x2 v1 (0 : Int32) (0 : Int32)
else
rc_pure (0 : Int32))
def rp_X9_preyOf (v1 : Int32) : rc_M Int32 :=
rc_bind (rp_X9_isCat v1) fun x1 =>
(if x1 = 0 then
rp_X9_preyOf_L14 v1 (1 : Int32)
else
rp_X9_preyOf_L14 v1 (0 : Int32))
def rp_X9_isKittenWaiting : rc_M Int32 :=
rc_bind (rc_mput 16 .int (0 : Int32)) fun _ =>
rc_bind (rp_X9_waits) fun x1 =>
rc_bind (rc_narM .boolean x1) fun _ =>
rc_pure x1
def rp_X9_votesFor : rc_M Int32 :=
rc_bind (rc_mput 16 .int (0 : Int32)) fun _ =>
rc_bind (rc_mald 0 (7 : Int32)) fun x2 =>
rc_bind (rp_X9_bits x2) fun x3 =>
rc_pure x3
def rp_X9_votesAgainst : rc_M Int32 :=
rc_bind (rc_mput 16 .int (0 : Int32)) fun _ =>
rc_bind (rc_mald 0 (6 : Int32)) fun x2 =>
rc_bind (rp_X9_bits x2) fun x3 =>
rc_bind (rc_mald 0 (7 : Int32)) fun x5 =>
rc_bind (rp_X9_bits x5) fun x6 =>
rc_pure (x3 - x6)
def rp_X9_hasVoted_L14 (v1 : Int32) (s0 : Int32) : rc_M Int32 :=
rc_bind (rp_X9_throwsOne s0) fun x1 =>
(if x1 = 0 then
rc_bind (rc_mald 0 (6 : Int32)) fun x3 =>
(if ((x3 >>> (v1 &&& 31)) &&& (1 : Int32)) = (1 : Int32) then
rc_pure (1 : Int32)
else
rc_pure (0 : Int32))
else
rc_pure (0 : Int32))
def rp_X9_hasVoted (v1 : Int32) : rc_M Int32 :=
rc_bind (rp_X9_isCat v1) fun x1 =>
(if x1 = 0 then
rp_X9_hasVoted_L14 v1 (1 : Int32)
else
rp_X9_hasVoted_L14 v1 (0 : Int32))
def rp_X9_choirOf_L14 (v1 : Int32) (s0 : Int32) : rc_M Int32 :=
rc_bind (rp_X9_throwsOne s0) fun x1 =>
(if x1 = 0 then
rc_bind (rp_X9_choir v1) fun x2 =>
rc_pure x2
else
rc_pure (0 : Int32))
def rp_X9_choirOf (v1 : Int32) : rc_M Int32 :=
rc_bind (rp_X9_isCat v1) fun x1 =>
(if x1 = 0 then
rp_X9_choirOf_L14 v1 (1 : Int32)
else
rp_X9_choirOf_L14 v1 (0 : Int32))
def rp_X9_choirCount_L37 (k9 : Int32 → Int32 → rc_M Int32) (v2 : Int32) (s0 : Int32) (s1 : Int32) : rc_M Int32 :=
k9 (s1 + s0) (v2 + (1 : Int32))
def rp_X9_choirCount_L9 : Nat → Int32 → Int32 → rc_M Int32
  | 0, _, _ => rc_fail
  | n + 1, v1, v2 =>
    rc_bind (rc_mald 0 (2 : Int32)) fun x2 =>
    (if x2 ≤ v2 then
    rc_pure v1
    else
    rc_bind (rp_X9_choir v2) fun x3 =>
    (if ((1 : Int32) <<< (v2 &&& 31)) = 0 then
    rc_fail
    else
    (if (x3 - x3 / ((1 : Int32) <<< (v2 &&& 31)) * ((1 : Int32) <<< (v2 &&& 31))) = 0 then
    rp_X9_choirCount_L37 (rp_X9_choirCount_L9  n) v2 (1 : Int32) v1
    else
    rp_X9_choirCount_L37 (rp_X9_choirCount_L9  n) v2 (0 : Int32) v1)))
def rp_X9_choirCount : rc_M Int32 :=
rc_bind (rc_mput 16 .int (0 : Int32)) fun _ =>
rc_bind rc_fuel fun x1 =>
rp_X9_choirCount_L9 x1 (0 : Int32) (0 : Int32)
def rp_X9_largestChoir : rc_M Int32 :=
rc_bind (rc_mput 16 .int (0 : Int32)) fun _ =>
rc_bind (rp_X9_greatestChoir) fun x1 =>
rc_pure x1
def rp_X9_nightsToFullMoon_L7 : Nat → Int32 → rc_M Int32
  | 0, _ => rc_fail
  | n + 1, v1 =>
    rc_bind (rc_mald 0 (3 : Int32)) fun x2 =>
    (if ((x2 + v1) - (x2 + v1) / (8 : Int32) * (8 : Int32)) = (4 : Int32) then
    rc_pure v1
    else
    rp_X9_nightsToFullMoon_L7 n (v1 + (1 : Int32)))
def rp_X9_nightsToFullMoon : rc_M Int32 :=
rc_bind (rc_mput 16 .int (0 : Int32)) fun _ =>
rc_bind rc_fuel fun x1 =>
rp_X9_nightsToFullMoon_L7 x1 (1 : Int32)
def rp_X9_fishAfter_L80 : Nat → Int32 → Int32 → rc_M Int32
  | 0, _, _ => rc_fail
  | n + 1, v3, v4 =>
    (if (186 : Int32) ≤ v4 then
    rc_pure v3
    else
    rc_bind (rc_mald 2 v4) fun x3 =>
    rc_bind (rc_mast 0 v4 x3) fun _ =>
    rp_X9_fishAfter_L80 n v3 (v4 + (1 : Int32)))
def rp_X9_fishAfter_L39 : Nat → Int32 → Int32 → Int32 → rc_M Int32
  | 0, _, _, _ => rc_fail
  | n + 1, v1, v2, v3 =>
    (if (186 : Int32) ≤ v3 then
    rc_bind (rp_X9_passes v2) fun x1 =>
    rc_bind (rp_X9_of v1 (2 : Int32)) fun x2 =>
    rc_bind rc_fuel fun x3 =>
    rp_X9_fishAfter_L80 x3 x2 (0 : Int32)
    else
    rc_bind (rc_mald 0 v3) fun x6 =>
    rc_bind (rc_mast 2 v3 x6) fun _ =>
    rp_X9_fishAfter_L39 n v1 v2 (v3 + (1 : Int32)))
def rp_X9_fishAfter_L29 (v1 : Int32) (v2 : Int32) (s0 : Int32) (s1 : Int32) : rc_M Int32 :=
rc_bind (rp_X9_throwsOne_2 s1 s0) fun x1 =>
(if x1 = 0 then
rc_bind rc_fuel fun x2 =>
rp_X9_fishAfter_L39 x2 v1 v2 (0 : Int32)
else
rc_pure (0 : Int32))
def rp_X9_fishAfter_L14 (v1 : Int32) (v2 : Int32) (s0 : Int32) : rc_M Int32 :=
rc_bind (rp_X9_in v2 (0 : Int32) (30 : Int32)) fun x1 =>
(if x1 = 0 then
rp_X9_fishAfter_L29 v1 v2 (1 : Int32) s0
else
rp_X9_fishAfter_L29 v1 v2 (0 : Int32) s0)
def rp_X9_fishAfter (v1 : Int32) (v2 : Int32) : rc_M Int32 :=
rc_bind (rp_X9_isCat v1) fun x1 =>
(if x1 = 0 then
rp_X9_fishAfter_L14 v1 v2 (1 : Int32)
else
rp_X9_fishAfter_L14 v1 v2 (0 : Int32))
def rp_X9_richestCat_L41 (k9 : Int32 → Int32 → rc_M Int32) (v1 : Int32) (v2 : Int32) : rc_M Int32 :=
k9 v1 (v2 + (1 : Int32))
def rp_X9_richestCat_L39 (k9 : Int32 → Int32 → rc_M Int32) (v2 : Int32) : rc_M Int32 :=
rp_X9_richestCat_L41 k9 v2 v2
def rp_X9_richestCat_L9 : Nat → Int32 → Int32 → rc_M Int32
  | 0, _, _ => rc_fail
  | n + 1, v1, v2 =>
    rc_bind (rc_mald 0 (2 : Int32)) fun x2 =>
    (if x2 ≤ v2 then
    rc_pure v1
    else
    (if v1 = (-1 : Int32) then
    rp_X9_richestCat_L39 (rp_X9_richestCat_L9  n) v2
    else
    rc_bind (rp_X9_of v2 (2 : Int32)) fun x3 =>
    rc_bind (rp_X9_of v1 (2 : Int32)) fun x4 =>
    (if x3 ≤ x4 then
    rp_X9_richestCat_L41 (rp_X9_richestCat_L9  n) v1 v2
    else
    rp_X9_richestCat_L39 (rp_X9_richestCat_L9  n) v2)))
def rp_X9_richestCat : rc_M Int32 :=
rc_bind (rc_mput 16 .int (0 : Int32)) fun _ =>
rc_bind rc_fuel fun x1 =>
rp_X9_richestCat_L9 x1 (-1 : Int32) (0 : Int32)
def rp_X9_allFish_L4 : Nat → Int32 → Int32 → rc_M Int32
  | 0, _, _ => rc_fail
  | n + 1, v1, v2 =>
    rc_bind (rc_mald 0 (2 : Int32)) fun x2 =>
    (if x2 ≤ v2 then
    rc_pure v1
    else
    rc_bind (rp_X9_of v2 (2 : Int32)) fun x3 =>
    rp_X9_allFish_L4 n (v1 + x3) (v2 + (1 : Int32)))
def rp_X9_allFish : rc_M Int32 :=
rc_bind rc_fuel fun x1 =>
rp_X9_allFish_L4 x1 (0 : Int32) (0 : Int32)
def rp_X9_totalFish : rc_M Int32 :=
rc_bind (rc_mput 16 .int (0 : Int32)) fun _ =>
rc_bind (rp_X9_allFish) fun x1 =>
rc_pure x1
def rp_X9_meanFish : rc_M UInt64 :=
rc_bind (rc_mput 16 .int (0 : Int32)) fun _ =>
rc_bind (rc_mald 0 (2 : Int32)) fun x2 =>
(if x2 = 0 then
rc_pure FP.dconst0
else
rc_bind (rp_X9_allFish) fun x3 =>
rc_bind (rc_mald 0 (2 : Int32)) fun x5 =>
rc_bind (rc_ddivM (FP.i2d x3) (FP.i2d x5)) fun x6 =>
rc_pure x6)
def rp_X9_ownedShare_L34 (k9 : Int32 → Int32 → rc_M UInt32) (v2 : Int32) (s0 : Int32) (s1 : Int32) : rc_M UInt32 :=
k9 (s1 + s0) (v2 + (1 : Int32))
def rp_X9_ownedShare_L9 : Nat → Int32 → Int32 → rc_M UInt32
  | 0, _, _ => rc_fail
  | n + 1, v1, v2 =>
    rc_bind (rc_mald 0 (0 : Int32)) fun x2 =>
    (if x2 ≤ v2 then
    rc_bind (rc_mald 0 (0 : Int32)) fun x4 =>
    (if x4 = 0 then
    rc_pure FP.fconst0
    else
    rc_bind (rc_mald 0 (0 : Int32)) fun x6 =>
    rc_bind (rc_fdivM (FP.i2f v1) (FP.i2f x6)) fun x7 =>
    rc_pure x7)
    else
    rc_bind (rp_X9_owner v2) fun x8 =>
    (if x8 = (-1 : Int32) then
    rp_X9_ownedShare_L34 (rp_X9_ownedShare_L9  n) v2 (0 : Int32) v1
    else
    rp_X9_ownedShare_L34 (rp_X9_ownedShare_L9  n) v2 (1 : Int32) v1))
def rp_X9_ownedShare : rc_M UInt32 :=
rc_bind (rc_mput 16 .int (0 : Int32)) fun _ =>
rc_bind rc_fuel fun x1 =>
rp_X9_ownedShare_L9 x1 (0 : Int32) (0 : Int32)
def rp_X9_isCrowded_L30 (k4 : Int32 → Int32 → Int32 → rc_M Int32) (v1 : Int32) (v3 : Int32) (s0 : Int32) (s1 : Int32) : rc_M Int32 :=
k4 v1 (s1 + s0) (v3 + (1 : Int32))
def rp_X9_isCrowded_L4 : Nat → Int32 → Int32 → Int32 → rc_M Int32
  | 0, _, _, _ => rc_fail
  | n + 1, v1, v2, v3 =>
    rc_bind (rc_mald 0 (2 : Int32)) fun x2 =>
    (if x2 ≤ v3 then
    (if v2 ≤ (1 : Int32) then
    rc_pure (0 : Int32)
    else
    rc_pure (1 : Int32))
    else
    rc_bind (rp_X9_of v3 (3 : Int32)) fun x3 =>
    (if x3 = v1 then
    rp_X9_isCrowded_L30 (rp_X9_isCrowded_L4  n) v1 v3 (1 : Int32) v2
    else
    rp_X9_isCrowded_L30 (rp_X9_isCrowded_L4  n) v1 v3 (0 : Int32) v2))
def rp_X9_isCrowded (v1 : Int32) : rc_M Int32 :=
rc_bind rc_fuel fun x1 =>
rp_X9_isCrowded_L4 x1 v1 (0 : Int32) (0 : Int32)
def rp_X9_violations_L72 (k48 : Int32 → Int32 → rc_M Int32) (v3 : Int32) (s0 : Int32) (s1 : Int32) : rc_M Int32 :=
k48 (s1 + s0) (v3 + (1 : Int32))
def rp_X9_violations_L130 (k82 : Int32 → Int32 → rc_M Int32) (v3 : Int32) (s0 : Int32) (s1 : Int32) : rc_M Int32 :=
k82 (s1 + s0) (v3 + (1 : Int32))
def rp_X9_violations_L107 (k82 : Int32 → Int32 → rc_M Int32) (v3 : Int32) (s0 : Int32) (s1 : Int32) : rc_M Int32 :=
rc_bind (rp_X9_of v3 (2 : Int32)) fun x1 =>
rc_bind (rp_X9_in x1 (0 : Int32) (99 : Int32)) fun x2 =>
(if x2 = 0 then
rp_X9_violations_L130 k82 v3 (1 : Int32) (s1 + s0)
else
rp_X9_violations_L130 k82 v3 (0 : Int32) (s1 + s0))
def rp_X9_violations_L82 : Nat → Int32 → Int32 → rc_M Int32
  | 0, _, _ => rc_fail
  | n + 1, v2, v3 =>
    rc_bind (rc_mald 0 (2 : Int32)) fun x2 =>
    (if x2 ≤ v3 then
    rc_pure v2
    else
    rc_bind (rp_X9_owns v3) fun x3 =>
    (if x3 ≤ (4 : Int32) then
    rp_X9_violations_L107 (rp_X9_violations_L82  n) v3 (0 : Int32) v2
    else
    rp_X9_violations_L107 (rp_X9_violations_L82  n) v3 (1 : Int32) v2))
def rp_X9_violations_L48 : Nat → Int32 → Int32 → rc_M Int32
  | 0, _, _ => rc_fail
  | n + 1, v2, v3 =>
    rc_bind (rc_mald 0 (0 : Int32)) fun x2 =>
    (if x2 ≤ v3 then
    rc_bind rc_fuel fun x3 =>
    rp_X9_violations_L82 x3 v2 (0 : Int32)
    else
    rc_bind (rp_X9_isCrowded v3) fun x4 =>
    (if x4 = 0 then
    rp_X9_violations_L72 (rp_X9_violations_L48  n) v3 (0 : Int32) v2
    else
    rp_X9_violations_L72 (rp_X9_violations_L48  n) v3 (1 : Int32) v2))
def rp_X9_violations_L45 (s0 : Int32) : rc_M Int32 :=
rc_bind rc_fuel fun x1 =>
rp_X9_violations_L48 x1 s0 (0 : Int32)
def rp_X9_violations : rc_M Int32 :=
rc_bind (rc_mput 16 .int (0 : Int32)) fun _ =>
rc_bind (rp_X9_allFish) fun x1 =>
rc_bind (rc_mald 0 (2 : Int32)) fun x3 =>
rc_bind (rc_mald 0 (8 : Int32)) fun x5 =>
rc_bind (rc_mald 0 (9 : Int32)) fun x7 =>
(if 0 ≤ (((x1 - ((5 : Int32) * x3)) - x5) + x7) then
rp_X9_violations_L45 (((x1 - ((5 : Int32) * x3)) - x5) + x7)
else
rp_X9_violations_L45 (-(((x1 - ((5 : Int32) * x3)) - x5) + x7)))
def rp_X9_write (v1 : Int32) : rc_M Unit :=
rc_bind (rc_mget 15) fun x2 =>
rc_bind (rc_mast 14 x2 ((v1.toUInt32 % 65536).toInt32)) fun _ =>
rc_bind (rc_mget 15) fun x3 =>
rc_bind (rc_mput 15 .int (x3 + (1 : Int32))) fun _ =>
rc_pure ()
def rp_X9_writeCat (v1 : Int32) (v2 : Int32) : rc_M Unit :=
(if v2 = (-1 : Int32) then
rc_pure ()
else
rc_bind (rp_X9_write v1) fun _ =>
rc_bind (rp_X9_write ((48 : Int32) + v2)) fun _ =>
rc_pure ())
def rp_X9_writeRoof_L32 (k12 : Int32 → rc_M Int32) (v1 : Int32) : rc_M Int32 :=
rc_bind (rc_mald 0 ((10 : Int32) + v1)) fun x2 =>
rc_bind (rp_X9_write ((48 : Int32) + x2)) fun _ =>
rc_bind (rp_X9_sitter v1) fun x3 =>
rc_bind (rp_X9_writeCat (99 : Int32) x3) fun _ =>
rc_bind (rp_X9_owner v1) fun x4 =>
rc_bind (rp_X9_writeCat (111 : Int32) x4) fun _ =>
k12 (v1 + (1 : Int32))
def rp_X9_writeRoof_L12 : Nat → Int32 → rc_M Int32
  | 0, _ => rc_fail
  | n + 1, v1 =>
    rc_bind (rc_mald 0 (0 : Int32)) fun x2 =>
    (if x2 ≤ v1 then
    rc_bind (rc_mget 15) fun x3 =>
    rc_pure x3
    else
    (if v1 ≤ 0 then
    rp_X9_writeRoof_L32 (rp_X9_writeRoof_L12  n) v1
    else
    rc_bind (rp_X9_write (32 : Int32)) fun _ =>
    rp_X9_writeRoof_L32 (rp_X9_writeRoof_L12  n) v1))
def rp_X9_writeRoof : rc_M Int32 :=
rc_bind (rc_mput 16 .int (0 : Int32)) fun _ =>
rc_bind (rc_mput 15 .int (0 : Int32)) fun _ =>
rc_bind rc_fuel fun x1 =>
rp_X9_writeRoof_L12 x1 (0 : Int32)
def rp_X9_reportByte (v1 : Int32) : rc_M Int32 :=
rc_bind (rc_mput 16 .int (0 : Int32)) fun _ =>
rc_bind (rc_mget 15) fun x1 =>
rc_bind (rp_X9_in v1 (0 : Int32) (x1 - (1 : Int32))) fun x2 =>
(if x2 = 0 then
rc_pure (-1 : Int32)
else
rc_bind (rc_mald 14 v1) fun x4 =>
rc_pure x4)
