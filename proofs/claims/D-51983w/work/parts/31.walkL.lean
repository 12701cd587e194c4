set_option maxRecDepth 100000
/-! PROGRAMS AND WALKS of the model's constructor and of the law (printed by gen.py) -/
noncomputable def rp_X9_init (v0 : Option Nat) : rc_M Unit :=
rc_bind (rc_nn v0) fun _ =>
rc_bind (rc_newa 0 (186 : Int32)) fun x1 =>
rc_bind (rc_put 8 0 (.array .int) v0 (rc_q x1)) fun _ =>
rc_bind (rc_newa 0 (186 : Int32)) fun x2 =>
rc_bind (rc_put 8 1 (.array .int) v0 (rc_q x2)) fun _ =>
rc_bind (rc_newa 0 (186 : Int32)) fun x3 =>
rc_bind (rc_put 8 2 (.array .int) v0 (rc_q x3)) fun _ =>
rc_bind (rc_newa 0 (1488 : Int32)) fun x4 =>
rc_bind (rc_put 8 3 (.array .int) v0 (rc_q x4)) fun _ =>
rc_bind (rc_newa 0 (186 : Int32)) fun x5 =>
rc_bind (rc_put 8 4 (.array .int) v0 (rc_q x5)) fun _ =>
rc_bind (rc_newa 0 (600 : Int32)) fun x6 =>
rc_bind (rc_put 8 7 (.array .int) v0 (rc_q x6)) fun _ =>
rc_bind (rc_newa 0 (600 : Int32)) fun x7 =>
rc_bind (rc_put 8 8 (.array .int) v0 (rc_q x7)) fun _ =>
rc_bind (rc_newa 0 (10 : Int32)) fun x8 =>
rc_bind (rc_put 8 9 (.array .int) v0 (rc_q x8)) fun _ =>
rc_bind (rc_put 8 13 .int v0 (rc_i (-1 : Int32))) fun _ =>
rc_bind (rc_newa 3 (80 : Int32)) fun x9 =>
rc_bind (rc_put 8 14 (.array .char) v0 (rc_q x9)) fun _ =>
rc_bind (rc_newa 0 (4 : Int32)) fun x10 =>
rc_bind (rc_put 8 22 (.array .int) v0 (rc_q x10)) fun _ =>
rc_bind (rc_adopt v0) fun _ =>
rc_bind (rc_text 28) fun x11 =>
rc_bind (rc_isM v0) fun _ =>
rc_bind (rp_X9_tell x11) fun _ =>
rc_bind (rc_text 29) fun x12 =>
rc_bind (rc_isM v0) fun _ =>
rc_bind (rp_X9_tell x12) fun _ =>
rc_bind (rc_isM v0) fun _ =>
rc_bind (rp_X9_parses) fun x13 =>
rc_bind (rc_isM v0) fun _ =>
rc_bind (rc_mput 16 .int (0 : Int32)) fun _ =>
rc_pure ()
noncomputable def rp_L_law_L2957 (k23 : Option Nat → Option Nat → Option Nat → Option Nat → Int32 → rc_M Int32) (v0 : Option Nat) (v1 : Option Nat) (v2 : Option Nat) (v3 : Option Nat) (v4 : Int32) : rc_M Int32 :=
k23 v0 v1 v2 v3 (v4 + (6 : Int32))
noncomputable def rp_L_law_L300 (k23 : Option Nat → Option Nat → Option Nat → Option Nat → Int32 → rc_M Int32) (v0 : Option Nat) (v1 : Option Nat) (v2 : Option Nat) (v3 : Option Nat) (v4 : Int32) : rc_M Int32 :=
rc_bind (rc_ald 0 v0 (v4 + (1 : Int32))) fun x1 =>
rc_bind (rc_ald 0 v0 (v4 + (2 : Int32))) fun x2 =>
rc_bind (rc_ald 0 v0 (v4 + (3 : Int32))) fun x3 =>
rc_bind (rc_ald 0 v0 (v4 + (4 : Int32))) fun x4 =>
rc_bind (rc_ald 0 v0 (v4 + (5 : Int32))) fun x5 =>
rc_bind (rc_is 0 v1) fun _ =>
rc_bind (rp_X1_append v1 x1 x2 x3 x4 x5) fun x6 =>
rc_bind (rc_ald 0 v0 (v4 + (1 : Int32))) fun x7 =>
rc_bind (rc_ald 0 v0 (v4 + (2 : Int32))) fun x8 =>
rc_bind (rc_ald 0 v0 (v4 + (3 : Int32))) fun x9 =>
rc_bind (rc_ald 0 v0 (v4 + (4 : Int32))) fun x10 =>
rc_bind (rc_ald 0 v0 (v4 + (5 : Int32))) fun x11 =>
rc_bind (rc_isM v2) fun _ =>
rc_bind (rp_X9_append x7 x8 x9 x10 x11) fun x12 =>
(if x6 = x12 then
rp_L_law_L2957 k23 v0 v1 v2 v3 v4
else
rc_pure (0 : Int32))
noncomputable def rp_L_law_L426 (k23 : Option Nat → Option Nat → Option Nat → Option Nat → Int32 → rc_M Int32) (v0 : Option Nat) (v1 : Option Nat) (v2 : Option Nat) (v3 : Option Nat) (v4 : Int32) : rc_M Int32 :=
rp_L_law_L2957 k23 v0 v1 v2 v3 v4
noncomputable def rp_L_law_L373 (k23 : Option Nat → Option Nat → Option Nat → Option Nat → Int32 → rc_M Int32) (v0 : Option Nat) (v1 : Option Nat) (v2 : Option Nat) (v3 : Option Nat) (v4 : Int32) : rc_M Int32 :=
rc_bind (rc_ald 0 v0 (v4 + (1 : Int32))) fun x1 =>
rc_bind (rp_X0_truncateInput v1 x1 v3) fun x2 =>
rc_bind (rc_ald 0 v0 (v4 + (1 : Int32))) fun x3 =>
rc_bind (rc_isM v2) fun _ =>
rc_bind (rp_X9_truncateInput x3) fun x4 =>
rc_bind (rc_isM v2) fun _ =>
rc_bind (rp_X9_thrown) fun x5 =>
(if x5 = x2 then
(if x2 = 0 then
rc_bind (rc_aldl v3 (0 : Int32)) fun x6 =>
(if (lg_cmp x6 (x4.toInt64)) = 0 then
rp_L_law_L426 k23 v0 v1 v2 v3 v4
else
rc_pure (0 : Int32))
else
rp_L_law_L426 k23 v0 v1 v2 v3 v4)
else
rc_pure (0 : Int32))
noncomputable def rp_L_law_L429 (k23 : Option Nat → Option Nat → Option Nat → Option Nat → Int32 → rc_M Int32) (v0 : Option Nat) (v1 : Option Nat) (v2 : Option Nat) (v3 : Option Nat) (v4 : Int32) : rc_M Int32 :=
rc_bind (rc_is 0 v1) fun _ =>
rc_bind (rp_X1_runScript v1) fun x1 =>
rc_bind (rc_isM v2) fun _ =>
rc_bind (rp_X9_runScript) fun x2 =>
(if x1 = x2 then
rp_L_law_L2957 k23 v0 v1 v2 v3 v4
else
rc_pure (0 : Int32))
noncomputable def rp_L_law_L495 (k23 : Option Nat → Option Nat → Option Nat → Option Nat → Int32 → rc_M Int32) (v0 : Option Nat) (v1 : Option Nat) (v2 : Option Nat) (v3 : Option Nat) (v4 : Int32) : rc_M Int32 :=
rp_L_law_L2957 k23 v0 v1 v2 v3 v4
noncomputable def rp_L_law_L442 (k23 : Option Nat → Option Nat → Option Nat → Option Nat → Int32 → rc_M Int32) (v0 : Option Nat) (v1 : Option Nat) (v2 : Option Nat) (v3 : Option Nat) (v4 : Int32) : rc_M Int32 :=
rc_bind (rc_ald 0 v0 (v4 + (1 : Int32))) fun x1 =>
rc_bind (rp_X0_addChimney v1 x1 v3) fun x2 =>
rc_bind (rc_ald 0 v0 (v4 + (1 : Int32))) fun x3 =>
rc_bind (rc_isM v2) fun _ =>
rc_bind (rp_X9_addChimney x3) fun x4 =>
rc_bind (rc_isM v2) fun _ =>
rc_bind (rp_X9_thrown) fun x5 =>
(if x5 = x2 then
(if x2 = 0 then
rc_bind (rc_aldl v3 (0 : Int32)) fun x6 =>
(if (lg_cmp x6 (x4.toInt64)) = 0 then
rp_L_law_L495 k23 v0 v1 v2 v3 v4
else
rc_pure (0 : Int32))
else
rp_L_law_L495 k23 v0 v1 v2 v3 v4)
else
rc_pure (0 : Int32))
noncomputable def rp_L_law_L575 (k23 : Option Nat → Option Nat → Option Nat → Option Nat → Int32 → rc_M Int32) (v0 : Option Nat) (v1 : Option Nat) (v2 : Option Nat) (v3 : Option Nat) (v4 : Int32) : rc_M Int32 :=
rp_L_law_L2957 k23 v0 v1 v2 v3 v4
noncomputable def rp_L_law_L498 (k23 : Option Nat → Option Nat → Option Nat → Option Nat → Int32 → rc_M Int32) (v0 : Option Nat) (v1 : Option Nat) (v2 : Option Nat) (v3 : Option Nat) (v4 : Int32) : rc_M Int32 :=
rc_bind (rc_ald 0 v0 (v4 + (1 : Int32))) fun x1 =>
rc_bind (rc_ald 0 v0 (v4 + (2 : Int32))) fun x2 =>
rc_bind (rc_ald 0 v0 (v4 + (3 : Int32))) fun x3 =>
rc_bind (rp_X0_addGutter v1 x1 x2 x3 v3) fun x4 =>
rc_bind (rc_ald 0 v0 (v4 + (1 : Int32))) fun x5 =>
rc_bind (rc_ald 0 v0 (v4 + (2 : Int32))) fun x6 =>
rc_bind (rc_ald 0 v0 (v4 + (3 : Int32))) fun x7 =>
rc_bind (rc_isM v2) fun _ =>
rc_bind (rp_X9_addGutter x5 x6 x7) fun x8 =>
rc_bind (rc_isM v2) fun _ =>
rc_bind (rp_X9_thrown) fun x9 =>
(if x9 = x4 then
(if x4 = 0 then
rc_bind (rc_aldl v3 (0 : Int32)) fun x10 =>
(if (lg_cmp x10 (x8.toInt64)) = 0 then
rp_L_law_L575 k23 v0 v1 v2 v3 v4
else
rc_pure (0 : Int32))
else
rp_L_law_L575 k23 v0 v1 v2 v3 v4)
else
rc_pure (0 : Int32))
noncomputable def rp_L_law_L655 (k23 : Option Nat → Option Nat → Option Nat → Option Nat → Int32 → rc_M Int32) (v0 : Option Nat) (v1 : Option Nat) (v2 : Option Nat) (v3 : Option Nat) (v4 : Int32) : rc_M Int32 :=
rp_L_law_L2957 k23 v0 v1 v2 v3 v4
noncomputable def rp_L_law_L578 (k23 : Option Nat → Option Nat → Option Nat → Option Nat → Int32 → rc_M Int32) (v0 : Option Nat) (v1 : Option Nat) (v2 : Option Nat) (v3 : Option Nat) (v4 : Int32) : rc_M Int32 :=
rc_bind (rc_ald 0 v0 (v4 + (1 : Int32))) fun x1 =>
rc_bind (rc_ald 0 v0 (v4 + (2 : Int32))) fun x2 =>
rc_bind (rc_ald 0 v0 (v4 + (3 : Int32))) fun x3 =>
rc_bind (rp_X0_addCat v1 x1 x2 x3 v3) fun x4 =>
rc_bind (rc_ald 0 v0 (v4 + (1 : Int32))) fun x5 =>
rc_bind (rc_ald 0 v0 (v4 + (2 : Int32))) fun x6 =>
rc_bind (rc_ald 0 v0 (v4 + (3 : Int32))) fun x7 =>
rc_bind (rc_isM v2) fun _ =>
rc_bind (rp_X9_addCat x5 x6 x7) fun x8 =>
rc_bind (rc_isM v2) fun _ =>
rc_bind (rp_X9_thrown) fun x9 =>
(if x9 = x4 then
(if x4 = 0 then
rc_bind (rc_aldl v3 (0 : Int32)) fun x10 =>
(if (lg_cmp x10 (x8.toInt64)) = 0 then
rp_L_law_L655 k23 v0 v1 v2 v3 v4
else
rc_pure (0 : Int32))
else
rp_L_law_L655 k23 v0 v1 v2 v3 v4)
else
rc_pure (0 : Int32))
noncomputable def rp_L_law_L723 (k23 : Option Nat → Option Nat → Option Nat → Option Nat → Int32 → rc_M Int32) (v0 : Option Nat) (v1 : Option Nat) (v2 : Option Nat) (v3 : Option Nat) (v4 : Int32) : rc_M Int32 :=
rp_L_law_L2957 k23 v0 v1 v2 v3 v4
noncomputable def rp_L_law_L658 (k23 : Option Nat → Option Nat → Option Nat → Option Nat → Int32 → rc_M Int32) (v0 : Option Nat) (v1 : Option Nat) (v2 : Option Nat) (v3 : Option Nat) (v4 : Int32) : rc_M Int32 :=
rc_bind (rc_ald 0 v0 (v4 + (1 : Int32))) fun x1 =>
rc_bind (rc_ald 0 v0 (v4 + (2 : Int32))) fun x2 =>
rc_bind (rp_X0_step v1 x1 x2 v3) fun x3 =>
rc_bind (rc_ald 0 v0 (v4 + (1 : Int32))) fun x4 =>
rc_bind (rc_ald 0 v0 (v4 + (2 : Int32))) fun x5 =>
rc_bind (rc_isM v2) fun _ =>
rc_bind (rp_X9_step x4 x5) fun x6 =>
rc_bind (rc_isM v2) fun _ =>
rc_bind (rp_X9_thrown) fun x7 =>
(if x7 = x3 then
(if x3 = 0 then
rc_bind (rc_aldl v3 (0 : Int32)) fun x8 =>
(if (lg_cmp x8 (x6.toInt64)) = 0 then
rp_L_law_L723 k23 v0 v1 v2 v3 v4
else
rc_pure (0 : Int32))
else
rp_L_law_L723 k23 v0 v1 v2 v3 v4)
else
rc_pure (0 : Int32))
noncomputable def rp_L_law_L779 (k23 : Option Nat → Option Nat → Option Nat → Option Nat → Int32 → rc_M Int32) (v0 : Option Nat) (v1 : Option Nat) (v2 : Option Nat) (v3 : Option Nat) (v4 : Int32) : rc_M Int32 :=
rp_L_law_L2957 k23 v0 v1 v2 v3 v4
noncomputable def rp_L_law_L726 (k23 : Option Nat → Option Nat → Option Nat → Option Nat → Int32 → rc_M Int32) (v0 : Option Nat) (v1 : Option Nat) (v2 : Option Nat) (v3 : Option Nat) (v4 : Int32) : rc_M Int32 :=
rc_bind (rc_ald 0 v0 (v4 + (1 : Int32))) fun x1 =>
rc_bind (rp_X0_claim v1 x1 v3) fun x2 =>
rc_bind (rc_ald 0 v0 (v4 + (1 : Int32))) fun x3 =>
rc_bind (rc_isM v2) fun _ =>
rc_bind (rp_X9_claim x3) fun x4 =>
rc_bind (rc_isM v2) fun _ =>
rc_bind (rp_X9_thrown) fun x5 =>
(if x5 = x2 then
(if x2 = 0 then
rc_bind (rc_aldl v3 (0 : Int32)) fun x6 =>
(if (lg_cmp x6 (x4.toInt64)) = 0 then
rp_L_law_L779 k23 v0 v1 v2 v3 v4
else
rc_pure (0 : Int32))
else
rp_L_law_L779 k23 v0 v1 v2 v3 v4)
else
rc_pure (0 : Int32))
noncomputable def rp_L_law_L835 (k23 : Option Nat → Option Nat → Option Nat → Option Nat → Int32 → rc_M Int32) (v0 : Option Nat) (v1 : Option Nat) (v2 : Option Nat) (v3 : Option Nat) (v4 : Int32) : rc_M Int32 :=
rp_L_law_L2957 k23 v0 v1 v2 v3 v4
noncomputable def rp_L_law_L782 (k23 : Option Nat → Option Nat → Option Nat → Option Nat → Int32 → rc_M Int32) (v0 : Option Nat) (v1 : Option Nat) (v2 : Option Nat) (v3 : Option Nat) (v4 : Int32) : rc_M Int32 :=
rc_bind (rc_ald 0 v0 (v4 + (1 : Int32))) fun x1 =>
rc_bind (rp_X0_abandon v1 x1 v3) fun x2 =>
rc_bind (rc_ald 0 v0 (v4 + (1 : Int32))) fun x3 =>
rc_bind (rc_isM v2) fun _ =>
rc_bind (rp_X9_abandon x3) fun x4 =>
rc_bind (rc_isM v2) fun _ =>
rc_bind (rp_X9_thrown) fun x5 =>
(if x5 = x2 then
(if x2 = 0 then
rc_bind (rc_aldl v3 (0 : Int32)) fun x6 =>
(if (lg_cmp x6 (x4.toInt64)) = 0 then
rp_L_law_L835 k23 v0 v1 v2 v3 v4
else
rc_pure (0 : Int32))
else
rp_L_law_L835 k23 v0 v1 v2 v3 v4)
else
rc_pure (0 : Int32))
noncomputable def rp_L_law_L910 (k23 : Option Nat → Option Nat → Option Nat → Option Nat → Int32 → rc_M Int32) (v0 : Option Nat) (v1 : Option Nat) (v2 : Option Nat) (v3 : Option Nat) (v4 : Int32) : rc_M Int32 :=
rp_L_law_L2957 k23 v0 v1 v2 v3 v4
noncomputable def rp_L_law_L904 (k23 : Option Nat → Option Nat → Option Nat → Option Nat → Int32 → rc_M Int32) (v0 : Option Nat) (v1 : Option Nat) (v2 : Option Nat) (v3 : Option Nat) (v4 : Int32) (s0 : Int64) (s1 : Int64) : rc_M Int32 :=
(if (lg_cmp s1 s0) = 0 then
rp_L_law_L910 k23 v0 v1 v2 v3 v4
else
rc_pure (0 : Int32))
noncomputable def rp_L_law_L838 (k23 : Option Nat → Option Nat → Option Nat → Option Nat → Int32 → rc_M Int32) (v0 : Option Nat) (v1 : Option Nat) (v2 : Option Nat) (v3 : Option Nat) (v4 : Int32) : rc_M Int32 :=
rc_bind (rc_ald 0 v0 (v4 + (1 : Int32))) fun x1 =>
rc_bind (rc_ald 0 v0 (v4 + (2 : Int32))) fun x2 =>
rc_bind (rp_X0_chase v1 x1 x2 v3) fun x3 =>
rc_bind (rc_ald 0 v0 (v4 + (1 : Int32))) fun x4 =>
rc_bind (rc_ald 0 v0 (v4 + (2 : Int32))) fun x5 =>
rc_bind (rc_isM v2) fun _ =>
rc_bind (rp_X9_chase x4 x5) fun x6 =>
rc_bind (rc_isM v2) fun _ =>
rc_bind (rp_X9_thrown) fun x7 =>
(if x7 = x3 then
(if x3 = 0 then
rc_bind (rc_aldl v3 (0 : Int32)) fun x8 =>
(if x6 = 0 then
rp_L_law_L904 k23 v0 v1 v2 v3 v4 (0 : Int64) x8
else
rp_L_law_L904 k23 v0 v1 v2 v3 v4 (1 : Int64) x8)
else
rp_L_law_L910 k23 v0 v1 v2 v3 v4)
else
rc_pure (0 : Int32))
noncomputable def rp_L_law_L1002 (k23 : Option Nat → Option Nat → Option Nat → Option Nat → Int32 → rc_M Int32) (v0 : Option Nat) (v1 : Option Nat) (v2 : Option Nat) (v3 : Option Nat) (v4 : Int32) : rc_M Int32 :=
rp_L_law_L2957 k23 v0 v1 v2 v3 v4
noncomputable def rp_L_law_L913 (k23 : Option Nat → Option Nat → Option Nat → Option Nat → Int32 → rc_M Int32) (v0 : Option Nat) (v1 : Option Nat) (v2 : Option Nat) (v3 : Option Nat) (v4 : Int32) : rc_M Int32 :=
rc_bind (rc_ald 0 v0 (v4 + (1 : Int32))) fun x1 =>
rc_bind (rc_ald 0 v0 (v4 + (2 : Int32))) fun x2 =>
rc_bind (rc_ald 0 v0 (v4 + (3 : Int32))) fun x3 =>
rc_bind (rc_ald 0 v0 (v4 + (4 : Int32))) fun x4 =>
rc_bind (rp_X0_buyTruce v1 x1 x2 x3 x4 v3) fun x5 =>
rc_bind (rc_ald 0 v0 (v4 + (1 : Int32))) fun x6 =>
rc_bind (rc_ald 0 v0 (v4 + (2 : Int32))) fun x7 =>
rc_bind (rc_ald 0 v0 (v4 + (3 : Int32))) fun x8 =>
rc_bind (rc_ald 0 v0 (v4 + (4 : Int32))) fun x9 =>
rc_bind (rc_isM v2) fun _ =>
rc_bind (rp_X9_buyTruce x6 x7 x8 x9) fun x10 =>
rc_bind (rc_isM v2) fun _ =>
rc_bind (rp_X9_thrown) fun x11 =>
(if x11 = x5 then
(if x5 = 0 then
rc_bind (rc_aldl v3 (0 : Int32)) fun x12 =>
(if (lg_cmp x12 (x10.toInt64)) = 0 then
rp_L_law_L1002 k23 v0 v1 v2 v3 v4
else
rc_pure (0 : Int32))
else
rp_L_law_L1002 k23 v0 v1 v2 v3 v4)
else
rc_pure (0 : Int32))
noncomputable def rp_L_law_L1070 (k23 : Option Nat → Option Nat → Option Nat → Option Nat → Int32 → rc_M Int32) (v0 : Option Nat) (v1 : Option Nat) (v2 : Option Nat) (v3 : Option Nat) (v4 : Int32) : rc_M Int32 :=
rp_L_law_L2957 k23 v0 v1 v2 v3 v4
noncomputable def rp_L_law_L1005 (k23 : Option Nat → Option Nat → Option Nat → Option Nat → Int32 → rc_M Int32) (v0 : Option Nat) (v1 : Option Nat) (v2 : Option Nat) (v3 : Option Nat) (v4 : Int32) : rc_M Int32 :=
rc_bind (rc_ald 0 v0 (v4 + (1 : Int32))) fun x1 =>
rc_bind (rc_ald 0 v0 (v4 + (2 : Int32))) fun x2 =>
rc_bind (rp_X0_nominate v1 x1 x2 v3) fun x3 =>
rc_bind (rc_ald 0 v0 (v4 + (1 : Int32))) fun x4 =>
rc_bind (rc_ald 0 v0 (v4 + (2 : Int32))) fun x5 =>
rc_bind (rc_isM v2) fun _ =>
rc_bind (rp_X9_nominate x4 x5) fun x6 =>
rc_bind (rc_isM v2) fun _ =>
rc_bind (rp_X9_thrown) fun x7 =>
(if x7 = x3 then
(if x3 = 0 then
rc_bind (rc_aldl v3 (0 : Int32)) fun x8 =>
(if (lg_cmp x8 (x6.toInt64)) = 0 then
rp_L_law_L1070 k23 v0 v1 v2 v3 v4
else
rc_pure (0 : Int32))
else
rp_L_law_L1070 k23 v0 v1 v2 v3 v4)
else
rc_pure (0 : Int32))
noncomputable def rp_L_law_L1161 (k23 : Option Nat → Option Nat → Option Nat → Option Nat → Int32 → rc_M Int32) (v0 : Option Nat) (v1 : Option Nat) (v2 : Option Nat) (v3 : Option Nat) (v4 : Int32) : rc_M Int32 :=
rp_L_law_L2957 k23 v0 v1 v2 v3 v4
noncomputable def rp_L_law_L1155 (k23 : Option Nat → Option Nat → Option Nat → Option Nat → Int32 → rc_M Int32) (v0 : Option Nat) (v1 : Option Nat) (v2 : Option Nat) (v3 : Option Nat) (v4 : Int32) (s0 : Int64) (s1 : Int64) : rc_M Int32 :=
(if (lg_cmp s1 s0) = 0 then
rp_L_law_L1161 k23 v0 v1 v2 v3 v4
else
rc_pure (0 : Int32))
noncomputable def rp_L_law_L1121 (k23 : Option Nat → Option Nat → Option Nat → Option Nat → Int32 → rc_M Int32) (v0 : Option Nat) (v1 : Option Nat) (v2 : Option Nat) (v3 : Option Nat) (v4 : Int32) (v5 : Int32) (s0 : Int32) (s1 : Int32) (s2 : Option Nat) : rc_M Int32 :=
rc_bind (rc_isM s2) fun _ =>
rc_bind (rp_X9_vote s1 s0) fun x1 =>
rc_bind (rc_isM v2) fun _ =>
rc_bind (rp_X9_thrown) fun x2 =>
(if x2 = v5 then
(if v5 = 0 then
rc_bind (rc_aldl v3 (0 : Int32)) fun x3 =>
(if x1 = 0 then
rp_L_law_L1155 k23 v0 v1 v2 v3 v4 (0 : Int64) x3
else
rp_L_law_L1155 k23 v0 v1 v2 v3 v4 (1 : Int64) x3)
else
rp_L_law_L1161 k23 v0 v1 v2 v3 v4)
else
rc_pure (0 : Int32))
noncomputable def rp_L_law_L1094 (k23 : Option Nat → Option Nat → Option Nat → Option Nat → Int32 → rc_M Int32) (v0 : Option Nat) (v1 : Option Nat) (v2 : Option Nat) (v3 : Option Nat) (v4 : Int32) (s0 : Int32) (s1 : Int32) (s2 : Option Nat) : rc_M Int32 :=
rc_bind (rp_X0_vote s2 s1 s0 v3) fun x1 =>
rc_bind (rc_ald 0 v0 (v4 + (1 : Int32))) fun x2 =>
rc_bind (rc_ald 0 v0 (v4 + (2 : Int32))) fun x3 =>
(if x3 = 0 then
rp_L_law_L1121 k23 v0 v1 v2 v3 v4 x1 (0 : Int32) x2 v2
else
rp_L_law_L1121 k23 v0 v1 v2 v3 v4 x1 (1 : Int32) x2 v2)
noncomputable def rp_L_law_L1073 (k23 : Option Nat → Option Nat → Option Nat → Option Nat → Int32 → rc_M Int32) (v0 : Option Nat) (v1 : Option Nat) (v2 : Option Nat) (v3 : Option Nat) (v4 : Int32) : rc_M Int32 :=
rc_bind (rc_ald 0 v0 (v4 + (1 : Int32))) fun x1 =>
rc_bind (rc_ald 0 v0 (v4 + (2 : Int32))) fun x2 =>
(if x2 = 0 then
rp_L_law_L1094 k23 v0 v1 v2 v3 v4 (0 : Int32) x1 v1
else
rp_L_law_L1094 k23 v0 v1 v2 v3 v4 (1 : Int32) x1 v1)
noncomputable def rp_L_law_L1217 (k23 : Option Nat → Option Nat → Option Nat → Option Nat → Int32 → rc_M Int32) (v0 : Option Nat) (v1 : Option Nat) (v2 : Option Nat) (v3 : Option Nat) (v4 : Int32) : rc_M Int32 :=
rp_L_law_L2957 k23 v0 v1 v2 v3 v4
noncomputable def rp_L_law_L1164 (k23 : Option Nat → Option Nat → Option Nat → Option Nat → Int32 → rc_M Int32) (v0 : Option Nat) (v1 : Option Nat) (v2 : Option Nat) (v3 : Option Nat) (v4 : Int32) : rc_M Int32 :=
rc_bind (rc_ald 0 v0 (v4 + (1 : Int32))) fun x1 =>
rc_bind (rp_X0_passNights v1 x1 v3) fun x2 =>
rc_bind (rc_ald 0 v0 (v4 + (1 : Int32))) fun x3 =>
rc_bind (rc_isM v2) fun _ =>
rc_bind (rp_X9_passNights x3) fun x4 =>
rc_bind (rc_isM v2) fun _ =>
rc_bind (rp_X9_thrown) fun x5 =>
(if x5 = x2 then
(if x2 = 0 then
rc_bind (rc_aldl v3 (0 : Int32)) fun x6 =>
(if (lg_cmp x6 (x4.toInt64)) = 0 then
rp_L_law_L1217 k23 v0 v1 v2 v3 v4
else
rc_pure (0 : Int32))
else
rp_L_law_L1217 k23 v0 v1 v2 v3 v4)
else
rc_pure (0 : Int32))
noncomputable def rp_L_law_L1220 (k23 : Option Nat → Option Nat → Option Nat → Option Nat → Int32 → rc_M Int32) (v0 : Option Nat) (v1 : Option Nat) (v2 : Option Nat) (v3 : Option Nat) (v4 : Int32) : rc_M Int32 :=
rc_bind (rc_is 0 v1) fun _ =>
rc_bind (rp_X1_undo v1) fun x1 =>
rc_bind (rc_isM v2) fun _ =>
rc_bind (rp_X9_undo) fun x2 =>
(if x1 = x2 then
rp_L_law_L2957 k23 v0 v1 v2 v3 v4
else
rc_pure (0 : Int32))
noncomputable def rp_L_law_L1233 (k23 : Option Nat → Option Nat → Option Nat → Option Nat → Int32 → rc_M Int32) (v0 : Option Nat) (v1 : Option Nat) (v2 : Option Nat) (v3 : Option Nat) (v4 : Int32) : rc_M Int32 :=
rc_bind (rc_is 0 v1) fun _ =>
rc_bind (rp_X1_undoCount v1) fun x1 =>
rc_bind (rc_isM v2) fun _ =>
rc_bind (rp_X9_undoCount) fun x2 =>
(if x1 = x2 then
rp_L_law_L2957 k23 v0 v1 v2 v3 v4
else
rc_pure (0 : Int32))
noncomputable def rp_L_law_L1246 (k23 : Option Nat → Option Nat → Option Nat → Option Nat → Int32 → rc_M Int32) (v0 : Option Nat) (v1 : Option Nat) (v2 : Option Nat) (v3 : Option Nat) (v4 : Int32) : rc_M Int32 :=
rc_bind (rc_is 0 v1) fun _ =>
rc_bind (rp_X1_saveSnapshot v1) fun x1 =>
rc_bind (rc_isM v2) fun _ =>
rc_bind (rp_X9_saveSnapshot) fun x2 =>
(if x1 = x2 then
rp_L_law_L2957 k23 v0 v1 v2 v3 v4
else
rc_pure (0 : Int32))
noncomputable def rp_L_law_L1300 (k23 : Option Nat → Option Nat → Option Nat → Option Nat → Int32 → rc_M Int32) (v0 : Option Nat) (v1 : Option Nat) (v2 : Option Nat) (v3 : Option Nat) (v4 : Int32) : rc_M Int32 :=
rp_L_law_L2957 k23 v0 v1 v2 v3 v4
noncomputable def rp_L_law_L1259 (k23 : Option Nat → Option Nat → Option Nat → Option Nat → Int32 → rc_M Int32) (v0 : Option Nat) (v1 : Option Nat) (v2 : Option Nat) (v3 : Option Nat) (v4 : Int32) : rc_M Int32 :=
rc_bind (rp_X0_restoreSnapshot v1 v3) fun x1 =>
rc_bind (rc_isM v2) fun _ =>
rc_bind (rp_X9_restoreSnapshot) fun x2 =>
rc_bind (rc_isM v2) fun _ =>
rc_bind (rp_X9_thrown) fun x3 =>
(if x3 = x1 then
(if x1 = 0 then
rc_bind (rc_aldl v3 (0 : Int32)) fun x4 =>
(if (lg_cmp x4 (x2.toInt64)) = 0 then
rp_L_law_L1300 k23 v0 v1 v2 v3 v4
else
rc_pure (0 : Int32))
else
rp_L_law_L1300 k23 v0 v1 v2 v3 v4)
else
rc_pure (0 : Int32))
noncomputable def rp_L_law_L1303 (k23 : Option Nat → Option Nat → Option Nat → Option Nat → Int32 → rc_M Int32) (v0 : Option Nat) (v1 : Option Nat) (v2 : Option Nat) (v3 : Option Nat) (v4 : Int32) : rc_M Int32 :=
rc_bind (rc_is 0 v1) fun _ =>
rc_bind (rp_X1_scriptErrorKind v1) fun x1 =>
rc_bind (rc_isM v2) fun _ =>
rc_bind (rp_X9_scriptErrorKind) fun x2 =>
(if x1 = x2 then
rp_L_law_L2957 k23 v0 v1 v2 v3 v4
else
rc_pure (0 : Int32))
noncomputable def rp_L_law_L1316 (k23 : Option Nat → Option Nat → Option Nat → Option Nat → Int32 → rc_M Int32) (v0 : Option Nat) (v1 : Option Nat) (v2 : Option Nat) (v3 : Option Nat) (v4 : Int32) : rc_M Int32 :=
rc_bind (rc_is 0 v1) fun _ =>
rc_bind (rp_X1_scriptErrorOffset v1) fun x1 =>
rc_bind (rc_isM v2) fun _ =>
rc_bind (rp_X9_scriptErrorOffset) fun x2 =>
(if x1 = x2 then
rp_L_law_L2957 k23 v0 v1 v2 v3 v4
else
rc_pure (0 : Int32))
noncomputable def rp_L_law_L1329 (k23 : Option Nat → Option Nat → Option Nat → Option Nat → Int32 → rc_M Int32) (v0 : Option Nat) (v1 : Option Nat) (v2 : Option Nat) (v3 : Option Nat) (v4 : Int32) : rc_M Int32 :=
rc_bind (rc_is 0 v1) fun _ =>
rc_bind (rp_X1_chimneyCount v1) fun x1 =>
rc_bind (rc_isM v2) fun _ =>
rc_bind (rp_X9_chimneyCount) fun x2 =>
(if x1 = x2 then
rp_L_law_L2957 k23 v0 v1 v2 v3 v4
else
rc_pure (0 : Int32))
noncomputable def rp_L_law_L1342 (k23 : Option Nat → Option Nat → Option Nat → Option Nat → Int32 → rc_M Int32) (v0 : Option Nat) (v1 : Option Nat) (v2 : Option Nat) (v3 : Option Nat) (v4 : Int32) : rc_M Int32 :=
rc_bind (rc_is 0 v1) fun _ =>
rc_bind (rp_X1_gutterCount v1) fun x1 =>
rc_bind (rc_isM v2) fun _ =>
rc_bind (rp_X9_gutterCount) fun x2 =>
(if x1 = x2 then
rp_L_law_L2957 k23 v0 v1 v2 v3 v4
else
rc_pure (0 : Int32))
noncomputable def rp_L_law_L1355 (k23 : Option Nat → Option Nat → Option Nat → Option Nat → Int32 → rc_M Int32) (v0 : Option Nat) (v1 : Option Nat) (v2 : Option Nat) (v3 : Option Nat) (v4 : Int32) : rc_M Int32 :=
rc_bind (rc_is 0 v1) fun _ =>
rc_bind (rp_X1_catCount v1) fun x1 =>
rc_bind (rc_isM v2) fun _ =>
rc_bind (rp_X9_catCount) fun x2 =>
(if x1 = x2 then
rp_L_law_L2957 k23 v0 v1 v2 v3 v4
else
rc_pure (0 : Int32))
noncomputable def rp_L_law_L1368 (k23 : Option Nat → Option Nat → Option Nat → Option Nat → Int32 → rc_M Int32) (v0 : Option Nat) (v1 : Option Nat) (v2 : Option Nat) (v3 : Option Nat) (v4 : Int32) : rc_M Int32 :=
rc_bind (rc_is 0 v1) fun _ =>
rc_bind (rp_X1_night v1) fun x1 =>
rc_bind (rc_isM v2) fun _ =>
rc_bind (rp_X9_night) fun x2 =>
(if x1 = x2 then
rp_L_law_L2957 k23 v0 v1 v2 v3 v4
else
rc_pure (0 : Int32))
noncomputable def rp_L_law_L1381 (k23 : Option Nat → Option Nat → Option Nat → Option Nat → Int32 → rc_M Int32) (v0 : Option Nat) (v1 : Option Nat) (v2 : Option Nat) (v3 : Option Nat) (v4 : Int32) : rc_M Int32 :=
rc_bind (rc_is 0 v1) fun _ =>
rc_bind (rp_X1_moonPhase v1) fun x1 =>
rc_bind (rc_isM v2) fun _ =>
rc_bind (rp_X9_moonPhase) fun x2 =>
(if x1 = x2 then
rp_L_law_L2957 k23 v0 v1 v2 v3 v4
else
rc_pure (0 : Int32))
noncomputable def rp_L_law_L1447 (k23 : Option Nat → Option Nat → Option Nat → Option Nat → Int32 → rc_M Int32) (v0 : Option Nat) (v1 : Option Nat) (v2 : Option Nat) (v3 : Option Nat) (v4 : Int32) : rc_M Int32 :=
rp_L_law_L2957 k23 v0 v1 v2 v3 v4
noncomputable def rp_L_law_L1394 (k23 : Option Nat → Option Nat → Option Nat → Option Nat → Int32 → rc_M Int32) (v0 : Option Nat) (v1 : Option Nat) (v2 : Option Nat) (v3 : Option Nat) (v4 : Int32) : rc_M Int32 :=
rc_bind (rc_ald 0 v0 (v4 + (1 : Int32))) fun x1 =>
rc_bind (rp_X0_warmth v1 x1 v3) fun x2 =>
rc_bind (rc_ald 0 v0 (v4 + (1 : Int32))) fun x3 =>
rc_bind (rc_isM v2) fun _ =>
rc_bind (rp_X9_warmth x3) fun x4 =>
rc_bind (rc_isM v2) fun _ =>
rc_bind (rp_X9_thrown) fun x5 =>
(if x5 = x2 then
(if x2 = 0 then
rc_bind (rc_aldl v3 (0 : Int32)) fun x6 =>
(if (lg_cmp x6 (x4.toInt64)) = 0 then
rp_L_law_L1447 k23 v0 v1 v2 v3 v4
else
rc_pure (0 : Int32))
else
rp_L_law_L1447 k23 v0 v1 v2 v3 v4)
else
rc_pure (0 : Int32))
noncomputable def rp_L_law_L1503 (k23 : Option Nat → Option Nat → Option Nat → Option Nat → Int32 → rc_M Int32) (v0 : Option Nat) (v1 : Option Nat) (v2 : Option Nat) (v3 : Option Nat) (v4 : Int32) : rc_M Int32 :=
rp_L_law_L2957 k23 v0 v1 v2 v3 v4
noncomputable def rp_L_law_L1450 (k23 : Option Nat → Option Nat → Option Nat → Option Nat → Int32 → rc_M Int32) (v0 : Option Nat) (v1 : Option Nat) (v2 : Option Nat) (v3 : Option Nat) (v4 : Int32) : rc_M Int32 :=
rc_bind (rc_ald 0 v0 (v4 + (1 : Int32))) fun x1 =>
rc_bind (rp_X0_ownerOf v1 x1 v3) fun x2 =>
rc_bind (rc_ald 0 v0 (v4 + (1 : Int32))) fun x3 =>
rc_bind (rc_isM v2) fun _ =>
rc_bind (rp_X9_ownerOf x3) fun x4 =>
rc_bind (rc_isM v2) fun _ =>
rc_bind (rp_X9_thrown) fun x5 =>
(if x5 = x2 then
(if x2 = 0 then
rc_bind (rc_aldl v3 (0 : Int32)) fun x6 =>
(if (lg_cmp x6 (x4.toInt64)) = 0 then
rp_L_law_L1503 k23 v0 v1 v2 v3 v4
else
rc_pure (0 : Int32))
else
rp_L_law_L1503 k23 v0 v1 v2 v3 v4)
else
rc_pure (0 : Int32))
noncomputable def rp_L_law_L1559 (k23 : Option Nat → Option Nat → Option Nat → Option Nat → Int32 → rc_M Int32) (v0 : Option Nat) (v1 : Option Nat) (v2 : Option Nat) (v3 : Option Nat) (v4 : Int32) : rc_M Int32 :=
rp_L_law_L2957 k23 v0 v1 v2 v3 v4
noncomputable def rp_L_law_L1506 (k23 : Option Nat → Option Nat → Option Nat → Option Nat → Int32 → rc_M Int32) (v0 : Option Nat) (v1 : Option Nat) (v2 : Option Nat) (v3 : Option Nat) (v4 : Int32) : rc_M Int32 :=
rc_bind (rc_ald 0 v0 (v4 + (1 : Int32))) fun x1 =>
rc_bind (rp_X0_catOn v1 x1 v3) fun x2 =>
rc_bind (rc_ald 0 v0 (v4 + (1 : Int32))) fun x3 =>
rc_bind (rc_isM v2) fun _ =>
rc_bind (rp_X9_catOn x3) fun x4 =>
rc_bind (rc_isM v2) fun _ =>
rc_bind (rp_X9_thrown) fun x5 =>
(if x5 = x2 then
(if x2 = 0 then
rc_bind (rc_aldl v3 (0 : Int32)) fun x6 =>
(if (lg_cmp x6 (x4.toInt64)) = 0 then
rp_L_law_L1559 k23 v0 v1 v2 v3 v4
else
rc_pure (0 : Int32))
else
rp_L_law_L1559 k23 v0 v1 v2 v3 v4)
else
rc_pure (0 : Int32))
noncomputable def rp_L_law_L1615 (k23 : Option Nat → Option Nat → Option Nat → Option Nat → Int32 → rc_M Int32) (v0 : Option Nat) (v1 : Option Nat) (v2 : Option Nat) (v3 : Option Nat) (v4 : Int32) : rc_M Int32 :=
rp_L_law_L2957 k23 v0 v1 v2 v3 v4
noncomputable def rp_L_law_L1562 (k23 : Option Nat → Option Nat → Option Nat → Option Nat → Int32 → rc_M Int32) (v0 : Option Nat) (v1 : Option Nat) (v2 : Option Nat) (v3 : Option Nat) (v4 : Int32) : rc_M Int32 :=
rc_bind (rc_ald 0 v0 (v4 + (1 : Int32))) fun x1 =>
rc_bind (rp_X0_gutterEnds v1 x1 v3) fun x2 =>
rc_bind (rc_ald 0 v0 (v4 + (1 : Int32))) fun x3 =>
rc_bind (rc_isM v2) fun _ =>
rc_bind (rp_X9_gutterEnds x3) fun x4 =>
rc_bind (rc_isM v2) fun _ =>
rc_bind (rp_X9_thrown) fun x5 =>
(if x5 = x2 then
(if x2 = 0 then
rc_bind (rc_aldl v3 (0 : Int32)) fun x6 =>
(if (lg_cmp x6 (x4.toInt64)) = 0 then
rp_L_law_L1615 k23 v0 v1 v2 v3 v4
else
rc_pure (0 : Int32))
else
rp_L_law_L1615 k23 v0 v1 v2 v3 v4)
else
rc_pure (0 : Int32))
noncomputable def rp_L_law_L1671 (k23 : Option Nat → Option Nat → Option Nat → Option Nat → Int32 → rc_M Int32) (v0 : Option Nat) (v1 : Option Nat) (v2 : Option Nat) (v3 : Option Nat) (v4 : Int32) : rc_M Int32 :=
rp_L_law_L2957 k23 v0 v1 v2 v3 v4
noncomputable def rp_L_law_L1618 (k23 : Option Nat → Option Nat → Option Nat → Option Nat → Int32 → rc_M Int32) (v0 : Option Nat) (v1 : Option Nat) (v2 : Option Nat) (v3 : Option Nat) (v4 : Int32) : rc_M Int32 :=
rc_bind (rc_ald 0 v0 (v4 + (1 : Int32))) fun x1 =>
rc_bind (rp_X0_width v1 x1 v3) fun x2 =>
rc_bind (rc_ald 0 v0 (v4 + (1 : Int32))) fun x3 =>
rc_bind (rc_isM v2) fun _ =>
rc_bind (rp_X9_width x3) fun x4 =>
rc_bind (rc_isM v2) fun _ =>
rc_bind (rp_X9_thrown) fun x5 =>
(if x5 = x2 then
(if x2 = 0 then
rc_bind (rc_aldl v3 (0 : Int32)) fun x6 =>
(if (lg_cmp x6 (x4.toInt64)) = 0 then
rp_L_law_L1671 k23 v0 v1 v2 v3 v4
else
rc_pure (0 : Int32))
else
rp_L_law_L1671 k23 v0 v1 v2 v3 v4)
else
rc_pure (0 : Int32))
noncomputable def rp_L_law_L1739 (k23 : Option Nat → Option Nat → Option Nat → Option Nat → Int32 → rc_M Int32) (v0 : Option Nat) (v1 : Option Nat) (v2 : Option Nat) (v3 : Option Nat) (v4 : Int32) : rc_M Int32 :=
rp_L_law_L2957 k23 v0 v1 v2 v3 v4
noncomputable def rp_L_law_L1674 (k23 : Option Nat → Option Nat → Option Nat → Option Nat → Int32 → rc_M Int32) (v0 : Option Nat) (v1 : Option Nat) (v2 : Option Nat) (v3 : Option Nat) (v4 : Int32) : rc_M Int32 :=
rc_bind (rc_ald 0 v0 (v4 + (1 : Int32))) fun x1 =>
rc_bind (rc_ald 0 v0 (v4 + (2 : Int32))) fun x2 =>
rc_bind (rp_X0_widestWay v1 x1 x2 v3) fun x3 =>
rc_bind (rc_ald 0 v0 (v4 + (1 : Int32))) fun x4 =>
rc_bind (rc_ald 0 v0 (v4 + (2 : Int32))) fun x5 =>
rc_bind (rc_isM v2) fun _ =>
rc_bind (rp_X9_widestWay x4 x5) fun x6 =>
rc_bind (rc_isM v2) fun _ =>
rc_bind (rp_X9_thrown) fun x7 =>
(if x7 = x3 then
(if x3 = 0 then
rc_bind (rc_aldl v3 (0 : Int32)) fun x8 =>
(if (lg_cmp x8 (x6.toInt64)) = 0 then
rp_L_law_L1739 k23 v0 v1 v2 v3 v4
else
rc_pure (0 : Int32))
else
rp_L_law_L1739 k23 v0 v1 v2 v3 v4)
else
rc_pure (0 : Int32))
noncomputable def rp_L_law_L1742 (k23 : Option Nat → Option Nat → Option Nat → Option Nat → Int32 → rc_M Int32) (v0 : Option Nat) (v1 : Option Nat) (v2 : Option Nat) (v3 : Option Nat) (v4 : Int32) : rc_M Int32 :=
rc_bind (rc_is 0 v1) fun _ =>
rc_bind (rp_X1_warmestFree v1) fun x1 =>
rc_bind (rc_isM v2) fun _ =>
rc_bind (rp_X9_warmestFree) fun x2 =>
(if x1 = x2 then
rp_L_law_L2957 k23 v0 v1 v2 v3 v4
else
rc_pure (0 : Int32))
noncomputable def rp_L_law_L1808 (k23 : Option Nat → Option Nat → Option Nat → Option Nat → Int32 → rc_M Int32) (v0 : Option Nat) (v1 : Option Nat) (v2 : Option Nat) (v3 : Option Nat) (v4 : Int32) : rc_M Int32 :=
rp_L_law_L2957 k23 v0 v1 v2 v3 v4
noncomputable def rp_L_law_L1755 (k23 : Option Nat → Option Nat → Option Nat → Option Nat → Int32 → rc_M Int32) (v0 : Option Nat) (v1 : Option Nat) (v2 : Option Nat) (v3 : Option Nat) (v4 : Int32) : rc_M Int32 :=
rc_bind (rc_ald 0 v0 (v4 + (1 : Int32))) fun x1 =>
rc_bind (rp_X0_girth v1 x1 v3) fun x2 =>
rc_bind (rc_ald 0 v0 (v4 + (1 : Int32))) fun x3 =>
rc_bind (rc_isM v2) fun _ =>
rc_bind (rp_X9_girth x3) fun x4 =>
rc_bind (rc_isM v2) fun _ =>
rc_bind (rp_X9_thrown) fun x5 =>
(if x5 = x2 then
(if x2 = 0 then
rc_bind (rc_aldl v3 (0 : Int32)) fun x6 =>
(if (lg_cmp x6 (x4.toInt64)) = 0 then
rp_L_law_L1808 k23 v0 v1 v2 v3 v4
else
rc_pure (0 : Int32))
else
rp_L_law_L1808 k23 v0 v1 v2 v3 v4)
else
rc_pure (0 : Int32))
noncomputable def rp_L_law_L1864 (k23 : Option Nat → Option Nat → Option Nat → Option Nat → Int32 → rc_M Int32) (v0 : Option Nat) (v1 : Option Nat) (v2 : Option Nat) (v3 : Option Nat) (v4 : Int32) : rc_M Int32 :=
rp_L_law_L2957 k23 v0 v1 v2 v3 v4
noncomputable def rp_L_law_L1811 (k23 : Option Nat → Option Nat → Option Nat → Option Nat → Int32 → rc_M Int32) (v0 : Option Nat) (v1 : Option Nat) (v2 : Option Nat) (v3 : Option Nat) (v4 : Int32) : rc_M Int32 :=
rc_bind (rc_ald 0 v0 (v4 + (1 : Int32))) fun x1 =>
rc_bind (rp_X0_power v1 x1 v3) fun x2 =>
rc_bind (rc_ald 0 v0 (v4 + (1 : Int32))) fun x3 =>
rc_bind (rc_isM v2) fun _ =>
rc_bind (rp_X9_power x3) fun x4 =>
rc_bind (rc_isM v2) fun _ =>
rc_bind (rp_X9_thrown) fun x5 =>
(if x5 = x2 then
(if x2 = 0 then
rc_bind (rc_aldl v3 (0 : Int32)) fun x6 =>
(if (lg_cmp x6 (x4.toInt64)) = 0 then
rp_L_law_L1864 k23 v0 v1 v2 v3 v4
else
rc_pure (0 : Int32))
else
rp_L_law_L1864 k23 v0 v1 v2 v3 v4)
else
rc_pure (0 : Int32))
noncomputable def rp_L_law_L1920 (k23 : Option Nat → Option Nat → Option Nat → Option Nat → Int32 → rc_M Int32) (v0 : Option Nat) (v1 : Option Nat) (v2 : Option Nat) (v3 : Option Nat) (v4 : Int32) : rc_M Int32 :=
rp_L_law_L2957 k23 v0 v1 v2 v3 v4
noncomputable def rp_L_law_L1867 (k23 : Option Nat → Option Nat → Option Nat → Option Nat → Int32 → rc_M Int32) (v0 : Option Nat) (v1 : Option Nat) (v2 : Option Nat) (v3 : Option Nat) (v4 : Int32) : rc_M Int32 :=
rc_bind (rc_ald 0 v0 (v4 + (1 : Int32))) fun x1 =>
rc_bind (rp_X0_fish v1 x1 v3) fun x2 =>
rc_bind (rc_ald 0 v0 (v4 + (1 : Int32))) fun x3 =>
rc_bind (rc_isM v2) fun _ =>
rc_bind (rp_X9_fish x3) fun x4 =>
rc_bind (rc_isM v2) fun _ =>
rc_bind (rp_X9_thrown) fun x5 =>
(if x5 = x2 then
(if x2 = 0 then
rc_bind (rc_aldl v3 (0 : Int32)) fun x6 =>
(if (lg_cmp x6 (x4.toInt64)) = 0 then
rp_L_law_L1920 k23 v0 v1 v2 v3 v4
else
rc_pure (0 : Int32))
else
rp_L_law_L1920 k23 v0 v1 v2 v3 v4)
else
rc_pure (0 : Int32))
noncomputable def rp_L_law_L1976 (k23 : Option Nat → Option Nat → Option Nat → Option Nat → Int32 → rc_M Int32) (v0 : Option Nat) (v1 : Option Nat) (v2 : Option Nat) (v3 : Option Nat) (v4 : Int32) : rc_M Int32 :=
rp_L_law_L2957 k23 v0 v1 v2 v3 v4
noncomputable def rp_L_law_L1923 (k23 : Option Nat → Option Nat → Option Nat → Option Nat → Int32 → rc_M Int32) (v0 : Option Nat) (v1 : Option Nat) (v2 : Option Nat) (v3 : Option Nat) (v4 : Int32) : rc_M Int32 :=
rc_bind (rc_ald 0 v0 (v4 + (1 : Int32))) fun x1 =>
rc_bind (rp_X0_chimneyOf v1 x1 v3) fun x2 =>
rc_bind (rc_ald 0 v0 (v4 + (1 : Int32))) fun x3 =>
rc_bind (rc_isM v2) fun _ =>
rc_bind (rp_X9_chimneyOf x3) fun x4 =>
rc_bind (rc_isM v2) fun _ =>
rc_bind (rp_X9_thrown) fun x5 =>
(if x5 = x2 then
(if x2 = 0 then
rc_bind (rc_aldl v3 (0 : Int32)) fun x6 =>
(if (lg_cmp x6 (x4.toInt64)) = 0 then
rp_L_law_L1976 k23 v0 v1 v2 v3 v4
else
rc_pure (0 : Int32))
else
rp_L_law_L1976 k23 v0 v1 v2 v3 v4)
else
rc_pure (0 : Int32))
noncomputable def rp_L_law_L2032 (k23 : Option Nat → Option Nat → Option Nat → Option Nat → Int32 → rc_M Int32) (v0 : Option Nat) (v1 : Option Nat) (v2 : Option Nat) (v3 : Option Nat) (v4 : Int32) : rc_M Int32 :=
rp_L_law_L2957 k23 v0 v1 v2 v3 v4
noncomputable def rp_L_law_L1979 (k23 : Option Nat → Option Nat → Option Nat → Option Nat → Int32 → rc_M Int32) (v0 : Option Nat) (v1 : Option Nat) (v2 : Option Nat) (v3 : Option Nat) (v4 : Int32) : rc_M Int32 :=
rc_bind (rc_ald 0 v0 (v4 + (1 : Int32))) fun x1 =>
rc_bind (rp_X0_ownedChimneys v1 x1 v3) fun x2 =>
rc_bind (rc_ald 0 v0 (v4 + (1 : Int32))) fun x3 =>
rc_bind (rc_isM v2) fun _ =>
rc_bind (rp_X9_ownedChimneys x3) fun x4 =>
rc_bind (rc_isM v2) fun _ =>
rc_bind (rp_X9_thrown) fun x5 =>
(if x5 = x2 then
(if x2 = 0 then
rc_bind (rc_aldl v3 (0 : Int32)) fun x6 =>
(if (lg_cmp x6 (x4.toInt64)) = 0 then
rp_L_law_L2032 k23 v0 v1 v2 v3 v4
else
rc_pure (0 : Int32))
else
rp_L_law_L2032 k23 v0 v1 v2 v3 v4)
else
rc_pure (0 : Int32))
noncomputable def rp_L_law_L2100 (k23 : Option Nat → Option Nat → Option Nat → Option Nat → Int32 → rc_M Int32) (v0 : Option Nat) (v1 : Option Nat) (v2 : Option Nat) (v3 : Option Nat) (v4 : Int32) : rc_M Int32 :=
rp_L_law_L2957 k23 v0 v1 v2 v3 v4
noncomputable def rp_L_law_L2035 (k23 : Option Nat → Option Nat → Option Nat → Option Nat → Int32 → rc_M Int32) (v0 : Option Nat) (v1 : Option Nat) (v2 : Option Nat) (v3 : Option Nat) (v4 : Int32) : rc_M Int32 :=
rc_bind (rc_ald 0 v0 (v4 + (1 : Int32))) fun x1 =>
rc_bind (rc_ald 0 v0 (v4 + (2 : Int32))) fun x2 =>
rc_bind (rp_X0_truceNights v1 x1 x2 v3) fun x3 =>
rc_bind (rc_ald 0 v0 (v4 + (1 : Int32))) fun x4 =>
rc_bind (rc_ald 0 v0 (v4 + (2 : Int32))) fun x5 =>
rc_bind (rc_isM v2) fun _ =>
rc_bind (rp_X9_truceNights x4 x5) fun x6 =>
rc_bind (rc_isM v2) fun _ =>
rc_bind (rp_X9_thrown) fun x7 =>
(if x7 = x3 then
(if x3 = 0 then
rc_bind (rc_aldl v3 (0 : Int32)) fun x8 =>
(if (lg_cmp x8 (x6.toInt64)) = 0 then
rp_L_law_L2100 k23 v0 v1 v2 v3 v4
else
rc_pure (0 : Int32))
else
rp_L_law_L2100 k23 v0 v1 v2 v3 v4)
else
rc_pure (0 : Int32))
noncomputable def rp_L_law_L2156 (k23 : Option Nat → Option Nat → Option Nat → Option Nat → Int32 → rc_M Int32) (v0 : Option Nat) (v1 : Option Nat) (v2 : Option Nat) (v3 : Option Nat) (v4 : Int32) : rc_M Int32 :=
rp_L_law_L2957 k23 v0 v1 v2 v3 v4
noncomputable def rp_L_law_L2103 (k23 : Option Nat → Option Nat → Option Nat → Option Nat → Int32 → rc_M Int32) (v0 : Option Nat) (v1 : Option Nat) (v2 : Option Nat) (v3 : Option Nat) (v4 : Int32) : rc_M Int32 :=
rc_bind (rc_ald 0 v0 (v4 + (1 : Int32))) fun x1 =>
rc_bind (rp_X0_reachable v1 x1 v3) fun x2 =>
rc_bind (rc_ald 0 v0 (v4 + (1 : Int32))) fun x3 =>
rc_bind (rc_isM v2) fun _ =>
rc_bind (rp_X9_reachable x3) fun x4 =>
rc_bind (rc_isM v2) fun _ =>
rc_bind (rp_X9_thrown) fun x5 =>
(if x5 = x2 then
(if x2 = 0 then
rc_bind (rc_aldl v3 (0 : Int32)) fun x6 =>
(if (lg_cmp x6 (x4.toInt64)) = 0 then
rp_L_law_L2156 k23 v0 v1 v2 v3 v4
else
rc_pure (0 : Int32))
else
rp_L_law_L2156 k23 v0 v1 v2 v3 v4)
else
rc_pure (0 : Int32))
noncomputable def rp_L_law_L2224 (k23 : Option Nat → Option Nat → Option Nat → Option Nat → Int32 → rc_M Int32) (v0 : Option Nat) (v1 : Option Nat) (v2 : Option Nat) (v3 : Option Nat) (v4 : Int32) : rc_M Int32 :=
rp_L_law_L2957 k23 v0 v1 v2 v3 v4
noncomputable def rp_L_law_L2159 (k23 : Option Nat → Option Nat → Option Nat → Option Nat → Int32 → rc_M Int32) (v0 : Option Nat) (v1 : Option Nat) (v2 : Option Nat) (v3 : Option Nat) (v4 : Int32) : rc_M Int32 :=
rc_bind (rc_ald 0 v0 (v4 + (1 : Int32))) fun x1 =>
rc_bind (rc_ald 0 v0 (v4 + (2 : Int32))) fun x2 =>
rc_bind (rp_X0_stepsTo v1 x1 x2 v3) fun x3 =>
rc_bind (rc_ald 0 v0 (v4 + (1 : Int32))) fun x4 =>
rc_bind (rc_ald 0 v0 (v4 + (2 : Int32))) fun x5 =>
rc_bind (rc_isM v2) fun _ =>
rc_bind (rp_X9_stepsTo x4 x5) fun x6 =>
rc_bind (rc_isM v2) fun _ =>
rc_bind (rp_X9_thrown) fun x7 =>
(if x7 = x3 then
(if x3 = 0 then
rc_bind (rc_aldl v3 (0 : Int32)) fun x8 =>
(if (lg_cmp x8 (x6.toInt64)) = 0 then
rp_L_law_L2224 k23 v0 v1 v2 v3 v4
else
rc_pure (0 : Int32))
else
rp_L_law_L2224 k23 v0 v1 v2 v3 v4)
else
rc_pure (0 : Int32))
noncomputable def rp_L_law_L2280 (k23 : Option Nat → Option Nat → Option Nat → Option Nat → Int32 → rc_M Int32) (v0 : Option Nat) (v1 : Option Nat) (v2 : Option Nat) (v3 : Option Nat) (v4 : Int32) : rc_M Int32 :=
rp_L_law_L2957 k23 v0 v1 v2 v3 v4
noncomputable def rp_L_law_L2227 (k23 : Option Nat → Option Nat → Option Nat → Option Nat → Int32 → rc_M Int32) (v0 : Option Nat) (v1 : Option Nat) (v2 : Option Nat) (v3 : Option Nat) (v4 : Int32) : rc_M Int32 :=
rc_bind (rc_ald 0 v0 (v4 + (1 : Int32))) fun x1 =>
rc_bind (rp_X0_openGutters v1 x1 v3) fun x2 =>
rc_bind (rc_ald 0 v0 (v4 + (1 : Int32))) fun x3 =>
rc_bind (rc_isM v2) fun _ =>
rc_bind (rp_X9_openGutters x3) fun x4 =>
rc_bind (rc_isM v2) fun _ =>
rc_bind (rp_X9_thrown) fun x5 =>
(if x5 = x2 then
(if x2 = 0 then
rc_bind (rc_aldl v3 (0 : Int32)) fun x6 =>
(if (lg_cmp x6 (x4.toInt64)) = 0 then
rp_L_law_L2280 k23 v0 v1 v2 v3 v4
else
rc_pure (0 : Int32))
else
rp_L_law_L2280 k23 v0 v1 v2 v3 v4)
else
rc_pure (0 : Int32))
noncomputable def rp_L_law_L2348 (k23 : Option Nat → Option Nat → Option Nat → Option Nat → Int32 → rc_M Int32) (v0 : Option Nat) (v1 : Option Nat) (v2 : Option Nat) (v3 : Option Nat) (v4 : Int32) : rc_M Int32 :=
rp_L_law_L2957 k23 v0 v1 v2 v3 v4
noncomputable def rp_L_law_L2283 (k23 : Option Nat → Option Nat → Option Nat → Option Nat → Int32 → rc_M Int32) (v0 : Option Nat) (v1 : Option Nat) (v2 : Option Nat) (v3 : Option Nat) (v4 : Int32) : rc_M Int32 :=
rc_bind (rc_ald 0 v0 (v4 + (1 : Int32))) fun x1 =>
rc_bind (rc_ald 0 v0 (v4 + (2 : Int32))) fun x2 =>
rc_bind (rp_X0_whyNoStep v1 x1 x2 v3) fun x3 =>
rc_bind (rc_ald 0 v0 (v4 + (1 : Int32))) fun x4 =>
rc_bind (rc_ald 0 v0 (v4 + (2 : Int32))) fun x5 =>
rc_bind (rc_isM v2) fun _ =>
rc_bind (rp_X9_whyNoStep x4 x5) fun x6 =>
rc_bind (rc_isM v2) fun _ =>
rc_bind (rp_X9_thrown) fun x7 =>
(if x7 = x3 then
(if x3 = 0 then
rc_bind (rc_aldl v3 (0 : Int32)) fun x8 =>
(if (lg_cmp x8 (x6.toInt64)) = 0 then
rp_L_law_L2348 k23 v0 v1 v2 v3 v4
else
rc_pure (0 : Int32))
else
rp_L_law_L2348 k23 v0 v1 v2 v3 v4)
else
rc_pure (0 : Int32))
noncomputable def rp_L_law_L2404 (k23 : Option Nat → Option Nat → Option Nat → Option Nat → Int32 → rc_M Int32) (v0 : Option Nat) (v1 : Option Nat) (v2 : Option Nat) (v3 : Option Nat) (v4 : Int32) : rc_M Int32 :=
rp_L_law_L2957 k23 v0 v1 v2 v3 v4
noncomputable def rp_L_law_L2351 (k23 : Option Nat → Option Nat → Option Nat → Option Nat → Int32 → rc_M Int32) (v0 : Option Nat) (v1 : Option Nat) (v2 : Option Nat) (v3 : Option Nat) (v4 : Int32) : rc_M Int32 :=
rc_bind (rc_ald 0 v0 (v4 + (1 : Int32))) fun x1 =>
rc_bind (rp_X0_whyNoClaim v1 x1 v3) fun x2 =>
rc_bind (rc_ald 0 v0 (v4 + (1 : Int32))) fun x3 =>
rc_bind (rc_isM v2) fun _ =>
rc_bind (rp_X9_whyNoClaim x3) fun x4 =>
rc_bind (rc_isM v2) fun _ =>
rc_bind (rp_X9_thrown) fun x5 =>
(if x5 = x2 then
(if x2 = 0 then
rc_bind (rc_aldl v3 (0 : Int32)) fun x6 =>
(if (lg_cmp x6 (x4.toInt64)) = 0 then
rp_L_law_L2404 k23 v0 v1 v2 v3 v4
else
rc_pure (0 : Int32))
else
rp_L_law_L2404 k23 v0 v1 v2 v3 v4)
else
rc_pure (0 : Int32))
noncomputable def rp_L_law_L2472 (k23 : Option Nat → Option Nat → Option Nat → Option Nat → Int32 → rc_M Int32) (v0 : Option Nat) (v1 : Option Nat) (v2 : Option Nat) (v3 : Option Nat) (v4 : Int32) : rc_M Int32 :=
rp_L_law_L2957 k23 v0 v1 v2 v3 v4
noncomputable def rp_L_law_L2407 (k23 : Option Nat → Option Nat → Option Nat → Option Nat → Int32 → rc_M Int32) (v0 : Option Nat) (v1 : Option Nat) (v2 : Option Nat) (v3 : Option Nat) (v4 : Int32) : rc_M Int32 :=
rc_bind (rc_ald 0 v0 (v4 + (1 : Int32))) fun x1 =>
rc_bind (rc_ald 0 v0 (v4 + (2 : Int32))) fun x2 =>
rc_bind (rp_X0_whyNoChase v1 x1 x2 v3) fun x3 =>
rc_bind (rc_ald 0 v0 (v4 + (1 : Int32))) fun x4 =>
rc_bind (rc_ald 0 v0 (v4 + (2 : Int32))) fun x5 =>
rc_bind (rc_isM v2) fun _ =>
rc_bind (rp_X9_whyNoChase x4 x5) fun x6 =>
rc_bind (rc_isM v2) fun _ =>
rc_bind (rp_X9_thrown) fun x7 =>
(if x7 = x3 then
(if x3 = 0 then
rc_bind (rc_aldl v3 (0 : Int32)) fun x8 =>
(if (lg_cmp x8 (x6.toInt64)) = 0 then
rp_L_law_L2472 k23 v0 v1 v2 v3 v4
else
rc_pure (0 : Int32))
else
rp_L_law_L2472 k23 v0 v1 v2 v3 v4)
else
rc_pure (0 : Int32))
noncomputable def rp_L_law_L2528 (k23 : Option Nat → Option Nat → Option Nat → Option Nat → Int32 → rc_M Int32) (v0 : Option Nat) (v1 : Option Nat) (v2 : Option Nat) (v3 : Option Nat) (v4 : Int32) : rc_M Int32 :=
rp_L_law_L2957 k23 v0 v1 v2 v3 v4
noncomputable def rp_L_law_L2475 (k23 : Option Nat → Option Nat → Option Nat → Option Nat → Int32 → rc_M Int32) (v0 : Option Nat) (v1 : Option Nat) (v2 : Option Nat) (v3 : Option Nat) (v4 : Int32) : rc_M Int32 :=
rc_bind (rc_ald 0 v0 (v4 + (1 : Int32))) fun x1 =>
rc_bind (rp_X0_preyOf v1 x1 v3) fun x2 =>
rc_bind (rc_ald 0 v0 (v4 + (1 : Int32))) fun x3 =>
rc_bind (rc_isM v2) fun _ =>
rc_bind (rp_X9_preyOf x3) fun x4 =>
rc_bind (rc_isM v2) fun _ =>
rc_bind (rp_X9_thrown) fun x5 =>
(if x5 = x2 then
(if x2 = 0 then
rc_bind (rc_aldl v3 (0 : Int32)) fun x6 =>
(if (lg_cmp x6 (x4.toInt64)) = 0 then
rp_L_law_L2528 k23 v0 v1 v2 v3 v4
else
rc_pure (0 : Int32))
else
rp_L_law_L2528 k23 v0 v1 v2 v3 v4)
else
rc_pure (0 : Int32))
noncomputable def rp_L_law_L2531 (k23 : Option Nat → Option Nat → Option Nat → Option Nat → Int32 → rc_M Int32) (v0 : Option Nat) (v1 : Option Nat) (v2 : Option Nat) (v3 : Option Nat) (v4 : Int32) : rc_M Int32 :=
rc_bind (rc_is 0 v1) fun _ =>
rc_bind (rp_X1_isKittenWaiting v1) fun x1 =>
rc_bind (rc_isM v2) fun _ =>
rc_bind (rp_X9_isKittenWaiting) fun x2 =>
(if x1 = x2 then
rp_L_law_L2957 k23 v0 v1 v2 v3 v4
else
rc_pure (0 : Int32))
noncomputable def rp_L_law_L2544 (k23 : Option Nat → Option Nat → Option Nat → Option Nat → Int32 → rc_M Int32) (v0 : Option Nat) (v1 : Option Nat) (v2 : Option Nat) (v3 : Option Nat) (v4 : Int32) : rc_M Int32 :=
rc_bind (rc_is 0 v1) fun _ =>
rc_bind (rp_X1_votesFor v1) fun x1 =>
rc_bind (rc_isM v2) fun _ =>
rc_bind (rp_X9_votesFor) fun x2 =>
(if x1 = x2 then
rp_L_law_L2957 k23 v0 v1 v2 v3 v4
else
rc_pure (0 : Int32))
noncomputable def rp_L_law_L2557 (k23 : Option Nat → Option Nat → Option Nat → Option Nat → Int32 → rc_M Int32) (v0 : Option Nat) (v1 : Option Nat) (v2 : Option Nat) (v3 : Option Nat) (v4 : Int32) : rc_M Int32 :=
rc_bind (rc_is 0 v1) fun _ =>
rc_bind (rp_X1_votesAgainst v1) fun x1 =>
rc_bind (rc_isM v2) fun _ =>
rc_bind (rp_X9_votesAgainst) fun x2 =>
(if x1 = x2 then
rp_L_law_L2957 k23 v0 v1 v2 v3 v4
else
rc_pure (0 : Int32))
noncomputable def rp_L_law_L2630 (k23 : Option Nat → Option Nat → Option Nat → Option Nat → Int32 → rc_M Int32) (v0 : Option Nat) (v1 : Option Nat) (v2 : Option Nat) (v3 : Option Nat) (v4 : Int32) : rc_M Int32 :=
rp_L_law_L2957 k23 v0 v1 v2 v3 v4
noncomputable def rp_L_law_L2624 (k23 : Option Nat → Option Nat → Option Nat → Option Nat → Int32 → rc_M Int32) (v0 : Option Nat) (v1 : Option Nat) (v2 : Option Nat) (v3 : Option Nat) (v4 : Int32) (s0 : Int64) (s1 : Int64) : rc_M Int32 :=
(if (lg_cmp s1 s0) = 0 then
rp_L_law_L2630 k23 v0 v1 v2 v3 v4
else
rc_pure (0 : Int32))
noncomputable def rp_L_law_L2570 (k23 : Option Nat → Option Nat → Option Nat → Option Nat → Int32 → rc_M Int32) (v0 : Option Nat) (v1 : Option Nat) (v2 : Option Nat) (v3 : Option Nat) (v4 : Int32) : rc_M Int32 :=
rc_bind (rc_ald 0 v0 (v4 + (1 : Int32))) fun x1 =>
rc_bind (rp_X0_hasVoted v1 x1 v3) fun x2 =>
rc_bind (rc_ald 0 v0 (v4 + (1 : Int32))) fun x3 =>
rc_bind (rc_isM v2) fun _ =>
rc_bind (rp_X9_hasVoted x3) fun x4 =>
rc_bind (rc_isM v2) fun _ =>
rc_bind (rp_X9_thrown) fun x5 =>
(if x5 = x2 then
(if x2 = 0 then
rc_bind (rc_aldl v3 (0 : Int32)) fun x6 =>
(if x4 = 0 then
rp_L_law_L2624 k23 v0 v1 v2 v3 v4 (0 : Int64) x6
else
rp_L_law_L2624 k23 v0 v1 v2 v3 v4 (1 : Int64) x6)
else
rp_L_law_L2630 k23 v0 v1 v2 v3 v4)
else
rc_pure (0 : Int32))
noncomputable def rp_L_law_L2686 (k23 : Option Nat → Option Nat → Option Nat → Option Nat → Int32 → rc_M Int32) (v0 : Option Nat) (v1 : Option Nat) (v2 : Option Nat) (v3 : Option Nat) (v4 : Int32) : rc_M Int32 :=
rp_L_law_L2957 k23 v0 v1 v2 v3 v4
noncomputable def rp_L_law_L2633 (k23 : Option Nat → Option Nat → Option Nat → Option Nat → Int32 → rc_M Int32) (v0 : Option Nat) (v1 : Option Nat) (v2 : Option Nat) (v3 : Option Nat) (v4 : Int32) : rc_M Int32 :=
rc_bind (rc_ald 0 v0 (v4 + (1 : Int32))) fun x1 =>
rc_bind (rp_X0_choirOf v1 x1 v3) fun x2 =>
rc_bind (rc_ald 0 v0 (v4 + (1 : Int32))) fun x3 =>
rc_bind (rc_isM v2) fun _ =>
rc_bind (rp_X9_choirOf x3) fun x4 =>
rc_bind (rc_isM v2) fun _ =>
rc_bind (rp_X9_thrown) fun x5 =>
(if x5 = x2 then
(if x2 = 0 then
rc_bind (rc_aldl v3 (0 : Int32)) fun x6 =>
(if (lg_cmp x6 (x4.toInt64)) = 0 then
rp_L_law_L2686 k23 v0 v1 v2 v3 v4
else
rc_pure (0 : Int32))
else
rp_L_law_L2686 k23 v0 v1 v2 v3 v4)
else
rc_pure (0 : Int32))
noncomputable def rp_L_law_L2689 (k23 : Option Nat → Option Nat → Option Nat → Option Nat → Int32 → rc_M Int32) (v0 : Option Nat) (v1 : Option Nat) (v2 : Option Nat) (v3 : Option Nat) (v4 : Int32) : rc_M Int32 :=
rc_bind (rc_is 0 v1) fun _ =>
rc_bind (rp_X1_choirCount v1) fun x1 =>
rc_bind (rc_isM v2) fun _ =>
rc_bind (rp_X9_choirCount) fun x2 =>
(if x1 = x2 then
rp_L_law_L2957 k23 v0 v1 v2 v3 v4
else
rc_pure (0 : Int32))
noncomputable def rp_L_law_L2702 (k23 : Option Nat → Option Nat → Option Nat → Option Nat → Int32 → rc_M Int32) (v0 : Option Nat) (v1 : Option Nat) (v2 : Option Nat) (v3 : Option Nat) (v4 : Int32) : rc_M Int32 :=
rc_bind (rc_is 0 v1) fun _ =>
rc_bind (rp_X1_largestChoir v1) fun x1 =>
rc_bind (rc_isM v2) fun _ =>
rc_bind (rp_X9_largestChoir) fun x2 =>
(if x1 = x2 then
rp_L_law_L2957 k23 v0 v1 v2 v3 v4
else
rc_pure (0 : Int32))
noncomputable def rp_L_law_L2715 (k23 : Option Nat → Option Nat → Option Nat → Option Nat → Int32 → rc_M Int32) (v0 : Option Nat) (v1 : Option Nat) (v2 : Option Nat) (v3 : Option Nat) (v4 : Int32) : rc_M Int32 :=
rc_bind (rc_is 0 v1) fun _ =>
rc_bind (rp_X1_nightsToFullMoon v1) fun x1 =>
rc_bind (rc_isM v2) fun _ =>
rc_bind (rp_X9_nightsToFullMoon) fun x2 =>
(if x1 = x2 then
rp_L_law_L2957 k23 v0 v1 v2 v3 v4
else
rc_pure (0 : Int32))
noncomputable def rp_L_law_L2793 (k23 : Option Nat → Option Nat → Option Nat → Option Nat → Int32 → rc_M Int32) (v0 : Option Nat) (v1 : Option Nat) (v2 : Option Nat) (v3 : Option Nat) (v4 : Int32) : rc_M Int32 :=
rp_L_law_L2957 k23 v0 v1 v2 v3 v4
noncomputable def rp_L_law_L2728 (k23 : Option Nat → Option Nat → Option Nat → Option Nat → Int32 → rc_M Int32) (v0 : Option Nat) (v1 : Option Nat) (v2 : Option Nat) (v3 : Option Nat) (v4 : Int32) : rc_M Int32 :=
rc_bind (rc_ald 0 v0 (v4 + (1 : Int32))) fun x1 =>
rc_bind (rc_ald 0 v0 (v4 + (2 : Int32))) fun x2 =>
rc_bind (rp_X0_fishAfter v1 x1 x2 v3) fun x3 =>
rc_bind (rc_ald 0 v0 (v4 + (1 : Int32))) fun x4 =>
rc_bind (rc_ald 0 v0 (v4 + (2 : Int32))) fun x5 =>
rc_bind (rc_isM v2) fun _ =>
rc_bind (rp_X9_fishAfter x4 x5) fun x6 =>
rc_bind (rc_isM v2) fun _ =>
rc_bind (rp_X9_thrown) fun x7 =>
(if x7 = x3 then
(if x3 = 0 then
rc_bind (rc_aldl v3 (0 : Int32)) fun x8 =>
(if (lg_cmp x8 (x6.toInt64)) = 0 then
rp_L_law_L2793 k23 v0 v1 v2 v3 v4
else
rc_pure (0 : Int32))
else
rp_L_law_L2793 k23 v0 v1 v2 v3 v4)
else
rc_pure (0 : Int32))
noncomputable def rp_L_law_L2796 (k23 : Option Nat → Option Nat → Option Nat → Option Nat → Int32 → rc_M Int32) (v0 : Option Nat) (v1 : Option Nat) (v2 : Option Nat) (v3 : Option Nat) (v4 : Int32) : rc_M Int32 :=
rc_bind (rc_is 0 v1) fun _ =>
rc_bind (rp_X1_richestCat v1) fun x1 =>
rc_bind (rc_isM v2) fun _ =>
rc_bind (rp_X9_richestCat) fun x2 =>
(if x1 = x2 then
rp_L_law_L2957 k23 v0 v1 v2 v3 v4
else
rc_pure (0 : Int32))
noncomputable def rp_L_law_L2809 (k23 : Option Nat → Option Nat → Option Nat → Option Nat → Int32 → rc_M Int32) (v0 : Option Nat) (v1 : Option Nat) (v2 : Option Nat) (v3 : Option Nat) (v4 : Int32) : rc_M Int32 :=
rc_bind (rc_is 0 v1) fun _ =>
rc_bind (rp_X1_totalFish v1) fun x1 =>
rc_bind (rc_isM v2) fun _ =>
rc_bind (rp_X9_totalFish) fun x2 =>
(if x1 = x2 then
rp_L_law_L2957 k23 v0 v1 v2 v3 v4
else
rc_pure (0 : Int32))
noncomputable def rp_L_law_L2860 (k23 : Option Nat → Option Nat → Option Nat → Option Nat → Int32 → rc_M Int32) (v0 : Option Nat) (v1 : Option Nat) (v2 : Option Nat) (v3 : Option Nat) (v4 : Int32) : rc_M Int32 :=
rp_L_law_L2957 k23 v0 v1 v2 v3 v4
noncomputable def rp_L_law_L2822 (k23 : Option Nat → Option Nat → Option Nat → Option Nat → Int32 → rc_M Int32) (v0 : Option Nat) (v1 : Option Nat) (v2 : Option Nat) (v3 : Option Nat) (v4 : Int32) : rc_M Int32 :=
rc_bind (rc_is 0 v1) fun _ =>
rc_bind (rp_X1_meanFish v1) fun x1 =>
rc_bind (rc_isM v2) fun _ =>
rc_bind (rp_X9_meanFish) fun x2 =>
(if (Op.cmpValue (FP.dcmp x1 x2) .l) = 0 then
rp_L_law_L2860 k23 v0 v1 v2 v3 v4
else
(if (Op.cmpValue (FP.dcmp x1 x1) .l) = 0 then
rc_pure (0 : Int32)
else
(if (Op.cmpValue (FP.dcmp x2 x2) .l) = 0 then
rc_pure (0 : Int32)
else
rp_L_law_L2860 k23 v0 v1 v2 v3 v4)))
noncomputable def rp_L_law_L2903 (k23 : Option Nat → Option Nat → Option Nat → Option Nat → Int32 → rc_M Int32) (v0 : Option Nat) (v1 : Option Nat) (v2 : Option Nat) (v3 : Option Nat) (v4 : Int32) : rc_M Int32 :=
rp_L_law_L2957 k23 v0 v1 v2 v3 v4
noncomputable def rp_L_law_L2863 (k23 : Option Nat → Option Nat → Option Nat → Option Nat → Int32 → rc_M Int32) (v0 : Option Nat) (v1 : Option Nat) (v2 : Option Nat) (v3 : Option Nat) (v4 : Int32) : rc_M Int32 :=
rc_bind (rc_is 0 v1) fun _ =>
rc_bind (rp_X1_ownedShare v1) fun x1 =>
rc_bind (rc_f2dM x1) fun x2 =>
rc_bind (rc_isM v2) fun _ =>
rc_bind (rp_X9_ownedShare) fun x3 =>
rc_bind (rc_f2dM x3) fun x4 =>
(if (Op.cmpValue (FP.dcmp x2 x4) .l) = 0 then
rp_L_law_L2903 k23 v0 v1 v2 v3 v4
else
(if (Op.cmpValue (FP.dcmp x2 x2) .l) = 0 then
rc_pure (0 : Int32)
else
(if (Op.cmpValue (FP.dcmp x4 x4) .l) = 0 then
rc_pure (0 : Int32)
else
rp_L_law_L2903 k23 v0 v1 v2 v3 v4)))
noncomputable def rp_L_law_L2906 (k23 : Option Nat → Option Nat → Option Nat → Option Nat → Int32 → rc_M Int32) (v0 : Option Nat) (v1 : Option Nat) (v2 : Option Nat) (v3 : Option Nat) (v4 : Int32) : rc_M Int32 :=
rc_bind (rc_is 0 v1) fun _ =>
rc_bind (rp_X1_violations v1) fun x1 =>
rc_bind (rc_isM v2) fun _ =>
rc_bind (rp_X9_violations) fun x2 =>
(if x1 = x2 then
rp_L_law_L2957 k23 v0 v1 v2 v3 v4
else
rc_pure (0 : Int32))
noncomputable def rp_L_law_L2919 (k23 : Option Nat → Option Nat → Option Nat → Option Nat → Int32 → rc_M Int32) (v0 : Option Nat) (v1 : Option Nat) (v2 : Option Nat) (v3 : Option Nat) (v4 : Int32) : rc_M Int32 :=
rc_bind (rc_is 0 v1) fun _ =>
rc_bind (rp_X1_writeRoof v1) fun x1 =>
rc_bind (rc_isM v2) fun _ =>
rc_bind (rp_X9_writeRoof) fun x2 =>
(if x1 = x2 then
rp_L_law_L2957 k23 v0 v1 v2 v3 v4
else
rc_pure (0 : Int32))
noncomputable def rp_L_law_L2932 (k23 : Option Nat → Option Nat → Option Nat → Option Nat → Int32 → rc_M Int32) (v0 : Option Nat) (v1 : Option Nat) (v2 : Option Nat) (v3 : Option Nat) (v4 : Int32) : rc_M Int32 :=
rc_bind (rc_ald 0 v0 (v4 + (1 : Int32))) fun x1 =>
rc_bind (rc_is 0 v1) fun _ =>
rc_bind (rp_X1_reportByte v1 x1) fun x2 =>
rc_bind (rc_ald 0 v0 (v4 + (1 : Int32))) fun x3 =>
rc_bind (rc_isM v2) fun _ =>
rc_bind (rp_X9_reportByte x3) fun x4 =>
(if x2 = x4 then
rp_L_law_L2957 k23 v0 v1 v2 v3 v4
else
rc_pure (0 : Int32))
noncomputable def rp_L_law_L23 : Nat → Option Nat → Option Nat → Option Nat → Option Nat → Int32 → rc_M Int32
  | 0, _, _, _, _, _ => rc_fail
  | n + 1, v0, v1, v2, v3, v4 =>
    rc_bind (rc_alen 0 v0) fun x1 =>
    (if (x1 - (6 : Int32)) < v4 then
    rc_pure (1 : Int32)
    else
    rc_bind (rc_ald 0 v0 v4) fun x2 =>
    (if (x2 &&& (63 : Int32)) = (0 : Int32) then
    rp_L_law_L300 (rp_L_law_L23  n) v0 v1 v2 v3 v4
    else
    (if (x2 &&& (63 : Int32)) = (1 : Int32) then
    rp_L_law_L373 (rp_L_law_L23  n) v0 v1 v2 v3 v4
    else
    (if (x2 &&& (63 : Int32)) = (2 : Int32) then
    rp_L_law_L429 (rp_L_law_L23  n) v0 v1 v2 v3 v4
    else
    (if (x2 &&& (63 : Int32)) = (3 : Int32) then
    rp_L_law_L442 (rp_L_law_L23  n) v0 v1 v2 v3 v4
    else
    (if (x2 &&& (63 : Int32)) = (4 : Int32) then
    rp_L_law_L498 (rp_L_law_L23  n) v0 v1 v2 v3 v4
    else
    (if (x2 &&& (63 : Int32)) = (5 : Int32) then
    rp_L_law_L578 (rp_L_law_L23  n) v0 v1 v2 v3 v4
    else
    (if (x2 &&& (63 : Int32)) = (6 : Int32) then
    rp_L_law_L658 (rp_L_law_L23  n) v0 v1 v2 v3 v4
    else
    (if (x2 &&& (63 : Int32)) = (7 : Int32) then
    rp_L_law_L726 (rp_L_law_L23  n) v0 v1 v2 v3 v4
    else
    (if (x2 &&& (63 : Int32)) = (8 : Int32) then
    rp_L_law_L782 (rp_L_law_L23  n) v0 v1 v2 v3 v4
    else
    (if (x2 &&& (63 : Int32)) = (9 : Int32) then
    rp_L_law_L838 (rp_L_law_L23  n) v0 v1 v2 v3 v4
    else
    (if (x2 &&& (63 : Int32)) = (10 : Int32) then
    rp_L_law_L913 (rp_L_law_L23  n) v0 v1 v2 v3 v4
    else
    (if (x2 &&& (63 : Int32)) = (11 : Int32) then
    rp_L_law_L1005 (rp_L_law_L23  n) v0 v1 v2 v3 v4
    else
    (if (x2 &&& (63 : Int32)) = (12 : Int32) then
    rp_L_law_L1073 (rp_L_law_L23  n) v0 v1 v2 v3 v4
    else
    (if (x2 &&& (63 : Int32)) = (13 : Int32) then
    rp_L_law_L1164 (rp_L_law_L23  n) v0 v1 v2 v3 v4
    else
    (if (x2 &&& (63 : Int32)) = (14 : Int32) then
    rp_L_law_L1220 (rp_L_law_L23  n) v0 v1 v2 v3 v4
    else
    (if (x2 &&& (63 : Int32)) = (15 : Int32) then
    rp_L_law_L1233 (rp_L_law_L23  n) v0 v1 v2 v3 v4
    else
    (if (x2 &&& (63 : Int32)) = (16 : Int32) then
    rp_L_law_L1246 (rp_L_law_L23  n) v0 v1 v2 v3 v4
    else
    (if (x2 &&& (63 : Int32)) = (17 : Int32) then
    rp_L_law_L1259 (rp_L_law_L23  n) v0 v1 v2 v3 v4
    else
    (if (x2 &&& (63 : Int32)) = (18 : Int32) then
    rp_L_law_L1303 (rp_L_law_L23  n) v0 v1 v2 v3 v4
    else
    (if (x2 &&& (63 : Int32)) = (19 : Int32) then
    rp_L_law_L1316 (rp_L_law_L23  n) v0 v1 v2 v3 v4
    else
    (if (x2 &&& (63 : Int32)) = (20 : Int32) then
    rp_L_law_L1329 (rp_L_law_L23  n) v0 v1 v2 v3 v4
    else
    (if (x2 &&& (63 : Int32)) = (21 : Int32) then
    rp_L_law_L1342 (rp_L_law_L23  n) v0 v1 v2 v3 v4
    else
    (if (x2 &&& (63 : Int32)) = (22 : Int32) then
    rp_L_law_L1355 (rp_L_law_L23  n) v0 v1 v2 v3 v4
    else
    (if (x2 &&& (63 : Int32)) = (23 : Int32) then
    rp_L_law_L1368 (rp_L_law_L23  n) v0 v1 v2 v3 v4
    else
    (if (x2 &&& (63 : Int32)) = (24 : Int32) then
    rp_L_law_L1381 (rp_L_law_L23  n) v0 v1 v2 v3 v4
    else
    (if (x2 &&& (63 : Int32)) = (25 : Int32) then
    rp_L_law_L1394 (rp_L_law_L23  n) v0 v1 v2 v3 v4
    else
    (if (x2 &&& (63 : Int32)) = (26 : Int32) then
    rp_L_law_L1450 (rp_L_law_L23  n) v0 v1 v2 v3 v4
    else
    (if (x2 &&& (63 : Int32)) = (27 : Int32) then
    rp_L_law_L1506 (rp_L_law_L23  n) v0 v1 v2 v3 v4
    else
    (if (x2 &&& (63 : Int32)) = (28 : Int32) then
    rp_L_law_L1562 (rp_L_law_L23  n) v0 v1 v2 v3 v4
    else
    (if (x2 &&& (63 : Int32)) = (29 : Int32) then
    rp_L_law_L1618 (rp_L_law_L23  n) v0 v1 v2 v3 v4
    else
    (if (x2 &&& (63 : Int32)) = (30 : Int32) then
    rp_L_law_L1674 (rp_L_law_L23  n) v0 v1 v2 v3 v4
    else
    (if (x2 &&& (63 : Int32)) = (31 : Int32) then
    rp_L_law_L1742 (rp_L_law_L23  n) v0 v1 v2 v3 v4
    else
    (if (x2 &&& (63 : Int32)) = (32 : Int32) then
    rp_L_law_L1755 (rp_L_law_L23  n) v0 v1 v2 v3 v4
    else
    (if (x2 &&& (63 : Int32)) = (33 : Int32) then
    rp_L_law_L1811 (rp_L_law_L23  n) v0 v1 v2 v3 v4
    else
    (if (x2 &&& (63 : Int32)) = (34 : Int32) then
    rp_L_law_L1867 (rp_L_law_L23  n) v0 v1 v2 v3 v4
    else
    (if (x2 &&& (63 : Int32)) = (35 : Int32) then
    rp_L_law_L1923 (rp_L_law_L23  n) v0 v1 v2 v3 v4
    else
    (if (x2 &&& (63 : Int32)) = (36 : Int32) then
    rp_L_law_L1979 (rp_L_law_L23  n) v0 v1 v2 v3 v4
    else
    (if (x2 &&& (63 : Int32)) = (37 : Int32) then
    rp_L_law_L2035 (rp_L_law_L23  n) v0 v1 v2 v3 v4
    else
    (if (x2 &&& (63 : Int32)) = (38 : Int32) then
    rp_L_law_L2103 (rp_L_law_L23  n) v0 v1 v2 v3 v4
    else
    (if (x2 &&& (63 : Int32)) = (39 : Int32) then
    rp_L_law_L2159 (rp_L_law_L23  n) v0 v1 v2 v3 v4
    else
    (if (x2 &&& (63 : Int32)) = (40 : Int32) then
    rp_L_law_L2227 (rp_L_law_L23  n) v0 v1 v2 v3 v4
    else
    (if (x2 &&& (63 : Int32)) = (41 : Int32) then
    rp_L_law_L2283 (rp_L_law_L23  n) v0 v1 v2 v3 v4
    else
    (if (x2 &&& (63 : Int32)) = (42 : Int32) then
    rp_L_law_L2351 (rp_L_law_L23  n) v0 v1 v2 v3 v4
    else
    (if (x2 &&& (63 : Int32)) = (43 : Int32) then
    rp_L_law_L2407 (rp_L_law_L23  n) v0 v1 v2 v3 v4
    else
    (if (x2 &&& (63 : Int32)) = (44 : Int32) then
    rp_L_law_L2475 (rp_L_law_L23  n) v0 v1 v2 v3 v4
    else
    (if (x2 &&& (63 : Int32)) = (45 : Int32) then
    rp_L_law_L2531 (rp_L_law_L23  n) v0 v1 v2 v3 v4
    else
    (if (x2 &&& (63 : Int32)) = (46 : Int32) then
    rp_L_law_L2544 (rp_L_law_L23  n) v0 v1 v2 v3 v4
    else
    (if (x2 &&& (63 : Int32)) = (47 : Int32) then
    rp_L_law_L2557 (rp_L_law_L23  n) v0 v1 v2 v3 v4
    else
    (if (x2 &&& (63 : Int32)) = (48 : Int32) then
    rp_L_law_L2570 (rp_L_law_L23  n) v0 v1 v2 v3 v4
    else
    (if (x2 &&& (63 : Int32)) = (49 : Int32) then
    rp_L_law_L2633 (rp_L_law_L23  n) v0 v1 v2 v3 v4
    else
    (if (x2 &&& (63 : Int32)) = (50 : Int32) then
    rp_L_law_L2689 (rp_L_law_L23  n) v0 v1 v2 v3 v4
    else
    (if (x2 &&& (63 : Int32)) = (51 : Int32) then
    rp_L_law_L2702 (rp_L_law_L23  n) v0 v1 v2 v3 v4
    else
    (if (x2 &&& (63 : Int32)) = (52 : Int32) then
    rp_L_law_L2715 (rp_L_law_L23  n) v0 v1 v2 v3 v4
    else
    (if (x2 &&& (63 : Int32)) = (53 : Int32) then
    rp_L_law_L2728 (rp_L_law_L23  n) v0 v1 v2 v3 v4
    else
    (if (x2 &&& (63 : Int32)) = (54 : Int32) then
    rp_L_law_L2796 (rp_L_law_L23  n) v0 v1 v2 v3 v4
    else
    (if (x2 &&& (63 : Int32)) = (55 : Int32) then
    rp_L_law_L2809 (rp_L_law_L23  n) v0 v1 v2 v3 v4
    else
    (if (x2 &&& (63 : Int32)) = (56 : Int32) then
    rp_L_law_L2822 (rp_L_law_L23  n) v0 v1 v2 v3 v4
    else
    (if (x2 &&& (63 : Int32)) = (57 : Int32) then
    rp_L_law_L2863 (rp_L_law_L23  n) v0 v1 v2 v3 v4
    else
    (if (x2 &&& (63 : Int32)) = (58 : Int32) then
    rp_L_law_L2906 (rp_L_law_L23  n) v0 v1 v2 v3 v4
    else
    (if (x2 &&& (63 : Int32)) = (59 : Int32) then
    rp_L_law_L2919 (rp_L_law_L23  n) v0 v1 v2 v3 v4
    else
    (if (x2 &&& (63 : Int32)) = (60 : Int32) then
    rp_L_law_L2932 (rp_L_law_L23  n) v0 v1 v2 v3 v4
    else
    rp_L_law_L2957 (rp_L_law_L23  n) v0 v1 v2 v3 v4))))))))))))))))))))))))))))))))))))))))))))))))))))))))))))))
noncomputable def rp_L_law (v0 : Option Nat) : rc_M Int32 :=
rc_bind (rc_new 0 7 [rc_q none, rc_q none, rc_q none, rc_q none, rc_q none, rc_i 0, rc_i 0]) fun x1 =>
rc_bind (rc_nn x1) fun _ =>
rc_bind (rp_X1_init x1) fun _ =>
rc_bind (rc_new 8 23 [rc_q none, rc_q none, rc_q none, rc_q none, rc_q none, rc_i 0, rc_i 0, rc_q none, rc_q none, rc_q none, rc_i 0, rc_i 0, rc_i 0, rc_i 0, rc_q none, rc_i 0, rc_i 0, rc_i 0, rc_i 0, rc_i 0, rc_i 0, rc_i 0, rc_q none]) fun x2 =>
rc_bind (rc_nn x2) fun _ =>
rc_bind (rp_X9_init x2) fun _ =>
rc_bind (rc_newa 1 (1 : Int32)) fun x3 =>
rc_bind rc_fuel fun x4 =>
rp_L_law_L23 x4 v0 x1 x2 x3 (0 : Int32)
theorem rw_X9_init {l : Launch} (hl : l.stackTraces = false) (v0 : Option Nat) : rc_Ct l yX9_init (ws_ yX9_init cX9_init 1 (Option.none : Option Jvm.ClassFile.FieldType)) 16 359 rc_tU (rp_X9_init v0) [rc_q v0] := by
  refine rc_Ct_H hl (plainFor_of_name rY_X9) rfl (Nat.le_of_ble_eq_true rfl) (L0 := [some (rc_q v0)]) rfl ?_
  intro Y S hC hH h
  have hC : rc_C Y cX9_init RX9 (Option.none : Option Jvm.ClassFile.FieldType) 1 := hC
  unfold rp_X9_init at h
  refine rc_aload_n (pc := 0) hC dX9_init_0 rfl rfl ?_
  refine rc_objInit (pc := 1) hC q2003 q162 q163 rfl dX9_init_1 (hH.frm (Nat.le_of_ble_eq_true rfl)) (hH.lom (Nat.le_of_ble_eq_true rfl)) (Nat.zero_le _) h ?_
  intro h
  refine rc_aload_n (pc := 4) hC dX9_init_4 rfl rfl ?_
  refine rc_sipush (pc := 5) hC (v := (186 : Int32)) dX9_init_5 rfl ?_
  refine rc_r_newa (pc := 8) hC (t := 0) (atype := .int) (by decide) rfl q297 dX9_init_8 h ?_
  intro x1 S h
  refine rc_r_put (pc := 10) hC rP_X9_7 (fun _ => hH.2.1) dX9_init_10 h ?_
  intro S h
  refine rc_aload_n (pc := 13) hC dX9_init_13 rfl rfl ?_
  refine rc_sipush (pc := 14) hC (v := (186 : Int32)) dX9_init_14 rfl ?_
  refine rc_r_newa (pc := 17) hC (t := 0) (atype := .int) (by decide) rfl q297 dX9_init_17 h ?_
  intro x2 S h
  refine rc_r_put (pc := 19) hC rP_X9_13 (fun _ => hH.2.1) dX9_init_19 h ?_
  intro S h
  refine rc_aload_n (pc := 22) hC dX9_init_22 rfl rfl ?_
  refine rc_sipush (pc := 23) hC (v := (186 : Int32)) dX9_init_23 rfl ?_
  refine rc_r_newa (pc := 26) hC (t := 0) (atype := .int) (by decide) rfl q297 dX9_init_26 h ?_
  intro x3 S h
  refine rc_r_put (pc := 28) hC rP_X9_16 (fun _ => hH.2.1) dX9_init_28 h ?_
  intro S h
  refine rc_aload_n (pc := 31) hC dX9_init_31 rfl rfl ?_
  refine rc_sipush (pc := 32) hC (v := (1488 : Int32)) dX9_init_32 rfl ?_
  refine rc_r_newa (pc := 35) hC (t := 0) (atype := .int) (by decide) rfl q297 dX9_init_35 h ?_
  intro x4 S h
  refine rc_r_put (pc := 37) hC rP_X9_19 (fun _ => hH.2.1) dX9_init_37 h ?_
  intro S h
  refine rc_aload_n (pc := 40) hC dX9_init_40 rfl rfl ?_
  refine rc_sipush (pc := 41) hC (v := (186 : Int32)) dX9_init_41 rfl ?_
  refine rc_r_newa (pc := 44) hC (t := 0) (atype := .int) (by decide) rfl q297 dX9_init_44 h ?_
  intro x5 S h
  refine rc_r_put (pc := 46) hC rP_X9_22 (fun _ => hH.2.1) dX9_init_46 h ?_
  intro S h
  refine rc_aload_n (pc := 49) hC dX9_init_49 rfl rfl ?_
  refine rc_sipush (pc := 50) hC (v := (600 : Int32)) dX9_init_50 rfl ?_
  refine rc_r_newa (pc := 53) hC (t := 0) (atype := .int) (by decide) rfl q297 dX9_init_53 h ?_
  intro x6 S h
  refine rc_r_put (pc := 55) hC rP_X9_25 (fun _ => hH.2.1) dX9_init_55 h ?_
  intro S h
  refine rc_aload_n (pc := 58) hC dX9_init_58 rfl rfl ?_
  refine rc_sipush (pc := 59) hC (v := (600 : Int32)) dX9_init_59 rfl ?_
  refine rc_r_newa (pc := 62) hC (t := 0) (atype := .int) (by decide) rfl q297 dX9_init_62 h ?_
  intro x7 S h
  refine rc_r_put (pc := 64) hC rP_X9_28 (fun _ => hH.2.1) dX9_init_64 h ?_
  intro S h
  refine rc_aload_n (pc := 67) hC dX9_init_67 rfl rfl ?_
  refine rc_bipush (pc := 68) hC (v := (10 : Int32)) dX9_init_68 rfl ?_
  refine rc_r_newa (pc := 70) hC (t := 0) (atype := .int) (by decide) rfl q297 dX9_init_70 h ?_
  intro x8 S h
  refine rc_r_put (pc := 72) hC rP_X9_31 (fun _ => hH.2.1) dX9_init_72 h ?_
  intro S h
  refine rc_aload_n (pc := 75) hC dX9_init_75 rfl rfl ?_
  refine rc_iconst (pc := 76) hC (v := (-1 : Int32)) dX9_init_76 rfl ?_
  refine rc_r_put (pc := 77) hC rP_X9_34 (nofun) dX9_init_77 h ?_
  intro S h
  refine rc_aload_n (pc := 80) hC dX9_init_80 rfl rfl ?_
  refine rc_bipush (pc := 81) hC (v := (80 : Int32)) dX9_init_81 rfl ?_
  refine rc_r_newa (pc := 83) hC (t := 3) (atype := .char) (by decide) rfl q2375 dX9_init_83 h ?_
  intro x9 S h
  refine rc_r_put (pc := 85) hC rP_X9_38 (fun _ => hH.2.1) dX9_init_85 h ?_
  intro S h
  refine rc_aload_n (pc := 88) hC dX9_init_88 rfl rfl ?_
  refine rc_iconst (pc := 89) hC (v := (4 : Int32)) dX9_init_89 rfl ?_
  refine rc_r_newa (pc := 90) hC (t := 0) (atype := .int) (by decide) rfl q297 dX9_init_90 h ?_
  intro x10 S h
  refine rc_r_put (pc := 92) hC rP_X9_42 (fun _ => hH.2.1) dX9_init_92 h ?_
  intro S h
  refine rc_r_adopt h ?_
  intro S h
  refine rc_aload_n (pc := 95) hC dX9_init_95 rfl rfl ?_
  refine rc_r_text (pc := 96) hC (i := 28) rfl dX9_init_96 h ?_
  intro x11 h
  obtain ⟨⟨he, hf⟩, h⟩ := h.isM
  refine rc_callM (pc := 98) hC (As := [rc_q x11]) (st := []) (rw_X9_tell hH.1 x11) q2005 q2007 qs28 q149 q2008 rfl rd_X9_tell (hH.room (Nat.le_of_ble_eq_true rfl) (Nat.le_of_ble_eq_true rfl)) rfl rfl (Nat.le_of_ble_eq_true rfl) 1 rfl h.le.2.2 (Or.inr hf) h.br (by rw [he]; first | done | rfl) dX9_init_98 ?_ (fun E q S hT => rc_out hC hH.2.2.2.2 hT)
  intro _ S h
  show rc_Z Y S 101 [some (rc_q v0)] []
  refine rc_aload_n (pc := 101) hC dX9_init_101 rfl rfl ?_
  refine rc_r_text (pc := 102) hC (i := 29) rfl dX9_init_102 h ?_
  intro x12 h
  obtain ⟨⟨he, hf⟩, h⟩ := h.isM
  refine rc_callM (pc := 104) hC (As := [rc_q x12]) (st := []) (rw_X9_tell hH.1 x12) q2005 q2007 qs28 q149 q2008 rfl rd_X9_tell (hH.room (Nat.le_of_ble_eq_true rfl) (Nat.le_of_ble_eq_true rfl)) rfl rfl (Nat.le_of_ble_eq_true rfl) 1 rfl h.le.2.2 (Or.inr hf) h.br (by rw [he]; first | done | rfl) dX9_init_104 ?_ (fun E q S hT => rc_out hC hH.2.2.2.2 hT)
  intro _ S h
  show rc_Z Y S 107 [some (rc_q v0)] []
  refine rc_aload_n (pc := 107) hC dX9_init_107 rfl rfl ?_
  obtain ⟨⟨he, hf⟩, h⟩ := h.isM
  refine rc_callM (pc := 108) hC (As := []) (st := []) (rw_X9_parses hH.1) q2012 q2014 qs29 q149 q2015 rfl rd_X9_parses (hH.room (Nat.le_of_ble_eq_true rfl) (Nat.le_of_ble_eq_true rfl)) rfl rfl (Nat.le_of_ble_eq_true rfl) 0 rfl h.le.2.2 (Or.inr hf) h.br (by rw [he]; first | done | rfl) dX9_init_108 ?_ (fun E q S hT => rc_out hC hH.2.2.2.2 hT)
  intro x13 S h
  show rc_Z Y S 111 [some (rc_q v0)] [rc_i x13]
  refine rc_pop (pc := 111) hC dX9_init_111 rfl ?_
  refine rc_aload_n (pc := 112) hC dX9_init_112 rfl rfl ?_
  refine rc_iconst (pc := 113) hC (v := (0 : Int32)) dX9_init_113 rfl ?_
  obtain ⟨⟨he, hf⟩, h9⟩ := h.isM
  subst he
  refine rc_r_mput (pc := 114) hC (Or.inr hf) rP_X9_57 rfl dX9_init_114 h9 ?_
  intro S h
  exact rc_vret hC rfl dX9_init_117 h rfl
theorem rw_L_law_L2957 {Y : rc_Y} (hC : rc_C Y cL_law RX0 ret 9) (hH : rc_H Y 20 419 "law") {k23 : Option Nat → Option Nat → Option Nat → Option Nat → Int32 → rc_M Int32} (hk23 : ∀ (v0 : Option Nat) (v1 : Option Nat) (v2 : Option Nat) (v3 : Option Nat) (v4 : Int32) (S : rc_S), rc_Go Y rc_tI (k23 v0 v1 v2 v3 v4) S → rc_Z Y S 23 [some (rc_q v0), some (rc_q v1), some (rc_q v2), some (rc_q v3), some (rc_i v4), none, none, none, none] []) (v0 : Option Nat) (v1 : Option Nat) (v2 : Option Nat) (v3 : Option Nat) (v4 : Int32) (S : rc_S) (h : rc_Go Y rc_tI (rp_L_law_L2957 k23 v0 v1 v2 v3 v4) S) : rc_Z Y S 2957 [some (rc_q v0), some (rc_q v1), some (rc_q v2), some (rc_q v3), some (rc_i v4), none, none, none, none] [] := by
  unfold rp_L_law_L2957 at h
  refine rc_iinc (pc := 2957) hC (v := (v4 + (6 : Int32))) (L' := [some (rc_q v0), some (rc_q v1), some (rc_q v2), some (rc_q v3), some (rc_i (v4 + (6 : Int32))), none, none, none, none]) dL_law_2957 rfl rfl rfl rfl ?_
  refine rc_goto (pc := 2960) (tgt := 23) hC dL_law_2960 rfl ?_
  exact hk23 v0 v1 v2 v3 (v4 + (6 : Int32)) S h
theorem rw_L_law_L300 {Y : rc_Y} (hC : rc_C Y cL_law RX0 ret 9) (hH : rc_H Y 20 419 "law") {k23 : Option Nat → Option Nat → Option Nat → Option Nat → Int32 → rc_M Int32} (hk23 : ∀ (v0 : Option Nat) (v1 : Option Nat) (v2 : Option Nat) (v3 : Option Nat) (v4 : Int32) (S : rc_S), rc_Go Y rc_tI (k23 v0 v1 v2 v3 v4) S → rc_Z Y S 23 [some (rc_q v0), some (rc_q v1), some (rc_q v2), some (rc_q v3), some (rc_i v4), none, none, none, none] []) (v0 : Option Nat) (v1 : Option Nat) (v2 : Option Nat) (v3 : Option Nat) (v4 : Int32) (S : rc_S) (h : rc_Go Y rc_tI (rp_L_law_L300 k23 v0 v1 v2 v3 v4) S) : rc_Z Y S 300 [some (rc_q v0), some (rc_q v1), some (rc_q v2), some (rc_q v3), some (rc_i v4), none, none, none, none] [] := by
  unfold rp_L_law_L300 at h
  refine rc_aload_n (pc := 300) hC dL_law_300 rfl rfl ?_
  refine rc_aload_n (pc := 301) hC dL_law_301 rfl rfl ?_
  refine rc_iload (pc := 302) hC dL_law_302 rfl ?_
  refine rc_iconst (pc := 304) hC (v := (1 : Int32)) dL_law_304 rfl ?_
  refine rc_iadd (pc := 305) hC dL_law_305 ?_
  refine rc_r_iald (pc := 306) hC dL_law_306 h ?_
  intro x1 h
  refine rc_aload_n (pc := 307) hC dL_law_307 rfl rfl ?_
  refine rc_iload (pc := 308) hC dL_law_308 rfl ?_
  refine rc_iconst (pc := 310) hC (v := (2 : Int32)) dL_law_310 rfl ?_
  refine rc_iadd (pc := 311) hC dL_law_311 ?_
  refine rc_r_iald (pc := 312) hC dL_law_312 h ?_
  intro x2 h
  refine rc_aload_n (pc := 313) hC dL_law_313 rfl rfl ?_
  refine rc_iload (pc := 314) hC dL_law_314 rfl ?_
  refine rc_iconst (pc := 316) hC (v := (3 : Int32)) dL_law_316 rfl ?_
  refine rc_iadd (pc := 317) hC dL_law_317 ?_
  refine rc_r_iald (pc := 318) hC dL_law_318 h ?_
  intro x3 h
  refine rc_aload_n (pc := 319) hC dL_law_319 rfl rfl ?_
  refine rc_iload (pc := 320) hC dL_law_320 rfl ?_
  refine rc_iconst (pc := 322) hC (v := (4 : Int32)) dL_law_322 rfl ?_
  refine rc_iadd (pc := 323) hC dL_law_323 ?_
  refine rc_r_iald (pc := 324) hC dL_law_324 h ?_
  intro x4 h
  refine rc_aload_n (pc := 325) hC dL_law_325 rfl rfl ?_
  refine rc_iload (pc := 326) hC dL_law_326 rfl ?_
  refine rc_iconst (pc := 328) hC (v := (5 : Int32)) dL_law_328 rfl ?_
  refine rc_iadd (pc := 329) hC dL_law_329 ?_
  refine rc_r_iald (pc := 330) hC dL_law_330 h ?_
  intro x5 h
  obtain ⟨⟨fs, ho⟩, h⟩ := h.is
  refine rc_callV (pc := 331) hC rfl ho (rw_X1_append hH.1 v1 x1 x2 x3 x4 x5) q1241 q1242 q1243 q116 q1244 rfl rd_X1_append (hH.room (Nat.le_of_ble_eq_true rfl) (Nat.le_of_ble_eq_true rfl)) rfl rfl (Nat.le_of_ble_eq_true rfl) 5 rfl h.le.2.2 h.br rfl dL_law_331 ?_ (fun E q S hT => rc_out hC hH.2.2.2.2 hT)
  intro x6 S h
  show rc_Z Y S 334 [some (rc_q v0), some (rc_q v1), some (rc_q v2), some (rc_q v3), some (rc_i v4), none, none, none, none] [rc_i x6]
  refine rc_aload_n (pc := 334) hC dL_law_334 rfl rfl ?_
  refine rc_aload_n (pc := 335) hC dL_law_335 rfl rfl ?_
  refine rc_iload (pc := 336) hC dL_law_336 rfl ?_
  refine rc_iconst (pc := 338) hC (v := (1 : Int32)) dL_law_338 rfl ?_
  refine rc_iadd (pc := 339) hC dL_law_339 ?_
  refine rc_r_iald (pc := 340) hC dL_law_340 h ?_
  intro x7 h
  refine rc_aload_n (pc := 341) hC dL_law_341 rfl rfl ?_
  refine rc_iload (pc := 342) hC dL_law_342 rfl ?_
  refine rc_iconst (pc := 344) hC (v := (2 : Int32)) dL_law_344 rfl ?_
  refine rc_iadd (pc := 345) hC dL_law_345 ?_
  refine rc_r_iald (pc := 346) hC dL_law_346 h ?_
  intro x8 h
  refine rc_aload_n (pc := 347) hC dL_law_347 rfl rfl ?_
  refine rc_iload (pc := 348) hC dL_law_348 rfl ?_
  refine rc_iconst (pc := 350) hC (v := (3 : Int32)) dL_law_350 rfl ?_
  refine rc_iadd (pc := 351) hC dL_law_351 ?_
  refine rc_r_iald (pc := 352) hC dL_law_352 h ?_
  intro x9 h
  refine rc_aload_n (pc := 353) hC dL_law_353 rfl rfl ?_
  refine rc_iload (pc := 354) hC dL_law_354 rfl ?_
  refine rc_iconst (pc := 356) hC (v := (4 : Int32)) dL_law_356 rfl ?_
  refine rc_iadd (pc := 357) hC dL_law_357 ?_
  refine rc_r_iald (pc := 358) hC dL_law_358 h ?_
  intro x10 h
  refine rc_aload_n (pc := 359) hC dL_law_359 rfl rfl ?_
  refine rc_iload (pc := 360) hC dL_law_360 rfl ?_
  refine rc_iconst (pc := 362) hC (v := (5 : Int32)) dL_law_362 rfl ?_
  refine rc_iadd (pc := 363) hC dL_law_363 ?_
  refine rc_r_iald (pc := 364) hC dL_law_364 h ?_
  intro x11 h
  obtain ⟨⟨he, hf⟩, h⟩ := h.isM
  refine rc_callM (pc := 365) hC (As := [rc_i x7, rc_i x8, rc_i x9, rc_i x10, rc_i x11]) (st := [rc_i x6]) (rw_X9_append hH.1 x7 x8 x9 x10 x11) q2380 q2381 q2382 q149 q2383 rfl rd_X9_append (hH.room (Nat.le_of_ble_eq_true rfl) (Nat.le_of_ble_eq_true rfl)) rfl rfl (Nat.le_of_ble_eq_true rfl) 5 rfl h.le.2.2 (Or.inr hf) h.br (by rw [he]; first | done | rfl) dL_law_365 ?_ (fun E q S hT => rc_out hC hH.2.2.2.2 hT)
  intro x12 S h
  show rc_Z Y S 368 [some (rc_q v0), some (rc_q v1), some (rc_q v2), some (rc_q v3), some (rc_i v4), none, none, none, none] [rc_i x12, rc_i x6]
  refine rc_icmp_eq (pc := 368) (tgt := 2957) hC dL_law_368 rfl h ?_ ?_
  · intro _ h
    exact rw_L_law_L2957 hC hH hk23 v0 v1 v2 v3 v4 S h
  intro _ h
  refine rc_iconst (pc := 371) hC (v := (0 : Int32)) dL_law_371 rfl ?_
  exact rc_iret hC rfl rfl dL_law_372 h rfl
theorem rw_L_law_L426 {Y : rc_Y} (hC : rc_C Y cL_law RX0 ret 9) (hH : rc_H Y 20 419 "law") {k23 : Option Nat → Option Nat → Option Nat → Option Nat → Int32 → rc_M Int32} (hk23 : ∀ (v0 : Option Nat) (v1 : Option Nat) (v2 : Option Nat) (v3 : Option Nat) (v4 : Int32) (S : rc_S), rc_Go Y rc_tI (k23 v0 v1 v2 v3 v4) S → rc_Z Y S 23 [some (rc_q v0), some (rc_q v1), some (rc_q v2), some (rc_q v3), some (rc_i v4), none, none, none, none] []) (v0 : Option Nat) (v1 : Option Nat) (v2 : Option Nat) (v3 : Option Nat) (v4 : Int32) (S : rc_S) (h : rc_Go Y rc_tI (rp_L_law_L426 k23 v0 v1 v2 v3 v4) S) : rc_Z Y S 426 [some (rc_q v0), some (rc_q v1), some (rc_q v2), some (rc_q v3), some (rc_i v4), none, none, none, none] [] := by
  unfold rp_L_law_L426 at h
  refine rc_goto (pc := 426) (tgt := 2957) hC dL_law_426 rfl ?_
  exact rw_L_law_L2957 hC hH hk23 v0 v1 v2 v3 v4 S h
theorem rw_L_law_L373 {Y : rc_Y} (hC : rc_C Y cL_law RX0 ret 9) (hH : rc_H Y 20 419 "law") {k23 : Option Nat → Option Nat → Option Nat → Option Nat → Int32 → rc_M Int32} (hk23 : ∀ (v0 : Option Nat) (v1 : Option Nat) (v2 : Option Nat) (v3 : Option Nat) (v4 : Int32) (S : rc_S), rc_Go Y rc_tI (k23 v0 v1 v2 v3 v4) S → rc_Z Y S 23 [some (rc_q v0), some (rc_q v1), some (rc_q v2), some (rc_q v3), some (rc_i v4), none, none, none, none] []) (v0 : Option Nat) (v1 : Option Nat) (v2 : Option Nat) (v3 : Option Nat) (v4 : Int32) (S : rc_S) (h : rc_Go Y rc_tI (rp_L_law_L373 k23 v0 v1 v2 v3 v4) S) : rc_Z Y S 373 [some (rc_q v0), some (rc_q v1), some (rc_q v2), some (rc_q v3), some (rc_i v4), none, none, none, none] [] := by
  unfold rp_L_law_L373 at h
  refine rc_aload_n (pc := 373) hC dL_law_373 rfl rfl ?_
  refine rc_aload_n (pc := 374) hC dL_law_374 rfl rfl ?_
  refine rc_iload (pc := 375) hC dL_law_375 rfl ?_
  refine rc_iconst (pc := 377) hC (v := (1 : Int32)) dL_law_377 rfl ?_
  refine rc_iadd (pc := 378) hC dL_law_378 ?_
  refine rc_r_iald (pc := 379) hC dL_law_379 h ?_
  intro x1 h
  refine rc_aload_n (pc := 380) hC dL_law_380 rfl rfl ?_
  refine rc_callSW (pc := 381) hC (rw_X0_truncateInput hH.1 v1 x1 v3) q1628 q1629 q115 q1630 rd_X0_truncateInput (hH.room (Nat.le_of_ble_eq_true rfl) (Nat.le_of_ble_eq_true rfl)) rfl rfl (Nat.le_of_ble_eq_true rfl) 3 rfl h.le.2.2 h.br rfl dL_law_381 ?_ (fun E q S hT => rc_out hC hH.2.2.2.2 hT)
  intro x2 S h
  show rc_Z Y S 384 [some (rc_q v0), some (rc_q v1), some (rc_q v2), some (rc_q v3), some (rc_i v4), none, none, none, none] [rc_i x2]
  refine rc_istore (pc := 384) hC (L' := [some (rc_q v0), some (rc_q v1), some (rc_q v2), some (rc_q v3), some (rc_i v4), some (rc_i x2), none, none, none]) dL_law_384 (Nat.le_of_ble_eq_true rfl) rfl rfl ?_
  refine rc_aload_n (pc := 386) hC dL_law_386 rfl rfl ?_
  refine rc_aload_n (pc := 387) hC dL_law_387 rfl rfl ?_
  refine rc_iload (pc := 388) hC dL_law_388 rfl ?_
  refine rc_iconst (pc := 390) hC (v := (1 : Int32)) dL_law_390 rfl ?_
  refine rc_iadd (pc := 391) hC dL_law_391 ?_
  refine rc_r_iald (pc := 392) hC dL_law_392 h ?_
  intro x3 h
  obtain ⟨⟨he, hf⟩, h⟩ := h.isM
  refine rc_callM (pc := 393) hC (As := [rc_i x3]) (st := []) (rw_X9_truncateInput hH.1 x3) q2388 q2389 q2390 q149 q2391 rfl rd_X9_truncateInput (hH.room (Nat.le_of_ble_eq_true rfl) (Nat.le_of_ble_eq_true rfl)) rfl rfl (Nat.le_of_ble_eq_true rfl) 1 rfl h.le.2.2 (Or.inr hf) h.br (by rw [he]; first | done | rfl) dL_law_393 ?_ (fun E q S hT => rc_out hC hH.2.2.2.2 hT)
  intro x4 S h
  show rc_Z Y S 396 [some (rc_q v0), some (rc_q v1), some (rc_q v2), some (rc_q v3), some (rc_i v4), some (rc_i x2), none, none, none] [rc_i x4]
  refine rc_istore (pc := 396) hC (L' := [some (rc_q v0), some (rc_q v1), some (rc_q v2), some (rc_q v3), some (rc_i v4), some (rc_i x2), some (rc_i x4), none, none]) dL_law_396 (Nat.le_of_ble_eq_true rfl) rfl rfl ?_
  refine rc_aload_n (pc := 398) hC dL_law_398 rfl rfl ?_
  obtain ⟨⟨he, hf⟩, h⟩ := h.isM
  refine rc_callM (pc := 399) hC (As := []) (st := []) (rw_X9_thrown hH.1) q2376 q2377 q2378 q149 q2379 rfl rd_X9_thrown (hH.room (Nat.le_of_ble_eq_true rfl) (Nat.le_of_ble_eq_true rfl)) rfl rfl (Nat.le_of_ble_eq_true rfl) 0 rfl h.le.2.2 (Or.inr hf) h.br (by rw [he]; first | done | rfl) dL_law_399 ?_ (fun E q S hT => rc_out hC hH.2.2.2.2 hT)
  intro x5 S h
  show rc_Z Y S 402 [some (rc_q v0), some (rc_q v1), some (rc_q v2), some (rc_q v3), some (rc_i v4), some (rc_i x2), some (rc_i x4), none, none] [rc_i x5]
  refine rc_iload (pc := 402) hC dL_law_402 rfl ?_
  refine rc_icmp_eq (pc := 404) (tgt := 409) hC dL_law_404 rfl h ?_ ?_
  · intro _ h
    refine rc_iload (pc := 409) hC dL_law_409 rfl ?_
    refine rc_if_ne (pc := 411) (tgt := 426) hC dL_law_411 rfl h ?_ ?_
    · intro _ h
      refine rc_drop [true, true, true, true, true, false, false, false, false] (L' := [some (rc_q v0), some (rc_q v1), some (rc_q v2), some (rc_q v3), some (rc_i v4), none, none, none, none]) rfl ?_
      exact rw_L_law_L426 hC hH hk23 v0 v1 v2 v3 v4 S h
    intro _ h
    refine rc_aload_n (pc := 414) hC dL_law_414 rfl rfl ?_
    refine rc_iconst (pc := 415) hC (v := (0 : Int32)) dL_law_415 rfl ?_
    refine rc_r_lald (pc := 416) hC dL_law_416 h ?_
    intro x6 h
    refine rc_iload (pc := 417) hC dL_law_417 rfl ?_
    refine rc_i2l (pc := 419) hC dL_law_419 ?_
    refine rc_lcmp (pc := 420) hC dL_law_420 ?_
    refine rc_if_eq (pc := 421) (tgt := 426) hC dL_law_421 rfl h ?_ ?_
    · intro _ h
      refine rc_drop [true, true, true, true, true, false, false, false, false] (L' := [some (rc_q v0), some (rc_q v1), some (rc_q v2), some (rc_q v3), some (rc_i v4), none, none, none, none]) rfl ?_
      exact rw_L_law_L426 hC hH hk23 v0 v1 v2 v3 v4 S h
    intro _ h
    refine rc_iconst (pc := 424) hC (v := (0 : Int32)) dL_law_424 rfl ?_
    exact rc_iret hC rfl rfl dL_law_425 h rfl
  intro _ h
  refine rc_iconst (pc := 407) hC (v := (0 : Int32)) dL_law_407 rfl ?_
  exact rc_iret hC rfl rfl dL_law_408 h rfl
theorem rw_L_law_L429 {Y : rc_Y} (hC : rc_C Y cL_law RX0 ret 9) (hH : rc_H Y 20 419 "law") {k23 : Option Nat → Option Nat → Option Nat → Option Nat → Int32 → rc_M Int32} (hk23 : ∀ (v0 : Option Nat) (v1 : Option Nat) (v2 : Option Nat) (v3 : Option Nat) (v4 : Int32) (S : rc_S), rc_Go Y rc_tI (k23 v0 v1 v2 v3 v4) S → rc_Z Y S 23 [some (rc_q v0), some (rc_q v1), some (rc_q v2), some (rc_q v3), some (rc_i v4), none, none, none, none] []) (v0 : Option Nat) (v1 : Option Nat) (v2 : Option Nat) (v3 : Option Nat) (v4 : Int32) (S : rc_S) (h : rc_Go Y rc_tI (rp_L_law_L429 k23 v0 v1 v2 v3 v4) S) : rc_Z Y S 429 [some (rc_q v0), some (rc_q v1), some (rc_q v2), some (rc_q v3), some (rc_i v4), none, none, none, none] [] := by
  unfold rp_L_law_L429 at h
  refine rc_aload_n (pc := 429) hC dL_law_429 rfl rfl ?_
  obtain ⟨⟨fs, ho⟩, h⟩ := h.is
  refine rc_callVW (pc := 430) hC rfl ho (rw_X1_runScript hH.1 v1) q1263 q1264 q1265 q116 q1266 rfl rd_X1_runScript (hH.room (Nat.le_of_ble_eq_true rfl) (Nat.le_of_ble_eq_true rfl)) rfl rfl (Nat.le_of_ble_eq_true rfl) 0 rfl h.le.2.2 h.br rfl dL_law_430 ?_ (fun E q S hT => rc_out hC hH.2.2.2.2 hT)
  intro x1 S h
  show rc_Z Y S 433 [some (rc_q v0), some (rc_q v1), some (rc_q v2), some (rc_q v3), some (rc_i v4), none, none, none, none] [rc_i x1]
  refine rc_aload_n (pc := 433) hC dL_law_433 rfl rfl ?_
  obtain ⟨⟨he, hf⟩, h⟩ := h.isM
  refine rc_callM (pc := 434) hC (As := []) (st := [rc_i x1]) (rw_X9_runScript hH.1) q2396 q2397 q2398 q149 q2399 rfl rd_X9_runScript (hH.room (Nat.le_of_ble_eq_true rfl) (Nat.le_of_ble_eq_true rfl)) rfl rfl (Nat.le_of_ble_eq_true rfl) 0 rfl h.le.2.2 (Or.inr hf) h.br (by rw [he]; first | done | rfl) dL_law_434 ?_ (fun E q S hT => rc_out hC hH.2.2.2.2 hT)
  intro x2 S h
  show rc_Z Y S 437 [some (rc_q v0), some (rc_q v1), some (rc_q v2), some (rc_q v3), some (rc_i v4), none, none, none, none] [rc_i x2, rc_i x1]
  refine rc_icmp_eq (pc := 437) (tgt := 2957) hC dL_law_437 rfl h ?_ ?_
  · intro _ h
    exact rw_L_law_L2957 hC hH hk23 v0 v1 v2 v3 v4 S h
  intro _ h
  refine rc_iconst (pc := 440) hC (v := (0 : Int32)) dL_law_440 rfl ?_
  exact rc_iret hC rfl rfl dL_law_441 h rfl
theorem rw_L_law_L495 {Y : rc_Y} (hC : rc_C Y cL_law RX0 ret 9) (hH : rc_H Y 20 419 "law") {k23 : Option Nat → Option Nat → Option Nat → Option Nat → Int32 → rc_M Int32} (hk23 : ∀ (v0 : Option Nat) (v1 : Option Nat) (v2 : Option Nat) (v3 : Option Nat) (v4 : Int32) (S : rc_S), rc_Go Y rc_tI (k23 v0 v1 v2 v3 v4) S → rc_Z Y S 23 [some (rc_q v0), some (rc_q v1), some (rc_q v2), some (rc_q v3), some (rc_i v4), none, none, none, none] []) (v0 : Option Nat) (v1 : Option Nat) (v2 : Option Nat) (v3 : Option Nat) (v4 : Int32) (S : rc_S) (h : rc_Go Y rc_tI (rp_L_law_L495 k23 v0 v1 v2 v3 v4) S) : rc_Z Y S 495 [some (rc_q v0), some (rc_q v1), some (rc_q v2), some (rc_q v3), some (rc_i v4), none, none, none, none] [] := by
  unfold rp_L_law_L495 at h
  refine rc_goto (pc := 495) (tgt := 2957) hC dL_law_495 rfl ?_
  exact rw_L_law_L2957 hC hH hk23 v0 v1 v2 v3 v4 S h
theorem rw_L_law_L442 {Y : rc_Y} (hC : rc_C Y cL_law RX0 ret 9) (hH : rc_H Y 20 419 "law") {k23 : Option Nat → Option Nat → Option Nat → Option Nat → Int32 → rc_M Int32} (hk23 : ∀ (v0 : Option Nat) (v1 : Option Nat) (v2 : Option Nat) (v3 : Option Nat) (v4 : Int32) (S : rc_S), rc_Go Y rc_tI (k23 v0 v1 v2 v3 v4) S → rc_Z Y S 23 [some (rc_q v0), some (rc_q v1), some (rc_q v2), some (rc_q v3), some (rc_i v4), none, none, none, none] []) (v0 : Option Nat) (v1 : Option Nat) (v2 : Option Nat) (v3 : Option Nat) (v4 : Int32) (S : rc_S) (h : rc_Go Y rc_tI (rp_L_law_L442 k23 v0 v1 v2 v3 v4) S) : rc_Z Y S 442 [some (rc_q v0), some (rc_q v1), some (rc_q v2), some (rc_q v3), some (rc_i v4), none, none, none, none] [] := by
  unfold rp_L_law_L442 at h
  refine rc_aload_n (pc := 442) hC dL_law_442 rfl rfl ?_
  refine rc_aload_n (pc := 443) hC dL_law_443 rfl rfl ?_
  refine rc_iload (pc := 444) hC dL_law_444 rfl ?_
  refine rc_iconst (pc := 446) hC (v := (1 : Int32)) dL_law_446 rfl ?_
  refine rc_iadd (pc := 447) hC dL_law_447 ?_
  refine rc_r_iald (pc := 448) hC dL_law_448 h ?_
  intro x1 h
  refine rc_aload_n (pc := 449) hC dL_law_449 rfl rfl ?_
  refine rc_callSW (pc := 450) hC (rw_X0_addChimney hH.1 v1 x1 v3) q1647 q1648 q115 q1649 rd_X0_addChimney (hH.room (Nat.le_of_ble_eq_true rfl) (Nat.le_of_ble_eq_true rfl)) rfl rfl (Nat.le_of_ble_eq_true rfl) 3 rfl h.le.2.2 h.br rfl dL_law_450 ?_ (fun E q S hT => rc_out hC hH.2.2.2.2 hT)
  intro x2 S h
  show rc_Z Y S 453 [some (rc_q v0), some (rc_q v1), some (rc_q v2), some (rc_q v3), some (rc_i v4), none, none, none, none] [rc_i x2]
  refine rc_istore (pc := 453) hC (L' := [some (rc_q v0), some (rc_q v1), some (rc_q v2), some (rc_q v3), some (rc_i v4), some (rc_i x2), none, none, none]) dL_law_453 (Nat.le_of_ble_eq_true rfl) rfl rfl ?_
  refine rc_aload_n (pc := 455) hC dL_law_455 rfl rfl ?_
  refine rc_aload_n (pc := 456) hC dL_law_456 rfl rfl ?_
  refine rc_iload (pc := 457) hC dL_law_457 rfl ?_
  refine rc_iconst (pc := 459) hC (v := (1 : Int32)) dL_law_459 rfl ?_
  refine rc_iadd (pc := 460) hC dL_law_460 ?_
  refine rc_r_iald (pc := 461) hC dL_law_461 h ?_
  intro x3 h
  obtain ⟨⟨he, hf⟩, h⟩ := h.isM
  refine rc_callM (pc := 462) hC (As := [rc_i x3]) (st := []) (rw_X9_addChimney hH.1 x3) q2408 q2409 q2410 q149 q2411 rfl rd_X9_addChimney (hH.room (Nat.le_of_ble_eq_true rfl) (Nat.le_of_ble_eq_true rfl)) rfl rfl (Nat.le_of_ble_eq_true rfl) 1 rfl h.le.2.2 (Or.inr hf) h.br (by rw [he]; first | done | rfl) dL_law_462 ?_ (fun E q S hT => rc_out hC hH.2.2.2.2 hT)
  intro x4 S h
  show rc_Z Y S 465 [some (rc_q v0), some (rc_q v1), some (rc_q v2), some (rc_q v3), some (rc_i v4), some (rc_i x2), none, none, none] [rc_i x4]
  refine rc_istore (pc := 465) hC (L' := [some (rc_q v0), some (rc_q v1), some (rc_q v2), some (rc_q v3), some (rc_i v4), some (rc_i x2), some (rc_i x4), none, none]) dL_law_465 (Nat.le_of_ble_eq_true rfl) rfl rfl ?_
  refine rc_aload_n (pc := 467) hC dL_law_467 rfl rfl ?_
  obtain ⟨⟨he, hf⟩, h⟩ := h.isM
  refine rc_callM (pc := 468) hC (As := []) (st := []) (rw_X9_thrown hH.1) q2376 q2377 q2378 q149 q2379 rfl rd_X9_thrown (hH.room (Nat.le_of_ble_eq_true rfl) (Nat.le_of_ble_eq_true rfl)) rfl rfl (Nat.le_of_ble_eq_true rfl) 0 rfl h.le.2.2 (Or.inr hf) h.br (by rw [he]; first | done | rfl) dL_law_468 ?_ (fun E q S hT => rc_out hC hH.2.2.2.2 hT)
  intro x5 S h
  show rc_Z Y S 471 [some (rc_q v0), some (rc_q v1), some (rc_q v2), some (rc_q v3), some (rc_i v4), some (rc_i x2), some (rc_i x4), none, none] [rc_i x5]
  refine rc_iload (pc := 471) hC dL_law_471 rfl ?_
  refine rc_icmp_eq (pc := 473) (tgt := 478) hC dL_law_473 rfl h ?_ ?_
  · intro _ h
    refine rc_iload (pc := 478) hC dL_law_478 rfl ?_
    refine rc_if_ne (pc := 480) (tgt := 495) hC dL_law_480 rfl h ?_ ?_
    · intro _ h
      refine rc_drop [true, true, true, true, true, false, false, false, false] (L' := [some (rc_q v0), some (rc_q v1), some (rc_q v2), some (rc_q v3), some (rc_i v4), none, none, none, none]) rfl ?_
      exact rw_L_law_L495 hC hH hk23 v0 v1 v2 v3 v4 S h
    intro _ h
    refine rc_aload_n (pc := 483) hC dL_law_483 rfl rfl ?_
    refine rc_iconst (pc := 484) hC (v := (0 : Int32)) dL_law_484 rfl ?_
    refine rc_r_lald (pc := 485) hC dL_law_485 h ?_
    intro x6 h
    refine rc_iload (pc := 486) hC dL_law_486 rfl ?_
    refine rc_i2l (pc := 488) hC dL_law_488 ?_
    refine rc_lcmp (pc := 489) hC dL_law_489 ?_
    refine rc_if_eq (pc := 490) (tgt := 495) hC dL_law_490 rfl h ?_ ?_
    · intro _ h
      refine rc_drop [true, true, true, true, true, false, false, false, false] (L' := [some (rc_q v0), some (rc_q v1), some (rc_q v2), some (rc_q v3), some (rc_i v4), none, none, none, none]) rfl ?_
      exact rw_L_law_L495 hC hH hk23 v0 v1 v2 v3 v4 S h
    intro _ h
    refine rc_iconst (pc := 493) hC (v := (0 : Int32)) dL_law_493 rfl ?_
    exact rc_iret hC rfl rfl dL_law_494 h rfl
  intro _ h
  refine rc_iconst (pc := 476) hC (v := (0 : Int32)) dL_law_476 rfl ?_
  exact rc_iret hC rfl rfl dL_law_477 h rfl
theorem rw_L_law_L575 {Y : rc_Y} (hC : rc_C Y cL_law RX0 ret 9) (hH : rc_H Y 20 419 "law") {k23 : Option Nat → Option Nat → Option Nat → Option Nat → Int32 → rc_M Int32} (hk23 : ∀ (v0 : Option Nat) (v1 : Option Nat) (v2 : Option Nat) (v3 : Option Nat) (v4 : Int32) (S : rc_S), rc_Go Y rc_tI (k23 v0 v1 v2 v3 v4) S → rc_Z Y S 23 [some (rc_q v0), some (rc_q v1), some (rc_q v2), some (rc_q v3), some (rc_i v4), none, none, none, none] []) (v0 : Option Nat) (v1 : Option Nat) (v2 : Option Nat) (v3 : Option Nat) (v4 : Int32) (S : rc_S) (h : rc_Go Y rc_tI (rp_L_law_L575 k23 v0 v1 v2 v3 v4) S) : rc_Z Y S 575 [some (rc_q v0), some (rc_q v1), some (rc_q v2), some (rc_q v3), some (rc_i v4), none, none, none, none] [] := by
  unfold rp_L_law_L575 at h
  refine rc_goto (pc := 575) (tgt := 2957) hC dL_law_575 rfl ?_
  exact rw_L_law_L2957 hC hH hk23 v0 v1 v2 v3 v4 S h
theorem rw_L_law_L498 {Y : rc_Y} (hC : rc_C Y cL_law RX0 ret 9) (hH : rc_H Y 20 419 "law") {k23 : Option Nat → Option Nat → Option Nat → Option Nat → Int32 → rc_M Int32} (hk23 : ∀ (v0 : Option Nat) (v1 : Option Nat) (v2 : Option Nat) (v3 : Option Nat) (v4 : Int32) (S : rc_S), rc_Go Y rc_tI (k23 v0 v1 v2 v3 v4) S → rc_Z Y S 23 [some (rc_q v0), some (rc_q v1), some (rc_q v2), some (rc_q v3), some (rc_i v4), none, none, none, none] []) (v0 : Option Nat) (v1 : Option Nat) (v2 : Option Nat) (v3 : Option Nat) (v4 : Int32) (S : rc_S) (h : rc_Go Y rc_tI (rp_L_law_L498 k23 v0 v1 v2 v3 v4) S) : rc_Z Y S 498 [some (rc_q v0), some (rc_q v1), some (rc_q v2), some (rc_q v3), some (rc_i v4), none, none, none, none] [] := by
  unfold rp_L_law_L498 at h
  refine rc_aload_n (pc := 498) hC dL_law_498 rfl rfl ?_
  refine rc_aload_n (pc := 499) hC dL_law_499 rfl rfl ?_
  refine rc_iload (pc := 500) hC dL_law_500 rfl ?_
  refine rc_iconst (pc := 502) hC (v := (1 : Int32)) dL_law_502 rfl ?_
  refine rc_iadd (pc := 503) hC dL_law_503 ?_
  refine rc_r_iald (pc := 504) hC dL_law_504 h ?_
  intro x1 h
  refine rc_aload_n (pc := 505) hC dL_law_505 rfl rfl ?_
  refine rc_iload (pc := 506) hC dL_law_506 rfl ?_
  refine rc_iconst (pc := 508) hC (v := (2 : Int32)) dL_law_508 rfl ?_
  refine rc_iadd (pc := 509) hC dL_law_509 ?_
  refine rc_r_iald (pc := 510) hC dL_law_510 h ?_
  intro x2 h
  refine rc_aload_n (pc := 511) hC dL_law_511 rfl rfl ?_
  refine rc_iload (pc := 512) hC dL_law_512 rfl ?_
  refine rc_iconst (pc := 514) hC (v := (3 : Int32)) dL_law_514 rfl ?_
  refine rc_iadd (pc := 515) hC dL_law_515 ?_
  refine rc_r_iald (pc := 516) hC dL_law_516 h ?_
  intro x3 h
  refine rc_aload_n (pc := 517) hC dL_law_517 rfl rfl ?_
  refine rc_callSW (pc := 518) hC (rw_X0_addGutter hH.1 v1 x1 x2 x3 v3) q1661 q1662 q115 q1663 rd_X0_addGutter (hH.room (Nat.le_of_ble_eq_true rfl) (Nat.le_of_ble_eq_true rfl)) rfl rfl (Nat.le_of_ble_eq_true rfl) 5 rfl h.le.2.2 h.br rfl dL_law_518 ?_ (fun E q S hT => rc_out hC hH.2.2.2.2 hT)
  intro x4 S h
  show rc_Z Y S 521 [some (rc_q v0), some (rc_q v1), some (rc_q v2), some (rc_q v3), some (rc_i v4), none, none, none, none] [rc_i x4]
  refine rc_istore (pc := 521) hC (L' := [some (rc_q v0), some (rc_q v1), some (rc_q v2), some (rc_q v3), some (rc_i v4), some (rc_i x4), none, none, none]) dL_law_521 (Nat.le_of_ble_eq_true rfl) rfl rfl ?_
  refine rc_aload_n (pc := 523) hC dL_law_523 rfl rfl ?_
  refine rc_aload_n (pc := 524) hC dL_law_524 rfl rfl ?_
  refine rc_iload (pc := 525) hC dL_law_525 rfl ?_
  refine rc_iconst (pc := 527) hC (v := (1 : Int32)) dL_law_527 rfl ?_
  refine rc_iadd (pc := 528) hC dL_law_528 ?_
  refine rc_r_iald (pc := 529) hC dL_law_529 h ?_
  intro x5 h
  refine rc_aload_n (pc := 530) hC dL_law_530 rfl rfl ?_
  refine rc_iload (pc := 531) hC dL_law_531 rfl ?_
  refine rc_iconst (pc := 533) hC (v := (2 : Int32)) dL_law_533 rfl ?_
  refine rc_iadd (pc := 534) hC dL_law_534 ?_
  refine rc_r_iald (pc := 535) hC dL_law_535 h ?_
  intro x6 h
  refine rc_aload_n (pc := 536) hC dL_law_536 rfl rfl ?_
  refine rc_iload (pc := 537) hC dL_law_537 rfl ?_
  refine rc_iconst (pc := 539) hC (v := (3 : Int32)) dL_law_539 rfl ?_
  refine rc_iadd (pc := 540) hC dL_law_540 ?_
  refine rc_r_iald (pc := 541) hC dL_law_541 h ?_
  intro x7 h
  obtain ⟨⟨he, hf⟩, h⟩ := h.isM
  refine rc_callM (pc := 542) hC (As := [rc_i x5, rc_i x6, rc_i x7]) (st := []) (rw_X9_addGutter hH.1 x5 x6 x7) q2416 q2417 q2418 q149 q2419 rfl rd_X9_addGutter (hH.room (Nat.le_of_ble_eq_true rfl) (Nat.le_of_ble_eq_true rfl)) rfl rfl (Nat.le_of_ble_eq_true rfl) 3 rfl h.le.2.2 (Or.inr hf) h.br (by rw [he]; first | done | rfl) dL_law_542 ?_ (fun E q S hT => rc_out hC hH.2.2.2.2 hT)
  intro x8 S h
  show rc_Z Y S 545 [some (rc_q v0), some (rc_q v1), some (rc_q v2), some (rc_q v3), some (rc_i v4), some (rc_i x4), none, none, none] [rc_i x8]
  refine rc_istore (pc := 545) hC (L' := [some (rc_q v0), some (rc_q v1), some (rc_q v2), some (rc_q v3), some (rc_i v4), some (rc_i x4), some (rc_i x8), none, none]) dL_law_545 (Nat.le_of_ble_eq_true rfl) rfl rfl ?_
  refine rc_aload_n (pc := 547) hC dL_law_547 rfl rfl ?_
  obtain ⟨⟨he, hf⟩, h⟩ := h.isM
  refine rc_callM (pc := 548) hC (As := []) (st := []) (rw_X9_thrown hH.1) q2376 q2377 q2378 q149 q2379 rfl rd_X9_thrown (hH.room (Nat.le_of_ble_eq_true rfl) (Nat.le_of_ble_eq_true rfl)) rfl rfl (Nat.le_of_ble_eq_true rfl) 0 rfl h.le.2.2 (Or.inr hf) h.br (by rw [he]; first | done | rfl) dL_law_548 ?_ (fun E q S hT => rc_out hC hH.2.2.2.2 hT)
  intro x9 S h
  show rc_Z Y S 551 [some (rc_q v0), some (rc_q v1), some (rc_q v2), some (rc_q v3), some (rc_i v4), some (rc_i x4), some (rc_i x8), none, none] [rc_i x9]
  refine rc_iload (pc := 551) hC dL_law_551 rfl ?_
  refine rc_icmp_eq (pc := 553) (tgt := 558) hC dL_law_553 rfl h ?_ ?_
  · intro _ h
    refine rc_iload (pc := 558) hC dL_law_558 rfl ?_
    refine rc_if_ne (pc := 560) (tgt := 575) hC dL_law_560 rfl h ?_ ?_
    · intro _ h
      refine rc_drop [true, true, true, true, true, false, false, false, false] (L' := [some (rc_q v0), some (rc_q v1), some (rc_q v2), some (rc_q v3), some (rc_i v4), none, none, none, none]) rfl ?_
      exact rw_L_law_L575 hC hH hk23 v0 v1 v2 v3 v4 S h
    intro _ h
    refine rc_aload_n (pc := 563) hC dL_law_563 rfl rfl ?_
    refine rc_iconst (pc := 564) hC (v := (0 : Int32)) dL_law_564 rfl ?_
    refine rc_r_lald (pc := 565) hC dL_law_565 h ?_
    intro x10 h
    refine rc_iload (pc := 566) hC dL_law_566 rfl ?_
    refine rc_i2l (pc := 568) hC dL_law_568 ?_
    refine rc_lcmp (pc := 569) hC dL_law_569 ?_
    refine rc_if_eq (pc := 570) (tgt := 575) hC dL_law_570 rfl h ?_ ?_
    · intro _ h
      refine rc_drop [true, true, true, true, true, false, false, false, false] (L' := [some (rc_q v0), some (rc_q v1), some (rc_q v2), some (rc_q v3), some (rc_i v4), none, none, none, none]) rfl ?_
      exact rw_L_law_L575 hC hH hk23 v0 v1 v2 v3 v4 S h
    intro _ h
    refine rc_iconst (pc := 573) hC (v := (0 : Int32)) dL_law_573 rfl ?_
    exact rc_iret hC rfl rfl dL_law_574 h rfl
  intro _ h
  refine rc_iconst (pc := 556) hC (v := (0 : Int32)) dL_law_556 rfl ?_
  exact rc_iret hC rfl rfl dL_law_557 h rfl
theorem rw_L_law_L655 {Y : rc_Y} (hC : rc_C Y cL_law RX0 ret 9) (hH : rc_H Y 20 419 "law") {k23 : Option Nat → Option Nat → Option Nat → Option Nat → Int32 → rc_M Int32} (hk23 : ∀ (v0 : Option Nat) (v1 : Option Nat) (v2 : Option Nat) (v3 : Option Nat) (v4 : Int32) (S : rc_S), rc_Go Y rc_tI (k23 v0 v1 v2 v3 v4) S → rc_Z Y S 23 [some (rc_q v0), some (rc_q v1), some (rc_q v2), some (rc_q v3), some (rc_i v4), none, none, none, none] []) (v0 : Option Nat) (v1 : Option Nat) (v2 : Option Nat) (v3 : Option Nat) (v4 : Int32) (S : rc_S) (h : rc_Go Y rc_tI (rp_L_law_L655 k23 v0 v1 v2 v3 v4) S) : rc_Z Y S 655 [some (rc_q v0), some (rc_q v1), some (rc_q v2), some (rc_q v3), some (rc_i v4), none, none, none, none] [] := by
  unfold rp_L_law_L655 at h
  refine rc_goto (pc := 655) (tgt := 2957) hC dL_law_655 rfl ?_
  exact rw_L_law_L2957 hC hH hk23 v0 v1 v2 v3 v4 S h
theorem rw_L_law_L578 {Y : rc_Y} (hC : rc_C Y cL_law RX0 ret 9) (hH : rc_H Y 20 419 "law") {k23 : Option Nat → Option Nat → Option Nat → Option Nat → Int32 → rc_M Int32} (hk23 : ∀ (v0 : Option Nat) (v1 : Option Nat) (v2 : Option Nat) (v3 : Option Nat) (v4 : Int32) (S : rc_S), rc_Go Y rc_tI (k23 v0 v1 v2 v3 v4) S → rc_Z Y S 23 [some (rc_q v0), some (rc_q v1), some (rc_q v2), some (rc_q v3), some (rc_i v4), none, none, none, none] []) (v0 : Option Nat) (v1 : Option Nat) (v2 : Option Nat) (v3 : Option Nat) (v4 : Int32) (S : rc_S) (h : rc_Go Y rc_tI (rp_L_law_L578 k23 v0 v1 v2 v3 v4) S) : rc_Z Y S 578 [some (rc_q v0), some (rc_q v1), some (rc_q v2), some (rc_q v3), some (rc_i v4), none, none, none, none] [] := by
  unfold rp_L_law_L578 at h
  refine rc_aload_n (pc := 578) hC dL_law_578 rfl rfl ?_
  refine rc_aload_n (pc := 579) hC dL_law_579 rfl rfl ?_
  refine rc_iload (pc := 580) hC dL_law_580 rfl ?_
  refine rc_iconst (pc := 582) hC (v := (1 : Int32)) dL_law_582 rfl ?_
  refine rc_iadd (pc := 583) hC dL_law_583 ?_
  refine rc_r_iald (pc := 584) hC dL_law_584 h ?_
  intro x1 h
  refine rc_aload_n (pc := 585) hC dL_law_585 rfl rfl ?_
  refine rc_iload (pc := 586) hC dL_law_586 rfl ?_
  refine rc_iconst (pc := 588) hC (v := (2 : Int32)) dL_law_588 rfl ?_
  refine rc_iadd (pc := 589) hC dL_law_589 ?_
  refine rc_r_iald (pc := 590) hC dL_law_590 h ?_
  intro x2 h
  refine rc_aload_n (pc := 591) hC dL_law_591 rfl rfl ?_
  refine rc_iload (pc := 592) hC dL_law_592 rfl ?_
  refine rc_iconst (pc := 594) hC (v := (3 : Int32)) dL_law_594 rfl ?_
  refine rc_iadd (pc := 595) hC dL_law_595 ?_
  refine rc_r_iald (pc := 596) hC dL_law_596 h ?_
  intro x3 h
  refine rc_aload_n (pc := 597) hC dL_law_597 rfl rfl ?_
  refine rc_callSW (pc := 598) hC (rw_X0_addCat hH.1 v1 x1 x2 x3 v3) q1695 q1696 q115 q1697 rd_X0_addCat (hH.room (Nat.le_of_ble_eq_true rfl) (Nat.le_of_ble_eq_true rfl)) rfl rfl (Nat.le_of_ble_eq_true rfl) 5 rfl h.le.2.2 h.br rfl dL_law_598 ?_ (fun E q S hT => rc_out hC hH.2.2.2.2 hT)
  intro x4 S h
  show rc_Z Y S 601 [some (rc_q v0), some (rc_q v1), some (rc_q v2), some (rc_q v3), some (rc_i v4), none, none, none, none] [rc_i x4]
  refine rc_istore (pc := 601) hC (L' := [some (rc_q v0), some (rc_q v1), some (rc_q v2), some (rc_q v3), some (rc_i v4), some (rc_i x4), none, none, none]) dL_law_601 (Nat.le_of_ble_eq_true rfl) rfl rfl ?_
  refine rc_aload_n (pc := 603) hC dL_law_603 rfl rfl ?_
  refine rc_aload_n (pc := 604) hC dL_law_604 rfl rfl ?_
  refine rc_iload (pc := 605) hC dL_law_605 rfl ?_
  refine rc_iconst (pc := 607) hC (v := (1 : Int32)) dL_law_607 rfl ?_
  refine rc_iadd (pc := 608) hC dL_law_608 ?_
  refine rc_r_iald (pc := 609) hC dL_law_609 h ?_
  intro x5 h
  refine rc_aload_n (pc := 610) hC dL_law_610 rfl rfl ?_
  refine rc_iload (pc := 611) hC dL_law_611 rfl ?_
  refine rc_iconst (pc := 613) hC (v := (2 : Int32)) dL_law_613 rfl ?_
  refine rc_iadd (pc := 614) hC dL_law_614 ?_
  refine rc_r_iald (pc := 615) hC dL_law_615 h ?_
  intro x6 h
  refine rc_aload_n (pc := 616) hC dL_law_616 rfl rfl ?_
  refine rc_iload (pc := 617) hC dL_law_617 rfl ?_
  refine rc_iconst (pc := 619) hC (v := (3 : Int32)) dL_law_619 rfl ?_
  refine rc_iadd (pc := 620) hC dL_law_620 ?_
  refine rc_r_iald (pc := 621) hC dL_law_621 h ?_
  intro x7 h
  obtain ⟨⟨he, hf⟩, h⟩ := h.isM
  refine rc_callM (pc := 622) hC (As := [rc_i x5, rc_i x6, rc_i x7]) (st := []) (rw_X9_addCat hH.1 x5 x6 x7) q2428 q2429 q2430 q149 q2431 rfl rd_X9_addCat (hH.room (Nat.le_of_ble_eq_true rfl) (Nat.le_of_ble_eq_true rfl)) rfl rfl (Nat.le_of_ble_eq_true rfl) 3 rfl h.le.2.2 (Or.inr hf) h.br (by rw [he]; first | done | rfl) dL_law_622 ?_ (fun E q S hT => rc_out hC hH.2.2.2.2 hT)
  intro x8 S h
  show rc_Z Y S 625 [some (rc_q v0), some (rc_q v1), some (rc_q v2), some (rc_q v3), some (rc_i v4), some (rc_i x4), none, none, none] [rc_i x8]
  refine rc_istore (pc := 625) hC (L' := [some (rc_q v0), some (rc_q v1), some (rc_q v2), some (rc_q v3), some (rc_i v4), some (rc_i x4), some (rc_i x8), none, none]) dL_law_625 (Nat.le_of_ble_eq_true rfl) rfl rfl ?_
  refine rc_aload_n (pc := 627) hC dL_law_627 rfl rfl ?_
  obtain ⟨⟨he, hf⟩, h⟩ := h.isM
  refine rc_callM (pc := 628) hC (As := []) (st := []) (rw_X9_thrown hH.1) q2376 q2377 q2378 q149 q2379 rfl rd_X9_thrown (hH.room (Nat.le_of_ble_eq_true rfl) (Nat.le_of_ble_eq_true rfl)) rfl rfl (Nat.le_of_ble_eq_true rfl) 0 rfl h.le.2.2 (Or.inr hf) h.br (by rw [he]; first | done | rfl) dL_law_628 ?_ (fun E q S hT => rc_out hC hH.2.2.2.2 hT)
  intro x9 S h
  show rc_Z Y S 631 [some (rc_q v0), some (rc_q v1), some (rc_q v2), some (rc_q v3), some (rc_i v4), some (rc_i x4), some (rc_i x8), none, none] [rc_i x9]
  refine rc_iload (pc := 631) hC dL_law_631 rfl ?_
  refine rc_icmp_eq (pc := 633) (tgt := 638) hC dL_law_633 rfl h ?_ ?_
  · intro _ h
    refine rc_iload (pc := 638) hC dL_law_638 rfl ?_
    refine rc_if_ne (pc := 640) (tgt := 655) hC dL_law_640 rfl h ?_ ?_
    · intro _ h
      refine rc_drop [true, true, true, true, true, false, false, false, false] (L' := [some (rc_q v0), some (rc_q v1), some (rc_q v2), some (rc_q v3), some (rc_i v4), none, none, none, none]) rfl ?_
      exact rw_L_law_L655 hC hH hk23 v0 v1 v2 v3 v4 S h
    intro _ h
    refine rc_aload_n (pc := 643) hC dL_law_643 rfl rfl ?_
    refine rc_iconst (pc := 644) hC (v := (0 : Int32)) dL_law_644 rfl ?_
    refine rc_r_lald (pc := 645) hC dL_law_645 h ?_
    intro x10 h
    refine rc_iload (pc := 646) hC dL_law_646 rfl ?_
    refine rc_i2l (pc := 648) hC dL_law_648 ?_
    refine rc_lcmp (pc := 649) hC dL_law_649 ?_
    refine rc_if_eq (pc := 650) (tgt := 655) hC dL_law_650 rfl h ?_ ?_
    · intro _ h
      refine rc_drop [true, true, true, true, true, false, false, false, false] (L' := [some (rc_q v0), some (rc_q v1), some (rc_q v2), some (rc_q v3), some (rc_i v4), none, none, none, none]) rfl ?_
      exact rw_L_law_L655 hC hH hk23 v0 v1 v2 v3 v4 S h
    intro _ h
    refine rc_iconst (pc := 653) hC (v := (0 : Int32)) dL_law_653 rfl ?_
    exact rc_iret hC rfl rfl dL_law_654 h rfl
  intro _ h
  refine rc_iconst (pc := 636) hC (v := (0 : Int32)) dL_law_636 rfl ?_
  exact rc_iret hC rfl rfl dL_law_637 h rfl
theorem rw_L_law_L723 {Y : rc_Y} (hC : rc_C Y cL_law RX0 ret 9) (hH : rc_H Y 20 419 "law") {k23 : Option Nat → Option Nat → Option Nat → Option Nat → Int32 → rc_M Int32} (hk23 : ∀ (v0 : Option Nat) (v1 : Option Nat) (v2 : Option Nat) (v3 : Option Nat) (v4 : Int32) (S : rc_S), rc_Go Y rc_tI (k23 v0 v1 v2 v3 v4) S → rc_Z Y S 23 [some (rc_q v0), some (rc_q v1), some (rc_q v2), some (rc_q v3), some (rc_i v4), none, none, none, none] []) (v0 : Option Nat) (v1 : Option Nat) (v2 : Option Nat) (v3 : Option Nat) (v4 : Int32) (S : rc_S) (h : rc_Go Y rc_tI (rp_L_law_L723 k23 v0 v1 v2 v3 v4) S) : rc_Z Y S 723 [some (rc_q v0), some (rc_q v1), some (rc_q v2), some (rc_q v3), some (rc_i v4), none, none, none, none] [] := by
  unfold rp_L_law_L723 at h
  refine rc_goto (pc := 723) (tgt := 2957) hC dL_law_723 rfl ?_
  exact rw_L_law_L2957 hC hH hk23 v0 v1 v2 v3 v4 S h
theorem rw_L_law_L658 {Y : rc_Y} (hC : rc_C Y cL_law RX0 ret 9) (hH : rc_H Y 20 419 "law") {k23 : Option Nat → Option Nat → Option Nat → Option Nat → Int32 → rc_M Int32} (hk23 : ∀ (v0 : Option Nat) (v1 : Option Nat) (v2 : Option Nat) (v3 : Option Nat) (v4 : Int32) (S : rc_S), rc_Go Y rc_tI (k23 v0 v1 v2 v3 v4) S → rc_Z Y S 23 [some (rc_q v0), some (rc_q v1), some (rc_q v2), some (rc_q v3), some (rc_i v4), none, none, none, none] []) (v0 : Option Nat) (v1 : Option Nat) (v2 : Option Nat) (v3 : Option Nat) (v4 : Int32) (S : rc_S) (h : rc_Go Y rc_tI (rp_L_law_L658 k23 v0 v1 v2 v3 v4) S) : rc_Z Y S 658 [some (rc_q v0), some (rc_q v1), some (rc_q v2), some (rc_q v3), some (rc_i v4), none, none, none, none] [] := by
  unfold rp_L_law_L658 at h
  refine rc_aload_n (pc := 658) hC dL_law_658 rfl rfl ?_
  refine rc_aload_n (pc := 659) hC dL_law_659 rfl rfl ?_
  refine rc_iload (pc := 660) hC dL_law_660 rfl ?_
  refine rc_iconst (pc := 662) hC (v := (1 : Int32)) dL_law_662 rfl ?_
  refine rc_iadd (pc := 663) hC dL_law_663 ?_
  refine rc_r_iald (pc := 664) hC dL_law_664 h ?_
  intro x1 h
  refine rc_aload_n (pc := 665) hC dL_law_665 rfl rfl ?_
  refine rc_iload (pc := 666) hC dL_law_666 rfl ?_
  refine rc_iconst (pc := 668) hC (v := (2 : Int32)) dL_law_668 rfl ?_
  refine rc_iadd (pc := 669) hC dL_law_669 ?_
  refine rc_r_iald (pc := 670) hC dL_law_670 h ?_
  intro x2 h
  refine rc_aload_n (pc := 671) hC dL_law_671 rfl rfl ?_
  refine rc_callSW (pc := 672) hC (rw_X0_step hH.1 v1 x1 x2 v3) q1706 q1707 q115 q1708 rd_X0_step (hH.room (Nat.le_of_ble_eq_true rfl) (Nat.le_of_ble_eq_true rfl)) rfl rfl (Nat.le_of_ble_eq_true rfl) 4 rfl h.le.2.2 h.br rfl dL_law_672 ?_ (fun E q S hT => rc_out hC hH.2.2.2.2 hT)
  intro x3 S h
  show rc_Z Y S 675 [some (rc_q v0), some (rc_q v1), some (rc_q v2), some (rc_q v3), some (rc_i v4), none, none, none, none] [rc_i x3]
  refine rc_istore (pc := 675) hC (L' := [some (rc_q v0), some (rc_q v1), some (rc_q v2), some (rc_q v3), some (rc_i v4), some (rc_i x3), none, none, none]) dL_law_675 (Nat.le_of_ble_eq_true rfl) rfl rfl ?_
  refine rc_aload_n (pc := 677) hC dL_law_677 rfl rfl ?_
  refine rc_aload_n (pc := 678) hC dL_law_678 rfl rfl ?_
  refine rc_iload (pc := 679) hC dL_law_679 rfl ?_
  refine rc_iconst (pc := 681) hC (v := (1 : Int32)) dL_law_681 rfl ?_
  refine rc_iadd (pc := 682) hC dL_law_682 ?_
  refine rc_r_iald (pc := 683) hC dL_law_683 h ?_
  intro x4 h
  refine rc_aload_n (pc := 684) hC dL_law_684 rfl rfl ?_
  refine rc_iload (pc := 685) hC dL_law_685 rfl ?_
  refine rc_iconst (pc := 687) hC (v := (2 : Int32)) dL_law_687 rfl ?_
  refine rc_iadd (pc := 688) hC dL_law_688 ?_
  refine rc_r_iald (pc := 689) hC dL_law_689 h ?_
  intro x5 h
  obtain ⟨⟨he, hf⟩, h⟩ := h.isM
  refine rc_callM (pc := 690) hC (As := [rc_i x4, rc_i x5]) (st := []) (rw_X9_step hH.1 x4 x5) q2435 q2436 q2437 q149 q2438 rfl rd_X9_step (hH.room (Nat.le_of_ble_eq_true rfl) (Nat.le_of_ble_eq_true rfl)) rfl rfl (Nat.le_of_ble_eq_true rfl) 2 rfl h.le.2.2 (Or.inr hf) h.br (by rw [he]; first | done | rfl) dL_law_690 ?_ (fun E q S hT => rc_out hC hH.2.2.2.2 hT)
  intro x6 S h
  show rc_Z Y S 693 [some (rc_q v0), some (rc_q v1), some (rc_q v2), some (rc_q v3), some (rc_i v4), some (rc_i x3), none, none, none] [rc_i x6]
  refine rc_istore (pc := 693) hC (L' := [some (rc_q v0), some (rc_q v1), some (rc_q v2), some (rc_q v3), some (rc_i v4), some (rc_i x3), some (rc_i x6), none, none]) dL_law_693 (Nat.le_of_ble_eq_true rfl) rfl rfl ?_
  refine rc_aload_n (pc := 695) hC dL_law_695 rfl rfl ?_
  obtain ⟨⟨he, hf⟩, h⟩ := h.isM
  refine rc_callM (pc := 696) hC (As := []) (st := []) (rw_X9_thrown hH.1) q2376 q2377 q2378 q149 q2379 rfl rd_X9_thrown (hH.room (Nat.le_of_ble_eq_true rfl) (Nat.le_of_ble_eq_true rfl)) rfl rfl (Nat.le_of_ble_eq_true rfl) 0 rfl h.le.2.2 (Or.inr hf) h.br (by rw [he]; first | done | rfl) dL_law_696 ?_ (fun E q S hT => rc_out hC hH.2.2.2.2 hT)
  intro x7 S h
  show rc_Z Y S 699 [some (rc_q v0), some (rc_q v1), some (rc_q v2), some (rc_q v3), some (rc_i v4), some (rc_i x3), some (rc_i x6), none, none] [rc_i x7]
  refine rc_iload (pc := 699) hC dL_law_699 rfl ?_
  refine rc_icmp_eq (pc := 701) (tgt := 706) hC dL_law_701 rfl h ?_ ?_
  · intro _ h
    refine rc_iload (pc := 706) hC dL_law_706 rfl ?_
    refine rc_if_ne (pc := 708) (tgt := 723) hC dL_law_708 rfl h ?_ ?_
    · intro _ h
      refine rc_drop [true, true, true, true, true, false, false, false, false] (L' := [some (rc_q v0), some (rc_q v1), some (rc_q v2), some (rc_q v3), some (rc_i v4), none, none, none, none]) rfl ?_
      exact rw_L_law_L723 hC hH hk23 v0 v1 v2 v3 v4 S h
    intro _ h
    refine rc_aload_n (pc := 711) hC dL_law_711 rfl rfl ?_
    refine rc_iconst (pc := 712) hC (v := (0 : Int32)) dL_law_712 rfl ?_
    refine rc_r_lald (pc := 713) hC dL_law_713 h ?_
    intro x8 h
    refine rc_iload (pc := 714) hC dL_law_714 rfl ?_
    refine rc_i2l (pc := 716) hC dL_law_716 ?_
    refine rc_lcmp (pc := 717) hC dL_law_717 ?_
    refine rc_if_eq (pc := 718) (tgt := 723) hC dL_law_718 rfl h ?_ ?_
    · intro _ h
      refine rc_drop [true, true, true, true, true, false, false, false, false] (L' := [some (rc_q v0), some (rc_q v1), some (rc_q v2), some (rc_q v3), some (rc_i v4), none, none, none, none]) rfl ?_
      exact rw_L_law_L723 hC hH hk23 v0 v1 v2 v3 v4 S h
    intro _ h
    refine rc_iconst (pc := 721) hC (v := (0 : Int32)) dL_law_721 rfl ?_
    exact rc_iret hC rfl rfl dL_law_722 h rfl
  intro _ h
  refine rc_iconst (pc := 704) hC (v := (0 : Int32)) dL_law_704 rfl ?_
  exact rc_iret hC rfl rfl dL_law_705 h rfl
theorem rw_L_law_L779 {Y : rc_Y} (hC : rc_C Y cL_law RX0 ret 9) (hH : rc_H Y 20 419 "law") {k23 : Option Nat → Option Nat → Option Nat → Option Nat → Int32 → rc_M Int32} (hk23 : ∀ (v0 : Option Nat) (v1 : Option Nat) (v2 : Option Nat) (v3 : Option Nat) (v4 : Int32) (S : rc_S), rc_Go Y rc_tI (k23 v0 v1 v2 v3 v4) S → rc_Z Y S 23 [some (rc_q v0), some (rc_q v1), some (rc_q v2), some (rc_q v3), some (rc_i v4), none, none, none, none] []) (v0 : Option Nat) (v1 : Option Nat) (v2 : Option Nat) (v3 : Option Nat) (v4 : Int32) (S : rc_S) (h : rc_Go Y rc_tI (rp_L_law_L779 k23 v0 v1 v2 v3 v4) S) : rc_Z Y S 779 [some (rc_q v0), some (rc_q v1), some (rc_q v2), some (rc_q v3), some (rc_i v4), none, none, none, none] [] := by
  unfold rp_L_law_L779 at h
  refine rc_goto (pc := 779) (tgt := 2957) hC dL_law_779 rfl ?_
  exact rw_L_law_L2957 hC hH hk23 v0 v1 v2 v3 v4 S h
theorem rw_L_law_L726 {Y : rc_Y} (hC : rc_C Y cL_law RX0 ret 9) (hH : rc_H Y 20 419 "law") {k23 : Option Nat → Option Nat → Option Nat → Option Nat → Int32 → rc_M Int32} (hk23 : ∀ (v0 : Option Nat) (v1 : Option Nat) (v2 : Option Nat) (v3 : Option Nat) (v4 : Int32) (S : rc_S), rc_Go Y rc_tI (k23 v0 v1 v2 v3 v4) S → rc_Z Y S 23 [some (rc_q v0), some (rc_q v1), some (rc_q v2), some (rc_q v3), some (rc_i v4), none, none, none, none] []) (v0 : Option Nat) (v1 : Option Nat) (v2 : Option Nat) (v3 : Option Nat) (v4 : Int32) (S : rc_S) (h : rc_Go Y rc_tI (rp_L_law_L726 k23 v0 v1 v2 v3 v4) S) : rc_Z Y S 726 [some (rc_q v0), some (rc_q v1), some (rc_q v2), some (rc_q v3), some (rc_i v4), none, none, none, none] [] := by
  unfold rp_L_law_L726 at h
  refine rc_aload_n (pc := 726) hC dL_law_726 rfl rfl ?_
  refine rc_aload_n (pc := 727) hC dL_law_727 rfl rfl ?_
  refine rc_iload (pc := 728) hC dL_law_728 rfl ?_
  refine rc_iconst (pc := 730) hC (v := (1 : Int32)) dL_law_730 rfl ?_
  refine rc_iadd (pc := 731) hC dL_law_731 ?_
  refine rc_r_iald (pc := 732) hC dL_law_732 h ?_
  intro x1 h
  refine rc_aload_n (pc := 733) hC dL_law_733 rfl rfl ?_
  refine rc_callSW (pc := 734) hC (rw_X0_claim hH.1 v1 x1 v3) q1723 q1724 q115 q1725 rd_X0_claim (hH.room (Nat.le_of_ble_eq_true rfl) (Nat.le_of_ble_eq_true rfl)) rfl rfl (Nat.le_of_ble_eq_true rfl) 3 rfl h.le.2.2 h.br rfl dL_law_734 ?_ (fun E q S hT => rc_out hC hH.2.2.2.2 hT)
  intro x2 S h
  show rc_Z Y S 737 [some (rc_q v0), some (rc_q v1), some (rc_q v2), some (rc_q v3), some (rc_i v4), none, none, none, none] [rc_i x2]
  refine rc_istore (pc := 737) hC (L' := [some (rc_q v0), some (rc_q v1), some (rc_q v2), some (rc_q v3), some (rc_i v4), some (rc_i x2), none, none, none]) dL_law_737 (Nat.le_of_ble_eq_true rfl) rfl rfl ?_
  refine rc_aload_n (pc := 739) hC dL_law_739 rfl rfl ?_
  refine rc_aload_n (pc := 740) hC dL_law_740 rfl rfl ?_
  refine rc_iload (pc := 741) hC dL_law_741 rfl ?_
  refine rc_iconst (pc := 743) hC (v := (1 : Int32)) dL_law_743 rfl ?_
  refine rc_iadd (pc := 744) hC dL_law_744 ?_
  refine rc_r_iald (pc := 745) hC dL_law_745 h ?_
  intro x3 h
  obtain ⟨⟨he, hf⟩, h⟩ := h.isM
  refine rc_callM (pc := 746) hC (As := [rc_i x3]) (st := []) (rw_X9_claim hH.1 x3) q2447 q2448 q2449 q149 q2450 rfl rd_X9_claim (hH.room (Nat.le_of_ble_eq_true rfl) (Nat.le_of_ble_eq_true rfl)) rfl rfl (Nat.le_of_ble_eq_true rfl) 1 rfl h.le.2.2 (Or.inr hf) h.br (by rw [he]; first | done | rfl) dL_law_746 ?_ (fun E q S hT => rc_out hC hH.2.2.2.2 hT)
  intro x4 S h
  show rc_Z Y S 749 [some (rc_q v0), some (rc_q v1), some (rc_q v2), some (rc_q v3), some (rc_i v4), some (rc_i x2), none, none, none] [rc_i x4]
  refine rc_istore (pc := 749) hC (L' := [some (rc_q v0), some (rc_q v1), some (rc_q v2), some (rc_q v3), some (rc_i v4), some (rc_i x2), some (rc_i x4), none, none]) dL_law_749 (Nat.le_of_ble_eq_true rfl) rfl rfl ?_
  refine rc_aload_n (pc := 751) hC dL_law_751 rfl rfl ?_
  obtain ⟨⟨he, hf⟩, h⟩ := h.isM
  refine rc_callM (pc := 752) hC (As := []) (st := []) (rw_X9_thrown hH.1) q2376 q2377 q2378 q149 q2379 rfl rd_X9_thrown (hH.room (Nat.le_of_ble_eq_true rfl) (Nat.le_of_ble_eq_true rfl)) rfl rfl (Nat.le_of_ble_eq_true rfl) 0 rfl h.le.2.2 (Or.inr hf) h.br (by rw [he]; first | done | rfl) dL_law_752 ?_ (fun E q S hT => rc_out hC hH.2.2.2.2 hT)
  intro x5 S h
  show rc_Z Y S 755 [some (rc_q v0), some (rc_q v1), some (rc_q v2), some (rc_q v3), some (rc_i v4), some (rc_i x2), some (rc_i x4), none, none] [rc_i x5]
  refine rc_iload (pc := 755) hC dL_law_755 rfl ?_
  refine rc_icmp_eq (pc := 757) (tgt := 762) hC dL_law_757 rfl h ?_ ?_
  · intro _ h
    refine rc_iload (pc := 762) hC dL_law_762 rfl ?_
    refine rc_if_ne (pc := 764) (tgt := 779) hC dL_law_764 rfl h ?_ ?_
    · intro _ h
      refine rc_drop [true, true, true, true, true, false, false, false, false] (L' := [some (rc_q v0), some (rc_q v1), some (rc_q v2), some (rc_q v3), some (rc_i v4), none, none, none, none]) rfl ?_
      exact rw_L_law_L779 hC hH hk23 v0 v1 v2 v3 v4 S h
    intro _ h
    refine rc_aload_n (pc := 767) hC dL_law_767 rfl rfl ?_
    refine rc_iconst (pc := 768) hC (v := (0 : Int32)) dL_law_768 rfl ?_
    refine rc_r_lald (pc := 769) hC dL_law_769 h ?_
    intro x6 h
    refine rc_iload (pc := 770) hC dL_law_770 rfl ?_
    refine rc_i2l (pc := 772) hC dL_law_772 ?_
    refine rc_lcmp (pc := 773) hC dL_law_773 ?_
    refine rc_if_eq (pc := 774) (tgt := 779) hC dL_law_774 rfl h ?_ ?_
    · intro _ h
      refine rc_drop [true, true, true, true, true, false, false, false, false] (L' := [some (rc_q v0), some (rc_q v1), some (rc_q v2), some (rc_q v3), some (rc_i v4), none, none, none, none]) rfl ?_
      exact rw_L_law_L779 hC hH hk23 v0 v1 v2 v3 v4 S h
    intro _ h
    refine rc_iconst (pc := 777) hC (v := (0 : Int32)) dL_law_777 rfl ?_
    exact rc_iret hC rfl rfl dL_law_778 h rfl
  intro _ h
  refine rc_iconst (pc := 760) hC (v := (0 : Int32)) dL_law_760 rfl ?_
  exact rc_iret hC rfl rfl dL_law_761 h rfl
theorem rw_L_law_L835 {Y : rc_Y} (hC : rc_C Y cL_law RX0 ret 9) (hH : rc_H Y 20 419 "law") {k23 : Option Nat → Option Nat → Option Nat → Option Nat → Int32 → rc_M Int32} (hk23 : ∀ (v0 : Option Nat) (v1 : Option Nat) (v2 : Option Nat) (v3 : Option Nat) (v4 : Int32) (S : rc_S), rc_Go Y rc_tI (k23 v0 v1 v2 v3 v4) S → rc_Z Y S 23 [some (rc_q v0), some (rc_q v1), some (rc_q v2), some (rc_q v3), some (rc_i v4), none, none, none, none] []) (v0 : Option Nat) (v1 : Option Nat) (v2 : Option Nat) (v3 : Option Nat) (v4 : Int32) (S : rc_S) (h : rc_Go Y rc_tI (rp_L_law_L835 k23 v0 v1 v2 v3 v4) S) : rc_Z Y S 835 [some (rc_q v0), some (rc_q v1), some (rc_q v2), some (rc_q v3), some (rc_i v4), none, none, none, none] [] := by
  unfold rp_L_law_L835 at h
  refine rc_goto (pc := 835) (tgt := 2957) hC dL_law_835 rfl ?_
  exact rw_L_law_L2957 hC hH hk23 v0 v1 v2 v3 v4 S h
theorem rw_L_law_L782 {Y : rc_Y} (hC : rc_C Y cL_law RX0 ret 9) (hH : rc_H Y 20 419 "law") {k23 : Option Nat → Option Nat → Option Nat → Option Nat → Int32 → rc_M Int32} (hk23 : ∀ (v0 : Option Nat) (v1 : Option Nat) (v2 : Option Nat) (v3 : Option Nat) (v4 : Int32) (S : rc_S), rc_Go Y rc_tI (k23 v0 v1 v2 v3 v4) S → rc_Z Y S 23 [some (rc_q v0), some (rc_q v1), some (rc_q v2), some (rc_q v3), some (rc_i v4), none, none, none, none] []) (v0 : Option Nat) (v1 : Option Nat) (v2 : Option Nat) (v3 : Option Nat) (v4 : Int32) (S : rc_S) (h : rc_Go Y rc_tI (rp_L_law_L782 k23 v0 v1 v2 v3 v4) S) : rc_Z Y S 782 [some (rc_q v0), some (rc_q v1), some (rc_q v2), some (rc_q v3), some (rc_i v4), none, none, none, none] [] := by
  unfold rp_L_law_L782 at h
  refine rc_aload_n (pc := 782) hC dL_law_782 rfl rfl ?_
  refine rc_aload_n (pc := 783) hC dL_law_783 rfl rfl ?_
  refine rc_iload (pc := 784) hC dL_law_784 rfl ?_
  refine rc_iconst (pc := 786) hC (v := (1 : Int32)) dL_law_786 rfl ?_
  refine rc_iadd (pc := 787) hC dL_law_787 ?_
  refine rc_r_iald (pc := 788) hC dL_law_788 h ?_
  intro x1 h
  refine rc_aload_n (pc := 789) hC dL_law_789 rfl rfl ?_
  refine rc_callSW (pc := 790) hC (rw_X0_abandon hH.1 v1 x1 v3) q1736 q1737 q115 q1738 rd_X0_abandon (hH.room (Nat.le_of_ble_eq_true rfl) (Nat.le_of_ble_eq_true rfl)) rfl rfl (Nat.le_of_ble_eq_true rfl) 3 rfl h.le.2.2 h.br rfl dL_law_790 ?_ (fun E q S hT => rc_out hC hH.2.2.2.2 hT)
  intro x2 S h
  show rc_Z Y S 793 [some (rc_q v0), some (rc_q v1), some (rc_q v2), some (rc_q v3), some (rc_i v4), none, none, none, none] [rc_i x2]
  refine rc_istore (pc := 793) hC (L' := [some (rc_q v0), some (rc_q v1), some (rc_q v2), some (rc_q v3), some (rc_i v4), some (rc_i x2), none, none, none]) dL_law_793 (Nat.le_of_ble_eq_true rfl) rfl rfl ?_
  refine rc_aload_n (pc := 795) hC dL_law_795 rfl rfl ?_
  refine rc_aload_n (pc := 796) hC dL_law_796 rfl rfl ?_
  refine rc_iload (pc := 797) hC dL_law_797 rfl ?_
  refine rc_iconst (pc := 799) hC (v := (1 : Int32)) dL_law_799 rfl ?_
  refine rc_iadd (pc := 800) hC dL_law_800 ?_
  refine rc_r_iald (pc := 801) hC dL_law_801 h ?_
  intro x3 h
  obtain ⟨⟨he, hf⟩, h⟩ := h.isM
  refine rc_callM (pc := 802) hC (As := [rc_i x3]) (st := []) (rw_X9_abandon hH.1 x3) q2451 q2452 q2453 q149 q2454 rfl rd_X9_abandon (hH.room (Nat.le_of_ble_eq_true rfl) (Nat.le_of_ble_eq_true rfl)) rfl rfl (Nat.le_of_ble_eq_true rfl) 1 rfl h.le.2.2 (Or.inr hf) h.br (by rw [he]; first | done | rfl) dL_law_802 ?_ (fun E q S hT => rc_out hC hH.2.2.2.2 hT)
  intro x4 S h
  show rc_Z Y S 805 [some (rc_q v0), some (rc_q v1), some (rc_q v2), some (rc_q v3), some (rc_i v4), some (rc_i x2), none, none, none] [rc_i x4]
  refine rc_istore (pc := 805) hC (L' := [some (rc_q v0), some (rc_q v1), some (rc_q v2), some (rc_q v3), some (rc_i v4), some (rc_i x2), some (rc_i x4), none, none]) dL_law_805 (Nat.le_of_ble_eq_true rfl) rfl rfl ?_
  refine rc_aload_n (pc := 807) hC dL_law_807 rfl rfl ?_
  obtain ⟨⟨he, hf⟩, h⟩ := h.isM
  refine rc_callM (pc := 808) hC (As := []) (st := []) (rw_X9_thrown hH.1) q2376 q2377 q2378 q149 q2379 rfl rd_X9_thrown (hH.room (Nat.le_of_ble_eq_true rfl) (Nat.le_of_ble_eq_true rfl)) rfl rfl (Nat.le_of_ble_eq_true rfl) 0 rfl h.le.2.2 (Or.inr hf) h.br (by rw [he]; first | done | rfl) dL_law_808 ?_ (fun E q S hT => rc_out hC hH.2.2.2.2 hT)
  intro x5 S h
  show rc_Z Y S 811 [some (rc_q v0), some (rc_q v1), some (rc_q v2), some (rc_q v3), some (rc_i v4), some (rc_i x2), some (rc_i x4), none, none] [rc_i x5]
  refine rc_iload (pc := 811) hC dL_law_811 rfl ?_
  refine rc_icmp_eq (pc := 813) (tgt := 818) hC dL_law_813 rfl h ?_ ?_
  · intro _ h
    refine rc_iload (pc := 818) hC dL_law_818 rfl ?_
    refine rc_if_ne (pc := 820) (tgt := 835) hC dL_law_820 rfl h ?_ ?_
    · intro _ h
      refine rc_drop [true, true, true, true, true, false, false, false, false] (L' := [some (rc_q v0), some (rc_q v1), some (rc_q v2), some (rc_q v3), some (rc_i v4), none, none, none, none]) rfl ?_
      exact rw_L_law_L835 hC hH hk23 v0 v1 v2 v3 v4 S h
    intro _ h
    refine rc_aload_n (pc := 823) hC dL_law_823 rfl rfl ?_
    refine rc_iconst (pc := 824) hC (v := (0 : Int32)) dL_law_824 rfl ?_
    refine rc_r_lald (pc := 825) hC dL_law_825 h ?_
    intro x6 h
    refine rc_iload (pc := 826) hC dL_law_826 rfl ?_
    refine rc_i2l (pc := 828) hC dL_law_828 ?_
    refine rc_lcmp (pc := 829) hC dL_law_829 ?_
    refine rc_if_eq (pc := 830) (tgt := 835) hC dL_law_830 rfl h ?_ ?_
    · intro _ h
      refine rc_drop [true, true, true, true, true, false, false, false, false] (L' := [some (rc_q v0), some (rc_q v1), some (rc_q v2), some (rc_q v3), some (rc_i v4), none, none, none, none]) rfl ?_
      exact rw_L_law_L835 hC hH hk23 v0 v1 v2 v3 v4 S h
    intro _ h
    refine rc_iconst (pc := 833) hC (v := (0 : Int32)) dL_law_833 rfl ?_
    exact rc_iret hC rfl rfl dL_law_834 h rfl
  intro _ h
  refine rc_iconst (pc := 816) hC (v := (0 : Int32)) dL_law_816 rfl ?_
  exact rc_iret hC rfl rfl dL_law_817 h rfl
theorem rw_L_law_L910 {Y : rc_Y} (hC : rc_C Y cL_law RX0 ret 9) (hH : rc_H Y 20 419 "law") {k23 : Option Nat → Option Nat → Option Nat → Option Nat → Int32 → rc_M Int32} (hk23 : ∀ (v0 : Option Nat) (v1 : Option Nat) (v2 : Option Nat) (v3 : Option Nat) (v4 : Int32) (S : rc_S), rc_Go Y rc_tI (k23 v0 v1 v2 v3 v4) S → rc_Z Y S 23 [some (rc_q v0), some (rc_q v1), some (rc_q v2), some (rc_q v3), some (rc_i v4), none, none, none, none] []) (v0 : Option Nat) (v1 : Option Nat) (v2 : Option Nat) (v3 : Option Nat) (v4 : Int32) (S : rc_S) (h : rc_Go Y rc_tI (rp_L_law_L910 k23 v0 v1 v2 v3 v4) S) : rc_Z Y S 910 [some (rc_q v0), some (rc_q v1), some (rc_q v2), some (rc_q v3), some (rc_i v4), none, none, none, none] [] := by
  unfold rp_L_law_L910 at h
  refine rc_goto (pc := 910) (tgt := 2957) hC dL_law_910 rfl ?_
  exact rw_L_law_L2957 hC hH hk23 v0 v1 v2 v3 v4 S h
theorem rw_L_law_L904 {Y : rc_Y} (hC : rc_C Y cL_law RX0 ret 9) (hH : rc_H Y 20 419 "law") {k23 : Option Nat → Option Nat → Option Nat → Option Nat → Int32 → rc_M Int32} (hk23 : ∀ (v0 : Option Nat) (v1 : Option Nat) (v2 : Option Nat) (v3 : Option Nat) (v4 : Int32) (S : rc_S), rc_Go Y rc_tI (k23 v0 v1 v2 v3 v4) S → rc_Z Y S 23 [some (rc_q v0), some (rc_q v1), some (rc_q v2), some (rc_q v3), some (rc_i v4), none, none, none, none] []) (v0 : Option Nat) (v1 : Option Nat) (v2 : Option Nat) (v3 : Option Nat) (v4 : Int32) (s0 : Int64) (s1 : Int64) (S : rc_S) (h : rc_Go Y rc_tI (rp_L_law_L904 k23 v0 v1 v2 v3 v4 s0 s1) S) : rc_Z Y S 904 [some (rc_q v0), some (rc_q v1), some (rc_q v2), some (rc_q v3), some (rc_i v4), none, none, none, none] [rc_l s0, rc_l s1] := by
  unfold rp_L_law_L904 at h
  refine rc_lcmp (pc := 904) hC dL_law_904 ?_
  refine rc_if_eq (pc := 905) (tgt := 910) hC dL_law_905 rfl h ?_ ?_
  · intro _ h
    exact rw_L_law_L910 hC hH hk23 v0 v1 v2 v3 v4 S h
  intro _ h
  refine rc_iconst (pc := 908) hC (v := (0 : Int32)) dL_law_908 rfl ?_
  exact rc_iret hC rfl rfl dL_law_909 h rfl
theorem rw_L_law_L838 {Y : rc_Y} (hC : rc_C Y cL_law RX0 ret 9) (hH : rc_H Y 20 419 "law") {k23 : Option Nat → Option Nat → Option Nat → Option Nat → Int32 → rc_M Int32} (hk23 : ∀ (v0 : Option Nat) (v1 : Option Nat) (v2 : Option Nat) (v3 : Option Nat) (v4 : Int32) (S : rc_S), rc_Go Y rc_tI (k23 v0 v1 v2 v3 v4) S → rc_Z Y S 23 [some (rc_q v0), some (rc_q v1), some (rc_q v2), some (rc_q v3), some (rc_i v4), none, none, none, none] []) (v0 : Option Nat) (v1 : Option Nat) (v2 : Option Nat) (v3 : Option Nat) (v4 : Int32) (S : rc_S) (h : rc_Go Y rc_tI (rp_L_law_L838 k23 v0 v1 v2 v3 v4) S) : rc_Z Y S 838 [some (rc_q v0), some (rc_q v1), some (rc_q v2), some (rc_q v3), some (rc_i v4), none, none, none, none] [] := by
  unfold rp_L_law_L838 at h
  refine rc_aload_n (pc := 838) hC dL_law_838 rfl rfl ?_
  refine rc_aload_n (pc := 839) hC dL_law_839 rfl rfl ?_
  refine rc_iload (pc := 840) hC dL_law_840 rfl ?_
  refine rc_iconst (pc := 842) hC (v := (1 : Int32)) dL_law_842 rfl ?_
  refine rc_iadd (pc := 843) hC dL_law_843 ?_
  refine rc_r_iald (pc := 844) hC dL_law_844 h ?_
  intro x1 h
  refine rc_aload_n (pc := 845) hC dL_law_845 rfl rfl ?_
  refine rc_iload (pc := 846) hC dL_law_846 rfl ?_
  refine rc_iconst (pc := 848) hC (v := (2 : Int32)) dL_law_848 rfl ?_
  refine rc_iadd (pc := 849) hC dL_law_849 ?_
  refine rc_r_iald (pc := 850) hC dL_law_850 h ?_
  intro x2 h
  refine rc_aload_n (pc := 851) hC dL_law_851 rfl rfl ?_
  refine rc_callSW (pc := 852) hC (rw_X0_chase hH.1 v1 x1 x2 v3) q1747 q1748 q115 q1749 rd_X0_chase (hH.room (Nat.le_of_ble_eq_true rfl) (Nat.le_of_ble_eq_true rfl)) rfl rfl (Nat.le_of_ble_eq_true rfl) 4 rfl h.le.2.2 h.br rfl dL_law_852 ?_ (fun E q S hT => rc_out hC hH.2.2.2.2 hT)
  intro x3 S h
  show rc_Z Y S 855 [some (rc_q v0), some (rc_q v1), some (rc_q v2), some (rc_q v3), some (rc_i v4), none, none, none, none] [rc_i x3]
  refine rc_istore (pc := 855) hC (L' := [some (rc_q v0), some (rc_q v1), some (rc_q v2), some (rc_q v3), some (rc_i v4), some (rc_i x3), none, none, none]) dL_law_855 (Nat.le_of_ble_eq_true rfl) rfl rfl ?_
  refine rc_aload_n (pc := 857) hC dL_law_857 rfl rfl ?_
  refine rc_aload_n (pc := 858) hC dL_law_858 rfl rfl ?_
  refine rc_iload (pc := 859) hC dL_law_859 rfl ?_
  refine rc_iconst (pc := 861) hC (v := (1 : Int32)) dL_law_861 rfl ?_
  refine rc_iadd (pc := 862) hC dL_law_862 ?_
  refine rc_r_iald (pc := 863) hC dL_law_863 h ?_
  intro x4 h
  refine rc_aload_n (pc := 864) hC dL_law_864 rfl rfl ?_
  refine rc_iload (pc := 865) hC dL_law_865 rfl ?_
  refine rc_iconst (pc := 867) hC (v := (2 : Int32)) dL_law_867 rfl ?_
  refine rc_iadd (pc := 868) hC dL_law_868 ?_
  refine rc_r_iald (pc := 869) hC dL_law_869 h ?_
  intro x5 h
  obtain ⟨⟨he, hf⟩, h⟩ := h.isM
  refine rc_callM (pc := 870) hC (As := [rc_i x4, rc_i x5]) (st := []) (rw_X9_chase hH.1 x4 x5) q2455 q2456 q2457 q149 q2458 rfl rd_X9_chase (hH.room (Nat.le_of_ble_eq_true rfl) (Nat.le_of_ble_eq_true rfl)) rfl rfl (Nat.le_of_ble_eq_true rfl) 2 rfl h.le.2.2 (Or.inr hf) h.br (by rw [he]; first | done | rfl) dL_law_870 ?_ (fun E q S hT => rc_out hC hH.2.2.2.2 hT)
  intro x6 S h
  show rc_Z Y S 873 [some (rc_q v0), some (rc_q v1), some (rc_q v2), some (rc_q v3), some (rc_i v4), some (rc_i x3), none, none, none] [rc_i x6]
  refine rc_istore (pc := 873) hC (L' := [some (rc_q v0), some (rc_q v1), some (rc_q v2), some (rc_q v3), some (rc_i v4), some (rc_i x3), some (rc_i x6), none, none]) dL_law_873 (Nat.le_of_ble_eq_true rfl) rfl rfl ?_
  refine rc_aload_n (pc := 875) hC dL_law_875 rfl rfl ?_
  obtain ⟨⟨he, hf⟩, h⟩ := h.isM
  refine rc_callM (pc := 876) hC (As := []) (st := []) (rw_X9_thrown hH.1) q2376 q2377 q2378 q149 q2379 rfl rd_X9_thrown (hH.room (Nat.le_of_ble_eq_true rfl) (Nat.le_of_ble_eq_true rfl)) rfl rfl (Nat.le_of_ble_eq_true rfl) 0 rfl h.le.2.2 (Or.inr hf) h.br (by rw [he]; first | done | rfl) dL_law_876 ?_ (fun E q S hT => rc_out hC hH.2.2.2.2 hT)
  intro x7 S h
  show rc_Z Y S 879 [some (rc_q v0), some (rc_q v1), some (rc_q v2), some (rc_q v3), some (rc_i v4), some (rc_i x3), some (rc_i x6), none, none] [rc_i x7]
  refine rc_iload (pc := 879) hC dL_law_879 rfl ?_
  refine rc_icmp_eq (pc := 881) (tgt := 886) hC dL_law_881 rfl h ?_ ?_
  · intro _ h
    refine rc_iload (pc := 886) hC dL_law_886 rfl ?_
    refine rc_if_ne (pc := 888) (tgt := 910) hC dL_law_888 rfl h ?_ ?_
    · intro _ h
      refine rc_drop [true, true, true, true, true, false, false, false, false] (L' := [some (rc_q v0), some (rc_q v1), some (rc_q v2), some (rc_q v3), some (rc_i v4), none, none, none, none]) rfl ?_
      exact rw_L_law_L910 hC hH hk23 v0 v1 v2 v3 v4 S h
    intro _ h
    refine rc_aload_n (pc := 891) hC dL_law_891 rfl rfl ?_
    refine rc_iconst (pc := 892) hC (v := (0 : Int32)) dL_law_892 rfl ?_
    refine rc_r_lald (pc := 893) hC dL_law_893 h ?_
    intro x8 h
    refine rc_iload (pc := 894) hC dL_law_894 rfl ?_
    refine rc_if_eq (pc := 896) (tgt := 903) hC dL_law_896 rfl h ?_ ?_
    · intro _ h
      refine rc_lconst (pc := 903) hC (v := (0 : Int64)) dL_law_903 rfl ?_
      refine rc_drop [true, true, true, true, true, false, false, false, false] (L' := [some (rc_q v0), some (rc_q v1), some (rc_q v2), some (rc_q v3), some (rc_i v4), none, none, none, none]) rfl ?_
      exact rw_L_law_L904 hC hH hk23 v0 v1 v2 v3 v4 (0 : Int64) x8 S h
    intro _ h
    refine rc_lconst (pc := 899) hC (v := (1 : Int64)) dL_law_899 rfl ?_
    refine rc_goto (pc := 900) (tgt := 904) hC dL_law_900 rfl ?_
    refine rc_drop [true, true, true, true, true, false, false, false, false] (L' := [some (rc_q v0), some (rc_q v1), some (rc_q v2), some (rc_q v3), some (rc_i v4), none, none, none, none]) rfl ?_
    exact rw_L_law_L904 hC hH hk23 v0 v1 v2 v3 v4 (1 : Int64) x8 S h
  intro _ h
  refine rc_iconst (pc := 884) hC (v := (0 : Int32)) dL_law_884 rfl ?_
  exact rc_iret hC rfl rfl dL_law_885 h rfl
theorem rw_L_law_L1002 {Y : rc_Y} (hC : rc_C Y cL_law RX0 ret 9) (hH : rc_H Y 20 419 "law") {k23 : Option Nat → Option Nat → Option Nat → Option Nat → Int32 → rc_M Int32} (hk23 : ∀ (v0 : Option Nat) (v1 : Option Nat) (v2 : Option Nat) (v3 : Option Nat) (v4 : Int32) (S : rc_S), rc_Go Y rc_tI (k23 v0 v1 v2 v3 v4) S → rc_Z Y S 23 [some (rc_q v0), some (rc_q v1), some (rc_q v2), some (rc_q v3), some (rc_i v4), none, none, none, none] []) (v0 : Option Nat) (v1 : Option Nat) (v2 : Option Nat) (v3 : Option Nat) (v4 : Int32) (S : rc_S) (h : rc_Go Y rc_tI (rp_L_law_L1002 k23 v0 v1 v2 v3 v4) S) : rc_Z Y S 1002 [some (rc_q v0), some (rc_q v1), some (rc_q v2), some (rc_q v3), some (rc_i v4), none, none, none, none] [] := by
  unfold rp_L_law_L1002 at h
  refine rc_goto (pc := 1002) (tgt := 2957) hC dL_law_1002 rfl ?_
  exact rw_L_law_L2957 hC hH hk23 v0 v1 v2 v3 v4 S h
theorem rw_L_law_L913 {Y : rc_Y} (hC : rc_C Y cL_law RX0 ret 9) (hH : rc_H Y 20 419 "law") {k23 : Option Nat → Option Nat → Option Nat → Option Nat → Int32 → rc_M Int32} (hk23 : ∀ (v0 : Option Nat) (v1 : Option Nat) (v2 : Option Nat) (v3 : Option Nat) (v4 : Int32) (S : rc_S), rc_Go Y rc_tI (k23 v0 v1 v2 v3 v4) S → rc_Z Y S 23 [some (rc_q v0), some (rc_q v1), some (rc_q v2), some (rc_q v3), some (rc_i v4), none, none, none, none] []) (v0 : Option Nat) (v1 : Option Nat) (v2 : Option Nat) (v3 : Option Nat) (v4 : Int32) (S : rc_S) (h : rc_Go Y rc_tI (rp_L_law_L913 k23 v0 v1 v2 v3 v4) S) : rc_Z Y S 913 [some (rc_q v0), some (rc_q v1), some (rc_q v2), some (rc_q v3), some (rc_i v4), none, none, none, none] [] := by
  unfold rp_L_law_L913 at h
  refine rc_aload_n (pc := 913) hC dL_law_913 rfl rfl ?_
  refine rc_aload_n (pc := 914) hC dL_law_914 rfl rfl ?_
  refine rc_iload (pc := 915) hC dL_law_915 rfl ?_
  refine rc_iconst (pc := 917) hC (v := (1 : Int32)) dL_law_917 rfl ?_
  refine rc_iadd (pc := 918) hC dL_law_918 ?_
  refine rc_r_iald (pc := 919) hC dL_law_919 h ?_
  intro x1 h
  refine rc_aload_n (pc := 920) hC dL_law_920 rfl rfl ?_
  refine rc_iload (pc := 921) hC dL_law_921 rfl ?_
  refine rc_iconst (pc := 923) hC (v := (2 : Int32)) dL_law_923 rfl ?_
  refine rc_iadd (pc := 924) hC dL_law_924 ?_
  refine rc_r_iald (pc := 925) hC dL_law_925 h ?_
  intro x2 h
  refine rc_aload_n (pc := 926) hC dL_law_926 rfl rfl ?_
  refine rc_iload (pc := 927) hC dL_law_927 rfl ?_
  refine rc_iconst (pc := 929) hC (v := (3 : Int32)) dL_law_929 rfl ?_
  refine rc_iadd (pc := 930) hC dL_law_930 ?_
  refine rc_r_iald (pc := 931) hC dL_law_931 h ?_
  intro x3 h
  refine rc_aload_n (pc := 932) hC dL_law_932 rfl rfl ?_
  refine rc_iload (pc := 933) hC dL_law_933 rfl ?_
  refine rc_iconst (pc := 935) hC (v := (4 : Int32)) dL_law_935 rfl ?_
  refine rc_iadd (pc := 936) hC dL_law_936 ?_
  refine rc_r_iald (pc := 937) hC dL_law_937 h ?_
  intro x4 h
  refine rc_aload_n (pc := 938) hC dL_law_938 rfl rfl ?_
  refine rc_callSW (pc := 939) hC (rw_X0_buyTruce hH.1 v1 x1 x2 x3 x4 v3) q1764 q1765 q115 q1766 rd_X0_buyTruce (hH.room (Nat.le_of_ble_eq_true rfl) (Nat.le_of_ble_eq_true rfl)) rfl rfl (Nat.le_of_ble_eq_true rfl) 6 rfl h.le.2.2 h.br rfl dL_law_939 ?_ (fun E q S hT => rc_out hC hH.2.2.2.2 hT)
  intro x5 S h
  show rc_Z Y S 942 [some (rc_q v0), some (rc_q v1), some (rc_q v2), some (rc_q v3), some (rc_i v4), none, none, none, none] [rc_i x5]
  refine rc_istore (pc := 942) hC (L' := [some (rc_q v0), some (rc_q v1), some (rc_q v2), some (rc_q v3), some (rc_i v4), some (rc_i x5), none, none, none]) dL_law_942 (Nat.le_of_ble_eq_true rfl) rfl rfl ?_
  refine rc_aload_n (pc := 944) hC dL_law_944 rfl rfl ?_
  refine rc_aload_n (pc := 945) hC dL_law_945 rfl rfl ?_
  refine rc_iload (pc := 946) hC dL_law_946 rfl ?_
  refine rc_iconst (pc := 948) hC (v := (1 : Int32)) dL_law_948 rfl ?_
  refine rc_iadd (pc := 949) hC dL_law_949 ?_
  refine rc_r_iald (pc := 950) hC dL_law_950 h ?_
  intro x6 h
  refine rc_aload_n (pc := 951) hC dL_law_951 rfl rfl ?_
  refine rc_iload (pc := 952) hC dL_law_952 rfl ?_
  refine rc_iconst (pc := 954) hC (v := (2 : Int32)) dL_law_954 rfl ?_
  refine rc_iadd (pc := 955) hC dL_law_955 ?_
  refine rc_r_iald (pc := 956) hC dL_law_956 h ?_
  intro x7 h
  refine rc_aload_n (pc := 957) hC dL_law_957 rfl rfl ?_
  refine rc_iload (pc := 958) hC dL_law_958 rfl ?_
  refine rc_iconst (pc := 960) hC (v := (3 : Int32)) dL_law_960 rfl ?_
  refine rc_iadd (pc := 961) hC dL_law_961 ?_
  refine rc_r_iald (pc := 962) hC dL_law_962 h ?_
  intro x8 h
  refine rc_aload_n (pc := 963) hC dL_law_963 rfl rfl ?_
  refine rc_iload (pc := 964) hC dL_law_964 rfl ?_
  refine rc_iconst (pc := 966) hC (v := (4 : Int32)) dL_law_966 rfl ?_
  refine rc_iadd (pc := 967) hC dL_law_967 ?_
  refine rc_r_iald (pc := 968) hC dL_law_968 h ?_
  intro x9 h
  obtain ⟨⟨he, hf⟩, h⟩ := h.isM
  refine rc_callM (pc := 969) hC (As := [rc_i x6, rc_i x7, rc_i x8, rc_i x9]) (st := []) (rw_X9_buyTruce hH.1 x6 x7 x8 x9) q2463 q2464 q2465 q149 q2466 rfl rd_X9_buyTruce (hH.room (Nat.le_of_ble_eq_true rfl) (Nat.le_of_ble_eq_true rfl)) rfl rfl (Nat.le_of_ble_eq_true rfl) 4 rfl h.le.2.2 (Or.inr hf) h.br (by rw [he]; first | done | rfl) dL_law_969 ?_ (fun E q S hT => rc_out hC hH.2.2.2.2 hT)
  intro x10 S h
  show rc_Z Y S 972 [some (rc_q v0), some (rc_q v1), some (rc_q v2), some (rc_q v3), some (rc_i v4), some (rc_i x5), none, none, none] [rc_i x10]
  refine rc_istore (pc := 972) hC (L' := [some (rc_q v0), some (rc_q v1), some (rc_q v2), some (rc_q v3), some (rc_i v4), some (rc_i x5), some (rc_i x10), none, none]) dL_law_972 (Nat.le_of_ble_eq_true rfl) rfl rfl ?_
  refine rc_aload_n (pc := 974) hC dL_law_974 rfl rfl ?_
  obtain ⟨⟨he, hf⟩, h⟩ := h.isM
  refine rc_callM (pc := 975) hC (As := []) (st := []) (rw_X9_thrown hH.1) q2376 q2377 q2378 q149 q2379 rfl rd_X9_thrown (hH.room (Nat.le_of_ble_eq_true rfl) (Nat.le_of_ble_eq_true rfl)) rfl rfl (Nat.le_of_ble_eq_true rfl) 0 rfl h.le.2.2 (Or.inr hf) h.br (by rw [he]; first | done | rfl) dL_law_975 ?_ (fun E q S hT => rc_out hC hH.2.2.2.2 hT)
  intro x11 S h
  show rc_Z Y S 978 [some (rc_q v0), some (rc_q v1), some (rc_q v2), some (rc_q v3), some (rc_i v4), some (rc_i x5), some (rc_i x10), none, none] [rc_i x11]
  refine rc_iload (pc := 978) hC dL_law_978 rfl ?_
  refine rc_icmp_eq (pc := 980) (tgt := 985) hC dL_law_980 rfl h ?_ ?_
  · intro _ h
    refine rc_iload (pc := 985) hC dL_law_985 rfl ?_
    refine rc_if_ne (pc := 987) (tgt := 1002) hC dL_law_987 rfl h ?_ ?_
    · intro _ h
      refine rc_drop [true, true, true, true, true, false, false, false, false] (L' := [some (rc_q v0), some (rc_q v1), some (rc_q v2), some (rc_q v3), some (rc_i v4), none, none, none, none]) rfl ?_
      exact rw_L_law_L1002 hC hH hk23 v0 v1 v2 v3 v4 S h
    intro _ h
    refine rc_aload_n (pc := 990) hC dL_law_990 rfl rfl ?_
    refine rc_iconst (pc := 991) hC (v := (0 : Int32)) dL_law_991 rfl ?_
    refine rc_r_lald (pc := 992) hC dL_law_992 h ?_
    intro x12 h
    refine rc_iload (pc := 993) hC dL_law_993 rfl ?_
    refine rc_i2l (pc := 995) hC dL_law_995 ?_
    refine rc_lcmp (pc := 996) hC dL_law_996 ?_
    refine rc_if_eq (pc := 997) (tgt := 1002) hC dL_law_997 rfl h ?_ ?_
    · intro _ h
      refine rc_drop [true, true, true, true, true, false, false, false, false] (L' := [some (rc_q v0), some (rc_q v1), some (rc_q v2), some (rc_q v3), some (rc_i v4), none, none, none, none]) rfl ?_
      exact rw_L_law_L1002 hC hH hk23 v0 v1 v2 v3 v4 S h
    intro _ h
    refine rc_iconst (pc := 1000) hC (v := (0 : Int32)) dL_law_1000 rfl ?_
    exact rc_iret hC rfl rfl dL_law_1001 h rfl
  intro _ h
  refine rc_iconst (pc := 983) hC (v := (0 : Int32)) dL_law_983 rfl ?_
  exact rc_iret hC rfl rfl dL_law_984 h rfl
theorem rw_L_law_L1070 {Y : rc_Y} (hC : rc_C Y cL_law RX0 ret 9) (hH : rc_H Y 20 419 "law") {k23 : Option Nat → Option Nat → Option Nat → Option Nat → Int32 → rc_M Int32} (hk23 : ∀ (v0 : Option Nat) (v1 : Option Nat) (v2 : Option Nat) (v3 : Option Nat) (v4 : Int32) (S : rc_S), rc_Go Y rc_tI (k23 v0 v1 v2 v3 v4) S → rc_Z Y S 23 [some (rc_q v0), some (rc_q v1), some (rc_q v2), some (rc_q v3), some (rc_i v4), none, none, none, none] []) (v0 : Option Nat) (v1 : Option Nat) (v2 : Option Nat) (v3 : Option Nat) (v4 : Int32) (S : rc_S) (h : rc_Go Y rc_tI (rp_L_law_L1070 k23 v0 v1 v2 v3 v4) S) : rc_Z Y S 1070 [some (rc_q v0), some (rc_q v1), some (rc_q v2), some (rc_q v3), some (rc_i v4), none, none, none, none] [] := by
  unfold rp_L_law_L1070 at h
  refine rc_goto (pc := 1070) (tgt := 2957) hC dL_law_1070 rfl ?_
  exact rw_L_law_L2957 hC hH hk23 v0 v1 v2 v3 v4 S h
theorem rw_L_law_L1005 {Y : rc_Y} (hC : rc_C Y cL_law RX0 ret 9) (hH : rc_H Y 20 419 "law") {k23 : Option Nat → Option Nat → Option Nat → Option Nat → Int32 → rc_M Int32} (hk23 : ∀ (v0 : Option Nat) (v1 : Option Nat) (v2 : Option Nat) (v3 : Option Nat) (v4 : Int32) (S : rc_S), rc_Go Y rc_tI (k23 v0 v1 v2 v3 v4) S → rc_Z Y S 23 [some (rc_q v0), some (rc_q v1), some (rc_q v2), some (rc_q v3), some (rc_i v4), none, none, none, none] []) (v0 : Option Nat) (v1 : Option Nat) (v2 : Option Nat) (v3 : Option Nat) (v4 : Int32) (S : rc_S) (h : rc_Go Y rc_tI (rp_L_law_L1005 k23 v0 v1 v2 v3 v4) S) : rc_Z Y S 1005 [some (rc_q v0), some (rc_q v1), some (rc_q v2), some (rc_q v3), some (rc_i v4), none, none, none, none] [] := by
  unfold rp_L_law_L1005 at h
  refine rc_aload_n (pc := 1005) hC dL_law_1005 rfl rfl ?_
  refine rc_aload_n (pc := 1006) hC dL_law_1006 rfl rfl ?_
  refine rc_iload (pc := 1007) hC dL_law_1007 rfl ?_
  refine rc_iconst (pc := 1009) hC (v := (1 : Int32)) dL_law_1009 rfl ?_
  refine rc_iadd (pc := 1010) hC dL_law_1010 ?_
  refine rc_r_iald (pc := 1011) hC dL_law_1011 h ?_
  intro x1 h
  refine rc_aload_n (pc := 1012) hC dL_law_1012 rfl rfl ?_
  refine rc_iload (pc := 1013) hC dL_law_1013 rfl ?_
  refine rc_iconst (pc := 1015) hC (v := (2 : Int32)) dL_law_1015 rfl ?_
  refine rc_iadd (pc := 1016) hC dL_law_1016 ?_
  refine rc_r_iald (pc := 1017) hC dL_law_1017 h ?_
  intro x2 h
  refine rc_aload_n (pc := 1018) hC dL_law_1018 rfl rfl ?_
  refine rc_callSW (pc := 1019) hC (rw_X0_nominate hH.1 v1 x1 x2 v3) q1773 q1774 q115 q1775 rd_X0_nominate (hH.room (Nat.le_of_ble_eq_true rfl) (Nat.le_of_ble_eq_true rfl)) rfl rfl (Nat.le_of_ble_eq_true rfl) 4 rfl h.le.2.2 h.br rfl dL_law_1019 ?_ (fun E q S hT => rc_out hC hH.2.2.2.2 hT)
  intro x3 S h
  show rc_Z Y S 1022 [some (rc_q v0), some (rc_q v1), some (rc_q v2), some (rc_q v3), some (rc_i v4), none, none, none, none] [rc_i x3]
  refine rc_istore (pc := 1022) hC (L' := [some (rc_q v0), some (rc_q v1), some (rc_q v2), some (rc_q v3), some (rc_i v4), some (rc_i x3), none, none, none]) dL_law_1022 (Nat.le_of_ble_eq_true rfl) rfl rfl ?_
  refine rc_aload_n (pc := 1024) hC dL_law_1024 rfl rfl ?_
  refine rc_aload_n (pc := 1025) hC dL_law_1025 rfl rfl ?_
  refine rc_iload (pc := 1026) hC dL_law_1026 rfl ?_
  refine rc_iconst (pc := 1028) hC (v := (1 : Int32)) dL_law_1028 rfl ?_
  refine rc_iadd (pc := 1029) hC dL_law_1029 ?_
  refine rc_r_iald (pc := 1030) hC dL_law_1030 h ?_
  intro x4 h
  refine rc_aload_n (pc := 1031) hC dL_law_1031 rfl rfl ?_
  refine rc_iload (pc := 1032) hC dL_law_1032 rfl ?_
  refine rc_iconst (pc := 1034) hC (v := (2 : Int32)) dL_law_1034 rfl ?_
  refine rc_iadd (pc := 1035) hC dL_law_1035 ?_
  refine rc_r_iald (pc := 1036) hC dL_law_1036 h ?_
  intro x5 h
  obtain ⟨⟨he, hf⟩, h⟩ := h.isM
  refine rc_callM (pc := 1037) hC (As := [rc_i x4, rc_i x5]) (st := []) (rw_X9_nominate hH.1 x4 x5) q2467 q2468 q2469 q149 q2470 rfl rd_X9_nominate (hH.room (Nat.le_of_ble_eq_true rfl) (Nat.le_of_ble_eq_true rfl)) rfl rfl (Nat.le_of_ble_eq_true rfl) 2 rfl h.le.2.2 (Or.inr hf) h.br (by rw [he]; first | done | rfl) dL_law_1037 ?_ (fun E q S hT => rc_out hC hH.2.2.2.2 hT)
  intro x6 S h
  show rc_Z Y S 1040 [some (rc_q v0), some (rc_q v1), some (rc_q v2), some (rc_q v3), some (rc_i v4), some (rc_i x3), none, none, none] [rc_i x6]
  refine rc_istore (pc := 1040) hC (L' := [some (rc_q v0), some (rc_q v1), some (rc_q v2), some (rc_q v3), some (rc_i v4), some (rc_i x3), some (rc_i x6), none, none]) dL_law_1040 (Nat.le_of_ble_eq_true rfl) rfl rfl ?_
  refine rc_aload_n (pc := 1042) hC dL_law_1042 rfl rfl ?_
  obtain ⟨⟨he, hf⟩, h⟩ := h.isM
  refine rc_callM (pc := 1043) hC (As := []) (st := []) (rw_X9_thrown hH.1) q2376 q2377 q2378 q149 q2379 rfl rd_X9_thrown (hH.room (Nat.le_of_ble_eq_true rfl) (Nat.le_of_ble_eq_true rfl)) rfl rfl (Nat.le_of_ble_eq_true rfl) 0 rfl h.le.2.2 (Or.inr hf) h.br (by rw [he]; first | done | rfl) dL_law_1043 ?_ (fun E q S hT => rc_out hC hH.2.2.2.2 hT)
  intro x7 S h
  show rc_Z Y S 1046 [some (rc_q v0), some (rc_q v1), some (rc_q v2), some (rc_q v3), some (rc_i v4), some (rc_i x3), some (rc_i x6), none, none] [rc_i x7]
  refine rc_iload (pc := 1046) hC dL_law_1046 rfl ?_
  refine rc_icmp_eq (pc := 1048) (tgt := 1053) hC dL_law_1048 rfl h ?_ ?_
  · intro _ h
    refine rc_iload (pc := 1053) hC dL_law_1053 rfl ?_
    refine rc_if_ne (pc := 1055) (tgt := 1070) hC dL_law_1055 rfl h ?_ ?_
    · intro _ h
      refine rc_drop [true, true, true, true, true, false, false, false, false] (L' := [some (rc_q v0), some (rc_q v1), some (rc_q v2), some (rc_q v3), some (rc_i v4), none, none, none, none]) rfl ?_
      exact rw_L_law_L1070 hC hH hk23 v0 v1 v2 v3 v4 S h
    intro _ h
    refine rc_aload_n (pc := 1058) hC dL_law_1058 rfl rfl ?_
    refine rc_iconst (pc := 1059) hC (v := (0 : Int32)) dL_law_1059 rfl ?_
    refine rc_r_lald (pc := 1060) hC dL_law_1060 h ?_
    intro x8 h
    refine rc_iload (pc := 1061) hC dL_law_1061 rfl ?_
    refine rc_i2l (pc := 1063) hC dL_law_1063 ?_
    refine rc_lcmp (pc := 1064) hC dL_law_1064 ?_
    refine rc_if_eq (pc := 1065) (tgt := 1070) hC dL_law_1065 rfl h ?_ ?_
    · intro _ h
      refine rc_drop [true, true, true, true, true, false, false, false, false] (L' := [some (rc_q v0), some (rc_q v1), some (rc_q v2), some (rc_q v3), some (rc_i v4), none, none, none, none]) rfl ?_
      exact rw_L_law_L1070 hC hH hk23 v0 v1 v2 v3 v4 S h
    intro _ h
    refine rc_iconst (pc := 1068) hC (v := (0 : Int32)) dL_law_1068 rfl ?_
    exact rc_iret hC rfl rfl dL_law_1069 h rfl
  intro _ h
  refine rc_iconst (pc := 1051) hC (v := (0 : Int32)) dL_law_1051 rfl ?_
  exact rc_iret hC rfl rfl dL_law_1052 h rfl
theorem rw_L_law_L1161 {Y : rc_Y} (hC : rc_C Y cL_law RX0 ret 9) (hH : rc_H Y 20 419 "law") {k23 : Option Nat → Option Nat → Option Nat → Option Nat → Int32 → rc_M Int32} (hk23 : ∀ (v0 : Option Nat) (v1 : Option Nat) (v2 : Option Nat) (v3 : Option Nat) (v4 : Int32) (S : rc_S), rc_Go Y rc_tI (k23 v0 v1 v2 v3 v4) S → rc_Z Y S 23 [some (rc_q v0), some (rc_q v1), some (rc_q v2), some (rc_q v3), some (rc_i v4), none, none, none, none] []) (v0 : Option Nat) (v1 : Option Nat) (v2 : Option Nat) (v3 : Option Nat) (v4 : Int32) (S : rc_S) (h : rc_Go Y rc_tI (rp_L_law_L1161 k23 v0 v1 v2 v3 v4) S) : rc_Z Y S 1161 [some (rc_q v0), some (rc_q v1), some (rc_q v2), some (rc_q v3), some (rc_i v4), none, none, none, none] [] := by
  unfold rp_L_law_L1161 at h
  refine rc_goto (pc := 1161) (tgt := 2957) hC dL_law_1161 rfl ?_
  exact rw_L_law_L2957 hC hH hk23 v0 v1 v2 v3 v4 S h
theorem rw_L_law_L1155 {Y : rc_Y} (hC : rc_C Y cL_law RX0 ret 9) (hH : rc_H Y 20 419 "law") {k23 : Option Nat → Option Nat → Option Nat → Option Nat → Int32 → rc_M Int32} (hk23 : ∀ (v0 : Option Nat) (v1 : Option Nat) (v2 : Option Nat) (v3 : Option Nat) (v4 : Int32) (S : rc_S), rc_Go Y rc_tI (k23 v0 v1 v2 v3 v4) S → rc_Z Y S 23 [some (rc_q v0), some (rc_q v1), some (rc_q v2), some (rc_q v3), some (rc_i v4), none, none, none, none] []) (v0 : Option Nat) (v1 : Option Nat) (v2 : Option Nat) (v3 : Option Nat) (v4 : Int32) (s0 : Int64) (s1 : Int64) (S : rc_S) (h : rc_Go Y rc_tI (rp_L_law_L1155 k23 v0 v1 v2 v3 v4 s0 s1) S) : rc_Z Y S 1155 [some (rc_q v0), some (rc_q v1), some (rc_q v2), some (rc_q v3), some (rc_i v4), none, none, none, none] [rc_l s0, rc_l s1] := by
  unfold rp_L_law_L1155 at h
  refine rc_lcmp (pc := 1155) hC dL_law_1155 ?_
  refine rc_if_eq (pc := 1156) (tgt := 1161) hC dL_law_1156 rfl h ?_ ?_
  · intro _ h
    exact rw_L_law_L1161 hC hH hk23 v0 v1 v2 v3 v4 S h
  intro _ h
  refine rc_iconst (pc := 1159) hC (v := (0 : Int32)) dL_law_1159 rfl ?_
  exact rc_iret hC rfl rfl dL_law_1160 h rfl
theorem rw_L_law_L1121 {Y : rc_Y} (hC : rc_C Y cL_law RX0 ret 9) (hH : rc_H Y 20 419 "law") {k23 : Option Nat → Option Nat → Option Nat → Option Nat → Int32 → rc_M Int32} (hk23 : ∀ (v0 : Option Nat) (v1 : Option Nat) (v2 : Option Nat) (v3 : Option Nat) (v4 : Int32) (S : rc_S), rc_Go Y rc_tI (k23 v0 v1 v2 v3 v4) S → rc_Z Y S 23 [some (rc_q v0), some (rc_q v1), some (rc_q v2), some (rc_q v3), some (rc_i v4), none, none, none, none] []) (v0 : Option Nat) (v1 : Option Nat) (v2 : Option Nat) (v3 : Option Nat) (v4 : Int32) (v5 : Int32) (s0 : Int32) (s1 : Int32) (s2 : Option Nat) (S : rc_S) (h : rc_Go Y rc_tI (rp_L_law_L1121 k23 v0 v1 v2 v3 v4 v5 s0 s1 s2) S) : rc_Z Y S 1121 [some (rc_q v0), some (rc_q v1), some (rc_q v2), some (rc_q v3), some (rc_i v4), some (rc_i v5), none, none, none] [rc_i s0, rc_i s1, rc_q s2] := by
  unfold rp_L_law_L1121 at h
  obtain ⟨⟨he, hf⟩, h⟩ := h.isM
  refine rc_callM (pc := 1121) hC (As := [rc_i s1, rc_i s0]) (st := []) (rw_X9_vote hH.1 s1 s0) q2471 q2472 q2473 q149 q2474 rfl rd_X9_vote (hH.room (Nat.le_of_ble_eq_true rfl) (Nat.le_of_ble_eq_true rfl)) rfl rfl (Nat.le_of_ble_eq_true rfl) 2 rfl h.le.2.2 (Or.inr hf) h.br (by rw [he]; first | done | rfl) dL_law_1121 ?_ (fun E q S hT => rc_out hC hH.2.2.2.2 hT)
  intro x1 S h
  show rc_Z Y S 1124 [some (rc_q v0), some (rc_q v1), some (rc_q v2), some (rc_q v3), some (rc_i v4), some (rc_i v5), none, none, none] [rc_i x1]
  refine rc_istore (pc := 1124) hC (L' := [some (rc_q v0), some (rc_q v1), some (rc_q v2), some (rc_q v3), some (rc_i v4), some (rc_i v5), some (rc_i x1), none, none]) dL_law_1124 (Nat.le_of_ble_eq_true rfl) rfl rfl ?_
  refine rc_aload_n (pc := 1126) hC dL_law_1126 rfl rfl ?_
  obtain ⟨⟨he, hf⟩, h⟩ := h.isM
  refine rc_callM (pc := 1127) hC (As := []) (st := []) (rw_X9_thrown hH.1) q2376 q2377 q2378 q149 q2379 rfl rd_X9_thrown (hH.room (Nat.le_of_ble_eq_true rfl) (Nat.le_of_ble_eq_true rfl)) rfl rfl (Nat.le_of_ble_eq_true rfl) 0 rfl h.le.2.2 (Or.inr hf) h.br (by rw [he]; first | done | rfl) dL_law_1127 ?_ (fun E q S hT => rc_out hC hH.2.2.2.2 hT)
  intro x2 S h
  show rc_Z Y S 1130 [some (rc_q v0), some (rc_q v1), some (rc_q v2), some (rc_q v3), some (rc_i v4), some (rc_i v5), some (rc_i x1), none, none] [rc_i x2]
  refine rc_iload (pc := 1130) hC dL_law_1130 rfl ?_
  refine rc_icmp_eq (pc := 1132) (tgt := 1137) hC dL_law_1132 rfl h ?_ ?_
  · intro _ h
    refine rc_iload (pc := 1137) hC dL_law_1137 rfl ?_
    refine rc_if_ne (pc := 1139) (tgt := 1161) hC dL_law_1139 rfl h ?_ ?_
    · intro _ h
      refine rc_drop [true, true, true, true, true, false, false, false, false] (L' := [some (rc_q v0), some (rc_q v1), some (rc_q v2), some (rc_q v3), some (rc_i v4), none, none, none, none]) rfl ?_
      exact rw_L_law_L1161 hC hH hk23 v0 v1 v2 v3 v4 S h
    intro _ h
    refine rc_aload_n (pc := 1142) hC dL_law_1142 rfl rfl ?_
    refine rc_iconst (pc := 1143) hC (v := (0 : Int32)) dL_law_1143 rfl ?_
    refine rc_r_lald (pc := 1144) hC dL_law_1144 h ?_
    intro x3 h
    refine rc_iload (pc := 1145) hC dL_law_1145 rfl ?_
    refine rc_if_eq (pc := 1147) (tgt := 1154) hC dL_law_1147 rfl h ?_ ?_
    · intro _ h
      refine rc_lconst (pc := 1154) hC (v := (0 : Int64)) dL_law_1154 rfl ?_
      refine rc_drop [true, true, true, true, true, false, false, false, false] (L' := [some (rc_q v0), some (rc_q v1), some (rc_q v2), some (rc_q v3), some (rc_i v4), none, none, none, none]) rfl ?_
      exact rw_L_law_L1155 hC hH hk23 v0 v1 v2 v3 v4 (0 : Int64) x3 S h
    intro _ h
    refine rc_lconst (pc := 1150) hC (v := (1 : Int64)) dL_law_1150 rfl ?_
    refine rc_goto (pc := 1151) (tgt := 1155) hC dL_law_1151 rfl ?_
    refine rc_drop [true, true, true, true, true, false, false, false, false] (L' := [some (rc_q v0), some (rc_q v1), some (rc_q v2), some (rc_q v3), some (rc_i v4), none, none, none, none]) rfl ?_
    exact rw_L_law_L1155 hC hH hk23 v0 v1 v2 v3 v4 (1 : Int64) x3 S h
  intro _ h
  refine rc_iconst (pc := 1135) hC (v := (0 : Int32)) dL_law_1135 rfl ?_
  exact rc_iret hC rfl rfl dL_law_1136 h rfl
theorem rw_L_law_L1094 {Y : rc_Y} (hC : rc_C Y cL_law RX0 ret 9) (hH : rc_H Y 20 419 "law") {k23 : Option Nat → Option Nat → Option Nat → Option Nat → Int32 → rc_M Int32} (hk23 : ∀ (v0 : Option Nat) (v1 : Option Nat) (v2 : Option Nat) (v3 : Option Nat) (v4 : Int32) (S : rc_S), rc_Go Y rc_tI (k23 v0 v1 v2 v3 v4) S → rc_Z Y S 23 [some (rc_q v0), some (rc_q v1), some (rc_q v2), some (rc_q v3), some (rc_i v4), none, none, none, none] []) (v0 : Option Nat) (v1 : Option Nat) (v2 : Option Nat) (v3 : Option Nat) (v4 : Int32) (s0 : Int32) (s1 : Int32) (s2 : Option Nat) (S : rc_S) (h : rc_Go Y rc_tI (rp_L_law_L1094 k23 v0 v1 v2 v3 v4 s0 s1 s2) S) : rc_Z Y S 1094 [some (rc_q v0), some (rc_q v1), some (rc_q v2), some (rc_q v3), some (rc_i v4), none, none, none, none] [rc_i s0, rc_i s1, rc_q s2] := by
  unfold rp_L_law_L1094 at h
  refine rc_aload_n (pc := 1094) hC dL_law_1094 rfl rfl ?_
  refine rc_callSW (pc := 1095) hC (rw_X0_vote hH.1 s2 s1 s0 v3) q1782 q1783 q115 q1784 rd_X0_vote (hH.room (Nat.le_of_ble_eq_true rfl) (Nat.le_of_ble_eq_true rfl)) rfl rfl (Nat.le_of_ble_eq_true rfl) 4 rfl h.le.2.2 h.br rfl dL_law_1095 ?_ (fun E q S hT => rc_out hC hH.2.2.2.2 hT)
  intro x1 S h
  show rc_Z Y S 1098 [some (rc_q v0), some (rc_q v1), some (rc_q v2), some (rc_q v3), some (rc_i v4), none, none, none, none] [rc_i x1]
  refine rc_istore (pc := 1098) hC (L' := [some (rc_q v0), some (rc_q v1), some (rc_q v2), some (rc_q v3), some (rc_i v4), some (rc_i x1), none, none, none]) dL_law_1098 (Nat.le_of_ble_eq_true rfl) rfl rfl ?_
  refine rc_aload_n (pc := 1100) hC dL_law_1100 rfl rfl ?_
  refine rc_aload_n (pc := 1101) hC dL_law_1101 rfl rfl ?_
  refine rc_iload (pc := 1102) hC dL_law_1102 rfl ?_
  refine rc_iconst (pc := 1104) hC (v := (1 : Int32)) dL_law_1104 rfl ?_
  refine rc_iadd (pc := 1105) hC dL_law_1105 ?_
  refine rc_r_iald (pc := 1106) hC dL_law_1106 h ?_
  intro x2 h
  refine rc_aload_n (pc := 1107) hC dL_law_1107 rfl rfl ?_
  refine rc_iload (pc := 1108) hC dL_law_1108 rfl ?_
  refine rc_iconst (pc := 1110) hC (v := (2 : Int32)) dL_law_1110 rfl ?_
  refine rc_iadd (pc := 1111) hC dL_law_1111 ?_
  refine rc_r_iald (pc := 1112) hC dL_law_1112 h ?_
  intro x3 h
  refine rc_if_eq (pc := 1113) (tgt := 1120) hC dL_law_1113 rfl h ?_ ?_
  · intro _ h
    refine rc_iconst (pc := 1120) hC (v := (0 : Int32)) dL_law_1120 rfl ?_
    exact rw_L_law_L1121 hC hH hk23 v0 v1 v2 v3 v4 x1 (0 : Int32) x2 v2 S h
  intro _ h
  refine rc_iconst (pc := 1116) hC (v := (1 : Int32)) dL_law_1116 rfl ?_
  refine rc_goto (pc := 1117) (tgt := 1121) hC dL_law_1117 rfl ?_
  exact rw_L_law_L1121 hC hH hk23 v0 v1 v2 v3 v4 x1 (1 : Int32) x2 v2 S h
theorem rw_L_law_L1073 {Y : rc_Y} (hC : rc_C Y cL_law RX0 ret 9) (hH : rc_H Y 20 419 "law") {k23 : Option Nat → Option Nat → Option Nat → Option Nat → Int32 → rc_M Int32} (hk23 : ∀ (v0 : Option Nat) (v1 : Option Nat) (v2 : Option Nat) (v3 : Option Nat) (v4 : Int32) (S : rc_S), rc_Go Y rc_tI (k23 v0 v1 v2 v3 v4) S → rc_Z Y S 23 [some (rc_q v0), some (rc_q v1), some (rc_q v2), some (rc_q v3), some (rc_i v4), none, none, none, none] []) (v0 : Option Nat) (v1 : Option Nat) (v2 : Option Nat) (v3 : Option Nat) (v4 : Int32) (S : rc_S) (h : rc_Go Y rc_tI (rp_L_law_L1073 k23 v0 v1 v2 v3 v4) S) : rc_Z Y S 1073 [some (rc_q v0), some (rc_q v1), some (rc_q v2), some (rc_q v3), some (rc_i v4), none, none, none, none] [] := by
  unfold rp_L_law_L1073 at h
  refine rc_aload_n (pc := 1073) hC dL_law_1073 rfl rfl ?_
  refine rc_aload_n (pc := 1074) hC dL_law_1074 rfl rfl ?_
  refine rc_iload (pc := 1075) hC dL_law_1075 rfl ?_
  refine rc_iconst (pc := 1077) hC (v := (1 : Int32)) dL_law_1077 rfl ?_
  refine rc_iadd (pc := 1078) hC dL_law_1078 ?_
  refine rc_r_iald (pc := 1079) hC dL_law_1079 h ?_
  intro x1 h
  refine rc_aload_n (pc := 1080) hC dL_law_1080 rfl rfl ?_
  refine rc_iload (pc := 1081) hC dL_law_1081 rfl ?_
  refine rc_iconst (pc := 1083) hC (v := (2 : Int32)) dL_law_1083 rfl ?_
  refine rc_iadd (pc := 1084) hC dL_law_1084 ?_
  refine rc_r_iald (pc := 1085) hC dL_law_1085 h ?_
  intro x2 h
  refine rc_if_eq (pc := 1086) (tgt := 1093) hC dL_law_1086 rfl h ?_ ?_
  · intro _ h
    refine rc_iconst (pc := 1093) hC (v := (0 : Int32)) dL_law_1093 rfl ?_
    exact rw_L_law_L1094 hC hH hk23 v0 v1 v2 v3 v4 (0 : Int32) x1 v1 S h
  intro _ h
  refine rc_iconst (pc := 1089) hC (v := (1 : Int32)) dL_law_1089 rfl ?_
  refine rc_goto (pc := 1090) (tgt := 1094) hC dL_law_1090 rfl ?_
  exact rw_L_law_L1094 hC hH hk23 v0 v1 v2 v3 v4 (1 : Int32) x1 v1 S h
theorem rw_L_law_L1217 {Y : rc_Y} (hC : rc_C Y cL_law RX0 ret 9) (hH : rc_H Y 20 419 "law") {k23 : Option Nat → Option Nat → Option Nat → Option Nat → Int32 → rc_M Int32} (hk23 : ∀ (v0 : Option Nat) (v1 : Option Nat) (v2 : Option Nat) (v3 : Option Nat) (v4 : Int32) (S : rc_S), rc_Go Y rc_tI (k23 v0 v1 v2 v3 v4) S → rc_Z Y S 23 [some (rc_q v0), some (rc_q v1), some (rc_q v2), some (rc_q v3), some (rc_i v4), none, none, none, none] []) (v0 : Option Nat) (v1 : Option Nat) (v2 : Option Nat) (v3 : Option Nat) (v4 : Int32) (S : rc_S) (h : rc_Go Y rc_tI (rp_L_law_L1217 k23 v0 v1 v2 v3 v4) S) : rc_Z Y S 1217 [some (rc_q v0), some (rc_q v1), some (rc_q v2), some (rc_q v3), some (rc_i v4), none, none, none, none] [] := by
  unfold rp_L_law_L1217 at h
  refine rc_goto (pc := 1217) (tgt := 2957) hC dL_law_1217 rfl ?_
  exact rw_L_law_L2957 hC hH hk23 v0 v1 v2 v3 v4 S h
theorem rw_L_law_L1164 {Y : rc_Y} (hC : rc_C Y cL_law RX0 ret 9) (hH : rc_H Y 20 419 "law") {k23 : Option Nat → Option Nat → Option Nat → Option Nat → Int32 → rc_M Int32} (hk23 : ∀ (v0 : Option Nat) (v1 : Option Nat) (v2 : Option Nat) (v3 : Option Nat) (v4 : Int32) (S : rc_S), rc_Go Y rc_tI (k23 v0 v1 v2 v3 v4) S → rc_Z Y S 23 [some (rc_q v0), some (rc_q v1), some (rc_q v2), some (rc_q v3), some (rc_i v4), none, none, none, none] []) (v0 : Option Nat) (v1 : Option Nat) (v2 : Option Nat) (v3 : Option Nat) (v4 : Int32) (S : rc_S) (h : rc_Go Y rc_tI (rp_L_law_L1164 k23 v0 v1 v2 v3 v4) S) : rc_Z Y S 1164 [some (rc_q v0), some (rc_q v1), some (rc_q v2), some (rc_q v3), some (rc_i v4), none, none, none, none] [] := by
  unfold rp_L_law_L1164 at h
  refine rc_aload_n (pc := 1164) hC dL_law_1164 rfl rfl ?_
  refine rc_aload_n (pc := 1165) hC dL_law_1165 rfl rfl ?_
  refine rc_iload (pc := 1166) hC dL_law_1166 rfl ?_
  refine rc_iconst (pc := 1168) hC (v := (1 : Int32)) dL_law_1168 rfl ?_
  refine rc_iadd (pc := 1169) hC dL_law_1169 ?_
  refine rc_r_iald (pc := 1170) hC dL_law_1170 h ?_
  intro x1 h
  refine rc_aload_n (pc := 1171) hC dL_law_1171 rfl rfl ?_
  refine rc_callSW (pc := 1172) hC (rw_X0_passNights hH.1 v1 x1 v3) q1791 q1792 q115 q1793 rd_X0_passNights (hH.room (Nat.le_of_ble_eq_true rfl) (Nat.le_of_ble_eq_true rfl)) rfl rfl (Nat.le_of_ble_eq_true rfl) 3 rfl h.le.2.2 h.br rfl dL_law_1172 ?_ (fun E q S hT => rc_out hC hH.2.2.2.2 hT)
  intro x2 S h
  show rc_Z Y S 1175 [some (rc_q v0), some (rc_q v1), some (rc_q v2), some (rc_q v3), some (rc_i v4), none, none, none, none] [rc_i x2]
  refine rc_istore (pc := 1175) hC (L' := [some (rc_q v0), some (rc_q v1), some (rc_q v2), some (rc_q v3), some (rc_i v4), some (rc_i x2), none, none, none]) dL_law_1175 (Nat.le_of_ble_eq_true rfl) rfl rfl ?_
  refine rc_aload_n (pc := 1177) hC dL_law_1177 rfl rfl ?_
  refine rc_aload_n (pc := 1178) hC dL_law_1178 rfl rfl ?_
  refine rc_iload (pc := 1179) hC dL_law_1179 rfl ?_
  refine rc_iconst (pc := 1181) hC (v := (1 : Int32)) dL_law_1181 rfl ?_
  refine rc_iadd (pc := 1182) hC dL_law_1182 ?_
  refine rc_r_iald (pc := 1183) hC dL_law_1183 h ?_
  intro x3 h
  obtain ⟨⟨he, hf⟩, h⟩ := h.isM
  refine rc_callM (pc := 1184) hC (As := [rc_i x3]) (st := []) (rw_X9_passNights hH.1 x3) q2475 q2476 q2477 q149 q2478 rfl rd_X9_passNights (hH.room (Nat.le_of_ble_eq_true rfl) (Nat.le_of_ble_eq_true rfl)) rfl rfl (Nat.le_of_ble_eq_true rfl) 1 rfl h.le.2.2 (Or.inr hf) h.br (by rw [he]; first | done | rfl) dL_law_1184 ?_ (fun E q S hT => rc_out hC hH.2.2.2.2 hT)
  intro x4 S h
  show rc_Z Y S 1187 [some (rc_q v0), some (rc_q v1), some (rc_q v2), some (rc_q v3), some (rc_i v4), some (rc_i x2), none, none, none] [rc_i x4]
  refine rc_istore (pc := 1187) hC (L' := [some (rc_q v0), some (rc_q v1), some (rc_q v2), some (rc_q v3), some (rc_i v4), some (rc_i x2), some (rc_i x4), none, none]) dL_law_1187 (Nat.le_of_ble_eq_true rfl) rfl rfl ?_
  refine rc_aload_n (pc := 1189) hC dL_law_1189 rfl rfl ?_
  obtain ⟨⟨he, hf⟩, h⟩ := h.isM
  refine rc_callM (pc := 1190) hC (As := []) (st := []) (rw_X9_thrown hH.1) q2376 q2377 q2378 q149 q2379 rfl rd_X9_thrown (hH.room (Nat.le_of_ble_eq_true rfl) (Nat.le_of_ble_eq_true rfl)) rfl rfl (Nat.le_of_ble_eq_true rfl) 0 rfl h.le.2.2 (Or.inr hf) h.br (by rw [he]; first | done | rfl) dL_law_1190 ?_ (fun E q S hT => rc_out hC hH.2.2.2.2 hT)
  intro x5 S h
  show rc_Z Y S 1193 [some (rc_q v0), some (rc_q v1), some (rc_q v2), some (rc_q v3), some (rc_i v4), some (rc_i x2), some (rc_i x4), none, none] [rc_i x5]
  refine rc_iload (pc := 1193) hC dL_law_1193 rfl ?_
  refine rc_icmp_eq (pc := 1195) (tgt := 1200) hC dL_law_1195 rfl h ?_ ?_
  · intro _ h
    refine rc_iload (pc := 1200) hC dL_law_1200 rfl ?_
    refine rc_if_ne (pc := 1202) (tgt := 1217) hC dL_law_1202 rfl h ?_ ?_
    · intro _ h
      refine rc_drop [true, true, true, true, true, false, false, false, false] (L' := [some (rc_q v0), some (rc_q v1), some (rc_q v2), some (rc_q v3), some (rc_i v4), none, none, none, none]) rfl ?_
      exact rw_L_law_L1217 hC hH hk23 v0 v1 v2 v3 v4 S h
    intro _ h
    refine rc_aload_n (pc := 1205) hC dL_law_1205 rfl rfl ?_
    refine rc_iconst (pc := 1206) hC (v := (0 : Int32)) dL_law_1206 rfl ?_
    refine rc_r_lald (pc := 1207) hC dL_law_1207 h ?_
    intro x6 h
    refine rc_iload (pc := 1208) hC dL_law_1208 rfl ?_
    refine rc_i2l (pc := 1210) hC dL_law_1210 ?_
    refine rc_lcmp (pc := 1211) hC dL_law_1211 ?_
    refine rc_if_eq (pc := 1212) (tgt := 1217) hC dL_law_1212 rfl h ?_ ?_
    · intro _ h
      refine rc_drop [true, true, true, true, true, false, false, false, false] (L' := [some (rc_q v0), some (rc_q v1), some (rc_q v2), some (rc_q v3), some (rc_i v4), none, none, none, none]) rfl ?_
      exact rw_L_law_L1217 hC hH hk23 v0 v1 v2 v3 v4 S h
    intro _ h
    refine rc_iconst (pc := 1215) hC (v := (0 : Int32)) dL_law_1215 rfl ?_
    exact rc_iret hC rfl rfl dL_law_1216 h rfl
  intro _ h
  refine rc_iconst (pc := 1198) hC (v := (0 : Int32)) dL_law_1198 rfl ?_
  exact rc_iret hC rfl rfl dL_law_1199 h rfl
theorem rw_L_law_L1220 {Y : rc_Y} (hC : rc_C Y cL_law RX0 ret 9) (hH : rc_H Y 20 419 "law") {k23 : Option Nat → Option Nat → Option Nat → Option Nat → Int32 → rc_M Int32} (hk23 : ∀ (v0 : Option Nat) (v1 : Option Nat) (v2 : Option Nat) (v3 : Option Nat) (v4 : Int32) (S : rc_S), rc_Go Y rc_tI (k23 v0 v1 v2 v3 v4) S → rc_Z Y S 23 [some (rc_q v0), some (rc_q v1), some (rc_q v2), some (rc_q v3), some (rc_i v4), none, none, none, none] []) (v0 : Option Nat) (v1 : Option Nat) (v2 : Option Nat) (v3 : Option Nat) (v4 : Int32) (S : rc_S) (h : rc_Go Y rc_tI (rp_L_law_L1220 k23 v0 v1 v2 v3 v4) S) : rc_Z Y S 1220 [some (rc_q v0), some (rc_q v1), some (rc_q v2), some (rc_q v3), some (rc_i v4), none, none, none, none] [] := by
  unfold rp_L_law_L1220 at h
  refine rc_aload_n (pc := 1220) hC dL_law_1220 rfl rfl ?_
  obtain ⟨⟨fs, ho⟩, h⟩ := h.is
  refine rc_callV (pc := 1221) hC rfl ho (rw_X1_undo hH.1 v1) q1472 q1473 q1474 q116 q1475 rfl rd_X1_undo (hH.room (Nat.le_of_ble_eq_true rfl) (Nat.le_of_ble_eq_true rfl)) rfl rfl (Nat.le_of_ble_eq_true rfl) 0 rfl h.le.2.2 h.br rfl dL_law_1221 ?_ (fun E q S hT => rc_out hC hH.2.2.2.2 hT)
  intro x1 S h
  show rc_Z Y S 1224 [some (rc_q v0), some (rc_q v1), some (rc_q v2), some (rc_q v3), some (rc_i v4), none, none, none, none] [rc_i x1]
  refine rc_aload_n (pc := 1224) hC dL_law_1224 rfl rfl ?_
  obtain ⟨⟨he, hf⟩, h⟩ := h.isM
  refine rc_callM (pc := 1225) hC (As := []) (st := [rc_i x1]) (rw_X9_undo hH.1) q2479 q2480 q2481 q149 q2482 rfl rd_X9_undo (hH.room (Nat.le_of_ble_eq_true rfl) (Nat.le_of_ble_eq_true rfl)) rfl rfl (Nat.le_of_ble_eq_true rfl) 0 rfl h.le.2.2 (Or.inr hf) h.br (by rw [he]; first | done | rfl) dL_law_1225 ?_ (fun E q S hT => rc_out hC hH.2.2.2.2 hT)
  intro x2 S h
  show rc_Z Y S 1228 [some (rc_q v0), some (rc_q v1), some (rc_q v2), some (rc_q v3), some (rc_i v4), none, none, none, none] [rc_i x2, rc_i x1]
  refine rc_icmp_eq (pc := 1228) (tgt := 2957) hC dL_law_1228 rfl h ?_ ?_
  · intro _ h
    exact rw_L_law_L2957 hC hH hk23 v0 v1 v2 v3 v4 S h
  intro _ h
  refine rc_iconst (pc := 1231) hC (v := (0 : Int32)) dL_law_1231 rfl ?_
  exact rc_iret hC rfl rfl dL_law_1232 h rfl
theorem rw_L_law_L1233 {Y : rc_Y} (hC : rc_C Y cL_law RX0 ret 9) (hH : rc_H Y 20 419 "law") {k23 : Option Nat → Option Nat → Option Nat → Option Nat → Int32 → rc_M Int32} (hk23 : ∀ (v0 : Option Nat) (v1 : Option Nat) (v2 : Option Nat) (v3 : Option Nat) (v4 : Int32) (S : rc_S), rc_Go Y rc_tI (k23 v0 v1 v2 v3 v4) S → rc_Z Y S 23 [some (rc_q v0), some (rc_q v1), some (rc_q v2), some (rc_q v3), some (rc_i v4), none, none, none, none] []) (v0 : Option Nat) (v1 : Option Nat) (v2 : Option Nat) (v3 : Option Nat) (v4 : Int32) (S : rc_S) (h : rc_Go Y rc_tI (rp_L_law_L1233 k23 v0 v1 v2 v3 v4) S) : rc_Z Y S 1233 [some (rc_q v0), some (rc_q v1), some (rc_q v2), some (rc_q v3), some (rc_i v4), none, none, none, none] [] := by
  unfold rp_L_law_L1233 at h
  refine rc_aload_n (pc := 1233) hC dL_law_1233 rfl rfl ?_
  obtain ⟨⟨fs, ho⟩, h⟩ := h.is
  refine rc_callV (pc := 1234) hC rfl ho (rw_X1_undoCount hH.1 v1) q1492 q1493 q1494 q116 q1495 rfl rd_X1_undoCount (hH.room (Nat.le_of_ble_eq_true rfl) (Nat.le_of_ble_eq_true rfl)) rfl rfl (Nat.le_of_ble_eq_true rfl) 0 rfl h.le.2.2 h.br rfl dL_law_1234 ?_ (fun E q S hT => rc_out hC hH.2.2.2.2 hT)
  intro x1 S h
  show rc_Z Y S 1237 [some (rc_q v0), some (rc_q v1), some (rc_q v2), some (rc_q v3), some (rc_i v4), none, none, none, none] [rc_i x1]
  refine rc_aload_n (pc := 1237) hC dL_law_1237 rfl rfl ?_
  obtain ⟨⟨he, hf⟩, h⟩ := h.isM
  refine rc_callM (pc := 1238) hC (As := []) (st := [rc_i x1]) (rw_X9_undoCount hH.1) q2483 q2484 q2485 q149 q2486 rfl rd_X9_undoCount (hH.room (Nat.le_of_ble_eq_true rfl) (Nat.le_of_ble_eq_true rfl)) rfl rfl (Nat.le_of_ble_eq_true rfl) 0 rfl h.le.2.2 (Or.inr hf) h.br (by rw [he]; first | done | rfl) dL_law_1238 ?_ (fun E q S hT => rc_out hC hH.2.2.2.2 hT)
  intro x2 S h
  show rc_Z Y S 1241 [some (rc_q v0), some (rc_q v1), some (rc_q v2), some (rc_q v3), some (rc_i v4), none, none, none, none] [rc_i x2, rc_i x1]
  refine rc_icmp_eq (pc := 1241) (tgt := 2957) hC dL_law_1241 rfl h ?_ ?_
  · intro _ h
    exact rw_L_law_L2957 hC hH hk23 v0 v1 v2 v3 v4 S h
  intro _ h
  refine rc_iconst (pc := 1244) hC (v := (0 : Int32)) dL_law_1244 rfl ?_
  exact rc_iret hC rfl rfl dL_law_1245 h rfl
theorem rw_L_law_L1246 {Y : rc_Y} (hC : rc_C Y cL_law RX0 ret 9) (hH : rc_H Y 20 419 "law") {k23 : Option Nat → Option Nat → Option Nat → Option Nat → Int32 → rc_M Int32} (hk23 : ∀ (v0 : Option Nat) (v1 : Option Nat) (v2 : Option Nat) (v3 : Option Nat) (v4 : Int32) (S : rc_S), rc_Go Y rc_tI (k23 v0 v1 v2 v3 v4) S → rc_Z Y S 23 [some (rc_q v0), some (rc_q v1), some (rc_q v2), some (rc_q v3), some (rc_i v4), none, none, none, none] []) (v0 : Option Nat) (v1 : Option Nat) (v2 : Option Nat) (v3 : Option Nat) (v4 : Int32) (S : rc_S) (h : rc_Go Y rc_tI (rp_L_law_L1246 k23 v0 v1 v2 v3 v4) S) : rc_Z Y S 1246 [some (rc_q v0), some (rc_q v1), some (rc_q v2), some (rc_q v3), some (rc_i v4), none, none, none, none] [] := by
  unfold rp_L_law_L1246 at h
  refine rc_aload_n (pc := 1246) hC dL_law_1246 rfl rfl ?_
  obtain ⟨⟨fs, ho⟩, h⟩ := h.is
  refine rc_callV (pc := 1247) hC rfl ho (rw_X1_saveSnapshot hH.1 v1) q1496 q1497 q1498 q116 q1499 rfl rd_X1_saveSnapshot (hH.room (Nat.le_of_ble_eq_true rfl) (Nat.le_of_ble_eq_true rfl)) rfl rfl (Nat.le_of_ble_eq_true rfl) 0 rfl h.le.2.2 h.br rfl dL_law_1247 ?_ (fun E q S hT => rc_out hC hH.2.2.2.2 hT)
  intro x1 S h
  show rc_Z Y S 1250 [some (rc_q v0), some (rc_q v1), some (rc_q v2), some (rc_q v3), some (rc_i v4), none, none, none, none] [rc_i x1]
  refine rc_aload_n (pc := 1250) hC dL_law_1250 rfl rfl ?_
  obtain ⟨⟨he, hf⟩, h⟩ := h.isM
  refine rc_callM (pc := 1251) hC (As := []) (st := [rc_i x1]) (rw_X9_saveSnapshot hH.1) q2487 q2488 q2489 q149 q2490 rfl rd_X9_saveSnapshot (hH.room (Nat.le_of_ble_eq_true rfl) (Nat.le_of_ble_eq_true rfl)) rfl rfl (Nat.le_of_ble_eq_true rfl) 0 rfl h.le.2.2 (Or.inr hf) h.br (by rw [he]; first | done | rfl) dL_law_1251 ?_ (fun E q S hT => rc_out hC hH.2.2.2.2 hT)
  intro x2 S h
  show rc_Z Y S 1254 [some (rc_q v0), some (rc_q v1), some (rc_q v2), some (rc_q v3), some (rc_i v4), none, none, none, none] [rc_i x2, rc_i x1]
  refine rc_icmp_eq (pc := 1254) (tgt := 2957) hC dL_law_1254 rfl h ?_ ?_
  · intro _ h
    exact rw_L_law_L2957 hC hH hk23 v0 v1 v2 v3 v4 S h
  intro _ h
  refine rc_iconst (pc := 1257) hC (v := (0 : Int32)) dL_law_1257 rfl ?_
  exact rc_iret hC rfl rfl dL_law_1258 h rfl
theorem rw_L_law_L1300 {Y : rc_Y} (hC : rc_C Y cL_law RX0 ret 9) (hH : rc_H Y 20 419 "law") {k23 : Option Nat → Option Nat → Option Nat → Option Nat → Int32 → rc_M Int32} (hk23 : ∀ (v0 : Option Nat) (v1 : Option Nat) (v2 : Option Nat) (v3 : Option Nat) (v4 : Int32) (S : rc_S), rc_Go Y rc_tI (k23 v0 v1 v2 v3 v4) S → rc_Z Y S 23 [some (rc_q v0), some (rc_q v1), some (rc_q v2), some (rc_q v3), some (rc_i v4), none, none, none, none] []) (v0 : Option Nat) (v1 : Option Nat) (v2 : Option Nat) (v3 : Option Nat) (v4 : Int32) (S : rc_S) (h : rc_Go Y rc_tI (rp_L_law_L1300 k23 v0 v1 v2 v3 v4) S) : rc_Z Y S 1300 [some (rc_q v0), some (rc_q v1), some (rc_q v2), some (rc_q v3), some (rc_i v4), none, none, none, none] [] := by
  unfold rp_L_law_L1300 at h
  refine rc_goto (pc := 1300) (tgt := 2957) hC dL_law_1300 rfl ?_
  exact rw_L_law_L2957 hC hH hk23 v0 v1 v2 v3 v4 S h
theorem rw_L_law_L1259 {Y : rc_Y} (hC : rc_C Y cL_law RX0 ret 9) (hH : rc_H Y 20 419 "law") {k23 : Option Nat → Option Nat → Option Nat → Option Nat → Int32 → rc_M Int32} (hk23 : ∀ (v0 : Option Nat) (v1 : Option Nat) (v2 : Option Nat) (v3 : Option Nat) (v4 : Int32) (S : rc_S), rc_Go Y rc_tI (k23 v0 v1 v2 v3 v4) S → rc_Z Y S 23 [some (rc_q v0), some (rc_q v1), some (rc_q v2), some (rc_q v3), some (rc_i v4), none, none, none, none] []) (v0 : Option Nat) (v1 : Option Nat) (v2 : Option Nat) (v3 : Option Nat) (v4 : Int32) (S : rc_S) (h : rc_Go Y rc_tI (rp_L_law_L1259 k23 v0 v1 v2 v3 v4) S) : rc_Z Y S 1259 [some (rc_q v0), some (rc_q v1), some (rc_q v2), some (rc_q v3), some (rc_i v4), none, none, none, none] [] := by
  unfold rp_L_law_L1259 at h
  refine rc_aload_n (pc := 1259) hC dL_law_1259 rfl rfl ?_
  refine rc_aload_n (pc := 1260) hC dL_law_1260 rfl rfl ?_
  refine rc_callSW (pc := 1261) hC (rw_X0_restoreSnapshot hH.1 v1 v3) q1799 q1800 q115 q1801 rd_X0_restoreSnapshot (hH.room (Nat.le_of_ble_eq_true rfl) (Nat.le_of_ble_eq_true rfl)) rfl rfl (Nat.le_of_ble_eq_true rfl) 2 rfl h.le.2.2 h.br rfl dL_law_1261 ?_ (fun E q S hT => rc_out hC hH.2.2.2.2 hT)
  intro x1 S h
  show rc_Z Y S 1264 [some (rc_q v0), some (rc_q v1), some (rc_q v2), some (rc_q v3), some (rc_i v4), none, none, none, none] [rc_i x1]
  refine rc_istore (pc := 1264) hC (L' := [some (rc_q v0), some (rc_q v1), some (rc_q v2), some (rc_q v3), some (rc_i v4), some (rc_i x1), none, none, none]) dL_law_1264 (Nat.le_of_ble_eq_true rfl) rfl rfl ?_
  refine rc_aload_n (pc := 1266) hC dL_law_1266 rfl rfl ?_
  obtain ⟨⟨he, hf⟩, h⟩ := h.isM
  refine rc_callM (pc := 1267) hC (As := []) (st := []) (rw_X9_restoreSnapshot hH.1) q2491 q2492 q2493 q149 q2494 rfl rd_X9_restoreSnapshot (hH.room (Nat.le_of_ble_eq_true rfl) (Nat.le_of_ble_eq_true rfl)) rfl rfl (Nat.le_of_ble_eq_true rfl) 0 rfl h.le.2.2 (Or.inr hf) h.br (by rw [he]; first | done | rfl) dL_law_1267 ?_ (fun E q S hT => rc_out hC hH.2.2.2.2 hT)
  intro x2 S h
  show rc_Z Y S 1270 [some (rc_q v0), some (rc_q v1), some (rc_q v2), some (rc_q v3), some (rc_i v4), some (rc_i x1), none, none, none] [rc_i x2]
  refine rc_istore (pc := 1270) hC (L' := [some (rc_q v0), some (rc_q v1), some (rc_q v2), some (rc_q v3), some (rc_i v4), some (rc_i x1), some (rc_i x2), none, none]) dL_law_1270 (Nat.le_of_ble_eq_true rfl) rfl rfl ?_
  refine rc_aload_n (pc := 1272) hC dL_law_1272 rfl rfl ?_
  obtain ⟨⟨he, hf⟩, h⟩ := h.isM
  refine rc_callM (pc := 1273) hC (As := []) (st := []) (rw_X9_thrown hH.1) q2376 q2377 q2378 q149 q2379 rfl rd_X9_thrown (hH.room (Nat.le_of_ble_eq_true rfl) (Nat.le_of_ble_eq_true rfl)) rfl rfl (Nat.le_of_ble_eq_true rfl) 0 rfl h.le.2.2 (Or.inr hf) h.br (by rw [he]; first | done | rfl) dL_law_1273 ?_ (fun E q S hT => rc_out hC hH.2.2.2.2 hT)
  intro x3 S h
  show rc_Z Y S 1276 [some (rc_q v0), some (rc_q v1), some (rc_q v2), some (rc_q v3), some (rc_i v4), some (rc_i x1), some (rc_i x2), none, none] [rc_i x3]
  refine rc_iload (pc := 1276) hC dL_law_1276 rfl ?_
  refine rc_icmp_eq (pc := 1278) (tgt := 1283) hC dL_law_1278 rfl h ?_ ?_
  · intro _ h
    refine rc_iload (pc := 1283) hC dL_law_1283 rfl ?_
    refine rc_if_ne (pc := 1285) (tgt := 1300) hC dL_law_1285 rfl h ?_ ?_
    · intro _ h
      refine rc_drop [true, true, true, true, true, false, false, false, false] (L' := [some (rc_q v0), some (rc_q v1), some (rc_q v2), some (rc_q v3), some (rc_i v4), none, none, none, none]) rfl ?_
      exact rw_L_law_L1300 hC hH hk23 v0 v1 v2 v3 v4 S h
    intro _ h
    refine rc_aload_n (pc := 1288) hC dL_law_1288 rfl rfl ?_
    refine rc_iconst (pc := 1289) hC (v := (0 : Int32)) dL_law_1289 rfl ?_
    refine rc_r_lald (pc := 1290) hC dL_law_1290 h ?_
    intro x4 h
    refine rc_iload (pc := 1291) hC dL_law_1291 rfl ?_
    refine rc_i2l (pc := 1293) hC dL_law_1293 ?_
    refine rc_lcmp (pc := 1294) hC dL_law_1294 ?_
    refine rc_if_eq (pc := 1295) (tgt := 1300) hC dL_law_1295 rfl h ?_ ?_
    · intro _ h
      refine rc_drop [true, true, true, true, true, false, false, false, false] (L' := [some (rc_q v0), some (rc_q v1), some (rc_q v2), some (rc_q v3), some (rc_i v4), none, none, none, none]) rfl ?_
      exact rw_L_law_L1300 hC hH hk23 v0 v1 v2 v3 v4 S h
    intro _ h
    refine rc_iconst (pc := 1298) hC (v := (0 : Int32)) dL_law_1298 rfl ?_
    exact rc_iret hC rfl rfl dL_law_1299 h rfl
  intro _ h
  refine rc_iconst (pc := 1281) hC (v := (0 : Int32)) dL_law_1281 rfl ?_
  exact rc_iret hC rfl rfl dL_law_1282 h rfl
theorem rw_L_law_L1303 {Y : rc_Y} (hC : rc_C Y cL_law RX0 ret 9) (hH : rc_H Y 20 419 "law") {k23 : Option Nat → Option Nat → Option Nat → Option Nat → Int32 → rc_M Int32} (hk23 : ∀ (v0 : Option Nat) (v1 : Option Nat) (v2 : Option Nat) (v3 : Option Nat) (v4 : Int32) (S : rc_S), rc_Go Y rc_tI (k23 v0 v1 v2 v3 v4) S → rc_Z Y S 23 [some (rc_q v0), some (rc_q v1), some (rc_q v2), some (rc_q v3), some (rc_i v4), none, none, none, none] []) (v0 : Option Nat) (v1 : Option Nat) (v2 : Option Nat) (v3 : Option Nat) (v4 : Int32) (S : rc_S) (h : rc_Go Y rc_tI (rp_L_law_L1303 k23 v0 v1 v2 v3 v4) S) : rc_Z Y S 1303 [some (rc_q v0), some (rc_q v1), some (rc_q v2), some (rc_q v3), some (rc_i v4), none, none, none, none] [] := by
  unfold rp_L_law_L1303 at h
  refine rc_aload_n (pc := 1303) hC dL_law_1303 rfl rfl ?_
  obtain ⟨⟨fs, ho⟩, h⟩ := h.is
  refine rc_callV (pc := 1304) hC rfl ho (rw_X1_scriptErrorKind hH.1 v1) q1500 q1501 q1502 q116 q1503 rfl rd_X1_scriptErrorKind (hH.room (Nat.le_of_ble_eq_true rfl) (Nat.le_of_ble_eq_true rfl)) rfl rfl (Nat.le_of_ble_eq_true rfl) 0 rfl h.le.2.2 h.br rfl dL_law_1304 ?_ (fun E q S hT => rc_out hC hH.2.2.2.2 hT)
  intro x1 S h
  show rc_Z Y S 1307 [some (rc_q v0), some (rc_q v1), some (rc_q v2), some (rc_q v3), some (rc_i v4), none, none, none, none] [rc_i x1]
  refine rc_aload_n (pc := 1307) hC dL_law_1307 rfl rfl ?_
  obtain ⟨⟨he, hf⟩, h⟩ := h.isM
  refine rc_callM (pc := 1308) hC (As := []) (st := [rc_i x1]) (rw_X9_scriptErrorKind hH.1) q2495 q2496 q2497 q149 q2498 rfl rd_X9_scriptErrorKind (hH.room (Nat.le_of_ble_eq_true rfl) (Nat.le_of_ble_eq_true rfl)) rfl rfl (Nat.le_of_ble_eq_true rfl) 0 rfl h.le.2.2 (Or.inr hf) h.br (by rw [he]; first | done | rfl) dL_law_1308 ?_ (fun E q S hT => rc_out hC hH.2.2.2.2 hT)
  intro x2 S h
  show rc_Z Y S 1311 [some (rc_q v0), some (rc_q v1), some (rc_q v2), some (rc_q v3), some (rc_i v4), none, none, none, none] [rc_i x2, rc_i x1]
  refine rc_icmp_eq (pc := 1311) (tgt := 2957) hC dL_law_1311 rfl h ?_ ?_
  · intro _ h
    exact rw_L_law_L2957 hC hH hk23 v0 v1 v2 v3 v4 S h
  intro _ h
  refine rc_iconst (pc := 1314) hC (v := (0 : Int32)) dL_law_1314 rfl ?_
  exact rc_iret hC rfl rfl dL_law_1315 h rfl
theorem rw_L_law_L1316 {Y : rc_Y} (hC : rc_C Y cL_law RX0 ret 9) (hH : rc_H Y 20 419 "law") {k23 : Option Nat → Option Nat → Option Nat → Option Nat → Int32 → rc_M Int32} (hk23 : ∀ (v0 : Option Nat) (v1 : Option Nat) (v2 : Option Nat) (v3 : Option Nat) (v4 : Int32) (S : rc_S), rc_Go Y rc_tI (k23 v0 v1 v2 v3 v4) S → rc_Z Y S 23 [some (rc_q v0), some (rc_q v1), some (rc_q v2), some (rc_q v3), some (rc_i v4), none, none, none, none] []) (v0 : Option Nat) (v1 : Option Nat) (v2 : Option Nat) (v3 : Option Nat) (v4 : Int32) (S : rc_S) (h : rc_Go Y rc_tI (rp_L_law_L1316 k23 v0 v1 v2 v3 v4) S) : rc_Z Y S 1316 [some (rc_q v0), some (rc_q v1), some (rc_q v2), some (rc_q v3), some (rc_i v4), none, none, none, none] [] := by
  unfold rp_L_law_L1316 at h
  refine rc_aload_n (pc := 1316) hC dL_law_1316 rfl rfl ?_
  obtain ⟨⟨fs, ho⟩, h⟩ := h.is
  refine rc_callV (pc := 1317) hC rfl ho (rw_X1_scriptErrorOffset hH.1 v1) q1504 q1505 q1506 q116 q1507 rfl rd_X1_scriptErrorOffset (hH.room (Nat.le_of_ble_eq_true rfl) (Nat.le_of_ble_eq_true rfl)) rfl rfl (Nat.le_of_ble_eq_true rfl) 0 rfl h.le.2.2 h.br rfl dL_law_1317 ?_ (fun E q S hT => rc_out hC hH.2.2.2.2 hT)
  intro x1 S h
  show rc_Z Y S 1320 [some (rc_q v0), some (rc_q v1), some (rc_q v2), some (rc_q v3), some (rc_i v4), none, none, none, none] [rc_i x1]
  refine rc_aload_n (pc := 1320) hC dL_law_1320 rfl rfl ?_
  obtain ⟨⟨he, hf⟩, h⟩ := h.isM
  refine rc_callM (pc := 1321) hC (As := []) (st := [rc_i x1]) (rw_X9_scriptErrorOffset hH.1) q2499 q2500 q2501 q149 q2502 rfl rd_X9_scriptErrorOffset (hH.room (Nat.le_of_ble_eq_true rfl) (Nat.le_of_ble_eq_true rfl)) rfl rfl (Nat.le_of_ble_eq_true rfl) 0 rfl h.le.2.2 (Or.inr hf) h.br (by rw [he]; first | done | rfl) dL_law_1321 ?_ (fun E q S hT => rc_out hC hH.2.2.2.2 hT)
  intro x2 S h
  show rc_Z Y S 1324 [some (rc_q v0), some (rc_q v1), some (rc_q v2), some (rc_q v3), some (rc_i v4), none, none, none, none] [rc_i x2, rc_i x1]
  refine rc_icmp_eq (pc := 1324) (tgt := 2957) hC dL_law_1324 rfl h ?_ ?_
  · intro _ h
    exact rw_L_law_L2957 hC hH hk23 v0 v1 v2 v3 v4 S h
  intro _ h
  refine rc_iconst (pc := 1327) hC (v := (0 : Int32)) dL_law_1327 rfl ?_
  exact rc_iret hC rfl rfl dL_law_1328 h rfl
theorem rw_L_law_L1329 {Y : rc_Y} (hC : rc_C Y cL_law RX0 ret 9) (hH : rc_H Y 20 419 "law") {k23 : Option Nat → Option Nat → Option Nat → Option Nat → Int32 → rc_M Int32} (hk23 : ∀ (v0 : Option Nat) (v1 : Option Nat) (v2 : Option Nat) (v3 : Option Nat) (v4 : Int32) (S : rc_S), rc_Go Y rc_tI (k23 v0 v1 v2 v3 v4) S → rc_Z Y S 23 [some (rc_q v0), some (rc_q v1), some (rc_q v2), some (rc_q v3), some (rc_i v4), none, none, none, none] []) (v0 : Option Nat) (v1 : Option Nat) (v2 : Option Nat) (v3 : Option Nat) (v4 : Int32) (S : rc_S) (h : rc_Go Y rc_tI (rp_L_law_L1329 k23 v0 v1 v2 v3 v4) S) : rc_Z Y S 1329 [some (rc_q v0), some (rc_q v1), some (rc_q v2), some (rc_q v3), some (rc_i v4), none, none, none, none] [] := by
  unfold rp_L_law_L1329 at h
  refine rc_aload_n (pc := 1329) hC dL_law_1329 rfl rfl ?_
  obtain ⟨⟨fs, ho⟩, h⟩ := h.is
  refine rc_callV (pc := 1330) hC rfl ho (rw_X1_chimneyCount hH.1 v1) q1508 q1509 q1510 q116 q1511 rfl rd_X1_chimneyCount (hH.room (Nat.le_of_ble_eq_true rfl) (Nat.le_of_ble_eq_true rfl)) rfl rfl (Nat.le_of_ble_eq_true rfl) 0 rfl h.le.2.2 h.br rfl dL_law_1330 ?_ (fun E q S hT => rc_out hC hH.2.2.2.2 hT)
  intro x1 S h
  show rc_Z Y S 1333 [some (rc_q v0), some (rc_q v1), some (rc_q v2), some (rc_q v3), some (rc_i v4), none, none, none, none] [rc_i x1]
  refine rc_aload_n (pc := 1333) hC dL_law_1333 rfl rfl ?_
  obtain ⟨⟨he, hf⟩, h⟩ := h.isM
  refine rc_callM (pc := 1334) hC (As := []) (st := [rc_i x1]) (rw_X9_chimneyCount hH.1) q2503 q2504 q2505 q149 q2506 rfl rd_X9_chimneyCount (hH.room (Nat.le_of_ble_eq_true rfl) (Nat.le_of_ble_eq_true rfl)) rfl rfl (Nat.le_of_ble_eq_true rfl) 0 rfl h.le.2.2 (Or.inr hf) h.br (by rw [he]; first | done | rfl) dL_law_1334 ?_ (fun E q S hT => rc_out hC hH.2.2.2.2 hT)
  intro x2 S h
  show rc_Z Y S 1337 [some (rc_q v0), some (rc_q v1), some (rc_q v2), some (rc_q v3), some (rc_i v4), none, none, none, none] [rc_i x2, rc_i x1]
  refine rc_icmp_eq (pc := 1337) (tgt := 2957) hC dL_law_1337 rfl h ?_ ?_
  · intro _ h
    exact rw_L_law_L2957 hC hH hk23 v0 v1 v2 v3 v4 S h
  intro _ h
  refine rc_iconst (pc := 1340) hC (v := (0 : Int32)) dL_law_1340 rfl ?_
  exact rc_iret hC rfl rfl dL_law_1341 h rfl
theorem rw_L_law_L1342 {Y : rc_Y} (hC : rc_C Y cL_law RX0 ret 9) (hH : rc_H Y 20 419 "law") {k23 : Option Nat → Option Nat → Option Nat → Option Nat → Int32 → rc_M Int32} (hk23 : ∀ (v0 : Option Nat) (v1 : Option Nat) (v2 : Option Nat) (v3 : Option Nat) (v4 : Int32) (S : rc_S), rc_Go Y rc_tI (k23 v0 v1 v2 v3 v4) S → rc_Z Y S 23 [some (rc_q v0), some (rc_q v1), some (rc_q v2), some (rc_q v3), some (rc_i v4), none, none, none, none] []) (v0 : Option Nat) (v1 : Option Nat) (v2 : Option Nat) (v3 : Option Nat) (v4 : Int32) (S : rc_S) (h : rc_Go Y rc_tI (rp_L_law_L1342 k23 v0 v1 v2 v3 v4) S) : rc_Z Y S 1342 [some (rc_q v0), some (rc_q v1), some (rc_q v2), some (rc_q v3), some (rc_i v4), none, none, none, none] [] := by
  unfold rp_L_law_L1342 at h
  refine rc_aload_n (pc := 1342) hC dL_law_1342 rfl rfl ?_
  obtain ⟨⟨fs, ho⟩, h⟩ := h.is
  refine rc_callV (pc := 1343) hC rfl ho (rw_X1_gutterCount hH.1 v1) q1512 q1513 q1514 q116 q1515 rfl rd_X1_gutterCount (hH.room (Nat.le_of_ble_eq_true rfl) (Nat.le_of_ble_eq_true rfl)) rfl rfl (Nat.le_of_ble_eq_true rfl) 0 rfl h.le.2.2 h.br rfl dL_law_1343 ?_ (fun E q S hT => rc_out hC hH.2.2.2.2 hT)
  intro x1 S h
  show rc_Z Y S 1346 [some (rc_q v0), some (rc_q v1), some (rc_q v2), some (rc_q v3), some (rc_i v4), none, none, none, none] [rc_i x1]
  refine rc_aload_n (pc := 1346) hC dL_law_1346 rfl rfl ?_
  obtain ⟨⟨he, hf⟩, h⟩ := h.isM
  refine rc_callM (pc := 1347) hC (As := []) (st := [rc_i x1]) (rw_X9_gutterCount hH.1) q2511 q2512 q2513 q149 q2514 rfl rd_X9_gutterCount (hH.room (Nat.le_of_ble_eq_true rfl) (Nat.le_of_ble_eq_true rfl)) rfl rfl (Nat.le_of_ble_eq_true rfl) 0 rfl h.le.2.2 (Or.inr hf) h.br (by rw [he]; first | done | rfl) dL_law_1347 ?_ (fun E q S hT => rc_out hC hH.2.2.2.2 hT)
  intro x2 S h
  show rc_Z Y S 1350 [some (rc_q v0), some (rc_q v1), some (rc_q v2), some (rc_q v3), some (rc_i v4), none, none, none, none] [rc_i x2, rc_i x1]
  refine rc_icmp_eq (pc := 1350) (tgt := 2957) hC dL_law_1350 rfl h ?_ ?_
  · intro _ h
    exact rw_L_law_L2957 hC hH hk23 v0 v1 v2 v3 v4 S h
  intro _ h
  refine rc_iconst (pc := 1353) hC (v := (0 : Int32)) dL_law_1353 rfl ?_
  exact rc_iret hC rfl rfl dL_law_1354 h rfl
theorem rw_L_law_L1355 {Y : rc_Y} (hC : rc_C Y cL_law RX0 ret 9) (hH : rc_H Y 20 419 "law") {k23 : Option Nat → Option Nat → Option Nat → Option Nat → Int32 → rc_M Int32} (hk23 : ∀ (v0 : Option Nat) (v1 : Option Nat) (v2 : Option Nat) (v3 : Option Nat) (v4 : Int32) (S : rc_S), rc_Go Y rc_tI (k23 v0 v1 v2 v3 v4) S → rc_Z Y S 23 [some (rc_q v0), some (rc_q v1), some (rc_q v2), some (rc_q v3), some (rc_i v4), none, none, none, none] []) (v0 : Option Nat) (v1 : Option Nat) (v2 : Option Nat) (v3 : Option Nat) (v4 : Int32) (S : rc_S) (h : rc_Go Y rc_tI (rp_L_law_L1355 k23 v0 v1 v2 v3 v4) S) : rc_Z Y S 1355 [some (rc_q v0), some (rc_q v1), some (rc_q v2), some (rc_q v3), some (rc_i v4), none, none, none, none] [] := by
  unfold rp_L_law_L1355 at h
  refine rc_aload_n (pc := 1355) hC dL_law_1355 rfl rfl ?_
  obtain ⟨⟨fs, ho⟩, h⟩ := h.is
  refine rc_callV (pc := 1356) hC rfl ho (rw_X1_catCount hH.1 v1) q1516 q1517 q1518 q116 q1519 rfl rd_X1_catCount (hH.room (Nat.le_of_ble_eq_true rfl) (Nat.le_of_ble_eq_true rfl)) rfl rfl (Nat.le_of_ble_eq_true rfl) 0 rfl h.le.2.2 h.br rfl dL_law_1356 ?_ (fun E q S hT => rc_out hC hH.2.2.2.2 hT)
  intro x1 S h
  show rc_Z Y S 1359 [some (rc_q v0), some (rc_q v1), some (rc_q v2), some (rc_q v3), some (rc_i v4), none, none, none, none] [rc_i x1]
  refine rc_aload_n (pc := 1359) hC dL_law_1359 rfl rfl ?_
  obtain ⟨⟨he, hf⟩, h⟩ := h.isM
  refine rc_callM (pc := 1360) hC (As := []) (st := [rc_i x1]) (rw_X9_catCount hH.1) q2515 q2516 q2517 q149 q2518 rfl rd_X9_catCount (hH.room (Nat.le_of_ble_eq_true rfl) (Nat.le_of_ble_eq_true rfl)) rfl rfl (Nat.le_of_ble_eq_true rfl) 0 rfl h.le.2.2 (Or.inr hf) h.br (by rw [he]; first | done | rfl) dL_law_1360 ?_ (fun E q S hT => rc_out hC hH.2.2.2.2 hT)
  intro x2 S h
  show rc_Z Y S 1363 [some (rc_q v0), some (rc_q v1), some (rc_q v2), some (rc_q v3), some (rc_i v4), none, none, none, none] [rc_i x2, rc_i x1]
  refine rc_icmp_eq (pc := 1363) (tgt := 2957) hC dL_law_1363 rfl h ?_ ?_
  · intro _ h
    exact rw_L_law_L2957 hC hH hk23 v0 v1 v2 v3 v4 S h
  intro _ h
  refine rc_iconst (pc := 1366) hC (v := (0 : Int32)) dL_law_1366 rfl ?_
  exact rc_iret hC rfl rfl dL_law_1367 h rfl
theorem rw_L_law_L1368 {Y : rc_Y} (hC : rc_C Y cL_law RX0 ret 9) (hH : rc_H Y 20 419 "law") {k23 : Option Nat → Option Nat → Option Nat → Option Nat → Int32 → rc_M Int32} (hk23 : ∀ (v0 : Option Nat) (v1 : Option Nat) (v2 : Option Nat) (v3 : Option Nat) (v4 : Int32) (S : rc_S), rc_Go Y rc_tI (k23 v0 v1 v2 v3 v4) S → rc_Z Y S 23 [some (rc_q v0), some (rc_q v1), some (rc_q v2), some (rc_q v3), some (rc_i v4), none, none, none, none] []) (v0 : Option Nat) (v1 : Option Nat) (v2 : Option Nat) (v3 : Option Nat) (v4 : Int32) (S : rc_S) (h : rc_Go Y rc_tI (rp_L_law_L1368 k23 v0 v1 v2 v3 v4) S) : rc_Z Y S 1368 [some (rc_q v0), some (rc_q v1), some (rc_q v2), some (rc_q v3), some (rc_i v4), none, none, none, none] [] := by
  unfold rp_L_law_L1368 at h
  refine rc_aload_n (pc := 1368) hC dL_law_1368 rfl rfl ?_
  obtain ⟨⟨fs, ho⟩, h⟩ := h.is
  refine rc_callV (pc := 1369) hC rfl ho (rw_X1_night hH.1 v1) q1520 q1521 q1522 q116 q1523 rfl rd_X1_night (hH.room (Nat.le_of_ble_eq_true rfl) (Nat.le_of_ble_eq_true rfl)) rfl rfl (Nat.le_of_ble_eq_true rfl) 0 rfl h.le.2.2 h.br rfl dL_law_1369 ?_ (fun E q S hT => rc_out hC hH.2.2.2.2 hT)
  intro x1 S h
  show rc_Z Y S 1372 [some (rc_q v0), some (rc_q v1), some (rc_q v2), some (rc_q v3), some (rc_i v4), none, none, none, none] [rc_i x1]
  refine rc_aload_n (pc := 1372) hC dL_law_1372 rfl rfl ?_
  obtain ⟨⟨he, hf⟩, h⟩ := h.isM
  refine rc_callM (pc := 1373) hC (As := []) (st := [rc_i x1]) (rw_X9_night hH.1) q2519 q2520 q2521 q149 q2522 rfl rd_X9_night (hH.room (Nat.le_of_ble_eq_true rfl) (Nat.le_of_ble_eq_true rfl)) rfl rfl (Nat.le_of_ble_eq_true rfl) 0 rfl h.le.2.2 (Or.inr hf) h.br (by rw [he]; first | done | rfl) dL_law_1373 ?_ (fun E q S hT => rc_out hC hH.2.2.2.2 hT)
  intro x2 S h
  show rc_Z Y S 1376 [some (rc_q v0), some (rc_q v1), some (rc_q v2), some (rc_q v3), some (rc_i v4), none, none, none, none] [rc_i x2, rc_i x1]
  refine rc_icmp_eq (pc := 1376) (tgt := 2957) hC dL_law_1376 rfl h ?_ ?_
  · intro _ h
    exact rw_L_law_L2957 hC hH hk23 v0 v1 v2 v3 v4 S h
  intro _ h
  refine rc_iconst (pc := 1379) hC (v := (0 : Int32)) dL_law_1379 rfl ?_
  exact rc_iret hC rfl rfl dL_law_1380 h rfl
theorem rw_L_law_L1381 {Y : rc_Y} (hC : rc_C Y cL_law RX0 ret 9) (hH : rc_H Y 20 419 "law") {k23 : Option Nat → Option Nat → Option Nat → Option Nat → Int32 → rc_M Int32} (hk23 : ∀ (v0 : Option Nat) (v1 : Option Nat) (v2 : Option Nat) (v3 : Option Nat) (v4 : Int32) (S : rc_S), rc_Go Y rc_tI (k23 v0 v1 v2 v3 v4) S → rc_Z Y S 23 [some (rc_q v0), some (rc_q v1), some (rc_q v2), some (rc_q v3), some (rc_i v4), none, none, none, none] []) (v0 : Option Nat) (v1 : Option Nat) (v2 : Option Nat) (v3 : Option Nat) (v4 : Int32) (S : rc_S) (h : rc_Go Y rc_tI (rp_L_law_L1381 k23 v0 v1 v2 v3 v4) S) : rc_Z Y S 1381 [some (rc_q v0), some (rc_q v1), some (rc_q v2), some (rc_q v3), some (rc_i v4), none, none, none, none] [] := by
  unfold rp_L_law_L1381 at h
  refine rc_aload_n (pc := 1381) hC dL_law_1381 rfl rfl ?_
  obtain ⟨⟨fs, ho⟩, h⟩ := h.is
  refine rc_callV (pc := 1382) hC rfl ho (rw_X1_moonPhase hH.1 v1) q1524 q1525 q1526 q116 q1527 rfl rd_X1_moonPhase (hH.room (Nat.le_of_ble_eq_true rfl) (Nat.le_of_ble_eq_true rfl)) rfl rfl (Nat.le_of_ble_eq_true rfl) 0 rfl h.le.2.2 h.br rfl dL_law_1382 ?_ (fun E q S hT => rc_out hC hH.2.2.2.2 hT)
  intro x1 S h
  show rc_Z Y S 1385 [some (rc_q v0), some (rc_q v1), some (rc_q v2), some (rc_q v3), some (rc_i v4), none, none, none, none] [rc_i x1]
  refine rc_aload_n (pc := 1385) hC dL_law_1385 rfl rfl ?_
  obtain ⟨⟨he, hf⟩, h⟩ := h.isM
  refine rc_callM (pc := 1386) hC (As := []) (st := [rc_i x1]) (rw_X9_moonPhase hH.1) q2523 q2524 q2525 q149 q2526 rfl rd_X9_moonPhase (hH.room (Nat.le_of_ble_eq_true rfl) (Nat.le_of_ble_eq_true rfl)) rfl rfl (Nat.le_of_ble_eq_true rfl) 0 rfl h.le.2.2 (Or.inr hf) h.br (by rw [he]; first | done | rfl) dL_law_1386 ?_ (fun E q S hT => rc_out hC hH.2.2.2.2 hT)
  intro x2 S h
  show rc_Z Y S 1389 [some (rc_q v0), some (rc_q v1), some (rc_q v2), some (rc_q v3), some (rc_i v4), none, none, none, none] [rc_i x2, rc_i x1]
  refine rc_icmp_eq (pc := 1389) (tgt := 2957) hC dL_law_1389 rfl h ?_ ?_
  · intro _ h
    exact rw_L_law_L2957 hC hH hk23 v0 v1 v2 v3 v4 S h
  intro _ h
  refine rc_iconst (pc := 1392) hC (v := (0 : Int32)) dL_law_1392 rfl ?_
  exact rc_iret hC rfl rfl dL_law_1393 h rfl
theorem rw_L_law_L1447 {Y : rc_Y} (hC : rc_C Y cL_law RX0 ret 9) (hH : rc_H Y 20 419 "law") {k23 : Option Nat → Option Nat → Option Nat → Option Nat → Int32 → rc_M Int32} (hk23 : ∀ (v0 : Option Nat) (v1 : Option Nat) (v2 : Option Nat) (v3 : Option Nat) (v4 : Int32) (S : rc_S), rc_Go Y rc_tI (k23 v0 v1 v2 v3 v4) S → rc_Z Y S 23 [some (rc_q v0), some (rc_q v1), some (rc_q v2), some (rc_q v3), some (rc_i v4), none, none, none, none] []) (v0 : Option Nat) (v1 : Option Nat) (v2 : Option Nat) (v3 : Option Nat) (v4 : Int32) (S : rc_S) (h : rc_Go Y rc_tI (rp_L_law_L1447 k23 v0 v1 v2 v3 v4) S) : rc_Z Y S 1447 [some (rc_q v0), some (rc_q v1), some (rc_q v2), some (rc_q v3), some (rc_i v4), none, none, none, none] [] := by
  unfold rp_L_law_L1447 at h
  refine rc_goto (pc := 1447) (tgt := 2957) hC dL_law_1447 rfl ?_
  exact rw_L_law_L2957 hC hH hk23 v0 v1 v2 v3 v4 S h
theorem rw_L_law_L1394 {Y : rc_Y} (hC : rc_C Y cL_law RX0 ret 9) (hH : rc_H Y 20 419 "law") {k23 : Option Nat → Option Nat → Option Nat → Option Nat → Int32 → rc_M Int32} (hk23 : ∀ (v0 : Option Nat) (v1 : Option Nat) (v2 : Option Nat) (v3 : Option Nat) (v4 : Int32) (S : rc_S), rc_Go Y rc_tI (k23 v0 v1 v2 v3 v4) S → rc_Z Y S 23 [some (rc_q v0), some (rc_q v1), some (rc_q v2), some (rc_q v3), some (rc_i v4), none, none, none, none] []) (v0 : Option Nat) (v1 : Option Nat) (v2 : Option Nat) (v3 : Option Nat) (v4 : Int32) (S : rc_S) (h : rc_Go Y rc_tI (rp_L_law_L1394 k23 v0 v1 v2 v3 v4) S) : rc_Z Y S 1394 [some (rc_q v0), some (rc_q v1), some (rc_q v2), some (rc_q v3), some (rc_i v4), none, none, none, none] [] := by
  unfold rp_L_law_L1394 at h
  refine rc_aload_n (pc := 1394) hC dL_law_1394 rfl rfl ?_
  refine rc_aload_n (pc := 1395) hC dL_law_1395 rfl rfl ?_
  refine rc_iload (pc := 1396) hC dL_law_1396 rfl ?_
  refine rc_iconst (pc := 1398) hC (v := (1 : Int32)) dL_law_1398 rfl ?_
  refine rc_iadd (pc := 1399) hC dL_law_1399 ?_
  refine rc_r_iald (pc := 1400) hC dL_law_1400 h ?_
  intro x1 h
  refine rc_aload_n (pc := 1401) hC dL_law_1401 rfl rfl ?_
  refine rc_callSW (pc := 1402) hC (rw_X0_warmth hH.1 v1 x1 v3) q1816 q1817 q115 q1818 rd_X0_warmth (hH.room (Nat.le_of_ble_eq_true rfl) (Nat.le_of_ble_eq_true rfl)) rfl rfl (Nat.le_of_ble_eq_true rfl) 3 rfl h.le.2.2 h.br rfl dL_law_1402 ?_ (fun E q S hT => rc_out hC hH.2.2.2.2 hT)
  intro x2 S h
  show rc_Z Y S 1405 [some (rc_q v0), some (rc_q v1), some (rc_q v2), some (rc_q v3), some (rc_i v4), none, none, none, none] [rc_i x2]
  refine rc_istore (pc := 1405) hC (L' := [some (rc_q v0), some (rc_q v1), some (rc_q v2), some (rc_q v3), some (rc_i v4), some (rc_i x2), none, none, none]) dL_law_1405 (Nat.le_of_ble_eq_true rfl) rfl rfl ?_
  refine rc_aload_n (pc := 1407) hC dL_law_1407 rfl rfl ?_
  refine rc_aload_n (pc := 1408) hC dL_law_1408 rfl rfl ?_
  refine rc_iload (pc := 1409) hC dL_law_1409 rfl ?_
  refine rc_iconst (pc := 1411) hC (v := (1 : Int32)) dL_law_1411 rfl ?_
  refine rc_iadd (pc := 1412) hC dL_law_1412 ?_
  refine rc_r_iald (pc := 1413) hC dL_law_1413 h ?_
  intro x3 h
  obtain ⟨⟨he, hf⟩, h⟩ := h.isM
  refine rc_callM (pc := 1414) hC (As := [rc_i x3]) (st := []) (rw_X9_warmth hH.1 x3) q2527 q2528 q2529 q149 q2530 rfl rd_X9_warmth (hH.room (Nat.le_of_ble_eq_true rfl) (Nat.le_of_ble_eq_true rfl)) rfl rfl (Nat.le_of_ble_eq_true rfl) 1 rfl h.le.2.2 (Or.inr hf) h.br (by rw [he]; first | done | rfl) dL_law_1414 ?_ (fun E q S hT => rc_out hC hH.2.2.2.2 hT)
  intro x4 S h
  show rc_Z Y S 1417 [some (rc_q v0), some (rc_q v1), some (rc_q v2), some (rc_q v3), some (rc_i v4), some (rc_i x2), none, none, none] [rc_i x4]
  refine rc_istore (pc := 1417) hC (L' := [some (rc_q v0), some (rc_q v1), some (rc_q v2), some (rc_q v3), some (rc_i v4), some (rc_i x2), some (rc_i x4), none, none]) dL_law_1417 (Nat.le_of_ble_eq_true rfl) rfl rfl ?_
  refine rc_aload_n (pc := 1419) hC dL_law_1419 rfl rfl ?_
  obtain ⟨⟨he, hf⟩, h⟩ := h.isM
  refine rc_callM (pc := 1420) hC (As := []) (st := []) (rw_X9_thrown hH.1) q2376 q2377 q2378 q149 q2379 rfl rd_X9_thrown (hH.room (Nat.le_of_ble_eq_true rfl) (Nat.le_of_ble_eq_true rfl)) rfl rfl (Nat.le_of_ble_eq_true rfl) 0 rfl h.le.2.2 (Or.inr hf) h.br (by rw [he]; first | done | rfl) dL_law_1420 ?_ (fun E q S hT => rc_out hC hH.2.2.2.2 hT)
  intro x5 S h
  show rc_Z Y S 1423 [some (rc_q v0), some (rc_q v1), some (rc_q v2), some (rc_q v3), some (rc_i v4), some (rc_i x2), some (rc_i x4), none, none] [rc_i x5]
  refine rc_iload (pc := 1423) hC dL_law_1423 rfl ?_
  refine rc_icmp_eq (pc := 1425) (tgt := 1430) hC dL_law_1425 rfl h ?_ ?_
  · intro _ h
    refine rc_iload (pc := 1430) hC dL_law_1430 rfl ?_
    refine rc_if_ne (pc := 1432) (tgt := 1447) hC dL_law_1432 rfl h ?_ ?_
    · intro _ h
      refine rc_drop [true, true, true, true, true, false, false, false, false] (L' := [some (rc_q v0), some (rc_q v1), some (rc_q v2), some (rc_q v3), some (rc_i v4), none, none, none, none]) rfl ?_
      exact rw_L_law_L1447 hC hH hk23 v0 v1 v2 v3 v4 S h
    intro _ h
    refine rc_aload_n (pc := 1435) hC dL_law_1435 rfl rfl ?_
    refine rc_iconst (pc := 1436) hC (v := (0 : Int32)) dL_law_1436 rfl ?_
    refine rc_r_lald (pc := 1437) hC dL_law_1437 h ?_
    intro x6 h
    refine rc_iload (pc := 1438) hC dL_law_1438 rfl ?_
    refine rc_i2l (pc := 1440) hC dL_law_1440 ?_
    refine rc_lcmp (pc := 1441) hC dL_law_1441 ?_
    refine rc_if_eq (pc := 1442) (tgt := 1447) hC dL_law_1442 rfl h ?_ ?_
    · intro _ h
      refine rc_drop [true, true, true, true, true, false, false, false, false] (L' := [some (rc_q v0), some (rc_q v1), some (rc_q v2), some (rc_q v3), some (rc_i v4), none, none, none, none]) rfl ?_
      exact rw_L_law_L1447 hC hH hk23 v0 v1 v2 v3 v4 S h
    intro _ h
    refine rc_iconst (pc := 1445) hC (v := (0 : Int32)) dL_law_1445 rfl ?_
    exact rc_iret hC rfl rfl dL_law_1446 h rfl
  intro _ h
  refine rc_iconst (pc := 1428) hC (v := (0 : Int32)) dL_law_1428 rfl ?_
  exact rc_iret hC rfl rfl dL_law_1429 h rfl
theorem rw_L_law_L1503 {Y : rc_Y} (hC : rc_C Y cL_law RX0 ret 9) (hH : rc_H Y 20 419 "law") {k23 : Option Nat → Option Nat → Option Nat → Option Nat → Int32 → rc_M Int32} (hk23 : ∀ (v0 : Option Nat) (v1 : Option Nat) (v2 : Option Nat) (v3 : Option Nat) (v4 : Int32) (S : rc_S), rc_Go Y rc_tI (k23 v0 v1 v2 v3 v4) S → rc_Z Y S 23 [some (rc_q v0), some (rc_q v1), some (rc_q v2), some (rc_q v3), some (rc_i v4), none, none, none, none] []) (v0 : Option Nat) (v1 : Option Nat) (v2 : Option Nat) (v3 : Option Nat) (v4 : Int32) (S : rc_S) (h : rc_Go Y rc_tI (rp_L_law_L1503 k23 v0 v1 v2 v3 v4) S) : rc_Z Y S 1503 [some (rc_q v0), some (rc_q v1), some (rc_q v2), some (rc_q v3), some (rc_i v4), none, none, none, none] [] := by
  unfold rp_L_law_L1503 at h
  refine rc_goto (pc := 1503) (tgt := 2957) hC dL_law_1503 rfl ?_
  exact rw_L_law_L2957 hC hH hk23 v0 v1 v2 v3 v4 S h
theorem rw_L_law_L1450 {Y : rc_Y} (hC : rc_C Y cL_law RX0 ret 9) (hH : rc_H Y 20 419 "law") {k23 : Option Nat → Option Nat → Option Nat → Option Nat → Int32 → rc_M Int32} (hk23 : ∀ (v0 : Option Nat) (v1 : Option Nat) (v2 : Option Nat) (v3 : Option Nat) (v4 : Int32) (S : rc_S), rc_Go Y rc_tI (k23 v0 v1 v2 v3 v4) S → rc_Z Y S 23 [some (rc_q v0), some (rc_q v1), some (rc_q v2), some (rc_q v3), some (rc_i v4), none, none, none, none] []) (v0 : Option Nat) (v1 : Option Nat) (v2 : Option Nat) (v3 : Option Nat) (v4 : Int32) (S : rc_S) (h : rc_Go Y rc_tI (rp_L_law_L1450 k23 v0 v1 v2 v3 v4) S) : rc_Z Y S 1450 [some (rc_q v0), some (rc_q v1), some (rc_q v2), some (rc_q v3), some (rc_i v4), none, none, none, none] [] := by
  unfold rp_L_law_L1450 at h
  refine rc_aload_n (pc := 1450) hC dL_law_1450 rfl rfl ?_
  refine rc_aload_n (pc := 1451) hC dL_law_1451 rfl rfl ?_
  refine rc_iload (pc := 1452) hC dL_law_1452 rfl ?_
  refine rc_iconst (pc := 1454) hC (v := (1 : Int32)) dL_law_1454 rfl ?_
  refine rc_iadd (pc := 1455) hC dL_law_1455 ?_
  refine rc_r_iald (pc := 1456) hC dL_law_1456 h ?_
  intro x1 h
  refine rc_aload_n (pc := 1457) hC dL_law_1457 rfl rfl ?_
  refine rc_callSW (pc := 1458) hC (rw_X0_ownerOf hH.1 v1 x1 v3) q1823 q1824 q115 q1825 rd_X0_ownerOf (hH.room (Nat.le_of_ble_eq_true rfl) (Nat.le_of_ble_eq_true rfl)) rfl rfl (Nat.le_of_ble_eq_true rfl) 3 rfl h.le.2.2 h.br rfl dL_law_1458 ?_ (fun E q S hT => rc_out hC hH.2.2.2.2 hT)
  intro x2 S h
  show rc_Z Y S 1461 [some (rc_q v0), some (rc_q v1), some (rc_q v2), some (rc_q v3), some (rc_i v4), none, none, none, none] [rc_i x2]
  refine rc_istore (pc := 1461) hC (L' := [some (rc_q v0), some (rc_q v1), some (rc_q v2), some (rc_q v3), some (rc_i v4), some (rc_i x2), none, none, none]) dL_law_1461 (Nat.le_of_ble_eq_true rfl) rfl rfl ?_
  refine rc_aload_n (pc := 1463) hC dL_law_1463 rfl rfl ?_
  refine rc_aload_n (pc := 1464) hC dL_law_1464 rfl rfl ?_
  refine rc_iload (pc := 1465) hC dL_law_1465 rfl ?_
  refine rc_iconst (pc := 1467) hC (v := (1 : Int32)) dL_law_1467 rfl ?_
  refine rc_iadd (pc := 1468) hC dL_law_1468 ?_
  refine rc_r_iald (pc := 1469) hC dL_law_1469 h ?_
  intro x3 h
  obtain ⟨⟨he, hf⟩, h⟩ := h.isM
  refine rc_callM (pc := 1470) hC (As := [rc_i x3]) (st := []) (rw_X9_ownerOf hH.1 x3) q2531 q2532 q2533 q149 q2534 rfl rd_X9_ownerOf (hH.room (Nat.le_of_ble_eq_true rfl) (Nat.le_of_ble_eq_true rfl)) rfl rfl (Nat.le_of_ble_eq_true rfl) 1 rfl h.le.2.2 (Or.inr hf) h.br (by rw [he]; first | done | rfl) dL_law_1470 ?_ (fun E q S hT => rc_out hC hH.2.2.2.2 hT)
  intro x4 S h
  show rc_Z Y S 1473 [some (rc_q v0), some (rc_q v1), some (rc_q v2), some (rc_q v3), some (rc_i v4), some (rc_i x2), none, none, none] [rc_i x4]
  refine rc_istore (pc := 1473) hC (L' := [some (rc_q v0), some (rc_q v1), some (rc_q v2), some (rc_q v3), some (rc_i v4), some (rc_i x2), some (rc_i x4), none, none]) dL_law_1473 (Nat.le_of_ble_eq_true rfl) rfl rfl ?_
  refine rc_aload_n (pc := 1475) hC dL_law_1475 rfl rfl ?_
  obtain ⟨⟨he, hf⟩, h⟩ := h.isM
  refine rc_callM (pc := 1476) hC (As := []) (st := []) (rw_X9_thrown hH.1) q2376 q2377 q2378 q149 q2379 rfl rd_X9_thrown (hH.room (Nat.le_of_ble_eq_true rfl) (Nat.le_of_ble_eq_true rfl)) rfl rfl (Nat.le_of_ble_eq_true rfl) 0 rfl h.le.2.2 (Or.inr hf) h.br (by rw [he]; first | done | rfl) dL_law_1476 ?_ (fun E q S hT => rc_out hC hH.2.2.2.2 hT)
  intro x5 S h
  show rc_Z Y S 1479 [some (rc_q v0), some (rc_q v1), some (rc_q v2), some (rc_q v3), some (rc_i v4), some (rc_i x2), some (rc_i x4), none, none] [rc_i x5]
  refine rc_iload (pc := 1479) hC dL_law_1479 rfl ?_
  refine rc_icmp_eq (pc := 1481) (tgt := 1486) hC dL_law_1481 rfl h ?_ ?_
  · intro _ h
    refine rc_iload (pc := 1486) hC dL_law_1486 rfl ?_
    refine rc_if_ne (pc := 1488) (tgt := 1503) hC dL_law_1488 rfl h ?_ ?_
    · intro _ h
      refine rc_drop [true, true, true, true, true, false, false, false, false] (L' := [some (rc_q v0), some (rc_q v1), some (rc_q v2), some (rc_q v3), some (rc_i v4), none, none, none, none]) rfl ?_
      exact rw_L_law_L1503 hC hH hk23 v0 v1 v2 v3 v4 S h
    intro _ h
    refine rc_aload_n (pc := 1491) hC dL_law_1491 rfl rfl ?_
    refine rc_iconst (pc := 1492) hC (v := (0 : Int32)) dL_law_1492 rfl ?_
    refine rc_r_lald (pc := 1493) hC dL_law_1493 h ?_
    intro x6 h
    refine rc_iload (pc := 1494) hC dL_law_1494 rfl ?_
    refine rc_i2l (pc := 1496) hC dL_law_1496 ?_
    refine rc_lcmp (pc := 1497) hC dL_law_1497 ?_
    refine rc_if_eq (pc := 1498) (tgt := 1503) hC dL_law_1498 rfl h ?_ ?_
    · intro _ h
      refine rc_drop [true, true, true, true, true, false, false, false, false] (L' := [some (rc_q v0), some (rc_q v1), some (rc_q v2), some (rc_q v3), some (rc_i v4), none, none, none, none]) rfl ?_
      exact rw_L_law_L1503 hC hH hk23 v0 v1 v2 v3 v4 S h
    intro _ h
    refine rc_iconst (pc := 1501) hC (v := (0 : Int32)) dL_law_1501 rfl ?_
    exact rc_iret hC rfl rfl dL_law_1502 h rfl
  intro _ h
  refine rc_iconst (pc := 1484) hC (v := (0 : Int32)) dL_law_1484 rfl ?_
  exact rc_iret hC rfl rfl dL_law_1485 h rfl
theorem rw_L_law_L1559 {Y : rc_Y} (hC : rc_C Y cL_law RX0 ret 9) (hH : rc_H Y 20 419 "law") {k23 : Option Nat → Option Nat → Option Nat → Option Nat → Int32 → rc_M Int32} (hk23 : ∀ (v0 : Option Nat) (v1 : Option Nat) (v2 : Option Nat) (v3 : Option Nat) (v4 : Int32) (S : rc_S), rc_Go Y rc_tI (k23 v0 v1 v2 v3 v4) S → rc_Z Y S 23 [some (rc_q v0), some (rc_q v1), some (rc_q v2), some (rc_q v3), some (rc_i v4), none, none, none, none] []) (v0 : Option Nat) (v1 : Option Nat) (v2 : Option Nat) (v3 : Option Nat) (v4 : Int32) (S : rc_S) (h : rc_Go Y rc_tI (rp_L_law_L1559 k23 v0 v1 v2 v3 v4) S) : rc_Z Y S 1559 [some (rc_q v0), some (rc_q v1), some (rc_q v2), some (rc_q v3), some (rc_i v4), none, none, none, none] [] := by
  unfold rp_L_law_L1559 at h
  refine rc_goto (pc := 1559) (tgt := 2957) hC dL_law_1559 rfl ?_
  exact rw_L_law_L2957 hC hH hk23 v0 v1 v2 v3 v4 S h
theorem rw_L_law_L1506 {Y : rc_Y} (hC : rc_C Y cL_law RX0 ret 9) (hH : rc_H Y 20 419 "law") {k23 : Option Nat → Option Nat → Option Nat → Option Nat → Int32 → rc_M Int32} (hk23 : ∀ (v0 : Option Nat) (v1 : Option Nat) (v2 : Option Nat) (v3 : Option Nat) (v4 : Int32) (S : rc_S), rc_Go Y rc_tI (k23 v0 v1 v2 v3 v4) S → rc_Z Y S 23 [some (rc_q v0), some (rc_q v1), some (rc_q v2), some (rc_q v3), some (rc_i v4), none, none, none, none] []) (v0 : Option Nat) (v1 : Option Nat) (v2 : Option Nat) (v3 : Option Nat) (v4 : Int32) (S : rc_S) (h : rc_Go Y rc_tI (rp_L_law_L1506 k23 v0 v1 v2 v3 v4) S) : rc_Z Y S 1506 [some (rc_q v0), some (rc_q v1), some (rc_q v2), some (rc_q v3), some (rc_i v4), none, none, none, none] [] := by
  unfold rp_L_law_L1506 at h
  refine rc_aload_n (pc := 1506) hC dL_law_1506 rfl rfl ?_
  refine rc_aload_n (pc := 1507) hC dL_law_1507 rfl rfl ?_
  refine rc_iload (pc := 1508) hC dL_law_1508 rfl ?_
  refine rc_iconst (pc := 1510) hC (v := (1 : Int32)) dL_law_1510 rfl ?_
  refine rc_iadd (pc := 1511) hC dL_law_1511 ?_
  refine rc_r_iald (pc := 1512) hC dL_law_1512 h ?_
  intro x1 h
  refine rc_aload_n (pc := 1513) hC dL_law_1513 rfl rfl ?_
  refine rc_callSW (pc := 1514) hC (rw_X0_catOn hH.1 v1 x1 v3) q1827 q1828 q115 q1829 rd_X0_catOn (hH.room (Nat.le_of_ble_eq_true rfl) (Nat.le_of_ble_eq_true rfl)) rfl rfl (Nat.le_of_ble_eq_true rfl) 3 rfl h.le.2.2 h.br rfl dL_law_1514 ?_ (fun E q S hT => rc_out hC hH.2.2.2.2 hT)
  intro x2 S h
  show rc_Z Y S 1517 [some (rc_q v0), some (rc_q v1), some (rc_q v2), some (rc_q v3), some (rc_i v4), none, none, none, none] [rc_i x2]
  refine rc_istore (pc := 1517) hC (L' := [some (rc_q v0), some (rc_q v1), some (rc_q v2), some (rc_q v3), some (rc_i v4), some (rc_i x2), none, none, none]) dL_law_1517 (Nat.le_of_ble_eq_true rfl) rfl rfl ?_
  refine rc_aload_n (pc := 1519) hC dL_law_1519 rfl rfl ?_
  refine rc_aload_n (pc := 1520) hC dL_law_1520 rfl rfl ?_
  refine rc_iload (pc := 1521) hC dL_law_1521 rfl ?_
  refine rc_iconst (pc := 1523) hC (v := (1 : Int32)) dL_law_1523 rfl ?_
  refine rc_iadd (pc := 1524) hC dL_law_1524 ?_
  refine rc_r_iald (pc := 1525) hC dL_law_1525 h ?_
  intro x3 h
  obtain ⟨⟨he, hf⟩, h⟩ := h.isM
  refine rc_callM (pc := 1526) hC (As := [rc_i x3]) (st := []) (rw_X9_catOn hH.1 x3) q2535 q2536 q2537 q149 q2538 rfl rd_X9_catOn (hH.room (Nat.le_of_ble_eq_true rfl) (Nat.le_of_ble_eq_true rfl)) rfl rfl (Nat.le_of_ble_eq_true rfl) 1 rfl h.le.2.2 (Or.inr hf) h.br (by rw [he]; first | done | rfl) dL_law_1526 ?_ (fun E q S hT => rc_out hC hH.2.2.2.2 hT)
  intro x4 S h
  show rc_Z Y S 1529 [some (rc_q v0), some (rc_q v1), some (rc_q v2), some (rc_q v3), some (rc_i v4), some (rc_i x2), none, none, none] [rc_i x4]
  refine rc_istore (pc := 1529) hC (L' := [some (rc_q v0), some (rc_q v1), some (rc_q v2), some (rc_q v3), some (rc_i v4), some (rc_i x2), some (rc_i x4), none, none]) dL_law_1529 (Nat.le_of_ble_eq_true rfl) rfl rfl ?_
  refine rc_aload_n (pc := 1531) hC dL_law_1531 rfl rfl ?_
  obtain ⟨⟨he, hf⟩, h⟩ := h.isM
  refine rc_callM (pc := 1532) hC (As := []) (st := []) (rw_X9_thrown hH.1) q2376 q2377 q2378 q149 q2379 rfl rd_X9_thrown (hH.room (Nat.le_of_ble_eq_true rfl) (Nat.le_of_ble_eq_true rfl)) rfl rfl (Nat.le_of_ble_eq_true rfl) 0 rfl h.le.2.2 (Or.inr hf) h.br (by rw [he]; first | done | rfl) dL_law_1532 ?_ (fun E q S hT => rc_out hC hH.2.2.2.2 hT)
  intro x5 S h
  show rc_Z Y S 1535 [some (rc_q v0), some (rc_q v1), some (rc_q v2), some (rc_q v3), some (rc_i v4), some (rc_i x2), some (rc_i x4), none, none] [rc_i x5]
  refine rc_iload (pc := 1535) hC dL_law_1535 rfl ?_
  refine rc_icmp_eq (pc := 1537) (tgt := 1542) hC dL_law_1537 rfl h ?_ ?_
  · intro _ h
    refine rc_iload (pc := 1542) hC dL_law_1542 rfl ?_
    refine rc_if_ne (pc := 1544) (tgt := 1559) hC dL_law_1544 rfl h ?_ ?_
    · intro _ h
      refine rc_drop [true, true, true, true, true, false, false, false, false] (L' := [some (rc_q v0), some (rc_q v1), some (rc_q v2), some (rc_q v3), some (rc_i v4), none, none, none, none]) rfl ?_
      exact rw_L_law_L1559 hC hH hk23 v0 v1 v2 v3 v4 S h
    intro _ h
    refine rc_aload_n (pc := 1547) hC dL_law_1547 rfl rfl ?_
    refine rc_iconst (pc := 1548) hC (v := (0 : Int32)) dL_law_1548 rfl ?_
    refine rc_r_lald (pc := 1549) hC dL_law_1549 h ?_
    intro x6 h
    refine rc_iload (pc := 1550) hC dL_law_1550 rfl ?_
    refine rc_i2l (pc := 1552) hC dL_law_1552 ?_
    refine rc_lcmp (pc := 1553) hC dL_law_1553 ?_
    refine rc_if_eq (pc := 1554) (tgt := 1559) hC dL_law_1554 rfl h ?_ ?_
    · intro _ h
      refine rc_drop [true, true, true, true, true, false, false, false, false] (L' := [some (rc_q v0), some (rc_q v1), some (rc_q v2), some (rc_q v3), some (rc_i v4), none, none, none, none]) rfl ?_
      exact rw_L_law_L1559 hC hH hk23 v0 v1 v2 v3 v4 S h
    intro _ h
    refine rc_iconst (pc := 1557) hC (v := (0 : Int32)) dL_law_1557 rfl ?_
    exact rc_iret hC rfl rfl dL_law_1558 h rfl
  intro _ h
  refine rc_iconst (pc := 1540) hC (v := (0 : Int32)) dL_law_1540 rfl ?_
  exact rc_iret hC rfl rfl dL_law_1541 h rfl
theorem rw_L_law_L1615 {Y : rc_Y} (hC : rc_C Y cL_law RX0 ret 9) (hH : rc_H Y 20 419 "law") {k23 : Option Nat → Option Nat → Option Nat → Option Nat → Int32 → rc_M Int32} (hk23 : ∀ (v0 : Option Nat) (v1 : Option Nat) (v2 : Option Nat) (v3 : Option Nat) (v4 : Int32) (S : rc_S), rc_Go Y rc_tI (k23 v0 v1 v2 v3 v4) S → rc_Z Y S 23 [some (rc_q v0), some (rc_q v1), some (rc_q v2), some (rc_q v3), some (rc_i v4), none, none, none, none] []) (v0 : Option Nat) (v1 : Option Nat) (v2 : Option Nat) (v3 : Option Nat) (v4 : Int32) (S : rc_S) (h : rc_Go Y rc_tI (rp_L_law_L1615 k23 v0 v1 v2 v3 v4) S) : rc_Z Y S 1615 [some (rc_q v0), some (rc_q v1), some (rc_q v2), some (rc_q v3), some (rc_i v4), none, none, none, none] [] := by
  unfold rp_L_law_L1615 at h
  refine rc_goto (pc := 1615) (tgt := 2957) hC dL_law_1615 rfl ?_
  exact rw_L_law_L2957 hC hH hk23 v0 v1 v2 v3 v4 S h
theorem rw_L_law_L1562 {Y : rc_Y} (hC : rc_C Y cL_law RX0 ret 9) (hH : rc_H Y 20 419 "law") {k23 : Option Nat → Option Nat → Option Nat → Option Nat → Int32 → rc_M Int32} (hk23 : ∀ (v0 : Option Nat) (v1 : Option Nat) (v2 : Option Nat) (v3 : Option Nat) (v4 : Int32) (S : rc_S), rc_Go Y rc_tI (k23 v0 v1 v2 v3 v4) S → rc_Z Y S 23 [some (rc_q v0), some (rc_q v1), some (rc_q v2), some (rc_q v3), some (rc_i v4), none, none, none, none] []) (v0 : Option Nat) (v1 : Option Nat) (v2 : Option Nat) (v3 : Option Nat) (v4 : Int32) (S : rc_S) (h : rc_Go Y rc_tI (rp_L_law_L1562 k23 v0 v1 v2 v3 v4) S) : rc_Z Y S 1562 [some (rc_q v0), some (rc_q v1), some (rc_q v2), some (rc_q v3), some (rc_i v4), none, none, none, none] [] := by
  unfold rp_L_law_L1562 at h
  refine rc_aload_n (pc := 1562) hC dL_law_1562 rfl rfl ?_
  refine rc_aload_n (pc := 1563) hC dL_law_1563 rfl rfl ?_
  refine rc_iload (pc := 1564) hC dL_law_1564 rfl ?_
  refine rc_iconst (pc := 1566) hC (v := (1 : Int32)) dL_law_1566 rfl ?_
  refine rc_iadd (pc := 1567) hC dL_law_1567 ?_
  refine rc_r_iald (pc := 1568) hC dL_law_1568 h ?_
  intro x1 h
  refine rc_aload_n (pc := 1569) hC dL_law_1569 rfl rfl ?_
  refine rc_callSW (pc := 1570) hC (rw_X0_gutterEnds hH.1 v1 x1 v3) q1834 q1835 q115 q1836 rd_X0_gutterEnds (hH.room (Nat.le_of_ble_eq_true rfl) (Nat.le_of_ble_eq_true rfl)) rfl rfl (Nat.le_of_ble_eq_true rfl) 3 rfl h.le.2.2 h.br rfl dL_law_1570 ?_ (fun E q S hT => rc_out hC hH.2.2.2.2 hT)
  intro x2 S h
  show rc_Z Y S 1573 [some (rc_q v0), some (rc_q v1), some (rc_q v2), some (rc_q v3), some (rc_i v4), none, none, none, none] [rc_i x2]
  refine rc_istore (pc := 1573) hC (L' := [some (rc_q v0), some (rc_q v1), some (rc_q v2), some (rc_q v3), some (rc_i v4), some (rc_i x2), none, none, none]) dL_law_1573 (Nat.le_of_ble_eq_true rfl) rfl rfl ?_
  refine rc_aload_n (pc := 1575) hC dL_law_1575 rfl rfl ?_
  refine rc_aload_n (pc := 1576) hC dL_law_1576 rfl rfl ?_
  refine rc_iload (pc := 1577) hC dL_law_1577 rfl ?_
  refine rc_iconst (pc := 1579) hC (v := (1 : Int32)) dL_law_1579 rfl ?_
  refine rc_iadd (pc := 1580) hC dL_law_1580 ?_
  refine rc_r_iald (pc := 1581) hC dL_law_1581 h ?_
  intro x3 h
  obtain ⟨⟨he, hf⟩, h⟩ := h.isM
  refine rc_callM (pc := 1582) hC (As := [rc_i x3]) (st := []) (rw_X9_gutterEnds hH.1 x3) q2539 q2540 q2541 q149 q2542 rfl rd_X9_gutterEnds (hH.room (Nat.le_of_ble_eq_true rfl) (Nat.le_of_ble_eq_true rfl)) rfl rfl (Nat.le_of_ble_eq_true rfl) 1 rfl h.le.2.2 (Or.inr hf) h.br (by rw [he]; first | done | rfl) dL_law_1582 ?_ (fun E q S hT => rc_out hC hH.2.2.2.2 hT)
  intro x4 S h
  show rc_Z Y S 1585 [some (rc_q v0), some (rc_q v1), some (rc_q v2), some (rc_q v3), some (rc_i v4), some (rc_i x2), none, none, none] [rc_i x4]
  refine rc_istore (pc := 1585) hC (L' := [some (rc_q v0), some (rc_q v1), some (rc_q v2), some (rc_q v3), some (rc_i v4), some (rc_i x2), some (rc_i x4), none, none]) dL_law_1585 (Nat.le_of_ble_eq_true rfl) rfl rfl ?_
  refine rc_aload_n (pc := 1587) hC dL_law_1587 rfl rfl ?_
  obtain ⟨⟨he, hf⟩, h⟩ := h.isM
  refine rc_callM (pc := 1588) hC (As := []) (st := []) (rw_X9_thrown hH.1) q2376 q2377 q2378 q149 q2379 rfl rd_X9_thrown (hH.room (Nat.le_of_ble_eq_true rfl) (Nat.le_of_ble_eq_true rfl)) rfl rfl (Nat.le_of_ble_eq_true rfl) 0 rfl h.le.2.2 (Or.inr hf) h.br (by rw [he]; first | done | rfl) dL_law_1588 ?_ (fun E q S hT => rc_out hC hH.2.2.2.2 hT)
  intro x5 S h
  show rc_Z Y S 1591 [some (rc_q v0), some (rc_q v1), some (rc_q v2), some (rc_q v3), some (rc_i v4), some (rc_i x2), some (rc_i x4), none, none] [rc_i x5]
  refine rc_iload (pc := 1591) hC dL_law_1591 rfl ?_
  refine rc_icmp_eq (pc := 1593) (tgt := 1598) hC dL_law_1593 rfl h ?_ ?_
  · intro _ h
    refine rc_iload (pc := 1598) hC dL_law_1598 rfl ?_
    refine rc_if_ne (pc := 1600) (tgt := 1615) hC dL_law_1600 rfl h ?_ ?_
    · intro _ h
      refine rc_drop [true, true, true, true, true, false, false, false, false] (L' := [some (rc_q v0), some (rc_q v1), some (rc_q v2), some (rc_q v3), some (rc_i v4), none, none, none, none]) rfl ?_
      exact rw_L_law_L1615 hC hH hk23 v0 v1 v2 v3 v4 S h
    intro _ h
    refine rc_aload_n (pc := 1603) hC dL_law_1603 rfl rfl ?_
    refine rc_iconst (pc := 1604) hC (v := (0 : Int32)) dL_law_1604 rfl ?_
    refine rc_r_lald (pc := 1605) hC dL_law_1605 h ?_
    intro x6 h
    refine rc_iload (pc := 1606) hC dL_law_1606 rfl ?_
    refine rc_i2l (pc := 1608) hC dL_law_1608 ?_
    refine rc_lcmp (pc := 1609) hC dL_law_1609 ?_
    refine rc_if_eq (pc := 1610) (tgt := 1615) hC dL_law_1610 rfl h ?_ ?_
    · intro _ h
      refine rc_drop [true, true, true, true, true, false, false, false, false] (L' := [some (rc_q v0), some (rc_q v1), some (rc_q v2), some (rc_q v3), some (rc_i v4), none, none, none, none]) rfl ?_
      exact rw_L_law_L1615 hC hH hk23 v0 v1 v2 v3 v4 S h
    intro _ h
    refine rc_iconst (pc := 1613) hC (v := (0 : Int32)) dL_law_1613 rfl ?_
    exact rc_iret hC rfl rfl dL_law_1614 h rfl
  intro _ h
  refine rc_iconst (pc := 1596) hC (v := (0 : Int32)) dL_law_1596 rfl ?_
  exact rc_iret hC rfl rfl dL_law_1597 h rfl
theorem rw_L_law_L1671 {Y : rc_Y} (hC : rc_C Y cL_law RX0 ret 9) (hH : rc_H Y 20 419 "law") {k23 : Option Nat → Option Nat → Option Nat → Option Nat → Int32 → rc_M Int32} (hk23 : ∀ (v0 : Option Nat) (v1 : Option Nat) (v2 : Option Nat) (v3 : Option Nat) (v4 : Int32) (S : rc_S), rc_Go Y rc_tI (k23 v0 v1 v2 v3 v4) S → rc_Z Y S 23 [some (rc_q v0), some (rc_q v1), some (rc_q v2), some (rc_q v3), some (rc_i v4), none, none, none, none] []) (v0 : Option Nat) (v1 : Option Nat) (v2 : Option Nat) (v3 : Option Nat) (v4 : Int32) (S : rc_S) (h : rc_Go Y rc_tI (rp_L_law_L1671 k23 v0 v1 v2 v3 v4) S) : rc_Z Y S 1671 [some (rc_q v0), some (rc_q v1), some (rc_q v2), some (rc_q v3), some (rc_i v4), none, none, none, none] [] := by
  unfold rp_L_law_L1671 at h
  refine rc_goto (pc := 1671) (tgt := 2957) hC dL_law_1671 rfl ?_
  exact rw_L_law_L2957 hC hH hk23 v0 v1 v2 v3 v4 S h
theorem rw_L_law_L1618 {Y : rc_Y} (hC : rc_C Y cL_law RX0 ret 9) (hH : rc_H Y 20 419 "law") {k23 : Option Nat → Option Nat → Option Nat → Option Nat → Int32 → rc_M Int32} (hk23 : ∀ (v0 : Option Nat) (v1 : Option Nat) (v2 : Option Nat) (v3 : Option Nat) (v4 : Int32) (S : rc_S), rc_Go Y rc_tI (k23 v0 v1 v2 v3 v4) S → rc_Z Y S 23 [some (rc_q v0), some (rc_q v1), some (rc_q v2), some (rc_q v3), some (rc_i v4), none, none, none, none] []) (v0 : Option Nat) (v1 : Option Nat) (v2 : Option Nat) (v3 : Option Nat) (v4 : Int32) (S : rc_S) (h : rc_Go Y rc_tI (rp_L_law_L1618 k23 v0 v1 v2 v3 v4) S) : rc_Z Y S 1618 [some (rc_q v0), some (rc_q v1), some (rc_q v2), some (rc_q v3), some (rc_i v4), none, none, none, none] [] := by
  unfold rp_L_law_L1618 at h
  refine rc_aload_n (pc := 1618) hC dL_law_1618 rfl rfl ?_
  refine rc_aload_n (pc := 1619) hC dL_law_1619 rfl rfl ?_
  refine rc_iload (pc := 1620) hC dL_law_1620 rfl ?_
  refine rc_iconst (pc := 1622) hC (v := (1 : Int32)) dL_law_1622 rfl ?_
  refine rc_iadd (pc := 1623) hC dL_law_1623 ?_
  refine rc_r_iald (pc := 1624) hC dL_law_1624 h ?_
  intro x1 h
  refine rc_aload_n (pc := 1625) hC dL_law_1625 rfl rfl ?_
  refine rc_callSW (pc := 1626) hC (rw_X0_width hH.1 v1 x1 v3) q1853 q1854 q115 q1855 rd_X0_width (hH.room (Nat.le_of_ble_eq_true rfl) (Nat.le_of_ble_eq_true rfl)) rfl rfl (Nat.le_of_ble_eq_true rfl) 3 rfl h.le.2.2 h.br rfl dL_law_1626 ?_ (fun E q S hT => rc_out hC hH.2.2.2.2 hT)
  intro x2 S h
  show rc_Z Y S 1629 [some (rc_q v0), some (rc_q v1), some (rc_q v2), some (rc_q v3), some (rc_i v4), none, none, none, none] [rc_i x2]
  refine rc_istore (pc := 1629) hC (L' := [some (rc_q v0), some (rc_q v1), some (rc_q v2), some (rc_q v3), some (rc_i v4), some (rc_i x2), none, none, none]) dL_law_1629 (Nat.le_of_ble_eq_true rfl) rfl rfl ?_
  refine rc_aload_n (pc := 1631) hC dL_law_1631 rfl rfl ?_
  refine rc_aload_n (pc := 1632) hC dL_law_1632 rfl rfl ?_
  refine rc_iload (pc := 1633) hC dL_law_1633 rfl ?_
  refine rc_iconst (pc := 1635) hC (v := (1 : Int32)) dL_law_1635 rfl ?_
  refine rc_iadd (pc := 1636) hC dL_law_1636 ?_
  refine rc_r_iald (pc := 1637) hC dL_law_1637 h ?_
  intro x3 h
  obtain ⟨⟨he, hf⟩, h⟩ := h.isM
  refine rc_callM (pc := 1638) hC (As := [rc_i x3]) (st := []) (rw_X9_width hH.1 x3) q2543 q2544 q2545 q149 q2546 rfl rd_X9_width (hH.room (Nat.le_of_ble_eq_true rfl) (Nat.le_of_ble_eq_true rfl)) rfl rfl (Nat.le_of_ble_eq_true rfl) 1 rfl h.le.2.2 (Or.inr hf) h.br (by rw [he]; first | done | rfl) dL_law_1638 ?_ (fun E q S hT => rc_out hC hH.2.2.2.2 hT)
  intro x4 S h
  show rc_Z Y S 1641 [some (rc_q v0), some (rc_q v1), some (rc_q v2), some (rc_q v3), some (rc_i v4), some (rc_i x2), none, none, none] [rc_i x4]
  refine rc_istore (pc := 1641) hC (L' := [some (rc_q v0), some (rc_q v1), some (rc_q v2), some (rc_q v3), some (rc_i v4), some (rc_i x2), some (rc_i x4), none, none]) dL_law_1641 (Nat.le_of_ble_eq_true rfl) rfl rfl ?_
  refine rc_aload_n (pc := 1643) hC dL_law_1643 rfl rfl ?_
  obtain ⟨⟨he, hf⟩, h⟩ := h.isM
  refine rc_callM (pc := 1644) hC (As := []) (st := []) (rw_X9_thrown hH.1) q2376 q2377 q2378 q149 q2379 rfl rd_X9_thrown (hH.room (Nat.le_of_ble_eq_true rfl) (Nat.le_of_ble_eq_true rfl)) rfl rfl (Nat.le_of_ble_eq_true rfl) 0 rfl h.le.2.2 (Or.inr hf) h.br (by rw [he]; first | done | rfl) dL_law_1644 ?_ (fun E q S hT => rc_out hC hH.2.2.2.2 hT)
  intro x5 S h
  show rc_Z Y S 1647 [some (rc_q v0), some (rc_q v1), some (rc_q v2), some (rc_q v3), some (rc_i v4), some (rc_i x2), some (rc_i x4), none, none] [rc_i x5]
  refine rc_iload (pc := 1647) hC dL_law_1647 rfl ?_
  refine rc_icmp_eq (pc := 1649) (tgt := 1654) hC dL_law_1649 rfl h ?_ ?_
  · intro _ h
    refine rc_iload (pc := 1654) hC dL_law_1654 rfl ?_
    refine rc_if_ne (pc := 1656) (tgt := 1671) hC dL_law_1656 rfl h ?_ ?_
    · intro _ h
      refine rc_drop [true, true, true, true, true, false, false, false, false] (L' := [some (rc_q v0), some (rc_q v1), some (rc_q v2), some (rc_q v3), some (rc_i v4), none, none, none, none]) rfl ?_
      exact rw_L_law_L1671 hC hH hk23 v0 v1 v2 v3 v4 S h
    intro _ h
    refine rc_aload_n (pc := 1659) hC dL_law_1659 rfl rfl ?_
    refine rc_iconst (pc := 1660) hC (v := (0 : Int32)) dL_law_1660 rfl ?_
    refine rc_r_lald (pc := 1661) hC dL_law_1661 h ?_
    intro x6 h
    refine rc_iload (pc := 1662) hC dL_law_1662 rfl ?_
    refine rc_i2l (pc := 1664) hC dL_law_1664 ?_
    refine rc_lcmp (pc := 1665) hC dL_law_1665 ?_
    refine rc_if_eq (pc := 1666) (tgt := 1671) hC dL_law_1666 rfl h ?_ ?_
    · intro _ h
      refine rc_drop [true, true, true, true, true, false, false, false, false] (L' := [some (rc_q v0), some (rc_q v1), some (rc_q v2), some (rc_q v3), some (rc_i v4), none, none, none, none]) rfl ?_
      exact rw_L_law_L1671 hC hH hk23 v0 v1 v2 v3 v4 S h
    intro _ h
    refine rc_iconst (pc := 1669) hC (v := (0 : Int32)) dL_law_1669 rfl ?_
    exact rc_iret hC rfl rfl dL_law_1670 h rfl
  intro _ h
  refine rc_iconst (pc := 1652) hC (v := (0 : Int32)) dL_law_1652 rfl ?_
  exact rc_iret hC rfl rfl dL_law_1653 h rfl
theorem rw_L_law_L1739 {Y : rc_Y} (hC : rc_C Y cL_law RX0 ret 9) (hH : rc_H Y 20 419 "law") {k23 : Option Nat → Option Nat → Option Nat → Option Nat → Int32 → rc_M Int32} (hk23 : ∀ (v0 : Option Nat) (v1 : Option Nat) (v2 : Option Nat) (v3 : Option Nat) (v4 : Int32) (S : rc_S), rc_Go Y rc_tI (k23 v0 v1 v2 v3 v4) S → rc_Z Y S 23 [some (rc_q v0), some (rc_q v1), some (rc_q v2), some (rc_q v3), some (rc_i v4), none, none, none, none] []) (v0 : Option Nat) (v1 : Option Nat) (v2 : Option Nat) (v3 : Option Nat) (v4 : Int32) (S : rc_S) (h : rc_Go Y rc_tI (rp_L_law_L1739 k23 v0 v1 v2 v3 v4) S) : rc_Z Y S 1739 [some (rc_q v0), some (rc_q v1), some (rc_q v2), some (rc_q v3), some (rc_i v4), none, none, none, none] [] := by
  unfold rp_L_law_L1739 at h
  refine rc_goto (pc := 1739) (tgt := 2957) hC dL_law_1739 rfl ?_
  exact rw_L_law_L2957 hC hH hk23 v0 v1 v2 v3 v4 S h
theorem rw_L_law_L1674 {Y : rc_Y} (hC : rc_C Y cL_law RX0 ret 9) (hH : rc_H Y 20 419 "law") {k23 : Option Nat → Option Nat → Option Nat → Option Nat → Int32 → rc_M Int32} (hk23 : ∀ (v0 : Option Nat) (v1 : Option Nat) (v2 : Option Nat) (v3 : Option Nat) (v4 : Int32) (S : rc_S), rc_Go Y rc_tI (k23 v0 v1 v2 v3 v4) S → rc_Z Y S 23 [some (rc_q v0), some (rc_q v1), some (rc_q v2), some (rc_q v3), some (rc_i v4), none, none, none, none] []) (v0 : Option Nat) (v1 : Option Nat) (v2 : Option Nat) (v3 : Option Nat) (v4 : Int32) (S : rc_S) (h : rc_Go Y rc_tI (rp_L_law_L1674 k23 v0 v1 v2 v3 v4) S) : rc_Z Y S 1674 [some (rc_q v0), some (rc_q v1), some (rc_q v2), some (rc_q v3), some (rc_i v4), none, none, none, none] [] := by
  unfold rp_L_law_L1674 at h
  refine rc_aload_n (pc := 1674) hC dL_law_1674 rfl rfl ?_
  refine rc_aload_n (pc := 1675) hC dL_law_1675 rfl rfl ?_
  refine rc_iload (pc := 1676) hC dL_law_1676 rfl ?_
  refine rc_iconst (pc := 1678) hC (v := (1 : Int32)) dL_law_1678 rfl ?_
  refine rc_iadd (pc := 1679) hC dL_law_1679 ?_
  refine rc_r_iald (pc := 1680) hC dL_law_1680 h ?_
  intro x1 h
  refine rc_aload_n (pc := 1681) hC dL_law_1681 rfl rfl ?_
  refine rc_iload (pc := 1682) hC dL_law_1682 rfl ?_
  refine rc_iconst (pc := 1684) hC (v := (2 : Int32)) dL_law_1684 rfl ?_
  refine rc_iadd (pc := 1685) hC dL_law_1685 ?_
  refine rc_r_iald (pc := 1686) hC dL_law_1686 h ?_
  intro x2 h
  refine rc_aload_n (pc := 1687) hC dL_law_1687 rfl rfl ?_
  refine rc_callSW (pc := 1688) hC (rw_X0_widestWay hH.1 v1 x1 x2 v3) q1861 q1862 q115 q1863 rd_X0_widestWay (hH.room (Nat.le_of_ble_eq_true rfl) (Nat.le_of_ble_eq_true rfl)) rfl rfl (Nat.le_of_ble_eq_true rfl) 4 rfl h.le.2.2 h.br rfl dL_law_1688 ?_ (fun E q S hT => rc_out hC hH.2.2.2.2 hT)
  intro x3 S h
  show rc_Z Y S 1691 [some (rc_q v0), some (rc_q v1), some (rc_q v2), some (rc_q v3), some (rc_i v4), none, none, none, none] [rc_i x3]
  refine rc_istore (pc := 1691) hC (L' := [some (rc_q v0), some (rc_q v1), some (rc_q v2), some (rc_q v3), some (rc_i v4), some (rc_i x3), none, none, none]) dL_law_1691 (Nat.le_of_ble_eq_true rfl) rfl rfl ?_
  refine rc_aload_n (pc := 1693) hC dL_law_1693 rfl rfl ?_
  refine rc_aload_n (pc := 1694) hC dL_law_1694 rfl rfl ?_
  refine rc_iload (pc := 1695) hC dL_law_1695 rfl ?_
  refine rc_iconst (pc := 1697) hC (v := (1 : Int32)) dL_law_1697 rfl ?_
  refine rc_iadd (pc := 1698) hC dL_law_1698 ?_
  refine rc_r_iald (pc := 1699) hC dL_law_1699 h ?_
  intro x4 h
  refine rc_aload_n (pc := 1700) hC dL_law_1700 rfl rfl ?_
  refine rc_iload (pc := 1701) hC dL_law_1701 rfl ?_
  refine rc_iconst (pc := 1703) hC (v := (2 : Int32)) dL_law_1703 rfl ?_
  refine rc_iadd (pc := 1704) hC dL_law_1704 ?_
  refine rc_r_iald (pc := 1705) hC dL_law_1705 h ?_
  intro x5 h
  obtain ⟨⟨he, hf⟩, h⟩ := h.isM
  refine rc_callM (pc := 1706) hC (As := [rc_i x4, rc_i x5]) (st := []) (rw_X9_widestWay hH.1 x4 x5) q2547 q2548 q2549 q149 q2550 rfl rd_X9_widestWay (hH.room (Nat.le_of_ble_eq_true rfl) (Nat.le_of_ble_eq_true rfl)) rfl rfl (Nat.le_of_ble_eq_true rfl) 2 rfl h.le.2.2 (Or.inr hf) h.br (by rw [he]; first | done | rfl) dL_law_1706 ?_ (fun E q S hT => rc_out hC hH.2.2.2.2 hT)
  intro x6 S h
  show rc_Z Y S 1709 [some (rc_q v0), some (rc_q v1), some (rc_q v2), some (rc_q v3), some (rc_i v4), some (rc_i x3), none, none, none] [rc_i x6]
  refine rc_istore (pc := 1709) hC (L' := [some (rc_q v0), some (rc_q v1), some (rc_q v2), some (rc_q v3), some (rc_i v4), some (rc_i x3), some (rc_i x6), none, none]) dL_law_1709 (Nat.le_of_ble_eq_true rfl) rfl rfl ?_
  refine rc_aload_n (pc := 1711) hC dL_law_1711 rfl rfl ?_
  obtain ⟨⟨he, hf⟩, h⟩ := h.isM
  refine rc_callM (pc := 1712) hC (As := []) (st := []) (rw_X9_thrown hH.1) q2376 q2377 q2378 q149 q2379 rfl rd_X9_thrown (hH.room (Nat.le_of_ble_eq_true rfl) (Nat.le_of_ble_eq_true rfl)) rfl rfl (Nat.le_of_ble_eq_true rfl) 0 rfl h.le.2.2 (Or.inr hf) h.br (by rw [he]; first | done | rfl) dL_law_1712 ?_ (fun E q S hT => rc_out hC hH.2.2.2.2 hT)
  intro x7 S h
  show rc_Z Y S 1715 [some (rc_q v0), some (rc_q v1), some (rc_q v2), some (rc_q v3), some (rc_i v4), some (rc_i x3), some (rc_i x6), none, none] [rc_i x7]
  refine rc_iload (pc := 1715) hC dL_law_1715 rfl ?_
  refine rc_icmp_eq (pc := 1717) (tgt := 1722) hC dL_law_1717 rfl h ?_ ?_
  · intro _ h
    refine rc_iload (pc := 1722) hC dL_law_1722 rfl ?_
    refine rc_if_ne (pc := 1724) (tgt := 1739) hC dL_law_1724 rfl h ?_ ?_
    · intro _ h
      refine rc_drop [true, true, true, true, true, false, false, false, false] (L' := [some (rc_q v0), some (rc_q v1), some (rc_q v2), some (rc_q v3), some (rc_i v4), none, none, none, none]) rfl ?_
      exact rw_L_law_L1739 hC hH hk23 v0 v1 v2 v3 v4 S h
    intro _ h
    refine rc_aload_n (pc := 1727) hC dL_law_1727 rfl rfl ?_
    refine rc_iconst (pc := 1728) hC (v := (0 : Int32)) dL_law_1728 rfl ?_
    refine rc_r_lald (pc := 1729) hC dL_law_1729 h ?_
    intro x8 h
    refine rc_iload (pc := 1730) hC dL_law_1730 rfl ?_
    refine rc_i2l (pc := 1732) hC dL_law_1732 ?_
    refine rc_lcmp (pc := 1733) hC dL_law_1733 ?_
    refine rc_if_eq (pc := 1734) (tgt := 1739) hC dL_law_1734 rfl h ?_ ?_
    · intro _ h
      refine rc_drop [true, true, true, true, true, false, false, false, false] (L' := [some (rc_q v0), some (rc_q v1), some (rc_q v2), some (rc_q v3), some (rc_i v4), none, none, none, none]) rfl ?_
      exact rw_L_law_L1739 hC hH hk23 v0 v1 v2 v3 v4 S h
    intro _ h
    refine rc_iconst (pc := 1737) hC (v := (0 : Int32)) dL_law_1737 rfl ?_
    exact rc_iret hC rfl rfl dL_law_1738 h rfl
  intro _ h
  refine rc_iconst (pc := 1720) hC (v := (0 : Int32)) dL_law_1720 rfl ?_
  exact rc_iret hC rfl rfl dL_law_1721 h rfl
theorem rw_L_law_L1742 {Y : rc_Y} (hC : rc_C Y cL_law RX0 ret 9) (hH : rc_H Y 20 419 "law") {k23 : Option Nat → Option Nat → Option Nat → Option Nat → Int32 → rc_M Int32} (hk23 : ∀ (v0 : Option Nat) (v1 : Option Nat) (v2 : Option Nat) (v3 : Option Nat) (v4 : Int32) (S : rc_S), rc_Go Y rc_tI (k23 v0 v1 v2 v3 v4) S → rc_Z Y S 23 [some (rc_q v0), some (rc_q v1), some (rc_q v2), some (rc_q v3), some (rc_i v4), none, none, none, none] []) (v0 : Option Nat) (v1 : Option Nat) (v2 : Option Nat) (v3 : Option Nat) (v4 : Int32) (S : rc_S) (h : rc_Go Y rc_tI (rp_L_law_L1742 k23 v0 v1 v2 v3 v4) S) : rc_Z Y S 1742 [some (rc_q v0), some (rc_q v1), some (rc_q v2), some (rc_q v3), some (rc_i v4), none, none, none, none] [] := by
  unfold rp_L_law_L1742 at h
  refine rc_aload_n (pc := 1742) hC dL_law_1742 rfl rfl ?_
  obtain ⟨⟨fs, ho⟩, h⟩ := h.is
  refine rc_callV (pc := 1743) hC rfl ho (rw_X1_warmestFree hH.1 v1) q1528 q1529 q1530 q116 q1531 rfl rd_X1_warmestFree (hH.room (Nat.le_of_ble_eq_true rfl) (Nat.le_of_ble_eq_true rfl)) rfl rfl (Nat.le_of_ble_eq_true rfl) 0 rfl h.le.2.2 h.br rfl dL_law_1743 ?_ (fun E q S hT => rc_out hC hH.2.2.2.2 hT)
  intro x1 S h
  show rc_Z Y S 1746 [some (rc_q v0), some (rc_q v1), some (rc_q v2), some (rc_q v3), some (rc_i v4), none, none, none, none] [rc_i x1]
  refine rc_aload_n (pc := 1746) hC dL_law_1746 rfl rfl ?_
  obtain ⟨⟨he, hf⟩, h⟩ := h.isM
  refine rc_callM (pc := 1747) hC (As := []) (st := [rc_i x1]) (rw_X9_warmestFree hH.1) q2555 q2556 q2557 q149 q2558 rfl rd_X9_warmestFree (hH.room (Nat.le_of_ble_eq_true rfl) (Nat.le_of_ble_eq_true rfl)) rfl rfl (Nat.le_of_ble_eq_true rfl) 0 rfl h.le.2.2 (Or.inr hf) h.br (by rw [he]; first | done | rfl) dL_law_1747 ?_ (fun E q S hT => rc_out hC hH.2.2.2.2 hT)
  intro x2 S h
  show rc_Z Y S 1750 [some (rc_q v0), some (rc_q v1), some (rc_q v2), some (rc_q v3), some (rc_i v4), none, none, none, none] [rc_i x2, rc_i x1]
  refine rc_icmp_eq (pc := 1750) (tgt := 2957) hC dL_law_1750 rfl h ?_ ?_
  · intro _ h
    exact rw_L_law_L2957 hC hH hk23 v0 v1 v2 v3 v4 S h
  intro _ h
  refine rc_iconst (pc := 1753) hC (v := (0 : Int32)) dL_law_1753 rfl ?_
  exact rc_iret hC rfl rfl dL_law_1754 h rfl
theorem rw_L_law_L1808 {Y : rc_Y} (hC : rc_C Y cL_law RX0 ret 9) (hH : rc_H Y 20 419 "law") {k23 : Option Nat → Option Nat → Option Nat → Option Nat → Int32 → rc_M Int32} (hk23 : ∀ (v0 : Option Nat) (v1 : Option Nat) (v2 : Option Nat) (v3 : Option Nat) (v4 : Int32) (S : rc_S), rc_Go Y rc_tI (k23 v0 v1 v2 v3 v4) S → rc_Z Y S 23 [some (rc_q v0), some (rc_q v1), some (rc_q v2), some (rc_q v3), some (rc_i v4), none, none, none, none] []) (v0 : Option Nat) (v1 : Option Nat) (v2 : Option Nat) (v3 : Option Nat) (v4 : Int32) (S : rc_S) (h : rc_Go Y rc_tI (rp_L_law_L1808 k23 v0 v1 v2 v3 v4) S) : rc_Z Y S 1808 [some (rc_q v0), some (rc_q v1), some (rc_q v2), some (rc_q v3), some (rc_i v4), none, none, none, none] [] := by
  unfold rp_L_law_L1808 at h
  refine rc_goto (pc := 1808) (tgt := 2957) hC dL_law_1808 rfl ?_
  exact rw_L_law_L2957 hC hH hk23 v0 v1 v2 v3 v4 S h
theorem rw_L_law_L1755 {Y : rc_Y} (hC : rc_C Y cL_law RX0 ret 9) (hH : rc_H Y 20 419 "law") {k23 : Option Nat → Option Nat → Option Nat → Option Nat → Int32 → rc_M Int32} (hk23 : ∀ (v0 : Option Nat) (v1 : Option Nat) (v2 : Option Nat) (v3 : Option Nat) (v4 : Int32) (S : rc_S), rc_Go Y rc_tI (k23 v0 v1 v2 v3 v4) S → rc_Z Y S 23 [some (rc_q v0), some (rc_q v1), some (rc_q v2), some (rc_q v3), some (rc_i v4), none, none, none, none] []) (v0 : Option Nat) (v1 : Option Nat) (v2 : Option Nat) (v3 : Option Nat) (v4 : Int32) (S : rc_S) (h : rc_Go Y rc_tI (rp_L_law_L1755 k23 v0 v1 v2 v3 v4) S) : rc_Z Y S 1755 [some (rc_q v0), some (rc_q v1), some (rc_q v2), some (rc_q v3), some (rc_i v4), none, none, none, none] [] := by
  unfold rp_L_law_L1755 at h
  refine rc_aload_n (pc := 1755) hC dL_law_1755 rfl rfl ?_
  refine rc_aload_n (pc := 1756) hC dL_law_1756 rfl rfl ?_
  refine rc_iload (pc := 1757) hC dL_law_1757 rfl ?_
  refine rc_iconst (pc := 1759) hC (v := (1 : Int32)) dL_law_1759 rfl ?_
  refine rc_iadd (pc := 1760) hC dL_law_1760 ?_
  refine rc_r_iald (pc := 1761) hC dL_law_1761 h ?_
  intro x1 h
  refine rc_aload_n (pc := 1762) hC dL_law_1762 rfl rfl ?_
  refine rc_callSW (pc := 1763) hC (rw_X0_girth hH.1 v1 x1 v3) q1878 q1879 q115 q1880 rd_X0_girth (hH.room (Nat.le_of_ble_eq_true rfl) (Nat.le_of_ble_eq_true rfl)) rfl rfl (Nat.le_of_ble_eq_true rfl) 3 rfl h.le.2.2 h.br rfl dL_law_1763 ?_ (fun E q S hT => rc_out hC hH.2.2.2.2 hT)
  intro x2 S h
  show rc_Z Y S 1766 [some (rc_q v0), some (rc_q v1), some (rc_q v2), some (rc_q v3), some (rc_i v4), none, none, none, none] [rc_i x2]
  refine rc_istore (pc := 1766) hC (L' := [some (rc_q v0), some (rc_q v1), some (rc_q v2), some (rc_q v3), some (rc_i v4), some (rc_i x2), none, none, none]) dL_law_1766 (Nat.le_of_ble_eq_true rfl) rfl rfl ?_
  refine rc_aload_n (pc := 1768) hC dL_law_1768 rfl rfl ?_
  refine rc_aload_n (pc := 1769) hC dL_law_1769 rfl rfl ?_
  refine rc_iload (pc := 1770) hC dL_law_1770 rfl ?_
  refine rc_iconst (pc := 1772) hC (v := (1 : Int32)) dL_law_1772 rfl ?_
  refine rc_iadd (pc := 1773) hC dL_law_1773 ?_
  refine rc_r_iald (pc := 1774) hC dL_law_1774 h ?_
  intro x3 h
  obtain ⟨⟨he, hf⟩, h⟩ := h.isM
  refine rc_callM (pc := 1775) hC (As := [rc_i x3]) (st := []) (rw_X9_girth hH.1 x3) q2559 q2560 q2561 q149 q2562 rfl rd_X9_girth (hH.room (Nat.le_of_ble_eq_true rfl) (Nat.le_of_ble_eq_true rfl)) rfl rfl (Nat.le_of_ble_eq_true rfl) 1 rfl h.le.2.2 (Or.inr hf) h.br (by rw [he]; first | done | rfl) dL_law_1775 ?_ (fun E q S hT => rc_out hC hH.2.2.2.2 hT)
  intro x4 S h
  show rc_Z Y S 1778 [some (rc_q v0), some (rc_q v1), some (rc_q v2), some (rc_q v3), some (rc_i v4), some (rc_i x2), none, none, none] [rc_i x4]
  refine rc_istore (pc := 1778) hC (L' := [some (rc_q v0), some (rc_q v1), some (rc_q v2), some (rc_q v3), some (rc_i v4), some (rc_i x2), some (rc_i x4), none, none]) dL_law_1778 (Nat.le_of_ble_eq_true rfl) rfl rfl ?_
  refine rc_aload_n (pc := 1780) hC dL_law_1780 rfl rfl ?_
  obtain ⟨⟨he, hf⟩, h⟩ := h.isM
  refine rc_callM (pc := 1781) hC (As := []) (st := []) (rw_X9_thrown hH.1) q2376 q2377 q2378 q149 q2379 rfl rd_X9_thrown (hH.room (Nat.le_of_ble_eq_true rfl) (Nat.le_of_ble_eq_true rfl)) rfl rfl (Nat.le_of_ble_eq_true rfl) 0 rfl h.le.2.2 (Or.inr hf) h.br (by rw [he]; first | done | rfl) dL_law_1781 ?_ (fun E q S hT => rc_out hC hH.2.2.2.2 hT)
  intro x5 S h
  show rc_Z Y S 1784 [some (rc_q v0), some (rc_q v1), some (rc_q v2), some (rc_q v3), some (rc_i v4), some (rc_i x2), some (rc_i x4), none, none] [rc_i x5]
  refine rc_iload (pc := 1784) hC dL_law_1784 rfl ?_
  refine rc_icmp_eq (pc := 1786) (tgt := 1791) hC dL_law_1786 rfl h ?_ ?_
  · intro _ h
    refine rc_iload (pc := 1791) hC dL_law_1791 rfl ?_
    refine rc_if_ne (pc := 1793) (tgt := 1808) hC dL_law_1793 rfl h ?_ ?_
    · intro _ h
      refine rc_drop [true, true, true, true, true, false, false, false, false] (L' := [some (rc_q v0), some (rc_q v1), some (rc_q v2), some (rc_q v3), some (rc_i v4), none, none, none, none]) rfl ?_
      exact rw_L_law_L1808 hC hH hk23 v0 v1 v2 v3 v4 S h
    intro _ h
    refine rc_aload_n (pc := 1796) hC dL_law_1796 rfl rfl ?_
    refine rc_iconst (pc := 1797) hC (v := (0 : Int32)) dL_law_1797 rfl ?_
    refine rc_r_lald (pc := 1798) hC dL_law_1798 h ?_
    intro x6 h
    refine rc_iload (pc := 1799) hC dL_law_1799 rfl ?_
    refine rc_i2l (pc := 1801) hC dL_law_1801 ?_
    refine rc_lcmp (pc := 1802) hC dL_law_1802 ?_
    refine rc_if_eq (pc := 1803) (tgt := 1808) hC dL_law_1803 rfl h ?_ ?_
    · intro _ h
      refine rc_drop [true, true, true, true, true, false, false, false, false] (L' := [some (rc_q v0), some (rc_q v1), some (rc_q v2), some (rc_q v3), some (rc_i v4), none, none, none, none]) rfl ?_
      exact rw_L_law_L1808 hC hH hk23 v0 v1 v2 v3 v4 S h
    intro _ h
    refine rc_iconst (pc := 1806) hC (v := (0 : Int32)) dL_law_1806 rfl ?_
    exact rc_iret hC rfl rfl dL_law_1807 h rfl
  intro _ h
  refine rc_iconst (pc := 1789) hC (v := (0 : Int32)) dL_law_1789 rfl ?_
  exact rc_iret hC rfl rfl dL_law_1790 h rfl
theorem rw_L_law_L1864 {Y : rc_Y} (hC : rc_C Y cL_law RX0 ret 9) (hH : rc_H Y 20 419 "law") {k23 : Option Nat → Option Nat → Option Nat → Option Nat → Int32 → rc_M Int32} (hk23 : ∀ (v0 : Option Nat) (v1 : Option Nat) (v2 : Option Nat) (v3 : Option Nat) (v4 : Int32) (S : rc_S), rc_Go Y rc_tI (k23 v0 v1 v2 v3 v4) S → rc_Z Y S 23 [some (rc_q v0), some (rc_q v1), some (rc_q v2), some (rc_q v3), some (rc_i v4), none, none, none, none] []) (v0 : Option Nat) (v1 : Option Nat) (v2 : Option Nat) (v3 : Option Nat) (v4 : Int32) (S : rc_S) (h : rc_Go Y rc_tI (rp_L_law_L1864 k23 v0 v1 v2 v3 v4) S) : rc_Z Y S 1864 [some (rc_q v0), some (rc_q v1), some (rc_q v2), some (rc_q v3), some (rc_i v4), none, none, none, none] [] := by
  unfold rp_L_law_L1864 at h
  refine rc_goto (pc := 1864) (tgt := 2957) hC dL_law_1864 rfl ?_
  exact rw_L_law_L2957 hC hH hk23 v0 v1 v2 v3 v4 S h
theorem rw_L_law_L1811 {Y : rc_Y} (hC : rc_C Y cL_law RX0 ret 9) (hH : rc_H Y 20 419 "law") {k23 : Option Nat → Option Nat → Option Nat → Option Nat → Int32 → rc_M Int32} (hk23 : ∀ (v0 : Option Nat) (v1 : Option Nat) (v2 : Option Nat) (v3 : Option Nat) (v4 : Int32) (S : rc_S), rc_Go Y rc_tI (k23 v0 v1 v2 v3 v4) S → rc_Z Y S 23 [some (rc_q v0), some (rc_q v1), some (rc_q v2), some (rc_q v3), some (rc_i v4), none, none, none, none] []) (v0 : Option Nat) (v1 : Option Nat) (v2 : Option Nat) (v3 : Option Nat) (v4 : Int32) (S : rc_S) (h : rc_Go Y rc_tI (rp_L_law_L1811 k23 v0 v1 v2 v3 v4) S) : rc_Z Y S 1811 [some (rc_q v0), some (rc_q v1), some (rc_q v2), some (rc_q v3), some (rc_i v4), none, none, none, none] [] := by
  unfold rp_L_law_L1811 at h
  refine rc_aload_n (pc := 1811) hC dL_law_1811 rfl rfl ?_
  refine rc_aload_n (pc := 1812) hC dL_law_1812 rfl rfl ?_
  refine rc_iload (pc := 1813) hC dL_law_1813 rfl ?_
  refine rc_iconst (pc := 1815) hC (v := (1 : Int32)) dL_law_1815 rfl ?_
  refine rc_iadd (pc := 1816) hC dL_law_1816 ?_
  refine rc_r_iald (pc := 1817) hC dL_law_1817 h ?_
  intro x1 h
  refine rc_aload_n (pc := 1818) hC dL_law_1818 rfl rfl ?_
  refine rc_callSW (pc := 1819) hC (rw_X0_power hH.1 v1 x1 v3) q1885 q1886 q115 q1887 rd_X0_power (hH.room (Nat.le_of_ble_eq_true rfl) (Nat.le_of_ble_eq_true rfl)) rfl rfl (Nat.le_of_ble_eq_true rfl) 3 rfl h.le.2.2 h.br rfl dL_law_1819 ?_ (fun E q S hT => rc_out hC hH.2.2.2.2 hT)
  intro x2 S h
  show rc_Z Y S 1822 [some (rc_q v0), some (rc_q v1), some (rc_q v2), some (rc_q v3), some (rc_i v4), none, none, none, none] [rc_i x2]
  refine rc_istore (pc := 1822) hC (L' := [some (rc_q v0), some (rc_q v1), some (rc_q v2), some (rc_q v3), some (rc_i v4), some (rc_i x2), none, none, none]) dL_law_1822 (Nat.le_of_ble_eq_true rfl) rfl rfl ?_
  refine rc_aload_n (pc := 1824) hC dL_law_1824 rfl rfl ?_
  refine rc_aload_n (pc := 1825) hC dL_law_1825 rfl rfl ?_
  refine rc_iload (pc := 1826) hC dL_law_1826 rfl ?_
  refine rc_iconst (pc := 1828) hC (v := (1 : Int32)) dL_law_1828 rfl ?_
  refine rc_iadd (pc := 1829) hC dL_law_1829 ?_
  refine rc_r_iald (pc := 1830) hC dL_law_1830 h ?_
  intro x3 h
  obtain ⟨⟨he, hf⟩, h⟩ := h.isM
  refine rc_callM (pc := 1831) hC (As := [rc_i x3]) (st := []) (rw_X9_power hH.1 x3) q2567 q2568 q2569 q149 q2570 rfl rd_X9_power (hH.room (Nat.le_of_ble_eq_true rfl) (Nat.le_of_ble_eq_true rfl)) rfl rfl (Nat.le_of_ble_eq_true rfl) 1 rfl h.le.2.2 (Or.inr hf) h.br (by rw [he]; first | done | rfl) dL_law_1831 ?_ (fun E q S hT => rc_out hC hH.2.2.2.2 hT)
  intro x4 S h
  show rc_Z Y S 1834 [some (rc_q v0), some (rc_q v1), some (rc_q v2), some (rc_q v3), some (rc_i v4), some (rc_i x2), none, none, none] [rc_i x4]
  refine rc_istore (pc := 1834) hC (L' := [some (rc_q v0), some (rc_q v1), some (rc_q v2), some (rc_q v3), some (rc_i v4), some (rc_i x2), some (rc_i x4), none, none]) dL_law_1834 (Nat.le_of_ble_eq_true rfl) rfl rfl ?_
  refine rc_aload_n (pc := 1836) hC dL_law_1836 rfl rfl ?_
  obtain ⟨⟨he, hf⟩, h⟩ := h.isM
  refine rc_callM (pc := 1837) hC (As := []) (st := []) (rw_X9_thrown hH.1) q2376 q2377 q2378 q149 q2379 rfl rd_X9_thrown (hH.room (Nat.le_of_ble_eq_true rfl) (Nat.le_of_ble_eq_true rfl)) rfl rfl (Nat.le_of_ble_eq_true rfl) 0 rfl h.le.2.2 (Or.inr hf) h.br (by rw [he]; first | done | rfl) dL_law_1837 ?_ (fun E q S hT => rc_out hC hH.2.2.2.2 hT)
  intro x5 S h
  show rc_Z Y S 1840 [some (rc_q v0), some (rc_q v1), some (rc_q v2), some (rc_q v3), some (rc_i v4), some (rc_i x2), some (rc_i x4), none, none] [rc_i x5]
  refine rc_iload (pc := 1840) hC dL_law_1840 rfl ?_
  refine rc_icmp_eq (pc := 1842) (tgt := 1847) hC dL_law_1842 rfl h ?_ ?_
  · intro _ h
    refine rc_iload (pc := 1847) hC dL_law_1847 rfl ?_
    refine rc_if_ne (pc := 1849) (tgt := 1864) hC dL_law_1849 rfl h ?_ ?_
    · intro _ h
      refine rc_drop [true, true, true, true, true, false, false, false, false] (L' := [some (rc_q v0), some (rc_q v1), some (rc_q v2), some (rc_q v3), some (rc_i v4), none, none, none, none]) rfl ?_
      exact rw_L_law_L1864 hC hH hk23 v0 v1 v2 v3 v4 S h
    intro _ h
    refine rc_aload_n (pc := 1852) hC dL_law_1852 rfl rfl ?_
    refine rc_iconst (pc := 1853) hC (v := (0 : Int32)) dL_law_1853 rfl ?_
    refine rc_r_lald (pc := 1854) hC dL_law_1854 h ?_
    intro x6 h
    refine rc_iload (pc := 1855) hC dL_law_1855 rfl ?_
    refine rc_i2l (pc := 1857) hC dL_law_1857 ?_
    refine rc_lcmp (pc := 1858) hC dL_law_1858 ?_
    refine rc_if_eq (pc := 1859) (tgt := 1864) hC dL_law_1859 rfl h ?_ ?_
    · intro _ h
      refine rc_drop [true, true, true, true, true, false, false, false, false] (L' := [some (rc_q v0), some (rc_q v1), some (rc_q v2), some (rc_q v3), some (rc_i v4), none, none, none, none]) rfl ?_
      exact rw_L_law_L1864 hC hH hk23 v0 v1 v2 v3 v4 S h
    intro _ h
    refine rc_iconst (pc := 1862) hC (v := (0 : Int32)) dL_law_1862 rfl ?_
    exact rc_iret hC rfl rfl dL_law_1863 h rfl
  intro _ h
  refine rc_iconst (pc := 1845) hC (v := (0 : Int32)) dL_law_1845 rfl ?_
  exact rc_iret hC rfl rfl dL_law_1846 h rfl
theorem rw_L_law_L1920 {Y : rc_Y} (hC : rc_C Y cL_law RX0 ret 9) (hH : rc_H Y 20 419 "law") {k23 : Option Nat → Option Nat → Option Nat → Option Nat → Int32 → rc_M Int32} (hk23 : ∀ (v0 : Option Nat) (v1 : Option Nat) (v2 : Option Nat) (v3 : Option Nat) (v4 : Int32) (S : rc_S), rc_Go Y rc_tI (k23 v0 v1 v2 v3 v4) S → rc_Z Y S 23 [some (rc_q v0), some (rc_q v1), some (rc_q v2), some (rc_q v3), some (rc_i v4), none, none, none, none] []) (v0 : Option Nat) (v1 : Option Nat) (v2 : Option Nat) (v3 : Option Nat) (v4 : Int32) (S : rc_S) (h : rc_Go Y rc_tI (rp_L_law_L1920 k23 v0 v1 v2 v3 v4) S) : rc_Z Y S 1920 [some (rc_q v0), some (rc_q v1), some (rc_q v2), some (rc_q v3), some (rc_i v4), none, none, none, none] [] := by
  unfold rp_L_law_L1920 at h
  refine rc_goto (pc := 1920) (tgt := 2957) hC dL_law_1920 rfl ?_
  exact rw_L_law_L2957 hC hH hk23 v0 v1 v2 v3 v4 S h
theorem rw_L_law_L1867 {Y : rc_Y} (hC : rc_C Y cL_law RX0 ret 9) (hH : rc_H Y 20 419 "law") {k23 : Option Nat → Option Nat → Option Nat → Option Nat → Int32 → rc_M Int32} (hk23 : ∀ (v0 : Option Nat) (v1 : Option Nat) (v2 : Option Nat) (v3 : Option Nat) (v4 : Int32) (S : rc_S), rc_Go Y rc_tI (k23 v0 v1 v2 v3 v4) S → rc_Z Y S 23 [some (rc_q v0), some (rc_q v1), some (rc_q v2), some (rc_q v3), some (rc_i v4), none, none, none, none] []) (v0 : Option Nat) (v1 : Option Nat) (v2 : Option Nat) (v3 : Option Nat) (v4 : Int32) (S : rc_S) (h : rc_Go Y rc_tI (rp_L_law_L1867 k23 v0 v1 v2 v3 v4) S) : rc_Z Y S 1867 [some (rc_q v0), some (rc_q v1), some (rc_q v2), some (rc_q v3), some (rc_i v4), none, none, none, none] [] := by
  unfold rp_L_law_L1867 at h
  refine rc_aload_n (pc := 1867) hC dL_law_1867 rfl rfl ?_
  refine rc_aload_n (pc := 1868) hC dL_law_1868 rfl rfl ?_
  refine rc_iload (pc := 1869) hC dL_law_1869 rfl ?_
  refine rc_iconst (pc := 1871) hC (v := (1 : Int32)) dL_law_1871 rfl ?_
  refine rc_iadd (pc := 1872) hC dL_law_1872 ?_
  refine rc_r_iald (pc := 1873) hC dL_law_1873 h ?_
  intro x1 h
  refine rc_aload_n (pc := 1874) hC dL_law_1874 rfl rfl ?_
  refine rc_callSW (pc := 1875) hC (rw_X0_fish hH.1 v1 x1 v3) q1893 q1894 q115 q1895 rd_X0_fish (hH.room (Nat.le_of_ble_eq_true rfl) (Nat.le_of_ble_eq_true rfl)) rfl rfl (Nat.le_of_ble_eq_true rfl) 3 rfl h.le.2.2 h.br rfl dL_law_1875 ?_ (fun E q S hT => rc_out hC hH.2.2.2.2 hT)
  intro x2 S h
  show rc_Z Y S 1878 [some (rc_q v0), some (rc_q v1), some (rc_q v2), some (rc_q v3), some (rc_i v4), none, none, none, none] [rc_i x2]
  refine rc_istore (pc := 1878) hC (L' := [some (rc_q v0), some (rc_q v1), some (rc_q v2), some (rc_q v3), some (rc_i v4), some (rc_i x2), none, none, none]) dL_law_1878 (Nat.le_of_ble_eq_true rfl) rfl rfl ?_
  refine rc_aload_n (pc := 1880) hC dL_law_1880 rfl rfl ?_
  refine rc_aload_n (pc := 1881) hC dL_law_1881 rfl rfl ?_
  refine rc_iload (pc := 1882) hC dL_law_1882 rfl ?_
  refine rc_iconst (pc := 1884) hC (v := (1 : Int32)) dL_law_1884 rfl ?_
  refine rc_iadd (pc := 1885) hC dL_law_1885 ?_
  refine rc_r_iald (pc := 1886) hC dL_law_1886 h ?_
  intro x3 h
  obtain ⟨⟨he, hf⟩, h⟩ := h.isM
  refine rc_callM (pc := 1887) hC (As := [rc_i x3]) (st := []) (rw_X9_fish hH.1 x3) q2571 q2572 q2573 q149 q2574 rfl rd_X9_fish (hH.room (Nat.le_of_ble_eq_true rfl) (Nat.le_of_ble_eq_true rfl)) rfl rfl (Nat.le_of_ble_eq_true rfl) 1 rfl h.le.2.2 (Or.inr hf) h.br (by rw [he]; first | done | rfl) dL_law_1887 ?_ (fun E q S hT => rc_out hC hH.2.2.2.2 hT)
  intro x4 S h
  show rc_Z Y S 1890 [some (rc_q v0), some (rc_q v1), some (rc_q v2), some (rc_q v3), some (rc_i v4), some (rc_i x2), none, none, none] [rc_i x4]
  refine rc_istore (pc := 1890) hC (L' := [some (rc_q v0), some (rc_q v1), some (rc_q v2), some (rc_q v3), some (rc_i v4), some (rc_i x2), some (rc_i x4), none, none]) dL_law_1890 (Nat.le_of_ble_eq_true rfl) rfl rfl ?_
  refine rc_aload_n (pc := 1892) hC dL_law_1892 rfl rfl ?_
  obtain ⟨⟨he, hf⟩, h⟩ := h.isM
  refine rc_callM (pc := 1893) hC (As := []) (st := []) (rw_X9_thrown hH.1) q2376 q2377 q2378 q149 q2379 rfl rd_X9_thrown (hH.room (Nat.le_of_ble_eq_true rfl) (Nat.le_of_ble_eq_true rfl)) rfl rfl (Nat.le_of_ble_eq_true rfl) 0 rfl h.le.2.2 (Or.inr hf) h.br (by rw [he]; first | done | rfl) dL_law_1893 ?_ (fun E q S hT => rc_out hC hH.2.2.2.2 hT)
  intro x5 S h
  show rc_Z Y S 1896 [some (rc_q v0), some (rc_q v1), some (rc_q v2), some (rc_q v3), some (rc_i v4), some (rc_i x2), some (rc_i x4), none, none] [rc_i x5]
  refine rc_iload (pc := 1896) hC dL_law_1896 rfl ?_
  refine rc_icmp_eq (pc := 1898) (tgt := 1903) hC dL_law_1898 rfl h ?_ ?_
  · intro _ h
    refine rc_iload (pc := 1903) hC dL_law_1903 rfl ?_
    refine rc_if_ne (pc := 1905) (tgt := 1920) hC dL_law_1905 rfl h ?_ ?_
    · intro _ h
      refine rc_drop [true, true, true, true, true, false, false, false, false] (L' := [some (rc_q v0), some (rc_q v1), some (rc_q v2), some (rc_q v3), some (rc_i v4), none, none, none, none]) rfl ?_
      exact rw_L_law_L1920 hC hH hk23 v0 v1 v2 v3 v4 S h
    intro _ h
    refine rc_aload_n (pc := 1908) hC dL_law_1908 rfl rfl ?_
    refine rc_iconst (pc := 1909) hC (v := (0 : Int32)) dL_law_1909 rfl ?_
    refine rc_r_lald (pc := 1910) hC dL_law_1910 h ?_
    intro x6 h
    refine rc_iload (pc := 1911) hC dL_law_1911 rfl ?_
    refine rc_i2l (pc := 1913) hC dL_law_1913 ?_
    refine rc_lcmp (pc := 1914) hC dL_law_1914 ?_
    refine rc_if_eq (pc := 1915) (tgt := 1920) hC dL_law_1915 rfl h ?_ ?_
    · intro _ h
      refine rc_drop [true, true, true, true, true, false, false, false, false] (L' := [some (rc_q v0), some (rc_q v1), some (rc_q v2), some (rc_q v3), some (rc_i v4), none, none, none, none]) rfl ?_
      exact rw_L_law_L1920 hC hH hk23 v0 v1 v2 v3 v4 S h
    intro _ h
    refine rc_iconst (pc := 1918) hC (v := (0 : Int32)) dL_law_1918 rfl ?_
    exact rc_iret hC rfl rfl dL_law_1919 h rfl
  intro _ h
  refine rc_iconst (pc := 1901) hC (v := (0 : Int32)) dL_law_1901 rfl ?_
  exact rc_iret hC rfl rfl dL_law_1902 h rfl
theorem rw_L_law_L1976 {Y : rc_Y} (hC : rc_C Y cL_law RX0 ret 9) (hH : rc_H Y 20 419 "law") {k23 : Option Nat → Option Nat → Option Nat → Option Nat → Int32 → rc_M Int32} (hk23 : ∀ (v0 : Option Nat) (v1 : Option Nat) (v2 : Option Nat) (v3 : Option Nat) (v4 : Int32) (S : rc_S), rc_Go Y rc_tI (k23 v0 v1 v2 v3 v4) S → rc_Z Y S 23 [some (rc_q v0), some (rc_q v1), some (rc_q v2), some (rc_q v3), some (rc_i v4), none, none, none, none] []) (v0 : Option Nat) (v1 : Option Nat) (v2 : Option Nat) (v3 : Option Nat) (v4 : Int32) (S : rc_S) (h : rc_Go Y rc_tI (rp_L_law_L1976 k23 v0 v1 v2 v3 v4) S) : rc_Z Y S 1976 [some (rc_q v0), some (rc_q v1), some (rc_q v2), some (rc_q v3), some (rc_i v4), none, none, none, none] [] := by
  unfold rp_L_law_L1976 at h
  refine rc_goto (pc := 1976) (tgt := 2957) hC dL_law_1976 rfl ?_
  exact rw_L_law_L2957 hC hH hk23 v0 v1 v2 v3 v4 S h
theorem rw_L_law_L1923 {Y : rc_Y} (hC : rc_C Y cL_law RX0 ret 9) (hH : rc_H Y 20 419 "law") {k23 : Option Nat → Option Nat → Option Nat → Option Nat → Int32 → rc_M Int32} (hk23 : ∀ (v0 : Option Nat) (v1 : Option Nat) (v2 : Option Nat) (v3 : Option Nat) (v4 : Int32) (S : rc_S), rc_Go Y rc_tI (k23 v0 v1 v2 v3 v4) S → rc_Z Y S 23 [some (rc_q v0), some (rc_q v1), some (rc_q v2), some (rc_q v3), some (rc_i v4), none, none, none, none] []) (v0 : Option Nat) (v1 : Option Nat) (v2 : Option Nat) (v3 : Option Nat) (v4 : Int32) (S : rc_S) (h : rc_Go Y rc_tI (rp_L_law_L1923 k23 v0 v1 v2 v3 v4) S) : rc_Z Y S 1923 [some (rc_q v0), some (rc_q v1), some (rc_q v2), some (rc_q v3), some (rc_i v4), none, none, none, none] [] := by
  unfold rp_L_law_L1923 at h
  refine rc_aload_n (pc := 1923) hC dL_law_1923 rfl rfl ?_
  refine rc_aload_n (pc := 1924) hC dL_law_1924 rfl rfl ?_
  refine rc_iload (pc := 1925) hC dL_law_1925 rfl ?_
  refine rc_iconst (pc := 1927) hC (v := (1 : Int32)) dL_law_1927 rfl ?_
  refine rc_iadd (pc := 1928) hC dL_law_1928 ?_
  refine rc_r_iald (pc := 1929) hC dL_law_1929 h ?_
  intro x1 h
  refine rc_aload_n (pc := 1930) hC dL_law_1930 rfl rfl ?_
  refine rc_callSW (pc := 1931) hC (rw_X0_chimneyOf hH.1 v1 x1 v3) q1900 q1901 q115 q1902 rd_X0_chimneyOf (hH.room (Nat.le_of_ble_eq_true rfl) (Nat.le_of_ble_eq_true rfl)) rfl rfl (Nat.le_of_ble_eq_true rfl) 3 rfl h.le.2.2 h.br rfl dL_law_1931 ?_ (fun E q S hT => rc_out hC hH.2.2.2.2 hT)
  intro x2 S h
  show rc_Z Y S 1934 [some (rc_q v0), some (rc_q v1), some (rc_q v2), some (rc_q v3), some (rc_i v4), none, none, none, none] [rc_i x2]
  refine rc_istore (pc := 1934) hC (L' := [some (rc_q v0), some (rc_q v1), some (rc_q v2), some (rc_q v3), some (rc_i v4), some (rc_i x2), none, none, none]) dL_law_1934 (Nat.le_of_ble_eq_true rfl) rfl rfl ?_
  refine rc_aload_n (pc := 1936) hC dL_law_1936 rfl rfl ?_
  refine rc_aload_n (pc := 1937) hC dL_law_1937 rfl rfl ?_
  refine rc_iload (pc := 1938) hC dL_law_1938 rfl ?_
  refine rc_iconst (pc := 1940) hC (v := (1 : Int32)) dL_law_1940 rfl ?_
  refine rc_iadd (pc := 1941) hC dL_law_1941 ?_
  refine rc_r_iald (pc := 1942) hC dL_law_1942 h ?_
  intro x3 h
  obtain ⟨⟨he, hf⟩, h⟩ := h.isM
  refine rc_callM (pc := 1943) hC (As := [rc_i x3]) (st := []) (rw_X9_chimneyOf hH.1 x3) q2575 q2576 q2577 q149 q2578 rfl rd_X9_chimneyOf (hH.room (Nat.le_of_ble_eq_true rfl) (Nat.le_of_ble_eq_true rfl)) rfl rfl (Nat.le_of_ble_eq_true rfl) 1 rfl h.le.2.2 (Or.inr hf) h.br (by rw [he]; first | done | rfl) dL_law_1943 ?_ (fun E q S hT => rc_out hC hH.2.2.2.2 hT)
  intro x4 S h
  show rc_Z Y S 1946 [some (rc_q v0), some (rc_q v1), some (rc_q v2), some (rc_q v3), some (rc_i v4), some (rc_i x2), none, none, none] [rc_i x4]
  refine rc_istore (pc := 1946) hC (L' := [some (rc_q v0), some (rc_q v1), some (rc_q v2), some (rc_q v3), some (rc_i v4), some (rc_i x2), some (rc_i x4), none, none]) dL_law_1946 (Nat.le_of_ble_eq_true rfl) rfl rfl ?_
  refine rc_aload_n (pc := 1948) hC dL_law_1948 rfl rfl ?_
  obtain ⟨⟨he, hf⟩, h⟩ := h.isM
  refine rc_callM (pc := 1949) hC (As := []) (st := []) (rw_X9_thrown hH.1) q2376 q2377 q2378 q149 q2379 rfl rd_X9_thrown (hH.room (Nat.le_of_ble_eq_true rfl) (Nat.le_of_ble_eq_true rfl)) rfl rfl (Nat.le_of_ble_eq_true rfl) 0 rfl h.le.2.2 (Or.inr hf) h.br (by rw [he]; first | done | rfl) dL_law_1949 ?_ (fun E q S hT => rc_out hC hH.2.2.2.2 hT)
  intro x5 S h
  show rc_Z Y S 1952 [some (rc_q v0), some (rc_q v1), some (rc_q v2), some (rc_q v3), some (rc_i v4), some (rc_i x2), some (rc_i x4), none, none] [rc_i x5]
  refine rc_iload (pc := 1952) hC dL_law_1952 rfl ?_
  refine rc_icmp_eq (pc := 1954) (tgt := 1959) hC dL_law_1954 rfl h ?_ ?_
  · intro _ h
    refine rc_iload (pc := 1959) hC dL_law_1959 rfl ?_
    refine rc_if_ne (pc := 1961) (tgt := 1976) hC dL_law_1961 rfl h ?_ ?_
    · intro _ h
      refine rc_drop [true, true, true, true, true, false, false, false, false] (L' := [some (rc_q v0), some (rc_q v1), some (rc_q v2), some (rc_q v3), some (rc_i v4), none, none, none, none]) rfl ?_
      exact rw_L_law_L1976 hC hH hk23 v0 v1 v2 v3 v4 S h
    intro _ h
    refine rc_aload_n (pc := 1964) hC dL_law_1964 rfl rfl ?_
    refine rc_iconst (pc := 1965) hC (v := (0 : Int32)) dL_law_1965 rfl ?_
    refine rc_r_lald (pc := 1966) hC dL_law_1966 h ?_
    intro x6 h
    refine rc_iload (pc := 1967) hC dL_law_1967 rfl ?_
    refine rc_i2l (pc := 1969) hC dL_law_1969 ?_
    refine rc_lcmp (pc := 1970) hC dL_law_1970 ?_
    refine rc_if_eq (pc := 1971) (tgt := 1976) hC dL_law_1971 rfl h ?_ ?_
    · intro _ h
      refine rc_drop [true, true, true, true, true, false, false, false, false] (L' := [some (rc_q v0), some (rc_q v1), some (rc_q v2), some (rc_q v3), some (rc_i v4), none, none, none, none]) rfl ?_
      exact rw_L_law_L1976 hC hH hk23 v0 v1 v2 v3 v4 S h
    intro _ h
    refine rc_iconst (pc := 1974) hC (v := (0 : Int32)) dL_law_1974 rfl ?_
    exact rc_iret hC rfl rfl dL_law_1975 h rfl
  intro _ h
  refine rc_iconst (pc := 1957) hC (v := (0 : Int32)) dL_law_1957 rfl ?_
  exact rc_iret hC rfl rfl dL_law_1958 h rfl
theorem rw_L_law_L2032 {Y : rc_Y} (hC : rc_C Y cL_law RX0 ret 9) (hH : rc_H Y 20 419 "law") {k23 : Option Nat → Option Nat → Option Nat → Option Nat → Int32 → rc_M Int32} (hk23 : ∀ (v0 : Option Nat) (v1 : Option Nat) (v2 : Option Nat) (v3 : Option Nat) (v4 : Int32) (S : rc_S), rc_Go Y rc_tI (k23 v0 v1 v2 v3 v4) S → rc_Z Y S 23 [some (rc_q v0), some (rc_q v1), some (rc_q v2), some (rc_q v3), some (rc_i v4), none, none, none, none] []) (v0 : Option Nat) (v1 : Option Nat) (v2 : Option Nat) (v3 : Option Nat) (v4 : Int32) (S : rc_S) (h : rc_Go Y rc_tI (rp_L_law_L2032 k23 v0 v1 v2 v3 v4) S) : rc_Z Y S 2032 [some (rc_q v0), some (rc_q v1), some (rc_q v2), some (rc_q v3), some (rc_i v4), none, none, none, none] [] := by
  unfold rp_L_law_L2032 at h
  refine rc_goto (pc := 2032) (tgt := 2957) hC dL_law_2032 rfl ?_
  exact rw_L_law_L2957 hC hH hk23 v0 v1 v2 v3 v4 S h
theorem rw_L_law_L1979 {Y : rc_Y} (hC : rc_C Y cL_law RX0 ret 9) (hH : rc_H Y 20 419 "law") {k23 : Option Nat → Option Nat → Option Nat → Option Nat → Int32 → rc_M Int32} (hk23 : ∀ (v0 : Option Nat) (v1 : Option Nat) (v2 : Option Nat) (v3 : Option Nat) (v4 : Int32) (S : rc_S), rc_Go Y rc_tI (k23 v0 v1 v2 v3 v4) S → rc_Z Y S 23 [some (rc_q v0), some (rc_q v1), some (rc_q v2), some (rc_q v3), some (rc_i v4), none, none, none, none] []) (v0 : Option Nat) (v1 : Option Nat) (v2 : Option Nat) (v3 : Option Nat) (v4 : Int32) (S : rc_S) (h : rc_Go Y rc_tI (rp_L_law_L1979 k23 v0 v1 v2 v3 v4) S) : rc_Z Y S 1979 [some (rc_q v0), some (rc_q v1), some (rc_q v2), some (rc_q v3), some (rc_i v4), none, none, none, none] [] := by
  unfold rp_L_law_L1979 at h
  refine rc_aload_n (pc := 1979) hC dL_law_1979 rfl rfl ?_
  refine rc_aload_n (pc := 1980) hC dL_law_1980 rfl rfl ?_
  refine rc_iload (pc := 1981) hC dL_law_1981 rfl ?_
  refine rc_iconst (pc := 1983) hC (v := (1 : Int32)) dL_law_1983 rfl ?_
  refine rc_iadd (pc := 1984) hC dL_law_1984 ?_
  refine rc_r_iald (pc := 1985) hC dL_law_1985 h ?_
  intro x1 h
  refine rc_aload_n (pc := 1986) hC dL_law_1986 rfl rfl ?_
  refine rc_callSW (pc := 1987) hC (rw_X0_ownedChimneys hH.1 v1 x1 v3) q1907 q1908 q115 q1909 rd_X0_ownedChimneys (hH.room (Nat.le_of_ble_eq_true rfl) (Nat.le_of_ble_eq_true rfl)) rfl rfl (Nat.le_of_ble_eq_true rfl) 3 rfl h.le.2.2 h.br rfl dL_law_1987 ?_ (fun E q S hT => rc_out hC hH.2.2.2.2 hT)
  intro x2 S h
  show rc_Z Y S 1990 [some (rc_q v0), some (rc_q v1), some (rc_q v2), some (rc_q v3), some (rc_i v4), none, none, none, none] [rc_i x2]
  refine rc_istore (pc := 1990) hC (L' := [some (rc_q v0), some (rc_q v1), some (rc_q v2), some (rc_q v3), some (rc_i v4), some (rc_i x2), none, none, none]) dL_law_1990 (Nat.le_of_ble_eq_true rfl) rfl rfl ?_
  refine rc_aload_n (pc := 1992) hC dL_law_1992 rfl rfl ?_
  refine rc_aload_n (pc := 1993) hC dL_law_1993 rfl rfl ?_
  refine rc_iload (pc := 1994) hC dL_law_1994 rfl ?_
  refine rc_iconst (pc := 1996) hC (v := (1 : Int32)) dL_law_1996 rfl ?_
  refine rc_iadd (pc := 1997) hC dL_law_1997 ?_
  refine rc_r_iald (pc := 1998) hC dL_law_1998 h ?_
  intro x3 h
  obtain ⟨⟨he, hf⟩, h⟩ := h.isM
  refine rc_callM (pc := 1999) hC (As := [rc_i x3]) (st := []) (rw_X9_ownedChimneys hH.1 x3) q2579 q2580 q2581 q149 q2582 rfl rd_X9_ownedChimneys (hH.room (Nat.le_of_ble_eq_true rfl) (Nat.le_of_ble_eq_true rfl)) rfl rfl (Nat.le_of_ble_eq_true rfl) 1 rfl h.le.2.2 (Or.inr hf) h.br (by rw [he]; first | done | rfl) dL_law_1999 ?_ (fun E q S hT => rc_out hC hH.2.2.2.2 hT)
  intro x4 S h
  show rc_Z Y S 2002 [some (rc_q v0), some (rc_q v1), some (rc_q v2), some (rc_q v3), some (rc_i v4), some (rc_i x2), none, none, none] [rc_i x4]
  refine rc_istore (pc := 2002) hC (L' := [some (rc_q v0), some (rc_q v1), some (rc_q v2), some (rc_q v3), some (rc_i v4), some (rc_i x2), some (rc_i x4), none, none]) dL_law_2002 (Nat.le_of_ble_eq_true rfl) rfl rfl ?_
  refine rc_aload_n (pc := 2004) hC dL_law_2004 rfl rfl ?_
  obtain ⟨⟨he, hf⟩, h⟩ := h.isM
  refine rc_callM (pc := 2005) hC (As := []) (st := []) (rw_X9_thrown hH.1) q2376 q2377 q2378 q149 q2379 rfl rd_X9_thrown (hH.room (Nat.le_of_ble_eq_true rfl) (Nat.le_of_ble_eq_true rfl)) rfl rfl (Nat.le_of_ble_eq_true rfl) 0 rfl h.le.2.2 (Or.inr hf) h.br (by rw [he]; first | done | rfl) dL_law_2005 ?_ (fun E q S hT => rc_out hC hH.2.2.2.2 hT)
  intro x5 S h
  show rc_Z Y S 2008 [some (rc_q v0), some (rc_q v1), some (rc_q v2), some (rc_q v3), some (rc_i v4), some (rc_i x2), some (rc_i x4), none, none] [rc_i x5]
  refine rc_iload (pc := 2008) hC dL_law_2008 rfl ?_
  refine rc_icmp_eq (pc := 2010) (tgt := 2015) hC dL_law_2010 rfl h ?_ ?_
  · intro _ h
    refine rc_iload (pc := 2015) hC dL_law_2015 rfl ?_
    refine rc_if_ne (pc := 2017) (tgt := 2032) hC dL_law_2017 rfl h ?_ ?_
    · intro _ h
      refine rc_drop [true, true, true, true, true, false, false, false, false] (L' := [some (rc_q v0), some (rc_q v1), some (rc_q v2), some (rc_q v3), some (rc_i v4), none, none, none, none]) rfl ?_
      exact rw_L_law_L2032 hC hH hk23 v0 v1 v2 v3 v4 S h
    intro _ h
    refine rc_aload_n (pc := 2020) hC dL_law_2020 rfl rfl ?_
    refine rc_iconst (pc := 2021) hC (v := (0 : Int32)) dL_law_2021 rfl ?_
    refine rc_r_lald (pc := 2022) hC dL_law_2022 h ?_
    intro x6 h
    refine rc_iload (pc := 2023) hC dL_law_2023 rfl ?_
    refine rc_i2l (pc := 2025) hC dL_law_2025 ?_
    refine rc_lcmp (pc := 2026) hC dL_law_2026 ?_
    refine rc_if_eq (pc := 2027) (tgt := 2032) hC dL_law_2027 rfl h ?_ ?_
    · intro _ h
      refine rc_drop [true, true, true, true, true, false, false, false, false] (L' := [some (rc_q v0), some (rc_q v1), some (rc_q v2), some (rc_q v3), some (rc_i v4), none, none, none, none]) rfl ?_
      exact rw_L_law_L2032 hC hH hk23 v0 v1 v2 v3 v4 S h
    intro _ h
    refine rc_iconst (pc := 2030) hC (v := (0 : Int32)) dL_law_2030 rfl ?_
    exact rc_iret hC rfl rfl dL_law_2031 h rfl
  intro _ h
  refine rc_iconst (pc := 2013) hC (v := (0 : Int32)) dL_law_2013 rfl ?_
  exact rc_iret hC rfl rfl dL_law_2014 h rfl
theorem rw_L_law_L2100 {Y : rc_Y} (hC : rc_C Y cL_law RX0 ret 9) (hH : rc_H Y 20 419 "law") {k23 : Option Nat → Option Nat → Option Nat → Option Nat → Int32 → rc_M Int32} (hk23 : ∀ (v0 : Option Nat) (v1 : Option Nat) (v2 : Option Nat) (v3 : Option Nat) (v4 : Int32) (S : rc_S), rc_Go Y rc_tI (k23 v0 v1 v2 v3 v4) S → rc_Z Y S 23 [some (rc_q v0), some (rc_q v1), some (rc_q v2), some (rc_q v3), some (rc_i v4), none, none, none, none] []) (v0 : Option Nat) (v1 : Option Nat) (v2 : Option Nat) (v3 : Option Nat) (v4 : Int32) (S : rc_S) (h : rc_Go Y rc_tI (rp_L_law_L2100 k23 v0 v1 v2 v3 v4) S) : rc_Z Y S 2100 [some (rc_q v0), some (rc_q v1), some (rc_q v2), some (rc_q v3), some (rc_i v4), none, none, none, none] [] := by
  unfold rp_L_law_L2100 at h
  refine rc_goto (pc := 2100) (tgt := 2957) hC dL_law_2100 rfl ?_
  exact rw_L_law_L2957 hC hH hk23 v0 v1 v2 v3 v4 S h
theorem rw_L_law_L2035 {Y : rc_Y} (hC : rc_C Y cL_law RX0 ret 9) (hH : rc_H Y 20 419 "law") {k23 : Option Nat → Option Nat → Option Nat → Option Nat → Int32 → rc_M Int32} (hk23 : ∀ (v0 : Option Nat) (v1 : Option Nat) (v2 : Option Nat) (v3 : Option Nat) (v4 : Int32) (S : rc_S), rc_Go Y rc_tI (k23 v0 v1 v2 v3 v4) S → rc_Z Y S 23 [some (rc_q v0), some (rc_q v1), some (rc_q v2), some (rc_q v3), some (rc_i v4), none, none, none, none] []) (v0 : Option Nat) (v1 : Option Nat) (v2 : Option Nat) (v3 : Option Nat) (v4 : Int32) (S : rc_S) (h : rc_Go Y rc_tI (rp_L_law_L2035 k23 v0 v1 v2 v3 v4) S) : rc_Z Y S 2035 [some (rc_q v0), some (rc_q v1), some (rc_q v2), some (rc_q v3), some (rc_i v4), none, none, none, none] [] := by
  unfold rp_L_law_L2035 at h
  refine rc_aload_n (pc := 2035) hC dL_law_2035 rfl rfl ?_
  refine rc_aload_n (pc := 2036) hC dL_law_2036 rfl rfl ?_
  refine rc_iload (pc := 2037) hC dL_law_2037 rfl ?_
  refine rc_iconst (pc := 2039) hC (v := (1 : Int32)) dL_law_2039 rfl ?_
  refine rc_iadd (pc := 2040) hC dL_law_2040 ?_
  refine rc_r_iald (pc := 2041) hC dL_law_2041 h ?_
  intro x1 h
  refine rc_aload_n (pc := 2042) hC dL_law_2042 rfl rfl ?_
  refine rc_iload (pc := 2043) hC dL_law_2043 rfl ?_
  refine rc_iconst (pc := 2045) hC (v := (2 : Int32)) dL_law_2045 rfl ?_
  refine rc_iadd (pc := 2046) hC dL_law_2046 ?_
  refine rc_r_iald (pc := 2047) hC dL_law_2047 h ?_
  intro x2 h
  refine rc_aload_n (pc := 2048) hC dL_law_2048 rfl rfl ?_
  refine rc_callSW (pc := 2049) hC (rw_X0_truceNights hH.1 v1 x1 x2 v3) q1914 q1915 q115 q1916 rd_X0_truceNights (hH.room (Nat.le_of_ble_eq_true rfl) (Nat.le_of_ble_eq_true rfl)) rfl rfl (Nat.le_of_ble_eq_true rfl) 4 rfl h.le.2.2 h.br rfl dL_law_2049 ?_ (fun E q S hT => rc_out hC hH.2.2.2.2 hT)
  intro x3 S h
  show rc_Z Y S 2052 [some (rc_q v0), some (rc_q v1), some (rc_q v2), some (rc_q v3), some (rc_i v4), none, none, none, none] [rc_i x3]
  refine rc_istore (pc := 2052) hC (L' := [some (rc_q v0), some (rc_q v1), some (rc_q v2), some (rc_q v3), some (rc_i v4), some (rc_i x3), none, none, none]) dL_law_2052 (Nat.le_of_ble_eq_true rfl) rfl rfl ?_
  refine rc_aload_n (pc := 2054) hC dL_law_2054 rfl rfl ?_
  refine rc_aload_n (pc := 2055) hC dL_law_2055 rfl rfl ?_
  refine rc_iload (pc := 2056) hC dL_law_2056 rfl ?_
  refine rc_iconst (pc := 2058) hC (v := (1 : Int32)) dL_law_2058 rfl ?_
  refine rc_iadd (pc := 2059) hC dL_law_2059 ?_
  refine rc_r_iald (pc := 2060) hC dL_law_2060 h ?_
  intro x4 h
  refine rc_aload_n (pc := 2061) hC dL_law_2061 rfl rfl ?_
  refine rc_iload (pc := 2062) hC dL_law_2062 rfl ?_
  refine rc_iconst (pc := 2064) hC (v := (2 : Int32)) dL_law_2064 rfl ?_
  refine rc_iadd (pc := 2065) hC dL_law_2065 ?_
  refine rc_r_iald (pc := 2066) hC dL_law_2066 h ?_
  intro x5 h
  obtain ⟨⟨he, hf⟩, h⟩ := h.isM
  refine rc_callM (pc := 2067) hC (As := [rc_i x4, rc_i x5]) (st := []) (rw_X9_truceNights hH.1 x4 x5) q2583 q2584 q2585 q149 q2586 rfl rd_X9_truceNights (hH.room (Nat.le_of_ble_eq_true rfl) (Nat.le_of_ble_eq_true rfl)) rfl rfl (Nat.le_of_ble_eq_true rfl) 2 rfl h.le.2.2 (Or.inr hf) h.br (by rw [he]; first | done | rfl) dL_law_2067 ?_ (fun E q S hT => rc_out hC hH.2.2.2.2 hT)
  intro x6 S h
  show rc_Z Y S 2070 [some (rc_q v0), some (rc_q v1), some (rc_q v2), some (rc_q v3), some (rc_i v4), some (rc_i x3), none, none, none] [rc_i x6]
  refine rc_istore (pc := 2070) hC (L' := [some (rc_q v0), some (rc_q v1), some (rc_q v2), some (rc_q v3), some (rc_i v4), some (rc_i x3), some (rc_i x6), none, none]) dL_law_2070 (Nat.le_of_ble_eq_true rfl) rfl rfl ?_
  refine rc_aload_n (pc := 2072) hC dL_law_2072 rfl rfl ?_
  obtain ⟨⟨he, hf⟩, h⟩ := h.isM
  refine rc_callM (pc := 2073) hC (As := []) (st := []) (rw_X9_thrown hH.1) q2376 q2377 q2378 q149 q2379 rfl rd_X9_thrown (hH.room (Nat.le_of_ble_eq_true rfl) (Nat.le_of_ble_eq_true rfl)) rfl rfl (Nat.le_of_ble_eq_true rfl) 0 rfl h.le.2.2 (Or.inr hf) h.br (by rw [he]; first | done | rfl) dL_law_2073 ?_ (fun E q S hT => rc_out hC hH.2.2.2.2 hT)
  intro x7 S h
  show rc_Z Y S 2076 [some (rc_q v0), some (rc_q v1), some (rc_q v2), some (rc_q v3), some (rc_i v4), some (rc_i x3), some (rc_i x6), none, none] [rc_i x7]
  refine rc_iload (pc := 2076) hC dL_law_2076 rfl ?_
  refine rc_icmp_eq (pc := 2078) (tgt := 2083) hC dL_law_2078 rfl h ?_ ?_
  · intro _ h
    refine rc_iload (pc := 2083) hC dL_law_2083 rfl ?_
    refine rc_if_ne (pc := 2085) (tgt := 2100) hC dL_law_2085 rfl h ?_ ?_
    · intro _ h
      refine rc_drop [true, true, true, true, true, false, false, false, false] (L' := [some (rc_q v0), some (rc_q v1), some (rc_q v2), some (rc_q v3), some (rc_i v4), none, none, none, none]) rfl ?_
      exact rw_L_law_L2100 hC hH hk23 v0 v1 v2 v3 v4 S h
    intro _ h
    refine rc_aload_n (pc := 2088) hC dL_law_2088 rfl rfl ?_
    refine rc_iconst (pc := 2089) hC (v := (0 : Int32)) dL_law_2089 rfl ?_
    refine rc_r_lald (pc := 2090) hC dL_law_2090 h ?_
    intro x8 h
    refine rc_iload (pc := 2091) hC dL_law_2091 rfl ?_
    refine rc_i2l (pc := 2093) hC dL_law_2093 ?_
    refine rc_lcmp (pc := 2094) hC dL_law_2094 ?_
    refine rc_if_eq (pc := 2095) (tgt := 2100) hC dL_law_2095 rfl h ?_ ?_
    · intro _ h
      refine rc_drop [true, true, true, true, true, false, false, false, false] (L' := [some (rc_q v0), some (rc_q v1), some (rc_q v2), some (rc_q v3), some (rc_i v4), none, none, none, none]) rfl ?_
      exact rw_L_law_L2100 hC hH hk23 v0 v1 v2 v3 v4 S h
    intro _ h
    refine rc_iconst (pc := 2098) hC (v := (0 : Int32)) dL_law_2098 rfl ?_
    exact rc_iret hC rfl rfl dL_law_2099 h rfl
  intro _ h
  refine rc_iconst (pc := 2081) hC (v := (0 : Int32)) dL_law_2081 rfl ?_
  exact rc_iret hC rfl rfl dL_law_2082 h rfl
theorem rw_L_law_L2156 {Y : rc_Y} (hC : rc_C Y cL_law RX0 ret 9) (hH : rc_H Y 20 419 "law") {k23 : Option Nat → Option Nat → Option Nat → Option Nat → Int32 → rc_M Int32} (hk23 : ∀ (v0 : Option Nat) (v1 : Option Nat) (v2 : Option Nat) (v3 : Option Nat) (v4 : Int32) (S : rc_S), rc_Go Y rc_tI (k23 v0 v1 v2 v3 v4) S → rc_Z Y S 23 [some (rc_q v0), some (rc_q v1), some (rc_q v2), some (rc_q v3), some (rc_i v4), none, none, none, none] []) (v0 : Option Nat) (v1 : Option Nat) (v2 : Option Nat) (v3 : Option Nat) (v4 : Int32) (S : rc_S) (h : rc_Go Y rc_tI (rp_L_law_L2156 k23 v0 v1 v2 v3 v4) S) : rc_Z Y S 2156 [some (rc_q v0), some (rc_q v1), some (rc_q v2), some (rc_q v3), some (rc_i v4), none, none, none, none] [] := by
  unfold rp_L_law_L2156 at h
  refine rc_goto (pc := 2156) (tgt := 2957) hC dL_law_2156 rfl ?_
  exact rw_L_law_L2957 hC hH hk23 v0 v1 v2 v3 v4 S h
theorem rw_L_law_L2103 {Y : rc_Y} (hC : rc_C Y cL_law RX0 ret 9) (hH : rc_H Y 20 419 "law") {k23 : Option Nat → Option Nat → Option Nat → Option Nat → Int32 → rc_M Int32} (hk23 : ∀ (v0 : Option Nat) (v1 : Option Nat) (v2 : Option Nat) (v3 : Option Nat) (v4 : Int32) (S : rc_S), rc_Go Y rc_tI (k23 v0 v1 v2 v3 v4) S → rc_Z Y S 23 [some (rc_q v0), some (rc_q v1), some (rc_q v2), some (rc_q v3), some (rc_i v4), none, none, none, none] []) (v0 : Option Nat) (v1 : Option Nat) (v2 : Option Nat) (v3 : Option Nat) (v4 : Int32) (S : rc_S) (h : rc_Go Y rc_tI (rp_L_law_L2103 k23 v0 v1 v2 v3 v4) S) : rc_Z Y S 2103 [some (rc_q v0), some (rc_q v1), some (rc_q v2), some (rc_q v3), some (rc_i v4), none, none, none, none] [] := by
  unfold rp_L_law_L2103 at h
  refine rc_aload_n (pc := 2103) hC dL_law_2103 rfl rfl ?_
  refine rc_aload_n (pc := 2104) hC dL_law_2104 rfl rfl ?_
  refine rc_iload (pc := 2105) hC dL_law_2105 rfl ?_
  refine rc_iconst (pc := 2107) hC (v := (1 : Int32)) dL_law_2107 rfl ?_
  refine rc_iadd (pc := 2108) hC dL_law_2108 ?_
  refine rc_r_iald (pc := 2109) hC dL_law_2109 h ?_
  intro x1 h
  refine rc_aload_n (pc := 2110) hC dL_law_2110 rfl rfl ?_
  refine rc_callSW (pc := 2111) hC (rw_X0_reachable hH.1 v1 x1 v3) q1922 q1923 q115 q1924 rd_X0_reachable (hH.room (Nat.le_of_ble_eq_true rfl) (Nat.le_of_ble_eq_true rfl)) rfl rfl (Nat.le_of_ble_eq_true rfl) 3 rfl h.le.2.2 h.br rfl dL_law_2111 ?_ (fun E q S hT => rc_out hC hH.2.2.2.2 hT)
  intro x2 S h
  show rc_Z Y S 2114 [some (rc_q v0), some (rc_q v1), some (rc_q v2), some (rc_q v3), some (rc_i v4), none, none, none, none] [rc_i x2]
  refine rc_istore (pc := 2114) hC (L' := [some (rc_q v0), some (rc_q v1), some (rc_q v2), some (rc_q v3), some (rc_i v4), some (rc_i x2), none, none, none]) dL_law_2114 (Nat.le_of_ble_eq_true rfl) rfl rfl ?_
  refine rc_aload_n (pc := 2116) hC dL_law_2116 rfl rfl ?_
  refine rc_aload_n (pc := 2117) hC dL_law_2117 rfl rfl ?_
  refine rc_iload (pc := 2118) hC dL_law_2118 rfl ?_
  refine rc_iconst (pc := 2120) hC (v := (1 : Int32)) dL_law_2120 rfl ?_
  refine rc_iadd (pc := 2121) hC dL_law_2121 ?_
  refine rc_r_iald (pc := 2122) hC dL_law_2122 h ?_
  intro x3 h
  obtain ⟨⟨he, hf⟩, h⟩ := h.isM
  refine rc_callM (pc := 2123) hC (As := [rc_i x3]) (st := []) (rw_X9_reachable hH.1 x3) q2587 q2588 q2589 q149 q2590 rfl rd_X9_reachable (hH.room (Nat.le_of_ble_eq_true rfl) (Nat.le_of_ble_eq_true rfl)) rfl rfl (Nat.le_of_ble_eq_true rfl) 1 rfl h.le.2.2 (Or.inr hf) h.br (by rw [he]; first | done | rfl) dL_law_2123 ?_ (fun E q S hT => rc_out hC hH.2.2.2.2 hT)
  intro x4 S h
  show rc_Z Y S 2126 [some (rc_q v0), some (rc_q v1), some (rc_q v2), some (rc_q v3), some (rc_i v4), some (rc_i x2), none, none, none] [rc_i x4]
  refine rc_istore (pc := 2126) hC (L' := [some (rc_q v0), some (rc_q v1), some (rc_q v2), some (rc_q v3), some (rc_i v4), some (rc_i x2), some (rc_i x4), none, none]) dL_law_2126 (Nat.le_of_ble_eq_true rfl) rfl rfl ?_
  refine rc_aload_n (pc := 2128) hC dL_law_2128 rfl rfl ?_
  obtain ⟨⟨he, hf⟩, h⟩ := h.isM
  refine rc_callM (pc := 2129) hC (As := []) (st := []) (rw_X9_thrown hH.1) q2376 q2377 q2378 q149 q2379 rfl rd_X9_thrown (hH.room (Nat.le_of_ble_eq_true rfl) (Nat.le_of_ble_eq_true rfl)) rfl rfl (Nat.le_of_ble_eq_true rfl) 0 rfl h.le.2.2 (Or.inr hf) h.br (by rw [he]; first | done | rfl) dL_law_2129 ?_ (fun E q S hT => rc_out hC hH.2.2.2.2 hT)
  intro x5 S h
  show rc_Z Y S 2132 [some (rc_q v0), some (rc_q v1), some (rc_q v2), some (rc_q v3), some (rc_i v4), some (rc_i x2), some (rc_i x4), none, none] [rc_i x5]
  refine rc_iload (pc := 2132) hC dL_law_2132 rfl ?_
  refine rc_icmp_eq (pc := 2134) (tgt := 2139) hC dL_law_2134 rfl h ?_ ?_
  · intro _ h
    refine rc_iload (pc := 2139) hC dL_law_2139 rfl ?_
    refine rc_if_ne (pc := 2141) (tgt := 2156) hC dL_law_2141 rfl h ?_ ?_
    · intro _ h
      refine rc_drop [true, true, true, true, true, false, false, false, false] (L' := [some (rc_q v0), some (rc_q v1), some (rc_q v2), some (rc_q v3), some (rc_i v4), none, none, none, none]) rfl ?_
      exact rw_L_law_L2156 hC hH hk23 v0 v1 v2 v3 v4 S h
    intro _ h
    refine rc_aload_n (pc := 2144) hC dL_law_2144 rfl rfl ?_
    refine rc_iconst (pc := 2145) hC (v := (0 : Int32)) dL_law_2145 rfl ?_
    refine rc_r_lald (pc := 2146) hC dL_law_2146 h ?_
    intro x6 h
    refine rc_iload (pc := 2147) hC dL_law_2147 rfl ?_
    refine rc_i2l (pc := 2149) hC dL_law_2149 ?_
    refine rc_lcmp (pc := 2150) hC dL_law_2150 ?_
    refine rc_if_eq (pc := 2151) (tgt := 2156) hC dL_law_2151 rfl h ?_ ?_
    · intro _ h
      refine rc_drop [true, true, true, true, true, false, false, false, false] (L' := [some (rc_q v0), some (rc_q v1), some (rc_q v2), some (rc_q v3), some (rc_i v4), none, none, none, none]) rfl ?_
      exact rw_L_law_L2156 hC hH hk23 v0 v1 v2 v3 v4 S h
    intro _ h
    refine rc_iconst (pc := 2154) hC (v := (0 : Int32)) dL_law_2154 rfl ?_
    exact rc_iret hC rfl rfl dL_law_2155 h rfl
  intro _ h
  refine rc_iconst (pc := 2137) hC (v := (0 : Int32)) dL_law_2137 rfl ?_
  exact rc_iret hC rfl rfl dL_law_2138 h rfl
theorem rw_L_law_L2224 {Y : rc_Y} (hC : rc_C Y cL_law RX0 ret 9) (hH : rc_H Y 20 419 "law") {k23 : Option Nat → Option Nat → Option Nat → Option Nat → Int32 → rc_M Int32} (hk23 : ∀ (v0 : Option Nat) (v1 : Option Nat) (v2 : Option Nat) (v3 : Option Nat) (v4 : Int32) (S : rc_S), rc_Go Y rc_tI (k23 v0 v1 v2 v3 v4) S → rc_Z Y S 23 [some (rc_q v0), some (rc_q v1), some (rc_q v2), some (rc_q v3), some (rc_i v4), none, none, none, none] []) (v0 : Option Nat) (v1 : Option Nat) (v2 : Option Nat) (v3 : Option Nat) (v4 : Int32) (S : rc_S) (h : rc_Go Y rc_tI (rp_L_law_L2224 k23 v0 v1 v2 v3 v4) S) : rc_Z Y S 2224 [some (rc_q v0), some (rc_q v1), some (rc_q v2), some (rc_q v3), some (rc_i v4), none, none, none, none] [] := by
  unfold rp_L_law_L2224 at h
  refine rc_goto (pc := 2224) (tgt := 2957) hC dL_law_2224 rfl ?_
  exact rw_L_law_L2957 hC hH hk23 v0 v1 v2 v3 v4 S h
theorem rw_L_law_L2159 {Y : rc_Y} (hC : rc_C Y cL_law RX0 ret 9) (hH : rc_H Y 20 419 "law") {k23 : Option Nat → Option Nat → Option Nat → Option Nat → Int32 → rc_M Int32} (hk23 : ∀ (v0 : Option Nat) (v1 : Option Nat) (v2 : Option Nat) (v3 : Option Nat) (v4 : Int32) (S : rc_S), rc_Go Y rc_tI (k23 v0 v1 v2 v3 v4) S → rc_Z Y S 23 [some (rc_q v0), some (rc_q v1), some (rc_q v2), some (rc_q v3), some (rc_i v4), none, none, none, none] []) (v0 : Option Nat) (v1 : Option Nat) (v2 : Option Nat) (v3 : Option Nat) (v4 : Int32) (S : rc_S) (h : rc_Go Y rc_tI (rp_L_law_L2159 k23 v0 v1 v2 v3 v4) S) : rc_Z Y S 2159 [some (rc_q v0), some (rc_q v1), some (rc_q v2), some (rc_q v3), some (rc_i v4), none, none, none, none] [] := by
  unfold rp_L_law_L2159 at h
  refine rc_aload_n (pc := 2159) hC dL_law_2159 rfl rfl ?_
  refine rc_aload_n (pc := 2160) hC dL_law_2160 rfl rfl ?_
  refine rc_iload (pc := 2161) hC dL_law_2161 rfl ?_
  refine rc_iconst (pc := 2163) hC (v := (1 : Int32)) dL_law_2163 rfl ?_
  refine rc_iadd (pc := 2164) hC dL_law_2164 ?_
  refine rc_r_iald (pc := 2165) hC dL_law_2165 h ?_
  intro x1 h
  refine rc_aload_n (pc := 2166) hC dL_law_2166 rfl rfl ?_
  refine rc_iload (pc := 2167) hC dL_law_2167 rfl ?_
  refine rc_iconst (pc := 2169) hC (v := (2 : Int32)) dL_law_2169 rfl ?_
  refine rc_iadd (pc := 2170) hC dL_law_2170 ?_
  refine rc_r_iald (pc := 2171) hC dL_law_2171 h ?_
  intro x2 h
  refine rc_aload_n (pc := 2172) hC dL_law_2172 rfl rfl ?_
  refine rc_callSW (pc := 2173) hC (rw_X0_stepsTo hH.1 v1 x1 x2 v3) q1937 q1938 q115 q1939 rd_X0_stepsTo (hH.room (Nat.le_of_ble_eq_true rfl) (Nat.le_of_ble_eq_true rfl)) rfl rfl (Nat.le_of_ble_eq_true rfl) 4 rfl h.le.2.2 h.br rfl dL_law_2173 ?_ (fun E q S hT => rc_out hC hH.2.2.2.2 hT)
  intro x3 S h
  show rc_Z Y S 2176 [some (rc_q v0), some (rc_q v1), some (rc_q v2), some (rc_q v3), some (rc_i v4), none, none, none, none] [rc_i x3]
  refine rc_istore (pc := 2176) hC (L' := [some (rc_q v0), some (rc_q v1), some (rc_q v2), some (rc_q v3), some (rc_i v4), some (rc_i x3), none, none, none]) dL_law_2176 (Nat.le_of_ble_eq_true rfl) rfl rfl ?_
  refine rc_aload_n (pc := 2178) hC dL_law_2178 rfl rfl ?_
  refine rc_aload_n (pc := 2179) hC dL_law_2179 rfl rfl ?_
  refine rc_iload (pc := 2180) hC dL_law_2180 rfl ?_
  refine rc_iconst (pc := 2182) hC (v := (1 : Int32)) dL_law_2182 rfl ?_
  refine rc_iadd (pc := 2183) hC dL_law_2183 ?_
  refine rc_r_iald (pc := 2184) hC dL_law_2184 h ?_
  intro x4 h
  refine rc_aload_n (pc := 2185) hC dL_law_2185 rfl rfl ?_
  refine rc_iload (pc := 2186) hC dL_law_2186 rfl ?_
  refine rc_iconst (pc := 2188) hC (v := (2 : Int32)) dL_law_2188 rfl ?_
  refine rc_iadd (pc := 2189) hC dL_law_2189 ?_
  refine rc_r_iald (pc := 2190) hC dL_law_2190 h ?_
  intro x5 h
  obtain ⟨⟨he, hf⟩, h⟩ := h.isM
  refine rc_callM (pc := 2191) hC (As := [rc_i x4, rc_i x5]) (st := []) (rw_X9_stepsTo hH.1 x4 x5) q2599 q2600 q2601 q149 q2602 rfl rd_X9_stepsTo (hH.room (Nat.le_of_ble_eq_true rfl) (Nat.le_of_ble_eq_true rfl)) rfl rfl (Nat.le_of_ble_eq_true rfl) 2 rfl h.le.2.2 (Or.inr hf) h.br (by rw [he]; first | done | rfl) dL_law_2191 ?_ (fun E q S hT => rc_out hC hH.2.2.2.2 hT)
  intro x6 S h
  show rc_Z Y S 2194 [some (rc_q v0), some (rc_q v1), some (rc_q v2), some (rc_q v3), some (rc_i v4), some (rc_i x3), none, none, none] [rc_i x6]
  refine rc_istore (pc := 2194) hC (L' := [some (rc_q v0), some (rc_q v1), some (rc_q v2), some (rc_q v3), some (rc_i v4), some (rc_i x3), some (rc_i x6), none, none]) dL_law_2194 (Nat.le_of_ble_eq_true rfl) rfl rfl ?_
  refine rc_aload_n (pc := 2196) hC dL_law_2196 rfl rfl ?_
  obtain ⟨⟨he, hf⟩, h⟩ := h.isM
  refine rc_callM (pc := 2197) hC (As := []) (st := []) (rw_X9_thrown hH.1) q2376 q2377 q2378 q149 q2379 rfl rd_X9_thrown (hH.room (Nat.le_of_ble_eq_true rfl) (Nat.le_of_ble_eq_true rfl)) rfl rfl (Nat.le_of_ble_eq_true rfl) 0 rfl h.le.2.2 (Or.inr hf) h.br (by rw [he]; first | done | rfl) dL_law_2197 ?_ (fun E q S hT => rc_out hC hH.2.2.2.2 hT)
  intro x7 S h
  show rc_Z Y S 2200 [some (rc_q v0), some (rc_q v1), some (rc_q v2), some (rc_q v3), some (rc_i v4), some (rc_i x3), some (rc_i x6), none, none] [rc_i x7]
  refine rc_iload (pc := 2200) hC dL_law_2200 rfl ?_
  refine rc_icmp_eq (pc := 2202) (tgt := 2207) hC dL_law_2202 rfl h ?_ ?_
  · intro _ h
    refine rc_iload (pc := 2207) hC dL_law_2207 rfl ?_
    refine rc_if_ne (pc := 2209) (tgt := 2224) hC dL_law_2209 rfl h ?_ ?_
    · intro _ h
      refine rc_drop [true, true, true, true, true, false, false, false, false] (L' := [some (rc_q v0), some (rc_q v1), some (rc_q v2), some (rc_q v3), some (rc_i v4), none, none, none, none]) rfl ?_
      exact rw_L_law_L2224 hC hH hk23 v0 v1 v2 v3 v4 S h
    intro _ h
    refine rc_aload_n (pc := 2212) hC dL_law_2212 rfl rfl ?_
    refine rc_iconst (pc := 2213) hC (v := (0 : Int32)) dL_law_2213 rfl ?_
    refine rc_r_lald (pc := 2214) hC dL_law_2214 h ?_
    intro x8 h
    refine rc_iload (pc := 2215) hC dL_law_2215 rfl ?_
    refine rc_i2l (pc := 2217) hC dL_law_2217 ?_
    refine rc_lcmp (pc := 2218) hC dL_law_2218 ?_
    refine rc_if_eq (pc := 2219) (tgt := 2224) hC dL_law_2219 rfl h ?_ ?_
    · intro _ h
      refine rc_drop [true, true, true, true, true, false, false, false, false] (L' := [some (rc_q v0), some (rc_q v1), some (rc_q v2), some (rc_q v3), some (rc_i v4), none, none, none, none]) rfl ?_
      exact rw_L_law_L2224 hC hH hk23 v0 v1 v2 v3 v4 S h
    intro _ h
    refine rc_iconst (pc := 2222) hC (v := (0 : Int32)) dL_law_2222 rfl ?_
    exact rc_iret hC rfl rfl dL_law_2223 h rfl
  intro _ h
  refine rc_iconst (pc := 2205) hC (v := (0 : Int32)) dL_law_2205 rfl ?_
  exact rc_iret hC rfl rfl dL_law_2206 h rfl
theorem rw_L_law_L2280 {Y : rc_Y} (hC : rc_C Y cL_law RX0 ret 9) (hH : rc_H Y 20 419 "law") {k23 : Option Nat → Option Nat → Option Nat → Option Nat → Int32 → rc_M Int32} (hk23 : ∀ (v0 : Option Nat) (v1 : Option Nat) (v2 : Option Nat) (v3 : Option Nat) (v4 : Int32) (S : rc_S), rc_Go Y rc_tI (k23 v0 v1 v2 v3 v4) S → rc_Z Y S 23 [some (rc_q v0), some (rc_q v1), some (rc_q v2), some (rc_q v3), some (rc_i v4), none, none, none, none] []) (v0 : Option Nat) (v1 : Option Nat) (v2 : Option Nat) (v3 : Option Nat) (v4 : Int32) (S : rc_S) (h : rc_Go Y rc_tI (rp_L_law_L2280 k23 v0 v1 v2 v3 v4) S) : rc_Z Y S 2280 [some (rc_q v0), some (rc_q v1), some (rc_q v2), some (rc_q v3), some (rc_i v4), none, none, none, none] [] := by
  unfold rp_L_law_L2280 at h
  refine rc_goto (pc := 2280) (tgt := 2957) hC dL_law_2280 rfl ?_
  exact rw_L_law_L2957 hC hH hk23 v0 v1 v2 v3 v4 S h
theorem rw_L_law_L2227 {Y : rc_Y} (hC : rc_C Y cL_law RX0 ret 9) (hH : rc_H Y 20 419 "law") {k23 : Option Nat → Option Nat → Option Nat → Option Nat → Int32 → rc_M Int32} (hk23 : ∀ (v0 : Option Nat) (v1 : Option Nat) (v2 : Option Nat) (v3 : Option Nat) (v4 : Int32) (S : rc_S), rc_Go Y rc_tI (k23 v0 v1 v2 v3 v4) S → rc_Z Y S 23 [some (rc_q v0), some (rc_q v1), some (rc_q v2), some (rc_q v3), some (rc_i v4), none, none, none, none] []) (v0 : Option Nat) (v1 : Option Nat) (v2 : Option Nat) (v3 : Option Nat) (v4 : Int32) (S : rc_S) (h : rc_Go Y rc_tI (rp_L_law_L2227 k23 v0 v1 v2 v3 v4) S) : rc_Z Y S 2227 [some (rc_q v0), some (rc_q v1), some (rc_q v2), some (rc_q v3), some (rc_i v4), none, none, none, none] [] := by
  unfold rp_L_law_L2227 at h
  refine rc_aload_n (pc := 2227) hC dL_law_2227 rfl rfl ?_
  refine rc_aload_n (pc := 2228) hC dL_law_2228 rfl rfl ?_
  refine rc_iload (pc := 2229) hC dL_law_2229 rfl ?_
  refine rc_iconst (pc := 2231) hC (v := (1 : Int32)) dL_law_2231 rfl ?_
  refine rc_iadd (pc := 2232) hC dL_law_2232 ?_
  refine rc_r_iald (pc := 2233) hC dL_law_2233 h ?_
  intro x1 h
  refine rc_aload_n (pc := 2234) hC dL_law_2234 rfl rfl ?_
  refine rc_callSW (pc := 2235) hC (rw_X0_openGutters hH.1 v1 x1 v3) q1948 q1949 q115 q1950 rd_X0_openGutters (hH.room (Nat.le_of_ble_eq_true rfl) (Nat.le_of_ble_eq_true rfl)) rfl rfl (Nat.le_of_ble_eq_true rfl) 3 rfl h.le.2.2 h.br rfl dL_law_2235 ?_ (fun E q S hT => rc_out hC hH.2.2.2.2 hT)
  intro x2 S h
  show rc_Z Y S 2238 [some (rc_q v0), some (rc_q v1), some (rc_q v2), some (rc_q v3), some (rc_i v4), none, none, none, none] [rc_i x2]
  refine rc_istore (pc := 2238) hC (L' := [some (rc_q v0), some (rc_q v1), some (rc_q v2), some (rc_q v3), some (rc_i v4), some (rc_i x2), none, none, none]) dL_law_2238 (Nat.le_of_ble_eq_true rfl) rfl rfl ?_
  refine rc_aload_n (pc := 2240) hC dL_law_2240 rfl rfl ?_
  refine rc_aload_n (pc := 2241) hC dL_law_2241 rfl rfl ?_
  refine rc_iload (pc := 2242) hC dL_law_2242 rfl ?_
  refine rc_iconst (pc := 2244) hC (v := (1 : Int32)) dL_law_2244 rfl ?_
  refine rc_iadd (pc := 2245) hC dL_law_2245 ?_
  refine rc_r_iald (pc := 2246) hC dL_law_2246 h ?_
  intro x3 h
  obtain ⟨⟨he, hf⟩, h⟩ := h.isM
  refine rc_callM (pc := 2247) hC (As := [rc_i x3]) (st := []) (rw_X9_openGutters hH.1 x3) q2603 q2604 q2605 q149 q2606 rfl rd_X9_openGutters (hH.room (Nat.le_of_ble_eq_true rfl) (Nat.le_of_ble_eq_true rfl)) rfl rfl (Nat.le_of_ble_eq_true rfl) 1 rfl h.le.2.2 (Or.inr hf) h.br (by rw [he]; first | done | rfl) dL_law_2247 ?_ (fun E q S hT => rc_out hC hH.2.2.2.2 hT)
  intro x4 S h
  show rc_Z Y S 2250 [some (rc_q v0), some (rc_q v1), some (rc_q v2), some (rc_q v3), some (rc_i v4), some (rc_i x2), none, none, none] [rc_i x4]
  refine rc_istore (pc := 2250) hC (L' := [some (rc_q v0), some (rc_q v1), some (rc_q v2), some (rc_q v3), some (rc_i v4), some (rc_i x2), some (rc_i x4), none, none]) dL_law_2250 (Nat.le_of_ble_eq_true rfl) rfl rfl ?_
  refine rc_aload_n (pc := 2252) hC dL_law_2252 rfl rfl ?_
  obtain ⟨⟨he, hf⟩, h⟩ := h.isM
  refine rc_callM (pc := 2253) hC (As := []) (st := []) (rw_X9_thrown hH.1) q2376 q2377 q2378 q149 q2379 rfl rd_X9_thrown (hH.room (Nat.le_of_ble_eq_true rfl) (Nat.le_of_ble_eq_true rfl)) rfl rfl (Nat.le_of_ble_eq_true rfl) 0 rfl h.le.2.2 (Or.inr hf) h.br (by rw [he]; first | done | rfl) dL_law_2253 ?_ (fun E q S hT => rc_out hC hH.2.2.2.2 hT)
  intro x5 S h
  show rc_Z Y S 2256 [some (rc_q v0), some (rc_q v1), some (rc_q v2), some (rc_q v3), some (rc_i v4), some (rc_i x2), some (rc_i x4), none, none] [rc_i x5]
  refine rc_iload (pc := 2256) hC dL_law_2256 rfl ?_
  refine rc_icmp_eq (pc := 2258) (tgt := 2263) hC dL_law_2258 rfl h ?_ ?_
  · intro _ h
    refine rc_iload (pc := 2263) hC dL_law_2263 rfl ?_
    refine rc_if_ne (pc := 2265) (tgt := 2280) hC dL_law_2265 rfl h ?_ ?_
    · intro _ h
      refine rc_drop [true, true, true, true, true, false, false, false, false] (L' := [some (rc_q v0), some (rc_q v1), some (rc_q v2), some (rc_q v3), some (rc_i v4), none, none, none, none]) rfl ?_
      exact rw_L_law_L2280 hC hH hk23 v0 v1 v2 v3 v4 S h
    intro _ h
    refine rc_aload_n (pc := 2268) hC dL_law_2268 rfl rfl ?_
    refine rc_iconst (pc := 2269) hC (v := (0 : Int32)) dL_law_2269 rfl ?_
    refine rc_r_lald (pc := 2270) hC dL_law_2270 h ?_
    intro x6 h
    refine rc_iload (pc := 2271) hC dL_law_2271 rfl ?_
    refine rc_i2l (pc := 2273) hC dL_law_2273 ?_
    refine rc_lcmp (pc := 2274) hC dL_law_2274 ?_
    refine rc_if_eq (pc := 2275) (tgt := 2280) hC dL_law_2275 rfl h ?_ ?_
    · intro _ h
      refine rc_drop [true, true, true, true, true, false, false, false, false] (L' := [some (rc_q v0), some (rc_q v1), some (rc_q v2), some (rc_q v3), some (rc_i v4), none, none, none, none]) rfl ?_
      exact rw_L_law_L2280 hC hH hk23 v0 v1 v2 v3 v4 S h
    intro _ h
    refine rc_iconst (pc := 2278) hC (v := (0 : Int32)) dL_law_2278 rfl ?_
    exact rc_iret hC rfl rfl dL_law_2279 h rfl
  intro _ h
  refine rc_iconst (pc := 2261) hC (v := (0 : Int32)) dL_law_2261 rfl ?_
  exact rc_iret hC rfl rfl dL_law_2262 h rfl
theorem rw_L_law_L2348 {Y : rc_Y} (hC : rc_C Y cL_law RX0 ret 9) (hH : rc_H Y 20 419 "law") {k23 : Option Nat → Option Nat → Option Nat → Option Nat → Int32 → rc_M Int32} (hk23 : ∀ (v0 : Option Nat) (v1 : Option Nat) (v2 : Option Nat) (v3 : Option Nat) (v4 : Int32) (S : rc_S), rc_Go Y rc_tI (k23 v0 v1 v2 v3 v4) S → rc_Z Y S 23 [some (rc_q v0), some (rc_q v1), some (rc_q v2), some (rc_q v3), some (rc_i v4), none, none, none, none] []) (v0 : Option Nat) (v1 : Option Nat) (v2 : Option Nat) (v3 : Option Nat) (v4 : Int32) (S : rc_S) (h : rc_Go Y rc_tI (rp_L_law_L2348 k23 v0 v1 v2 v3 v4) S) : rc_Z Y S 2348 [some (rc_q v0), some (rc_q v1), some (rc_q v2), some (rc_q v3), some (rc_i v4), none, none, none, none] [] := by
  unfold rp_L_law_L2348 at h
  refine rc_goto (pc := 2348) (tgt := 2957) hC dL_law_2348 rfl ?_
  exact rw_L_law_L2957 hC hH hk23 v0 v1 v2 v3 v4 S h
theorem rw_L_law_L2283 {Y : rc_Y} (hC : rc_C Y cL_law RX0 ret 9) (hH : rc_H Y 20 419 "law") {k23 : Option Nat → Option Nat → Option Nat → Option Nat → Int32 → rc_M Int32} (hk23 : ∀ (v0 : Option Nat) (v1 : Option Nat) (v2 : Option Nat) (v3 : Option Nat) (v4 : Int32) (S : rc_S), rc_Go Y rc_tI (k23 v0 v1 v2 v3 v4) S → rc_Z Y S 23 [some (rc_q v0), some (rc_q v1), some (rc_q v2), some (rc_q v3), some (rc_i v4), none, none, none, none] []) (v0 : Option Nat) (v1 : Option Nat) (v2 : Option Nat) (v3 : Option Nat) (v4 : Int32) (S : rc_S) (h : rc_Go Y rc_tI (rp_L_law_L2283 k23 v0 v1 v2 v3 v4) S) : rc_Z Y S 2283 [some (rc_q v0), some (rc_q v1), some (rc_q v2), some (rc_q v3), some (rc_i v4), none, none, none, none] [] := by
  unfold rp_L_law_L2283 at h
  refine rc_aload_n (pc := 2283) hC dL_law_2283 rfl rfl ?_
  refine rc_aload_n (pc := 2284) hC dL_law_2284 rfl rfl ?_
  refine rc_iload (pc := 2285) hC dL_law_2285 rfl ?_
  refine rc_iconst (pc := 2287) hC (v := (1 : Int32)) dL_law_2287 rfl ?_
  refine rc_iadd (pc := 2288) hC dL_law_2288 ?_
  refine rc_r_iald (pc := 2289) hC dL_law_2289 h ?_
  intro x1 h
  refine rc_aload_n (pc := 2290) hC dL_law_2290 rfl rfl ?_
  refine rc_iload (pc := 2291) hC dL_law_2291 rfl ?_
  refine rc_iconst (pc := 2293) hC (v := (2 : Int32)) dL_law_2293 rfl ?_
  refine rc_iadd (pc := 2294) hC dL_law_2294 ?_
  refine rc_r_iald (pc := 2295) hC dL_law_2295 h ?_
  intro x2 h
  refine rc_aload_n (pc := 2296) hC dL_law_2296 rfl rfl ?_
  refine rc_callSW (pc := 2297) hC (rw_X0_whyNoStep hH.1 v1 x1 x2 v3) q1955 q1956 q115 q1957 rd_X0_whyNoStep (hH.room (Nat.le_of_ble_eq_true rfl) (Nat.le_of_ble_eq_true rfl)) rfl rfl (Nat.le_of_ble_eq_true rfl) 4 rfl h.le.2.2 h.br rfl dL_law_2297 ?_ (fun E q S hT => rc_out hC hH.2.2.2.2 hT)
  intro x3 S h
  show rc_Z Y S 2300 [some (rc_q v0), some (rc_q v1), some (rc_q v2), some (rc_q v3), some (rc_i v4), none, none, none, none] [rc_i x3]
  refine rc_istore (pc := 2300) hC (L' := [some (rc_q v0), some (rc_q v1), some (rc_q v2), some (rc_q v3), some (rc_i v4), some (rc_i x3), none, none, none]) dL_law_2300 (Nat.le_of_ble_eq_true rfl) rfl rfl ?_
  refine rc_aload_n (pc := 2302) hC dL_law_2302 rfl rfl ?_
  refine rc_aload_n (pc := 2303) hC dL_law_2303 rfl rfl ?_
  refine rc_iload (pc := 2304) hC dL_law_2304 rfl ?_
  refine rc_iconst (pc := 2306) hC (v := (1 : Int32)) dL_law_2306 rfl ?_
  refine rc_iadd (pc := 2307) hC dL_law_2307 ?_
  refine rc_r_iald (pc := 2308) hC dL_law_2308 h ?_
  intro x4 h
  refine rc_aload_n (pc := 2309) hC dL_law_2309 rfl rfl ?_
  refine rc_iload (pc := 2310) hC dL_law_2310 rfl ?_
  refine rc_iconst (pc := 2312) hC (v := (2 : Int32)) dL_law_2312 rfl ?_
  refine rc_iadd (pc := 2313) hC dL_law_2313 ?_
  refine rc_r_iald (pc := 2314) hC dL_law_2314 h ?_
  intro x5 h
  obtain ⟨⟨he, hf⟩, h⟩ := h.isM
  refine rc_callM (pc := 2315) hC (As := [rc_i x4, rc_i x5]) (st := []) (rw_X9_whyNoStep hH.1 x4 x5) q2607 q2608 q2609 q149 q2610 rfl rd_X9_whyNoStep (hH.room (Nat.le_of_ble_eq_true rfl) (Nat.le_of_ble_eq_true rfl)) rfl rfl (Nat.le_of_ble_eq_true rfl) 2 rfl h.le.2.2 (Or.inr hf) h.br (by rw [he]; first | done | rfl) dL_law_2315 ?_ (fun E q S hT => rc_out hC hH.2.2.2.2 hT)
  intro x6 S h
  show rc_Z Y S 2318 [some (rc_q v0), some (rc_q v1), some (rc_q v2), some (rc_q v3), some (rc_i v4), some (rc_i x3), none, none, none] [rc_i x6]
  refine rc_istore (pc := 2318) hC (L' := [some (rc_q v0), some (rc_q v1), some (rc_q v2), some (rc_q v3), some (rc_i v4), some (rc_i x3), some (rc_i x6), none, none]) dL_law_2318 (Nat.le_of_ble_eq_true rfl) rfl rfl ?_
  refine rc_aload_n (pc := 2320) hC dL_law_2320 rfl rfl ?_
  obtain ⟨⟨he, hf⟩, h⟩ := h.isM
  refine rc_callM (pc := 2321) hC (As := []) (st := []) (rw_X9_thrown hH.1) q2376 q2377 q2378 q149 q2379 rfl rd_X9_thrown (hH.room (Nat.le_of_ble_eq_true rfl) (Nat.le_of_ble_eq_true rfl)) rfl rfl (Nat.le_of_ble_eq_true rfl) 0 rfl h.le.2.2 (Or.inr hf) h.br (by rw [he]; first | done | rfl) dL_law_2321 ?_ (fun E q S hT => rc_out hC hH.2.2.2.2 hT)
  intro x7 S h
  show rc_Z Y S 2324 [some (rc_q v0), some (rc_q v1), some (rc_q v2), some (rc_q v3), some (rc_i v4), some (rc_i x3), some (rc_i x6), none, none] [rc_i x7]
  refine rc_iload (pc := 2324) hC dL_law_2324 rfl ?_
  refine rc_icmp_eq (pc := 2326) (tgt := 2331) hC dL_law_2326 rfl h ?_ ?_
  · intro _ h
    refine rc_iload (pc := 2331) hC dL_law_2331 rfl ?_
    refine rc_if_ne (pc := 2333) (tgt := 2348) hC dL_law_2333 rfl h ?_ ?_
    · intro _ h
      refine rc_drop [true, true, true, true, true, false, false, false, false] (L' := [some (rc_q v0), some (rc_q v1), some (rc_q v2), some (rc_q v3), some (rc_i v4), none, none, none, none]) rfl ?_
      exact rw_L_law_L2348 hC hH hk23 v0 v1 v2 v3 v4 S h
    intro _ h
    refine rc_aload_n (pc := 2336) hC dL_law_2336 rfl rfl ?_
    refine rc_iconst (pc := 2337) hC (v := (0 : Int32)) dL_law_2337 rfl ?_
    refine rc_r_lald (pc := 2338) hC dL_law_2338 h ?_
    intro x8 h
    refine rc_iload (pc := 2339) hC dL_law_2339 rfl ?_
    refine rc_i2l (pc := 2341) hC dL_law_2341 ?_
    refine rc_lcmp (pc := 2342) hC dL_law_2342 ?_
    refine rc_if_eq (pc := 2343) (tgt := 2348) hC dL_law_2343 rfl h ?_ ?_
    · intro _ h
      refine rc_drop [true, true, true, true, true, false, false, false, false] (L' := [some (rc_q v0), some (rc_q v1), some (rc_q v2), some (rc_q v3), some (rc_i v4), none, none, none, none]) rfl ?_
      exact rw_L_law_L2348 hC hH hk23 v0 v1 v2 v3 v4 S h
    intro _ h
    refine rc_iconst (pc := 2346) hC (v := (0 : Int32)) dL_law_2346 rfl ?_
    exact rc_iret hC rfl rfl dL_law_2347 h rfl
  intro _ h
  refine rc_iconst (pc := 2329) hC (v := (0 : Int32)) dL_law_2329 rfl ?_
  exact rc_iret hC rfl rfl dL_law_2330 h rfl
theorem rw_L_law_L2404 {Y : rc_Y} (hC : rc_C Y cL_law RX0 ret 9) (hH : rc_H Y 20 419 "law") {k23 : Option Nat → Option Nat → Option Nat → Option Nat → Int32 → rc_M Int32} (hk23 : ∀ (v0 : Option Nat) (v1 : Option Nat) (v2 : Option Nat) (v3 : Option Nat) (v4 : Int32) (S : rc_S), rc_Go Y rc_tI (k23 v0 v1 v2 v3 v4) S → rc_Z Y S 23 [some (rc_q v0), some (rc_q v1), some (rc_q v2), some (rc_q v3), some (rc_i v4), none, none, none, none] []) (v0 : Option Nat) (v1 : Option Nat) (v2 : Option Nat) (v3 : Option Nat) (v4 : Int32) (S : rc_S) (h : rc_Go Y rc_tI (rp_L_law_L2404 k23 v0 v1 v2 v3 v4) S) : rc_Z Y S 2404 [some (rc_q v0), some (rc_q v1), some (rc_q v2), some (rc_q v3), some (rc_i v4), none, none, none, none] [] := by
  unfold rp_L_law_L2404 at h
  refine rc_goto (pc := 2404) (tgt := 2957) hC dL_law_2404 rfl ?_
  exact rw_L_law_L2957 hC hH hk23 v0 v1 v2 v3 v4 S h
theorem rw_L_law_L2351 {Y : rc_Y} (hC : rc_C Y cL_law RX0 ret 9) (hH : rc_H Y 20 419 "law") {k23 : Option Nat → Option Nat → Option Nat → Option Nat → Int32 → rc_M Int32} (hk23 : ∀ (v0 : Option Nat) (v1 : Option Nat) (v2 : Option Nat) (v3 : Option Nat) (v4 : Int32) (S : rc_S), rc_Go Y rc_tI (k23 v0 v1 v2 v3 v4) S → rc_Z Y S 23 [some (rc_q v0), some (rc_q v1), some (rc_q v2), some (rc_q v3), some (rc_i v4), none, none, none, none] []) (v0 : Option Nat) (v1 : Option Nat) (v2 : Option Nat) (v3 : Option Nat) (v4 : Int32) (S : rc_S) (h : rc_Go Y rc_tI (rp_L_law_L2351 k23 v0 v1 v2 v3 v4) S) : rc_Z Y S 2351 [some (rc_q v0), some (rc_q v1), some (rc_q v2), some (rc_q v3), some (rc_i v4), none, none, none, none] [] := by
  unfold rp_L_law_L2351 at h
  refine rc_aload_n (pc := 2351) hC dL_law_2351 rfl rfl ?_
  refine rc_aload_n (pc := 2352) hC dL_law_2352 rfl rfl ?_
  refine rc_iload (pc := 2353) hC dL_law_2353 rfl ?_
  refine rc_iconst (pc := 2355) hC (v := (1 : Int32)) dL_law_2355 rfl ?_
  refine rc_iadd (pc := 2356) hC dL_law_2356 ?_
  refine rc_r_iald (pc := 2357) hC dL_law_2357 h ?_
  intro x1 h
  refine rc_aload_n (pc := 2358) hC dL_law_2358 rfl rfl ?_
  refine rc_callSW (pc := 2359) hC (rw_X0_whyNoClaim hH.1 v1 x1 v3) q1959 q1960 q115 q1961 rd_X0_whyNoClaim (hH.room (Nat.le_of_ble_eq_true rfl) (Nat.le_of_ble_eq_true rfl)) rfl rfl (Nat.le_of_ble_eq_true rfl) 3 rfl h.le.2.2 h.br rfl dL_law_2359 ?_ (fun E q S hT => rc_out hC hH.2.2.2.2 hT)
  intro x2 S h
  show rc_Z Y S 2362 [some (rc_q v0), some (rc_q v1), some (rc_q v2), some (rc_q v3), some (rc_i v4), none, none, none, none] [rc_i x2]
  refine rc_istore (pc := 2362) hC (L' := [some (rc_q v0), some (rc_q v1), some (rc_q v2), some (rc_q v3), some (rc_i v4), some (rc_i x2), none, none, none]) dL_law_2362 (Nat.le_of_ble_eq_true rfl) rfl rfl ?_
  refine rc_aload_n (pc := 2364) hC dL_law_2364 rfl rfl ?_
  refine rc_aload_n (pc := 2365) hC dL_law_2365 rfl rfl ?_
  refine rc_iload (pc := 2366) hC dL_law_2366 rfl ?_
  refine rc_iconst (pc := 2368) hC (v := (1 : Int32)) dL_law_2368 rfl ?_
  refine rc_iadd (pc := 2369) hC dL_law_2369 ?_
  refine rc_r_iald (pc := 2370) hC dL_law_2370 h ?_
  intro x3 h
  obtain ⟨⟨he, hf⟩, h⟩ := h.isM
  refine rc_callM (pc := 2371) hC (As := [rc_i x3]) (st := []) (rw_X9_whyNoClaim hH.1 x3) q2611 q2612 q2613 q149 q2614 rfl rd_X9_whyNoClaim (hH.room (Nat.le_of_ble_eq_true rfl) (Nat.le_of_ble_eq_true rfl)) rfl rfl (Nat.le_of_ble_eq_true rfl) 1 rfl h.le.2.2 (Or.inr hf) h.br (by rw [he]; first | done | rfl) dL_law_2371 ?_ (fun E q S hT => rc_out hC hH.2.2.2.2 hT)
  intro x4 S h
  show rc_Z Y S 2374 [some (rc_q v0), some (rc_q v1), some (rc_q v2), some (rc_q v3), some (rc_i v4), some (rc_i x2), none, none, none] [rc_i x4]
  refine rc_istore (pc := 2374) hC (L' := [some (rc_q v0), some (rc_q v1), some (rc_q v2), some (rc_q v3), some (rc_i v4), some (rc_i x2), some (rc_i x4), none, none]) dL_law_2374 (Nat.le_of_ble_eq_true rfl) rfl rfl ?_
  refine rc_aload_n (pc := 2376) hC dL_law_2376 rfl rfl ?_
  obtain ⟨⟨he, hf⟩, h⟩ := h.isM
  refine rc_callM (pc := 2377) hC (As := []) (st := []) (rw_X9_thrown hH.1) q2376 q2377 q2378 q149 q2379 rfl rd_X9_thrown (hH.room (Nat.le_of_ble_eq_true rfl) (Nat.le_of_ble_eq_true rfl)) rfl rfl (Nat.le_of_ble_eq_true rfl) 0 rfl h.le.2.2 (Or.inr hf) h.br (by rw [he]; first | done | rfl) dL_law_2377 ?_ (fun E q S hT => rc_out hC hH.2.2.2.2 hT)
  intro x5 S h
  show rc_Z Y S 2380 [some (rc_q v0), some (rc_q v1), some (rc_q v2), some (rc_q v3), some (rc_i v4), some (rc_i x2), some (rc_i x4), none, none] [rc_i x5]
  refine rc_iload (pc := 2380) hC dL_law_2380 rfl ?_
  refine rc_icmp_eq (pc := 2382) (tgt := 2387) hC dL_law_2382 rfl h ?_ ?_
  · intro _ h
    refine rc_iload (pc := 2387) hC dL_law_2387 rfl ?_
    refine rc_if_ne (pc := 2389) (tgt := 2404) hC dL_law_2389 rfl h ?_ ?_
    · intro _ h
      refine rc_drop [true, true, true, true, true, false, false, false, false] (L' := [some (rc_q v0), some (rc_q v1), some (rc_q v2), some (rc_q v3), some (rc_i v4), none, none, none, none]) rfl ?_
      exact rw_L_law_L2404 hC hH hk23 v0 v1 v2 v3 v4 S h
    intro _ h
    refine rc_aload_n (pc := 2392) hC dL_law_2392 rfl rfl ?_
    refine rc_iconst (pc := 2393) hC (v := (0 : Int32)) dL_law_2393 rfl ?_
    refine rc_r_lald (pc := 2394) hC dL_law_2394 h ?_
    intro x6 h
    refine rc_iload (pc := 2395) hC dL_law_2395 rfl ?_
    refine rc_i2l (pc := 2397) hC dL_law_2397 ?_
    refine rc_lcmp (pc := 2398) hC dL_law_2398 ?_
    refine rc_if_eq (pc := 2399) (tgt := 2404) hC dL_law_2399 rfl h ?_ ?_
    · intro _ h
      refine rc_drop [true, true, true, true, true, false, false, false, false] (L' := [some (rc_q v0), some (rc_q v1), some (rc_q v2), some (rc_q v3), some (rc_i v4), none, none, none, none]) rfl ?_
      exact rw_L_law_L2404 hC hH hk23 v0 v1 v2 v3 v4 S h
    intro _ h
    refine rc_iconst (pc := 2402) hC (v := (0 : Int32)) dL_law_2402 rfl ?_
    exact rc_iret hC rfl rfl dL_law_2403 h rfl
  intro _ h
  refine rc_iconst (pc := 2385) hC (v := (0 : Int32)) dL_law_2385 rfl ?_
  exact rc_iret hC rfl rfl dL_law_2386 h rfl
theorem rw_L_law_L2472 {Y : rc_Y} (hC : rc_C Y cL_law RX0 ret 9) (hH : rc_H Y 20 419 "law") {k23 : Option Nat → Option Nat → Option Nat → Option Nat → Int32 → rc_M Int32} (hk23 : ∀ (v0 : Option Nat) (v1 : Option Nat) (v2 : Option Nat) (v3 : Option Nat) (v4 : Int32) (S : rc_S), rc_Go Y rc_tI (k23 v0 v1 v2 v3 v4) S → rc_Z Y S 23 [some (rc_q v0), some (rc_q v1), some (rc_q v2), some (rc_q v3), some (rc_i v4), none, none, none, none] []) (v0 : Option Nat) (v1 : Option Nat) (v2 : Option Nat) (v3 : Option Nat) (v4 : Int32) (S : rc_S) (h : rc_Go Y rc_tI (rp_L_law_L2472 k23 v0 v1 v2 v3 v4) S) : rc_Z Y S 2472 [some (rc_q v0), some (rc_q v1), some (rc_q v2), some (rc_q v3), some (rc_i v4), none, none, none, none] [] := by
  unfold rp_L_law_L2472 at h
  refine rc_goto (pc := 2472) (tgt := 2957) hC dL_law_2472 rfl ?_
  exact rw_L_law_L2957 hC hH hk23 v0 v1 v2 v3 v4 S h
theorem rw_L_law_L2407 {Y : rc_Y} (hC : rc_C Y cL_law RX0 ret 9) (hH : rc_H Y 20 419 "law") {k23 : Option Nat → Option Nat → Option Nat → Option Nat → Int32 → rc_M Int32} (hk23 : ∀ (v0 : Option Nat) (v1 : Option Nat) (v2 : Option Nat) (v3 : Option Nat) (v4 : Int32) (S : rc_S), rc_Go Y rc_tI (k23 v0 v1 v2 v3 v4) S → rc_Z Y S 23 [some (rc_q v0), some (rc_q v1), some (rc_q v2), some (rc_q v3), some (rc_i v4), none, none, none, none] []) (v0 : Option Nat) (v1 : Option Nat) (v2 : Option Nat) (v3 : Option Nat) (v4 : Int32) (S : rc_S) (h : rc_Go Y rc_tI (rp_L_law_L2407 k23 v0 v1 v2 v3 v4) S) : rc_Z Y S 2407 [some (rc_q v0), some (rc_q v1), some (rc_q v2), some (rc_q v3), some (rc_i v4), none, none, none, none] [] := by
  unfold rp_L_law_L2407 at h
  refine rc_aload_n (pc := 2407) hC dL_law_2407 rfl rfl ?_
  refine rc_aload_n (pc := 2408) hC dL_law_2408 rfl rfl ?_
  refine rc_iload (pc := 2409) hC dL_law_2409 rfl ?_
  refine rc_iconst (pc := 2411) hC (v := (1 : Int32)) dL_law_2411 rfl ?_
  refine rc_iadd (pc := 2412) hC dL_law_2412 ?_
  refine rc_r_iald (pc := 2413) hC dL_law_2413 h ?_
  intro x1 h
  refine rc_aload_n (pc := 2414) hC dL_law_2414 rfl rfl ?_
  refine rc_iload (pc := 2415) hC dL_law_2415 rfl ?_
  refine rc_iconst (pc := 2417) hC (v := (2 : Int32)) dL_law_2417 rfl ?_
  refine rc_iadd (pc := 2418) hC dL_law_2418 ?_
  refine rc_r_iald (pc := 2419) hC dL_law_2419 h ?_
  intro x2 h
  refine rc_aload_n (pc := 2420) hC dL_law_2420 rfl rfl ?_
  refine rc_callSW (pc := 2421) hC (rw_X0_whyNoChase hH.1 v1 x1 x2 v3) q1963 q1964 q115 q1965 rd_X0_whyNoChase (hH.room (Nat.le_of_ble_eq_true rfl) (Nat.le_of_ble_eq_true rfl)) rfl rfl (Nat.le_of_ble_eq_true rfl) 4 rfl h.le.2.2 h.br rfl dL_law_2421 ?_ (fun E q S hT => rc_out hC hH.2.2.2.2 hT)
  intro x3 S h
  show rc_Z Y S 2424 [some (rc_q v0), some (rc_q v1), some (rc_q v2), some (rc_q v3), some (rc_i v4), none, none, none, none] [rc_i x3]
  refine rc_istore (pc := 2424) hC (L' := [some (rc_q v0), some (rc_q v1), some (rc_q v2), some (rc_q v3), some (rc_i v4), some (rc_i x3), none, none, none]) dL_law_2424 (Nat.le_of_ble_eq_true rfl) rfl rfl ?_
  refine rc_aload_n (pc := 2426) hC dL_law_2426 rfl rfl ?_
  refine rc_aload_n (pc := 2427) hC dL_law_2427 rfl rfl ?_
  refine rc_iload (pc := 2428) hC dL_law_2428 rfl ?_
  refine rc_iconst (pc := 2430) hC (v := (1 : Int32)) dL_law_2430 rfl ?_
  refine rc_iadd (pc := 2431) hC dL_law_2431 ?_
  refine rc_r_iald (pc := 2432) hC dL_law_2432 h ?_
  intro x4 h
  refine rc_aload_n (pc := 2433) hC dL_law_2433 rfl rfl ?_
  refine rc_iload (pc := 2434) hC dL_law_2434 rfl ?_
  refine rc_iconst (pc := 2436) hC (v := (2 : Int32)) dL_law_2436 rfl ?_
  refine rc_iadd (pc := 2437) hC dL_law_2437 ?_
  refine rc_r_iald (pc := 2438) hC dL_law_2438 h ?_
  intro x5 h
  obtain ⟨⟨he, hf⟩, h⟩ := h.isM
  refine rc_callM (pc := 2439) hC (As := [rc_i x4, rc_i x5]) (st := []) (rw_X9_whyNoChase hH.1 x4 x5) q2615 q2616 q2617 q149 q2618 rfl rd_X9_whyNoChase (hH.room (Nat.le_of_ble_eq_true rfl) (Nat.le_of_ble_eq_true rfl)) rfl rfl (Nat.le_of_ble_eq_true rfl) 2 rfl h.le.2.2 (Or.inr hf) h.br (by rw [he]; first | done | rfl) dL_law_2439 ?_ (fun E q S hT => rc_out hC hH.2.2.2.2 hT)
  intro x6 S h
  show rc_Z Y S 2442 [some (rc_q v0), some (rc_q v1), some (rc_q v2), some (rc_q v3), some (rc_i v4), some (rc_i x3), none, none, none] [rc_i x6]
  refine rc_istore (pc := 2442) hC (L' := [some (rc_q v0), some (rc_q v1), some (rc_q v2), some (rc_q v3), some (rc_i v4), some (rc_i x3), some (rc_i x6), none, none]) dL_law_2442 (Nat.le_of_ble_eq_true rfl) rfl rfl ?_
  refine rc_aload_n (pc := 2444) hC dL_law_2444 rfl rfl ?_
  obtain ⟨⟨he, hf⟩, h⟩ := h.isM
  refine rc_callM (pc := 2445) hC (As := []) (st := []) (rw_X9_thrown hH.1) q2376 q2377 q2378 q149 q2379 rfl rd_X9_thrown (hH.room (Nat.le_of_ble_eq_true rfl) (Nat.le_of_ble_eq_true rfl)) rfl rfl (Nat.le_of_ble_eq_true rfl) 0 rfl h.le.2.2 (Or.inr hf) h.br (by rw [he]; first | done | rfl) dL_law_2445 ?_ (fun E q S hT => rc_out hC hH.2.2.2.2 hT)
  intro x7 S h
  show rc_Z Y S 2448 [some (rc_q v0), some (rc_q v1), some (rc_q v2), some (rc_q v3), some (rc_i v4), some (rc_i x3), some (rc_i x6), none, none] [rc_i x7]
  refine rc_iload (pc := 2448) hC dL_law_2448 rfl ?_
  refine rc_icmp_eq (pc := 2450) (tgt := 2455) hC dL_law_2450 rfl h ?_ ?_
  · intro _ h
    refine rc_iload (pc := 2455) hC dL_law_2455 rfl ?_
    refine rc_if_ne (pc := 2457) (tgt := 2472) hC dL_law_2457 rfl h ?_ ?_
    · intro _ h
      refine rc_drop [true, true, true, true, true, false, false, false, false] (L' := [some (rc_q v0), some (rc_q v1), some (rc_q v2), some (rc_q v3), some (rc_i v4), none, none, none, none]) rfl ?_
      exact rw_L_law_L2472 hC hH hk23 v0 v1 v2 v3 v4 S h
    intro _ h
    refine rc_aload_n (pc := 2460) hC dL_law_2460 rfl rfl ?_
    refine rc_iconst (pc := 2461) hC (v := (0 : Int32)) dL_law_2461 rfl ?_
    refine rc_r_lald (pc := 2462) hC dL_law_2462 h ?_
    intro x8 h
    refine rc_iload (pc := 2463) hC dL_law_2463 rfl ?_
    refine rc_i2l (pc := 2465) hC dL_law_2465 ?_
    refine rc_lcmp (pc := 2466) hC dL_law_2466 ?_
    refine rc_if_eq (pc := 2467) (tgt := 2472) hC dL_law_2467 rfl h ?_ ?_
    · intro _ h
      refine rc_drop [true, true, true, true, true, false, false, false, false] (L' := [some (rc_q v0), some (rc_q v1), some (rc_q v2), some (rc_q v3), some (rc_i v4), none, none, none, none]) rfl ?_
      exact rw_L_law_L2472 hC hH hk23 v0 v1 v2 v3 v4 S h
    intro _ h
    refine rc_iconst (pc := 2470) hC (v := (0 : Int32)) dL_law_2470 rfl ?_
    exact rc_iret hC rfl rfl dL_law_2471 h rfl
  intro _ h
  refine rc_iconst (pc := 2453) hC (v := (0 : Int32)) dL_law_2453 rfl ?_
  exact rc_iret hC rfl rfl dL_law_2454 h rfl
theorem rw_L_law_L2528 {Y : rc_Y} (hC : rc_C Y cL_law RX0 ret 9) (hH : rc_H Y 20 419 "law") {k23 : Option Nat → Option Nat → Option Nat → Option Nat → Int32 → rc_M Int32} (hk23 : ∀ (v0 : Option Nat) (v1 : Option Nat) (v2 : Option Nat) (v3 : Option Nat) (v4 : Int32) (S : rc_S), rc_Go Y rc_tI (k23 v0 v1 v2 v3 v4) S → rc_Z Y S 23 [some (rc_q v0), some (rc_q v1), some (rc_q v2), some (rc_q v3), some (rc_i v4), none, none, none, none] []) (v0 : Option Nat) (v1 : Option Nat) (v2 : Option Nat) (v3 : Option Nat) (v4 : Int32) (S : rc_S) (h : rc_Go Y rc_tI (rp_L_law_L2528 k23 v0 v1 v2 v3 v4) S) : rc_Z Y S 2528 [some (rc_q v0), some (rc_q v1), some (rc_q v2), some (rc_q v3), some (rc_i v4), none, none, none, none] [] := by
  unfold rp_L_law_L2528 at h
  refine rc_goto (pc := 2528) (tgt := 2957) hC dL_law_2528 rfl ?_
  exact rw_L_law_L2957 hC hH hk23 v0 v1 v2 v3 v4 S h
theorem rw_L_law_L2475 {Y : rc_Y} (hC : rc_C Y cL_law RX0 ret 9) (hH : rc_H Y 20 419 "law") {k23 : Option Nat → Option Nat → Option Nat → Option Nat → Int32 → rc_M Int32} (hk23 : ∀ (v0 : Option Nat) (v1 : Option Nat) (v2 : Option Nat) (v3 : Option Nat) (v4 : Int32) (S : rc_S), rc_Go Y rc_tI (k23 v0 v1 v2 v3 v4) S → rc_Z Y S 23 [some (rc_q v0), some (rc_q v1), some (rc_q v2), some (rc_q v3), some (rc_i v4), none, none, none, none] []) (v0 : Option Nat) (v1 : Option Nat) (v2 : Option Nat) (v3 : Option Nat) (v4 : Int32) (S : rc_S) (h : rc_Go Y rc_tI (rp_L_law_L2475 k23 v0 v1 v2 v3 v4) S) : rc_Z Y S 2475 [some (rc_q v0), some (rc_q v1), some (rc_q v2), some (rc_q v3), some (rc_i v4), none, none, none, none] [] := by
  unfold rp_L_law_L2475 at h
  refine rc_aload_n (pc := 2475) hC dL_law_2475 rfl rfl ?_
  refine rc_aload_n (pc := 2476) hC dL_law_2476 rfl rfl ?_
  refine rc_iload (pc := 2477) hC dL_law_2477 rfl ?_
  refine rc_iconst (pc := 2479) hC (v := (1 : Int32)) dL_law_2479 rfl ?_
  refine rc_iadd (pc := 2480) hC dL_law_2480 ?_
  refine rc_r_iald (pc := 2481) hC dL_law_2481 h ?_
  intro x1 h
  refine rc_aload_n (pc := 2482) hC dL_law_2482 rfl rfl ?_
  refine rc_callSW (pc := 2483) hC (rw_X0_preyOf hH.1 v1 x1 v3) q1967 q1968 q115 q1969 rd_X0_preyOf (hH.room (Nat.le_of_ble_eq_true rfl) (Nat.le_of_ble_eq_true rfl)) rfl rfl (Nat.le_of_ble_eq_true rfl) 3 rfl h.le.2.2 h.br rfl dL_law_2483 ?_ (fun E q S hT => rc_out hC hH.2.2.2.2 hT)
  intro x2 S h
  show rc_Z Y S 2486 [some (rc_q v0), some (rc_q v1), some (rc_q v2), some (rc_q v3), some (rc_i v4), none, none, none, none] [rc_i x2]
  refine rc_istore (pc := 2486) hC (L' := [some (rc_q v0), some (rc_q v1), some (rc_q v2), some (rc_q v3), some (rc_i v4), some (rc_i x2), none, none, none]) dL_law_2486 (Nat.le_of_ble_eq_true rfl) rfl rfl ?_
  refine rc_aload_n (pc := 2488) hC dL_law_2488 rfl rfl ?_
  refine rc_aload_n (pc := 2489) hC dL_law_2489 rfl rfl ?_
  refine rc_iload (pc := 2490) hC dL_law_2490 rfl ?_
  refine rc_iconst (pc := 2492) hC (v := (1 : Int32)) dL_law_2492 rfl ?_
  refine rc_iadd (pc := 2493) hC dL_law_2493 ?_
  refine rc_r_iald (pc := 2494) hC dL_law_2494 h ?_
  intro x3 h
  obtain ⟨⟨he, hf⟩, h⟩ := h.isM
  refine rc_callM (pc := 2495) hC (As := [rc_i x3]) (st := []) (rw_X9_preyOf hH.1 x3) q2619 q2620 q2621 q149 q2622 rfl rd_X9_preyOf (hH.room (Nat.le_of_ble_eq_true rfl) (Nat.le_of_ble_eq_true rfl)) rfl rfl (Nat.le_of_ble_eq_true rfl) 1 rfl h.le.2.2 (Or.inr hf) h.br (by rw [he]; first | done | rfl) dL_law_2495 ?_ (fun E q S hT => rc_out hC hH.2.2.2.2 hT)
  intro x4 S h
  show rc_Z Y S 2498 [some (rc_q v0), some (rc_q v1), some (rc_q v2), some (rc_q v3), some (rc_i v4), some (rc_i x2), none, none, none] [rc_i x4]
  refine rc_istore (pc := 2498) hC (L' := [some (rc_q v0), some (rc_q v1), some (rc_q v2), some (rc_q v3), some (rc_i v4), some (rc_i x2), some (rc_i x4), none, none]) dL_law_2498 (Nat.le_of_ble_eq_true rfl) rfl rfl ?_
  refine rc_aload_n (pc := 2500) hC dL_law_2500 rfl rfl ?_
  obtain ⟨⟨he, hf⟩, h⟩ := h.isM
  refine rc_callM (pc := 2501) hC (As := []) (st := []) (rw_X9_thrown hH.1) q2376 q2377 q2378 q149 q2379 rfl rd_X9_thrown (hH.room (Nat.le_of_ble_eq_true rfl) (Nat.le_of_ble_eq_true rfl)) rfl rfl (Nat.le_of_ble_eq_true rfl) 0 rfl h.le.2.2 (Or.inr hf) h.br (by rw [he]; first | done | rfl) dL_law_2501 ?_ (fun E q S hT => rc_out hC hH.2.2.2.2 hT)
  intro x5 S h
  show rc_Z Y S 2504 [some (rc_q v0), some (rc_q v1), some (rc_q v2), some (rc_q v3), some (rc_i v4), some (rc_i x2), some (rc_i x4), none, none] [rc_i x5]
  refine rc_iload (pc := 2504) hC dL_law_2504 rfl ?_
  refine rc_icmp_eq (pc := 2506) (tgt := 2511) hC dL_law_2506 rfl h ?_ ?_
  · intro _ h
    refine rc_iload (pc := 2511) hC dL_law_2511 rfl ?_
    refine rc_if_ne (pc := 2513) (tgt := 2528) hC dL_law_2513 rfl h ?_ ?_
    · intro _ h
      refine rc_drop [true, true, true, true, true, false, false, false, false] (L' := [some (rc_q v0), some (rc_q v1), some (rc_q v2), some (rc_q v3), some (rc_i v4), none, none, none, none]) rfl ?_
      exact rw_L_law_L2528 hC hH hk23 v0 v1 v2 v3 v4 S h
    intro _ h
    refine rc_aload_n (pc := 2516) hC dL_law_2516 rfl rfl ?_
    refine rc_iconst (pc := 2517) hC (v := (0 : Int32)) dL_law_2517 rfl ?_
    refine rc_r_lald (pc := 2518) hC dL_law_2518 h ?_
    intro x6 h
    refine rc_iload (pc := 2519) hC dL_law_2519 rfl ?_
    refine rc_i2l (pc := 2521) hC dL_law_2521 ?_
    refine rc_lcmp (pc := 2522) hC dL_law_2522 ?_
    refine rc_if_eq (pc := 2523) (tgt := 2528) hC dL_law_2523 rfl h ?_ ?_
    · intro _ h
      refine rc_drop [true, true, true, true, true, false, false, false, false] (L' := [some (rc_q v0), some (rc_q v1), some (rc_q v2), some (rc_q v3), some (rc_i v4), none, none, none, none]) rfl ?_
      exact rw_L_law_L2528 hC hH hk23 v0 v1 v2 v3 v4 S h
    intro _ h
    refine rc_iconst (pc := 2526) hC (v := (0 : Int32)) dL_law_2526 rfl ?_
    exact rc_iret hC rfl rfl dL_law_2527 h rfl
  intro _ h
  refine rc_iconst (pc := 2509) hC (v := (0 : Int32)) dL_law_2509 rfl ?_
  exact rc_iret hC rfl rfl dL_law_2510 h rfl
theorem rw_L_law_L2531 {Y : rc_Y} (hC : rc_C Y cL_law RX0 ret 9) (hH : rc_H Y 20 419 "law") {k23 : Option Nat → Option Nat → Option Nat → Option Nat → Int32 → rc_M Int32} (hk23 : ∀ (v0 : Option Nat) (v1 : Option Nat) (v2 : Option Nat) (v3 : Option Nat) (v4 : Int32) (S : rc_S), rc_Go Y rc_tI (k23 v0 v1 v2 v3 v4) S → rc_Z Y S 23 [some (rc_q v0), some (rc_q v1), some (rc_q v2), some (rc_q v3), some (rc_i v4), none, none, none, none] []) (v0 : Option Nat) (v1 : Option Nat) (v2 : Option Nat) (v3 : Option Nat) (v4 : Int32) (S : rc_S) (h : rc_Go Y rc_tI (rp_L_law_L2531 k23 v0 v1 v2 v3 v4) S) : rc_Z Y S 2531 [some (rc_q v0), some (rc_q v1), some (rc_q v2), some (rc_q v3), some (rc_i v4), none, none, none, none] [] := by
  unfold rp_L_law_L2531 at h
  refine rc_aload_n (pc := 2531) hC dL_law_2531 rfl rfl ?_
  obtain ⟨⟨fs, ho⟩, h⟩ := h.is
  refine rc_callV (pc := 2532) hC rfl ho (rw_X1_isKittenWaiting hH.1 v1) q1533 q1534 q1535 q116 q1536 rfl rd_X1_isKittenWaiting (hH.room (Nat.le_of_ble_eq_true rfl) (Nat.le_of_ble_eq_true rfl)) rfl rfl (Nat.le_of_ble_eq_true rfl) 0 rfl h.le.2.2 h.br rfl dL_law_2532 ?_ (fun E q S hT => rc_out hC hH.2.2.2.2 hT)
  intro x1 S h
  show rc_Z Y S 2535 [some (rc_q v0), some (rc_q v1), some (rc_q v2), some (rc_q v3), some (rc_i v4), none, none, none, none] [rc_i x1]
  refine rc_aload_n (pc := 2535) hC dL_law_2535 rfl rfl ?_
  obtain ⟨⟨he, hf⟩, h⟩ := h.isM
  refine rc_callM (pc := 2536) hC (As := []) (st := [rc_i x1]) (rw_X9_isKittenWaiting hH.1) q2623 q2624 q2625 q149 q2626 rfl rd_X9_isKittenWaiting (hH.room (Nat.le_of_ble_eq_true rfl) (Nat.le_of_ble_eq_true rfl)) rfl rfl (Nat.le_of_ble_eq_true rfl) 0 rfl h.le.2.2 (Or.inr hf) h.br (by rw [he]; first | done | rfl) dL_law_2536 ?_ (fun E q S hT => rc_out hC hH.2.2.2.2 hT)
  intro x2 S h
  show rc_Z Y S 2539 [some (rc_q v0), some (rc_q v1), some (rc_q v2), some (rc_q v3), some (rc_i v4), none, none, none, none] [rc_i x2, rc_i x1]
  refine rc_icmp_eq (pc := 2539) (tgt := 2957) hC dL_law_2539 rfl h ?_ ?_
  · intro _ h
    exact rw_L_law_L2957 hC hH hk23 v0 v1 v2 v3 v4 S h
  intro _ h
  refine rc_iconst (pc := 2542) hC (v := (0 : Int32)) dL_law_2542 rfl ?_
  exact rc_iret hC rfl rfl dL_law_2543 h rfl
theorem rw_L_law_L2544 {Y : rc_Y} (hC : rc_C Y cL_law RX0 ret 9) (hH : rc_H Y 20 419 "law") {k23 : Option Nat → Option Nat → Option Nat → Option Nat → Int32 → rc_M Int32} (hk23 : ∀ (v0 : Option Nat) (v1 : Option Nat) (v2 : Option Nat) (v3 : Option Nat) (v4 : Int32) (S : rc_S), rc_Go Y rc_tI (k23 v0 v1 v2 v3 v4) S → rc_Z Y S 23 [some (rc_q v0), some (rc_q v1), some (rc_q v2), some (rc_q v3), some (rc_i v4), none, none, none, none] []) (v0 : Option Nat) (v1 : Option Nat) (v2 : Option Nat) (v3 : Option Nat) (v4 : Int32) (S : rc_S) (h : rc_Go Y rc_tI (rp_L_law_L2544 k23 v0 v1 v2 v3 v4) S) : rc_Z Y S 2544 [some (rc_q v0), some (rc_q v1), some (rc_q v2), some (rc_q v3), some (rc_i v4), none, none, none, none] [] := by
  unfold rp_L_law_L2544 at h
  refine rc_aload_n (pc := 2544) hC dL_law_2544 rfl rfl ?_
  obtain ⟨⟨fs, ho⟩, h⟩ := h.is
  refine rc_callV (pc := 2545) hC rfl ho (rw_X1_votesFor hH.1 v1) q1537 q1538 q1539 q116 q1540 rfl rd_X1_votesFor (hH.room (Nat.le_of_ble_eq_true rfl) (Nat.le_of_ble_eq_true rfl)) rfl rfl (Nat.le_of_ble_eq_true rfl) 0 rfl h.le.2.2 h.br rfl dL_law_2545 ?_ (fun E q S hT => rc_out hC hH.2.2.2.2 hT)
  intro x1 S h
  show rc_Z Y S 2548 [some (rc_q v0), some (rc_q v1), some (rc_q v2), some (rc_q v3), some (rc_i v4), none, none, none, none] [rc_i x1]
  refine rc_aload_n (pc := 2548) hC dL_law_2548 rfl rfl ?_
  obtain ⟨⟨he, hf⟩, h⟩ := h.isM
  refine rc_callM (pc := 2549) hC (As := []) (st := [rc_i x1]) (rw_X9_votesFor hH.1) q2627 q2628 q2629 q149 q2630 rfl rd_X9_votesFor (hH.room (Nat.le_of_ble_eq_true rfl) (Nat.le_of_ble_eq_true rfl)) rfl rfl (Nat.le_of_ble_eq_true rfl) 0 rfl h.le.2.2 (Or.inr hf) h.br (by rw [he]; first | done | rfl) dL_law_2549 ?_ (fun E q S hT => rc_out hC hH.2.2.2.2 hT)
  intro x2 S h
  show rc_Z Y S 2552 [some (rc_q v0), some (rc_q v1), some (rc_q v2), some (rc_q v3), some (rc_i v4), none, none, none, none] [rc_i x2, rc_i x1]
  refine rc_icmp_eq (pc := 2552) (tgt := 2957) hC dL_law_2552 rfl h ?_ ?_
  · intro _ h
    exact rw_L_law_L2957 hC hH hk23 v0 v1 v2 v3 v4 S h
  intro _ h
  refine rc_iconst (pc := 2555) hC (v := (0 : Int32)) dL_law_2555 rfl ?_
  exact rc_iret hC rfl rfl dL_law_2556 h rfl
theorem rw_L_law_L2557 {Y : rc_Y} (hC : rc_C Y cL_law RX0 ret 9) (hH : rc_H Y 20 419 "law") {k23 : Option Nat → Option Nat → Option Nat → Option Nat → Int32 → rc_M Int32} (hk23 : ∀ (v0 : Option Nat) (v1 : Option Nat) (v2 : Option Nat) (v3 : Option Nat) (v4 : Int32) (S : rc_S), rc_Go Y rc_tI (k23 v0 v1 v2 v3 v4) S → rc_Z Y S 23 [some (rc_q v0), some (rc_q v1), some (rc_q v2), some (rc_q v3), some (rc_i v4), none, none, none, none] []) (v0 : Option Nat) (v1 : Option Nat) (v2 : Option Nat) (v3 : Option Nat) (v4 : Int32) (S : rc_S) (h : rc_Go Y rc_tI (rp_L_law_L2557 k23 v0 v1 v2 v3 v4) S) : rc_Z Y S 2557 [some (rc_q v0), some (rc_q v1), some (rc_q v2), some (rc_q v3), some (rc_i v4), none, none, none, none] [] := by
  unfold rp_L_law_L2557 at h
  refine rc_aload_n (pc := 2557) hC dL_law_2557 rfl rfl ?_
  obtain ⟨⟨fs, ho⟩, h⟩ := h.is
  refine rc_callV (pc := 2558) hC rfl ho (rw_X1_votesAgainst hH.1 v1) q1543 q1544 q1545 q116 q1546 rfl rd_X1_votesAgainst (hH.room (Nat.le_of_ble_eq_true rfl) (Nat.le_of_ble_eq_true rfl)) rfl rfl (Nat.le_of_ble_eq_true rfl) 0 rfl h.le.2.2 h.br rfl dL_law_2558 ?_ (fun E q S hT => rc_out hC hH.2.2.2.2 hT)
  intro x1 S h
  show rc_Z Y S 2561 [some (rc_q v0), some (rc_q v1), some (rc_q v2), some (rc_q v3), some (rc_i v4), none, none, none, none] [rc_i x1]
  refine rc_aload_n (pc := 2561) hC dL_law_2561 rfl rfl ?_
  obtain ⟨⟨he, hf⟩, h⟩ := h.isM
  refine rc_callM (pc := 2562) hC (As := []) (st := [rc_i x1]) (rw_X9_votesAgainst hH.1) q2631 q2632 q2633 q149 q2634 rfl rd_X9_votesAgainst (hH.room (Nat.le_of_ble_eq_true rfl) (Nat.le_of_ble_eq_true rfl)) rfl rfl (Nat.le_of_ble_eq_true rfl) 0 rfl h.le.2.2 (Or.inr hf) h.br (by rw [he]; first | done | rfl) dL_law_2562 ?_ (fun E q S hT => rc_out hC hH.2.2.2.2 hT)
  intro x2 S h
  show rc_Z Y S 2565 [some (rc_q v0), some (rc_q v1), some (rc_q v2), some (rc_q v3), some (rc_i v4), none, none, none, none] [rc_i x2, rc_i x1]
  refine rc_icmp_eq (pc := 2565) (tgt := 2957) hC dL_law_2565 rfl h ?_ ?_
  · intro _ h
    exact rw_L_law_L2957 hC hH hk23 v0 v1 v2 v3 v4 S h
  intro _ h
  refine rc_iconst (pc := 2568) hC (v := (0 : Int32)) dL_law_2568 rfl ?_
  exact rc_iret hC rfl rfl dL_law_2569 h rfl
theorem rw_L_law_L2630 {Y : rc_Y} (hC : rc_C Y cL_law RX0 ret 9) (hH : rc_H Y 20 419 "law") {k23 : Option Nat → Option Nat → Option Nat → Option Nat → Int32 → rc_M Int32} (hk23 : ∀ (v0 : Option Nat) (v1 : Option Nat) (v2 : Option Nat) (v3 : Option Nat) (v4 : Int32) (S : rc_S), rc_Go Y rc_tI (k23 v0 v1 v2 v3 v4) S → rc_Z Y S 23 [some (rc_q v0), some (rc_q v1), some (rc_q v2), some (rc_q v3), some (rc_i v4), none, none, none, none] []) (v0 : Option Nat) (v1 : Option Nat) (v2 : Option Nat) (v3 : Option Nat) (v4 : Int32) (S : rc_S) (h : rc_Go Y rc_tI (rp_L_law_L2630 k23 v0 v1 v2 v3 v4) S) : rc_Z Y S 2630 [some (rc_q v0), some (rc_q v1), some (rc_q v2), some (rc_q v3), some (rc_i v4), none, none, none, none] [] := by
  unfold rp_L_law_L2630 at h
  refine rc_goto (pc := 2630) (tgt := 2957) hC dL_law_2630 rfl ?_
  exact rw_L_law_L2957 hC hH hk23 v0 v1 v2 v3 v4 S h
theorem rw_L_law_L2624 {Y : rc_Y} (hC : rc_C Y cL_law RX0 ret 9) (hH : rc_H Y 20 419 "law") {k23 : Option Nat → Option Nat → Option Nat → Option Nat → Int32 → rc_M Int32} (hk23 : ∀ (v0 : Option Nat) (v1 : Option Nat) (v2 : Option Nat) (v3 : Option Nat) (v4 : Int32) (S : rc_S), rc_Go Y rc_tI (k23 v0 v1 v2 v3 v4) S → rc_Z Y S 23 [some (rc_q v0), some (rc_q v1), some (rc_q v2), some (rc_q v3), some (rc_i v4), none, none, none, none] []) (v0 : Option Nat) (v1 : Option Nat) (v2 : Option Nat) (v3 : Option Nat) (v4 : Int32) (s0 : Int64) (s1 : Int64) (S : rc_S) (h : rc_Go Y rc_tI (rp_L_law_L2624 k23 v0 v1 v2 v3 v4 s0 s1) S) : rc_Z Y S 2624 [some (rc_q v0), some (rc_q v1), some (rc_q v2), some (rc_q v3), some (rc_i v4), none, none, none, none] [rc_l s0, rc_l s1] := by
  unfold rp_L_law_L2624 at h
  refine rc_lcmp (pc := 2624) hC dL_law_2624 ?_
  refine rc_if_eq (pc := 2625) (tgt := 2630) hC dL_law_2625 rfl h ?_ ?_
  · intro _ h
    exact rw_L_law_L2630 hC hH hk23 v0 v1 v2 v3 v4 S h
  intro _ h
  refine rc_iconst (pc := 2628) hC (v := (0 : Int32)) dL_law_2628 rfl ?_
  exact rc_iret hC rfl rfl dL_law_2629 h rfl
theorem rw_L_law_L2570 {Y : rc_Y} (hC : rc_C Y cL_law RX0 ret 9) (hH : rc_H Y 20 419 "law") {k23 : Option Nat → Option Nat → Option Nat → Option Nat → Int32 → rc_M Int32} (hk23 : ∀ (v0 : Option Nat) (v1 : Option Nat) (v2 : Option Nat) (v3 : Option Nat) (v4 : Int32) (S : rc_S), rc_Go Y rc_tI (k23 v0 v1 v2 v3 v4) S → rc_Z Y S 23 [some (rc_q v0), some (rc_q v1), some (rc_q v2), some (rc_q v3), some (rc_i v4), none, none, none, none] []) (v0 : Option Nat) (v1 : Option Nat) (v2 : Option Nat) (v3 : Option Nat) (v4 : Int32) (S : rc_S) (h : rc_Go Y rc_tI (rp_L_law_L2570 k23 v0 v1 v2 v3 v4) S) : rc_Z Y S 2570 [some (rc_q v0), some (rc_q v1), some (rc_q v2), some (rc_q v3), some (rc_i v4), none, none, none, none] [] := by
  unfold rp_L_law_L2570 at h
  refine rc_aload_n (pc := 2570) hC dL_law_2570 rfl rfl ?_
  refine rc_aload_n (pc := 2571) hC dL_law_2571 rfl rfl ?_
  refine rc_iload (pc := 2572) hC dL_law_2572 rfl ?_
  refine rc_iconst (pc := 2574) hC (v := (1 : Int32)) dL_law_2574 rfl ?_
  refine rc_iadd (pc := 2575) hC dL_law_2575 ?_
  refine rc_r_iald (pc := 2576) hC dL_law_2576 h ?_
  intro x1 h
  refine rc_aload_n (pc := 2577) hC dL_law_2577 rfl rfl ?_
  refine rc_callSW (pc := 2578) hC (rw_X0_hasVoted hH.1 v1 x1 v3) q1974 q1975 q115 q1976 rd_X0_hasVoted (hH.room (Nat.le_of_ble_eq_true rfl) (Nat.le_of_ble_eq_true rfl)) rfl rfl (Nat.le_of_ble_eq_true rfl) 3 rfl h.le.2.2 h.br rfl dL_law_2578 ?_ (fun E q S hT => rc_out hC hH.2.2.2.2 hT)
  intro x2 S h
  show rc_Z Y S 2581 [some (rc_q v0), some (rc_q v1), some (rc_q v2), some (rc_q v3), some (rc_i v4), none, none, none, none] [rc_i x2]
  refine rc_istore (pc := 2581) hC (L' := [some (rc_q v0), some (rc_q v1), some (rc_q v2), some (rc_q v3), some (rc_i v4), some (rc_i x2), none, none, none]) dL_law_2581 (Nat.le_of_ble_eq_true rfl) rfl rfl ?_
  refine rc_aload_n (pc := 2583) hC dL_law_2583 rfl rfl ?_
  refine rc_aload_n (pc := 2584) hC dL_law_2584 rfl rfl ?_
  refine rc_iload (pc := 2585) hC dL_law_2585 rfl ?_
  refine rc_iconst (pc := 2587) hC (v := (1 : Int32)) dL_law_2587 rfl ?_
  refine rc_iadd (pc := 2588) hC dL_law_2588 ?_
  refine rc_r_iald (pc := 2589) hC dL_law_2589 h ?_
  intro x3 h
  obtain ⟨⟨he, hf⟩, h⟩ := h.isM
  refine rc_callM (pc := 2590) hC (As := [rc_i x3]) (st := []) (rw_X9_hasVoted hH.1 x3) q2635 q2636 q2637 q149 q2638 rfl rd_X9_hasVoted (hH.room (Nat.le_of_ble_eq_true rfl) (Nat.le_of_ble_eq_true rfl)) rfl rfl (Nat.le_of_ble_eq_true rfl) 1 rfl h.le.2.2 (Or.inr hf) h.br (by rw [he]; first | done | rfl) dL_law_2590 ?_ (fun E q S hT => rc_out hC hH.2.2.2.2 hT)
  intro x4 S h
  show rc_Z Y S 2593 [some (rc_q v0), some (rc_q v1), some (rc_q v2), some (rc_q v3), some (rc_i v4), some (rc_i x2), none, none, none] [rc_i x4]
  refine rc_istore (pc := 2593) hC (L' := [some (rc_q v0), some (rc_q v1), some (rc_q v2), some (rc_q v3), some (rc_i v4), some (rc_i x2), some (rc_i x4), none, none]) dL_law_2593 (Nat.le_of_ble_eq_true rfl) rfl rfl ?_
  refine rc_aload_n (pc := 2595) hC dL_law_2595 rfl rfl ?_
  obtain ⟨⟨he, hf⟩, h⟩ := h.isM
  refine rc_callM (pc := 2596) hC (As := []) (st := []) (rw_X9_thrown hH.1) q2376 q2377 q2378 q149 q2379 rfl rd_X9_thrown (hH.room (Nat.le_of_ble_eq_true rfl) (Nat.le_of_ble_eq_true rfl)) rfl rfl (Nat.le_of_ble_eq_true rfl) 0 rfl h.le.2.2 (Or.inr hf) h.br (by rw [he]; first | done | rfl) dL_law_2596 ?_ (fun E q S hT => rc_out hC hH.2.2.2.2 hT)
  intro x5 S h
  show rc_Z Y S 2599 [some (rc_q v0), some (rc_q v1), some (rc_q v2), some (rc_q v3), some (rc_i v4), some (rc_i x2), some (rc_i x4), none, none] [rc_i x5]
  refine rc_iload (pc := 2599) hC dL_law_2599 rfl ?_
  refine rc_icmp_eq (pc := 2601) (tgt := 2606) hC dL_law_2601 rfl h ?_ ?_
  · intro _ h
    refine rc_iload (pc := 2606) hC dL_law_2606 rfl ?_
    refine rc_if_ne (pc := 2608) (tgt := 2630) hC dL_law_2608 rfl h ?_ ?_
    · intro _ h
      refine rc_drop [true, true, true, true, true, false, false, false, false] (L' := [some (rc_q v0), some (rc_q v1), some (rc_q v2), some (rc_q v3), some (rc_i v4), none, none, none, none]) rfl ?_
      exact rw_L_law_L2630 hC hH hk23 v0 v1 v2 v3 v4 S h
    intro _ h
    refine rc_aload_n (pc := 2611) hC dL_law_2611 rfl rfl ?_
    refine rc_iconst (pc := 2612) hC (v := (0 : Int32)) dL_law_2612 rfl ?_
    refine rc_r_lald (pc := 2613) hC dL_law_2613 h ?_
    intro x6 h
    refine rc_iload (pc := 2614) hC dL_law_2614 rfl ?_
    refine rc_if_eq (pc := 2616) (tgt := 2623) hC dL_law_2616 rfl h ?_ ?_
    · intro _ h
      refine rc_lconst (pc := 2623) hC (v := (0 : Int64)) dL_law_2623 rfl ?_
      refine rc_drop [true, true, true, true, true, false, false, false, false] (L' := [some (rc_q v0), some (rc_q v1), some (rc_q v2), some (rc_q v3), some (rc_i v4), none, none, none, none]) rfl ?_
      exact rw_L_law_L2624 hC hH hk23 v0 v1 v2 v3 v4 (0 : Int64) x6 S h
    intro _ h
    refine rc_lconst (pc := 2619) hC (v := (1 : Int64)) dL_law_2619 rfl ?_
    refine rc_goto (pc := 2620) (tgt := 2624) hC dL_law_2620 rfl ?_
    refine rc_drop [true, true, true, true, true, false, false, false, false] (L' := [some (rc_q v0), some (rc_q v1), some (rc_q v2), some (rc_q v3), some (rc_i v4), none, none, none, none]) rfl ?_
    exact rw_L_law_L2624 hC hH hk23 v0 v1 v2 v3 v4 (1 : Int64) x6 S h
  intro _ h
  refine rc_iconst (pc := 2604) hC (v := (0 : Int32)) dL_law_2604 rfl ?_
  exact rc_iret hC rfl rfl dL_law_2605 h rfl
theorem rw_L_law_L2686 {Y : rc_Y} (hC : rc_C Y cL_law RX0 ret 9) (hH : rc_H Y 20 419 "law") {k23 : Option Nat → Option Nat → Option Nat → Option Nat → Int32 → rc_M Int32} (hk23 : ∀ (v0 : Option Nat) (v1 : Option Nat) (v2 : Option Nat) (v3 : Option Nat) (v4 : Int32) (S : rc_S), rc_Go Y rc_tI (k23 v0 v1 v2 v3 v4) S → rc_Z Y S 23 [some (rc_q v0), some (rc_q v1), some (rc_q v2), some (rc_q v3), some (rc_i v4), none, none, none, none] []) (v0 : Option Nat) (v1 : Option Nat) (v2 : Option Nat) (v3 : Option Nat) (v4 : Int32) (S : rc_S) (h : rc_Go Y rc_tI (rp_L_law_L2686 k23 v0 v1 v2 v3 v4) S) : rc_Z Y S 2686 [some (rc_q v0), some (rc_q v1), some (rc_q v2), some (rc_q v3), some (rc_i v4), none, none, none, none] [] := by
  unfold rp_L_law_L2686 at h
  refine rc_goto (pc := 2686) (tgt := 2957) hC dL_law_2686 rfl ?_
  exact rw_L_law_L2957 hC hH hk23 v0 v1 v2 v3 v4 S h
theorem rw_L_law_L2633 {Y : rc_Y} (hC : rc_C Y cL_law RX0 ret 9) (hH : rc_H Y 20 419 "law") {k23 : Option Nat → Option Nat → Option Nat → Option Nat → Int32 → rc_M Int32} (hk23 : ∀ (v0 : Option Nat) (v1 : Option Nat) (v2 : Option Nat) (v3 : Option Nat) (v4 : Int32) (S : rc_S), rc_Go Y rc_tI (k23 v0 v1 v2 v3 v4) S → rc_Z Y S 23 [some (rc_q v0), some (rc_q v1), some (rc_q v2), some (rc_q v3), some (rc_i v4), none, none, none, none] []) (v0 : Option Nat) (v1 : Option Nat) (v2 : Option Nat) (v3 : Option Nat) (v4 : Int32) (S : rc_S) (h : rc_Go Y rc_tI (rp_L_law_L2633 k23 v0 v1 v2 v3 v4) S) : rc_Z Y S 2633 [some (rc_q v0), some (rc_q v1), some (rc_q v2), some (rc_q v3), some (rc_i v4), none, none, none, none] [] := by
  unfold rp_L_law_L2633 at h
  refine rc_aload_n (pc := 2633) hC dL_law_2633 rfl rfl ?_
  refine rc_aload_n (pc := 2634) hC dL_law_2634 rfl rfl ?_
  refine rc_iload (pc := 2635) hC dL_law_2635 rfl ?_
  refine rc_iconst (pc := 2637) hC (v := (1 : Int32)) dL_law_2637 rfl ?_
  refine rc_iadd (pc := 2638) hC dL_law_2638 ?_
  refine rc_r_iald (pc := 2639) hC dL_law_2639 h ?_
  intro x1 h
  refine rc_aload_n (pc := 2640) hC dL_law_2640 rfl rfl ?_
  refine rc_callSW (pc := 2641) hC (rw_X0_choirOf hH.1 v1 x1 v3) q1982 q1983 q115 q1984 rd_X0_choirOf (hH.room (Nat.le_of_ble_eq_true rfl) (Nat.le_of_ble_eq_true rfl)) rfl rfl (Nat.le_of_ble_eq_true rfl) 3 rfl h.le.2.2 h.br rfl dL_law_2641 ?_ (fun E q S hT => rc_out hC hH.2.2.2.2 hT)
  intro x2 S h
  show rc_Z Y S 2644 [some (rc_q v0), some (rc_q v1), some (rc_q v2), some (rc_q v3), some (rc_i v4), none, none, none, none] [rc_i x2]
  refine rc_istore (pc := 2644) hC (L' := [some (rc_q v0), some (rc_q v1), some (rc_q v2), some (rc_q v3), some (rc_i v4), some (rc_i x2), none, none, none]) dL_law_2644 (Nat.le_of_ble_eq_true rfl) rfl rfl ?_
  refine rc_aload_n (pc := 2646) hC dL_law_2646 rfl rfl ?_
  refine rc_aload_n (pc := 2647) hC dL_law_2647 rfl rfl ?_
  refine rc_iload (pc := 2648) hC dL_law_2648 rfl ?_
  refine rc_iconst (pc := 2650) hC (v := (1 : Int32)) dL_law_2650 rfl ?_
  refine rc_iadd (pc := 2651) hC dL_law_2651 ?_
  refine rc_r_iald (pc := 2652) hC dL_law_2652 h ?_
  intro x3 h
  obtain ⟨⟨he, hf⟩, h⟩ := h.isM
  refine rc_callM (pc := 2653) hC (As := [rc_i x3]) (st := []) (rw_X9_choirOf hH.1 x3) q2639 q2640 q2641 q149 q2642 rfl rd_X9_choirOf (hH.room (Nat.le_of_ble_eq_true rfl) (Nat.le_of_ble_eq_true rfl)) rfl rfl (Nat.le_of_ble_eq_true rfl) 1 rfl h.le.2.2 (Or.inr hf) h.br (by rw [he]; first | done | rfl) dL_law_2653 ?_ (fun E q S hT => rc_out hC hH.2.2.2.2 hT)
  intro x4 S h
  show rc_Z Y S 2656 [some (rc_q v0), some (rc_q v1), some (rc_q v2), some (rc_q v3), some (rc_i v4), some (rc_i x2), none, none, none] [rc_i x4]
  refine rc_istore (pc := 2656) hC (L' := [some (rc_q v0), some (rc_q v1), some (rc_q v2), some (rc_q v3), some (rc_i v4), some (rc_i x2), some (rc_i x4), none, none]) dL_law_2656 (Nat.le_of_ble_eq_true rfl) rfl rfl ?_
  refine rc_aload_n (pc := 2658) hC dL_law_2658 rfl rfl ?_
  obtain ⟨⟨he, hf⟩, h⟩ := h.isM
  refine rc_callM (pc := 2659) hC (As := []) (st := []) (rw_X9_thrown hH.1) q2376 q2377 q2378 q149 q2379 rfl rd_X9_thrown (hH.room (Nat.le_of_ble_eq_true rfl) (Nat.le_of_ble_eq_true rfl)) rfl rfl (Nat.le_of_ble_eq_true rfl) 0 rfl h.le.2.2 (Or.inr hf) h.br (by rw [he]; first | done | rfl) dL_law_2659 ?_ (fun E q S hT => rc_out hC hH.2.2.2.2 hT)
  intro x5 S h
  show rc_Z Y S 2662 [some (rc_q v0), some (rc_q v1), some (rc_q v2), some (rc_q v3), some (rc_i v4), some (rc_i x2), some (rc_i x4), none, none] [rc_i x5]
  refine rc_iload (pc := 2662) hC dL_law_2662 rfl ?_
  refine rc_icmp_eq (pc := 2664) (tgt := 2669) hC dL_law_2664 rfl h ?_ ?_
  · intro _ h
    refine rc_iload (pc := 2669) hC dL_law_2669 rfl ?_
    refine rc_if_ne (pc := 2671) (tgt := 2686) hC dL_law_2671 rfl h ?_ ?_
    · intro _ h
      refine rc_drop [true, true, true, true, true, false, false, false, false] (L' := [some (rc_q v0), some (rc_q v1), some (rc_q v2), some (rc_q v3), some (rc_i v4), none, none, none, none]) rfl ?_
      exact rw_L_law_L2686 hC hH hk23 v0 v1 v2 v3 v4 S h
    intro _ h
    refine rc_aload_n (pc := 2674) hC dL_law_2674 rfl rfl ?_
    refine rc_iconst (pc := 2675) hC (v := (0 : Int32)) dL_law_2675 rfl ?_
    refine rc_r_lald (pc := 2676) hC dL_law_2676 h ?_
    intro x6 h
    refine rc_iload (pc := 2677) hC dL_law_2677 rfl ?_
    refine rc_i2l (pc := 2679) hC dL_law_2679 ?_
    refine rc_lcmp (pc := 2680) hC dL_law_2680 ?_
    refine rc_if_eq (pc := 2681) (tgt := 2686) hC dL_law_2681 rfl h ?_ ?_
    · intro _ h
      refine rc_drop [true, true, true, true, true, false, false, false, false] (L' := [some (rc_q v0), some (rc_q v1), some (rc_q v2), some (rc_q v3), some (rc_i v4), none, none, none, none]) rfl ?_
      exact rw_L_law_L2686 hC hH hk23 v0 v1 v2 v3 v4 S h
    intro _ h
    refine rc_iconst (pc := 2684) hC (v := (0 : Int32)) dL_law_2684 rfl ?_
    exact rc_iret hC rfl rfl dL_law_2685 h rfl
  intro _ h
  refine rc_iconst (pc := 2667) hC (v := (0 : Int32)) dL_law_2667 rfl ?_
  exact rc_iret hC rfl rfl dL_law_2668 h rfl
theorem rw_L_law_L2689 {Y : rc_Y} (hC : rc_C Y cL_law RX0 ret 9) (hH : rc_H Y 20 419 "law") {k23 : Option Nat → Option Nat → Option Nat → Option Nat → Int32 → rc_M Int32} (hk23 : ∀ (v0 : Option Nat) (v1 : Option Nat) (v2 : Option Nat) (v3 : Option Nat) (v4 : Int32) (S : rc_S), rc_Go Y rc_tI (k23 v0 v1 v2 v3 v4) S → rc_Z Y S 23 [some (rc_q v0), some (rc_q v1), some (rc_q v2), some (rc_q v3), some (rc_i v4), none, none, none, none] []) (v0 : Option Nat) (v1 : Option Nat) (v2 : Option Nat) (v3 : Option Nat) (v4 : Int32) (S : rc_S) (h : rc_Go Y rc_tI (rp_L_law_L2689 k23 v0 v1 v2 v3 v4) S) : rc_Z Y S 2689 [some (rc_q v0), some (rc_q v1), some (rc_q v2), some (rc_q v3), some (rc_i v4), none, none, none, none] [] := by
  unfold rp_L_law_L2689 at h
  refine rc_aload_n (pc := 2689) hC dL_law_2689 rfl rfl ?_
  obtain ⟨⟨fs, ho⟩, h⟩ := h.is
  refine rc_callV (pc := 2690) hC rfl ho (rw_X1_choirCount hH.1 v1) q1548 q1549 q1550 q116 q1551 rfl rd_X1_choirCount (hH.room (Nat.le_of_ble_eq_true rfl) (Nat.le_of_ble_eq_true rfl)) rfl rfl (Nat.le_of_ble_eq_true rfl) 0 rfl h.le.2.2 h.br rfl dL_law_2690 ?_ (fun E q S hT => rc_out hC hH.2.2.2.2 hT)
  intro x1 S h
  show rc_Z Y S 2693 [some (rc_q v0), some (rc_q v1), some (rc_q v2), some (rc_q v3), some (rc_i v4), none, none, none, none] [rc_i x1]
  refine rc_aload_n (pc := 2693) hC dL_law_2693 rfl rfl ?_
  obtain ⟨⟨he, hf⟩, h⟩ := h.isM
  refine rc_callM (pc := 2694) hC (As := []) (st := [rc_i x1]) (rw_X9_choirCount hH.1) q2643 q2644 q2645 q149 q2646 rfl rd_X9_choirCount (hH.room (Nat.le_of_ble_eq_true rfl) (Nat.le_of_ble_eq_true rfl)) rfl rfl (Nat.le_of_ble_eq_true rfl) 0 rfl h.le.2.2 (Or.inr hf) h.br (by rw [he]; first | done | rfl) dL_law_2694 ?_ (fun E q S hT => rc_out hC hH.2.2.2.2 hT)
  intro x2 S h
  show rc_Z Y S 2697 [some (rc_q v0), some (rc_q v1), some (rc_q v2), some (rc_q v3), some (rc_i v4), none, none, none, none] [rc_i x2, rc_i x1]
  refine rc_icmp_eq (pc := 2697) (tgt := 2957) hC dL_law_2697 rfl h ?_ ?_
  · intro _ h
    exact rw_L_law_L2957 hC hH hk23 v0 v1 v2 v3 v4 S h
  intro _ h
  refine rc_iconst (pc := 2700) hC (v := (0 : Int32)) dL_law_2700 rfl ?_
  exact rc_iret hC rfl rfl dL_law_2701 h rfl
theorem rw_L_law_L2702 {Y : rc_Y} (hC : rc_C Y cL_law RX0 ret 9) (hH : rc_H Y 20 419 "law") {k23 : Option Nat → Option Nat → Option Nat → Option Nat → Int32 → rc_M Int32} (hk23 : ∀ (v0 : Option Nat) (v1 : Option Nat) (v2 : Option Nat) (v3 : Option Nat) (v4 : Int32) (S : rc_S), rc_Go Y rc_tI (k23 v0 v1 v2 v3 v4) S → rc_Z Y S 23 [some (rc_q v0), some (rc_q v1), some (rc_q v2), some (rc_q v3), some (rc_i v4), none, none, none, none] []) (v0 : Option Nat) (v1 : Option Nat) (v2 : Option Nat) (v3 : Option Nat) (v4 : Int32) (S : rc_S) (h : rc_Go Y rc_tI (rp_L_law_L2702 k23 v0 v1 v2 v3 v4) S) : rc_Z Y S 2702 [some (rc_q v0), some (rc_q v1), some (rc_q v2), some (rc_q v3), some (rc_i v4), none, none, none, none] [] := by
  unfold rp_L_law_L2702 at h
  refine rc_aload_n (pc := 2702) hC dL_law_2702 rfl rfl ?_
  obtain ⟨⟨fs, ho⟩, h⟩ := h.is
  refine rc_callV (pc := 2703) hC rfl ho (rw_X1_largestChoir hH.1 v1) q1560 q1561 q1562 q116 q1563 rfl rd_X1_largestChoir (hH.room (Nat.le_of_ble_eq_true rfl) (Nat.le_of_ble_eq_true rfl)) rfl rfl (Nat.le_of_ble_eq_true rfl) 0 rfl h.le.2.2 h.br rfl dL_law_2703 ?_ (fun E q S hT => rc_out hC hH.2.2.2.2 hT)
  intro x1 S h
  show rc_Z Y S 2706 [some (rc_q v0), some (rc_q v1), some (rc_q v2), some (rc_q v3), some (rc_i v4), none, none, none, none] [rc_i x1]
  refine rc_aload_n (pc := 2706) hC dL_law_2706 rfl rfl ?_
  obtain ⟨⟨he, hf⟩, h⟩ := h.isM
  refine rc_callM (pc := 2707) hC (As := []) (st := [rc_i x1]) (rw_X9_largestChoir hH.1) q2647 q2648 q2649 q149 q2650 rfl rd_X9_largestChoir (hH.room (Nat.le_of_ble_eq_true rfl) (Nat.le_of_ble_eq_true rfl)) rfl rfl (Nat.le_of_ble_eq_true rfl) 0 rfl h.le.2.2 (Or.inr hf) h.br (by rw [he]; first | done | rfl) dL_law_2707 ?_ (fun E q S hT => rc_out hC hH.2.2.2.2 hT)
  intro x2 S h
  show rc_Z Y S 2710 [some (rc_q v0), some (rc_q v1), some (rc_q v2), some (rc_q v3), some (rc_i v4), none, none, none, none] [rc_i x2, rc_i x1]
  refine rc_icmp_eq (pc := 2710) (tgt := 2957) hC dL_law_2710 rfl h ?_ ?_
  · intro _ h
    exact rw_L_law_L2957 hC hH hk23 v0 v1 v2 v3 v4 S h
  intro _ h
  refine rc_iconst (pc := 2713) hC (v := (0 : Int32)) dL_law_2713 rfl ?_
  exact rc_iret hC rfl rfl dL_law_2714 h rfl
theorem rw_L_law_L2715 {Y : rc_Y} (hC : rc_C Y cL_law RX0 ret 9) (hH : rc_H Y 20 419 "law") {k23 : Option Nat → Option Nat → Option Nat → Option Nat → Int32 → rc_M Int32} (hk23 : ∀ (v0 : Option Nat) (v1 : Option Nat) (v2 : Option Nat) (v3 : Option Nat) (v4 : Int32) (S : rc_S), rc_Go Y rc_tI (k23 v0 v1 v2 v3 v4) S → rc_Z Y S 23 [some (rc_q v0), some (rc_q v1), some (rc_q v2), some (rc_q v3), some (rc_i v4), none, none, none, none] []) (v0 : Option Nat) (v1 : Option Nat) (v2 : Option Nat) (v3 : Option Nat) (v4 : Int32) (S : rc_S) (h : rc_Go Y rc_tI (rp_L_law_L2715 k23 v0 v1 v2 v3 v4) S) : rc_Z Y S 2715 [some (rc_q v0), some (rc_q v1), some (rc_q v2), some (rc_q v3), some (rc_i v4), none, none, none, none] [] := by
  unfold rp_L_law_L2715 at h
  refine rc_aload_n (pc := 2715) hC dL_law_2715 rfl rfl ?_
  obtain ⟨⟨fs, ho⟩, h⟩ := h.is
  refine rc_callV (pc := 2716) hC rfl ho (rw_X1_nightsToFullMoon hH.1 v1) q1565 q1566 q1567 q116 q1568 rfl rd_X1_nightsToFullMoon (hH.room (Nat.le_of_ble_eq_true rfl) (Nat.le_of_ble_eq_true rfl)) rfl rfl (Nat.le_of_ble_eq_true rfl) 0 rfl h.le.2.2 h.br rfl dL_law_2716 ?_ (fun E q S hT => rc_out hC hH.2.2.2.2 hT)
  intro x1 S h
  show rc_Z Y S 2719 [some (rc_q v0), some (rc_q v1), some (rc_q v2), some (rc_q v3), some (rc_i v4), none, none, none, none] [rc_i x1]
  refine rc_aload_n (pc := 2719) hC dL_law_2719 rfl rfl ?_
  obtain ⟨⟨he, hf⟩, h⟩ := h.isM
  refine rc_callM (pc := 2720) hC (As := []) (st := [rc_i x1]) (rw_X9_nightsToFullMoon hH.1) q2651 q2652 q2653 q149 q2654 rfl rd_X9_nightsToFullMoon (hH.room (Nat.le_of_ble_eq_true rfl) (Nat.le_of_ble_eq_true rfl)) rfl rfl (Nat.le_of_ble_eq_true rfl) 0 rfl h.le.2.2 (Or.inr hf) h.br (by rw [he]; first | done | rfl) dL_law_2720 ?_ (fun E q S hT => rc_out hC hH.2.2.2.2 hT)
  intro x2 S h
  show rc_Z Y S 2723 [some (rc_q v0), some (rc_q v1), some (rc_q v2), some (rc_q v3), some (rc_i v4), none, none, none, none] [rc_i x2, rc_i x1]
  refine rc_icmp_eq (pc := 2723) (tgt := 2957) hC dL_law_2723 rfl h ?_ ?_
  · intro _ h
    exact rw_L_law_L2957 hC hH hk23 v0 v1 v2 v3 v4 S h
  intro _ h
  refine rc_iconst (pc := 2726) hC (v := (0 : Int32)) dL_law_2726 rfl ?_
  exact rc_iret hC rfl rfl dL_law_2727 h rfl
theorem rw_L_law_L2793 {Y : rc_Y} (hC : rc_C Y cL_law RX0 ret 9) (hH : rc_H Y 20 419 "law") {k23 : Option Nat → Option Nat → Option Nat → Option Nat → Int32 → rc_M Int32} (hk23 : ∀ (v0 : Option Nat) (v1 : Option Nat) (v2 : Option Nat) (v3 : Option Nat) (v4 : Int32) (S : rc_S), rc_Go Y rc_tI (k23 v0 v1 v2 v3 v4) S → rc_Z Y S 23 [some (rc_q v0), some (rc_q v1), some (rc_q v2), some (rc_q v3), some (rc_i v4), none, none, none, none] []) (v0 : Option Nat) (v1 : Option Nat) (v2 : Option Nat) (v3 : Option Nat) (v4 : Int32) (S : rc_S) (h : rc_Go Y rc_tI (rp_L_law_L2793 k23 v0 v1 v2 v3 v4) S) : rc_Z Y S 2793 [some (rc_q v0), some (rc_q v1), some (rc_q v2), some (rc_q v3), some (rc_i v4), none, none, none, none] [] := by
  unfold rp_L_law_L2793 at h
  refine rc_goto (pc := 2793) (tgt := 2957) hC dL_law_2793 rfl ?_
  exact rw_L_law_L2957 hC hH hk23 v0 v1 v2 v3 v4 S h
theorem rw_L_law_L2728 {Y : rc_Y} (hC : rc_C Y cL_law RX0 ret 9) (hH : rc_H Y 20 419 "law") {k23 : Option Nat → Option Nat → Option Nat → Option Nat → Int32 → rc_M Int32} (hk23 : ∀ (v0 : Option Nat) (v1 : Option Nat) (v2 : Option Nat) (v3 : Option Nat) (v4 : Int32) (S : rc_S), rc_Go Y rc_tI (k23 v0 v1 v2 v3 v4) S → rc_Z Y S 23 [some (rc_q v0), some (rc_q v1), some (rc_q v2), some (rc_q v3), some (rc_i v4), none, none, none, none] []) (v0 : Option Nat) (v1 : Option Nat) (v2 : Option Nat) (v3 : Option Nat) (v4 : Int32) (S : rc_S) (h : rc_Go Y rc_tI (rp_L_law_L2728 k23 v0 v1 v2 v3 v4) S) : rc_Z Y S 2728 [some (rc_q v0), some (rc_q v1), some (rc_q v2), some (rc_q v3), some (rc_i v4), none, none, none, none] [] := by
  unfold rp_L_law_L2728 at h
  refine rc_aload_n (pc := 2728) hC dL_law_2728 rfl rfl ?_
  refine rc_aload_n (pc := 2729) hC dL_law_2729 rfl rfl ?_
  refine rc_iload (pc := 2730) hC dL_law_2730 rfl ?_
  refine rc_iconst (pc := 2732) hC (v := (1 : Int32)) dL_law_2732 rfl ?_
  refine rc_iadd (pc := 2733) hC dL_law_2733 ?_
  refine rc_r_iald (pc := 2734) hC dL_law_2734 h ?_
  intro x1 h
  refine rc_aload_n (pc := 2735) hC dL_law_2735 rfl rfl ?_
  refine rc_iload (pc := 2736) hC dL_law_2736 rfl ?_
  refine rc_iconst (pc := 2738) hC (v := (2 : Int32)) dL_law_2738 rfl ?_
  refine rc_iadd (pc := 2739) hC dL_law_2739 ?_
  refine rc_r_iald (pc := 2740) hC dL_law_2740 h ?_
  intro x2 h
  refine rc_aload_n (pc := 2741) hC dL_law_2741 rfl rfl ?_
  refine rc_callSW (pc := 2742) hC (rw_X0_fishAfter hH.1 v1 x1 x2 v3) q1990 q1991 q115 q1992 rd_X0_fishAfter (hH.room (Nat.le_of_ble_eq_true rfl) (Nat.le_of_ble_eq_true rfl)) rfl rfl (Nat.le_of_ble_eq_true rfl) 4 rfl h.le.2.2 h.br rfl dL_law_2742 ?_ (fun E q S hT => rc_out hC hH.2.2.2.2 hT)
  intro x3 S h
  show rc_Z Y S 2745 [some (rc_q v0), some (rc_q v1), some (rc_q v2), some (rc_q v3), some (rc_i v4), none, none, none, none] [rc_i x3]
  refine rc_istore (pc := 2745) hC (L' := [some (rc_q v0), some (rc_q v1), some (rc_q v2), some (rc_q v3), some (rc_i v4), some (rc_i x3), none, none, none]) dL_law_2745 (Nat.le_of_ble_eq_true rfl) rfl rfl ?_
  refine rc_aload_n (pc := 2747) hC dL_law_2747 rfl rfl ?_
  refine rc_aload_n (pc := 2748) hC dL_law_2748 rfl rfl ?_
  refine rc_iload (pc := 2749) hC dL_law_2749 rfl ?_
  refine rc_iconst (pc := 2751) hC (v := (1 : Int32)) dL_law_2751 rfl ?_
  refine rc_iadd (pc := 2752) hC dL_law_2752 ?_
  refine rc_r_iald (pc := 2753) hC dL_law_2753 h ?_
  intro x4 h
  refine rc_aload_n (pc := 2754) hC dL_law_2754 rfl rfl ?_
  refine rc_iload (pc := 2755) hC dL_law_2755 rfl ?_
  refine rc_iconst (pc := 2757) hC (v := (2 : Int32)) dL_law_2757 rfl ?_
  refine rc_iadd (pc := 2758) hC dL_law_2758 ?_
  refine rc_r_iald (pc := 2759) hC dL_law_2759 h ?_
  intro x5 h
  obtain ⟨⟨he, hf⟩, h⟩ := h.isM
  refine rc_callM (pc := 2760) hC (As := [rc_i x4, rc_i x5]) (st := []) (rw_X9_fishAfter hH.1 x4 x5) q2655 q2656 q2657 q149 q2658 rfl rd_X9_fishAfter (hH.room (Nat.le_of_ble_eq_true rfl) (Nat.le_of_ble_eq_true rfl)) rfl rfl (Nat.le_of_ble_eq_true rfl) 2 rfl h.le.2.2 (Or.inr hf) h.br (by rw [he]; first | done | rfl) dL_law_2760 ?_ (fun E q S hT => rc_out hC hH.2.2.2.2 hT)
  intro x6 S h
  show rc_Z Y S 2763 [some (rc_q v0), some (rc_q v1), some (rc_q v2), some (rc_q v3), some (rc_i v4), some (rc_i x3), none, none, none] [rc_i x6]
  refine rc_istore (pc := 2763) hC (L' := [some (rc_q v0), some (rc_q v1), some (rc_q v2), some (rc_q v3), some (rc_i v4), some (rc_i x3), some (rc_i x6), none, none]) dL_law_2763 (Nat.le_of_ble_eq_true rfl) rfl rfl ?_
  refine rc_aload_n (pc := 2765) hC dL_law_2765 rfl rfl ?_
  obtain ⟨⟨he, hf⟩, h⟩ := h.isM
  refine rc_callM (pc := 2766) hC (As := []) (st := []) (rw_X9_thrown hH.1) q2376 q2377 q2378 q149 q2379 rfl rd_X9_thrown (hH.room (Nat.le_of_ble_eq_true rfl) (Nat.le_of_ble_eq_true rfl)) rfl rfl (Nat.le_of_ble_eq_true rfl) 0 rfl h.le.2.2 (Or.inr hf) h.br (by rw [he]; first | done | rfl) dL_law_2766 ?_ (fun E q S hT => rc_out hC hH.2.2.2.2 hT)
  intro x7 S h
  show rc_Z Y S 2769 [some (rc_q v0), some (rc_q v1), some (rc_q v2), some (rc_q v3), some (rc_i v4), some (rc_i x3), some (rc_i x6), none, none] [rc_i x7]
  refine rc_iload (pc := 2769) hC dL_law_2769 rfl ?_
  refine rc_icmp_eq (pc := 2771) (tgt := 2776) hC dL_law_2771 rfl h ?_ ?_
  · intro _ h
    refine rc_iload (pc := 2776) hC dL_law_2776 rfl ?_
    refine rc_if_ne (pc := 2778) (tgt := 2793) hC dL_law_2778 rfl h ?_ ?_
    · intro _ h
      refine rc_drop [true, true, true, true, true, false, false, false, false] (L' := [some (rc_q v0), some (rc_q v1), some (rc_q v2), some (rc_q v3), some (rc_i v4), none, none, none, none]) rfl ?_
      exact rw_L_law_L2793 hC hH hk23 v0 v1 v2 v3 v4 S h
    intro _ h
    refine rc_aload_n (pc := 2781) hC dL_law_2781 rfl rfl ?_
    refine rc_iconst (pc := 2782) hC (v := (0 : Int32)) dL_law_2782 rfl ?_
    refine rc_r_lald (pc := 2783) hC dL_law_2783 h ?_
    intro x8 h
    refine rc_iload (pc := 2784) hC dL_law_2784 rfl ?_
    refine rc_i2l (pc := 2786) hC dL_law_2786 ?_
    refine rc_lcmp (pc := 2787) hC dL_law_2787 ?_
    refine rc_if_eq (pc := 2788) (tgt := 2793) hC dL_law_2788 rfl h ?_ ?_
    · intro _ h
      refine rc_drop [true, true, true, true, true, false, false, false, false] (L' := [some (rc_q v0), some (rc_q v1), some (rc_q v2), some (rc_q v3), some (rc_i v4), none, none, none, none]) rfl ?_
      exact rw_L_law_L2793 hC hH hk23 v0 v1 v2 v3 v4 S h
    intro _ h
    refine rc_iconst (pc := 2791) hC (v := (0 : Int32)) dL_law_2791 rfl ?_
    exact rc_iret hC rfl rfl dL_law_2792 h rfl
  intro _ h
  refine rc_iconst (pc := 2774) hC (v := (0 : Int32)) dL_law_2774 rfl ?_
  exact rc_iret hC rfl rfl dL_law_2775 h rfl
theorem rw_L_law_L2796 {Y : rc_Y} (hC : rc_C Y cL_law RX0 ret 9) (hH : rc_H Y 20 419 "law") {k23 : Option Nat → Option Nat → Option Nat → Option Nat → Int32 → rc_M Int32} (hk23 : ∀ (v0 : Option Nat) (v1 : Option Nat) (v2 : Option Nat) (v3 : Option Nat) (v4 : Int32) (S : rc_S), rc_Go Y rc_tI (k23 v0 v1 v2 v3 v4) S → rc_Z Y S 23 [some (rc_q v0), some (rc_q v1), some (rc_q v2), some (rc_q v3), some (rc_i v4), none, none, none, none] []) (v0 : Option Nat) (v1 : Option Nat) (v2 : Option Nat) (v3 : Option Nat) (v4 : Int32) (S : rc_S) (h : rc_Go Y rc_tI (rp_L_law_L2796 k23 v0 v1 v2 v3 v4) S) : rc_Z Y S 2796 [some (rc_q v0), some (rc_q v1), some (rc_q v2), some (rc_q v3), some (rc_i v4), none, none, none, none] [] := by
  unfold rp_L_law_L2796 at h
  refine rc_aload_n (pc := 2796) hC dL_law_2796 rfl rfl ?_
  obtain ⟨⟨fs, ho⟩, h⟩ := h.is
  refine rc_callV (pc := 2797) hC rfl ho (rw_X1_richestCat hH.1 v1) q1569 q1570 q1571 q116 q1572 rfl rd_X1_richestCat (hH.room (Nat.le_of_ble_eq_true rfl) (Nat.le_of_ble_eq_true rfl)) rfl rfl (Nat.le_of_ble_eq_true rfl) 0 rfl h.le.2.2 h.br rfl dL_law_2797 ?_ (fun E q S hT => rc_out hC hH.2.2.2.2 hT)
  intro x1 S h
  show rc_Z Y S 2800 [some (rc_q v0), some (rc_q v1), some (rc_q v2), some (rc_q v3), some (rc_i v4), none, none, none, none] [rc_i x1]
  refine rc_aload_n (pc := 2800) hC dL_law_2800 rfl rfl ?_
  obtain ⟨⟨he, hf⟩, h⟩ := h.isM
  refine rc_callM (pc := 2801) hC (As := []) (st := [rc_i x1]) (rw_X9_richestCat hH.1) q2659 q2660 q2661 q149 q2662 rfl rd_X9_richestCat (hH.room (Nat.le_of_ble_eq_true rfl) (Nat.le_of_ble_eq_true rfl)) rfl rfl (Nat.le_of_ble_eq_true rfl) 0 rfl h.le.2.2 (Or.inr hf) h.br (by rw [he]; first | done | rfl) dL_law_2801 ?_ (fun E q S hT => rc_out hC hH.2.2.2.2 hT)
  intro x2 S h
  show rc_Z Y S 2804 [some (rc_q v0), some (rc_q v1), some (rc_q v2), some (rc_q v3), some (rc_i v4), none, none, none, none] [rc_i x2, rc_i x1]
  refine rc_icmp_eq (pc := 2804) (tgt := 2957) hC dL_law_2804 rfl h ?_ ?_
  · intro _ h
    exact rw_L_law_L2957 hC hH hk23 v0 v1 v2 v3 v4 S h
  intro _ h
  refine rc_iconst (pc := 2807) hC (v := (0 : Int32)) dL_law_2807 rfl ?_
  exact rc_iret hC rfl rfl dL_law_2808 h rfl
theorem rw_L_law_L2809 {Y : rc_Y} (hC : rc_C Y cL_law RX0 ret 9) (hH : rc_H Y 20 419 "law") {k23 : Option Nat → Option Nat → Option Nat → Option Nat → Int32 → rc_M Int32} (hk23 : ∀ (v0 : Option Nat) (v1 : Option Nat) (v2 : Option Nat) (v3 : Option Nat) (v4 : Int32) (S : rc_S), rc_Go Y rc_tI (k23 v0 v1 v2 v3 v4) S → rc_Z Y S 23 [some (rc_q v0), some (rc_q v1), some (rc_q v2), some (rc_q v3), some (rc_i v4), none, none, none, none] []) (v0 : Option Nat) (v1 : Option Nat) (v2 : Option Nat) (v3 : Option Nat) (v4 : Int32) (S : rc_S) (h : rc_Go Y rc_tI (rp_L_law_L2809 k23 v0 v1 v2 v3 v4) S) : rc_Z Y S 2809 [some (rc_q v0), some (rc_q v1), some (rc_q v2), some (rc_q v3), some (rc_i v4), none, none, none, none] [] := by
  unfold rp_L_law_L2809 at h
  refine rc_aload_n (pc := 2809) hC dL_law_2809 rfl rfl ?_
  obtain ⟨⟨fs, ho⟩, h⟩ := h.is
  refine rc_callV (pc := 2810) hC rfl ho (rw_X1_totalFish hH.1 v1) q1576 q1577 q1578 q116 q1579 rfl rd_X1_totalFish (hH.room (Nat.le_of_ble_eq_true rfl) (Nat.le_of_ble_eq_true rfl)) rfl rfl (Nat.le_of_ble_eq_true rfl) 0 rfl h.le.2.2 h.br rfl dL_law_2810 ?_ (fun E q S hT => rc_out hC hH.2.2.2.2 hT)
  intro x1 S h
  show rc_Z Y S 2813 [some (rc_q v0), some (rc_q v1), some (rc_q v2), some (rc_q v3), some (rc_i v4), none, none, none, none] [rc_i x1]
  refine rc_aload_n (pc := 2813) hC dL_law_2813 rfl rfl ?_
  obtain ⟨⟨he, hf⟩, h⟩ := h.isM
  refine rc_callM (pc := 2814) hC (As := []) (st := [rc_i x1]) (rw_X9_totalFish hH.1) q2663 q2664 q2665 q149 q2666 rfl rd_X9_totalFish (hH.room (Nat.le_of_ble_eq_true rfl) (Nat.le_of_ble_eq_true rfl)) rfl rfl (Nat.le_of_ble_eq_true rfl) 0 rfl h.le.2.2 (Or.inr hf) h.br (by rw [he]; first | done | rfl) dL_law_2814 ?_ (fun E q S hT => rc_out hC hH.2.2.2.2 hT)
  intro x2 S h
  show rc_Z Y S 2817 [some (rc_q v0), some (rc_q v1), some (rc_q v2), some (rc_q v3), some (rc_i v4), none, none, none, none] [rc_i x2, rc_i x1]
  refine rc_icmp_eq (pc := 2817) (tgt := 2957) hC dL_law_2817 rfl h ?_ ?_
  · intro _ h
    exact rw_L_law_L2957 hC hH hk23 v0 v1 v2 v3 v4 S h
  intro _ h
  refine rc_iconst (pc := 2820) hC (v := (0 : Int32)) dL_law_2820 rfl ?_
  exact rc_iret hC rfl rfl dL_law_2821 h rfl
theorem rw_L_law_L2860 {Y : rc_Y} (hC : rc_C Y cL_law RX0 ret 9) (hH : rc_H Y 20 419 "law") {k23 : Option Nat → Option Nat → Option Nat → Option Nat → Int32 → rc_M Int32} (hk23 : ∀ (v0 : Option Nat) (v1 : Option Nat) (v2 : Option Nat) (v3 : Option Nat) (v4 : Int32) (S : rc_S), rc_Go Y rc_tI (k23 v0 v1 v2 v3 v4) S → rc_Z Y S 23 [some (rc_q v0), some (rc_q v1), some (rc_q v2), some (rc_q v3), some (rc_i v4), none, none, none, none] []) (v0 : Option Nat) (v1 : Option Nat) (v2 : Option Nat) (v3 : Option Nat) (v4 : Int32) (S : rc_S) (h : rc_Go Y rc_tI (rp_L_law_L2860 k23 v0 v1 v2 v3 v4) S) : rc_Z Y S 2860 [some (rc_q v0), some (rc_q v1), some (rc_q v2), some (rc_q v3), some (rc_i v4), none, none, none, none] [] := by
  unfold rp_L_law_L2860 at h
  refine rc_goto (pc := 2860) (tgt := 2957) hC dL_law_2860 rfl ?_
  exact rw_L_law_L2957 hC hH hk23 v0 v1 v2 v3 v4 S h
theorem rw_L_law_L2822 {Y : rc_Y} (hC : rc_C Y cL_law RX0 ret 9) (hH : rc_H Y 20 419 "law") {k23 : Option Nat → Option Nat → Option Nat → Option Nat → Int32 → rc_M Int32} (hk23 : ∀ (v0 : Option Nat) (v1 : Option Nat) (v2 : Option Nat) (v3 : Option Nat) (v4 : Int32) (S : rc_S), rc_Go Y rc_tI (k23 v0 v1 v2 v3 v4) S → rc_Z Y S 23 [some (rc_q v0), some (rc_q v1), some (rc_q v2), some (rc_q v3), some (rc_i v4), none, none, none, none] []) (v0 : Option Nat) (v1 : Option Nat) (v2 : Option Nat) (v3 : Option Nat) (v4 : Int32) (S : rc_S) (h : rc_Go Y rc_tI (rp_L_law_L2822 k23 v0 v1 v2 v3 v4) S) : rc_Z Y S 2822 [some (rc_q v0), some (rc_q v1), some (rc_q v2), some (rc_q v3), some (rc_i v4), none, none, none, none] [] := by
  unfold rp_L_law_L2822 at h
  refine rc_aload_n (pc := 2822) hC dL_law_2822 rfl rfl ?_
  obtain ⟨⟨fs, ho⟩, h⟩ := h.is
  refine rc_callV (pc := 2823) hC rfl ho (rw_X1_meanFish hH.1 v1) q1584 q1585 q1586 q116 q1587 rfl rd_X1_meanFish (hH.room (Nat.le_of_ble_eq_true rfl) (Nat.le_of_ble_eq_true rfl)) rfl rfl (Nat.le_of_ble_eq_true rfl) 0 rfl h.le.2.2 h.br rfl dL_law_2823 ?_ (fun E q S hT => rc_out hC hH.2.2.2.2 hT)
  intro x1 S h
  show rc_Z Y S 2826 [some (rc_q v0), some (rc_q v1), some (rc_q v2), some (rc_q v3), some (rc_i v4), none, none, none, none] [rc_d x1]
  refine rc_dstore (pc := 2826) hC (L' := [some (rc_q v0), some (rc_q v1), some (rc_q v2), some (rc_q v3), some (rc_i v4), some (rc_d x1), none, none, none]) dL_law_2826 (Nat.le_of_ble_eq_true rfl) rfl rfl ?_
  refine rc_aload_n (pc := 2828) hC dL_law_2828 rfl rfl ?_
  obtain ⟨⟨he, hf⟩, h⟩ := h.isM
  refine rc_callM (pc := 2829) hC (As := []) (st := []) (rw_X9_meanFish hH.1) q2671 q2672 q2673 q149 q2674 rfl rd_X9_meanFish (hH.room (Nat.le_of_ble_eq_true rfl) (Nat.le_of_ble_eq_true rfl)) rfl rfl (Nat.le_of_ble_eq_true rfl) 0 rfl h.le.2.2 (Or.inr hf) h.br (by rw [he]; first | done | rfl) dL_law_2829 ?_ (fun E q S hT => rc_out hC hH.2.2.2.2 hT)
  intro x2 S h
  show rc_Z Y S 2832 [some (rc_q v0), some (rc_q v1), some (rc_q v2), some (rc_q v3), some (rc_i v4), some (rc_d x1), none, none, none] [rc_d x2]
  refine rc_dstore (pc := 2832) hC (L' := [some (rc_q v0), some (rc_q v1), some (rc_q v2), some (rc_q v3), some (rc_i v4), some (rc_d x1), none, some (rc_d x2), none]) dL_law_2832 (Nat.le_of_ble_eq_true rfl) rfl rfl ?_
  refine rc_dload (pc := 2834) hC dL_law_2834 rfl ?_
  refine rc_dload (pc := 2836) hC dL_law_2836 rfl ?_
  refine rc_dcmp (pc := 2838) hC dL_law_2838 ?_
  refine rc_if_eq (pc := 2839) (tgt := 2860) hC dL_law_2839 rfl h ?_ ?_
  · intro _ h
    refine rc_drop [true, true, true, true, true, false, false, false, false] (L' := [some (rc_q v0), some (rc_q v1), some (rc_q v2), some (rc_q v3), some (rc_i v4), none, none, none, none]) rfl ?_
    exact rw_L_law_L2860 hC hH hk23 v0 v1 v2 v3 v4 S h
  intro _ h
  refine rc_dload (pc := 2842) hC dL_law_2842 rfl ?_
  refine rc_dload (pc := 2844) hC dL_law_2844 rfl ?_
  refine rc_dcmp (pc := 2846) hC dL_law_2846 ?_
  refine rc_if_eq (pc := 2847) (tgt := 2858) hC dL_law_2847 rfl h ?_ ?_
  · intro _ h
    refine rc_iconst (pc := 2858) hC (v := (0 : Int32)) dL_law_2858 rfl ?_
    exact rc_iret hC rfl rfl dL_law_2859 h rfl
  intro _ h
  refine rc_dload (pc := 2850) hC dL_law_2850 rfl ?_
  refine rc_dload (pc := 2852) hC dL_law_2852 rfl ?_
  refine rc_dcmp (pc := 2854) hC dL_law_2854 ?_
  refine rc_if_ne (pc := 2855) (tgt := 2860) hC dL_law_2855 rfl h ?_ ?_
  · intro _ h
    refine rc_drop [true, true, true, true, true, false, false, false, false] (L' := [some (rc_q v0), some (rc_q v1), some (rc_q v2), some (rc_q v3), some (rc_i v4), none, none, none, none]) rfl ?_
    exact rw_L_law_L2860 hC hH hk23 v0 v1 v2 v3 v4 S h
  intro _ h
  refine rc_iconst (pc := 2858) hC (v := (0 : Int32)) dL_law_2858 rfl ?_
  exact rc_iret hC rfl rfl dL_law_2859 h rfl
theorem rw_L_law_L2903 {Y : rc_Y} (hC : rc_C Y cL_law RX0 ret 9) (hH : rc_H Y 20 419 "law") {k23 : Option Nat → Option Nat → Option Nat → Option Nat → Int32 → rc_M Int32} (hk23 : ∀ (v0 : Option Nat) (v1 : Option Nat) (v2 : Option Nat) (v3 : Option Nat) (v4 : Int32) (S : rc_S), rc_Go Y rc_tI (k23 v0 v1 v2 v3 v4) S → rc_Z Y S 23 [some (rc_q v0), some (rc_q v1), some (rc_q v2), some (rc_q v3), some (rc_i v4), none, none, none, none] []) (v0 : Option Nat) (v1 : Option Nat) (v2 : Option Nat) (v3 : Option Nat) (v4 : Int32) (S : rc_S) (h : rc_Go Y rc_tI (rp_L_law_L2903 k23 v0 v1 v2 v3 v4) S) : rc_Z Y S 2903 [some (rc_q v0), some (rc_q v1), some (rc_q v2), some (rc_q v3), some (rc_i v4), none, none, none, none] [] := by
  unfold rp_L_law_L2903 at h
  refine rc_goto (pc := 2903) (tgt := 2957) hC dL_law_2903 rfl ?_
  exact rw_L_law_L2957 hC hH hk23 v0 v1 v2 v3 v4 S h
theorem rw_L_law_L2863 {Y : rc_Y} (hC : rc_C Y cL_law RX0 ret 9) (hH : rc_H Y 20 419 "law") {k23 : Option Nat → Option Nat → Option Nat → Option Nat → Int32 → rc_M Int32} (hk23 : ∀ (v0 : Option Nat) (v1 : Option Nat) (v2 : Option Nat) (v3 : Option Nat) (v4 : Int32) (S : rc_S), rc_Go Y rc_tI (k23 v0 v1 v2 v3 v4) S → rc_Z Y S 23 [some (rc_q v0), some (rc_q v1), some (rc_q v2), some (rc_q v3), some (rc_i v4), none, none, none, none] []) (v0 : Option Nat) (v1 : Option Nat) (v2 : Option Nat) (v3 : Option Nat) (v4 : Int32) (S : rc_S) (h : rc_Go Y rc_tI (rp_L_law_L2863 k23 v0 v1 v2 v3 v4) S) : rc_Z Y S 2863 [some (rc_q v0), some (rc_q v1), some (rc_q v2), some (rc_q v3), some (rc_i v4), none, none, none, none] [] := by
  unfold rp_L_law_L2863 at h
  refine rc_aload_n (pc := 2863) hC dL_law_2863 rfl rfl ?_
  obtain ⟨⟨fs, ho⟩, h⟩ := h.is
  refine rc_callV (pc := 2864) hC rfl ho (rw_X1_ownedShare hH.1 v1) q1590 q1591 q1592 q116 q1593 rfl rd_X1_ownedShare (hH.room (Nat.le_of_ble_eq_true rfl) (Nat.le_of_ble_eq_true rfl)) rfl rfl (Nat.le_of_ble_eq_true rfl) 0 rfl h.le.2.2 h.br rfl dL_law_2864 ?_ (fun E q S hT => rc_out hC hH.2.2.2.2 hT)
  intro x1 S h
  show rc_Z Y S 2867 [some (rc_q v0), some (rc_q v1), some (rc_q v2), some (rc_q v3), some (rc_i v4), none, none, none, none] [rc_f x1]
  refine rc_f2d (pc := 2867) hC dL_law_2867 h ?_
  intro x2 h
  refine rc_dstore (pc := 2868) hC (L' := [some (rc_q v0), some (rc_q v1), some (rc_q v2), some (rc_q v3), some (rc_i v4), some (rc_d x2), none, none, none]) dL_law_2868 (Nat.le_of_ble_eq_true rfl) rfl rfl ?_
  refine rc_aload_n (pc := 2870) hC dL_law_2870 rfl rfl ?_
  obtain ⟨⟨he, hf⟩, h⟩ := h.isM
  refine rc_callM (pc := 2871) hC (As := []) (st := []) (rw_X9_ownedShare hH.1) q2675 q2676 q2677 q149 q2678 rfl rd_X9_ownedShare (hH.room (Nat.le_of_ble_eq_true rfl) (Nat.le_of_ble_eq_true rfl)) rfl rfl (Nat.le_of_ble_eq_true rfl) 0 rfl h.le.2.2 (Or.inr hf) h.br (by rw [he]; first | done | rfl) dL_law_2871 ?_ (fun E q S hT => rc_out hC hH.2.2.2.2 hT)
  intro x3 S h
  show rc_Z Y S 2874 [some (rc_q v0), some (rc_q v1), some (rc_q v2), some (rc_q v3), some (rc_i v4), some (rc_d x2), none, none, none] [rc_f x3]
  refine rc_f2d (pc := 2874) hC dL_law_2874 h ?_
  intro x4 h
  refine rc_dstore (pc := 2875) hC (L' := [some (rc_q v0), some (rc_q v1), some (rc_q v2), some (rc_q v3), some (rc_i v4), some (rc_d x2), none, some (rc_d x4), none]) dL_law_2875 (Nat.le_of_ble_eq_true rfl) rfl rfl ?_
  refine rc_dload (pc := 2877) hC dL_law_2877 rfl ?_
  refine rc_dload (pc := 2879) hC dL_law_2879 rfl ?_
  refine rc_dcmp (pc := 2881) hC dL_law_2881 ?_
  refine rc_if_eq (pc := 2882) (tgt := 2903) hC dL_law_2882 rfl h ?_ ?_
  · intro _ h
    refine rc_drop [true, true, true, true, true, false, false, false, false] (L' := [some (rc_q v0), some (rc_q v1), some (rc_q v2), some (rc_q v3), some (rc_i v4), none, none, none, none]) rfl ?_
    exact rw_L_law_L2903 hC hH hk23 v0 v1 v2 v3 v4 S h
  intro _ h
  refine rc_dload (pc := 2885) hC dL_law_2885 rfl ?_
  refine rc_dload (pc := 2887) hC dL_law_2887 rfl ?_
  refine rc_dcmp (pc := 2889) hC dL_law_2889 ?_
  refine rc_if_eq (pc := 2890) (tgt := 2901) hC dL_law_2890 rfl h ?_ ?_
  · intro _ h
    refine rc_iconst (pc := 2901) hC (v := (0 : Int32)) dL_law_2901 rfl ?_
    exact rc_iret hC rfl rfl dL_law_2902 h rfl
  intro _ h
  refine rc_dload (pc := 2893) hC dL_law_2893 rfl ?_
  refine rc_dload (pc := 2895) hC dL_law_2895 rfl ?_
  refine rc_dcmp (pc := 2897) hC dL_law_2897 ?_
  refine rc_if_ne (pc := 2898) (tgt := 2903) hC dL_law_2898 rfl h ?_ ?_
  · intro _ h
    refine rc_drop [true, true, true, true, true, false, false, false, false] (L' := [some (rc_q v0), some (rc_q v1), some (rc_q v2), some (rc_q v3), some (rc_i v4), none, none, none, none]) rfl ?_
    exact rw_L_law_L2903 hC hH hk23 v0 v1 v2 v3 v4 S h
  intro _ h
  refine rc_iconst (pc := 2901) hC (v := (0 : Int32)) dL_law_2901 rfl ?_
  exact rc_iret hC rfl rfl dL_law_2902 h rfl
theorem rw_L_law_L2906 {Y : rc_Y} (hC : rc_C Y cL_law RX0 ret 9) (hH : rc_H Y 20 419 "law") {k23 : Option Nat → Option Nat → Option Nat → Option Nat → Int32 → rc_M Int32} (hk23 : ∀ (v0 : Option Nat) (v1 : Option Nat) (v2 : Option Nat) (v3 : Option Nat) (v4 : Int32) (S : rc_S), rc_Go Y rc_tI (k23 v0 v1 v2 v3 v4) S → rc_Z Y S 23 [some (rc_q v0), some (rc_q v1), some (rc_q v2), some (rc_q v3), some (rc_i v4), none, none, none, none] []) (v0 : Option Nat) (v1 : Option Nat) (v2 : Option Nat) (v3 : Option Nat) (v4 : Int32) (S : rc_S) (h : rc_Go Y rc_tI (rp_L_law_L2906 k23 v0 v1 v2 v3 v4) S) : rc_Z Y S 2906 [some (rc_q v0), some (rc_q v1), some (rc_q v2), some (rc_q v3), some (rc_i v4), none, none, none, none] [] := by
  unfold rp_L_law_L2906 at h
  refine rc_aload_n (pc := 2906) hC dL_law_2906 rfl rfl ?_
  obtain ⟨⟨fs, ho⟩, h⟩ := h.is
  refine rc_callV (pc := 2907) hC rfl ho (rw_X1_violations hH.1 v1) q1601 q1602 q1603 q116 q1604 rfl rd_X1_violations (hH.room (Nat.le_of_ble_eq_true rfl) (Nat.le_of_ble_eq_true rfl)) rfl rfl (Nat.le_of_ble_eq_true rfl) 0 rfl h.le.2.2 h.br rfl dL_law_2907 ?_ (fun E q S hT => rc_out hC hH.2.2.2.2 hT)
  intro x1 S h
  show rc_Z Y S 2910 [some (rc_q v0), some (rc_q v1), some (rc_q v2), some (rc_q v3), some (rc_i v4), none, none, none, none] [rc_i x1]
  refine rc_aload_n (pc := 2910) hC dL_law_2910 rfl rfl ?_
  obtain ⟨⟨he, hf⟩, h⟩ := h.isM
  refine rc_callM (pc := 2911) hC (As := []) (st := [rc_i x1]) (rw_X9_violations hH.1) q2679 q2680 q2681 q149 q2682 rfl rd_X9_violations (hH.room (Nat.le_of_ble_eq_true rfl) (Nat.le_of_ble_eq_true rfl)) rfl rfl (Nat.le_of_ble_eq_true rfl) 0 rfl h.le.2.2 (Or.inr hf) h.br (by rw [he]; first | done | rfl) dL_law_2911 ?_ (fun E q S hT => rc_out hC hH.2.2.2.2 hT)
  intro x2 S h
  show rc_Z Y S 2914 [some (rc_q v0), some (rc_q v1), some (rc_q v2), some (rc_q v3), some (rc_i v4), none, none, none, none] [rc_i x2, rc_i x1]
  refine rc_icmp_eq (pc := 2914) (tgt := 2957) hC dL_law_2914 rfl h ?_ ?_
  · intro _ h
    exact rw_L_law_L2957 hC hH hk23 v0 v1 v2 v3 v4 S h
  intro _ h
  refine rc_iconst (pc := 2917) hC (v := (0 : Int32)) dL_law_2917 rfl ?_
  exact rc_iret hC rfl rfl dL_law_2918 h rfl
theorem rw_L_law_L2919 {Y : rc_Y} (hC : rc_C Y cL_law RX0 ret 9) (hH : rc_H Y 20 419 "law") {k23 : Option Nat → Option Nat → Option Nat → Option Nat → Int32 → rc_M Int32} (hk23 : ∀ (v0 : Option Nat) (v1 : Option Nat) (v2 : Option Nat) (v3 : Option Nat) (v4 : Int32) (S : rc_S), rc_Go Y rc_tI (k23 v0 v1 v2 v3 v4) S → rc_Z Y S 23 [some (rc_q v0), some (rc_q v1), some (rc_q v2), some (rc_q v3), some (rc_i v4), none, none, none, none] []) (v0 : Option Nat) (v1 : Option Nat) (v2 : Option Nat) (v3 : Option Nat) (v4 : Int32) (S : rc_S) (h : rc_Go Y rc_tI (rp_L_law_L2919 k23 v0 v1 v2 v3 v4) S) : rc_Z Y S 2919 [some (rc_q v0), some (rc_q v1), some (rc_q v2), some (rc_q v3), some (rc_i v4), none, none, none, none] [] := by
  unfold rp_L_law_L2919 at h
  refine rc_aload_n (pc := 2919) hC dL_law_2919 rfl rfl ?_
  obtain ⟨⟨fs, ho⟩, h⟩ := h.is
  refine rc_callV (pc := 2920) hC rfl ho (rw_X1_writeRoof hH.1 v1) q1613 q1614 q1615 q116 q1616 rfl rd_X1_writeRoof (hH.room (Nat.le_of_ble_eq_true rfl) (Nat.le_of_ble_eq_true rfl)) rfl rfl (Nat.le_of_ble_eq_true rfl) 0 rfl h.le.2.2 h.br rfl dL_law_2920 ?_ (fun E q S hT => rc_out hC hH.2.2.2.2 hT)
  intro x1 S h
  show rc_Z Y S 2923 [some (rc_q v0), some (rc_q v1), some (rc_q v2), some (rc_q v3), some (rc_i v4), none, none, none, none] [rc_i x1]
  refine rc_aload_n (pc := 2923) hC dL_law_2923 rfl rfl ?_
  obtain ⟨⟨he, hf⟩, h⟩ := h.isM
  refine rc_callM (pc := 2924) hC (As := []) (st := [rc_i x1]) (rw_X9_writeRoof hH.1) q2687 q2688 q2689 q149 q2690 rfl rd_X9_writeRoof (hH.room (Nat.le_of_ble_eq_true rfl) (Nat.le_of_ble_eq_true rfl)) rfl rfl (Nat.le_of_ble_eq_true rfl) 0 rfl h.le.2.2 (Or.inr hf) h.br (by rw [he]; first | done | rfl) dL_law_2924 ?_ (fun E q S hT => rc_out hC hH.2.2.2.2 hT)
  intro x2 S h
  show rc_Z Y S 2927 [some (rc_q v0), some (rc_q v1), some (rc_q v2), some (rc_q v3), some (rc_i v4), none, none, none, none] [rc_i x2, rc_i x1]
  refine rc_icmp_eq (pc := 2927) (tgt := 2957) hC dL_law_2927 rfl h ?_ ?_
  · intro _ h
    exact rw_L_law_L2957 hC hH hk23 v0 v1 v2 v3 v4 S h
  intro _ h
  refine rc_iconst (pc := 2930) hC (v := (0 : Int32)) dL_law_2930 rfl ?_
  exact rc_iret hC rfl rfl dL_law_2931 h rfl
theorem rw_L_law_L2932 {Y : rc_Y} (hC : rc_C Y cL_law RX0 ret 9) (hH : rc_H Y 20 419 "law") {k23 : Option Nat → Option Nat → Option Nat → Option Nat → Int32 → rc_M Int32} (hk23 : ∀ (v0 : Option Nat) (v1 : Option Nat) (v2 : Option Nat) (v3 : Option Nat) (v4 : Int32) (S : rc_S), rc_Go Y rc_tI (k23 v0 v1 v2 v3 v4) S → rc_Z Y S 23 [some (rc_q v0), some (rc_q v1), some (rc_q v2), some (rc_q v3), some (rc_i v4), none, none, none, none] []) (v0 : Option Nat) (v1 : Option Nat) (v2 : Option Nat) (v3 : Option Nat) (v4 : Int32) (S : rc_S) (h : rc_Go Y rc_tI (rp_L_law_L2932 k23 v0 v1 v2 v3 v4) S) : rc_Z Y S 2932 [some (rc_q v0), some (rc_q v1), some (rc_q v2), some (rc_q v3), some (rc_i v4), none, none, none, none] [] := by
  unfold rp_L_law_L2932 at h
  refine rc_aload_n (pc := 2932) hC dL_law_2932 rfl rfl ?_
  refine rc_aload_n (pc := 2933) hC dL_law_2933 rfl rfl ?_
  refine rc_iload (pc := 2934) hC dL_law_2934 rfl ?_
  refine rc_iconst (pc := 2936) hC (v := (1 : Int32)) dL_law_2936 rfl ?_
  refine rc_iadd (pc := 2937) hC dL_law_2937 ?_
  refine rc_r_iald (pc := 2938) hC dL_law_2938 h ?_
  intro x1 h
  obtain ⟨⟨fs, ho⟩, h⟩ := h.is
  refine rc_callV (pc := 2939) hC rfl ho (rw_X1_reportByte hH.1 v1 x1) q1623 q1624 q1625 q116 q1626 rfl rd_X1_reportByte (hH.room (Nat.le_of_ble_eq_true rfl) (Nat.le_of_ble_eq_true rfl)) rfl rfl (Nat.le_of_ble_eq_true rfl) 1 rfl h.le.2.2 h.br rfl dL_law_2939 ?_ (fun E q S hT => rc_out hC hH.2.2.2.2 hT)
  intro x2 S h
  show rc_Z Y S 2942 [some (rc_q v0), some (rc_q v1), some (rc_q v2), some (rc_q v3), some (rc_i v4), none, none, none, none] [rc_i x2]
  refine rc_aload_n (pc := 2942) hC dL_law_2942 rfl rfl ?_
  refine rc_aload_n (pc := 2943) hC dL_law_2943 rfl rfl ?_
  refine rc_iload (pc := 2944) hC dL_law_2944 rfl ?_
  refine rc_iconst (pc := 2946) hC (v := (1 : Int32)) dL_law_2946 rfl ?_
  refine rc_iadd (pc := 2947) hC dL_law_2947 ?_
  refine rc_r_iald (pc := 2948) hC dL_law_2948 h ?_
  intro x3 h
  obtain ⟨⟨he, hf⟩, h⟩ := h.isM
  refine rc_callM (pc := 2949) hC (As := [rc_i x3]) (st := [rc_i x2]) (rw_X9_reportByte hH.1 x3) q2699 q2700 q2701 q149 q2702 rfl rd_X9_reportByte (hH.room (Nat.le_of_ble_eq_true rfl) (Nat.le_of_ble_eq_true rfl)) rfl rfl (Nat.le_of_ble_eq_true rfl) 1 rfl h.le.2.2 (Or.inr hf) h.br (by rw [he]; first | done | rfl) dL_law_2949 ?_ (fun E q S hT => rc_out hC hH.2.2.2.2 hT)
  intro x4 S h
  show rc_Z Y S 2952 [some (rc_q v0), some (rc_q v1), some (rc_q v2), some (rc_q v3), some (rc_i v4), none, none, none, none] [rc_i x4, rc_i x2]
  refine rc_icmp_eq (pc := 2952) (tgt := 2957) hC dL_law_2952 rfl h ?_ ?_
  · intro _ h
    exact rw_L_law_L2957 hC hH hk23 v0 v1 v2 v3 v4 S h
  intro _ h
  refine rc_iconst (pc := 2955) hC (v := (0 : Int32)) dL_law_2955 rfl ?_
  exact rc_iret hC rfl rfl dL_law_2956 h rfl
theorem rw_L_law_L23 {Y : rc_Y} (hC : rc_C Y cL_law RX0 ret 9) (hH : rc_H Y 20 419 "law") : ∀ (n : Nat) (v0 : Option Nat) (v1 : Option Nat) (v2 : Option Nat) (v3 : Option Nat) (v4 : Int32) (S : rc_S), rc_Go Y rc_tI (rp_L_law_L23  n v0 v1 v2 v3 v4) S → rc_Z Y S 23 [some (rc_q v0), some (rc_q v1), some (rc_q v2), some (rc_q v3), some (rc_i v4), none, none, none, none] [] := by
  intro n
  induction n with
  | zero => intro v0 v1 v2 v3 v4 S h; exact h.fail.elim
  | succ n ih =>
    intro v0 v1 v2 v3 v4 S h
    rw [rp_L_law_L23] at h
    refine rc_iload (pc := 23) hC dL_law_23 rfl ?_
    refine rc_aload_n (pc := 25) hC dL_law_25 rfl rfl ?_
    refine rc_r_alen (pc := 26) hC dL_law_26 h ?_
    intro x1 h
    refine rc_bipush (pc := 27) hC (v := (6 : Int32)) dL_law_27 rfl ?_
    refine rc_isub (pc := 29) hC dL_law_29 ?_
    refine rc_icmp_gt (pc := 30) (tgt := 2963) hC dL_law_30 rfl h ?_ ?_
    · intro _ h
      refine rc_iconst (pc := 2963) hC (v := (1 : Int32)) dL_law_2963 rfl ?_
      exact rc_iret hC rfl rfl dL_law_2964 h rfl
    intro _ h
    refine rc_aload_n (pc := 33) hC dL_law_33 rfl rfl ?_
    refine rc_iload (pc := 34) hC dL_law_34 rfl ?_
    refine rc_r_iald (pc := 36) hC dL_law_36 h ?_
    intro x2 h
    refine rc_bipush (pc := 37) hC (v := (63 : Int32)) dL_law_37 rfl ?_
    refine rc_iand (pc := 39) hC dL_law_39 ?_
    rcases h.ite with ⟨hc, h⟩ | ⟨hc0, h⟩
    · refine rc_tableIn (pc := 40) (tgt := 300) hC (off := 260) dL_law_40 (by rw [hc]; decide) (by rw [hc]; decide) (by rw [hc]; rfl) rfl ?_
      exact rw_L_law_L300 hC hH ih v0 v1 v2 v3 v4 S h
    rcases h.ite with ⟨hc, h⟩ | ⟨hc1, h⟩
    · refine rc_tableIn (pc := 40) (tgt := 373) hC (off := 333) dL_law_40 (by rw [hc]; decide) (by rw [hc]; decide) (by rw [hc]; rfl) rfl ?_
      exact rw_L_law_L373 hC hH ih v0 v1 v2 v3 v4 S h
    rcases h.ite with ⟨hc, h⟩ | ⟨hc2, h⟩
    · refine rc_tableIn (pc := 40) (tgt := 429) hC (off := 389) dL_law_40 (by rw [hc]; decide) (by rw [hc]; decide) (by rw [hc]; rfl) rfl ?_
      exact rw_L_law_L429 hC hH ih v0 v1 v2 v3 v4 S h
    rcases h.ite with ⟨hc, h⟩ | ⟨hc3, h⟩
    · refine rc_tableIn (pc := 40) (tgt := 442) hC (off := 402) dL_law_40 (by rw [hc]; decide) (by rw [hc]; decide) (by rw [hc]; rfl) rfl ?_
      exact rw_L_law_L442 hC hH ih v0 v1 v2 v3 v4 S h
    rcases h.ite with ⟨hc, h⟩ | ⟨hc4, h⟩
    · refine rc_tableIn (pc := 40) (tgt := 498) hC (off := 458) dL_law_40 (by rw [hc]; decide) (by rw [hc]; decide) (by rw [hc]; rfl) rfl ?_
      exact rw_L_law_L498 hC hH ih v0 v1 v2 v3 v4 S h
    rcases h.ite with ⟨hc, h⟩ | ⟨hc5, h⟩
    · refine rc_tableIn (pc := 40) (tgt := 578) hC (off := 538) dL_law_40 (by rw [hc]; decide) (by rw [hc]; decide) (by rw [hc]; rfl) rfl ?_
      exact rw_L_law_L578 hC hH ih v0 v1 v2 v3 v4 S h
    rcases h.ite with ⟨hc, h⟩ | ⟨hc6, h⟩
    · refine rc_tableIn (pc := 40) (tgt := 658) hC (off := 618) dL_law_40 (by rw [hc]; decide) (by rw [hc]; decide) (by rw [hc]; rfl) rfl ?_
      exact rw_L_law_L658 hC hH ih v0 v1 v2 v3 v4 S h
    rcases h.ite with ⟨hc, h⟩ | ⟨hc7, h⟩
    · refine rc_tableIn (pc := 40) (tgt := 726) hC (off := 686) dL_law_40 (by rw [hc]; decide) (by rw [hc]; decide) (by rw [hc]; rfl) rfl ?_
      exact rw_L_law_L726 hC hH ih v0 v1 v2 v3 v4 S h
    rcases h.ite with ⟨hc, h⟩ | ⟨hc8, h⟩
    · refine rc_tableIn (pc := 40) (tgt := 782) hC (off := 742) dL_law_40 (by rw [hc]; decide) (by rw [hc]; decide) (by rw [hc]; rfl) rfl ?_
      exact rw_L_law_L782 hC hH ih v0 v1 v2 v3 v4 S h
    rcases h.ite with ⟨hc, h⟩ | ⟨hc9, h⟩
    · refine rc_tableIn (pc := 40) (tgt := 838) hC (off := 798) dL_law_40 (by rw [hc]; decide) (by rw [hc]; decide) (by rw [hc]; rfl) rfl ?_
      exact rw_L_law_L838 hC hH ih v0 v1 v2 v3 v4 S h
    rcases h.ite with ⟨hc, h⟩ | ⟨hc10, h⟩
    · refine rc_tableIn (pc := 40) (tgt := 913) hC (off := 873) dL_law_40 (by rw [hc]; decide) (by rw [hc]; decide) (by rw [hc]; rfl) rfl ?_
      exact rw_L_law_L913 hC hH ih v0 v1 v2 v3 v4 S h
    rcases h.ite with ⟨hc, h⟩ | ⟨hc11, h⟩
    · refine rc_tableIn (pc := 40) (tgt := 1005) hC (off := 965) dL_law_40 (by rw [hc]; decide) (by rw [hc]; decide) (by rw [hc]; rfl) rfl ?_
      exact rw_L_law_L1005 hC hH ih v0 v1 v2 v3 v4 S h
    rcases h.ite with ⟨hc, h⟩ | ⟨hc12, h⟩
    · refine rc_tableIn (pc := 40) (tgt := 1073) hC (off := 1033) dL_law_40 (by rw [hc]; decide) (by rw [hc]; decide) (by rw [hc]; rfl) rfl ?_
      exact rw_L_law_L1073 hC hH ih v0 v1 v2 v3 v4 S h
    rcases h.ite with ⟨hc, h⟩ | ⟨hc13, h⟩
    · refine rc_tableIn (pc := 40) (tgt := 1164) hC (off := 1124) dL_law_40 (by rw [hc]; decide) (by rw [hc]; decide) (by rw [hc]; rfl) rfl ?_
      exact rw_L_law_L1164 hC hH ih v0 v1 v2 v3 v4 S h
    rcases h.ite with ⟨hc, h⟩ | ⟨hc14, h⟩
    · refine rc_tableIn (pc := 40) (tgt := 1220) hC (off := 1180) dL_law_40 (by rw [hc]; decide) (by rw [hc]; decide) (by rw [hc]; rfl) rfl ?_
      exact rw_L_law_L1220 hC hH ih v0 v1 v2 v3 v4 S h
    rcases h.ite with ⟨hc, h⟩ | ⟨hc15, h⟩
    · refine rc_tableIn (pc := 40) (tgt := 1233) hC (off := 1193) dL_law_40 (by rw [hc]; decide) (by rw [hc]; decide) (by rw [hc]; rfl) rfl ?_
      exact rw_L_law_L1233 hC hH ih v0 v1 v2 v3 v4 S h
    rcases h.ite with ⟨hc, h⟩ | ⟨hc16, h⟩
    · refine rc_tableIn (pc := 40) (tgt := 1246) hC (off := 1206) dL_law_40 (by rw [hc]; decide) (by rw [hc]; decide) (by rw [hc]; rfl) rfl ?_
      exact rw_L_law_L1246 hC hH ih v0 v1 v2 v3 v4 S h
    rcases h.ite with ⟨hc, h⟩ | ⟨hc17, h⟩
    · refine rc_tableIn (pc := 40) (tgt := 1259) hC (off := 1219) dL_law_40 (by rw [hc]; decide) (by rw [hc]; decide) (by rw [hc]; rfl) rfl ?_
      exact rw_L_law_L1259 hC hH ih v0 v1 v2 v3 v4 S h
    rcases h.ite with ⟨hc, h⟩ | ⟨hc18, h⟩
    · refine rc_tableIn (pc := 40) (tgt := 1303) hC (off := 1263) dL_law_40 (by rw [hc]; decide) (by rw [hc]; decide) (by rw [hc]; rfl) rfl ?_
      exact rw_L_law_L1303 hC hH ih v0 v1 v2 v3 v4 S h
    rcases h.ite with ⟨hc, h⟩ | ⟨hc19, h⟩
    · refine rc_tableIn (pc := 40) (tgt := 1316) hC (off := 1276) dL_law_40 (by rw [hc]; decide) (by rw [hc]; decide) (by rw [hc]; rfl) rfl ?_
      exact rw_L_law_L1316 hC hH ih v0 v1 v2 v3 v4 S h
    rcases h.ite with ⟨hc, h⟩ | ⟨hc20, h⟩
    · refine rc_tableIn (pc := 40) (tgt := 1329) hC (off := 1289) dL_law_40 (by rw [hc]; decide) (by rw [hc]; decide) (by rw [hc]; rfl) rfl ?_
      exact rw_L_law_L1329 hC hH ih v0 v1 v2 v3 v4 S h
    rcases h.ite with ⟨hc, h⟩ | ⟨hc21, h⟩
    · refine rc_tableIn (pc := 40) (tgt := 1342) hC (off := 1302) dL_law_40 (by rw [hc]; decide) (by rw [hc]; decide) (by rw [hc]; rfl) rfl ?_
      exact rw_L_law_L1342 hC hH ih v0 v1 v2 v3 v4 S h
    rcases h.ite with ⟨hc, h⟩ | ⟨hc22, h⟩
    · refine rc_tableIn (pc := 40) (tgt := 1355) hC (off := 1315) dL_law_40 (by rw [hc]; decide) (by rw [hc]; decide) (by rw [hc]; rfl) rfl ?_
      exact rw_L_law_L1355 hC hH ih v0 v1 v2 v3 v4 S h
    rcases h.ite with ⟨hc, h⟩ | ⟨hc23, h⟩
    · refine rc_tableIn (pc := 40) (tgt := 1368) hC (off := 1328) dL_law_40 (by rw [hc]; decide) (by rw [hc]; decide) (by rw [hc]; rfl) rfl ?_
      exact rw_L_law_L1368 hC hH ih v0 v1 v2 v3 v4 S h
    rcases h.ite with ⟨hc, h⟩ | ⟨hc24, h⟩
    · refine rc_tableIn (pc := 40) (tgt := 1381) hC (off := 1341) dL_law_40 (by rw [hc]; decide) (by rw [hc]; decide) (by rw [hc]; rfl) rfl ?_
      exact rw_L_law_L1381 hC hH ih v0 v1 v2 v3 v4 S h
    rcases h.ite with ⟨hc, h⟩ | ⟨hc25, h⟩
    · refine rc_tableIn (pc := 40) (tgt := 1394) hC (off := 1354) dL_law_40 (by rw [hc]; decide) (by rw [hc]; decide) (by rw [hc]; rfl) rfl ?_
      exact rw_L_law_L1394 hC hH ih v0 v1 v2 v3 v4 S h
    rcases h.ite with ⟨hc, h⟩ | ⟨hc26, h⟩
    · refine rc_tableIn (pc := 40) (tgt := 1450) hC (off := 1410) dL_law_40 (by rw [hc]; decide) (by rw [hc]; decide) (by rw [hc]; rfl) rfl ?_
      exact rw_L_law_L1450 hC hH ih v0 v1 v2 v3 v4 S h
    rcases h.ite with ⟨hc, h⟩ | ⟨hc27, h⟩
    · refine rc_tableIn (pc := 40) (tgt := 1506) hC (off := 1466) dL_law_40 (by rw [hc]; decide) (by rw [hc]; decide) (by rw [hc]; rfl) rfl ?_
      exact rw_L_law_L1506 hC hH ih v0 v1 v2 v3 v4 S h
    rcases h.ite with ⟨hc, h⟩ | ⟨hc28, h⟩
    · refine rc_tableIn (pc := 40) (tgt := 1562) hC (off := 1522) dL_law_40 (by rw [hc]; decide) (by rw [hc]; decide) (by rw [hc]; rfl) rfl ?_
      exact rw_L_law_L1562 hC hH ih v0 v1 v2 v3 v4 S h
    rcases h.ite with ⟨hc, h⟩ | ⟨hc29, h⟩
    · refine rc_tableIn (pc := 40) (tgt := 1618) hC (off := 1578) dL_law_40 (by rw [hc]; decide) (by rw [hc]; decide) (by rw [hc]; rfl) rfl ?_
      exact rw_L_law_L1618 hC hH ih v0 v1 v2 v3 v4 S h
    rcases h.ite with ⟨hc, h⟩ | ⟨hc30, h⟩
    · refine rc_tableIn (pc := 40) (tgt := 1674) hC (off := 1634) dL_law_40 (by rw [hc]; decide) (by rw [hc]; decide) (by rw [hc]; rfl) rfl ?_
      exact rw_L_law_L1674 hC hH ih v0 v1 v2 v3 v4 S h
    rcases h.ite with ⟨hc, h⟩ | ⟨hc31, h⟩
    · refine rc_tableIn (pc := 40) (tgt := 1742) hC (off := 1702) dL_law_40 (by rw [hc]; decide) (by rw [hc]; decide) (by rw [hc]; rfl) rfl ?_
      exact rw_L_law_L1742 hC hH ih v0 v1 v2 v3 v4 S h
    rcases h.ite with ⟨hc, h⟩ | ⟨hc32, h⟩
    · refine rc_tableIn (pc := 40) (tgt := 1755) hC (off := 1715) dL_law_40 (by rw [hc]; decide) (by rw [hc]; decide) (by rw [hc]; rfl) rfl ?_
      exact rw_L_law_L1755 hC hH ih v0 v1 v2 v3 v4 S h
    rcases h.ite with ⟨hc, h⟩ | ⟨hc33, h⟩
    · refine rc_tableIn (pc := 40) (tgt := 1811) hC (off := 1771) dL_law_40 (by rw [hc]; decide) (by rw [hc]; decide) (by rw [hc]; rfl) rfl ?_
      exact rw_L_law_L1811 hC hH ih v0 v1 v2 v3 v4 S h
    rcases h.ite with ⟨hc, h⟩ | ⟨hc34, h⟩
    · refine rc_tableIn (pc := 40) (tgt := 1867) hC (off := 1827) dL_law_40 (by rw [hc]; decide) (by rw [hc]; decide) (by rw [hc]; rfl) rfl ?_
      exact rw_L_law_L1867 hC hH ih v0 v1 v2 v3 v4 S h
    rcases h.ite with ⟨hc, h⟩ | ⟨hc35, h⟩
    · refine rc_tableIn (pc := 40) (tgt := 1923) hC (off := 1883) dL_law_40 (by rw [hc]; decide) (by rw [hc]; decide) (by rw [hc]; rfl) rfl ?_
      exact rw_L_law_L1923 hC hH ih v0 v1 v2 v3 v4 S h
    rcases h.ite with ⟨hc, h⟩ | ⟨hc36, h⟩
    · refine rc_tableIn (pc := 40) (tgt := 1979) hC (off := 1939) dL_law_40 (by rw [hc]; decide) (by rw [hc]; decide) (by rw [hc]; rfl) rfl ?_
      exact rw_L_law_L1979 hC hH ih v0 v1 v2 v3 v4 S h
    rcases h.ite with ⟨hc, h⟩ | ⟨hc37, h⟩
    · refine rc_tableIn (pc := 40) (tgt := 2035) hC (off := 1995) dL_law_40 (by rw [hc]; decide) (by rw [hc]; decide) (by rw [hc]; rfl) rfl ?_
      exact rw_L_law_L2035 hC hH ih v0 v1 v2 v3 v4 S h
    rcases h.ite with ⟨hc, h⟩ | ⟨hc38, h⟩
    · refine rc_tableIn (pc := 40) (tgt := 2103) hC (off := 2063) dL_law_40 (by rw [hc]; decide) (by rw [hc]; decide) (by rw [hc]; rfl) rfl ?_
      exact rw_L_law_L2103 hC hH ih v0 v1 v2 v3 v4 S h
    rcases h.ite with ⟨hc, h⟩ | ⟨hc39, h⟩
    · refine rc_tableIn (pc := 40) (tgt := 2159) hC (off := 2119) dL_law_40 (by rw [hc]; decide) (by rw [hc]; decide) (by rw [hc]; rfl) rfl ?_
      exact rw_L_law_L2159 hC hH ih v0 v1 v2 v3 v4 S h
    rcases h.ite with ⟨hc, h⟩ | ⟨hc40, h⟩
    · refine rc_tableIn (pc := 40) (tgt := 2227) hC (off := 2187) dL_law_40 (by rw [hc]; decide) (by rw [hc]; decide) (by rw [hc]; rfl) rfl ?_
      exact rw_L_law_L2227 hC hH ih v0 v1 v2 v3 v4 S h
    rcases h.ite with ⟨hc, h⟩ | ⟨hc41, h⟩
    · refine rc_tableIn (pc := 40) (tgt := 2283) hC (off := 2243) dL_law_40 (by rw [hc]; decide) (by rw [hc]; decide) (by rw [hc]; rfl) rfl ?_
      exact rw_L_law_L2283 hC hH ih v0 v1 v2 v3 v4 S h
    rcases h.ite with ⟨hc, h⟩ | ⟨hc42, h⟩
    · refine rc_tableIn (pc := 40) (tgt := 2351) hC (off := 2311) dL_law_40 (by rw [hc]; decide) (by rw [hc]; decide) (by rw [hc]; rfl) rfl ?_
      exact rw_L_law_L2351 hC hH ih v0 v1 v2 v3 v4 S h
    rcases h.ite with ⟨hc, h⟩ | ⟨hc43, h⟩
    · refine rc_tableIn (pc := 40) (tgt := 2407) hC (off := 2367) dL_law_40 (by rw [hc]; decide) (by rw [hc]; decide) (by rw [hc]; rfl) rfl ?_
      exact rw_L_law_L2407 hC hH ih v0 v1 v2 v3 v4 S h
    rcases h.ite with ⟨hc, h⟩ | ⟨hc44, h⟩
    · refine rc_tableIn (pc := 40) (tgt := 2475) hC (off := 2435) dL_law_40 (by rw [hc]; decide) (by rw [hc]; decide) (by rw [hc]; rfl) rfl ?_
      exact rw_L_law_L2475 hC hH ih v0 v1 v2 v3 v4 S h
    rcases h.ite with ⟨hc, h⟩ | ⟨hc45, h⟩
    · refine rc_tableIn (pc := 40) (tgt := 2531) hC (off := 2491) dL_law_40 (by rw [hc]; decide) (by rw [hc]; decide) (by rw [hc]; rfl) rfl ?_
      exact rw_L_law_L2531 hC hH ih v0 v1 v2 v3 v4 S h
    rcases h.ite with ⟨hc, h⟩ | ⟨hc46, h⟩
    · refine rc_tableIn (pc := 40) (tgt := 2544) hC (off := 2504) dL_law_40 (by rw [hc]; decide) (by rw [hc]; decide) (by rw [hc]; rfl) rfl ?_
      exact rw_L_law_L2544 hC hH ih v0 v1 v2 v3 v4 S h
    rcases h.ite with ⟨hc, h⟩ | ⟨hc47, h⟩
    · refine rc_tableIn (pc := 40) (tgt := 2557) hC (off := 2517) dL_law_40 (by rw [hc]; decide) (by rw [hc]; decide) (by rw [hc]; rfl) rfl ?_
      exact rw_L_law_L2557 hC hH ih v0 v1 v2 v3 v4 S h
    rcases h.ite with ⟨hc, h⟩ | ⟨hc48, h⟩
    · refine rc_tableIn (pc := 40) (tgt := 2570) hC (off := 2530) dL_law_40 (by rw [hc]; decide) (by rw [hc]; decide) (by rw [hc]; rfl) rfl ?_
      exact rw_L_law_L2570 hC hH ih v0 v1 v2 v3 v4 S h
    rcases h.ite with ⟨hc, h⟩ | ⟨hc49, h⟩
    · refine rc_tableIn (pc := 40) (tgt := 2633) hC (off := 2593) dL_law_40 (by rw [hc]; decide) (by rw [hc]; decide) (by rw [hc]; rfl) rfl ?_
      exact rw_L_law_L2633 hC hH ih v0 v1 v2 v3 v4 S h
    rcases h.ite with ⟨hc, h⟩ | ⟨hc50, h⟩
    · refine rc_tableIn (pc := 40) (tgt := 2689) hC (off := 2649) dL_law_40 (by rw [hc]; decide) (by rw [hc]; decide) (by rw [hc]; rfl) rfl ?_
      exact rw_L_law_L2689 hC hH ih v0 v1 v2 v3 v4 S h
    rcases h.ite with ⟨hc, h⟩ | ⟨hc51, h⟩
    · refine rc_tableIn (pc := 40) (tgt := 2702) hC (off := 2662) dL_law_40 (by rw [hc]; decide) (by rw [hc]; decide) (by rw [hc]; rfl) rfl ?_
      exact rw_L_law_L2702 hC hH ih v0 v1 v2 v3 v4 S h
    rcases h.ite with ⟨hc, h⟩ | ⟨hc52, h⟩
    · refine rc_tableIn (pc := 40) (tgt := 2715) hC (off := 2675) dL_law_40 (by rw [hc]; decide) (by rw [hc]; decide) (by rw [hc]; rfl) rfl ?_
      exact rw_L_law_L2715 hC hH ih v0 v1 v2 v3 v4 S h
    rcases h.ite with ⟨hc, h⟩ | ⟨hc53, h⟩
    · refine rc_tableIn (pc := 40) (tgt := 2728) hC (off := 2688) dL_law_40 (by rw [hc]; decide) (by rw [hc]; decide) (by rw [hc]; rfl) rfl ?_
      exact rw_L_law_L2728 hC hH ih v0 v1 v2 v3 v4 S h
    rcases h.ite with ⟨hc, h⟩ | ⟨hc54, h⟩
    · refine rc_tableIn (pc := 40) (tgt := 2796) hC (off := 2756) dL_law_40 (by rw [hc]; decide) (by rw [hc]; decide) (by rw [hc]; rfl) rfl ?_
      exact rw_L_law_L2796 hC hH ih v0 v1 v2 v3 v4 S h
    rcases h.ite with ⟨hc, h⟩ | ⟨hc55, h⟩
    · refine rc_tableIn (pc := 40) (tgt := 2809) hC (off := 2769) dL_law_40 (by rw [hc]; decide) (by rw [hc]; decide) (by rw [hc]; rfl) rfl ?_
      exact rw_L_law_L2809 hC hH ih v0 v1 v2 v3 v4 S h
    rcases h.ite with ⟨hc, h⟩ | ⟨hc56, h⟩
    · refine rc_tableIn (pc := 40) (tgt := 2822) hC (off := 2782) dL_law_40 (by rw [hc]; decide) (by rw [hc]; decide) (by rw [hc]; rfl) rfl ?_
      exact rw_L_law_L2822 hC hH ih v0 v1 v2 v3 v4 S h
    rcases h.ite with ⟨hc, h⟩ | ⟨hc57, h⟩
    · refine rc_tableIn (pc := 40) (tgt := 2863) hC (off := 2823) dL_law_40 (by rw [hc]; decide) (by rw [hc]; decide) (by rw [hc]; rfl) rfl ?_
      exact rw_L_law_L2863 hC hH ih v0 v1 v2 v3 v4 S h
    rcases h.ite with ⟨hc, h⟩ | ⟨hc58, h⟩
    · refine rc_tableIn (pc := 40) (tgt := 2906) hC (off := 2866) dL_law_40 (by rw [hc]; decide) (by rw [hc]; decide) (by rw [hc]; rfl) rfl ?_
      exact rw_L_law_L2906 hC hH ih v0 v1 v2 v3 v4 S h
    rcases h.ite with ⟨hc, h⟩ | ⟨hc59, h⟩
    · refine rc_tableIn (pc := 40) (tgt := 2919) hC (off := 2879) dL_law_40 (by rw [hc]; decide) (by rw [hc]; decide) (by rw [hc]; rfl) rfl ?_
      exact rw_L_law_L2919 hC hH ih v0 v1 v2 v3 v4 S h
    rcases h.ite with ⟨hc, h⟩ | ⟨hc60, h⟩
    · refine rc_tableIn (pc := 40) (tgt := 2932) hC (off := 2892) dL_law_40 (by rw [hc]; decide) (by rw [hc]; decide) (by rw [hc]; rfl) rfl ?_
      exact rw_L_law_L2932 hC hH ih v0 v1 v2 v3 v4 S h
    have hout : ((x2 &&& (63 : Int32))).toInt < 0 ∨ 60 < ((x2 &&& (63 : Int32))).toInt := by
      have hq0 : ((x2 &&& (63 : Int32))).toInt ≠ 0 := fun e => hc0 (Int32.toInt_inj.mp (e.trans rfl))
      have hq1 : ((x2 &&& (63 : Int32))).toInt ≠ 1 := fun e => hc1 (Int32.toInt_inj.mp (e.trans rfl))
      have hq2 : ((x2 &&& (63 : Int32))).toInt ≠ 2 := fun e => hc2 (Int32.toInt_inj.mp (e.trans rfl))
      have hq3 : ((x2 &&& (63 : Int32))).toInt ≠ 3 := fun e => hc3 (Int32.toInt_inj.mp (e.trans rfl))
      have hq4 : ((x2 &&& (63 : Int32))).toInt ≠ 4 := fun e => hc4 (Int32.toInt_inj.mp (e.trans rfl))
      have hq5 : ((x2 &&& (63 : Int32))).toInt ≠ 5 := fun e => hc5 (Int32.toInt_inj.mp (e.trans rfl))
      have hq6 : ((x2 &&& (63 : Int32))).toInt ≠ 6 := fun e => hc6 (Int32.toInt_inj.mp (e.trans rfl))
      have hq7 : ((x2 &&& (63 : Int32))).toInt ≠ 7 := fun e => hc7 (Int32.toInt_inj.mp (e.trans rfl))
      have hq8 : ((x2 &&& (63 : Int32))).toInt ≠ 8 := fun e => hc8 (Int32.toInt_inj.mp (e.trans rfl))
      have hq9 : ((x2 &&& (63 : Int32))).toInt ≠ 9 := fun e => hc9 (Int32.toInt_inj.mp (e.trans rfl))
      have hq10 : ((x2 &&& (63 : Int32))).toInt ≠ 10 := fun e => hc10 (Int32.toInt_inj.mp (e.trans rfl))
      have hq11 : ((x2 &&& (63 : Int32))).toInt ≠ 11 := fun e => hc11 (Int32.toInt_inj.mp (e.trans rfl))
      have hq12 : ((x2 &&& (63 : Int32))).toInt ≠ 12 := fun e => hc12 (Int32.toInt_inj.mp (e.trans rfl))
      have hq13 : ((x2 &&& (63 : Int32))).toInt ≠ 13 := fun e => hc13 (Int32.toInt_inj.mp (e.trans rfl))
      have hq14 : ((x2 &&& (63 : Int32))).toInt ≠ 14 := fun e => hc14 (Int32.toInt_inj.mp (e.trans rfl))
      have hq15 : ((x2 &&& (63 : Int32))).toInt ≠ 15 := fun e => hc15 (Int32.toInt_inj.mp (e.trans rfl))
      have hq16 : ((x2 &&& (63 : Int32))).toInt ≠ 16 := fun e => hc16 (Int32.toInt_inj.mp (e.trans rfl))
      have hq17 : ((x2 &&& (63 : Int32))).toInt ≠ 17 := fun e => hc17 (Int32.toInt_inj.mp (e.trans rfl))
      have hq18 : ((x2 &&& (63 : Int32))).toInt ≠ 18 := fun e => hc18 (Int32.toInt_inj.mp (e.trans rfl))
      have hq19 : ((x2 &&& (63 : Int32))).toInt ≠ 19 := fun e => hc19 (Int32.toInt_inj.mp (e.trans rfl))
      have hq20 : ((x2 &&& (63 : Int32))).toInt ≠ 20 := fun e => hc20 (Int32.toInt_inj.mp (e.trans rfl))
      have hq21 : ((x2 &&& (63 : Int32))).toInt ≠ 21 := fun e => hc21 (Int32.toInt_inj.mp (e.trans rfl))
      have hq22 : ((x2 &&& (63 : Int32))).toInt ≠ 22 := fun e => hc22 (Int32.toInt_inj.mp (e.trans rfl))
      have hq23 : ((x2 &&& (63 : Int32))).toInt ≠ 23 := fun e => hc23 (Int32.toInt_inj.mp (e.trans rfl))
      have hq24 : ((x2 &&& (63 : Int32))).toInt ≠ 24 := fun e => hc24 (Int32.toInt_inj.mp (e.trans rfl))
      have hq25 : ((x2 &&& (63 : Int32))).toInt ≠ 25 := fun e => hc25 (Int32.toInt_inj.mp (e.trans rfl))
      have hq26 : ((x2 &&& (63 : Int32))).toInt ≠ 26 := fun e => hc26 (Int32.toInt_inj.mp (e.trans rfl))
      have hq27 : ((x2 &&& (63 : Int32))).toInt ≠ 27 := fun e => hc27 (Int32.toInt_inj.mp (e.trans rfl))
      have hq28 : ((x2 &&& (63 : Int32))).toInt ≠ 28 := fun e => hc28 (Int32.toInt_inj.mp (e.trans rfl))
      have hq29 : ((x2 &&& (63 : Int32))).toInt ≠ 29 := fun e => hc29 (Int32.toInt_inj.mp (e.trans rfl))
      have hq30 : ((x2 &&& (63 : Int32))).toInt ≠ 30 := fun e => hc30 (Int32.toInt_inj.mp (e.trans rfl))
      have hq31 : ((x2 &&& (63 : Int32))).toInt ≠ 31 := fun e => hc31 (Int32.toInt_inj.mp (e.trans rfl))
      have hq32 : ((x2 &&& (63 : Int32))).toInt ≠ 32 := fun e => hc32 (Int32.toInt_inj.mp (e.trans rfl))
      have hq33 : ((x2 &&& (63 : Int32))).toInt ≠ 33 := fun e => hc33 (Int32.toInt_inj.mp (e.trans rfl))
      have hq34 : ((x2 &&& (63 : Int32))).toInt ≠ 34 := fun e => hc34 (Int32.toInt_inj.mp (e.trans rfl))
      have hq35 : ((x2 &&& (63 : Int32))).toInt ≠ 35 := fun e => hc35 (Int32.toInt_inj.mp (e.trans rfl))
      have hq36 : ((x2 &&& (63 : Int32))).toInt ≠ 36 := fun e => hc36 (Int32.toInt_inj.mp (e.trans rfl))
      have hq37 : ((x2 &&& (63 : Int32))).toInt ≠ 37 := fun e => hc37 (Int32.toInt_inj.mp (e.trans rfl))
      have hq38 : ((x2 &&& (63 : Int32))).toInt ≠ 38 := fun e => hc38 (Int32.toInt_inj.mp (e.trans rfl))
      have hq39 : ((x2 &&& (63 : Int32))).toInt ≠ 39 := fun e => hc39 (Int32.toInt_inj.mp (e.trans rfl))
      have hq40 : ((x2 &&& (63 : Int32))).toInt ≠ 40 := fun e => hc40 (Int32.toInt_inj.mp (e.trans rfl))
      have hq41 : ((x2 &&& (63 : Int32))).toInt ≠ 41 := fun e => hc41 (Int32.toInt_inj.mp (e.trans rfl))
      have hq42 : ((x2 &&& (63 : Int32))).toInt ≠ 42 := fun e => hc42 (Int32.toInt_inj.mp (e.trans rfl))
      have hq43 : ((x2 &&& (63 : Int32))).toInt ≠ 43 := fun e => hc43 (Int32.toInt_inj.mp (e.trans rfl))
      have hq44 : ((x2 &&& (63 : Int32))).toInt ≠ 44 := fun e => hc44 (Int32.toInt_inj.mp (e.trans rfl))
      have hq45 : ((x2 &&& (63 : Int32))).toInt ≠ 45 := fun e => hc45 (Int32.toInt_inj.mp (e.trans rfl))
      have hq46 : ((x2 &&& (63 : Int32))).toInt ≠ 46 := fun e => hc46 (Int32.toInt_inj.mp (e.trans rfl))
      have hq47 : ((x2 &&& (63 : Int32))).toInt ≠ 47 := fun e => hc47 (Int32.toInt_inj.mp (e.trans rfl))
      have hq48 : ((x2 &&& (63 : Int32))).toInt ≠ 48 := fun e => hc48 (Int32.toInt_inj.mp (e.trans rfl))
      have hq49 : ((x2 &&& (63 : Int32))).toInt ≠ 49 := fun e => hc49 (Int32.toInt_inj.mp (e.trans rfl))
      have hq50 : ((x2 &&& (63 : Int32))).toInt ≠ 50 := fun e => hc50 (Int32.toInt_inj.mp (e.trans rfl))
      have hq51 : ((x2 &&& (63 : Int32))).toInt ≠ 51 := fun e => hc51 (Int32.toInt_inj.mp (e.trans rfl))
      have hq52 : ((x2 &&& (63 : Int32))).toInt ≠ 52 := fun e => hc52 (Int32.toInt_inj.mp (e.trans rfl))
      have hq53 : ((x2 &&& (63 : Int32))).toInt ≠ 53 := fun e => hc53 (Int32.toInt_inj.mp (e.trans rfl))
      have hq54 : ((x2 &&& (63 : Int32))).toInt ≠ 54 := fun e => hc54 (Int32.toInt_inj.mp (e.trans rfl))
      have hq55 : ((x2 &&& (63 : Int32))).toInt ≠ 55 := fun e => hc55 (Int32.toInt_inj.mp (e.trans rfl))
      have hq56 : ((x2 &&& (63 : Int32))).toInt ≠ 56 := fun e => hc56 (Int32.toInt_inj.mp (e.trans rfl))
      have hq57 : ((x2 &&& (63 : Int32))).toInt ≠ 57 := fun e => hc57 (Int32.toInt_inj.mp (e.trans rfl))
      have hq58 : ((x2 &&& (63 : Int32))).toInt ≠ 58 := fun e => hc58 (Int32.toInt_inj.mp (e.trans rfl))
      have hq59 : ((x2 &&& (63 : Int32))).toInt ≠ 59 := fun e => hc59 (Int32.toInt_inj.mp (e.trans rfl))
      have hq60 : ((x2 &&& (63 : Int32))).toInt ≠ 60 := fun e => hc60 (Int32.toInt_inj.mp (e.trans rfl))
      omega
    refine rc_tableOut (pc := 40) (tgt := 2957) hC dL_law_40 hout rfl ?_
    exact rw_L_law_L2957 hC hH ih v0 v1 v2 v3 v4 S h
theorem rw_L_law {Y : rc_Y} (hC : rc_C Y code RX0 ret 9) (hH : rc_H Y 20 419 "law") (v0 : Option Nat) (S : rc_S) (h : rc_Go Y rc_tI (rp_L_law v0) S) : rc_Z Y S 0 [some (rc_q v0), none, none, none, none, none, none, none, none] [] := by
  unfold rp_L_law at h
  refine rc_r_new (pc := 0) hC rN_X0_8 dL_law_0 h ?_
  intro x1 S h
  refine rc_dup (pc := 3) hC dL_law_3 rfl ?_
  obtain ⟨⟨b9, ho⟩, h⟩ := h.nn
  refine rc_callIW (pc := 4) hC ho (rw_X1_init hH.1 x1) q157 q158 q116 q159 rfl  rd_X1_init (hH.room (Nat.le_of_ble_eq_true rfl) (Nat.le_of_ble_eq_true rfl)) rfl rfl (Nat.le_of_ble_eq_true rfl) 0 rfl h.le.2.2 h.br rfl dL_law_4 ?_ (fun E q S hT => rc_out hC hH.2.2.2.2 hT)
  intro _ S h
  show rc_Z Y S 7 [some (rc_q v0), none, none, none, none, none, none, none, none] [rc_q x1]
  refine rc_astore_n (pc := 7) hC (L' := [some (rc_q v0), some (rc_q x1), none, none, none, none, none, none, none]) dL_law_7 rfl (Nat.le_of_ble_eq_true rfl) rfl rfl ?_
  refine rc_r_new (pc := 8) hC rN_X0_131 dL_law_8 h ?_
  intro x2 S h
  refine rc_dup (pc := 11) hC dL_law_11 rfl ?_
  obtain ⟨⟨b9, ho⟩, h⟩ := h.nn
  refine rc_callI (pc := 12) hC ho (rw_X9_init hH.1 x2) q2000 q2001 q149 q2002 rfl rfl rd_X9_init (hH.room (Nat.le_of_ble_eq_true rfl) (Nat.le_of_ble_eq_true rfl)) rfl rfl (Nat.le_of_ble_eq_true rfl) 0 rfl h.le.2.2 h.br rfl dL_law_12 ?_ (fun E q S hT => rc_out hC hH.2.2.2.2 hT)
  intro _ S h
  show rc_Z Y S 15 [some (rc_q v0), some (rc_q x1), none, none, none, none, none, none, none] [rc_q x2]
  refine rc_astore_n (pc := 15) hC (L' := [some (rc_q v0), some (rc_q x1), some (rc_q x2), none, none, none, none, none, none]) dL_law_15 rfl (Nat.le_of_ble_eq_true rfl) rfl rfl ?_
  refine rc_iconst (pc := 16) hC (v := (1 : Int32)) dL_law_16 rfl ?_
  refine rc_r_newa (pc := 17) hC (t := 1) (atype := .long) (by decide) rfl q2703 dL_law_17 h ?_
  intro x3 S h
  refine rc_astore_n (pc := 19) hC (L' := [some (rc_q v0), some (rc_q x1), some (rc_q x2), some (rc_q x3), none, none, none, none, none]) dL_law_19 rfl (Nat.le_of_ble_eq_true rfl) rfl rfl ?_
  refine rc_iconst (pc := 20) hC (v := (0 : Int32)) dL_law_20 rfl ?_
  refine rc_istore (pc := 21) hC (L' := [some (rc_q v0), some (rc_q x1), some (rc_q x2), some (rc_q x3), some (rc_i (0 : Int32)), none, none, none, none]) dL_law_21 (Nat.le_of_ble_eq_true rfl) rfl rfl ?_
  refine rc_r_fuel h ?_
  intro x4 h
  exact rw_L_law_L23 hC hH  x4 v0 x1 x2 x3 (0 : Int32) S h
