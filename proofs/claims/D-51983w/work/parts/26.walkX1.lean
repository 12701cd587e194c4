set_option maxRecDepth 100000
/-! WALKS (printed by gen.py) -/
theorem rw_X1_appendBytes_L24 {Y : rc_Y} (hC : rc_C Y cX1_appendBytes RX1 (Option.none : Option Jvm.ClassFile.FieldType) 7) (hH : rc_H Y 8 179 yX1_appendBytes.name) {k8 : Option Nat → Option Nat → Int32 → Int32 → rc_M Unit} (hk8 : ∀ (v0 : Option Nat) (v2 : Option Nat) (v3 : Int32) (v4 : Int32) (S : rc_S), rc_Go Y rc_tU (k8 v0 v2 v3 v4) S → rc_Z Y S 8 [some (rc_q v0), none, some (rc_q v2), some (rc_i v3), some (rc_i v4), none, none] []) : ∀ (n : Nat) (v0 : Option Nat) (v2 : Option Nat) (v3 : Int32) (v4 : Int32) (v5 : Int32) (v6 : Int32) (S : rc_S), rc_Go Y rc_tU (rp_X1_appendBytes_L24 k8 n v0 v2 v3 v4 v5 v6) S → rc_Z Y S 24 [some (rc_q v0), none, some (rc_q v2), some (rc_i v3), some (rc_i v4), some (rc_i v5), some (rc_i v6)] [] := by
  intro n
  induction n with
  | zero => intro v0 v2 v3 v4 v5 v6 S h; exact h.fail.elim
  | succ n ih =>
    intro v0 v2 v3 v4 v5 v6 S h
    rw [rp_X1_appendBytes_L24] at h
    refine rc_iload (pc := 24) hC dX1_appendBytes_24 rfl ?_
    refine rc_if_lt (pc := 26) (tgt := 53) hC dX1_appendBytes_26 rfl h ?_ ?_
    · intro _ h
      refine rc_iinc (pc := 53) hC (v := (v4 + (1 : Int32))) (L' := [some (rc_q v0), none, some (rc_q v2), some (rc_i v3), some (rc_i (v4 + (1 : Int32))), some (rc_i v5), some (rc_i v6)]) dX1_appendBytes_53 rfl rfl rfl rfl ?_
      refine rc_goto (pc := 56) (tgt := 8) hC dX1_appendBytes_56 rfl ?_
      refine rc_drop [true, false, true, true, true, false, false] (L' := [some (rc_q v0), none, some (rc_q v2), some (rc_i v3), some (rc_i (v4 + (1 : Int32))), none, none]) rfl ?_
      exact hk8 v0 v2 v3 (v4 + (1 : Int32)) S h
    intro _ h
    refine rc_aload_n (pc := 29) hC dX1_appendBytes_29 rfl rfl ?_
    refine rc_r_getq (pc := 30) hC rF_X1_19 dX1_appendBytes_30 h ?_
    intro x1 h
    refine rc_iload (pc := 33) hC dX1_appendBytes_33 rfl ?_
    refine rc_iload (pc := 35) hC dX1_appendBytes_35 rfl ?_
    refine rc_iushr (pc := 37) hC dX1_appendBytes_37 ?_
    refine rc_sipush (pc := 38) hC (v := (255 : Int32)) dX1_appendBytes_38 rfl ?_
    refine rc_iand (pc := 41) hC dX1_appendBytes_41 ?_
    refine rc_i2c (pc := 42) hC dX1_appendBytes_42 ?_
    obtain ⟨⟨fs, ho⟩, h⟩ := h.is
    refine rc_callV (pc := 43) hC rfl ho (rw_J3_append_3 hH.1 x1 (((((v5.toUInt32 >>> (v6.toUInt32 &&& Int32.toUInt32 31)).toInt32) &&& (255 : Int32)).toUInt32 % 65536).toInt32)) q1250 q1251 q1252 q120 q1253 rfl rd_J3_append_3 (hH.room (Nat.le_of_ble_eq_true rfl) (Nat.le_of_ble_eq_true rfl)) rfl rfl (Nat.le_of_ble_eq_true rfl) 1 rfl h.le.2.2 h.br rfl dX1_appendBytes_43 ?_ (fun E q S hT => rc_out hC hH.2.2.2.2 hT)
    intro x2 S h
    show rc_Z Y S 46 [some (rc_q v0), none, some (rc_q v2), some (rc_i v3), some (rc_i v4), some (rc_i v5), some (rc_i v6)] [rc_q x2]
    refine rc_pop (pc := 46) hC dX1_appendBytes_46 rfl ?_
    refine rc_iinc (pc := 47) hC (v := (v6 + (-8 : Int32))) (L' := [some (rc_q v0), none, some (rc_q v2), some (rc_i v3), some (rc_i v4), some (rc_i v5), some (rc_i (v6 + (-8 : Int32)))]) dX1_appendBytes_47 rfl rfl rfl rfl ?_
    refine rc_goto (pc := 50) (tgt := 24) hC dX1_appendBytes_50 rfl ?_
    exact ih v0 v2 v3 v4 v5 (v6 + (-8 : Int32)) S h
theorem rw_X1_appendBytes_L8 {Y : rc_Y} (hC : rc_C Y cX1_appendBytes RX1 (Option.none : Option Jvm.ClassFile.FieldType) 7) (hH : rc_H Y 8 179 yX1_appendBytes.name) : ∀ (n : Nat) (v0 : Option Nat) (v2 : Option Nat) (v3 : Int32) (v4 : Int32) (S : rc_S), rc_Go Y rc_tU (rp_X1_appendBytes_L8  n v0 v2 v3 v4) S → rc_Z Y S 8 [some (rc_q v0), none, some (rc_q v2), some (rc_i v3), some (rc_i v4), none, none] [] := by
  intro n
  induction n with
  | zero => intro v0 v2 v3 v4 S h; exact h.fail.elim
  | succ n ih =>
    intro v0 v2 v3 v4 S h
    rw [rp_X1_appendBytes_L8] at h
    refine rc_iload (pc := 8) hC dX1_appendBytes_8 rfl ?_
    refine rc_iload_n (pc := 10) hC dX1_appendBytes_10 rfl rfl ?_
    refine rc_icmp_ge (pc := 11) (tgt := 59) hC dX1_appendBytes_11 rfl h ?_ ?_
    · intro _ h
      exact rc_vret hC rfl dX1_appendBytes_59 h rfl
    intro _ h
    refine rc_aload_n (pc := 14) hC dX1_appendBytes_14 rfl rfl ?_
    refine rc_iload (pc := 15) hC dX1_appendBytes_15 rfl ?_
    refine rc_r_iald (pc := 17) hC dX1_appendBytes_17 h ?_
    intro x1 h
    refine rc_istore (pc := 18) hC (L' := [some (rc_q v0), none, some (rc_q v2), some (rc_i v3), some (rc_i v4), some (rc_i x1), none]) dX1_appendBytes_18 (Nat.le_of_ble_eq_true rfl) rfl rfl ?_
    refine rc_bipush (pc := 20) hC (v := (24 : Int32)) dX1_appendBytes_20 rfl ?_
    refine rc_istore (pc := 22) hC (L' := [some (rc_q v0), none, some (rc_q v2), some (rc_i v3), some (rc_i v4), some (rc_i x1), some (rc_i (24 : Int32))]) dX1_appendBytes_22 (Nat.le_of_ble_eq_true rfl) rfl rfl ?_
    refine rc_r_fuel h ?_
    intro x2 h
    exact rw_X1_appendBytes_L24 hC hH ih x2 v0 v2 v3 v4 x1 (24 : Int32) S h
theorem rw_X1_appendBytes {l : Launch} (hl : l.stackTraces = false) (v0 : Option Nat) (v1 : Option Nat) : rc_Ct l yX1_appendBytes (ws_ yX1_appendBytes cX1_appendBytes 7 (Option.none : Option Jvm.ClassFile.FieldType)) 8 179 rc_tU (rp_X1_appendBytes v0 v1) [rc_q v0, rc_q v1] := by
  refine rc_Ct_H hl (plainFor_of_name rY_X1) rfl (Nat.le_of_ble_eq_true rfl) (L0 := [some (rc_q v0), some (rc_q v1), none, none, none, none, none]) rfl ?_
  intro Y S hC hH h
  have hC : rc_C Y cX1_appendBytes RX1 (Option.none : Option Jvm.ClassFile.FieldType) 7 := hC
  unfold rp_X1_appendBytes at h
  refine rc_aload_n (pc := 0) hC dX1_appendBytes_0 rfl rfl ?_
  refine rc_astore_n (pc := 1) hC (L' := [some (rc_q v0), some (rc_q v1), some (rc_q v1), none, none, none, none]) dX1_appendBytes_1 rfl (Nat.le_of_ble_eq_true rfl) rfl rfl ?_
  refine rc_aload_n (pc := 2) hC dX1_appendBytes_2 rfl rfl ?_
  refine rc_r_alen (pc := 3) hC dX1_appendBytes_3 h ?_
  intro x1 h
  refine rc_istore_n (pc := 4) hC (L' := [some (rc_q v0), some (rc_q v1), some (rc_q v1), some (rc_i x1), none, none, none]) dX1_appendBytes_4 rfl (Nat.le_of_ble_eq_true rfl) rfl rfl ?_
  refine rc_iconst (pc := 5) hC (v := (0 : Int32)) dX1_appendBytes_5 rfl ?_
  refine rc_istore (pc := 6) hC (L' := [some (rc_q v0), some (rc_q v1), some (rc_q v1), some (rc_i x1), some (rc_i (0 : Int32)), none, none]) dX1_appendBytes_6 (Nat.le_of_ble_eq_true rfl) rfl rfl ?_
  refine rc_drop [true, false, true, true, true, false, false] (L' := [some (rc_q v0), none, some (rc_q v1), some (rc_i x1), some (rc_i (0 : Int32)), none, none]) rfl ?_
  refine rc_r_fuel h ?_
  intro x2 h
  exact rw_X1_appendBytes_L8 hC hH  x2 v0 v1 x1 (0 : Int32) S h
theorem rw_X1_append {l : Launch} (hl : l.stackTraces = false) (v0 : Option Nat) (v1 : Int32) (v2 : Int32) (v3 : Int32) (v4 : Int32) (v5 : Int32) : rc_Ct l yX1_append (ws_ yX1_append cX1_append 6 (Option.some Jvm.ClassFile.FieldType.int)) 9 205 rc_tI (rp_X1_append v0 v1 v2 v3 v4 v5) [rc_q v0, rc_i v1, rc_i v2, rc_i v3, rc_i v4, rc_i v5] := by
  refine rc_Ct_H hl (plainFor_of_name rY_X1) rfl (Nat.le_of_ble_eq_true rfl) (L0 := [some (rc_q v0), some (rc_i v1), some (rc_i v2), some (rc_i v3), some (rc_i v4), some (rc_i v5)]) rfl ?_
  intro Y S hC hH h
  have hC : rc_C Y cX1_append RX1 (Option.some Jvm.ClassFile.FieldType.int) 6 := hC
  unfold rp_X1_append at h
  refine rc_aload_n (pc := 0) hC dX1_append_0 rfl rfl ?_
  refine rc_r_getq (pc := 1) hC rF_X1_19 dX1_append_1 h ?_
  intro x1 h
  obtain ⟨⟨fs, ho⟩, h⟩ := h.is
  refine rc_callV (pc := 4) hC rfl ho (rw_J3_length hH.1 x1) q1245 q569 q2713 q120 q570 rfl rd_J3_length (hH.room (Nat.le_of_ble_eq_true rfl) (Nat.le_of_ble_eq_true rfl)) rfl rfl (Nat.le_of_ble_eq_true rfl) 0 rfl h.le.2.2 h.br rfl dX1_append_4 ?_ (fun E q S hT => rc_out hC hH.2.2.2.2 hT)
  intro x2 S h
  show rc_Z Y S 7 [some (rc_q v0), some (rc_i v1), some (rc_i v2), some (rc_i v3), some (rc_i v4), some (rc_i v5)] [rc_i x2]
  refine rc_bipush (pc := 7) hC (v := (20 : Int32)) dX1_append_7 rfl ?_
  refine rc_iadd (pc := 9) hC dX1_append_9 ?_
  refine rc_sipush (pc := 10) hC (v := (600 : Int32)) dX1_append_10 rfl ?_
  refine rc_icmp_le (pc := 13) (tgt := 18) hC dX1_append_13 rfl h ?_ ?_
  · intro _ h
    refine rc_aload_n (pc := 18) hC dX1_append_18 rfl rfl ?_
    refine rc_iconst (pc := 19) hC (v := (5 : Int32)) dX1_append_19 rfl ?_
    refine rc_r_newa (pc := 20) hC (t := 0) (atype := .int) (by decide) rfl q297 dX1_append_20 h ?_
    intro x3 S h
    refine rc_dup (pc := 22) hC dX1_append_22 rfl ?_
    refine rc_iconst (pc := 23) hC (v := (0 : Int32)) dX1_append_23 rfl ?_
    refine rc_iload_n (pc := 24) hC dX1_append_24 rfl rfl ?_
    refine rc_r_iast (pc := 25) hC dX1_append_25 h ?_
    intro S h
    refine rc_dup (pc := 26) hC dX1_append_26 rfl ?_
    refine rc_iconst (pc := 27) hC (v := (1 : Int32)) dX1_append_27 rfl ?_
    refine rc_iload_n (pc := 28) hC dX1_append_28 rfl rfl ?_
    refine rc_r_iast (pc := 29) hC dX1_append_29 h ?_
    intro S h
    refine rc_dup (pc := 30) hC dX1_append_30 rfl ?_
    refine rc_iconst (pc := 31) hC (v := (2 : Int32)) dX1_append_31 rfl ?_
    refine rc_iload_n (pc := 32) hC dX1_append_32 rfl rfl ?_
    refine rc_r_iast (pc := 33) hC dX1_append_33 h ?_
    intro S h
    refine rc_dup (pc := 34) hC dX1_append_34 rfl ?_
    refine rc_iconst (pc := 35) hC (v := (3 : Int32)) dX1_append_35 rfl ?_
    refine rc_iload (pc := 36) hC dX1_append_36 rfl ?_
    refine rc_r_iast (pc := 38) hC dX1_append_38 h ?_
    intro S h
    refine rc_dup (pc := 39) hC dX1_append_39 rfl ?_
    refine rc_iconst (pc := 40) hC (v := (4 : Int32)) dX1_append_40 rfl ?_
    refine rc_iload (pc := 41) hC dX1_append_41 rfl ?_
    refine rc_r_iast (pc := 43) hC dX1_append_43 h ?_
    intro S h
    obtain ⟨⟨fs, ho⟩, h⟩ := h.is
    refine rc_callV (pc := 44) hC rfl ho (rw_X1_appendBytes hH.1 v0 x3) q1246 q1248 qs19 q116 q1249 rfl rd_X1_appendBytes (hH.room (Nat.le_of_ble_eq_true rfl) (Nat.le_of_ble_eq_true rfl)) rfl rfl (Nat.le_of_ble_eq_true rfl) 1 rfl h.le.2.2 h.br rfl dX1_append_44 ?_ (fun E q S hT => rc_out hC hH.2.2.2.2 hT)
    intro _ S h
    show rc_Z Y S 47 [some (rc_q v0), some (rc_i v1), some (rc_i v2), some (rc_i v3), some (rc_i v4), some (rc_i v5)] []
    refine rc_aload_n (pc := 47) hC dX1_append_47 rfl rfl ?_
    refine rc_r_getq (pc := 48) hC rF_X1_19 dX1_append_48 h ?_
    intro x4 h
    obtain ⟨⟨fs, ho⟩, h⟩ := h.is
    refine rc_callV (pc := 51) hC rfl ho (rw_J3_length hH.1 x4) q1245 q569 q2713 q120 q570 rfl rd_J3_length (hH.room (Nat.le_of_ble_eq_true rfl) (Nat.le_of_ble_eq_true rfl)) rfl rfl (Nat.le_of_ble_eq_true rfl) 0 rfl h.le.2.2 h.br rfl dX1_append_51 ?_ (fun E q S hT => rc_out hC hH.2.2.2.2 hT)
    intro x5 S h
    show rc_Z Y S 54 [some (rc_q v0), some (rc_i v1), some (rc_i v2), some (rc_i v3), some (rc_i v4), some (rc_i v5)] [rc_i x5]
    exact rc_iret hC rfl rfl dX1_append_54 h rfl
  intro _ h
  refine rc_iconst (pc := 16) hC (v := (-1 : Int32)) dX1_append_16 rfl ?_
  exact rc_iret hC rfl rfl dX1_append_17 h rfl
theorem rw_X1_remember_L31 {Y : rc_Y} (hC : rc_C Y cX1_remember RX1 (Option.none : Option Jvm.ClassFile.FieldType) 1) (hH : rc_H Y 8 194 yX1_remember.name) (v0 : Option Nat) (S : rc_S) (h : rc_Go Y rc_tU (rp_X1_remember_L31  v0) S) : rc_Z Y S 31 [some (rc_q v0)] [] := by
  unfold rp_X1_remember_L31 at h
  refine rc_aload_n (pc := 31) hC dX1_remember_31 rfl rfl ?_
  refine rc_aload_n (pc := 32) hC dX1_remember_32 rfl rfl ?_
  refine rc_r_getq (pc := 33) hC rF_X1_44 dX1_remember_33 h ?_
  intro x1 h
  obtain ⟨⟨fs, ho⟩, h⟩ := h.is
  refine rc_callV (pc := 36) hC rfl ho (rw_X3_copy hH.1 x1) q1398 q1399 q1400 q126 q1401 rfl rd_X3_copy (hH.room (Nat.le_of_ble_eq_true rfl) (Nat.le_of_ble_eq_true rfl)) rfl rfl (Nat.le_of_ble_eq_true rfl) 0 rfl h.le.2.2 h.br rfl dX1_remember_36 ?_ (fun E q S hT => rc_out hC hH.2.2.2.2 hT)
  intro x2 S h
  show rc_Z Y S 39 [some (rc_q v0)] [rc_q x2, rc_q v0]
  refine rc_r_put (pc := 39) hC rP_X1_44 (nofun) dX1_remember_39 h ?_
  intro S h
  exact rc_vret hC rfl dX1_remember_42 h rfl
theorem rw_X1_remember {l : Launch} (hl : l.stackTraces = false) (v0 : Option Nat) : rc_Ct l yX1_remember (ws_ yX1_remember cX1_remember 1 (Option.none : Option Jvm.ClassFile.FieldType)) 8 194 rc_tU (rp_X1_remember v0) [rc_q v0] := by
  refine rc_Ct_H hl (plainFor_of_name rY_X1) rfl (Nat.le_of_ble_eq_true rfl) (L0 := [some (rc_q v0)]) rfl ?_
  intro Y S hC hH h
  have hC : rc_C Y cX1_remember RX1 (Option.none : Option Jvm.ClassFile.FieldType) 1 := hC
  unfold rp_X1_remember at h
  refine rc_aload_n (pc := 0) hC dX1_remember_0 rfl rfl ?_
  refine rc_r_getq (pc := 1) hC rF_X1_10 dX1_remember_1 h ?_
  intro x1 h
  refine rc_aload_n (pc := 4) hC dX1_remember_4 rfl rfl ?_
  refine rc_r_getq (pc := 5) hC rF_X1_44 dX1_remember_5 h ?_
  intro x2 h
  obtain ⟨⟨fs, ho⟩, h⟩ := h.is
  refine rc_callV (pc := 8) hC rfl ho (rw_J1_addLast hH.1 x1 x2) q1340 q1341 q1342 q118 q1343 rfl rd_J1_addLast (hH.room (Nat.le_of_ble_eq_true rfl) (Nat.le_of_ble_eq_true rfl)) rfl rfl (Nat.le_of_ble_eq_true rfl) 1 rfl h.le.2.2 h.br rfl dX1_remember_8 ?_ (fun E q S hT => rc_out hC hH.2.2.2.2 hT)
  intro _ S h
  show rc_Z Y S 11 [some (rc_q v0)] []
  refine rc_aload_n (pc := 11) hC dX1_remember_11 rfl rfl ?_
  refine rc_r_getq (pc := 12) hC rF_X1_10 dX1_remember_12 h ?_
  intro x3 h
  obtain ⟨⟨fs, ho⟩, h⟩ := h.is
  refine rc_callV (pc := 15) hC rfl ho (rw_J1_size hH.1 x3) q1365 q1366 q1367 q118 q1368 rfl rd_J1_size (hH.room (Nat.le_of_ble_eq_true rfl) (Nat.le_of_ble_eq_true rfl)) rfl rfl (Nat.le_of_ble_eq_true rfl) 0 rfl h.le.2.2 h.br rfl dX1_remember_15 ?_ (fun E q S hT => rc_out hC hH.2.2.2.2 hT)
  intro x4 S h
  show rc_Z Y S 18 [some (rc_q v0)] [rc_i x4]
  refine rc_bipush (pc := 18) hC (v := (8 : Int32)) dX1_remember_18 rfl ?_
  refine rc_icmp_le (pc := 20) (tgt := 31) hC dX1_remember_20 rfl h ?_ ?_
  · intro _ h
    exact rw_X1_remember_L31 hC hH  v0 S h
  intro _ h
  refine rc_aload_n (pc := 23) hC dX1_remember_23 rfl rfl ?_
  refine rc_r_getq (pc := 24) hC rF_X1_10 dX1_remember_24 h ?_
  intro x5 h
  obtain ⟨⟨fs, ho⟩, h⟩ := h.is
  refine rc_callV (pc := 27) hC rfl ho (rw_J1_removeFirst hH.1 x5) q1372 q1373 q1374 q118 q1375 rfl rd_J1_removeFirst (hH.room (Nat.le_of_ble_eq_true rfl) (Nat.le_of_ble_eq_true rfl)) rfl rfl (Nat.le_of_ble_eq_true rfl) 0 rfl h.le.2.2 h.br rfl dX1_remember_27 ?_ (fun E q S hT => rc_out hC hH.2.2.2.2 hT)
  intro x6 S h
  show rc_Z Y S 30 [some (rc_q v0)] [rc_q x6]
  refine rc_pop (pc := 30) hC dX1_remember_30 rfl ?_
  exact rw_X1_remember_L31 hC hH  v0 S h
theorem rw_X1_undo {l : Launch} (hl : l.stackTraces = false) (v0 : Option Nat) : rc_Ct l yX1_undo (ws_ yX1_undo cX1_undo 1 (Option.some Jvm.ClassFile.FieldType.int)) 7 110 rc_tI (rp_X1_undo v0) [rc_q v0] := by
  refine rc_Ct_H hl (plainFor_of_name rY_X1) rfl (Nat.le_of_ble_eq_true rfl) (L0 := [some (rc_q v0)]) rfl ?_
  intro Y S hC hH h
  have hC : rc_C Y cX1_undo RX1 (Option.some Jvm.ClassFile.FieldType.int) 1 := hC
  unfold rp_X1_undo at h
  refine rc_aload_n (pc := 0) hC dX1_undo_0 rfl rfl ?_
  refine rc_r_getq (pc := 1) hC rF_X1_10 dX1_undo_1 h ?_
  intro x1 h
  obtain ⟨⟨fs, ho⟩, h⟩ := h.is
  refine rc_callV (pc := 4) hC rfl ho (rw_J1_isEmpty hH.1 x1) q1476 q1477 q1478 q118 q1479 rfl rd_J1_isEmpty (hH.room (Nat.le_of_ble_eq_true rfl) (Nat.le_of_ble_eq_true rfl)) rfl rfl (Nat.le_of_ble_eq_true rfl) 0 rfl h.le.2.2 h.br rfl dX1_undo_4 ?_ (fun E q S hT => rc_out hC hH.2.2.2.2 hT)
  intro x2 S h
  show rc_Z Y S 7 [some (rc_q v0)] [rc_i x2]
  refine rc_if_eq (pc := 7) (tgt := 12) hC dX1_undo_7 rfl h ?_ ?_
  · intro _ h
    refine rc_aload_n (pc := 12) hC dX1_undo_12 rfl rfl ?_
    refine rc_aload_n (pc := 13) hC dX1_undo_13 rfl rfl ?_
    refine rc_r_getq (pc := 14) hC rF_X1_10 dX1_undo_14 h ?_
    intro x3 h
    obtain ⟨⟨fs, ho⟩, h⟩ := h.is
    refine rc_callV (pc := 17) hC rfl ho (rw_J1_removeLast hH.1 x3) q1480 q1481 q1482 q118 q1483 rfl rd_J1_removeLast (hH.room (Nat.le_of_ble_eq_true rfl) (Nat.le_of_ble_eq_true rfl)) rfl rfl (Nat.le_of_ble_eq_true rfl) 0 rfl h.le.2.2 h.br rfl dX1_undo_17 ?_ (fun E q S hT => rc_out hC hH.2.2.2.2 hT)
    intro x4 S h
    show rc_Z Y S 20 [some (rc_q v0)] [rc_q x4, rc_q v0]
    refine rc_r_cast (pc := 20) hC rK_X1_57 dX1_undo_20 h ?_
    intro h
    refine rc_r_put (pc := 23) hC rP_X1_44 (nofun) dX1_undo_23 h ?_
    intro S h
    refine rc_aload_n (pc := 26) hC dX1_undo_26 rfl rfl ?_
    refine rc_r_getq (pc := 27) hC rF_X1_10 dX1_undo_27 h ?_
    intro x5 h
    obtain ⟨⟨fs, ho⟩, h⟩ := h.is
    refine rc_callV (pc := 30) hC rfl ho (rw_J1_size hH.1 x5) q1365 q1366 q1367 q118 q1368 rfl rd_J1_size (hH.room (Nat.le_of_ble_eq_true rfl) (Nat.le_of_ble_eq_true rfl)) rfl rfl (Nat.le_of_ble_eq_true rfl) 0 rfl h.le.2.2 h.br rfl dX1_undo_30 ?_ (fun E q S hT => rc_out hC hH.2.2.2.2 hT)
    intro x6 S h
    show rc_Z Y S 33 [some (rc_q v0)] [rc_i x6]
    exact rc_iret hC rfl rfl dX1_undo_33 h rfl
  intro _ h
  refine rc_iconst (pc := 10) hC (v := (-1 : Int32)) dX1_undo_10 rfl ?_
  exact rc_iret hC rfl rfl dX1_undo_11 h rfl
theorem rw_X1_undoCount {l : Launch} (hl : l.stackTraces = false) (v0 : Option Nat) : rc_Ct l yX1_undoCount (ws_ yX1_undoCount cX1_undoCount 1 (Option.some Jvm.ClassFile.FieldType.int)) 2 42 rc_tI (rp_X1_undoCount v0) [rc_q v0] := by
  refine rc_Ct_H hl (plainFor_of_name rY_X1) rfl (Nat.le_of_ble_eq_true rfl) (L0 := [some (rc_q v0)]) rfl ?_
  intro Y S hC hH h
  have hC : rc_C Y cX1_undoCount RX1 (Option.some Jvm.ClassFile.FieldType.int) 1 := hC
  unfold rp_X1_undoCount at h
  refine rc_aload_n (pc := 0) hC dX1_undoCount_0 rfl rfl ?_
  refine rc_r_getq (pc := 1) hC rF_X1_10 dX1_undoCount_1 h ?_
  intro x1 h
  obtain ⟨⟨fs, ho⟩, h⟩ := h.is
  refine rc_callV (pc := 4) hC rfl ho (rw_J1_size hH.1 x1) q1365 q1366 q1367 q118 q1368 rfl rd_J1_size (hH.room (Nat.le_of_ble_eq_true rfl) (Nat.le_of_ble_eq_true rfl)) rfl rfl (Nat.le_of_ble_eq_true rfl) 0 rfl h.le.2.2 h.br rfl dX1_undoCount_4 ?_ (fun E q S hT => rc_out hC hH.2.2.2.2 hT)
  intro x2 S h
  show rc_Z Y S 7 [some (rc_q v0)] [rc_i x2]
  exact rc_iret hC rfl rfl dX1_undoCount_7 h rfl
theorem rw_X1_saveSnapshot {l : Launch} (hl : l.stackTraces = false) (v0 : Option Nat) : rc_Ct l yX1_saveSnapshot (ws_ yX1_saveSnapshot cX1_saveSnapshot 1 (Option.some Jvm.ClassFile.FieldType.int)) 8 194 rc_tI (rp_X1_saveSnapshot v0) [rc_q v0] := by
  refine rc_Ct_H hl (plainFor_of_name rY_X1) rfl (Nat.le_of_ble_eq_true rfl) (L0 := [some (rc_q v0)]) rfl ?_
  intro Y S hC hH h
  have hC : rc_C Y cX1_saveSnapshot RX1 (Option.some Jvm.ClassFile.FieldType.int) 1 := hC
  unfold rp_X1_saveSnapshot at h
  refine rc_aload_n (pc := 0) hC dX1_saveSnapshot_0 rfl rfl ?_
  refine rc_aload_n (pc := 1) hC dX1_saveSnapshot_1 rfl rfl ?_
  refine rc_r_getq (pc := 2) hC rF_X1_44 dX1_saveSnapshot_2 h ?_
  intro x1 h
  obtain ⟨⟨fs, ho⟩, h⟩ := h.is
  refine rc_callV (pc := 5) hC rfl ho (rw_X3_copy hH.1 x1) q1398 q1399 q1400 q126 q1401 rfl rd_X3_copy (hH.room (Nat.le_of_ble_eq_true rfl) (Nat.le_of_ble_eq_true rfl)) rfl rfl (Nat.le_of_ble_eq_true rfl) 0 rfl h.le.2.2 h.br rfl dX1_saveSnapshot_5 ?_ (fun E q S hT => rc_out hC hH.2.2.2.2 hT)
  intro x2 S h
  show rc_Z Y S 8 [some (rc_q v0)] [rc_q x2, rc_q v0]
  refine rc_r_put (pc := 8) hC rP_X1_231 (nofun) dX1_saveSnapshot_8 h ?_
  intro S h
  refine rc_aload_n (pc := 11) hC dX1_saveSnapshot_11 rfl rfl ?_
  refine rc_r_getq (pc := 12) hC rF_X1_44 dX1_saveSnapshot_12 h ?_
  intro x3 h
  refine rc_r_geti (pc := 15) hC rF_X1_219 dX1_saveSnapshot_15 h ?_
  intro x4 h
  exact rc_iret hC rfl rfl dX1_saveSnapshot_18 h rfl
theorem rw_X1_scriptErrorKind {l : Launch} (hl : l.stackTraces = false) (v0 : Option Nat) : rc_Ct l yX1_scriptErrorKind (ws_ yX1_scriptErrorKind cX1_scriptErrorKind 1 (Option.some Jvm.ClassFile.FieldType.int)) 0 0 rc_tI (rp_X1_scriptErrorKind v0) [rc_q v0] := by
  refine rc_Ct_H hl (plainFor_of_name rY_X1) rfl (Nat.le_of_ble_eq_true rfl) (L0 := [some (rc_q v0)]) rfl ?_
  intro Y S hC hH h
  have hC : rc_C Y cX1_scriptErrorKind RX1 (Option.some Jvm.ClassFile.FieldType.int) 1 := hC
  unfold rp_X1_scriptErrorKind at h
  refine rc_aload_n (pc := 0) hC dX1_scriptErrorKind_0 rfl rfl ?_
  refine rc_r_geti (pc := 1) hC rF_X1_133 dX1_scriptErrorKind_1 h ?_
  intro x1 h
  exact rc_iret hC rfl rfl dX1_scriptErrorKind_4 h rfl
theorem rw_X1_scriptErrorOffset {l : Launch} (hl : l.stackTraces = false) (v0 : Option Nat) : rc_Ct l yX1_scriptErrorOffset (ws_ yX1_scriptErrorOffset cX1_scriptErrorOffset 1 (Option.some Jvm.ClassFile.FieldType.int)) 0 0 rc_tI (rp_X1_scriptErrorOffset v0) [rc_q v0] := by
  refine rc_Ct_H hl (plainFor_of_name rY_X1) rfl (Nat.le_of_ble_eq_true rfl) (L0 := [some (rc_q v0)]) rfl ?_
  intro Y S hC hH h
  have hC : rc_C Y cX1_scriptErrorOffset RX1 (Option.some Jvm.ClassFile.FieldType.int) 1 := hC
  unfold rp_X1_scriptErrorOffset at h
  refine rc_aload_n (pc := 0) hC dX1_scriptErrorOffset_0 rfl rfl ?_
  refine rc_r_geti (pc := 1) hC rF_X1_29 dX1_scriptErrorOffset_1 h ?_
  intro x1 h
  exact rc_iret hC rfl rfl dX1_scriptErrorOffset_4 h rfl
theorem rw_X1_chimneyCount {l : Launch} (hl : l.stackTraces = false) (v0 : Option Nat) : rc_Ct l yX1_chimneyCount (ws_ yX1_chimneyCount cX1_chimneyCount 1 (Option.some Jvm.ClassFile.FieldType.int)) 1 20 rc_tI (rp_X1_chimneyCount v0) [rc_q v0] := by
  refine rc_Ct_H hl (plainFor_of_name rY_X1) rfl (Nat.le_of_ble_eq_true rfl) (L0 := [some (rc_q v0)]) rfl ?_
  intro Y S hC hH h
  have hC : rc_C Y cX1_chimneyCount RX1 (Option.some Jvm.ClassFile.FieldType.int) 1 := hC
  unfold rp_X1_chimneyCount at h
  refine rc_aload_n (pc := 0) hC dX1_chimneyCount_0 rfl rfl ?_
  refine rc_r_getq (pc := 1) hC rF_X1_44 dX1_chimneyCount_1 h ?_
  intro x1 h
  refine rc_r_getq (pc := 4) hC rF_X1_56 dX1_chimneyCount_4 h ?_
  intro x2 h
  obtain ⟨⟨fs, ho⟩, h⟩ := h.is
  refine rc_callF (x0 := rc_xsize) (y := yJ7_size) (pc := 7) hC rfl ho (rw_J7_size hH.1 x2) q1471 q823 q825 q128 q827 (List.mem_of_getElem? (i := 0) rfl) ⟨by decide, by decide, rd_J7_size.2.2⟩ (hH.room (Nat.le_of_ble_eq_true rfl) (Nat.le_of_ble_eq_true rfl)) rfl rfl (Nat.le_of_ble_eq_true rfl) 0 rfl h.le.2.2 h.br rfl dX1_chimneyCount_7 ?_ (fun E q S hT => rc_out hC hH.2.2.2.2 hT)
  intro x3 S h
  show rc_Z Y S 12 [some (rc_q v0)] [rc_i x3]
  exact rc_iret hC rfl rfl dX1_chimneyCount_12 h rfl
theorem rw_X1_gutterCount {l : Launch} (hl : l.stackTraces = false) (v0 : Option Nat) : rc_Ct l yX1_gutterCount (ws_ yX1_gutterCount cX1_gutterCount 1 (Option.some Jvm.ClassFile.FieldType.int)) 1 20 rc_tI (rp_X1_gutterCount v0) [rc_q v0] := by
  refine rc_Ct_H hl (plainFor_of_name rY_X1) rfl (Nat.le_of_ble_eq_true rfl) (L0 := [some (rc_q v0)]) rfl ?_
  intro Y S hC hH h
  have hC : rc_C Y cX1_gutterCount RX1 (Option.some Jvm.ClassFile.FieldType.int) 1 := hC
  unfold rp_X1_gutterCount at h
  refine rc_aload_n (pc := 0) hC dX1_gutterCount_0 rfl rfl ?_
  refine rc_r_getq (pc := 1) hC rF_X1_44 dX1_gutterCount_1 h ?_
  intro x1 h
  refine rc_r_getq (pc := 4) hC rF_X1_75 dX1_gutterCount_4 h ?_
  intro x2 h
  obtain ⟨⟨fs, ho⟩, h⟩ := h.is
  refine rc_callF (x0 := rc_xsize) (y := yJ7_size) (pc := 7) hC rfl ho (rw_J7_size hH.1 x2) q1471 q823 q825 q128 q827 (List.mem_of_getElem? (i := 0) rfl) ⟨by decide, by decide, rd_J7_size.2.2⟩ (hH.room (Nat.le_of_ble_eq_true rfl) (Nat.le_of_ble_eq_true rfl)) rfl rfl (Nat.le_of_ble_eq_true rfl) 0 rfl h.le.2.2 h.br rfl dX1_gutterCount_7 ?_ (fun E q S hT => rc_out hC hH.2.2.2.2 hT)
  intro x3 S h
  show rc_Z Y S 12 [some (rc_q v0)] [rc_i x3]
  exact rc_iret hC rfl rfl dX1_gutterCount_12 h rfl
theorem rw_X1_catCount {l : Launch} (hl : l.stackTraces = false) (v0 : Option Nat) : rc_Ct l yX1_catCount (ws_ yX1_catCount cX1_catCount 1 (Option.some Jvm.ClassFile.FieldType.int)) 1 20 rc_tI (rp_X1_catCount v0) [rc_q v0] := by
  refine rc_Ct_H hl (plainFor_of_name rY_X1) rfl (Nat.le_of_ble_eq_true rfl) (L0 := [some (rc_q v0)]) rfl ?_
  intro Y S hC hH h
  have hC : rc_C Y cX1_catCount RX1 (Option.some Jvm.ClassFile.FieldType.int) 1 := hC
  unfold rp_X1_catCount at h
  refine rc_aload_n (pc := 0) hC dX1_catCount_0 rfl rfl ?_
  refine rc_r_getq (pc := 1) hC rF_X1_44 dX1_catCount_1 h ?_
  intro x1 h
  refine rc_r_getq (pc := 4) hC rF_X1_72 dX1_catCount_4 h ?_
  intro x2 h
  obtain ⟨⟨fs, ho⟩, h⟩ := h.is
  refine rc_callF (x0 := rc_xsize) (y := yJ7_size) (pc := 7) hC rfl ho (rw_J7_size hH.1 x2) q1471 q823 q825 q128 q827 (List.mem_of_getElem? (i := 0) rfl) ⟨by decide, by decide, rd_J7_size.2.2⟩ (hH.room (Nat.le_of_ble_eq_true rfl) (Nat.le_of_ble_eq_true rfl)) rfl rfl (Nat.le_of_ble_eq_true rfl) 0 rfl h.le.2.2 h.br rfl dX1_catCount_7 ?_ (fun E q S hT => rc_out hC hH.2.2.2.2 hT)
  intro x3 S h
  show rc_Z Y S 12 [some (rc_q v0)] [rc_i x3]
  exact rc_iret hC rfl rfl dX1_catCount_12 h rfl
theorem rw_X1_night {l : Launch} (hl : l.stackTraces = false) (v0 : Option Nat) : rc_Ct l yX1_night (ws_ yX1_night cX1_night 1 (Option.some Jvm.ClassFile.FieldType.int)) 0 0 rc_tI (rp_X1_night v0) [rc_q v0] := by
  refine rc_Ct_H hl (plainFor_of_name rY_X1) rfl (Nat.le_of_ble_eq_true rfl) (L0 := [some (rc_q v0)]) rfl ?_
  intro Y S hC hH h
  have hC : rc_C Y cX1_night RX1 (Option.some Jvm.ClassFile.FieldType.int) 1 := hC
  unfold rp_X1_night at h
  refine rc_aload_n (pc := 0) hC dX1_night_0 rfl rfl ?_
  refine rc_r_getq (pc := 1) hC rF_X1_44 dX1_night_1 h ?_
  intro x1 h
  refine rc_r_geti (pc := 4) hC rF_X1_219 dX1_night_4 h ?_
  intro x2 h
  exact rc_iret hC rfl rfl dX1_night_7 h rfl
theorem rw_X1_moonPhase {l : Launch} (hl : l.stackTraces = false) (v0 : Option Nat) : rc_Ct l yX1_moonPhase (ws_ yX1_moonPhase cX1_moonPhase 1 (Option.some Jvm.ClassFile.FieldType.int)) 0 0 rc_tI (rp_X1_moonPhase v0) [rc_q v0] := by
  refine rc_Ct_H hl (plainFor_of_name rY_X1) rfl (Nat.le_of_ble_eq_true rfl) (L0 := [some (rc_q v0)]) rfl ?_
  intro Y S hC hH h
  have hC : rc_C Y cX1_moonPhase RX1 (Option.some Jvm.ClassFile.FieldType.int) 1 := hC
  unfold rp_X1_moonPhase at h
  refine rc_aload_n (pc := 0) hC dX1_moonPhase_0 rfl rfl ?_
  refine rc_r_getq (pc := 1) hC rF_X1_44 dX1_moonPhase_1 h ?_
  intro x1 h
  refine rc_r_geti (pc := 4) hC rF_X1_219 dX1_moonPhase_4 h ?_
  intro x2 h
  refine rc_bipush (pc := 7) hC (v := (8 : Int32)) dX1_moonPhase_7 rfl ?_
  refine rc_irem (pc := 9) hC dX1_moonPhase_9 (by decide) ?_
  exact rc_iret hC rfl rfl dX1_moonPhase_10 h rfl
theorem rw_X1_warmestFree {l : Launch} (hl : l.stackTraces = false) (v0 : Option Nat) : rc_Ct l yX1_warmestFree (ws_ yX1_warmestFree cX1_warmestFree 1 (Option.some Jvm.ClassFile.FieldType.int)) 5 108 rc_tI (rp_X1_warmestFree v0) [rc_q v0] := by
  refine rc_Ct_H hl (plainFor_of_name rY_X1) rfl (Nat.le_of_ble_eq_true rfl) (L0 := [some (rc_q v0)]) rfl ?_
  intro Y S hC hH h
  have hC : rc_C Y cX1_warmestFree RX1 (Option.some Jvm.ClassFile.FieldType.int) 1 := hC
  unfold rp_X1_warmestFree at h
  refine rc_aload_n (pc := 0) hC dX1_warmestFree_0 rfl rfl ?_
  refine rc_r_getq (pc := 1) hC rF_X1_44 dX1_warmestFree_1 h ?_
  intro x1 h
  obtain ⟨⟨fs, ho⟩, h⟩ := h.is
  refine rc_callV (pc := 4) hC rfl ho (rw_X3_warmestFree hH.1 x1) q1532 q1187 q1188 q126 q1189 rfl rd_X3_warmestFree (hH.room (Nat.le_of_ble_eq_true rfl) (Nat.le_of_ble_eq_true rfl)) rfl rfl (Nat.le_of_ble_eq_true rfl) 0 rfl h.le.2.2 h.br rfl dX1_warmestFree_4 ?_ (fun E q S hT => rc_out hC hH.2.2.2.2 hT)
  intro x2 S h
  show rc_Z Y S 7 [some (rc_q v0)] [rc_i x2]
  exact rc_iret hC rfl rfl dX1_warmestFree_7 h rfl
theorem rw_X1_isKittenWaiting {l : Launch} (hl : l.stackTraces = false) (v0 : Option Nat) : rc_Ct l yX1_isKittenWaiting (ws_ yX1_isKittenWaiting cX1_isKittenWaiting 1 (Option.some Jvm.ClassFile.FieldType.boolean)) 0 0 rc_tI (rp_X1_isKittenWaiting v0) [rc_q v0] := by
  refine rc_Ct_H hl (plainFor_of_name rY_X1) rfl (Nat.le_of_ble_eq_true rfl) (L0 := [some (rc_q v0)]) rfl ?_
  intro Y S hC hH h
  have hC : rc_C Y cX1_isKittenWaiting RX1 (Option.some Jvm.ClassFile.FieldType.boolean) 1 := hC
  unfold rp_X1_isKittenWaiting at h
  refine rc_aload_n (pc := 0) hC dX1_isKittenWaiting_0 rfl rfl ?_
  refine rc_r_getq (pc := 1) hC rF_X1_44 dX1_isKittenWaiting_1 h ?_
  intro x1 h
  refine rc_r_getq (pc := 4) hC rF_X1_296 dX1_isKittenWaiting_4 h ?_
  intro x2 h
  refine rc_ifnull (pc := 7) (tgt := 14) hC dX1_isKittenWaiting_7 rfl h ?_ ?_
  · intro _ h
    refine rc_iconst (pc := 14) hC (v := (0 : Int32)) dX1_isKittenWaiting_14 rfl ?_
    exact rc_iret hC rfl rfl dX1_isKittenWaiting_15 h rfl
  intro _ h
  refine rc_iconst (pc := 10) hC (v := (1 : Int32)) dX1_isKittenWaiting_10 rfl ?_
  refine rc_goto (pc := 11) (tgt := 15) hC dX1_isKittenWaiting_11 rfl ?_
  exact rc_iret hC rfl rfl dX1_isKittenWaiting_15 h rfl
theorem rw_X1_votesFor {l : Launch} (hl : l.stackTraces = false) (v0 : Option Nat) : rc_Ct l yX1_votesFor (ws_ yX1_votesFor cX1_votesFor 1 (Option.some Jvm.ClassFile.FieldType.int)) 1 20 rc_tI (rp_X1_votesFor v0) [rc_q v0] := by
  refine rc_Ct_H hl (plainFor_of_name rY_X1) rfl (Nat.le_of_ble_eq_true rfl) (L0 := [some (rc_q v0)]) rfl ?_
  intro Y S hC hH h
  have hC : rc_C Y cX1_votesFor RX1 (Option.some Jvm.ClassFile.FieldType.int) 1 := hC
  unfold rp_X1_votesFor at h
  refine rc_aload_n (pc := 0) hC dX1_votesFor_0 rfl rfl ?_
  refine rc_r_getq (pc := 1) hC rF_X1_44 dX1_votesFor_1 h ?_
  intro x1 h
  refine rc_r_getq (pc := 4) hC rF_X1_296 dX1_votesFor_4 h ?_
  intro x2 h
  refine rc_ifnonnull (pc := 7) (tgt := 14) hC dX1_votesFor_7 rfl h ?_ ?_
  · intro _ h
    refine rc_aload_n (pc := 14) hC dX1_votesFor_14 rfl rfl ?_
    refine rc_r_getq (pc := 15) hC rF_X1_44 dX1_votesFor_15 h ?_
    intro x3 h
    refine rc_r_getq (pc := 18) hC rF_X1_296 dX1_votesFor_18 h ?_
    intro x4 h
    obtain ⟨⟨fs, ho⟩, h⟩ := h.is
    refine rc_callV (pc := 21) hC rfl ho (rw_X8_yes hH.1 x4) q1541 q1179 q1180 q147 q1181 rfl rd_X8_yes (hH.room (Nat.le_of_ble_eq_true rfl) (Nat.le_of_ble_eq_true rfl)) rfl rfl (Nat.le_of_ble_eq_true rfl) 0 rfl h.le.2.2 h.br rfl dX1_votesFor_21 ?_ (fun E q S hT => rc_out hC hH.2.2.2.2 hT)
    intro x5 S h
    show rc_Z Y S 24 [some (rc_q v0)] [rc_i x5]
    refine rc_callS (pc := 24) hC (rw_J15_bitCount hH.1 x5) q1542 q1010 q137 q1011 rd_J15_bitCount (hH.room (Nat.le_of_ble_eq_true rfl) (Nat.le_of_ble_eq_true rfl)) rfl rfl (Nat.le_of_ble_eq_true rfl) 1 rfl h.le.2.2 h.br rfl dX1_votesFor_24 ?_ (fun E q S hT => rc_out hC hH.2.2.2.2 hT)
    intro x6 S h
    show rc_Z Y S 27 [some (rc_q v0)] [rc_i x6]
    exact rc_iret hC rfl rfl dX1_votesFor_27 h rfl
  intro _ h
  refine rc_iconst (pc := 10) hC (v := (0 : Int32)) dX1_votesFor_10 rfl ?_
  refine rc_goto (pc := 11) (tgt := 27) hC dX1_votesFor_11 rfl ?_
  exact rc_iret hC rfl rfl dX1_votesFor_27 h rfl
theorem rw_X1_votesAgainst {l : Launch} (hl : l.stackTraces = false) (v0 : Option Nat) : rc_Ct l yX1_votesAgainst (ws_ yX1_votesAgainst cX1_votesAgainst 1 (Option.some Jvm.ClassFile.FieldType.int)) 1 20 rc_tI (rp_X1_votesAgainst v0) [rc_q v0] := by
  refine rc_Ct_H hl (plainFor_of_name rY_X1) rfl (Nat.le_of_ble_eq_true rfl) (L0 := [some (rc_q v0)]) rfl ?_
  intro Y S hC hH h
  have hC : rc_C Y cX1_votesAgainst RX1 (Option.some Jvm.ClassFile.FieldType.int) 1 := hC
  unfold rp_X1_votesAgainst at h
  refine rc_aload_n (pc := 0) hC dX1_votesAgainst_0 rfl rfl ?_
  refine rc_r_getq (pc := 1) hC rF_X1_44 dX1_votesAgainst_1 h ?_
  intro x1 h
  refine rc_r_getq (pc := 4) hC rF_X1_296 dX1_votesAgainst_4 h ?_
  intro x2 h
  refine rc_ifnonnull (pc := 7) (tgt := 14) hC dX1_votesAgainst_7 rfl h ?_ ?_
  · intro _ h
    refine rc_aload_n (pc := 14) hC dX1_votesAgainst_14 rfl rfl ?_
    refine rc_r_getq (pc := 15) hC rF_X1_44 dX1_votesAgainst_15 h ?_
    intro x3 h
    refine rc_r_getq (pc := 18) hC rF_X1_296 dX1_votesAgainst_18 h ?_
    intro x4 h
    obtain ⟨⟨fs, ho⟩, h⟩ := h.is
    refine rc_callV (pc := 21) hC rfl ho (rw_X8_no hH.1 x4) q1547 q1183 q1184 q147 q1185 rfl rd_X8_no (hH.room (Nat.le_of_ble_eq_true rfl) (Nat.le_of_ble_eq_true rfl)) rfl rfl (Nat.le_of_ble_eq_true rfl) 0 rfl h.le.2.2 h.br rfl dX1_votesAgainst_21 ?_ (fun E q S hT => rc_out hC hH.2.2.2.2 hT)
    intro x5 S h
    show rc_Z Y S 24 [some (rc_q v0)] [rc_i x5]
    refine rc_callS (pc := 24) hC (rw_J15_bitCount hH.1 x5) q1542 q1010 q137 q1011 rd_J15_bitCount (hH.room (Nat.le_of_ble_eq_true rfl) (Nat.le_of_ble_eq_true rfl)) rfl rfl (Nat.le_of_ble_eq_true rfl) 1 rfl h.le.2.2 h.br rfl dX1_votesAgainst_24 ?_ (fun E q S hT => rc_out hC hH.2.2.2.2 hT)
    intro x6 S h
    show rc_Z Y S 27 [some (rc_q v0)] [rc_i x6]
    exact rc_iret hC rfl rfl dX1_votesAgainst_27 h rfl
  intro _ h
  refine rc_iconst (pc := 10) hC (v := (0 : Int32)) dX1_votesAgainst_10 rfl ?_
  refine rc_goto (pc := 11) (tgt := 27) hC dX1_votesAgainst_11 rfl ?_
  exact rc_iret hC rfl rfl dX1_votesAgainst_27 h rfl
theorem rw_X1_choirCount {l : Launch} (hl : l.stackTraces = false) (v0 : Option Nat) : rc_Ct l yX1_choirCount (ws_ yX1_choirCount cX1_choirCount 1 (Option.some Jvm.ClassFile.FieldType.int)) 6 134 rc_tI (rp_X1_choirCount v0) [rc_q v0] := by
  refine rc_Ct_H hl (plainFor_of_name rY_X1) rfl (Nat.le_of_ble_eq_true rfl) (L0 := [some (rc_q v0)]) rfl ?_
  intro Y S hC hH h
  have hC : rc_C Y cX1_choirCount RX1 (Option.some Jvm.ClassFile.FieldType.int) 1 := hC
  unfold rp_X1_choirCount at h
  refine rc_aload_n (pc := 0) hC dX1_choirCount_0 rfl rfl ?_
  refine rc_r_getq (pc := 1) hC rF_X1_44 dX1_choirCount_1 h ?_
  intro x1 h
  obtain ⟨⟨fs, ho⟩, h⟩ := h.is
  refine rc_callV (pc := 4) hC rfl ho (rw_X3_choirCount hH.1 x1) q1552 q1553 q1554 q126 q1555 rfl rd_X3_choirCount (hH.room (Nat.le_of_ble_eq_true rfl) (Nat.le_of_ble_eq_true rfl)) rfl rfl (Nat.le_of_ble_eq_true rfl) 0 rfl h.le.2.2 h.br rfl dX1_choirCount_4 ?_ (fun E q S hT => rc_out hC hH.2.2.2.2 hT)
  intro x2 S h
  show rc_Z Y S 7 [some (rc_q v0)] [rc_i x2]
  exact rc_iret hC rfl rfl dX1_choirCount_7 h rfl
theorem rw_X1_largestChoir {l : Launch} (hl : l.stackTraces = false) (v0 : Option Nat) : rc_Ct l yX1_largestChoir (ws_ yX1_largestChoir cX1_largestChoir 1 (Option.some Jvm.ClassFile.FieldType.int)) 6 135 rc_tI (rp_X1_largestChoir v0) [rc_q v0] := by
  refine rc_Ct_H hl (plainFor_of_name rY_X1) rfl (Nat.le_of_ble_eq_true rfl) (L0 := [some (rc_q v0)]) rfl ?_
  intro Y S hC hH h
  have hC : rc_C Y cX1_largestChoir RX1 (Option.some Jvm.ClassFile.FieldType.int) 1 := hC
  unfold rp_X1_largestChoir at h
  refine rc_aload_n (pc := 0) hC dX1_largestChoir_0 rfl rfl ?_
  refine rc_r_getq (pc := 1) hC rF_X1_44 dX1_largestChoir_1 h ?_
  intro x1 h
  obtain ⟨⟨fs, ho⟩, h⟩ := h.is
  refine rc_callV (pc := 4) hC rfl ho (rw_X3_largestChoir hH.1 x1) q1564 q1145 q1146 q126 q1147 rfl rd_X3_largestChoir (hH.room (Nat.le_of_ble_eq_true rfl) (Nat.le_of_ble_eq_true rfl)) rfl rfl (Nat.le_of_ble_eq_true rfl) 0 rfl h.le.2.2 h.br rfl dX1_largestChoir_4 ?_ (fun E q S hT => rc_out hC hH.2.2.2.2 hT)
  intro x2 S h
  show rc_Z Y S 7 [some (rc_q v0)] [rc_i x2]
  exact rc_iret hC rfl rfl dX1_largestChoir_7 h rfl
theorem rw_X1_nightsToFullMoon {l : Launch} (hl : l.stackTraces = false) (v0 : Option Nat) : rc_Ct l yX1_nightsToFullMoon (ws_ yX1_nightsToFullMoon cX1_nightsToFullMoon 2 (Option.some Jvm.ClassFile.FieldType.int)) 0 0 rc_tI (rp_X1_nightsToFullMoon v0) [rc_q v0] := by
  refine rc_Ct_H hl (plainFor_of_name rY_X1) rfl (Nat.le_of_ble_eq_true rfl) (L0 := [some (rc_q v0), none]) rfl ?_
  intro Y S hC hH h
  have hC : rc_C Y cX1_nightsToFullMoon RX1 (Option.some Jvm.ClassFile.FieldType.int) 2 := hC
  unfold rp_X1_nightsToFullMoon at h
  refine rc_iconst (pc := 0) hC (v := (4 : Int32)) dX1_nightsToFullMoon_0 rfl ?_
  refine rc_aload_n (pc := 1) hC dX1_nightsToFullMoon_1 rfl rfl ?_
  refine rc_r_getq (pc := 2) hC rF_X1_44 dX1_nightsToFullMoon_2 h ?_
  intro x1 h
  refine rc_r_geti (pc := 5) hC rF_X1_219 dX1_nightsToFullMoon_5 h ?_
  intro x2 h
  refine rc_bipush (pc := 8) hC (v := (8 : Int32)) dX1_nightsToFullMoon_8 rfl ?_
  refine rc_irem (pc := 10) hC dX1_nightsToFullMoon_10 (by decide) ?_
  refine rc_isub (pc := 11) hC dX1_nightsToFullMoon_11 ?_
  refine rc_bipush (pc := 12) hC (v := (8 : Int32)) dX1_nightsToFullMoon_12 rfl ?_
  refine rc_iadd (pc := 14) hC dX1_nightsToFullMoon_14 ?_
  refine rc_bipush (pc := 15) hC (v := (8 : Int32)) dX1_nightsToFullMoon_15 rfl ?_
  refine rc_irem (pc := 17) hC dX1_nightsToFullMoon_17 (by decide) ?_
  refine rc_istore_n (pc := 18) hC (L' := [some (rc_q v0), some (rc_i ((((4 : Int32) - (x2 - x2 / (8 : Int32) * (8 : Int32))) + (8 : Int32)) - (((4 : Int32) - (x2 - x2 / (8 : Int32) * (8 : Int32))) + (8 : Int32)) / (8 : Int32) * (8 : Int32)))]) dX1_nightsToFullMoon_18 rfl (Nat.le_of_ble_eq_true rfl) rfl rfl ?_
  refine rc_iload_n (pc := 19) hC dX1_nightsToFullMoon_19 rfl rfl ?_
  refine rc_if_ne (pc := 20) (tgt := 28) hC dX1_nightsToFullMoon_20 rfl h ?_ ?_
  · intro _ h
    refine rc_iload_n (pc := 28) hC dX1_nightsToFullMoon_28 rfl rfl ?_
    exact rc_iret hC rfl rfl dX1_nightsToFullMoon_29 h rfl
  intro _ h
  refine rc_bipush (pc := 23) hC (v := (8 : Int32)) dX1_nightsToFullMoon_23 rfl ?_
  refine rc_goto (pc := 25) (tgt := 29) hC dX1_nightsToFullMoon_25 rfl ?_
  exact rc_iret hC rfl rfl dX1_nightsToFullMoon_29 h rfl
theorem rw_X1_richestCat_L68 {Y : rc_Y} (hC : rc_C Y cX1_richestCat RX1 (Option.some Jvm.ClassFile.FieldType.int) 3) (hH : rc_H Y 3 64 yX1_richestCat.name) {k4 : Option Nat → Int32 → Int32 → rc_M Int32} (hk4 : ∀ (v0 : Option Nat) (v1 : Int32) (v2 : Int32) (S : rc_S), rc_Go Y rc_tI (k4 v0 v1 v2) S → rc_Z Y S 4 [some (rc_q v0), some (rc_i v1), some (rc_i v2)] []) (v0 : Option Nat) (v1 : Int32) (v2 : Int32) (S : rc_S) (h : rc_Go Y rc_tI (rp_X1_richestCat_L68 k4 v0 v1 v2) S) : rc_Z Y S 68 [some (rc_q v0), some (rc_i v1), some (rc_i v2)] [] := by
  unfold rp_X1_richestCat_L68 at h
  refine rc_iinc (pc := 68) hC (v := (v2 + (1 : Int32))) (L' := [some (rc_q v0), some (rc_i v1), some (rc_i (v2 + (1 : Int32)))]) dX1_richestCat_68 rfl rfl rfl rfl ?_
  refine rc_goto (pc := 71) (tgt := 4) hC dX1_richestCat_71 rfl ?_
  exact hk4 v0 v1 (v2 + (1 : Int32)) S h
theorem rw_X1_richestCat_L66 {Y : rc_Y} (hC : rc_C Y cX1_richestCat RX1 (Option.some Jvm.ClassFile.FieldType.int) 3) (hH : rc_H Y 3 64 yX1_richestCat.name) {k4 : Option Nat → Int32 → Int32 → rc_M Int32} (hk4 : ∀ (v0 : Option Nat) (v1 : Int32) (v2 : Int32) (S : rc_S), rc_Go Y rc_tI (k4 v0 v1 v2) S → rc_Z Y S 4 [some (rc_q v0), some (rc_i v1), some (rc_i v2)] []) (v0 : Option Nat) (v2 : Int32) (S : rc_S) (h : rc_Go Y rc_tI (rp_X1_richestCat_L66 k4 v0 v2) S) : rc_Z Y S 66 [some (rc_q v0), none, some (rc_i v2)] [] := by
  unfold rp_X1_richestCat_L66 at h
  refine rc_iload_n (pc := 66) hC dX1_richestCat_66 rfl rfl ?_
  refine rc_istore_n (pc := 67) hC (L' := [some (rc_q v0), some (rc_i v2), some (rc_i v2)]) dX1_richestCat_67 rfl (Nat.le_of_ble_eq_true rfl) rfl rfl ?_
  exact rw_X1_richestCat_L68 hC hH hk4 v0 v2 v2 S h
theorem rw_X1_richestCat_L4 {Y : rc_Y} (hC : rc_C Y cX1_richestCat RX1 (Option.some Jvm.ClassFile.FieldType.int) 3) (hH : rc_H Y 3 64 yX1_richestCat.name) : ∀ (n : Nat) (v0 : Option Nat) (v1 : Int32) (v2 : Int32) (S : rc_S), rc_Go Y rc_tI (rp_X1_richestCat_L4  n v0 v1 v2) S → rc_Z Y S 4 [some (rc_q v0), some (rc_i v1), some (rc_i v2)] [] := by
  intro n
  induction n with
  | zero => intro v0 v1 v2 S h; exact h.fail.elim
  | succ n ih =>
    intro v0 v1 v2 S h
    rw [rp_X1_richestCat_L4] at h
    refine rc_iload_n (pc := 4) hC dX1_richestCat_4 rfl rfl ?_
    refine rc_aload_n (pc := 5) hC dX1_richestCat_5 rfl rfl ?_
    refine rc_r_getq (pc := 6) hC rF_X1_44 dX1_richestCat_6 h ?_
    intro x1 h
    refine rc_r_getq (pc := 9) hC rF_X1_72 dX1_richestCat_9 h ?_
    intro x2 h
    obtain ⟨⟨fs, ho⟩, h⟩ := h.is
    refine rc_callF (x0 := rc_xsize) (y := yJ7_size) (pc := 12) hC rfl ho (rw_J7_size hH.1 x2) q1471 q823 q825 q128 q827 (List.mem_of_getElem? (i := 0) rfl) ⟨by decide, by decide, rd_J7_size.2.2⟩ (hH.room (Nat.le_of_ble_eq_true rfl) (Nat.le_of_ble_eq_true rfl)) rfl rfl (Nat.le_of_ble_eq_true rfl) 0 rfl h.le.2.2 h.br rfl dX1_richestCat_12 ?_ (fun E q S hT => rc_out hC hH.2.2.2.2 hT)
    intro x3 S h
    show rc_Z Y S 17 [some (rc_q v0), some (rc_i v1), some (rc_i v2)] [rc_i x3, rc_i v2]
    refine rc_icmp_ge (pc := 17) (tgt := 74) hC dX1_richestCat_17 rfl h ?_ ?_
    · intro _ h
      refine rc_iload_n (pc := 74) hC dX1_richestCat_74 rfl rfl ?_
      exact rc_iret hC rfl rfl dX1_richestCat_75 h rfl
    intro _ h
    refine rc_iload_n (pc := 20) hC dX1_richestCat_20 rfl rfl ?_
    refine rc_iconst (pc := 21) hC (v := (-1 : Int32)) dX1_richestCat_21 rfl ?_
    refine rc_icmp_eq (pc := 22) (tgt := 66) hC dX1_richestCat_22 rfl h ?_ ?_
    · intro _ h
      refine rc_drop [true, false, true] (L' := [some (rc_q v0), none, some (rc_i v2)]) rfl ?_
      exact rw_X1_richestCat_L66 hC hH ih v0 v2 S h
    intro _ h
    refine rc_aload_n (pc := 25) hC dX1_richestCat_25 rfl rfl ?_
    refine rc_r_getq (pc := 26) hC rF_X1_44 dX1_richestCat_26 h ?_
    intro x4 h
    refine rc_r_getq (pc := 29) hC rF_X1_72 dX1_richestCat_29 h ?_
    intro x5 h
    refine rc_iload_n (pc := 32) hC dX1_richestCat_32 rfl rfl ?_
    obtain ⟨⟨fs, ho⟩, h⟩ := h.is
    refine rc_callF (x0 := rc_xget) (y := yJ7_get) (pc := 33) hC rfl ho (rw_J7_get hH.1 x5 v2) q1574 q941 q943 q128 q945 (List.mem_of_getElem? (i := 2) rfl) ⟨by decide, by decide, rd_J7_get.2.2⟩ (hH.room (Nat.le_of_ble_eq_true rfl) (Nat.le_of_ble_eq_true rfl)) rfl rfl (Nat.le_of_ble_eq_true rfl) 1 rfl h.le.2.2 h.br rfl dX1_richestCat_33 ?_ (fun E q S hT => rc_out hC hH.2.2.2.2 hT)
    intro x6 S h
    show rc_Z Y S 38 [some (rc_q v0), some (rc_i v1), some (rc_i v2)] [rc_q x6]
    refine rc_r_cast (pc := 38) hC rK_X1_165 dX1_richestCat_38 h ?_
    intro h
    refine rc_r_geti (pc := 41) hC rF_X1_270 dX1_richestCat_41 h ?_
    intro x7 h
    refine rc_aload_n (pc := 44) hC dX1_richestCat_44 rfl rfl ?_
    refine rc_r_getq (pc := 45) hC rF_X1_44 dX1_richestCat_45 h ?_
    intro x8 h
    refine rc_r_getq (pc := 48) hC rF_X1_72 dX1_richestCat_48 h ?_
    intro x9 h
    refine rc_iload_n (pc := 51) hC dX1_richestCat_51 rfl rfl ?_
    obtain ⟨⟨fs, ho⟩, h⟩ := h.is
    refine rc_callF (x0 := rc_xget) (y := yJ7_get) (pc := 52) hC rfl ho (rw_J7_get hH.1 x9 v1) q1574 q941 q943 q128 q945 (List.mem_of_getElem? (i := 2) rfl) ⟨by decide, by decide, rd_J7_get.2.2⟩ (hH.room (Nat.le_of_ble_eq_true rfl) (Nat.le_of_ble_eq_true rfl)) rfl rfl (Nat.le_of_ble_eq_true rfl) 1 rfl h.le.2.2 h.br rfl dX1_richestCat_52 ?_ (fun E q S hT => rc_out hC hH.2.2.2.2 hT)
    intro x10 S h
    show rc_Z Y S 57 [some (rc_q v0), some (rc_i v1), some (rc_i v2)] [rc_q x10, rc_i x7]
    refine rc_r_cast (pc := 57) hC rK_X1_165 dX1_richestCat_57 h ?_
    intro h
    refine rc_r_geti (pc := 60) hC rF_X1_270 dX1_richestCat_60 h ?_
    intro x11 h
    refine rc_icmp_le (pc := 63) (tgt := 68) hC dX1_richestCat_63 rfl h ?_ ?_
    · intro _ h
      exact rw_X1_richestCat_L68 hC hH ih v0 v1 v2 S h
    intro _ h
    refine rc_drop [true, false, true] (L' := [some (rc_q v0), none, some (rc_i v2)]) rfl ?_
    exact rw_X1_richestCat_L66 hC hH ih v0 v2 S h
theorem rw_X1_richestCat {l : Launch} (hl : l.stackTraces = false) (v0 : Option Nat) : rc_Ct l yX1_richestCat (ws_ yX1_richestCat cX1_richestCat 3 (Option.some Jvm.ClassFile.FieldType.int)) 3 64 rc_tI (rp_X1_richestCat v0) [rc_q v0] := by
  refine rc_Ct_H hl (plainFor_of_name rY_X1) rfl (Nat.le_of_ble_eq_true rfl) (L0 := [some (rc_q v0), none, none]) rfl ?_
  intro Y S hC hH h
  have hC : rc_C Y cX1_richestCat RX1 (Option.some Jvm.ClassFile.FieldType.int) 3 := hC
  unfold rp_X1_richestCat at h
  refine rc_iconst (pc := 0) hC (v := (-1 : Int32)) dX1_richestCat_0 rfl ?_
  refine rc_istore_n (pc := 1) hC (L' := [some (rc_q v0), some (rc_i (-1 : Int32)), none]) dX1_richestCat_1 rfl (Nat.le_of_ble_eq_true rfl) rfl rfl ?_
  refine rc_iconst (pc := 2) hC (v := (0 : Int32)) dX1_richestCat_2 rfl ?_
  refine rc_istore_n (pc := 3) hC (L' := [some (rc_q v0), some (rc_i (-1 : Int32)), some (rc_i (0 : Int32))]) dX1_richestCat_3 rfl (Nat.le_of_ble_eq_true rfl) rfl rfl ?_
  refine rc_r_fuel h ?_
  intro x1 h
  exact rw_X1_richestCat_L4 hC hH  x1 v0 (-1 : Int32) (0 : Int32) S h
theorem rw_X1_totalFish {l : Launch} (hl : l.stackTraces = false) (v0 : Option Nat) : rc_Ct l yX1_totalFish (ws_ yX1_totalFish cX1_totalFish 1 (Option.some Jvm.ClassFile.FieldType.int)) 8 134 rc_tI (rp_X1_totalFish v0) [rc_q v0] := by
  refine rc_Ct_H hl (plainFor_of_name rY_X1) rfl (Nat.le_of_ble_eq_true rfl) (L0 := [some (rc_q v0)]) rfl ?_
  intro Y S hC hH h
  have hC : rc_C Y cX1_totalFish RX1 (Option.some Jvm.ClassFile.FieldType.int) 1 := hC
  unfold rp_X1_totalFish at h
  refine rc_aload_n (pc := 0) hC dX1_totalFish_0 rfl rfl ?_
  refine rc_r_getq (pc := 1) hC rF_X1_44 dX1_totalFish_1 h ?_
  intro x1 h
  obtain ⟨⟨fs, ho⟩, h⟩ := h.is
  refine rc_callV (pc := 4) hC rfl ho (rw_X3_totalFish hH.1 x1) q1580 q1581 q1582 q126 q1583 rfl rd_X3_totalFish (hH.room (Nat.le_of_ble_eq_true rfl) (Nat.le_of_ble_eq_true rfl)) rfl rfl (Nat.le_of_ble_eq_true rfl) 0 rfl h.le.2.2 h.br rfl dX1_totalFish_4 ?_ (fun E q S hT => rc_out hC hH.2.2.2.2 hT)
  intro x2 S h
  show rc_Z Y S 7 [some (rc_q v0)] [rc_i x2]
  exact rc_iret hC rfl rfl dX1_totalFish_7 h rfl
theorem rw_X1_meanFish {l : Launch} (hl : l.stackTraces = false) (v0 : Option Nat) : rc_Ct l yX1_meanFish (ws_ yX1_meanFish cX1_meanFish 1 (Option.some Jvm.ClassFile.FieldType.double)) 8 134 rc_tD (rp_X1_meanFish v0) [rc_q v0] := by
  refine rc_Ct_H hl (plainFor_of_name rY_X1) rfl (Nat.le_of_ble_eq_true rfl) (L0 := [some (rc_q v0)]) rfl ?_
  intro Y S hC hH h
  have hC : rc_C Y cX1_meanFish RX1 (Option.some Jvm.ClassFile.FieldType.double) 1 := hC
  unfold rp_X1_meanFish at h
  refine rc_aload_n (pc := 0) hC dX1_meanFish_0 rfl rfl ?_
  refine rc_r_getq (pc := 1) hC rF_X1_44 dX1_meanFish_1 h ?_
  intro x1 h
  refine rc_r_getq (pc := 4) hC rF_X1_72 dX1_meanFish_4 h ?_
  intro x2 h
  obtain ⟨⟨fs, ho⟩, h⟩ := h.is
  refine rc_callF (x0 := rc_xempty) (y := yJ7_isEmpty) (pc := 7) hC rfl ho (rw_J7_isEmpty hH.1 x2) q1589 q1104 q1106 q128 q1108 (List.mem_of_getElem? (i := 3) rfl) ⟨by decide, by decide, rd_J7_isEmpty.2.2⟩ (hH.room (Nat.le_of_ble_eq_true rfl) (Nat.le_of_ble_eq_true rfl)) rfl rfl (Nat.le_of_ble_eq_true rfl) 0 rfl h.le.2.2 h.br rfl dX1_meanFish_7 ?_ (fun E q S hT => rc_out hC hH.2.2.2.2 hT)
  intro x3 S h
  show rc_Z Y S 12 [some (rc_q v0)] [rc_i x3]
  refine rc_if_eq (pc := 12) (tgt := 19) hC dX1_meanFish_12 rfl h ?_ ?_
  · intro _ h
    refine rc_aload_n (pc := 19) hC dX1_meanFish_19 rfl rfl ?_
    refine rc_r_getq (pc := 20) hC rF_X1_44 dX1_meanFish_20 h ?_
    intro x4 h
    obtain ⟨⟨fs, ho⟩, h⟩ := h.is
    refine rc_callV (pc := 23) hC rfl ho (rw_X3_totalFish hH.1 x4) q1580 q1581 q1582 q126 q1583 rfl rd_X3_totalFish (hH.room (Nat.le_of_ble_eq_true rfl) (Nat.le_of_ble_eq_true rfl)) rfl rfl (Nat.le_of_ble_eq_true rfl) 0 rfl h.le.2.2 h.br rfl dX1_meanFish_23 ?_ (fun E q S hT => rc_out hC hH.2.2.2.2 hT)
    intro x5 S h
    show rc_Z Y S 26 [some (rc_q v0)] [rc_i x5]
    refine rc_i2d (pc := 26) hC dX1_meanFish_26 ?_
    refine rc_aload_n (pc := 27) hC dX1_meanFish_27 rfl rfl ?_
    refine rc_r_getq (pc := 28) hC rF_X1_44 dX1_meanFish_28 h ?_
    intro x6 h
    refine rc_r_getq (pc := 31) hC rF_X1_72 dX1_meanFish_31 h ?_
    intro x7 h
    obtain ⟨⟨fs, ho⟩, h⟩ := h.is
    refine rc_callF (x0 := rc_xsize) (y := yJ7_size) (pc := 34) hC rfl ho (rw_J7_size hH.1 x7) q1471 q823 q825 q128 q827 (List.mem_of_getElem? (i := 0) rfl) ⟨by decide, by decide, rd_J7_size.2.2⟩ (hH.room (Nat.le_of_ble_eq_true rfl) (Nat.le_of_ble_eq_true rfl)) rfl rfl (Nat.le_of_ble_eq_true rfl) 0 rfl h.le.2.2 h.br rfl dX1_meanFish_34 ?_ (fun E q S hT => rc_out hC hH.2.2.2.2 hT)
    intro x8 S h
    show rc_Z Y S 39 [some (rc_q v0)] [rc_i x8, rc_d (FP.i2d x5)]
    refine rc_i2d (pc := 39) hC dX1_meanFish_39 ?_
    refine rc_ddiv (pc := 40) hC dX1_meanFish_40 h ?_
    intro x9 h
    exact rc_dret hC rfl dX1_meanFish_41 h rfl
  intro _ h
  refine rc_dconst0 (pc := 15) hC dX1_meanFish_15 ?_
  refine rc_goto (pc := 16) (tgt := 41) hC dX1_meanFish_16 rfl ?_
  exact rc_dret hC rfl dX1_meanFish_41 h rfl
theorem rw_X1_ownedShare_L48 {Y : rc_Y} (hC : rc_C Y cX1_ownedShare RX1 (Option.some Jvm.ClassFile.FieldType.float) 4) (hH : rc_H Y 7 111 yX1_ownedShare.name) {k15 : Option Nat → Int32 → Option Nat → rc_M UInt32} (hk15 : ∀ (v0 : Option Nat) (v1 : Int32) (v2 : Option Nat) (S : rc_S), rc_Go Y rc_tF (k15 v0 v1 v2) S → rc_Z Y S 15 [some (rc_q v0), some (rc_i v1), some (rc_q v2), none] []) (v0 : Option Nat) (v2 : Option Nat) (s0 : Int32) (s1 : Int32) (S : rc_S) (h : rc_Go Y rc_tF (rp_X1_ownedShare_L48 k15 v0 v2 s0 s1) S) : rc_Z Y S 48 [some (rc_q v0), none, some (rc_q v2), none] [rc_i s0, rc_i s1] := by
  unfold rp_X1_ownedShare_L48 at h
  refine rc_iadd (pc := 48) hC dX1_ownedShare_48 ?_
  refine rc_istore_n (pc := 49) hC (L' := [some (rc_q v0), some (rc_i (s1 + s0)), some (rc_q v2), none]) dX1_ownedShare_49 rfl (Nat.le_of_ble_eq_true rfl) rfl rfl ?_
  refine rc_goto (pc := 50) (tgt := 15) hC dX1_ownedShare_50 rfl ?_
  exact hk15 v0 (s1 + s0) v2 S h
theorem rw_X1_ownedShare_L15 {Y : rc_Y} (hC : rc_C Y cX1_ownedShare RX1 (Option.some Jvm.ClassFile.FieldType.float) 4) (hH : rc_H Y 7 111 yX1_ownedShare.name) : ∀ (n : Nat) (v0 : Option Nat) (v1 : Int32) (v2 : Option Nat) (S : rc_S), rc_Go Y rc_tF (rp_X1_ownedShare_L15  n v0 v1 v2) S → rc_Z Y S 15 [some (rc_q v0), some (rc_i v1), some (rc_q v2), none] [] := by
  intro n
  induction n with
  | zero => intro v0 v1 v2 S h; exact h.fail.elim
  | succ n ih =>
    intro v0 v1 v2 S h
    rw [rp_X1_ownedShare_L15] at h
    refine rc_aload_n (pc := 15) hC dX1_ownedShare_15 rfl rfl ?_
    obtain ⟨⟨fs, ho⟩, h⟩ := h.is
    refine rc_callF (x0 := rc_xhas) (y := yJ25_hasNext) (pc := 16) hC rfl ho (rw_J25_hasNext hH.1 v2) q1597 q1437 q1439 q154 q1441 (List.mem_of_getElem? (i := 5) rfl) ⟨by decide, by decide, rd_J25_hasNext.2.2⟩ (hH.room (Nat.le_of_ble_eq_true rfl) (Nat.le_of_ble_eq_true rfl)) rfl rfl (Nat.le_of_ble_eq_true rfl) 0 rfl h.le.2.2 h.br rfl dX1_ownedShare_16 ?_ (fun E q S hT => rc_out hC hH.2.2.2.2 hT)
    intro x1 S h
    show rc_Z Y S 21 [some (rc_q v0), some (rc_i v1), some (rc_q v2), none] [rc_i x1]
    refine rc_if_eq (pc := 21) (tgt := 53) hC dX1_ownedShare_21 rfl h ?_ ?_
    · intro _ h
      refine rc_aload_n (pc := 53) hC dX1_ownedShare_53 rfl rfl ?_
      refine rc_r_getq (pc := 54) hC rF_X1_44 dX1_ownedShare_54 h ?_
      intro x2 h
      refine rc_r_getq (pc := 57) hC rF_X1_56 dX1_ownedShare_57 h ?_
      intro x3 h
      obtain ⟨⟨fs, ho⟩, h⟩ := h.is
      refine rc_callF (x0 := rc_xempty) (y := yJ7_isEmpty) (pc := 60) hC rfl ho (rw_J7_isEmpty hH.1 x3) q1589 q1104 q1106 q128 q1108 (List.mem_of_getElem? (i := 3) rfl) ⟨by decide, by decide, rd_J7_isEmpty.2.2⟩ (hH.room (Nat.le_of_ble_eq_true rfl) (Nat.le_of_ble_eq_true rfl)) rfl rfl (Nat.le_of_ble_eq_true rfl) 0 rfl h.le.2.2 h.br rfl dX1_ownedShare_60 ?_ (fun E q S hT => rc_out hC hH.2.2.2.2 hT)
      intro x4 S h
      show rc_Z Y S 65 [some (rc_q v0), some (rc_i v1), some (rc_q v2), none] [rc_i x4]
      refine rc_if_eq (pc := 65) (tgt := 72) hC dX1_ownedShare_65 rfl h ?_ ?_
      · intro _ h
        refine rc_iload_n (pc := 72) hC dX1_ownedShare_72 rfl rfl ?_
        refine rc_i2f (pc := 73) hC dX1_ownedShare_73 ?_
        refine rc_aload_n (pc := 74) hC dX1_ownedShare_74 rfl rfl ?_
        refine rc_r_getq (pc := 75) hC rF_X1_44 dX1_ownedShare_75 h ?_
        intro x5 h
        refine rc_r_getq (pc := 78) hC rF_X1_56 dX1_ownedShare_78 h ?_
        intro x6 h
        obtain ⟨⟨fs, ho⟩, h⟩ := h.is
        refine rc_callF (x0 := rc_xsize) (y := yJ7_size) (pc := 81) hC rfl ho (rw_J7_size hH.1 x6) q1471 q823 q825 q128 q827 (List.mem_of_getElem? (i := 0) rfl) ⟨by decide, by decide, rd_J7_size.2.2⟩ (hH.room (Nat.le_of_ble_eq_true rfl) (Nat.le_of_ble_eq_true rfl)) rfl rfl (Nat.le_of_ble_eq_true rfl) 0 rfl h.le.2.2 h.br rfl dX1_ownedShare_81 ?_ (fun E q S hT => rc_out hC hH.2.2.2.2 hT)
        intro x7 S h
        show rc_Z Y S 86 [some (rc_q v0), some (rc_i v1), some (rc_q v2), none] [rc_i x7, rc_f (FP.i2f v1)]
        refine rc_i2f (pc := 86) hC dX1_ownedShare_86 ?_
        refine rc_fdiv (pc := 87) hC dX1_ownedShare_87 h ?_
        intro x8 h
        exact rc_fret hC rfl dX1_ownedShare_88 h rfl
      intro _ h
      refine rc_fconst0 (pc := 68) hC dX1_ownedShare_68 ?_
      refine rc_goto (pc := 69) (tgt := 88) hC dX1_ownedShare_69 rfl ?_
      exact rc_fret hC rfl dX1_ownedShare_88 h rfl
    intro _ h
    refine rc_aload_n (pc := 24) hC dX1_ownedShare_24 rfl rfl ?_
    obtain ⟨⟨fs, ho⟩, h⟩ := h.is
    refine rc_callF (x0 := rc_xnext) (y := yJ25_next) (pc := 25) hC rfl ho (rw_J25_next hH.1 v2) q1599 q1446 q1448 q154 q1450 (List.mem_of_getElem? (i := 6) rfl) ⟨by decide, by decide, rd_J25_next.2.2⟩ (hH.room (Nat.le_of_ble_eq_true rfl) (Nat.le_of_ble_eq_true rfl)) rfl rfl (Nat.le_of_ble_eq_true rfl) 0 rfl h.le.2.2 h.br rfl dX1_ownedShare_25 ?_ (fun E q S hT => rc_out hC hH.2.2.2.2 hT)
    intro x9 S h
    show rc_Z Y S 30 [some (rc_q v0), some (rc_i v1), some (rc_q v2), none] [rc_q x9]
    refine rc_r_cast (pc := 30) hC rK_X1_145 dX1_ownedShare_30 h ?_
    intro h
    refine rc_astore_n (pc := 33) hC (L' := [some (rc_q v0), some (rc_i v1), some (rc_q v2), some (rc_q x9)]) dX1_ownedShare_33 rfl (Nat.le_of_ble_eq_true rfl) rfl rfl ?_
    refine rc_iload_n (pc := 34) hC dX1_ownedShare_34 rfl rfl ?_
    refine rc_aload_n (pc := 35) hC dX1_ownedShare_35 rfl rfl ?_
    refine rc_r_geti (pc := 36) hC rF_X1_183 dX1_ownedShare_36 h ?_
    intro x10 h
    refine rc_iconst (pc := 39) hC (v := (-1 : Int32)) dX1_ownedShare_39 rfl ?_
    refine rc_icmp_ne (pc := 40) (tgt := 47) hC dX1_ownedShare_40 rfl h ?_ ?_
    · intro _ h
      refine rc_iconst (pc := 47) hC (v := (1 : Int32)) dX1_ownedShare_47 rfl ?_
      refine rc_drop [true, false, true, false] (L' := [some (rc_q v0), none, some (rc_q v2), none]) rfl ?_
      exact rw_X1_ownedShare_L48 hC hH ih v0 v2 (1 : Int32) v1 S h
    intro _ h
    refine rc_iconst (pc := 43) hC (v := (0 : Int32)) dX1_ownedShare_43 rfl ?_
    refine rc_goto (pc := 44) (tgt := 48) hC dX1_ownedShare_44 rfl ?_
    refine rc_drop [true, false, true, false] (L' := [some (rc_q v0), none, some (rc_q v2), none]) rfl ?_
    exact rw_X1_ownedShare_L48 hC hH ih v0 v2 (0 : Int32) v1 S h
theorem rw_X1_ownedShare {l : Launch} (hl : l.stackTraces = false) (v0 : Option Nat) : rc_Ct l yX1_ownedShare (ws_ yX1_ownedShare cX1_ownedShare 4 (Option.some Jvm.ClassFile.FieldType.float)) 7 111 rc_tF (rp_X1_ownedShare v0) [rc_q v0] := by
  refine rc_Ct_H hl (plainFor_of_name rY_X1) rfl (Nat.le_of_ble_eq_true rfl) (L0 := [some (rc_q v0), none, none, none]) rfl ?_
  intro Y S hC hH h
  have hC : rc_C Y cX1_ownedShare RX1 (Option.some Jvm.ClassFile.FieldType.float) 4 := hC
  unfold rp_X1_ownedShare at h
  refine rc_iconst (pc := 0) hC (v := (0 : Int32)) dX1_ownedShare_0 rfl ?_
  refine rc_istore_n (pc := 1) hC (L' := [some (rc_q v0), some (rc_i (0 : Int32)), none, none]) dX1_ownedShare_1 rfl (Nat.le_of_ble_eq_true rfl) rfl rfl ?_
  refine rc_aload_n (pc := 2) hC dX1_ownedShare_2 rfl rfl ?_
  refine rc_r_getq (pc := 3) hC rF_X1_44 dX1_ownedShare_3 h ?_
  intro x1 h
  refine rc_r_getq (pc := 6) hC rF_X1_56 dX1_ownedShare_6 h ?_
  intro x2 h
  obtain ⟨⟨fs, ho⟩, h⟩ := h.is
  refine rc_callF (x0 := rc_xiter) (y := yJ7_iterator) (pc := 9) hC rfl ho (rw_J7_iterator hH.1 x2) q1595 q1408 q1410 q128 q1412 (List.mem_of_getElem? (i := 4) rfl) ⟨by decide, by decide, rd_J7_iterator.2.2⟩ (hH.room (Nat.le_of_ble_eq_true rfl) (Nat.le_of_ble_eq_true rfl)) rfl rfl (Nat.le_of_ble_eq_true rfl) 0 rfl h.le.2.2 h.br rfl dX1_ownedShare_9 ?_ (fun E q S hT => rc_out hC hH.2.2.2.2 hT)
  intro x3 S h
  show rc_Z Y S 14 [some (rc_q v0), some (rc_i (0 : Int32)), none, none] [rc_q x3]
  refine rc_astore_n (pc := 14) hC (L' := [some (rc_q v0), some (rc_i (0 : Int32)), some (rc_q x3), none]) dX1_ownedShare_14 rfl (Nat.le_of_ble_eq_true rfl) rfl rfl ?_
  refine rc_r_fuel h ?_
  intro x4 h
  exact rw_X1_ownedShare_L15 hC hH  x4 v0 (0 : Int32) x3 S h
theorem rw_X1_isWrong_L30 {Y : rc_Y} (hC : rc_C Y cX1_isWrong RX1 (Option.some Jvm.ClassFile.FieldType.boolean) 3) (hH : rc_H Y 3 64 yX1_isWrong.name) (S : rc_S) (h : rc_Go Y rc_tI (rp_X1_isWrong_L30  ) S) : rc_Z Y S 30 [none, none, none] [] := by
  unfold rp_X1_isWrong_L30 at h
  refine rc_iconst (pc := 30) hC (v := (1 : Int32)) dX1_isWrong_30 rfl ?_
  refine rc_goto (pc := 31) (tgt := 35) hC dX1_isWrong_31 rfl ?_
  exact rc_iret hC rfl rfl dX1_isWrong_35 h rfl
theorem rw_X1_isWrong {l : Launch} (hl : l.stackTraces = false) (v0 : Option Nat) (v1 : Int32) : rc_Ct l yX1_isWrong (ws_ yX1_isWrong cX1_isWrong 3 (Option.some Jvm.ClassFile.FieldType.boolean)) 3 64 rc_tI (rp_X1_isWrong v0 v1) [rc_q v0, rc_i v1] := by
  refine rc_Ct_H hl (plainFor_of_name rY_X1) rfl (Nat.le_of_ble_eq_true rfl) (L0 := [some (rc_q v0), some (rc_i v1), none]) rfl ?_
  intro Y S hC hH h
  have hC : rc_C Y cX1_isWrong RX1 (Option.some Jvm.ClassFile.FieldType.boolean) 3 := hC
  unfold rp_X1_isWrong at h
  refine rc_aload_n (pc := 0) hC dX1_isWrong_0 rfl rfl ?_
  refine rc_r_getq (pc := 1) hC rF_X1_44 dX1_isWrong_1 h ?_
  intro x1 h
  refine rc_r_getq (pc := 4) hC rF_X1_72 dX1_isWrong_4 h ?_
  intro x2 h
  refine rc_iload_n (pc := 7) hC dX1_isWrong_7 rfl rfl ?_
  obtain ⟨⟨fs, ho⟩, h⟩ := h.is
  refine rc_callF (x0 := rc_xget) (y := yJ7_get) (pc := 8) hC rfl ho (rw_J7_get hH.1 x2 v1) q1574 q941 q943 q128 q945 (List.mem_of_getElem? (i := 2) rfl) ⟨by decide, by decide, rd_J7_get.2.2⟩ (hH.room (Nat.le_of_ble_eq_true rfl) (Nat.le_of_ble_eq_true rfl)) rfl rfl (Nat.le_of_ble_eq_true rfl) 1 rfl h.le.2.2 h.br rfl dX1_isWrong_8 ?_ (fun E q S hT => rc_out hC hH.2.2.2.2 hT)
  intro x3 S h
  show rc_Z Y S 13 [some (rc_q v0), some (rc_i v1), none] [rc_q x3]
  refine rc_r_cast (pc := 13) hC rK_X1_165 dX1_isWrong_13 h ?_
  intro h
  refine rc_r_geti (pc := 16) hC rF_X1_270 dX1_isWrong_16 h ?_
  intro x4 h
  refine rc_istore_n (pc := 19) hC (L' := [some (rc_q v0), some (rc_i v1), some (rc_i x4)]) dX1_isWrong_19 rfl (Nat.le_of_ble_eq_true rfl) rfl rfl ?_
  refine rc_iload_n (pc := 20) hC dX1_isWrong_20 rfl rfl ?_
  refine rc_if_lt (pc := 21) (tgt := 30) hC dX1_isWrong_21 rfl h ?_ ?_
  · intro _ h
    refine rc_drop [false, false, false] (L' := [none, none, none]) rfl ?_
    exact rw_X1_isWrong_L30 hC hH   S h
  intro _ h
  refine rc_iload_n (pc := 24) hC dX1_isWrong_24 rfl rfl ?_
  refine rc_bipush (pc := 25) hC (v := (99 : Int32)) dX1_isWrong_25 rfl ?_
  refine rc_icmp_le (pc := 27) (tgt := 34) hC dX1_isWrong_27 rfl h ?_ ?_
  · intro _ h
    refine rc_iconst (pc := 34) hC (v := (0 : Int32)) dX1_isWrong_34 rfl ?_
    exact rc_iret hC rfl rfl dX1_isWrong_35 h rfl
  intro _ h
  refine rc_drop [false, false, false] (L' := [none, none, none]) rfl ?_
  exact rw_X1_isWrong_L30 hC hH   S h
theorem rw_X1_violations_L141 {Y : rc_Y} (hC : rc_C Y cX1_violations RX1 (Option.some Jvm.ClassFile.FieldType.int) 6) (hH : rc_H Y 8 134 yX1_violations.name) {k49 : Option Nat → Int32 → Int32 → Int32 → Int32 → rc_M Int32} (hk49 : ∀ (v0 : Option Nat) (v1 : Int32) (v2 : Int32) (v3 : Int32) (v4 : Int32) (S : rc_S), rc_Go Y rc_tI (k49 v0 v1 v2 v3 v4) S → rc_Z Y S 49 [some (rc_q v0), some (rc_i v1), some (rc_i v2), some (rc_i v3), some (rc_i v4), none] []) (v0 : Option Nat) (v2 : Int32) (v3 : Int32) (v4 : Int32) (s0 : Int32) (s1 : Int32) (S : rc_S) (h : rc_Go Y rc_tI (rp_X1_violations_L141 k49 v0 v2 v3 v4 s0 s1) S) : rc_Z Y S 141 [some (rc_q v0), none, some (rc_i v2), some (rc_i v3), some (rc_i v4), none] [rc_i s0, rc_i s1] := by
  unfold rp_X1_violations_L141 at h
  refine rc_iadd (pc := 141) hC dX1_violations_141 ?_
  refine rc_istore_n (pc := 142) hC (L' := [some (rc_q v0), some (rc_i (s1 + s0)), some (rc_i v2), some (rc_i v3), some (rc_i v4), none]) dX1_violations_142 rfl (Nat.le_of_ble_eq_true rfl) rfl rfl ?_
  refine rc_iinc (pc := 143) hC (v := (v4 + (1 : Int32))) (L' := [some (rc_q v0), some (rc_i (s1 + s0)), some (rc_i v2), some (rc_i v3), some (rc_i (v4 + (1 : Int32))), none]) dX1_violations_143 rfl rfl rfl rfl ?_
  refine rc_goto (pc := 146) (tgt := 49) hC dX1_violations_146 rfl ?_
  exact hk49 v0 (s1 + s0) v2 v3 (v4 + (1 : Int32)) S h
theorem rw_X1_violations_L124 {Y : rc_Y} (hC : rc_C Y cX1_violations RX1 (Option.some Jvm.ClassFile.FieldType.int) 6) (hH : rc_H Y 8 134 yX1_violations.name) {k49 : Option Nat → Int32 → Int32 → Int32 → Int32 → rc_M Int32} (hk49 : ∀ (v0 : Option Nat) (v1 : Int32) (v2 : Int32) (v3 : Int32) (v4 : Int32) (S : rc_S), rc_Go Y rc_tI (k49 v0 v1 v2 v3 v4) S → rc_Z Y S 49 [some (rc_q v0), some (rc_i v1), some (rc_i v2), some (rc_i v3), some (rc_i v4), none] []) (v0 : Option Nat) (v2 : Int32) (v3 : Int32) (v4 : Int32) (s0 : Int32) (s1 : Int32) (S : rc_S) (h : rc_Go Y rc_tI (rp_X1_violations_L124 k49 v0 v2 v3 v4 s0 s1) S) : rc_Z Y S 124 [some (rc_q v0), none, some (rc_i v2), some (rc_i v3), some (rc_i v4), none] [rc_i s0, rc_i s1] := by
  unfold rp_X1_violations_L124 at h
  refine rc_iadd (pc := 124) hC dX1_violations_124 ?_
  refine rc_istore_n (pc := 125) hC (L' := [some (rc_q v0), some (rc_i (s1 + s0)), some (rc_i v2), some (rc_i v3), some (rc_i v4), none]) dX1_violations_125 rfl (Nat.le_of_ble_eq_true rfl) rfl rfl ?_
  refine rc_iload_n (pc := 126) hC dX1_violations_126 rfl rfl ?_
  refine rc_aload_n (pc := 127) hC dX1_violations_127 rfl rfl ?_
  refine rc_iload (pc := 128) hC dX1_violations_128 rfl ?_
  obtain ⟨⟨fs, ho⟩, h⟩ := h.is
  refine rc_callV (pc := 130) hC rfl ho (rw_X1_isWrong hH.1 v0 v4) q1609 q1611 qs23 q116 q1612 rfl rd_X1_isWrong (hH.room (Nat.le_of_ble_eq_true rfl) (Nat.le_of_ble_eq_true rfl)) rfl rfl (Nat.le_of_ble_eq_true rfl) 1 rfl h.le.2.2 h.br rfl dX1_violations_130 ?_ (fun E q S hT => rc_out hC hH.2.2.2.2 hT)
  intro x1 S h
  show rc_Z Y S 133 [some (rc_q v0), some (rc_i (s1 + s0)), some (rc_i v2), some (rc_i v3), some (rc_i v4), none] [rc_i x1, rc_i (s1 + s0)]
  refine rc_if_eq (pc := 133) (tgt := 140) hC dX1_violations_133 rfl h ?_ ?_
  · intro _ h
    refine rc_iconst (pc := 140) hC (v := (0 : Int32)) dX1_violations_140 rfl ?_
    refine rc_drop [true, false, true, true, true, false] (L' := [some (rc_q v0), none, some (rc_i v2), some (rc_i v3), some (rc_i v4), none]) rfl ?_
    exact rw_X1_violations_L141 hC hH hk49 v0 v2 v3 v4 (0 : Int32) (s1 + s0) S h
  intro _ h
  refine rc_iconst (pc := 136) hC (v := (1 : Int32)) dX1_violations_136 rfl ?_
  refine rc_goto (pc := 137) (tgt := 141) hC dX1_violations_137 rfl ?_
  refine rc_drop [true, false, true, true, true, false] (L' := [some (rc_q v0), none, some (rc_i v2), some (rc_i v3), some (rc_i v4), none]) rfl ?_
  exact rw_X1_violations_L141 hC hH hk49 v0 v2 v3 v4 (1 : Int32) (s1 + s0) S h
theorem rw_X1_violations_L49 {Y : rc_Y} (hC : rc_C Y cX1_violations RX1 (Option.some Jvm.ClassFile.FieldType.int) 6) (hH : rc_H Y 8 134 yX1_violations.name) : ∀ (n : Nat) (v0 : Option Nat) (v1 : Int32) (v2 : Int32) (v3 : Int32) (v4 : Int32) (S : rc_S), rc_Go Y rc_tI (rp_X1_violations_L49  n v0 v1 v2 v3 v4) S → rc_Z Y S 49 [some (rc_q v0), some (rc_i v1), some (rc_i v2), some (rc_i v3), some (rc_i v4), none] [] := by
  intro n
  induction n with
  | zero => intro v0 v1 v2 v3 v4 S h; exact h.fail.elim
  | succ n ih =>
    intro v0 v1 v2 v3 v4 S h
    rw [rp_X1_violations_L49] at h
    refine rc_iload (pc := 49) hC dX1_violations_49 rfl ?_
    refine rc_aload_n (pc := 51) hC dX1_violations_51 rfl rfl ?_
    refine rc_r_getq (pc := 52) hC rF_X1_44 dX1_violations_52 h ?_
    intro x1 h
    refine rc_r_getq (pc := 55) hC rF_X1_72 dX1_violations_55 h ?_
    intro x2 h
    obtain ⟨⟨fs, ho⟩, h⟩ := h.is
    refine rc_callF (x0 := rc_xsize) (y := yJ7_size) (pc := 58) hC rfl ho (rw_J7_size hH.1 x2) q1471 q823 q825 q128 q827 (List.mem_of_getElem? (i := 0) rfl) ⟨by decide, by decide, rd_J7_size.2.2⟩ (hH.room (Nat.le_of_ble_eq_true rfl) (Nat.le_of_ble_eq_true rfl)) rfl rfl (Nat.le_of_ble_eq_true rfl) 0 rfl h.le.2.2 h.br rfl dX1_violations_58 ?_ (fun E q S hT => rc_out hC hH.2.2.2.2 hT)
    intro x3 S h
    show rc_Z Y S 63 [some (rc_q v0), some (rc_i v1), some (rc_i v2), some (rc_i v3), some (rc_i v4), none] [rc_i x3, rc_i v4]
    refine rc_icmp_ge (pc := 63) (tgt := 149) hC dX1_violations_63 rfl h ?_ ?_
    · intro _ h
      refine rc_iload_n (pc := 149) hC dX1_violations_149 rfl rfl ?_
      refine rc_iload_n (pc := 150) hC dX1_violations_150 rfl rfl ?_
      refine rc_callS (pc := 151) hC (rw_J15_bitCount hH.1 v3) q1542 q1010 q137 q1011 rd_J15_bitCount (hH.room (Nat.le_of_ble_eq_true rfl) (Nat.le_of_ble_eq_true rfl)) rfl rfl (Nat.le_of_ble_eq_true rfl) 1 rfl h.le.2.2 h.br rfl dX1_violations_151 ?_ (fun E q S hT => rc_out hC hH.2.2.2.2 hT)
      intro x4 S h
      show rc_Z Y S 154 [some (rc_q v0), some (rc_i v1), some (rc_i v2), some (rc_i v3), some (rc_i v4), none] [rc_i x4, rc_i v1]
      refine rc_iadd (pc := 154) hC dX1_violations_154 ?_
      exact rc_iret hC rfl rfl dX1_violations_155 h rfl
    intro _ h
    refine rc_iconst (pc := 66) hC (v := (1 : Int32)) dX1_violations_66 rfl ?_
    refine rc_aload_n (pc := 67) hC dX1_violations_67 rfl rfl ?_
    refine rc_r_getq (pc := 68) hC rF_X1_44 dX1_violations_68 h ?_
    intro x5 h
    refine rc_r_getq (pc := 71) hC rF_X1_72 dX1_violations_71 h ?_
    intro x6 h
    refine rc_iload (pc := 74) hC dX1_violations_74 rfl ?_
    obtain ⟨⟨fs, ho⟩, h⟩ := h.is
    refine rc_callF (x0 := rc_xget) (y := yJ7_get) (pc := 76) hC rfl ho (rw_J7_get hH.1 x6 v4) q1574 q941 q943 q128 q945 (List.mem_of_getElem? (i := 2) rfl) ⟨by decide, by decide, rd_J7_get.2.2⟩ (hH.room (Nat.le_of_ble_eq_true rfl) (Nat.le_of_ble_eq_true rfl)) rfl rfl (Nat.le_of_ble_eq_true rfl) 1 rfl h.le.2.2 h.br rfl dX1_violations_76 ?_ (fun E q S hT => rc_out hC hH.2.2.2.2 hT)
    intro x7 S h
    show rc_Z Y S 81 [some (rc_q v0), some (rc_i v1), some (rc_i v2), some (rc_i v3), some (rc_i v4), none] [rc_q x7, rc_i (1 : Int32)]
    refine rc_r_cast (pc := 81) hC rK_X1_165 dX1_violations_81 h ?_
    intro h
    refine rc_r_geti (pc := 84) hC rF_X1_273 dX1_violations_84 h ?_
    intro x8 h
    refine rc_ishl (pc := 87) hC dX1_violations_87 ?_
    refine rc_istore (pc := 88) hC (L' := [some (rc_q v0), some (rc_i v1), some (rc_i v2), some (rc_i v3), some (rc_i v4), some (rc_i ((1 : Int32) <<< (x8 &&& 31)))]) dX1_violations_88 (Nat.le_of_ble_eq_true rfl) rfl rfl ?_
    refine rc_iload_n (pc := 90) hC dX1_violations_90 rfl rfl ?_
    refine rc_iload_n (pc := 91) hC dX1_violations_91 rfl rfl ?_
    refine rc_iload (pc := 92) hC dX1_violations_92 rfl ?_
    refine rc_iand (pc := 94) hC dX1_violations_94 ?_
    refine rc_ior (pc := 95) hC dX1_violations_95 ?_
    refine rc_istore_n (pc := 96) hC (L' := [some (rc_q v0), some (rc_i v1), some (rc_i v2), some (rc_i (v3 ||| (v2 &&& ((1 : Int32) <<< (x8 &&& 31))))), some (rc_i v4), some (rc_i ((1 : Int32) <<< (x8 &&& 31)))]) dX1_violations_96 rfl (Nat.le_of_ble_eq_true rfl) rfl rfl ?_
    refine rc_iload_n (pc := 97) hC dX1_violations_97 rfl rfl ?_
    refine rc_iload (pc := 98) hC dX1_violations_98 rfl ?_
    refine rc_ior (pc := 100) hC dX1_violations_100 ?_
    refine rc_istore_n (pc := 101) hC (L' := [some (rc_q v0), some (rc_i v1), some (rc_i (v2 ||| ((1 : Int32) <<< (x8 &&& 31)))), some (rc_i (v3 ||| (v2 &&& ((1 : Int32) <<< (x8 &&& 31))))), some (rc_i v4), some (rc_i ((1 : Int32) <<< (x8 &&& 31)))]) dX1_violations_101 rfl (Nat.le_of_ble_eq_true rfl) rfl rfl ?_
    refine rc_iload_n (pc := 102) hC dX1_violations_102 rfl rfl ?_
    refine rc_aload_n (pc := 103) hC dX1_violations_103 rfl rfl ?_
    refine rc_r_getq (pc := 104) hC rF_X1_44 dX1_violations_104 h ?_
    intro x9 h
    refine rc_iload (pc := 107) hC dX1_violations_107 rfl ?_
    obtain ⟨⟨fs, ho⟩, h⟩ := h.is
    refine rc_callV (pc := 109) hC rfl ho (rw_X3_owned hH.1 x9 v4) q1608 q1006 q1007 q126 q1008 rfl rd_X3_owned (hH.room (Nat.le_of_ble_eq_true rfl) (Nat.le_of_ble_eq_true rfl)) rfl rfl (Nat.le_of_ble_eq_true rfl) 1 rfl h.le.2.2 h.br rfl dX1_violations_109 ?_ (fun E q S hT => rc_out hC hH.2.2.2.2 hT)
    intro x10 S h
    show rc_Z Y S 112 [some (rc_q v0), some (rc_i v1), some (rc_i (v2 ||| ((1 : Int32) <<< (x8 &&& 31)))), some (rc_i (v3 ||| (v2 &&& ((1 : Int32) <<< (x8 &&& 31))))), some (rc_i v4), some (rc_i ((1 : Int32) <<< (x8 &&& 31)))] [rc_i x10, rc_i v1]
    refine rc_callS (pc := 112) hC (rw_J15_bitCount hH.1 x10) q1542 q1010 q137 q1011 rd_J15_bitCount (hH.room (Nat.le_of_ble_eq_true rfl) (Nat.le_of_ble_eq_true rfl)) rfl rfl (Nat.le_of_ble_eq_true rfl) 1 rfl h.le.2.2 h.br rfl dX1_violations_112 ?_ (fun E q S hT => rc_out hC hH.2.2.2.2 hT)
    intro x11 S h
    show rc_Z Y S 115 [some (rc_q v0), some (rc_i v1), some (rc_i (v2 ||| ((1 : Int32) <<< (x8 &&& 31)))), some (rc_i (v3 ||| (v2 &&& ((1 : Int32) <<< (x8 &&& 31))))), some (rc_i v4), some (rc_i ((1 : Int32) <<< (x8 &&& 31)))] [rc_i x11, rc_i v1]
    refine rc_iconst (pc := 115) hC (v := (4 : Int32)) dX1_violations_115 rfl ?_
    refine rc_icmp_le (pc := 116) (tgt := 123) hC dX1_violations_116 rfl h ?_ ?_
    · intro _ h
      refine rc_iconst (pc := 123) hC (v := (0 : Int32)) dX1_violations_123 rfl ?_
      refine rc_drop [true, false, true, true, true, false] (L' := [some (rc_q v0), none, some (rc_i (v2 ||| ((1 : Int32) <<< (x8 &&& 31)))), some (rc_i (v3 ||| (v2 &&& ((1 : Int32) <<< (x8 &&& 31))))), some (rc_i v4), none]) rfl ?_
      exact rw_X1_violations_L124 hC hH ih v0 (v2 ||| ((1 : Int32) <<< (x8 &&& 31))) (v3 ||| (v2 &&& ((1 : Int32) <<< (x8 &&& 31)))) v4 (0 : Int32) v1 S h
    intro _ h
    refine rc_iconst (pc := 119) hC (v := (1 : Int32)) dX1_violations_119 rfl ?_
    refine rc_goto (pc := 120) (tgt := 124) hC dX1_violations_120 rfl ?_
    refine rc_drop [true, false, true, true, true, false] (L' := [some (rc_q v0), none, some (rc_i (v2 ||| ((1 : Int32) <<< (x8 &&& 31)))), some (rc_i (v3 ||| (v2 &&& ((1 : Int32) <<< (x8 &&& 31))))), some (rc_i v4), none]) rfl ?_
    exact rw_X1_violations_L124 hC hH ih v0 (v2 ||| ((1 : Int32) <<< (x8 &&& 31))) (v3 ||| (v2 &&& ((1 : Int32) <<< (x8 &&& 31)))) v4 (1 : Int32) v1 S h
theorem rw_X1_violations {l : Launch} (hl : l.stackTraces = false) (v0 : Option Nat) : rc_Ct l yX1_violations (ws_ yX1_violations cX1_violations 6 (Option.some Jvm.ClassFile.FieldType.int)) 8 134 rc_tI (rp_X1_violations v0) [rc_q v0] := by
  refine rc_Ct_H hl (plainFor_of_name rY_X1) rfl (Nat.le_of_ble_eq_true rfl) (L0 := [some (rc_q v0), none, none, none, none, none]) rfl ?_
  intro Y S hC hH h
  have hC : rc_C Y cX1_violations RX1 (Option.some Jvm.ClassFile.FieldType.int) 6 := hC
  unfold rp_X1_violations at h
  refine rc_aload_n (pc := 0) hC dX1_violations_0 rfl rfl ?_
  refine rc_r_getq (pc := 1) hC rF_X1_44 dX1_violations_1 h ?_
  intro x1 h
  obtain ⟨⟨fs, ho⟩, h⟩ := h.is
  refine rc_callV (pc := 4) hC rfl ho (rw_X3_totalFish hH.1 x1) q1580 q1581 q1582 q126 q1583 rfl rd_X3_totalFish (hH.room (Nat.le_of_ble_eq_true rfl) (Nat.le_of_ble_eq_true rfl)) rfl rfl (Nat.le_of_ble_eq_true rfl) 0 rfl h.le.2.2 h.br rfl dX1_violations_4 ?_ (fun E q S hT => rc_out hC hH.2.2.2.2 hT)
  intro x2 S h
  show rc_Z Y S 7 [some (rc_q v0), none, none, none, none, none] [rc_i x2]
  refine rc_iconst (pc := 7) hC (v := (5 : Int32)) dX1_violations_7 rfl ?_
  refine rc_aload_n (pc := 8) hC dX1_violations_8 rfl rfl ?_
  refine rc_r_getq (pc := 9) hC rF_X1_44 dX1_violations_9 h ?_
  intro x3 h
  refine rc_r_getq (pc := 12) hC rF_X1_72 dX1_violations_12 h ?_
  intro x4 h
  obtain ⟨⟨fs, ho⟩, h⟩ := h.is
  refine rc_callF (x0 := rc_xsize) (y := yJ7_size) (pc := 15) hC rfl ho (rw_J7_size hH.1 x4) q1471 q823 q825 q128 q827 (List.mem_of_getElem? (i := 0) rfl) ⟨by decide, by decide, rd_J7_size.2.2⟩ (hH.room (Nat.le_of_ble_eq_true rfl) (Nat.le_of_ble_eq_true rfl)) rfl rfl (Nat.le_of_ble_eq_true rfl) 0 rfl h.le.2.2 h.br rfl dX1_violations_15 ?_ (fun E q S hT => rc_out hC hH.2.2.2.2 hT)
  intro x5 S h
  show rc_Z Y S 20 [some (rc_q v0), none, none, none, none, none] [rc_i x5, rc_i (5 : Int32), rc_i x2]
  refine rc_imul (pc := 20) hC dX1_violations_20 ?_
  refine rc_isub (pc := 21) hC dX1_violations_21 ?_
  refine rc_aload_n (pc := 22) hC dX1_violations_22 rfl rfl ?_
  refine rc_r_getq (pc := 23) hC rF_X1_44 dX1_violations_23 h ?_
  intro x6 h
  refine rc_r_geti (pc := 26) hC rF_X1_344 dX1_violations_26 h ?_
  intro x7 h
  refine rc_isub (pc := 29) hC dX1_violations_29 ?_
  refine rc_aload_n (pc := 30) hC dX1_violations_30 rfl rfl ?_
  refine rc_r_getq (pc := 31) hC rF_X1_44 dX1_violations_31 h ?_
  intro x8 h
  refine rc_r_geti (pc := 34) hC rF_X1_347 dX1_violations_34 h ?_
  intro x9 h
  refine rc_iadd (pc := 37) hC dX1_violations_37 ?_
  refine rc_callS (pc := 38) hC (rw_J17_abs hH.1 (((x2 - ((5 : Int32) * x5)) - x7) + x9)) q1605 q1606 q139 q1607 rd_J17_abs (hH.room (Nat.le_of_ble_eq_true rfl) (Nat.le_of_ble_eq_true rfl)) rfl rfl (Nat.le_of_ble_eq_true rfl) 1 rfl h.le.2.2 h.br rfl dX1_violations_38 ?_ (fun E q S hT => rc_out hC hH.2.2.2.2 hT)
  intro x10 S h
  show rc_Z Y S 41 [some (rc_q v0), none, none, none, none, none] [rc_i x10]
  refine rc_istore_n (pc := 41) hC (L' := [some (rc_q v0), some (rc_i x10), none, none, none, none]) dX1_violations_41 rfl (Nat.le_of_ble_eq_true rfl) rfl rfl ?_
  refine rc_iconst (pc := 42) hC (v := (0 : Int32)) dX1_violations_42 rfl ?_
  refine rc_istore_n (pc := 43) hC (L' := [some (rc_q v0), some (rc_i x10), some (rc_i (0 : Int32)), none, none, none]) dX1_violations_43 rfl (Nat.le_of_ble_eq_true rfl) rfl rfl ?_
  refine rc_iconst (pc := 44) hC (v := (0 : Int32)) dX1_violations_44 rfl ?_
  refine rc_istore_n (pc := 45) hC (L' := [some (rc_q v0), some (rc_i x10), some (rc_i (0 : Int32)), some (rc_i (0 : Int32)), none, none]) dX1_violations_45 rfl (Nat.le_of_ble_eq_true rfl) rfl rfl ?_
  refine rc_iconst (pc := 46) hC (v := (0 : Int32)) dX1_violations_46 rfl ?_
  refine rc_istore (pc := 47) hC (L' := [some (rc_q v0), some (rc_i x10), some (rc_i (0 : Int32)), some (rc_i (0 : Int32)), some (rc_i (0 : Int32)), none]) dX1_violations_47 (Nat.le_of_ble_eq_true rfl) rfl rfl ?_
  refine rc_r_fuel h ?_
  intro x11 h
  exact rw_X1_violations_L49 hC hH  x11 v0 x10 (0 : Int32) (0 : Int32) (0 : Int32) S h
theorem rw_X1_writeRoof_L125 {Y : rc_Y} (hC : rc_C Y cX1_writeRoof RX1 (Option.some Jvm.ClassFile.FieldType.int) 3) (hH : rc_H Y 10 223 yX1_writeRoof.name) {k10 : Option Nat → Option Nat → Int32 → rc_M Int32} (hk10 : ∀ (v0 : Option Nat) (v1 : Option Nat) (v2 : Int32) (S : rc_S), rc_Go Y rc_tI (k10 v0 v1 v2) S → rc_Z Y S 10 [some (rc_q v0), some (rc_q v1), some (rc_i v2)] []) (v0 : Option Nat) (v1 : Option Nat) (v2 : Int32) (S : rc_S) (h : rc_Go Y rc_tI (rp_X1_writeRoof_L125 k10 v0 v1 v2) S) : rc_Z Y S 125 [some (rc_q v0), some (rc_q v1), some (rc_i v2)] [] := by
  unfold rp_X1_writeRoof_L125 at h
  refine rc_iinc (pc := 125) hC (v := (v2 + (1 : Int32))) (L' := [some (rc_q v0), some (rc_q v1), some (rc_i (v2 + (1 : Int32)))]) dX1_writeRoof_125 rfl rfl rfl rfl ?_
  refine rc_goto (pc := 128) (tgt := 10) hC dX1_writeRoof_128 rfl ?_
  exact hk10 v0 v1 (v2 + (1 : Int32)) S h
theorem rw_X1_writeRoof_L95 {Y : rc_Y} (hC : rc_C Y cX1_writeRoof RX1 (Option.some Jvm.ClassFile.FieldType.int) 3) (hH : rc_H Y 10 223 yX1_writeRoof.name) {k10 : Option Nat → Option Nat → Int32 → rc_M Int32} (hk10 : ∀ (v0 : Option Nat) (v1 : Option Nat) (v2 : Int32) (S : rc_S), rc_Go Y rc_tI (k10 v0 v1 v2) S → rc_Z Y S 10 [some (rc_q v0), some (rc_q v1), some (rc_i v2)] []) (v0 : Option Nat) (v1 : Option Nat) (v2 : Int32) (S : rc_S) (h : rc_Go Y rc_tI (rp_X1_writeRoof_L95 k10 v0 v1 v2) S) : rc_Z Y S 95 [some (rc_q v0), some (rc_q v1), some (rc_i v2)] [] := by
  unfold rp_X1_writeRoof_L95 at h
  refine rc_aload_n (pc := 95) hC dX1_writeRoof_95 rfl rfl ?_
  refine rc_r_getq (pc := 96) hC rF_X1_44 dX1_writeRoof_96 h ?_
  intro x1 h
  refine rc_iload_n (pc := 99) hC dX1_writeRoof_99 rfl rfl ?_
  obtain ⟨⟨fs, ho⟩, h⟩ := h.is
  refine rc_callV (pc := 100) hC rfl ho (rw_X3_owner hH.1 x1 v2) q1621 q986 q987 q126 q988 rfl rd_X3_owner (hH.room (Nat.le_of_ble_eq_true rfl) (Nat.le_of_ble_eq_true rfl)) rfl rfl (Nat.le_of_ble_eq_true rfl) 1 rfl h.le.2.2 h.br rfl dX1_writeRoof_100 ?_ (fun E q S hT => rc_out hC hH.2.2.2.2 hT)
  intro x2 S h
  show rc_Z Y S 103 [some (rc_q v0), some (rc_q v1), some (rc_i v2)] [rc_i x2]
  refine rc_iconst (pc := 103) hC (v := (-1 : Int32)) dX1_writeRoof_103 rfl ?_
  refine rc_icmp_eq (pc := 104) (tgt := 125) hC dX1_writeRoof_104 rfl h ?_ ?_
  · intro _ h
    exact rw_X1_writeRoof_L125 hC hH hk10 v0 v1 v2 S h
  intro _ h
  refine rc_aload_n (pc := 107) hC dX1_writeRoof_107 rfl rfl ?_
  refine rc_bipush (pc := 108) hC (v := (111 : Int32)) dX1_writeRoof_108 rfl ?_
  obtain ⟨⟨fs, ho⟩, h⟩ := h.is
  refine rc_callV (pc := 110) hC rfl ho (rw_J3_append_3 hH.1 v1 (111 : Int32)) q1250 q1251 q1252 q120 q1253 rfl rd_J3_append_3 (hH.room (Nat.le_of_ble_eq_true rfl) (Nat.le_of_ble_eq_true rfl)) rfl rfl (Nat.le_of_ble_eq_true rfl) 1 rfl h.le.2.2 h.br rfl dX1_writeRoof_110 ?_ (fun E q S hT => rc_out hC hH.2.2.2.2 hT)
  intro x3 S h
  show rc_Z Y S 113 [some (rc_q v0), some (rc_q v1), some (rc_i v2)] [rc_q x3]
  refine rc_aload_n (pc := 113) hC dX1_writeRoof_113 rfl rfl ?_
  refine rc_r_getq (pc := 114) hC rF_X1_44 dX1_writeRoof_114 h ?_
  intro x4 h
  refine rc_iload_n (pc := 117) hC dX1_writeRoof_117 rfl rfl ?_
  obtain ⟨⟨fs, ho⟩, h⟩ := h.is
  refine rc_callV (pc := 118) hC rfl ho (rw_X3_owner hH.1 x4 v2) q1621 q986 q987 q126 q988 rfl rd_X3_owner (hH.room (Nat.le_of_ble_eq_true rfl) (Nat.le_of_ble_eq_true rfl)) rfl rfl (Nat.le_of_ble_eq_true rfl) 1 rfl h.le.2.2 h.br rfl dX1_writeRoof_118 ?_ (fun E q S hT => rc_out hC hH.2.2.2.2 hT)
  intro x5 S h
  show rc_Z Y S 121 [some (rc_q v0), some (rc_q v1), some (rc_i v2)] [rc_i x5, rc_q x3]
  obtain ⟨⟨fs, ho⟩, h⟩ := h.is
  refine rc_callV (pc := 121) hC rfl ho (rw_J3_append hH.1 x3 x5) q1619 q427 q428 q120 q429 rfl rd_J3_append (hH.room (Nat.le_of_ble_eq_true rfl) (Nat.le_of_ble_eq_true rfl)) rfl rfl (Nat.le_of_ble_eq_true rfl) 1 rfl h.le.2.2 h.br rfl dX1_writeRoof_121 ?_ (fun E q S hT => rc_out hC hH.2.2.2.2 hT)
  intro x6 S h
  show rc_Z Y S 124 [some (rc_q v0), some (rc_q v1), some (rc_i v2)] [rc_q x6]
  refine rc_pop (pc := 124) hC dX1_writeRoof_124 rfl ?_
  exact rw_X1_writeRoof_L125 hC hH hk10 v0 v1 v2 S h
theorem rw_X1_writeRoof_L39 {Y : rc_Y} (hC : rc_C Y cX1_writeRoof RX1 (Option.some Jvm.ClassFile.FieldType.int) 3) (hH : rc_H Y 10 223 yX1_writeRoof.name) {k10 : Option Nat → Option Nat → Int32 → rc_M Int32} (hk10 : ∀ (v0 : Option Nat) (v1 : Option Nat) (v2 : Int32) (S : rc_S), rc_Go Y rc_tI (k10 v0 v1 v2) S → rc_Z Y S 10 [some (rc_q v0), some (rc_q v1), some (rc_i v2)] []) (v0 : Option Nat) (v1 : Option Nat) (v2 : Int32) (s0 : Option Nat) (s1 : Option Nat) (S : rc_S) (h : rc_Go Y rc_tI (rp_X1_writeRoof_L39 k10 v0 v1 v2 s0 s1) S) : rc_Z Y S 39 [some (rc_q v0), some (rc_q v1), some (rc_i v2)] [rc_q s0, rc_q s1] := by
  unfold rp_X1_writeRoof_L39 at h
  obtain ⟨⟨fs, ho⟩, h⟩ := h.is
  refine rc_callV (pc := 39) hC rfl ho (rw_J3_append_2 hH.1 s1 s0) q1618 q500 q501 q120 q502 rfl rd_J3_append_2 (hH.room (Nat.le_of_ble_eq_true rfl) (Nat.le_of_ble_eq_true rfl)) rfl rfl (Nat.le_of_ble_eq_true rfl) 1 rfl h.le.2.2 h.br rfl dX1_writeRoof_39 ?_ (fun E q S hT => rc_out hC hH.2.2.2.2 hT)
  intro x1 S h
  show rc_Z Y S 42 [some (rc_q v0), some (rc_q v1), some (rc_i v2)] [rc_q x1]
  refine rc_aload_n (pc := 42) hC dX1_writeRoof_42 rfl rfl ?_
  refine rc_r_getq (pc := 43) hC rF_X1_44 dX1_writeRoof_43 h ?_
  intro x2 h
  refine rc_r_getq (pc := 46) hC rF_X1_56 dX1_writeRoof_46 h ?_
  intro x3 h
  refine rc_iload_n (pc := 49) hC dX1_writeRoof_49 rfl rfl ?_
  obtain ⟨⟨fs, ho⟩, h⟩ := h.is
  refine rc_callF (x0 := rc_xget) (y := yJ7_get) (pc := 50) hC rfl ho (rw_J7_get hH.1 x3 v2) q1574 q941 q943 q128 q945 (List.mem_of_getElem? (i := 2) rfl) ⟨by decide, by decide, rd_J7_get.2.2⟩ (hH.room (Nat.le_of_ble_eq_true rfl) (Nat.le_of_ble_eq_true rfl)) rfl rfl (Nat.le_of_ble_eq_true rfl) 1 rfl h.le.2.2 h.br rfl dX1_writeRoof_50 ?_ (fun E q S hT => rc_out hC hH.2.2.2.2 hT)
  intro x4 S h
  show rc_Z Y S 55 [some (rc_q v0), some (rc_q v1), some (rc_i v2)] [rc_q x4, rc_q x1]
  refine rc_r_cast (pc := 55) hC rK_X1_145 dX1_writeRoof_55 h ?_
  intro h
  refine rc_r_geti (pc := 58) hC rF_X1_240 dX1_writeRoof_58 h ?_
  intro x5 h
  obtain ⟨⟨fs, ho⟩, h⟩ := h.is
  refine rc_callV (pc := 61) hC rfl ho (rw_J3_append hH.1 x1 x5) q1619 q427 q428 q120 q429 rfl rd_J3_append (hH.room (Nat.le_of_ble_eq_true rfl) (Nat.le_of_ble_eq_true rfl)) rfl rfl (Nat.le_of_ble_eq_true rfl) 1 rfl h.le.2.2 h.br rfl dX1_writeRoof_61 ?_ (fun E q S hT => rc_out hC hH.2.2.2.2 hT)
  intro x6 S h
  show rc_Z Y S 64 [some (rc_q v0), some (rc_q v1), some (rc_i v2)] [rc_q x6]
  refine rc_pop (pc := 64) hC dX1_writeRoof_64 rfl ?_
  refine rc_aload_n (pc := 65) hC dX1_writeRoof_65 rfl rfl ?_
  refine rc_r_getq (pc := 66) hC rF_X1_44 dX1_writeRoof_66 h ?_
  intro x7 h
  refine rc_iload_n (pc := 69) hC dX1_writeRoof_69 rfl rfl ?_
  obtain ⟨⟨fs, ho⟩, h⟩ := h.is
  refine rc_callV (pc := 70) hC rfl ho (rw_X3_catOn hH.1 x7 v2) q1620 q932 q933 q126 q934 rfl rd_X3_catOn (hH.room (Nat.le_of_ble_eq_true rfl) (Nat.le_of_ble_eq_true rfl)) rfl rfl (Nat.le_of_ble_eq_true rfl) 1 rfl h.le.2.2 h.br rfl dX1_writeRoof_70 ?_ (fun E q S hT => rc_out hC hH.2.2.2.2 hT)
  intro x8 S h
  show rc_Z Y S 73 [some (rc_q v0), some (rc_q v1), some (rc_i v2)] [rc_i x8]
  refine rc_iconst (pc := 73) hC (v := (-1 : Int32)) dX1_writeRoof_73 rfl ?_
  refine rc_icmp_eq (pc := 74) (tgt := 95) hC dX1_writeRoof_74 rfl h ?_ ?_
  · intro _ h
    exact rw_X1_writeRoof_L95 hC hH hk10 v0 v1 v2 S h
  intro _ h
  refine rc_aload_n (pc := 77) hC dX1_writeRoof_77 rfl rfl ?_
  refine rc_bipush (pc := 78) hC (v := (99 : Int32)) dX1_writeRoof_78 rfl ?_
  obtain ⟨⟨fs, ho⟩, h⟩ := h.is
  refine rc_callV (pc := 80) hC rfl ho (rw_J3_append_3 hH.1 v1 (99 : Int32)) q1250 q1251 q1252 q120 q1253 rfl rd_J3_append_3 (hH.room (Nat.le_of_ble_eq_true rfl) (Nat.le_of_ble_eq_true rfl)) rfl rfl (Nat.le_of_ble_eq_true rfl) 1 rfl h.le.2.2 h.br rfl dX1_writeRoof_80 ?_ (fun E q S hT => rc_out hC hH.2.2.2.2 hT)
  intro x9 S h
  show rc_Z Y S 83 [some (rc_q v0), some (rc_q v1), some (rc_i v2)] [rc_q x9]
  refine rc_aload_n (pc := 83) hC dX1_writeRoof_83 rfl rfl ?_
  refine rc_r_getq (pc := 84) hC rF_X1_44 dX1_writeRoof_84 h ?_
  intro x10 h
  refine rc_iload_n (pc := 87) hC dX1_writeRoof_87 rfl rfl ?_
  obtain ⟨⟨fs, ho⟩, h⟩ := h.is
  refine rc_callV (pc := 88) hC rfl ho (rw_X3_catOn hH.1 x10 v2) q1620 q932 q933 q126 q934 rfl rd_X3_catOn (hH.room (Nat.le_of_ble_eq_true rfl) (Nat.le_of_ble_eq_true rfl)) rfl rfl (Nat.le_of_ble_eq_true rfl) 1 rfl h.le.2.2 h.br rfl dX1_writeRoof_88 ?_ (fun E q S hT => rc_out hC hH.2.2.2.2 hT)
  intro x11 S h
  show rc_Z Y S 91 [some (rc_q v0), some (rc_q v1), some (rc_i v2)] [rc_i x11, rc_q x9]
  obtain ⟨⟨fs, ho⟩, h⟩ := h.is
  refine rc_callV (pc := 91) hC rfl ho (rw_J3_append hH.1 x9 x11) q1619 q427 q428 q120 q429 rfl rd_J3_append (hH.room (Nat.le_of_ble_eq_true rfl) (Nat.le_of_ble_eq_true rfl)) rfl rfl (Nat.le_of_ble_eq_true rfl) 1 rfl h.le.2.2 h.br rfl dX1_writeRoof_91 ?_ (fun E q S hT => rc_out hC hH.2.2.2.2 hT)
  intro x12 S h
  show rc_Z Y S 94 [some (rc_q v0), some (rc_q v1), some (rc_i v2)] [rc_q x12]
  refine rc_pop (pc := 94) hC dX1_writeRoof_94 rfl ?_
  exact rw_X1_writeRoof_L95 hC hH hk10 v0 v1 v2 S h
theorem rw_X1_writeRoof_L10 {Y : rc_Y} (hC : rc_C Y cX1_writeRoof RX1 (Option.some Jvm.ClassFile.FieldType.int) 3) (hH : rc_H Y 10 223 yX1_writeRoof.name) : ∀ (n : Nat) (v0 : Option Nat) (v1 : Option Nat) (v2 : Int32) (S : rc_S), rc_Go Y rc_tI (rp_X1_writeRoof_L10  n v0 v1 v2) S → rc_Z Y S 10 [some (rc_q v0), some (rc_q v1), some (rc_i v2)] [] := by
  intro n
  induction n with
  | zero => intro v0 v1 v2 S h; exact h.fail.elim
  | succ n ih =>
    intro v0 v1 v2 S h
    rw [rp_X1_writeRoof_L10] at h
    refine rc_iload_n (pc := 10) hC dX1_writeRoof_10 rfl rfl ?_
    refine rc_aload_n (pc := 11) hC dX1_writeRoof_11 rfl rfl ?_
    refine rc_r_getq (pc := 12) hC rF_X1_44 dX1_writeRoof_12 h ?_
    intro x1 h
    refine rc_r_getq (pc := 15) hC rF_X1_56 dX1_writeRoof_15 h ?_
    intro x2 h
    obtain ⟨⟨fs, ho⟩, h⟩ := h.is
    refine rc_callF (x0 := rc_xsize) (y := yJ7_size) (pc := 18) hC rfl ho (rw_J7_size hH.1 x2) q1471 q823 q825 q128 q827 (List.mem_of_getElem? (i := 0) rfl) ⟨by decide, by decide, rd_J7_size.2.2⟩ (hH.room (Nat.le_of_ble_eq_true rfl) (Nat.le_of_ble_eq_true rfl)) rfl rfl (Nat.le_of_ble_eq_true rfl) 0 rfl h.le.2.2 h.br rfl dX1_writeRoof_18 ?_ (fun E q S hT => rc_out hC hH.2.2.2.2 hT)
    intro x3 S h
    show rc_Z Y S 23 [some (rc_q v0), some (rc_q v1), some (rc_i v2)] [rc_i x3, rc_i v2]
    refine rc_icmp_ge (pc := 23) (tgt := 131) hC dX1_writeRoof_23 rfl h ?_ ?_
    · intro _ h
      refine rc_aload_n (pc := 131) hC dX1_writeRoof_131 rfl rfl ?_
      refine rc_aload_n (pc := 132) hC dX1_writeRoof_132 rfl rfl ?_
      obtain ⟨⟨fs, ho⟩, h⟩ := h.is
      refine rc_callV (pc := 133) hC rfl ho (rw_J3_toString hH.1 v1) q1267 q549 q550 q120 q551 rfl rd_J3_toString (hH.room (Nat.le_of_ble_eq_true rfl) (Nat.le_of_ble_eq_true rfl)) rfl rfl (Nat.le_of_ble_eq_true rfl) 0 rfl h.le.2.2 h.br rfl dX1_writeRoof_133 ?_ (fun E q S hT => rc_out hC hH.2.2.2.2 hT)
      intro x4 S h
      show rc_Z Y S 136 [some (rc_q v0), some (rc_q v1), some (rc_i v2)] [rc_q x4, rc_q v0]
      refine rc_r_put (pc := 136) hC rP_X1_25 (nofun) dX1_writeRoof_136 h ?_
      intro S h
      refine rc_aload_n (pc := 139) hC dX1_writeRoof_139 rfl rfl ?_
      refine rc_r_getq (pc := 140) hC rF_X1_25 dX1_writeRoof_140 h ?_
      intro x5 h
      obtain ⟨⟨fs, ho⟩, h⟩ := h.is
      refine rc_callV (pc := 143) hC rfl ho (rw_J4_length hH.1 x5) q1622 q307 q308 q121 q309 rfl rd_J4_length (hH.room (Nat.le_of_ble_eq_true rfl) (Nat.le_of_ble_eq_true rfl)) rfl rfl (Nat.le_of_ble_eq_true rfl) 0 rfl h.le.2.2 h.br rfl dX1_writeRoof_143 ?_ (fun E q S hT => rc_out hC hH.2.2.2.2 hT)
      intro x6 S h
      show rc_Z Y S 146 [some (rc_q v0), some (rc_q v1), some (rc_i v2)] [rc_i x6]
      exact rc_iret hC rfl rfl dX1_writeRoof_146 h rfl
    intro _ h
    refine rc_aload_n (pc := 26) hC dX1_writeRoof_26 rfl rfl ?_
    refine rc_iload_n (pc := 27) hC dX1_writeRoof_27 rfl rfl ?_
    refine rc_if_ne (pc := 28) (tgt := 36) hC dX1_writeRoof_28 rfl h ?_ ?_
    · intro _ h
      refine rc_r_textw (pc := 36) hC (i := 27) rfl dX1_writeRoof_36 h ?_
      intro x7 h
      exact rw_X1_writeRoof_L39 hC hH ih v0 v1 v2 x7 v1 S h
    intro _ h
    refine rc_r_text (pc := 31) hC (i := 0) rfl dX1_writeRoof_31 h ?_
    intro x8 h
    refine rc_goto (pc := 33) (tgt := 39) hC dX1_writeRoof_33 rfl ?_
    exact rw_X1_writeRoof_L39 hC hH ih v0 v1 v2 x8 v1 S h
theorem rw_X1_writeRoof {l : Launch} (hl : l.stackTraces = false) (v0 : Option Nat) : rc_Ct l yX1_writeRoof (ws_ yX1_writeRoof cX1_writeRoof 3 (Option.some Jvm.ClassFile.FieldType.int)) 10 223 rc_tI (rp_X1_writeRoof v0) [rc_q v0] := by
  refine rc_Ct_H hl (plainFor_of_name rY_X1) rfl (Nat.le_of_ble_eq_true rfl) (L0 := [some (rc_q v0), none, none]) rfl ?_
  intro Y S hC hH h
  have hC : rc_C Y cX1_writeRoof RX1 (Option.some Jvm.ClassFile.FieldType.int) 3 := hC
  unfold rp_X1_writeRoof at h
  refine rc_r_new (pc := 0) hC rN_X1_16 dX1_writeRoof_0 h ?_
  intro x1 S h
  refine rc_dup (pc := 3) hC dX1_writeRoof_3 rfl ?_
  obtain ⟨⟨b9, ho⟩, h⟩ := h.nn
  refine rc_callI (pc := 4) hC ho (rw_J3_init hH.1 x1) q187 q188 q120 q189 rfl rfl rd_J3_init (hH.room (Nat.le_of_ble_eq_true rfl) (Nat.le_of_ble_eq_true rfl)) rfl rfl (Nat.le_of_ble_eq_true rfl) 0 rfl h.le.2.2 h.br rfl dX1_writeRoof_4 ?_ (fun E q S hT => rc_out hC hH.2.2.2.2 hT)
  intro _ S h
  show rc_Z Y S 7 [some (rc_q v0), none, none] [rc_q x1]
  refine rc_astore_n (pc := 7) hC (L' := [some (rc_q v0), some (rc_q x1), none]) dX1_writeRoof_7 rfl (Nat.le_of_ble_eq_true rfl) rfl rfl ?_
  refine rc_iconst (pc := 8) hC (v := (0 : Int32)) dX1_writeRoof_8 rfl ?_
  refine rc_istore_n (pc := 9) hC (L' := [some (rc_q v0), some (rc_q x1), some (rc_i (0 : Int32))]) dX1_writeRoof_9 rfl (Nat.le_of_ble_eq_true rfl) rfl rfl ?_
  refine rc_r_fuel h ?_
  intro x2 h
  exact rw_X1_writeRoof_L10 hC hH  x2 v0 x1 (0 : Int32) S h
theorem rw_X1_reportByte_L15 {Y : rc_Y} (hC : rc_C Y cX1_reportByte RX1 (Option.some Jvm.ClassFile.FieldType.int) 2) (hH : rc_H Y 5 106 yX1_reportByte.name) (S : rc_S) (h : rc_Go Y rc_tI (rp_X1_reportByte_L15  ) S) : rc_Z Y S 15 [none, none] [] := by
  unfold rp_X1_reportByte_L15 at h
  refine rc_iconst (pc := 15) hC (v := (-1 : Int32)) dX1_reportByte_15 rfl ?_
  refine rc_goto (pc := 16) (tgt := 27) hC dX1_reportByte_16 rfl ?_
  exact rc_iret hC rfl rfl dX1_reportByte_27 h rfl
theorem rw_X1_reportByte {l : Launch} (hl : l.stackTraces = false) (v0 : Option Nat) (v1 : Int32) : rc_Ct l yX1_reportByte (ws_ yX1_reportByte cX1_reportByte 2 (Option.some Jvm.ClassFile.FieldType.int)) 5 106 rc_tI (rp_X1_reportByte v0 v1) [rc_q v0, rc_i v1] := by
  refine rc_Ct_H hl (plainFor_of_name rY_X1) rfl (Nat.le_of_ble_eq_true rfl) (L0 := [some (rc_q v0), some (rc_i v1)]) rfl ?_
  intro Y S hC hH h
  have hC : rc_C Y cX1_reportByte RX1 (Option.some Jvm.ClassFile.FieldType.int) 2 := hC
  unfold rp_X1_reportByte at h
  refine rc_iload_n (pc := 0) hC dX1_reportByte_0 rfl rfl ?_
  refine rc_if_lt (pc := 1) (tgt := 15) hC dX1_reportByte_1 rfl h ?_ ?_
  · intro _ h
    refine rc_drop [false, false] (L' := [none, none]) rfl ?_
    exact rw_X1_reportByte_L15 hC hH   S h
  intro _ h
  refine rc_iload_n (pc := 4) hC dX1_reportByte_4 rfl rfl ?_
  refine rc_aload_n (pc := 5) hC dX1_reportByte_5 rfl rfl ?_
  refine rc_r_getq (pc := 6) hC rF_X1_25 dX1_reportByte_6 h ?_
  intro x1 h
  obtain ⟨⟨fs, ho⟩, h⟩ := h.is
  refine rc_callV (pc := 9) hC rfl ho (rw_J4_length hH.1 x1) q1622 q307 q308 q121 q309 rfl rd_J4_length (hH.room (Nat.le_of_ble_eq_true rfl) (Nat.le_of_ble_eq_true rfl)) rfl rfl (Nat.le_of_ble_eq_true rfl) 0 rfl h.le.2.2 h.br rfl dX1_reportByte_9 ?_ (fun E q S hT => rc_out hC hH.2.2.2.2 hT)
  intro x2 S h
  show rc_Z Y S 12 [some (rc_q v0), some (rc_i v1)] [rc_i x2, rc_i v1]
  refine rc_icmp_lt (pc := 12) (tgt := 19) hC dX1_reportByte_12 rfl h ?_ ?_
  · intro _ h
    refine rc_aload_n (pc := 19) hC dX1_reportByte_19 rfl rfl ?_
    refine rc_r_getq (pc := 20) hC rF_X1_25 dX1_reportByte_20 h ?_
    intro x3 h
    refine rc_iload_n (pc := 23) hC dX1_reportByte_23 rfl rfl ?_
    obtain ⟨⟨fs, ho⟩, h⟩ := h.is
    refine rc_callV (pc := 24) hC rfl ho (rw_J4_charAt hH.1 x3 v1) q1627 q316 q317 q121 q318 rfl rd_J4_charAt (hH.room (Nat.le_of_ble_eq_true rfl) (Nat.le_of_ble_eq_true rfl)) rfl rfl (Nat.le_of_ble_eq_true rfl) 1 rfl h.le.2.2 h.br rfl dX1_reportByte_24 ?_ (fun E q S hT => rc_out hC hH.2.2.2.2 hT)
    intro x4 S h
    show rc_Z Y S 27 [some (rc_q v0), some (rc_i v1)] [rc_i x4]
    exact rc_iret hC rfl rfl dX1_reportByte_27 h rfl
  intro _ h
  refine rc_drop [false, false] (L' := [none, none]) rfl ?_
  exact rw_X1_reportByte_L15 hC hH   S h
theorem rw_X1_checkArgument {l : Launch} (hl : l.stackTraces = false) (v0 : Int32) : rc_Ct l yX1_checkArgument (ws_ yX1_checkArgument cX1_checkArgument 1 (Option.none : Option Jvm.ClassFile.FieldType)) 6 89 rc_tU (rp_X1_checkArgument v0) [rc_i v0] := by
  refine rc_Ct_H hl (plainFor_of_name rY_X1) rfl (Nat.le_of_ble_eq_true rfl) (L0 := [some (rc_i v0)]) rfl ?_
  intro Y S hC hH h
  have hC : rc_C Y cX1_checkArgument RX1 (Option.none : Option Jvm.ClassFile.FieldType) 1 := hC
  unfold rp_X1_checkArgument at h
  refine rc_iload_n (pc := 0) hC dX1_checkArgument_0 rfl rfl ?_
  refine rc_if_ne (pc := 1) (tgt := 12) hC dX1_checkArgument_1 rfl h ?_ ?_
  · intro _ h
    exact rc_vret hC rfl dX1_checkArgument_12 h rfl
  intro _ h
  exact rc_throw0 (E := 1) (ik := 84) (ic := 86) (names := ["java/lang/RuntimeException", "java/lang/Exception"]) hC hH.2.2.2.2 hH.1 (by decide +kernel) (by decide +kernel) q1642 q135 rT_X1_86.1 rT_X1_86.2.1 rT_X1_86.2.2 rfl dX1_checkArgument_4 dX1_checkArgument_7 dX1_checkArgument_8 dX1_checkArgument_11 (hH.frm (Nat.le_of_ble_eq_true rfl)) (hH.lom (Nat.le_of_ble_eq_true rfl)) rfl (Nat.le_of_ble_eq_true rfl) h
theorem rw_X1_checkRange_L15 {Y : rc_Y} (hC : rc_C Y cX1_checkRange RX1 (Option.none : Option Jvm.ClassFile.FieldType) 3) (hH : rc_H Y 7 109 yX1_checkRange.name) (s0 : Int32) (S : rc_S) (h : rc_Go Y rc_tU (rp_X1_checkRange_L15  s0) S) : rc_Z Y S 15 [none, none, none] [rc_i s0] := by
  unfold rp_X1_checkRange_L15 at h
  refine rc_callS (pc := 15) hC (rw_X1_checkArgument hH.1 s0) q1639 q1640 q116 q1641 rd_X1_checkArgument (hH.room (Nat.le_of_ble_eq_true rfl) (Nat.le_of_ble_eq_true rfl)) rfl rfl (Nat.le_of_ble_eq_true rfl) 1 rfl h.le.2.2 h.br rfl dX1_checkRange_15 ?_ (fun E q S hT => rc_out hC hH.2.2.2.2 hT)
  intro _ S h
  show rc_Z Y S 18 [none, none, none] []
  exact rc_vret hC rfl dX1_checkRange_18 h rfl
theorem rw_X1_checkRange_L14 {Y : rc_Y} (hC : rc_C Y cX1_checkRange RX1 (Option.none : Option Jvm.ClassFile.FieldType) 3) (hH : rc_H Y 7 109 yX1_checkRange.name) (S : rc_S) (h : rc_Go Y rc_tU (rp_X1_checkRange_L14  ) S) : rc_Z Y S 14 [none, none, none] [] := by
  unfold rp_X1_checkRange_L14 at h
  refine rc_iconst (pc := 14) hC (v := (0 : Int32)) dX1_checkRange_14 rfl ?_
  exact rw_X1_checkRange_L15 hC hH  (0 : Int32) S h
theorem rw_X1_checkRange {l : Launch} (hl : l.stackTraces = false) (v0 : Int32) (v1 : Int32) (v2 : Int32) : rc_Ct l yX1_checkRange (ws_ yX1_checkRange cX1_checkRange 3 (Option.none : Option Jvm.ClassFile.FieldType)) 7 109 rc_tU (rp_X1_checkRange v0 v1 v2) [rc_i v0, rc_i v1, rc_i v2] := by
  refine rc_Ct_H hl (plainFor_of_name rY_X1) rfl (Nat.le_of_ble_eq_true rfl) (L0 := [some (rc_i v0), some (rc_i v1), some (rc_i v2)]) rfl ?_
  intro Y S hC hH h
  have hC : rc_C Y cX1_checkRange RX1 (Option.none : Option Jvm.ClassFile.FieldType) 3 := hC
  unfold rp_X1_checkRange at h
  refine rc_iload_n (pc := 0) hC dX1_checkRange_0 rfl rfl ?_
  refine rc_iload_n (pc := 1) hC dX1_checkRange_1 rfl rfl ?_
  refine rc_icmp_lt (pc := 2) (tgt := 14) hC dX1_checkRange_2 rfl h ?_ ?_
  · intro _ h
    refine rc_drop [false, false, false] (L' := [none, none, none]) rfl ?_
    exact rw_X1_checkRange_L14 hC hH   S h
  intro _ h
  refine rc_iload_n (pc := 5) hC dX1_checkRange_5 rfl rfl ?_
  refine rc_iload_n (pc := 6) hC dX1_checkRange_6 rfl rfl ?_
  refine rc_icmp_gt (pc := 7) (tgt := 14) hC dX1_checkRange_7 rfl h ?_ ?_
  · intro _ h
    refine rc_drop [false, false, false] (L' := [none, none, none]) rfl ?_
    exact rw_X1_checkRange_L14 hC hH   S h
  intro _ h
  refine rc_iconst (pc := 10) hC (v := (1 : Int32)) dX1_checkRange_10 rfl ?_
  refine rc_goto (pc := 11) (tgt := 15) hC dX1_checkRange_11 rfl ?_
  refine rc_drop [false, false, false] (L' := [none, none, none]) rfl ?_
  exact rw_X1_checkRange_L15 hC hH  (1 : Int32) S h
theorem rw_X1_truncateInput {l : Launch} (hl : l.stackTraces = false) (v0 : Option Nat) (v1 : Int32) : rc_Ct l yX1_truncateInput (ws_ yX1_truncateInput cX1_truncateInput 2 (Option.some Jvm.ClassFile.FieldType.int)) 8 134 rc_tI (rp_X1_truncateInput v0 v1) [rc_q v0, rc_i v1] := by
  refine rc_Ct_H hl (plainFor_of_name rY_X1) rfl (Nat.le_of_ble_eq_true rfl) (L0 := [some (rc_q v0), some (rc_i v1)]) rfl ?_
  intro Y S hC hH h
  have hC : rc_C Y cX1_truncateInput RX1 (Option.some Jvm.ClassFile.FieldType.int) 2 := hC
  unfold rp_X1_truncateInput at h
  refine rc_iload_n (pc := 0) hC dX1_truncateInput_0 rfl rfl ?_
  refine rc_iconst (pc := 1) hC (v := (0 : Int32)) dX1_truncateInput_1 rfl ?_
  refine rc_aload_n (pc := 2) hC dX1_truncateInput_2 rfl rfl ?_
  refine rc_r_getq (pc := 3) hC rF_X1_19 dX1_truncateInput_3 h ?_
  intro x1 h
  obtain ⟨⟨fs, ho⟩, h⟩ := h.is
  refine rc_callV (pc := 6) hC rfl ho (rw_J3_length hH.1 x1) q1245 q569 q2713 q120 q570 rfl rd_J3_length (hH.room (Nat.le_of_ble_eq_true rfl) (Nat.le_of_ble_eq_true rfl)) rfl rfl (Nat.le_of_ble_eq_true rfl) 0 rfl h.le.2.2 h.br rfl dX1_truncateInput_6 ?_ (fun E q S hT => rc_out hC hH.2.2.2.2 hT)
  intro x2 S h
  show rc_Z Y S 9 [some (rc_q v0), some (rc_i v1)] [rc_i x2, rc_i (0 : Int32), rc_i v1]
  refine rc_callS (pc := 9) hC (rw_X1_checkRange hH.1 v1 (0 : Int32) x2) q1636 q1637 q116 q1638 rd_X1_checkRange (hH.room (Nat.le_of_ble_eq_true rfl) (Nat.le_of_ble_eq_true rfl)) rfl rfl (Nat.le_of_ble_eq_true rfl) 3 rfl h.le.2.2 h.br rfl dX1_truncateInput_9 ?_ (fun E q S hT => rc_out hC hH.2.2.2.2 hT)
  intro _ S h
  show rc_Z Y S 12 [some (rc_q v0), some (rc_i v1)] []
  refine rc_aload_n (pc := 12) hC dX1_truncateInput_12 rfl rfl ?_
  refine rc_r_getq (pc := 13) hC rF_X1_19 dX1_truncateInput_13 h ?_
  intro x3 h
  refine rc_iload_n (pc := 16) hC dX1_truncateInput_16 rfl rfl ?_
  obtain ⟨⟨fs, ho⟩, h⟩ := h.is
  refine rc_callV (pc := 17) hC rfl ho (rw_J3_setLength hH.1 x3 v1) q1268 q1269 q1270 q120 q1271 rfl rd_J3_setLength (hH.room (Nat.le_of_ble_eq_true rfl) (Nat.le_of_ble_eq_true rfl)) rfl rfl (Nat.le_of_ble_eq_true rfl) 1 rfl h.le.2.2 h.br rfl dX1_truncateInput_17 ?_ (fun E q S hT => rc_out hC hH.2.2.2.2 hT)
  intro _ S h
  show rc_Z Y S 20 [some (rc_q v0), some (rc_i v1)] []
  refine rc_iload_n (pc := 20) hC dX1_truncateInput_20 rfl rfl ?_
  exact rc_iret hC rfl rfl dX1_truncateInput_21 h rfl
theorem rw_X1_checkState {l : Launch} (hl : l.stackTraces = false) (v0 : Int32) : rc_Ct l yX1_checkState (ws_ yX1_checkState cX1_checkState 1 (Option.none : Option Jvm.ClassFile.FieldType)) 6 89 rc_tU (rp_X1_checkState v0) [rc_i v0] := by
  refine rc_Ct_H hl (plainFor_of_name rY_X1) rfl (Nat.le_of_ble_eq_true rfl) (L0 := [some (rc_i v0)]) rfl ?_
  intro Y S hC hH h
  have hC : rc_C Y cX1_checkState RX1 (Option.none : Option Jvm.ClassFile.FieldType) 1 := hC
  unfold rp_X1_checkState at h
  refine rc_iload_n (pc := 0) hC dX1_checkState_0 rfl rfl ?_
  refine rc_if_ne (pc := 1) (tgt := 12) hC dX1_checkState_1 rfl h ?_ ?_
  · intro _ h
    exact rc_vret hC rfl dX1_checkState_12 h rfl
  intro _ h
  exact rc_throw0 (E := 2) (ik := 50) (ic := 52) (names := ["java/lang/RuntimeException", "java/lang/Exception"]) hC hH.2.2.2.2 hH.1 (by decide +kernel) (by decide +kernel) q1201 q148 rT_X1_52.1 rT_X1_52.2.1 rT_X1_52.2.2 rfl dX1_checkState_4 dX1_checkState_7 dX1_checkState_8 dX1_checkState_11 (hH.frm (Nat.le_of_ble_eq_true rfl)) (hH.lom (Nat.le_of_ble_eq_true rfl)) rfl (Nat.le_of_ble_eq_true rfl) h
theorem rw_X1_addChimney_L29 {Y : rc_Y} (hC : rc_C Y cX1_addChimney RX1 (Option.some Jvm.ClassFile.FieldType.int) 2) (hH : rc_H Y 9 214 yX1_addChimney.name) (v0 : Option Nat) (v1 : Int32) (s0 : Int32) (S : rc_S) (h : rc_Go Y rc_tI (rp_X1_addChimney_L29  v0 v1 s0) S) : rc_Z Y S 29 [some (rc_q v0), some (rc_i v1)] [rc_i s0] := by
  unfold rp_X1_addChimney_L29 at h
  refine rc_callS (pc := 29) hC (rw_X1_checkState hH.1 s0) q1655 q1656 q116 q1657 rd_X1_checkState (hH.room (Nat.le_of_ble_eq_true rfl) (Nat.le_of_ble_eq_true rfl)) rfl rfl (Nat.le_of_ble_eq_true rfl) 1 rfl h.le.2.2 h.br rfl dX1_addChimney_29 ?_ (fun E q S hT => rc_out hC hH.2.2.2.2 hT)
  intro _ S h
  show rc_Z Y S 32 [some (rc_q v0), some (rc_i v1)] []
  refine rc_aload_n (pc := 32) hC dX1_addChimney_32 rfl rfl ?_
  obtain ⟨⟨fs, ho⟩, h⟩ := h.is
  refine rc_callV (pc := 33) hC rfl ho (rw_X1_remember hH.1 v0) q1336 q1338 qs20 q116 q1339 rfl rd_X1_remember (hH.room (Nat.le_of_ble_eq_true rfl) (Nat.le_of_ble_eq_true rfl)) rfl rfl (Nat.le_of_ble_eq_true rfl) 0 rfl h.le.2.2 h.br rfl dX1_addChimney_33 ?_ (fun E q S hT => rc_out hC hH.2.2.2.2 hT)
  intro _ S h
  show rc_Z Y S 36 [some (rc_q v0), some (rc_i v1)] []
  refine rc_aload_n (pc := 36) hC dX1_addChimney_36 rfl rfl ?_
  refine rc_r_getq (pc := 37) hC rF_X1_44 dX1_addChimney_37 h ?_
  intro x1 h
  refine rc_r_getq (pc := 40) hC rF_X1_56 dX1_addChimney_40 h ?_
  intro x2 h
  refine rc_r_new (pc := 43) hC rN_X1_145 dX1_addChimney_43 h ?_
  intro x3 S h
  refine rc_dup (pc := 46) hC dX1_addChimney_46 rfl ?_
  refine rc_iload_n (pc := 47) hC dX1_addChimney_47 rfl rfl ?_
  obtain ⟨⟨b9, ho⟩, h⟩ := h.nn
  refine rc_callI (pc := 48) hC ho (rw_X5_init hH.1 x3 v1) q1658 q831 q142 q832 rfl rfl rd_X5_init (hH.room (Nat.le_of_ble_eq_true rfl) (Nat.le_of_ble_eq_true rfl)) rfl rfl (Nat.le_of_ble_eq_true rfl) 1 rfl h.le.2.2 h.br rfl dX1_addChimney_48 ?_ (fun E q S hT => rc_out hC hH.2.2.2.2 hT)
  intro _ S h
  show rc_Z Y S 51 [some (rc_q v0), some (rc_i v1)] [rc_q x3, rc_q x2]
  obtain ⟨⟨fs, ho⟩, h⟩ := h.is
  refine rc_callF (x0 := rc_xadd) (y := yJ7_add) (pc := 51) hC rfl ho (rw_J7_add hH.1 x2 x3) q1660 q850 q852 q128 q854 (List.mem_of_getElem? (i := 1) rfl) ⟨by decide, by decide, rd_J7_add.2.2⟩ (hH.room (Nat.le_of_ble_eq_true rfl) (Nat.le_of_ble_eq_true rfl)) rfl rfl (Nat.le_of_ble_eq_true rfl) 1 rfl h.le.2.2 h.br rfl dX1_addChimney_51 ?_ (fun E q S hT => rc_out hC hH.2.2.2.2 hT)
  intro x4 S h
  show rc_Z Y S 56 [some (rc_q v0), some (rc_i v1)] [rc_i x4]
  refine rc_pop (pc := 56) hC dX1_addChimney_56 rfl ?_
  refine rc_aload_n (pc := 57) hC dX1_addChimney_57 rfl rfl ?_
  refine rc_r_getq (pc := 58) hC rF_X1_44 dX1_addChimney_58 h ?_
  intro x5 h
  refine rc_r_getq (pc := 61) hC rF_X1_56 dX1_addChimney_61 h ?_
  intro x6 h
  obtain ⟨⟨fs, ho⟩, h⟩ := h.is
  refine rc_callF (x0 := rc_xsize) (y := yJ7_size) (pc := 64) hC rfl ho (rw_J7_size hH.1 x6) q1471 q823 q825 q128 q827 (List.mem_of_getElem? (i := 0) rfl) ⟨by decide, by decide, rd_J7_size.2.2⟩ (hH.room (Nat.le_of_ble_eq_true rfl) (Nat.le_of_ble_eq_true rfl)) rfl rfl (Nat.le_of_ble_eq_true rfl) 0 rfl h.le.2.2 h.br rfl dX1_addChimney_64 ?_ (fun E q S hT => rc_out hC hH.2.2.2.2 hT)
  intro x7 S h
  show rc_Z Y S 69 [some (rc_q v0), some (rc_i v1)] [rc_i x7]
  refine rc_iconst (pc := 69) hC (v := (1 : Int32)) dX1_addChimney_69 rfl ?_
  refine rc_isub (pc := 70) hC dX1_addChimney_70 ?_
  exact rc_iret hC rfl rfl dX1_addChimney_71 h rfl
theorem rw_X1_addChimney {l : Launch} (hl : l.stackTraces = false) (v0 : Option Nat) (v1 : Int32) : rc_Ct l yX1_addChimney (ws_ yX1_addChimney cX1_addChimney 2 (Option.some Jvm.ClassFile.FieldType.int)) 9 214 rc_tI (rp_X1_addChimney v0 v1) [rc_q v0, rc_i v1] := by
  refine rc_Ct_H hl (plainFor_of_name rY_X1) rfl (Nat.le_of_ble_eq_true rfl) (L0 := [some (rc_q v0), some (rc_i v1)]) rfl ?_
  intro Y S hC hH h
  have hC : rc_C Y cX1_addChimney RX1 (Option.some Jvm.ClassFile.FieldType.int) 2 := hC
  unfold rp_X1_addChimney at h
  refine rc_iload_n (pc := 0) hC dX1_addChimney_0 rfl rfl ?_
  refine rc_iconst (pc := 1) hC (v := (0 : Int32)) dX1_addChimney_1 rfl ?_
  refine rc_bipush (pc := 2) hC (v := (9 : Int32)) dX1_addChimney_2 rfl ?_
  refine rc_callS (pc := 4) hC (rw_X1_checkRange hH.1 v1 (0 : Int32) (9 : Int32)) q1636 q1637 q116 q1638 rd_X1_checkRange (hH.room (Nat.le_of_ble_eq_true rfl) (Nat.le_of_ble_eq_true rfl)) rfl rfl (Nat.le_of_ble_eq_true rfl) 3 rfl h.le.2.2 h.br rfl dX1_addChimney_4 ?_ (fun E q S hT => rc_out hC hH.2.2.2.2 hT)
  intro _ S h
  show rc_Z Y S 7 [some (rc_q v0), some (rc_i v1)] []
  refine rc_aload_n (pc := 7) hC dX1_addChimney_7 rfl rfl ?_
  refine rc_r_getq (pc := 8) hC rF_X1_44 dX1_addChimney_8 h ?_
  intro x1 h
  refine rc_r_getq (pc := 11) hC rF_X1_56 dX1_addChimney_11 h ?_
  intro x2 h
  obtain ⟨⟨fs, ho⟩, h⟩ := h.is
  refine rc_callF (x0 := rc_xsize) (y := yJ7_size) (pc := 14) hC rfl ho (rw_J7_size hH.1 x2) q1471 q823 q825 q128 q827 (List.mem_of_getElem? (i := 0) rfl) ⟨by decide, by decide, rd_J7_size.2.2⟩ (hH.room (Nat.le_of_ble_eq_true rfl) (Nat.le_of_ble_eq_true rfl)) rfl rfl (Nat.le_of_ble_eq_true rfl) 0 rfl h.le.2.2 h.br rfl dX1_addChimney_14 ?_ (fun E q S hT => rc_out hC hH.2.2.2.2 hT)
  intro x3 S h
  show rc_Z Y S 19 [some (rc_q v0), some (rc_i v1)] [rc_i x3]
  refine rc_bipush (pc := 19) hC (v := (10 : Int32)) dX1_addChimney_19 rfl ?_
  refine rc_icmp_ge (pc := 21) (tgt := 28) hC dX1_addChimney_21 rfl h ?_ ?_
  · intro _ h
    refine rc_iconst (pc := 28) hC (v := (0 : Int32)) dX1_addChimney_28 rfl ?_
    exact rw_X1_addChimney_L29 hC hH  v0 v1 (0 : Int32) S h
  intro _ h
  refine rc_iconst (pc := 24) hC (v := (1 : Int32)) dX1_addChimney_24 rfl ?_
  refine rc_goto (pc := 25) (tgt := 29) hC dX1_addChimney_25 rfl ?_
  exact rw_X1_addChimney_L29 hC hH  v0 v1 (1 : Int32) S h
theorem rw_X1_checked {l : Launch} (hl : l.stackTraces = false) (v0 : Int32) (v1 : Int32) : rc_Ct l yX1_checked (ws_ yX1_checked cX1_checked 2 (Option.some Jvm.ClassFile.FieldType.int)) 6 89 rc_tI (rp_X1_checked v0 v1) [rc_i v0, rc_i v1] := by
  refine rc_Ct_H hl (plainFor_of_name rY_X1) rfl (Nat.le_of_ble_eq_true rfl) (L0 := [some (rc_i v0), some (rc_i v1)]) rfl ?_
  intro Y S hC hH h
  have hC : rc_C Y cX1_checked RX1 (Option.some Jvm.ClassFile.FieldType.int) 2 := hC
  unfold rp_X1_checked at h
  refine rc_iload_n (pc := 0) hC dX1_checked_0 rfl rfl ?_
  refine rc_if_lt (pc := 1) (tgt := 9) hC dX1_checked_1 rfl h ?_ ?_
  · intro _ h
    exact rc_throw0 (E := 0) (ik := 53) (ic := 55) (names := ["java/lang/RuntimeException", "java/lang/Exception"]) hC hH.2.2.2.2 hH.1 (by decide +kernel) (by decide +kernel) q1678 q150 rT_X1_55.1 rT_X1_55.2.1 rT_X1_55.2.2 rfl dX1_checked_9 dX1_checked_12 dX1_checked_13 dX1_checked_16 (hH.frm (Nat.le_of_ble_eq_true rfl)) (hH.lom (Nat.le_of_ble_eq_true rfl)) rfl (Nat.le_of_ble_eq_true rfl) h
  intro _ h
  refine rc_iload_n (pc := 4) hC dX1_checked_4 rfl rfl ?_
  refine rc_iload_n (pc := 5) hC dX1_checked_5 rfl rfl ?_
  refine rc_icmp_lt (pc := 6) (tgt := 17) hC dX1_checked_6 rfl h ?_ ?_
  · intro _ h
    refine rc_iload_n (pc := 17) hC dX1_checked_17 rfl rfl ?_
    exact rc_iret hC rfl rfl dX1_checked_18 h rfl
  intro _ h
  exact rc_throw0 (E := 0) (ik := 53) (ic := 55) (names := ["java/lang/RuntimeException", "java/lang/Exception"]) hC hH.2.2.2.2 hH.1 (by decide +kernel) (by decide +kernel) q1678 q150 rT_X1_55.1 rT_X1_55.2.1 rT_X1_55.2.2 rfl dX1_checked_9 dX1_checked_12 dX1_checked_13 dX1_checked_16 (hH.frm (Nat.le_of_ble_eq_true rfl)) (hH.lom (Nat.le_of_ble_eq_true rfl)) rfl (Nat.le_of_ble_eq_true rfl) h
theorem rw_X1_chimney {l : Launch} (hl : l.stackTraces = false) (v0 : Option Nat) (v1 : Int32) : rc_Ct l yX1_chimney (ws_ yX1_chimney cX1_chimney 2 (Option.some Jvm.ClassFile.FieldType.int)) 7 110 rc_tI (rp_X1_chimney v0 v1) [rc_q v0, rc_i v1] := by
  refine rc_Ct_H hl (plainFor_of_name rY_X1) rfl (Nat.le_of_ble_eq_true rfl) (L0 := [some (rc_q v0), some (rc_i v1)]) rfl ?_
  intro Y S hC hH h
  have hC : rc_C Y cX1_chimney RX1 (Option.some Jvm.ClassFile.FieldType.int) 2 := hC
  unfold rp_X1_chimney at h
  refine rc_iload_n (pc := 0) hC dX1_chimney_0 rfl rfl ?_
  refine rc_aload_n (pc := 1) hC dX1_chimney_1 rfl rfl ?_
  refine rc_r_getq (pc := 2) hC rF_X1_44 dX1_chimney_2 h ?_
  intro x1 h
  refine rc_r_getq (pc := 5) hC rF_X1_56 dX1_chimney_5 h ?_
  intro x2 h
  obtain ⟨⟨fs, ho⟩, h⟩ := h.is
  refine rc_callF (x0 := rc_xsize) (y := yJ7_size) (pc := 8) hC rfl ho (rw_J7_size hH.1 x2) q1471 q823 q825 q128 q827 (List.mem_of_getElem? (i := 0) rfl) ⟨by decide, by decide, rd_J7_size.2.2⟩ (hH.room (Nat.le_of_ble_eq_true rfl) (Nat.le_of_ble_eq_true rfl)) rfl rfl (Nat.le_of_ble_eq_true rfl) 0 rfl h.le.2.2 h.br rfl dX1_chimney_8 ?_ (fun E q S hT => rc_out hC hH.2.2.2.2 hT)
  intro x3 S h
  show rc_Z Y S 13 [some (rc_q v0), some (rc_i v1)] [rc_i x3, rc_i v1]
  refine rc_callS (pc := 13) hC (rw_X1_checked hH.1 v1 x3) q1675 q1676 q116 q1677 rd_X1_checked (hH.room (Nat.le_of_ble_eq_true rfl) (Nat.le_of_ble_eq_true rfl)) rfl rfl (Nat.le_of_ble_eq_true rfl) 2 rfl h.le.2.2 h.br rfl dX1_chimney_13 ?_ (fun E q S hT => rc_out hC hH.2.2.2.2 hT)
  intro x4 S h
  show rc_Z Y S 16 [some (rc_q v0), some (rc_i v1)] [rc_i x4]
  exact rc_iret hC rfl rfl dX1_chimney_16 h rfl
theorem rw_X1_addGutter_L54 {Y : rc_Y} (hC : rc_C Y cX1_addGutter RX1 (Option.some Jvm.ClassFile.FieldType.int) 4) (hH : rc_H Y 9 214 yX1_addGutter.name) (v0 : Option Nat) (v1 : Int32) (v2 : Int32) (v3 : Int32) (s0 : Int32) (S : rc_S) (h : rc_Go Y rc_tI (rp_X1_addGutter_L54  v0 v1 v2 v3 s0) S) : rc_Z Y S 54 [some (rc_q v0), some (rc_i v1), some (rc_i v2), some (rc_i v3)] [rc_i s0] := by
  unfold rp_X1_addGutter_L54 at h
  refine rc_callS (pc := 54) hC (rw_X1_checkState hH.1 s0) q1655 q1656 q116 q1657 rd_X1_checkState (hH.room (Nat.le_of_ble_eq_true rfl) (Nat.le_of_ble_eq_true rfl)) rfl rfl (Nat.le_of_ble_eq_true rfl) 1 rfl h.le.2.2 h.br rfl dX1_addGutter_54 ?_ (fun E q S hT => rc_out hC hH.2.2.2.2 hT)
  intro _ S h
  show rc_Z Y S 57 [some (rc_q v0), some (rc_i v1), some (rc_i v2), some (rc_i v3)] []
  refine rc_aload_n (pc := 57) hC dX1_addGutter_57 rfl rfl ?_
  obtain ⟨⟨fs, ho⟩, h⟩ := h.is
  refine rc_callV (pc := 58) hC rfl ho (rw_X1_remember hH.1 v0) q1336 q1338 qs20 q116 q1339 rfl rd_X1_remember (hH.room (Nat.le_of_ble_eq_true rfl) (Nat.le_of_ble_eq_true rfl)) rfl rfl (Nat.le_of_ble_eq_true rfl) 0 rfl h.le.2.2 h.br rfl dX1_addGutter_58 ?_ (fun E q S hT => rc_out hC hH.2.2.2.2 hT)
  intro _ S h
  show rc_Z Y S 61 [some (rc_q v0), some (rc_i v1), some (rc_i v2), some (rc_i v3)] []
  refine rc_aload_n (pc := 61) hC dX1_addGutter_61 rfl rfl ?_
  refine rc_r_getq (pc := 62) hC rF_X1_44 dX1_addGutter_62 h ?_
  intro x1 h
  refine rc_r_getq (pc := 65) hC rF_X1_75 dX1_addGutter_65 h ?_
  intro x2 h
  refine rc_r_new (pc := 68) hC rN_X1_82 dX1_addGutter_68 h ?_
  intro x3 S h
  refine rc_dup (pc := 71) hC dX1_addGutter_71 rfl ?_
  refine rc_iload_n (pc := 72) hC dX1_addGutter_72 rfl rfl ?_
  refine rc_iload_n (pc := 73) hC dX1_addGutter_73 rfl rfl ?_
  refine rc_iload_n (pc := 74) hC dX1_addGutter_74 rfl rfl ?_
  obtain ⟨⟨b9, ho⟩, h⟩ := h.nn
  refine rc_callIN (pc := 75) hC ho (rw_X6_init hH.1 x3 v1 v2 v3) (lw_o q1694 rfl) q915 q144 q916 rfl rfl rd_X6_init (hH.room (Nat.le_of_ble_eq_true rfl) (Nat.le_of_ble_eq_true rfl)) rfl rfl (Nat.le_of_ble_eq_true rfl) 3 rfl h.le.2.2 h.br rfl dX1_addGutter_75 ?_ (fun E q S hT => rc_out hC hH.2.2.2.2 hT)
  intro _ S h
  show rc_Z Y S 78 [some (rc_q v0), some (rc_i v1), some (rc_i v2), some (rc_i v3)] [rc_q x3, rc_q x2]
  obtain ⟨⟨fs, ho⟩, h⟩ := h.is
  refine rc_callF (x0 := rc_xadd) (y := yJ7_add) (pc := 78) hC rfl ho (rw_J7_add hH.1 x2 x3) q1660 q850 q852 q128 q854 (List.mem_of_getElem? (i := 1) rfl) ⟨by decide, by decide, rd_J7_add.2.2⟩ (hH.room (Nat.le_of_ble_eq_true rfl) (Nat.le_of_ble_eq_true rfl)) rfl rfl (Nat.le_of_ble_eq_true rfl) 1 rfl h.le.2.2 h.br rfl dX1_addGutter_78 ?_ (fun E q S hT => rc_out hC hH.2.2.2.2 hT)
  intro x4 S h
  show rc_Z Y S 83 [some (rc_q v0), some (rc_i v1), some (rc_i v2), some (rc_i v3)] [rc_i x4]
  refine rc_pop (pc := 83) hC dX1_addGutter_83 rfl ?_
  refine rc_aload_n (pc := 84) hC dX1_addGutter_84 rfl rfl ?_
  refine rc_r_getq (pc := 85) hC rF_X1_44 dX1_addGutter_85 h ?_
  intro x5 h
  refine rc_r_getq (pc := 88) hC rF_X1_75 dX1_addGutter_88 h ?_
  intro x6 h
  obtain ⟨⟨fs, ho⟩, h⟩ := h.is
  refine rc_callF (x0 := rc_xsize) (y := yJ7_size) (pc := 91) hC rfl ho (rw_J7_size hH.1 x6) q1471 q823 q825 q128 q827 (List.mem_of_getElem? (i := 0) rfl) ⟨by decide, by decide, rd_J7_size.2.2⟩ (hH.room (Nat.le_of_ble_eq_true rfl) (Nat.le_of_ble_eq_true rfl)) rfl rfl (Nat.le_of_ble_eq_true rfl) 0 rfl h.le.2.2 h.br rfl dX1_addGutter_91 ?_ (fun E q S hT => rc_out hC hH.2.2.2.2 hT)
  intro x7 S h
  show rc_Z Y S 96 [some (rc_q v0), some (rc_i v1), some (rc_i v2), some (rc_i v3)] [rc_i x7]
  refine rc_iconst (pc := 96) hC (v := (1 : Int32)) dX1_addGutter_96 rfl ?_
  refine rc_isub (pc := 97) hC dX1_addGutter_97 ?_
  exact rc_iret hC rfl rfl dX1_addGutter_98 h rfl
theorem rw_X1_addGutter_L22 {Y : rc_Y} (hC : rc_C Y cX1_addGutter RX1 (Option.some Jvm.ClassFile.FieldType.int) 4) (hH : rc_H Y 9 214 yX1_addGutter.name) (v0 : Option Nat) (v1 : Int32) (v2 : Int32) (v3 : Int32) (s0 : Int32) (S : rc_S) (h : rc_Go Y rc_tI (rp_X1_addGutter_L22  v0 v1 v2 v3 s0) S) : rc_Z Y S 22 [some (rc_q v0), some (rc_i v1), some (rc_i v2), some (rc_i v3)] [rc_i s0] := by
  unfold rp_X1_addGutter_L22 at h
  refine rc_callS (pc := 22) hC (rw_X1_checkArgument hH.1 s0) q1639 q1640 q116 q1641 rd_X1_checkArgument (hH.room (Nat.le_of_ble_eq_true rfl) (Nat.le_of_ble_eq_true rfl)) rfl rfl (Nat.le_of_ble_eq_true rfl) 1 rfl h.le.2.2 h.br rfl dX1_addGutter_22 ?_ (fun E q S hT => rc_out hC hH.2.2.2.2 hT)
  intro _ S h
  show rc_Z Y S 25 [some (rc_q v0), some (rc_i v1), some (rc_i v2), some (rc_i v3)] []
  refine rc_iload_n (pc := 25) hC dX1_addGutter_25 rfl rfl ?_
  refine rc_iconst (pc := 26) hC (v := (1 : Int32)) dX1_addGutter_26 rfl ?_
  refine rc_bipush (pc := 27) hC (v := (9 : Int32)) dX1_addGutter_27 rfl ?_
  refine rc_callS (pc := 29) hC (rw_X1_checkRange hH.1 v3 (1 : Int32) (9 : Int32)) q1636 q1637 q116 q1638 rd_X1_checkRange (hH.room (Nat.le_of_ble_eq_true rfl) (Nat.le_of_ble_eq_true rfl)) rfl rfl (Nat.le_of_ble_eq_true rfl) 3 rfl h.le.2.2 h.br rfl dX1_addGutter_29 ?_ (fun E q S hT => rc_out hC hH.2.2.2.2 hT)
  intro _ S h
  show rc_Z Y S 32 [some (rc_q v0), some (rc_i v1), some (rc_i v2), some (rc_i v3)] []
  refine rc_aload_n (pc := 32) hC dX1_addGutter_32 rfl rfl ?_
  refine rc_r_getq (pc := 33) hC rF_X1_44 dX1_addGutter_33 h ?_
  intro x1 h
  refine rc_r_getq (pc := 36) hC rF_X1_75 dX1_addGutter_36 h ?_
  intro x2 h
  obtain ⟨⟨fs, ho⟩, h⟩ := h.is
  refine rc_callF (x0 := rc_xsize) (y := yJ7_size) (pc := 39) hC rfl ho (rw_J7_size hH.1 x2) q1471 q823 q825 q128 q827 (List.mem_of_getElem? (i := 0) rfl) ⟨by decide, by decide, rd_J7_size.2.2⟩ (hH.room (Nat.le_of_ble_eq_true rfl) (Nat.le_of_ble_eq_true rfl)) rfl rfl (Nat.le_of_ble_eq_true rfl) 0 rfl h.le.2.2 h.br rfl dX1_addGutter_39 ?_ (fun E q S hT => rc_out hC hH.2.2.2.2 hT)
  intro x3 S h
  show rc_Z Y S 44 [some (rc_q v0), some (rc_i v1), some (rc_i v2), some (rc_i v3)] [rc_i x3]
  refine rc_bipush (pc := 44) hC (v := (20 : Int32)) dX1_addGutter_44 rfl ?_
  refine rc_icmp_ge (pc := 46) (tgt := 53) hC dX1_addGutter_46 rfl h ?_ ?_
  · intro _ h
    refine rc_iconst (pc := 53) hC (v := (0 : Int32)) dX1_addGutter_53 rfl ?_
    exact rw_X1_addGutter_L54 hC hH  v0 v1 v2 v3 (0 : Int32) S h
  intro _ h
  refine rc_iconst (pc := 49) hC (v := (1 : Int32)) dX1_addGutter_49 rfl ?_
  refine rc_goto (pc := 50) (tgt := 54) hC dX1_addGutter_50 rfl ?_
  exact rw_X1_addGutter_L54 hC hH  v0 v1 v2 v3 (1 : Int32) S h
theorem rw_X1_addGutter {l : Launch} (hl : l.stackTraces = false) (v0 : Option Nat) (v1 : Int32) (v2 : Int32) (v3 : Int32) : rc_Ct l yX1_addGutter (ws_ yX1_addGutter cX1_addGutter 4 (Option.some Jvm.ClassFile.FieldType.int)) 9 214 rc_tI (rp_X1_addGutter v0 v1 v2 v3) [rc_q v0, rc_i v1, rc_i v2, rc_i v3] := by
  refine rc_Ct_H hl (plainFor_of_name rY_X1) rfl (Nat.le_of_ble_eq_true rfl) (L0 := [some (rc_q v0), some (rc_i v1), some (rc_i v2), some (rc_i v3)]) rfl ?_
  intro Y S hC hH h
  have hC : rc_C Y cX1_addGutter RX1 (Option.some Jvm.ClassFile.FieldType.int) 4 := hC
  unfold rp_X1_addGutter at h
  refine rc_aload_n (pc := 0) hC dX1_addGutter_0 rfl rfl ?_
  refine rc_iload_n (pc := 1) hC dX1_addGutter_1 rfl rfl ?_
  obtain ⟨⟨fs, ho⟩, h⟩ := h.is
  refine rc_callV (pc := 2) hC rfl ho (rw_X1_chimney hH.1 v0 v1) q1671 q1673 qs24 q116 q1674 rfl rd_X1_chimney (hH.room (Nat.le_of_ble_eq_true rfl) (Nat.le_of_ble_eq_true rfl)) rfl rfl (Nat.le_of_ble_eq_true rfl) 1 rfl h.le.2.2 h.br rfl dX1_addGutter_2 ?_ (fun E q S hT => rc_out hC hH.2.2.2.2 hT)
  intro x1 S h
  show rc_Z Y S 5 [some (rc_q v0), some (rc_i v1), some (rc_i v2), some (rc_i v3)] [rc_i x1]
  refine rc_pop (pc := 5) hC dX1_addGutter_5 rfl ?_
  refine rc_aload_n (pc := 6) hC dX1_addGutter_6 rfl rfl ?_
  refine rc_iload_n (pc := 7) hC dX1_addGutter_7 rfl rfl ?_
  obtain ⟨⟨fs, ho⟩, h⟩ := h.is
  refine rc_callV (pc := 8) hC rfl ho (rw_X1_chimney hH.1 v0 v2) q1671 q1673 qs24 q116 q1674 rfl rd_X1_chimney (hH.room (Nat.le_of_ble_eq_true rfl) (Nat.le_of_ble_eq_true rfl)) rfl rfl (Nat.le_of_ble_eq_true rfl) 1 rfl h.le.2.2 h.br rfl dX1_addGutter_8 ?_ (fun E q S hT => rc_out hC hH.2.2.2.2 hT)
  intro x2 S h
  show rc_Z Y S 11 [some (rc_q v0), some (rc_i v1), some (rc_i v2), some (rc_i v3)] [rc_i x2]
  refine rc_pop (pc := 11) hC dX1_addGutter_11 rfl ?_
  refine rc_iload_n (pc := 12) hC dX1_addGutter_12 rfl rfl ?_
  refine rc_iload_n (pc := 13) hC dX1_addGutter_13 rfl rfl ?_
  refine rc_icmp_eq (pc := 14) (tgt := 21) hC dX1_addGutter_14 rfl h ?_ ?_
  · intro _ h
    refine rc_iconst (pc := 21) hC (v := (0 : Int32)) dX1_addGutter_21 rfl ?_
    exact rw_X1_addGutter_L22 hC hH  v0 v1 v2 v3 (0 : Int32) S h
  intro _ h
  refine rc_iconst (pc := 17) hC (v := (1 : Int32)) dX1_addGutter_17 rfl ?_
  refine rc_goto (pc := 18) (tgt := 22) hC dX1_addGutter_18 rfl ?_
  exact rw_X1_addGutter_L22 hC hH  v0 v1 v2 v3 (1 : Int32) S h
theorem rw_X1_checkBody {l : Launch} (hl : l.stackTraces = false) (v0 : Int32) (v1 : Int32) : rc_Ct l yX1_checkBody (ws_ yX1_checkBody cX1_checkBody 2 (Option.none : Option Jvm.ClassFile.FieldType)) 8 131 rc_tU (rp_X1_checkBody v0 v1) [rc_i v0, rc_i v1] := by
  refine rc_Ct_H hl (plainFor_of_name rY_X1) rfl (Nat.le_of_ble_eq_true rfl) (L0 := [some (rc_i v0), some (rc_i v1)]) rfl ?_
  intro Y S hC hH h
  have hC : rc_C Y cX1_checkBody RX1 (Option.none : Option Jvm.ClassFile.FieldType) 2 := hC
  unfold rp_X1_checkBody at h
  refine rc_iload_n (pc := 0) hC dX1_checkBody_0 rfl rfl ?_
  refine rc_iconst (pc := 1) hC (v := (1 : Int32)) dX1_checkBody_1 rfl ?_
  refine rc_bipush (pc := 2) hC (v := (9 : Int32)) dX1_checkBody_2 rfl ?_
  refine rc_callS (pc := 4) hC (rw_X1_checkRange hH.1 v0 (1 : Int32) (9 : Int32)) q1636 q1637 q116 q1638 rd_X1_checkRange (hH.room (Nat.le_of_ble_eq_true rfl) (Nat.le_of_ble_eq_true rfl)) rfl rfl (Nat.le_of_ble_eq_true rfl) 3 rfl h.le.2.2 h.br rfl dX1_checkBody_4 ?_ (fun E q S hT => rc_out hC hH.2.2.2.2 hT)
  intro _ S h
  show rc_Z Y S 7 [some (rc_i v0), some (rc_i v1)] []
  refine rc_iload_n (pc := 7) hC dX1_checkBody_7 rfl rfl ?_
  refine rc_iconst (pc := 8) hC (v := (1 : Int32)) dX1_checkBody_8 rfl ?_
  refine rc_bipush (pc := 9) hC (v := (9 : Int32)) dX1_checkBody_9 rfl ?_
  refine rc_callS (pc := 11) hC (rw_X1_checkRange hH.1 v1 (1 : Int32) (9 : Int32)) q1636 q1637 q116 q1638 rd_X1_checkRange (hH.room (Nat.le_of_ble_eq_true rfl) (Nat.le_of_ble_eq_true rfl)) rfl rfl (Nat.le_of_ble_eq_true rfl) 3 rfl h.le.2.2 h.br rfl dX1_checkBody_11 ?_ (fun E q S hT => rc_out hC hH.2.2.2.2 hT)
  intro _ S h
  show rc_Z Y S 14 [some (rc_i v0), some (rc_i v1)] []
  exact rc_vret hC rfl dX1_checkBody_14 h rfl
theorem rw_X1_addCat_L45 {Y : rc_Y} (hC : rc_C Y cX1_addCat RX1 (Option.some Jvm.ClassFile.FieldType.int) 4) (hH : rc_H Y 9 214 yX1_addCat.name) (v0 : Option Nat) (v1 : Int32) (v2 : Int32) (v3 : Int32) (s0 : Int32) (S : rc_S) (h : rc_Go Y rc_tI (rp_X1_addCat_L45  v0 v1 v2 v3 s0) S) : rc_Z Y S 45 [some (rc_q v0), some (rc_i v1), some (rc_i v2), some (rc_i v3)] [rc_i s0] := by
  unfold rp_X1_addCat_L45 at h
  refine rc_callS (pc := 45) hC (rw_X1_checkState hH.1 s0) q1655 q1656 q116 q1657 rd_X1_checkState (hH.room (Nat.le_of_ble_eq_true rfl) (Nat.le_of_ble_eq_true rfl)) rfl rfl (Nat.le_of_ble_eq_true rfl) 1 rfl h.le.2.2 h.br rfl dX1_addCat_45 ?_ (fun E q S hT => rc_out hC hH.2.2.2.2 hT)
  intro _ S h
  show rc_Z Y S 48 [some (rc_q v0), some (rc_i v1), some (rc_i v2), some (rc_i v3)] []
  refine rc_aload_n (pc := 48) hC dX1_addCat_48 rfl rfl ?_
  obtain ⟨⟨fs, ho⟩, h⟩ := h.is
  refine rc_callV (pc := 49) hC rfl ho (rw_X1_remember hH.1 v0) q1336 q1338 qs20 q116 q1339 rfl rd_X1_remember (hH.room (Nat.le_of_ble_eq_true rfl) (Nat.le_of_ble_eq_true rfl)) rfl rfl (Nat.le_of_ble_eq_true rfl) 0 rfl h.le.2.2 h.br rfl dX1_addCat_49 ?_ (fun E q S hT => rc_out hC hH.2.2.2.2 hT)
  intro _ S h
  show rc_Z Y S 52 [some (rc_q v0), some (rc_i v1), some (rc_i v2), some (rc_i v3)] []
  refine rc_aload_n (pc := 52) hC dX1_addCat_52 rfl rfl ?_
  refine rc_r_getq (pc := 53) hC rF_X1_44 dX1_addCat_53 h ?_
  intro x1 h
  refine rc_r_getq (pc := 56) hC rF_X1_72 dX1_addCat_56 h ?_
  intro x2 h
  refine rc_r_new (pc := 59) hC rN_X1_165 dX1_addCat_59 h ?_
  intro x3 S h
  refine rc_dup (pc := 62) hC dX1_addCat_62 rfl ?_
  refine rc_iload_n (pc := 63) hC dX1_addCat_63 rfl rfl ?_
  refine rc_iload_n (pc := 64) hC dX1_addCat_64 rfl rfl ?_
  refine rc_iload_n (pc := 65) hC dX1_addCat_65 rfl rfl ?_
  obtain ⟨⟨b9, ho⟩, h⟩ := h.nn
  refine rc_callI (pc := 66) hC ho (rw_X7_init hH.1 x3 v1 v2 v3) q1705 q958 q146 q959 rfl rfl rd_X7_init (hH.room (Nat.le_of_ble_eq_true rfl) (Nat.le_of_ble_eq_true rfl)) rfl rfl (Nat.le_of_ble_eq_true rfl) 3 rfl h.le.2.2 h.br rfl dX1_addCat_66 ?_ (fun E q S hT => rc_out hC hH.2.2.2.2 hT)
  intro _ S h
  show rc_Z Y S 69 [some (rc_q v0), some (rc_i v1), some (rc_i v2), some (rc_i v3)] [rc_q x3, rc_q x2]
  obtain ⟨⟨fs, ho⟩, h⟩ := h.is
  refine rc_callF (x0 := rc_xadd) (y := yJ7_add) (pc := 69) hC rfl ho (rw_J7_add hH.1 x2 x3) q1660 q850 q852 q128 q854 (List.mem_of_getElem? (i := 1) rfl) ⟨by decide, by decide, rd_J7_add.2.2⟩ (hH.room (Nat.le_of_ble_eq_true rfl) (Nat.le_of_ble_eq_true rfl)) rfl rfl (Nat.le_of_ble_eq_true rfl) 1 rfl h.le.2.2 h.br rfl dX1_addCat_69 ?_ (fun E q S hT => rc_out hC hH.2.2.2.2 hT)
  intro x4 S h
  show rc_Z Y S 74 [some (rc_q v0), some (rc_i v1), some (rc_i v2), some (rc_i v3)] [rc_i x4]
  refine rc_pop (pc := 74) hC dX1_addCat_74 rfl ?_
  refine rc_aload_n (pc := 75) hC dX1_addCat_75 rfl rfl ?_
  refine rc_r_getq (pc := 76) hC rF_X1_44 dX1_addCat_76 h ?_
  intro x5 h
  refine rc_r_getq (pc := 79) hC rF_X1_72 dX1_addCat_79 h ?_
  intro x6 h
  obtain ⟨⟨fs, ho⟩, h⟩ := h.is
  refine rc_callF (x0 := rc_xsize) (y := yJ7_size) (pc := 82) hC rfl ho (rw_J7_size hH.1 x6) q1471 q823 q825 q128 q827 (List.mem_of_getElem? (i := 0) rfl) ⟨by decide, by decide, rd_J7_size.2.2⟩ (hH.room (Nat.le_of_ble_eq_true rfl) (Nat.le_of_ble_eq_true rfl)) rfl rfl (Nat.le_of_ble_eq_true rfl) 0 rfl h.le.2.2 h.br rfl dX1_addCat_82 ?_ (fun E q S hT => rc_out hC hH.2.2.2.2 hT)
  intro x7 S h
  show rc_Z Y S 87 [some (rc_q v0), some (rc_i v1), some (rc_i v2), some (rc_i v3)] [rc_i x7]
  refine rc_iconst (pc := 87) hC (v := (1 : Int32)) dX1_addCat_87 rfl ?_
  refine rc_isub (pc := 88) hC dX1_addCat_88 ?_
  exact rc_iret hC rfl rfl dX1_addCat_89 h rfl
theorem rw_X1_addCat_L44 {Y : rc_Y} (hC : rc_C Y cX1_addCat RX1 (Option.some Jvm.ClassFile.FieldType.int) 4) (hH : rc_H Y 9 214 yX1_addCat.name) (v0 : Option Nat) (v1 : Int32) (v2 : Int32) (v3 : Int32) (S : rc_S) (h : rc_Go Y rc_tI (rp_X1_addCat_L44  v0 v1 v2 v3) S) : rc_Z Y S 44 [some (rc_q v0), some (rc_i v1), some (rc_i v2), some (rc_i v3)] [] := by
  unfold rp_X1_addCat_L44 at h
  refine rc_iconst (pc := 44) hC (v := (0 : Int32)) dX1_addCat_44 rfl ?_
  exact rw_X1_addCat_L45 hC hH  v0 v1 v2 v3 (0 : Int32) S h
theorem rw_X1_addCat {l : Launch} (hl : l.stackTraces = false) (v0 : Option Nat) (v1 : Int32) (v2 : Int32) (v3 : Int32) : rc_Ct l yX1_addCat (ws_ yX1_addCat cX1_addCat 4 (Option.some Jvm.ClassFile.FieldType.int)) 9 214 rc_tI (rp_X1_addCat v0 v1 v2 v3) [rc_q v0, rc_i v1, rc_i v2, rc_i v3] := by
  refine rc_Ct_H hl (plainFor_of_name rY_X1) rfl (Nat.le_of_ble_eq_true rfl) (L0 := [some (rc_q v0), some (rc_i v1), some (rc_i v2), some (rc_i v3)]) rfl ?_
  intro Y S hC hH h
  have hC : rc_C Y cX1_addCat RX1 (Option.some Jvm.ClassFile.FieldType.int) 4 := hC
  unfold rp_X1_addCat at h
  refine rc_aload_n (pc := 0) hC dX1_addCat_0 rfl rfl ?_
  refine rc_iload_n (pc := 1) hC dX1_addCat_1 rfl rfl ?_
  obtain ⟨⟨fs, ho⟩, h⟩ := h.is
  refine rc_callV (pc := 2) hC rfl ho (rw_X1_chimney hH.1 v0 v1) q1671 q1673 qs24 q116 q1674 rfl rd_X1_chimney (hH.room (Nat.le_of_ble_eq_true rfl) (Nat.le_of_ble_eq_true rfl)) rfl rfl (Nat.le_of_ble_eq_true rfl) 1 rfl h.le.2.2 h.br rfl dX1_addCat_2 ?_ (fun E q S hT => rc_out hC hH.2.2.2.2 hT)
  intro x1 S h
  show rc_Z Y S 5 [some (rc_q v0), some (rc_i v1), some (rc_i v2), some (rc_i v3)] [rc_i x1]
  refine rc_pop (pc := 5) hC dX1_addCat_5 rfl ?_
  refine rc_iload_n (pc := 6) hC dX1_addCat_6 rfl rfl ?_
  refine rc_iload_n (pc := 7) hC dX1_addCat_7 rfl rfl ?_
  refine rc_callS (pc := 8) hC (rw_X1_checkBody hH.1 v2 v3) q1702 q1703 q116 q1704 rd_X1_checkBody (hH.room (Nat.le_of_ble_eq_true rfl) (Nat.le_of_ble_eq_true rfl)) rfl rfl (Nat.le_of_ble_eq_true rfl) 2 rfl h.le.2.2 h.br rfl dX1_addCat_8 ?_ (fun E q S hT => rc_out hC hH.2.2.2.2 hT)
  intro _ S h
  show rc_Z Y S 11 [some (rc_q v0), some (rc_i v1), some (rc_i v2), some (rc_i v3)] []
  refine rc_aload_n (pc := 11) hC dX1_addCat_11 rfl rfl ?_
  refine rc_r_getq (pc := 12) hC rF_X1_44 dX1_addCat_12 h ?_
  intro x2 h
  refine rc_r_getq (pc := 15) hC rF_X1_72 dX1_addCat_15 h ?_
  intro x3 h
  obtain ⟨⟨fs, ho⟩, h⟩ := h.is
  refine rc_callF (x0 := rc_xsize) (y := yJ7_size) (pc := 18) hC rfl ho (rw_J7_size hH.1 x3) q1471 q823 q825 q128 q827 (List.mem_of_getElem? (i := 0) rfl) ⟨by decide, by decide, rd_J7_size.2.2⟩ (hH.room (Nat.le_of_ble_eq_true rfl) (Nat.le_of_ble_eq_true rfl)) rfl rfl (Nat.le_of_ble_eq_true rfl) 0 rfl h.le.2.2 h.br rfl dX1_addCat_18 ?_ (fun E q S hT => rc_out hC hH.2.2.2.2 hT)
  intro x4 S h
  show rc_Z Y S 23 [some (rc_q v0), some (rc_i v1), some (rc_i v2), some (rc_i v3)] [rc_i x4]
  refine rc_bipush (pc := 23) hC (v := (8 : Int32)) dX1_addCat_23 rfl ?_
  refine rc_icmp_ge (pc := 25) (tgt := 44) hC dX1_addCat_25 rfl h ?_ ?_
  · intro _ h
    exact rw_X1_addCat_L44 hC hH  v0 v1 v2 v3 S h
  intro _ h
  refine rc_aload_n (pc := 28) hC dX1_addCat_28 rfl rfl ?_
  refine rc_r_getq (pc := 29) hC rF_X1_44 dX1_addCat_29 h ?_
  intro x5 h
  refine rc_iload_n (pc := 32) hC dX1_addCat_32 rfl rfl ?_
  obtain ⟨⟨fs, ho⟩, h⟩ := h.is
  refine rc_callV (pc := 33) hC rfl ho (rw_X3_catOn hH.1 x5 v1) q1620 q932 q933 q126 q934 rfl rd_X3_catOn (hH.room (Nat.le_of_ble_eq_true rfl) (Nat.le_of_ble_eq_true rfl)) rfl rfl (Nat.le_of_ble_eq_true rfl) 1 rfl h.le.2.2 h.br rfl dX1_addCat_33 ?_ (fun E q S hT => rc_out hC hH.2.2.2.2 hT)
  intro x6 S h
  show rc_Z Y S 36 [some (rc_q v0), some (rc_i v1), some (rc_i v2), some (rc_i v3)] [rc_i x6]
  refine rc_iconst (pc := 36) hC (v := (-1 : Int32)) dX1_addCat_36 rfl ?_
  refine rc_icmp_ne (pc := 37) (tgt := 44) hC dX1_addCat_37 rfl h ?_ ?_
  · intro _ h
    exact rw_X1_addCat_L44 hC hH  v0 v1 v2 v3 S h
  intro _ h
  refine rc_iconst (pc := 40) hC (v := (1 : Int32)) dX1_addCat_40 rfl ?_
  refine rc_goto (pc := 41) (tgt := 45) hC dX1_addCat_41 rfl ?_
  exact rw_X1_addCat_L45 hC hH  v0 v1 v2 v3 (1 : Int32) S h
theorem rw_X1_cat {l : Launch} (hl : l.stackTraces = false) (v0 : Option Nat) (v1 : Int32) : rc_Ct l yX1_cat (ws_ yX1_cat cX1_cat 2 (Option.some Jvm.ClassFile.FieldType.int)) 7 110 rc_tI (rp_X1_cat v0 v1) [rc_q v0, rc_i v1] := by
  refine rc_Ct_H hl (plainFor_of_name rY_X1) rfl (Nat.le_of_ble_eq_true rfl) (L0 := [some (rc_q v0), some (rc_i v1)]) rfl ?_
  intro Y S hC hH h
  have hC : rc_C Y cX1_cat RX1 (Option.some Jvm.ClassFile.FieldType.int) 2 := hC
  unfold rp_X1_cat at h
  refine rc_iload_n (pc := 0) hC dX1_cat_0 rfl rfl ?_
  refine rc_aload_n (pc := 1) hC dX1_cat_1 rfl rfl ?_
  refine rc_r_getq (pc := 2) hC rF_X1_44 dX1_cat_2 h ?_
  intro x1 h
  refine rc_r_getq (pc := 5) hC rF_X1_72 dX1_cat_5 h ?_
  intro x2 h
  obtain ⟨⟨fs, ho⟩, h⟩ := h.is
  refine rc_callF (x0 := rc_xsize) (y := yJ7_size) (pc := 8) hC rfl ho (rw_J7_size hH.1 x2) q1471 q823 q825 q128 q827 (List.mem_of_getElem? (i := 0) rfl) ⟨by decide, by decide, rd_J7_size.2.2⟩ (hH.room (Nat.le_of_ble_eq_true rfl) (Nat.le_of_ble_eq_true rfl)) rfl rfl (Nat.le_of_ble_eq_true rfl) 0 rfl h.le.2.2 h.br rfl dX1_cat_8 ?_ (fun E q S hT => rc_out hC hH.2.2.2.2 hT)
  intro x3 S h
  show rc_Z Y S 13 [some (rc_q v0), some (rc_i v1)] [rc_i x3, rc_i v1]
  refine rc_callS (pc := 13) hC (rw_X1_checked hH.1 v1 x3) q1675 q1676 q116 q1677 rd_X1_checked (hH.room (Nat.le_of_ble_eq_true rfl) (Nat.le_of_ble_eq_true rfl)) rfl rfl (Nat.le_of_ble_eq_true rfl) 2 rfl h.le.2.2 h.br rfl dX1_cat_13 ?_ (fun E q S hT => rc_out hC hH.2.2.2.2 hT)
  intro x4 S h
  show rc_Z Y S 16 [some (rc_q v0), some (rc_i v1)] [rc_i x4]
  exact rc_iret hC rfl rfl dX1_cat_16 h rfl
theorem rw_X1_whyNoStep {l : Launch} (hl : l.stackTraces = false) (v0 : Option Nat) (v1 : Int32) (v2 : Int32) : rc_Ct l yX1_whyNoStep (ws_ yX1_whyNoStep cX1_whyNoStep 3 (Option.some Jvm.ClassFile.FieldType.int)) 8 134 rc_tI (rp_X1_whyNoStep v0 v1 v2) [rc_q v0, rc_i v1, rc_i v2] := by
  refine rc_Ct_H hl (plainFor_of_name rY_X1) rfl (Nat.le_of_ble_eq_true rfl) (L0 := [some (rc_q v0), some (rc_i v1), some (rc_i v2)]) rfl ?_
  intro Y S hC hH h
  have hC : rc_C Y cX1_whyNoStep RX1 (Option.some Jvm.ClassFile.FieldType.int) 3 := hC
  unfold rp_X1_whyNoStep at h
  refine rc_aload_n (pc := 0) hC dX1_whyNoStep_0 rfl rfl ?_
  refine rc_iload_n (pc := 1) hC dX1_whyNoStep_1 rfl rfl ?_
  obtain ⟨⟨fs, ho⟩, h⟩ := h.is
  refine rc_callV (pc := 2) hC rfl ho (rw_X1_cat hH.1 v0 v1) q1717 q1719 qs25 q116 q1720 rfl rd_X1_cat (hH.room (Nat.le_of_ble_eq_true rfl) (Nat.le_of_ble_eq_true rfl)) rfl rfl (Nat.le_of_ble_eq_true rfl) 1 rfl h.le.2.2 h.br rfl dX1_whyNoStep_2 ?_ (fun E q S hT => rc_out hC hH.2.2.2.2 hT)
  intro x1 S h
  show rc_Z Y S 5 [some (rc_q v0), some (rc_i v1), some (rc_i v2)] [rc_i x1]
  refine rc_pop (pc := 5) hC dX1_whyNoStep_5 rfl ?_
  refine rc_aload_n (pc := 6) hC dX1_whyNoStep_6 rfl rfl ?_
  refine rc_r_getq (pc := 7) hC rF_X1_44 dX1_whyNoStep_7 h ?_
  intro x2 h
  refine rc_iload_n (pc := 10) hC dX1_whyNoStep_10 rfl rfl ?_
  refine rc_iload_n (pc := 11) hC dX1_whyNoStep_11 rfl rfl ?_
  refine rc_aload_n (pc := 12) hC dX1_whyNoStep_12 rfl rfl ?_
  refine rc_r_getq (pc := 13) hC rF_X1_44 dX1_whyNoStep_13 h ?_
  intro x3 h
  refine rc_r_getq (pc := 16) hC rF_X1_75 dX1_whyNoStep_16 h ?_
  intro x4 h
  obtain ⟨⟨fs, ho⟩, h⟩ := h.is
  refine rc_callF (x0 := rc_xsize) (y := yJ7_size) (pc := 19) hC rfl ho (rw_J7_size hH.1 x4) q1471 q823 q825 q128 q827 (List.mem_of_getElem? (i := 0) rfl) ⟨by decide, by decide, rd_J7_size.2.2⟩ (hH.room (Nat.le_of_ble_eq_true rfl) (Nat.le_of_ble_eq_true rfl)) rfl rfl (Nat.le_of_ble_eq_true rfl) 0 rfl h.le.2.2 h.br rfl dX1_whyNoStep_19 ?_ (fun E q S hT => rc_out hC hH.2.2.2.2 hT)
  intro x5 S h
  show rc_Z Y S 24 [some (rc_q v0), some (rc_i v1), some (rc_i v2)] [rc_i x5, rc_i v2, rc_i v1, rc_q x2]
  refine rc_callS (pc := 24) hC (rw_X1_checked hH.1 v2 x5) q1675 q1676 q116 q1677 rd_X1_checked (hH.room (Nat.le_of_ble_eq_true rfl) (Nat.le_of_ble_eq_true rfl)) rfl rfl (Nat.le_of_ble_eq_true rfl) 2 rfl h.le.2.2 h.br rfl dX1_whyNoStep_24 ?_ (fun E q S hT => rc_out hC hH.2.2.2.2 hT)
  intro x6 S h
  show rc_Z Y S 27 [some (rc_q v0), some (rc_i v1), some (rc_i v2)] [rc_i x6, rc_i v1, rc_q x2]
  obtain ⟨⟨fs, ho⟩, h⟩ := h.is
  refine rc_callV (pc := 27) hC rfl ho (rw_X3_judgeStep hH.1 x2 v1 x6) q1721 q1020 q1021 q126 q1022 rfl rd_X3_judgeStep (hH.room (Nat.le_of_ble_eq_true rfl) (Nat.le_of_ble_eq_true rfl)) rfl rfl (Nat.le_of_ble_eq_true rfl) 2 rfl h.le.2.2 h.br rfl dX1_whyNoStep_27 ?_ (fun E q S hT => rc_out hC hH.2.2.2.2 hT)
  intro x7 S h
  show rc_Z Y S 30 [some (rc_q v0), some (rc_i v1), some (rc_i v2)] [rc_i x7]
  exact rc_iret hC rfl rfl dX1_whyNoStep_30 h rfl
theorem rw_X1_step_L14 {Y : rc_Y} (hC : rc_C Y cX1_step RX1 (Option.some Jvm.ClassFile.FieldType.int) 3) (hH : rc_H Y 9 214 yX1_step.name) (v0 : Option Nat) (v1 : Int32) (v2 : Int32) (s0 : Int32) (S : rc_S) (h : rc_Go Y rc_tI (rp_X1_step_L14  v0 v1 v2 s0) S) : rc_Z Y S 14 [some (rc_q v0), some (rc_i v1), some (rc_i v2)] [rc_i s0] := by
  unfold rp_X1_step_L14 at h
  refine rc_callS (pc := 14) hC (rw_X1_checkState hH.1 s0) q1655 q1656 q116 q1657 rd_X1_checkState (hH.room (Nat.le_of_ble_eq_true rfl) (Nat.le_of_ble_eq_true rfl)) rfl rfl (Nat.le_of_ble_eq_true rfl) 1 rfl h.le.2.2 h.br rfl dX1_step_14 ?_ (fun E q S hT => rc_out hC hH.2.2.2.2 hT)
  intro _ S h
  show rc_Z Y S 17 [some (rc_q v0), some (rc_i v1), some (rc_i v2)] []
  refine rc_aload_n (pc := 17) hC dX1_step_17 rfl rfl ?_
  obtain ⟨⟨fs, ho⟩, h⟩ := h.is
  refine rc_callV (pc := 18) hC rfl ho (rw_X1_remember hH.1 v0) q1336 q1338 qs20 q116 q1339 rfl rd_X1_remember (hH.room (Nat.le_of_ble_eq_true rfl) (Nat.le_of_ble_eq_true rfl)) rfl rfl (Nat.le_of_ble_eq_true rfl) 0 rfl h.le.2.2 h.br rfl dX1_step_18 ?_ (fun E q S hT => rc_out hC hH.2.2.2.2 hT)
  intro _ S h
  show rc_Z Y S 21 [some (rc_q v0), some (rc_i v1), some (rc_i v2)] []
  refine rc_aload_n (pc := 21) hC dX1_step_21 rfl rfl ?_
  refine rc_r_getq (pc := 22) hC rF_X1_44 dX1_step_22 h ?_
  intro x1 h
  refine rc_iload_n (pc := 25) hC dX1_step_25 rfl rfl ?_
  refine rc_iload_n (pc := 26) hC dX1_step_26 rfl rfl ?_
  obtain ⟨⟨fs, ho⟩, h⟩ := h.is
  refine rc_callV (pc := 27) hC rfl ho (rw_X3_step hH.1 x1 v1 v2) q1722 q1051 q1052 q126 q1053 rfl rd_X3_step (hH.room (Nat.le_of_ble_eq_true rfl) (Nat.le_of_ble_eq_true rfl)) rfl rfl (Nat.le_of_ble_eq_true rfl) 2 rfl h.le.2.2 h.br rfl dX1_step_27 ?_ (fun E q S hT => rc_out hC hH.2.2.2.2 hT)
  intro x2 S h
  show rc_Z Y S 30 [some (rc_q v0), some (rc_i v1), some (rc_i v2)] [rc_i x2]
  exact rc_iret hC rfl rfl dX1_step_30 h rfl
theorem rw_X1_step {l : Launch} (hl : l.stackTraces = false) (v0 : Option Nat) (v1 : Int32) (v2 : Int32) : rc_Ct l yX1_step (ws_ yX1_step cX1_step 3 (Option.some Jvm.ClassFile.FieldType.int)) 9 214 rc_tI (rp_X1_step v0 v1 v2) [rc_q v0, rc_i v1, rc_i v2] := by
  refine rc_Ct_H hl (plainFor_of_name rY_X1) rfl (Nat.le_of_ble_eq_true rfl) (L0 := [some (rc_q v0), some (rc_i v1), some (rc_i v2)]) rfl ?_
  intro Y S hC hH h
  have hC : rc_C Y cX1_step RX1 (Option.some Jvm.ClassFile.FieldType.int) 3 := hC
  unfold rp_X1_step at h
  refine rc_aload_n (pc := 0) hC dX1_step_0 rfl rfl ?_
  refine rc_iload_n (pc := 1) hC dX1_step_1 rfl rfl ?_
  refine rc_iload_n (pc := 2) hC dX1_step_2 rfl rfl ?_
  obtain ⟨⟨fs, ho⟩, h⟩ := h.is
  refine rc_callV (pc := 3) hC rfl ho (rw_X1_whyNoStep hH.1 v0 v1 v2) q1713 q1714 q1715 q116 q1716 rfl rd_X1_whyNoStep (hH.room (Nat.le_of_ble_eq_true rfl) (Nat.le_of_ble_eq_true rfl)) rfl rfl (Nat.le_of_ble_eq_true rfl) 2 rfl h.le.2.2 h.br rfl dX1_step_3 ?_ (fun E q S hT => rc_out hC hH.2.2.2.2 hT)
  intro x1 S h
  show rc_Z Y S 6 [some (rc_q v0), some (rc_i v1), some (rc_i v2)] [rc_i x1]
  refine rc_if_ne (pc := 6) (tgt := 13) hC dX1_step_6 rfl h ?_ ?_
  · intro _ h
    refine rc_iconst (pc := 13) hC (v := (0 : Int32)) dX1_step_13 rfl ?_
    exact rw_X1_step_L14 hC hH  v0 v1 v2 (0 : Int32) S h
  intro _ h
  refine rc_iconst (pc := 9) hC (v := (1 : Int32)) dX1_step_9 rfl ?_
  refine rc_goto (pc := 10) (tgt := 14) hC dX1_step_10 rfl ?_
  exact rw_X1_step_L14 hC hH  v0 v1 v2 (1 : Int32) S h
theorem rw_X1_whyNoClaim {l : Launch} (hl : l.stackTraces = false) (v0 : Option Nat) (v1 : Int32) : rc_Ct l yX1_whyNoClaim (ws_ yX1_whyNoClaim cX1_whyNoClaim 2 (Option.some Jvm.ClassFile.FieldType.int)) 8 150 rc_tI (rp_X1_whyNoClaim v0 v1) [rc_q v0, rc_i v1] := by
  refine rc_Ct_H hl (plainFor_of_name rY_X1) rfl (Nat.le_of_ble_eq_true rfl) (L0 := [some (rc_q v0), some (rc_i v1)]) rfl ?_
  intro Y S hC hH h
  have hC : rc_C Y cX1_whyNoClaim RX1 (Option.some Jvm.ClassFile.FieldType.int) 2 := hC
  unfold rp_X1_whyNoClaim at h
  refine rc_aload_n (pc := 0) hC dX1_whyNoClaim_0 rfl rfl ?_
  refine rc_r_getq (pc := 1) hC rF_X1_44 dX1_whyNoClaim_1 h ?_
  intro x1 h
  refine rc_aload_n (pc := 4) hC dX1_whyNoClaim_4 rfl rfl ?_
  refine rc_iload_n (pc := 5) hC dX1_whyNoClaim_5 rfl rfl ?_
  obtain ⟨⟨fs, ho⟩, h⟩ := h.is
  refine rc_callV (pc := 6) hC rfl ho (rw_X1_cat hH.1 v0 v1) q1717 q1719 qs25 q116 q1720 rfl rd_X1_cat (hH.room (Nat.le_of_ble_eq_true rfl) (Nat.le_of_ble_eq_true rfl)) rfl rfl (Nat.le_of_ble_eq_true rfl) 1 rfl h.le.2.2 h.br rfl dX1_whyNoClaim_6 ?_ (fun E q S hT => rc_out hC hH.2.2.2.2 hT)
  intro x2 S h
  show rc_Z Y S 9 [some (rc_q v0), some (rc_i v1)] [rc_i x2, rc_q x1]
  obtain ⟨⟨fs, ho⟩, h⟩ := h.is
  refine rc_callV (pc := 9) hC rfl ho (rw_X3_judgeClaim hH.1 x1 x2) q1734 q997 q998 q126 q999 rfl rd_X3_judgeClaim (hH.room (Nat.le_of_ble_eq_true rfl) (Nat.le_of_ble_eq_true rfl)) rfl rfl (Nat.le_of_ble_eq_true rfl) 1 rfl h.le.2.2 h.br rfl dX1_whyNoClaim_9 ?_ (fun E q S hT => rc_out hC hH.2.2.2.2 hT)
  intro x3 S h
  show rc_Z Y S 12 [some (rc_q v0), some (rc_i v1)] [rc_i x3]
  exact rc_iret hC rfl rfl dX1_whyNoClaim_12 h rfl
theorem rw_X1_claim_L13 {Y : rc_Y} (hC : rc_C Y cX1_claim RX1 (Option.some Jvm.ClassFile.FieldType.int) 2) (hH : rc_H Y 9 214 yX1_claim.name) (v0 : Option Nat) (v1 : Int32) (s0 : Int32) (S : rc_S) (h : rc_Go Y rc_tI (rp_X1_claim_L13  v0 v1 s0) S) : rc_Z Y S 13 [some (rc_q v0), some (rc_i v1)] [rc_i s0] := by
  unfold rp_X1_claim_L13 at h
  refine rc_callS (pc := 13) hC (rw_X1_checkState hH.1 s0) q1655 q1656 q116 q1657 rd_X1_checkState (hH.room (Nat.le_of_ble_eq_true rfl) (Nat.le_of_ble_eq_true rfl)) rfl rfl (Nat.le_of_ble_eq_true rfl) 1 rfl h.le.2.2 h.br rfl dX1_claim_13 ?_ (fun E q S hT => rc_out hC hH.2.2.2.2 hT)
  intro _ S h
  show rc_Z Y S 16 [some (rc_q v0), some (rc_i v1)] []
  refine rc_aload_n (pc := 16) hC dX1_claim_16 rfl rfl ?_
  obtain ⟨⟨fs, ho⟩, h⟩ := h.is
  refine rc_callV (pc := 17) hC rfl ho (rw_X1_remember hH.1 v0) q1336 q1338 qs20 q116 q1339 rfl rd_X1_remember (hH.room (Nat.le_of_ble_eq_true rfl) (Nat.le_of_ble_eq_true rfl)) rfl rfl (Nat.le_of_ble_eq_true rfl) 0 rfl h.le.2.2 h.br rfl dX1_claim_17 ?_ (fun E q S hT => rc_out hC hH.2.2.2.2 hT)
  intro _ S h
  show rc_Z Y S 20 [some (rc_q v0), some (rc_i v1)] []
  refine rc_aload_n (pc := 20) hC dX1_claim_20 rfl rfl ?_
  refine rc_r_getq (pc := 21) hC rF_X1_44 dX1_claim_21 h ?_
  intro x1 h
  refine rc_iload_n (pc := 24) hC dX1_claim_24 rfl rfl ?_
  obtain ⟨⟨fs, ho⟩, h⟩ := h.is
  refine rc_callV (pc := 25) hC rfl ho (rw_X3_claim hH.1 x1 v1) q1735 q1016 q1017 q126 q1018 rfl rd_X3_claim (hH.room (Nat.le_of_ble_eq_true rfl) (Nat.le_of_ble_eq_true rfl)) rfl rfl (Nat.le_of_ble_eq_true rfl) 1 rfl h.le.2.2 h.br rfl dX1_claim_25 ?_ (fun E q S hT => rc_out hC hH.2.2.2.2 hT)
  intro x2 S h
  show rc_Z Y S 28 [some (rc_q v0), some (rc_i v1)] [rc_i x2]
  exact rc_iret hC rfl rfl dX1_claim_28 h rfl
theorem rw_X1_claim {l : Launch} (hl : l.stackTraces = false) (v0 : Option Nat) (v1 : Int32) : rc_Ct l yX1_claim (ws_ yX1_claim cX1_claim 2 (Option.some Jvm.ClassFile.FieldType.int)) 9 214 rc_tI (rp_X1_claim v0 v1) [rc_q v0, rc_i v1] := by
  refine rc_Ct_H hl (plainFor_of_name rY_X1) rfl (Nat.le_of_ble_eq_true rfl) (L0 := [some (rc_q v0), some (rc_i v1)]) rfl ?_
  intro Y S hC hH h
  have hC : rc_C Y cX1_claim RX1 (Option.some Jvm.ClassFile.FieldType.int) 2 := hC
  unfold rp_X1_claim at h
  refine rc_aload_n (pc := 0) hC dX1_claim_0 rfl rfl ?_
  refine rc_iload_n (pc := 1) hC dX1_claim_1 rfl rfl ?_
  obtain ⟨⟨fs, ho⟩, h⟩ := h.is
  refine rc_callV (pc := 2) hC rfl ho (rw_X1_whyNoClaim hH.1 v0 v1) q1730 q1731 q1732 q116 q1733 rfl rd_X1_whyNoClaim (hH.room (Nat.le_of_ble_eq_true rfl) (Nat.le_of_ble_eq_true rfl)) rfl rfl (Nat.le_of_ble_eq_true rfl) 1 rfl h.le.2.2 h.br rfl dX1_claim_2 ?_ (fun E q S hT => rc_out hC hH.2.2.2.2 hT)
  intro x1 S h
  show rc_Z Y S 5 [some (rc_q v0), some (rc_i v1)] [rc_i x1]
  refine rc_if_ne (pc := 5) (tgt := 12) hC dX1_claim_5 rfl h ?_ ?_
  · intro _ h
    refine rc_iconst (pc := 12) hC (v := (0 : Int32)) dX1_claim_12 rfl ?_
    exact rw_X1_claim_L13 hC hH  v0 v1 (0 : Int32) S h
  intro _ h
  refine rc_iconst (pc := 8) hC (v := (1 : Int32)) dX1_claim_8 rfl ?_
  refine rc_goto (pc := 9) (tgt := 13) hC dX1_claim_9 rfl ?_
  exact rw_X1_claim_L13 hC hH  v0 v1 (1 : Int32) S h
theorem rw_X1_ownerOf {l : Launch} (hl : l.stackTraces = false) (v0 : Option Nat) (v1 : Int32) : rc_Ct l yX1_ownerOf (ws_ yX1_ownerOf cX1_ownerOf 2 (Option.some Jvm.ClassFile.FieldType.int)) 8 131 rc_tI (rp_X1_ownerOf v0 v1) [rc_q v0, rc_i v1] := by
  refine rc_Ct_H hl (plainFor_of_name rY_X1) rfl (Nat.le_of_ble_eq_true rfl) (L0 := [some (rc_q v0), some (rc_i v1)]) rfl ?_
  intro Y S hC hH h
  have hC : rc_C Y cX1_ownerOf RX1 (Option.some Jvm.ClassFile.FieldType.int) 2 := hC
  unfold rp_X1_ownerOf at h
  refine rc_aload_n (pc := 0) hC dX1_ownerOf_0 rfl rfl ?_
  refine rc_r_getq (pc := 1) hC rF_X1_44 dX1_ownerOf_1 h ?_
  intro x1 h
  refine rc_aload_n (pc := 4) hC dX1_ownerOf_4 rfl rfl ?_
  refine rc_iload_n (pc := 5) hC dX1_ownerOf_5 rfl rfl ?_
  obtain ⟨⟨fs, ho⟩, h⟩ := h.is
  refine rc_callV (pc := 6) hC rfl ho (rw_X1_chimney hH.1 v0 v1) q1671 q1673 qs24 q116 q1674 rfl rd_X1_chimney (hH.room (Nat.le_of_ble_eq_true rfl) (Nat.le_of_ble_eq_true rfl)) rfl rfl (Nat.le_of_ble_eq_true rfl) 1 rfl h.le.2.2 h.br rfl dX1_ownerOf_6 ?_ (fun E q S hT => rc_out hC hH.2.2.2.2 hT)
  intro x2 S h
  show rc_Z Y S 9 [some (rc_q v0), some (rc_i v1)] [rc_i x2, rc_q x1]
  obtain ⟨⟨fs, ho⟩, h⟩ := h.is
  refine rc_callV (pc := 9) hC rfl ho (rw_X3_owner hH.1 x1 x2) q1621 q986 q987 q126 q988 rfl rd_X3_owner (hH.room (Nat.le_of_ble_eq_true rfl) (Nat.le_of_ble_eq_true rfl)) rfl rfl (Nat.le_of_ble_eq_true rfl) 1 rfl h.le.2.2 h.br rfl dX1_ownerOf_9 ?_ (fun E q S hT => rc_out hC hH.2.2.2.2 hT)
  intro x3 S h
  show rc_Z Y S 12 [some (rc_q v0), some (rc_i v1)] [rc_i x3]
  exact rc_iret hC rfl rfl dX1_ownerOf_12 h rfl
theorem rw_X1_abandon_L16 {Y : rc_Y} (hC : rc_C Y cX1_abandon RX1 (Option.some Jvm.ClassFile.FieldType.int) 3) (hH : rc_H Y 9 214 yX1_abandon.name) (v0 : Option Nat) (v1 : Int32) (v2 : Int32) (s0 : Int32) (S : rc_S) (h : rc_Go Y rc_tI (rp_X1_abandon_L16  v0 v1 v2 s0) S) : rc_Z Y S 16 [some (rc_q v0), some (rc_i v1), some (rc_i v2)] [rc_i s0] := by
  unfold rp_X1_abandon_L16 at h
  refine rc_callS (pc := 16) hC (rw_X1_checkState hH.1 s0) q1655 q1656 q116 q1657 rd_X1_checkState (hH.room (Nat.le_of_ble_eq_true rfl) (Nat.le_of_ble_eq_true rfl)) rfl rfl (Nat.le_of_ble_eq_true rfl) 1 rfl h.le.2.2 h.br rfl dX1_abandon_16 ?_ (fun E q S hT => rc_out hC hH.2.2.2.2 hT)
  intro _ S h
  show rc_Z Y S 19 [some (rc_q v0), some (rc_i v1), some (rc_i v2)] []
  refine rc_aload_n (pc := 19) hC dX1_abandon_19 rfl rfl ?_
  obtain ⟨⟨fs, ho⟩, h⟩ := h.is
  refine rc_callV (pc := 20) hC rfl ho (rw_X1_remember hH.1 v0) q1336 q1338 qs20 q116 q1339 rfl rd_X1_remember (hH.room (Nat.le_of_ble_eq_true rfl) (Nat.le_of_ble_eq_true rfl)) rfl rfl (Nat.le_of_ble_eq_true rfl) 0 rfl h.le.2.2 h.br rfl dX1_abandon_20 ?_ (fun E q S hT => rc_out hC hH.2.2.2.2 hT)
  intro _ S h
  show rc_Z Y S 23 [some (rc_q v0), some (rc_i v1), some (rc_i v2)] []
  refine rc_aload_n (pc := 23) hC dX1_abandon_23 rfl rfl ?_
  refine rc_r_getq (pc := 24) hC rF_X1_44 dX1_abandon_24 h ?_
  intro x1 h
  refine rc_r_getq (pc := 27) hC rF_X1_56 dX1_abandon_27 h ?_
  intro x2 h
  refine rc_iload_n (pc := 30) hC dX1_abandon_30 rfl rfl ?_
  obtain ⟨⟨fs, ho⟩, h⟩ := h.is
  refine rc_callF (x0 := rc_xget) (y := yJ7_get) (pc := 31) hC rfl ho (rw_J7_get hH.1 x2 v1) q1574 q941 q943 q128 q945 (List.mem_of_getElem? (i := 2) rfl) ⟨by decide, by decide, rd_J7_get.2.2⟩ (hH.room (Nat.le_of_ble_eq_true rfl) (Nat.le_of_ble_eq_true rfl)) rfl rfl (Nat.le_of_ble_eq_true rfl) 1 rfl h.le.2.2 h.br rfl dX1_abandon_31 ?_ (fun E q S hT => rc_out hC hH.2.2.2.2 hT)
  intro x3 S h
  show rc_Z Y S 36 [some (rc_q v0), some (rc_i v1), some (rc_i v2)] [rc_q x3]
  refine rc_r_cast (pc := 36) hC rK_X1_145 dX1_abandon_36 h ?_
  intro h
  refine rc_iconst (pc := 39) hC (v := (-1 : Int32)) dX1_abandon_39 rfl ?_
  refine rc_r_put (pc := 40) hC rP_X1_183 (nofun) dX1_abandon_40 h ?_
  intro S h
  refine rc_iload_n (pc := 43) hC dX1_abandon_43 rfl rfl ?_
  exact rc_iret hC rfl rfl dX1_abandon_44 h rfl
theorem rw_X1_abandon {l : Launch} (hl : l.stackTraces = false) (v0 : Option Nat) (v1 : Int32) : rc_Ct l yX1_abandon (ws_ yX1_abandon cX1_abandon 3 (Option.some Jvm.ClassFile.FieldType.int)) 9 214 rc_tI (rp_X1_abandon v0 v1) [rc_q v0, rc_i v1] := by
  refine rc_Ct_H hl (plainFor_of_name rY_X1) rfl (Nat.le_of_ble_eq_true rfl) (L0 := [some (rc_q v0), some (rc_i v1), none]) rfl ?_
  intro Y S hC hH h
  have hC : rc_C Y cX1_abandon RX1 (Option.some Jvm.ClassFile.FieldType.int) 3 := hC
  unfold rp_X1_abandon at h
  refine rc_aload_n (pc := 0) hC dX1_abandon_0 rfl rfl ?_
  refine rc_iload_n (pc := 1) hC dX1_abandon_1 rfl rfl ?_
  obtain ⟨⟨fs, ho⟩, h⟩ := h.is
  refine rc_callV (pc := 2) hC rfl ho (rw_X1_ownerOf hH.1 v0 v1) q1743 q1744 q1745 q116 q1746 rfl rd_X1_ownerOf (hH.room (Nat.le_of_ble_eq_true rfl) (Nat.le_of_ble_eq_true rfl)) rfl rfl (Nat.le_of_ble_eq_true rfl) 1 rfl h.le.2.2 h.br rfl dX1_abandon_2 ?_ (fun E q S hT => rc_out hC hH.2.2.2.2 hT)
  intro x1 S h
  show rc_Z Y S 5 [some (rc_q v0), some (rc_i v1), none] [rc_i x1]
  refine rc_istore_n (pc := 5) hC (L' := [some (rc_q v0), some (rc_i v1), some (rc_i x1)]) dX1_abandon_5 rfl (Nat.le_of_ble_eq_true rfl) rfl rfl ?_
  refine rc_iload_n (pc := 6) hC dX1_abandon_6 rfl rfl ?_
  refine rc_iconst (pc := 7) hC (v := (-1 : Int32)) dX1_abandon_7 rfl ?_
  refine rc_icmp_eq (pc := 8) (tgt := 15) hC dX1_abandon_8 rfl h ?_ ?_
  · intro _ h
    refine rc_iconst (pc := 15) hC (v := (0 : Int32)) dX1_abandon_15 rfl ?_
    exact rw_X1_abandon_L16 hC hH  v0 v1 x1 (0 : Int32) S h
  intro _ h
  refine rc_iconst (pc := 11) hC (v := (1 : Int32)) dX1_abandon_11 rfl ?_
  refine rc_goto (pc := 12) (tgt := 16) hC dX1_abandon_12 rfl ?_
  exact rw_X1_abandon_L16 hC hH  v0 v1 x1 (1 : Int32) S h
theorem rw_X1_checkCats_L22 {Y : rc_Y} (hC : rc_C Y cX1_checkCats RX1 (Option.none : Option Jvm.ClassFile.FieldType) 3) (hH : rc_H Y 8 131 yX1_checkCats.name) (s0 : Int32) (S : rc_S) (h : rc_Go Y rc_tU (rp_X1_checkCats_L22  s0) S) : rc_Z Y S 22 [none, none, none] [rc_i s0] := by
  unfold rp_X1_checkCats_L22 at h
  refine rc_callS (pc := 22) hC (rw_X1_checkArgument hH.1 s0) q1639 q1640 q116 q1641 rd_X1_checkArgument (hH.room (Nat.le_of_ble_eq_true rfl) (Nat.le_of_ble_eq_true rfl)) rfl rfl (Nat.le_of_ble_eq_true rfl) 1 rfl h.le.2.2 h.br rfl dX1_checkCats_22 ?_ (fun E q S hT => rc_out hC hH.2.2.2.2 hT)
  intro _ S h
  show rc_Z Y S 25 [none, none, none] []
  exact rc_vret hC rfl dX1_checkCats_25 h rfl
theorem rw_X1_checkCats {l : Launch} (hl : l.stackTraces = false) (v0 : Option Nat) (v1 : Int32) (v2 : Int32) : rc_Ct l yX1_checkCats (ws_ yX1_checkCats cX1_checkCats 3 (Option.none : Option Jvm.ClassFile.FieldType)) 8 131 rc_tU (rp_X1_checkCats v0 v1 v2) [rc_q v0, rc_i v1, rc_i v2] := by
  refine rc_Ct_H hl (plainFor_of_name rY_X1) rfl (Nat.le_of_ble_eq_true rfl) (L0 := [some (rc_q v0), some (rc_i v1), some (rc_i v2)]) rfl ?_
  intro Y S hC hH h
  have hC : rc_C Y cX1_checkCats RX1 (Option.none : Option Jvm.ClassFile.FieldType) 3 := hC
  unfold rp_X1_checkCats at h
  refine rc_aload_n (pc := 0) hC dX1_checkCats_0 rfl rfl ?_
  refine rc_iload_n (pc := 1) hC dX1_checkCats_1 rfl rfl ?_
  obtain ⟨⟨fs, ho⟩, h⟩ := h.is
  refine rc_callV (pc := 2) hC rfl ho (rw_X1_cat hH.1 v0 v1) q1717 q1719 qs25 q116 q1720 rfl rd_X1_cat (hH.room (Nat.le_of_ble_eq_true rfl) (Nat.le_of_ble_eq_true rfl)) rfl rfl (Nat.le_of_ble_eq_true rfl) 1 rfl h.le.2.2 h.br rfl dX1_checkCats_2 ?_ (fun E q S hT => rc_out hC hH.2.2.2.2 hT)
  intro x1 S h
  show rc_Z Y S 5 [some (rc_q v0), some (rc_i v1), some (rc_i v2)] [rc_i x1]
  refine rc_pop (pc := 5) hC dX1_checkCats_5 rfl ?_
  refine rc_aload_n (pc := 6) hC dX1_checkCats_6 rfl rfl ?_
  refine rc_iload_n (pc := 7) hC dX1_checkCats_7 rfl rfl ?_
  obtain ⟨⟨fs, ho⟩, h⟩ := h.is
  refine rc_callV (pc := 8) hC rfl ho (rw_X1_cat hH.1 v0 v2) q1717 q1719 qs25 q116 q1720 rfl rd_X1_cat (hH.room (Nat.le_of_ble_eq_true rfl) (Nat.le_of_ble_eq_true rfl)) rfl rfl (Nat.le_of_ble_eq_true rfl) 1 rfl h.le.2.2 h.br rfl dX1_checkCats_8 ?_ (fun E q S hT => rc_out hC hH.2.2.2.2 hT)
  intro x2 S h
  show rc_Z Y S 11 [some (rc_q v0), some (rc_i v1), some (rc_i v2)] [rc_i x2]
  refine rc_pop (pc := 11) hC dX1_checkCats_11 rfl ?_
  refine rc_iload_n (pc := 12) hC dX1_checkCats_12 rfl rfl ?_
  refine rc_iload_n (pc := 13) hC dX1_checkCats_13 rfl rfl ?_
  refine rc_icmp_eq (pc := 14) (tgt := 21) hC dX1_checkCats_14 rfl h ?_ ?_
  · intro _ h
    refine rc_iconst (pc := 21) hC (v := (0 : Int32)) dX1_checkCats_21 rfl ?_
    refine rc_drop [false, false, false] (L' := [none, none, none]) rfl ?_
    exact rw_X1_checkCats_L22 hC hH  (0 : Int32) S h
  intro _ h
  refine rc_iconst (pc := 17) hC (v := (1 : Int32)) dX1_checkCats_17 rfl ?_
  refine rc_goto (pc := 18) (tgt := 22) hC dX1_checkCats_18 rfl ?_
  refine rc_drop [false, false, false] (L' := [none, none, none]) rfl ?_
  exact rw_X1_checkCats_L22 hC hH  (1 : Int32) S h
theorem rw_X1_whyNoChase {l : Launch} (hl : l.stackTraces = false) (v0 : Option Nat) (v1 : Int32) (v2 : Int32) : rc_Ct l yX1_whyNoChase (ws_ yX1_whyNoChase cX1_whyNoChase 3 (Option.some Jvm.ClassFile.FieldType.int)) 9 153 rc_tI (rp_X1_whyNoChase v0 v1 v2) [rc_q v0, rc_i v1, rc_i v2] := by
  refine rc_Ct_H hl (plainFor_of_name rY_X1) rfl (Nat.le_of_ble_eq_true rfl) (L0 := [some (rc_q v0), some (rc_i v1), some (rc_i v2)]) rfl ?_
  intro Y S hC hH h
  have hC : rc_C Y cX1_whyNoChase RX1 (Option.some Jvm.ClassFile.FieldType.int) 3 := hC
  unfold rp_X1_whyNoChase at h
  refine rc_aload_n (pc := 0) hC dX1_whyNoChase_0 rfl rfl ?_
  refine rc_iload_n (pc := 1) hC dX1_whyNoChase_1 rfl rfl ?_
  refine rc_iload_n (pc := 2) hC dX1_whyNoChase_2 rfl rfl ?_
  obtain ⟨⟨fs, ho⟩, h⟩ := h.is
  refine rc_callV (pc := 3) hC rfl ho (rw_X1_checkCats hH.1 v0 v1 v2) q1758 q1760 qs26 q116 q1761 rfl rd_X1_checkCats (hH.room (Nat.le_of_ble_eq_true rfl) (Nat.le_of_ble_eq_true rfl)) rfl rfl (Nat.le_of_ble_eq_true rfl) 2 rfl h.le.2.2 h.br rfl dX1_whyNoChase_3 ?_ (fun E q S hT => rc_out hC hH.2.2.2.2 hT)
  intro _ S h
  show rc_Z Y S 6 [some (rc_q v0), some (rc_i v1), some (rc_i v2)] []
  refine rc_aload_n (pc := 6) hC dX1_whyNoChase_6 rfl rfl ?_
  refine rc_r_getq (pc := 7) hC rF_X1_44 dX1_whyNoChase_7 h ?_
  intro x1 h
  refine rc_iload_n (pc := 10) hC dX1_whyNoChase_10 rfl rfl ?_
  refine rc_iload_n (pc := 11) hC dX1_whyNoChase_11 rfl rfl ?_
  obtain ⟨⟨fs, ho⟩, h⟩ := h.is
  refine rc_callV (pc := 12) hC rfl ho (rw_X3_judgeChase hH.1 x1 v1 v2) q1762 q1059 q1060 q126 q1061 rfl rd_X3_judgeChase (hH.room (Nat.le_of_ble_eq_true rfl) (Nat.le_of_ble_eq_true rfl)) rfl rfl (Nat.le_of_ble_eq_true rfl) 2 rfl h.le.2.2 h.br rfl dX1_whyNoChase_12 ?_ (fun E q S hT => rc_out hC hH.2.2.2.2 hT)
  intro x2 S h
  show rc_Z Y S 15 [some (rc_q v0), some (rc_i v1), some (rc_i v2)] [rc_i x2]
  exact rc_iret hC rfl rfl dX1_whyNoChase_15 h rfl
theorem rw_X1_chase_L14 {Y : rc_Y} (hC : rc_C Y cX1_chase RX1 (Option.some Jvm.ClassFile.FieldType.boolean) 3) (hH : rc_H Y 10 214 yX1_chase.name) (v0 : Option Nat) (v1 : Int32) (v2 : Int32) (s0 : Int32) (S : rc_S) (h : rc_Go Y rc_tI (rp_X1_chase_L14  v0 v1 v2 s0) S) : rc_Z Y S 14 [some (rc_q v0), some (rc_i v1), some (rc_i v2)] [rc_i s0] := by
  unfold rp_X1_chase_L14 at h
  refine rc_callS (pc := 14) hC (rw_X1_checkState hH.1 s0) q1655 q1656 q116 q1657 rd_X1_checkState (hH.room (Nat.le_of_ble_eq_true rfl) (Nat.le_of_ble_eq_true rfl)) rfl rfl (Nat.le_of_ble_eq_true rfl) 1 rfl h.le.2.2 h.br rfl dX1_chase_14 ?_ (fun E q S hT => rc_out hC hH.2.2.2.2 hT)
  intro _ S h
  show rc_Z Y S 17 [some (rc_q v0), some (rc_i v1), some (rc_i v2)] []
  refine rc_aload_n (pc := 17) hC dX1_chase_17 rfl rfl ?_
  obtain ⟨⟨fs, ho⟩, h⟩ := h.is
  refine rc_callV (pc := 18) hC rfl ho (rw_X1_remember hH.1 v0) q1336 q1338 qs20 q116 q1339 rfl rd_X1_remember (hH.room (Nat.le_of_ble_eq_true rfl) (Nat.le_of_ble_eq_true rfl)) rfl rfl (Nat.le_of_ble_eq_true rfl) 0 rfl h.le.2.2 h.br rfl dX1_chase_18 ?_ (fun E q S hT => rc_out hC hH.2.2.2.2 hT)
  intro _ S h
  show rc_Z Y S 21 [some (rc_q v0), some (rc_i v1), some (rc_i v2)] []
  refine rc_aload_n (pc := 21) hC dX1_chase_21 rfl rfl ?_
  refine rc_r_getq (pc := 22) hC rF_X1_44 dX1_chase_22 h ?_
  intro x1 h
  refine rc_iload_n (pc := 25) hC dX1_chase_25 rfl rfl ?_
  refine rc_iload_n (pc := 26) hC dX1_chase_26 rfl rfl ?_
  obtain ⟨⟨fs, ho⟩, h⟩ := h.is
  refine rc_callV (pc := 27) hC rfl ho (rw_X3_chase hH.1 x1 v1 v2) q1763 q1080 q1081 q126 q1082 rfl rd_X3_chase (hH.room (Nat.le_of_ble_eq_true rfl) (Nat.le_of_ble_eq_true rfl)) rfl rfl (Nat.le_of_ble_eq_true rfl) 2 rfl h.le.2.2 h.br rfl dX1_chase_27 ?_ (fun E q S hT => rc_out hC hH.2.2.2.2 hT)
  intro x2 S h
  show rc_Z Y S 30 [some (rc_q v0), some (rc_i v1), some (rc_i v2)] [rc_i x2]
  obtain ⟨hn, h⟩ := h.nar
  exact rc_iret hC rfl hn dX1_chase_30 h rfl
theorem rw_X1_chase {l : Launch} (hl : l.stackTraces = false) (v0 : Option Nat) (v1 : Int32) (v2 : Int32) : rc_Ct l yX1_chase (ws_ yX1_chase cX1_chase 3 (Option.some Jvm.ClassFile.FieldType.boolean)) 10 214 rc_tI (rp_X1_chase v0 v1 v2) [rc_q v0, rc_i v1, rc_i v2] := by
  refine rc_Ct_H hl (plainFor_of_name rY_X1) rfl (Nat.le_of_ble_eq_true rfl) (L0 := [some (rc_q v0), some (rc_i v1), some (rc_i v2)]) rfl ?_
  intro Y S hC hH h
  have hC : rc_C Y cX1_chase RX1 (Option.some Jvm.ClassFile.FieldType.boolean) 3 := hC
  unfold rp_X1_chase at h
  refine rc_aload_n (pc := 0) hC dX1_chase_0 rfl rfl ?_
  refine rc_iload_n (pc := 1) hC dX1_chase_1 rfl rfl ?_
  refine rc_iload_n (pc := 2) hC dX1_chase_2 rfl rfl ?_
  obtain ⟨⟨fs, ho⟩, h⟩ := h.is
  refine rc_callV (pc := 3) hC rfl ho (rw_X1_whyNoChase hH.1 v0 v1 v2) q1754 q1755 q1756 q116 q1757 rfl rd_X1_whyNoChase (hH.room (Nat.le_of_ble_eq_true rfl) (Nat.le_of_ble_eq_true rfl)) rfl rfl (Nat.le_of_ble_eq_true rfl) 2 rfl h.le.2.2 h.br rfl dX1_chase_3 ?_ (fun E q S hT => rc_out hC hH.2.2.2.2 hT)
  intro x1 S h
  show rc_Z Y S 6 [some (rc_q v0), some (rc_i v1), some (rc_i v2)] [rc_i x1]
  refine rc_if_ne (pc := 6) (tgt := 13) hC dX1_chase_6 rfl h ?_ ?_
  · intro _ h
    refine rc_iconst (pc := 13) hC (v := (0 : Int32)) dX1_chase_13 rfl ?_
    exact rw_X1_chase_L14 hC hH  v0 v1 v2 (0 : Int32) S h
  intro _ h
  refine rc_iconst (pc := 9) hC (v := (1 : Int32)) dX1_chase_9 rfl ?_
  refine rc_goto (pc := 10) (tgt := 14) hC dX1_chase_10 rfl ?_
  exact rw_X1_chase_L14 hC hH  v0 v1 v2 (1 : Int32) S h
theorem rw_X1_buyTruce {l : Launch} (hl : l.stackTraces = false) (v0 : Option Nat) (v1 : Int32) (v2 : Int32) (v3 : Int32) (v4 : Int32) : rc_Ct l yX1_buyTruce (ws_ yX1_buyTruce cX1_buyTruce 5 (Option.some Jvm.ClassFile.FieldType.int)) 9 214 rc_tI (rp_X1_buyTruce v0 v1 v2 v3 v4) [rc_q v0, rc_i v1, rc_i v2, rc_i v3, rc_i v4] := by
  refine rc_Ct_H hl (plainFor_of_name rY_X1) rfl (Nat.le_of_ble_eq_true rfl) (L0 := [some (rc_q v0), some (rc_i v1), some (rc_i v2), some (rc_i v3), some (rc_i v4)]) rfl ?_
  intro Y S hC hH h
  have hC : rc_C Y cX1_buyTruce RX1 (Option.some Jvm.ClassFile.FieldType.int) 5 := hC
  unfold rp_X1_buyTruce at h
  refine rc_aload_n (pc := 0) hC dX1_buyTruce_0 rfl rfl ?_
  refine rc_iload_n (pc := 1) hC dX1_buyTruce_1 rfl rfl ?_
  refine rc_iload_n (pc := 2) hC dX1_buyTruce_2 rfl rfl ?_
  obtain ⟨⟨fs, ho⟩, h⟩ := h.is
  refine rc_callV (pc := 3) hC rfl ho (rw_X1_checkCats hH.1 v0 v1 v2) q1758 q1760 qs26 q116 q1761 rfl rd_X1_checkCats (hH.room (Nat.le_of_ble_eq_true rfl) (Nat.le_of_ble_eq_true rfl)) rfl rfl (Nat.le_of_ble_eq_true rfl) 2 rfl h.le.2.2 h.br rfl dX1_buyTruce_3 ?_ (fun E q S hT => rc_out hC hH.2.2.2.2 hT)
  intro _ S h
  show rc_Z Y S 6 [some (rc_q v0), some (rc_i v1), some (rc_i v2), some (rc_i v3), some (rc_i v4)] []
  refine rc_iload_n (pc := 6) hC dX1_buyTruce_6 rfl rfl ?_
  refine rc_iconst (pc := 7) hC (v := (1 : Int32)) dX1_buyTruce_7 rfl ?_
  refine rc_bipush (pc := 8) hC (v := (9 : Int32)) dX1_buyTruce_8 rfl ?_
  refine rc_callS (pc := 10) hC (rw_X1_checkRange hH.1 v3 (1 : Int32) (9 : Int32)) q1636 q1637 q116 q1638 rd_X1_checkRange (hH.room (Nat.le_of_ble_eq_true rfl) (Nat.le_of_ble_eq_true rfl)) rfl rfl (Nat.le_of_ble_eq_true rfl) 3 rfl h.le.2.2 h.br rfl dX1_buyTruce_10 ?_ (fun E q S hT => rc_out hC hH.2.2.2.2 hT)
  intro _ S h
  show rc_Z Y S 13 [some (rc_q v0), some (rc_i v1), some (rc_i v2), some (rc_i v3), some (rc_i v4)] []
  refine rc_iload (pc := 13) hC dX1_buyTruce_13 rfl ?_
  refine rc_iconst (pc := 15) hC (v := (1 : Int32)) dX1_buyTruce_15 rfl ?_
  refine rc_bipush (pc := 16) hC (v := (20 : Int32)) dX1_buyTruce_16 rfl ?_
  refine rc_callS (pc := 18) hC (rw_X1_checkRange hH.1 v4 (1 : Int32) (20 : Int32)) q1636 q1637 q116 q1638 rd_X1_checkRange (hH.room (Nat.le_of_ble_eq_true rfl) (Nat.le_of_ble_eq_true rfl)) rfl rfl (Nat.le_of_ble_eq_true rfl) 3 rfl h.le.2.2 h.br rfl dX1_buyTruce_18 ?_ (fun E q S hT => rc_out hC hH.2.2.2.2 hT)
  intro _ S h
  show rc_Z Y S 21 [some (rc_q v0), some (rc_i v1), some (rc_i v2), some (rc_i v3), some (rc_i v4)] []
  refine rc_aload_n (pc := 21) hC dX1_buyTruce_21 rfl rfl ?_
  refine rc_r_getq (pc := 22) hC rF_X1_44 dX1_buyTruce_22 h ?_
  intro x1 h
  refine rc_iload_n (pc := 25) hC dX1_buyTruce_25 rfl rfl ?_
  refine rc_iload_n (pc := 26) hC dX1_buyTruce_26 rfl rfl ?_
  refine rc_iload_n (pc := 27) hC dX1_buyTruce_27 rfl rfl ?_
  obtain ⟨⟨fs, ho⟩, h⟩ := h.is
  refine rc_callV (pc := 28) hC rfl ho (rw_X3_canBuy hH.1 x1 v1 v2 v3) q1771 q1089 q1090 q126 q1091 rfl rd_X3_canBuy (hH.room (Nat.le_of_ble_eq_true rfl) (Nat.le_of_ble_eq_true rfl)) rfl rfl (Nat.le_of_ble_eq_true rfl) 3 rfl h.le.2.2 h.br rfl dX1_buyTruce_28 ?_ (fun E q S hT => rc_out hC hH.2.2.2.2 hT)
  intro x2 S h
  show rc_Z Y S 31 [some (rc_q v0), some (rc_i v1), some (rc_i v2), some (rc_i v3), some (rc_i v4)] [rc_i x2]
  refine rc_callS (pc := 31) hC (rw_X1_checkState hH.1 x2) q1655 q1656 q116 q1657 rd_X1_checkState (hH.room (Nat.le_of_ble_eq_true rfl) (Nat.le_of_ble_eq_true rfl)) rfl rfl (Nat.le_of_ble_eq_true rfl) 1 rfl h.le.2.2 h.br rfl dX1_buyTruce_31 ?_ (fun E q S hT => rc_out hC hH.2.2.2.2 hT)
  intro _ S h
  show rc_Z Y S 34 [some (rc_q v0), some (rc_i v1), some (rc_i v2), some (rc_i v3), some (rc_i v4)] []
  refine rc_aload_n (pc := 34) hC dX1_buyTruce_34 rfl rfl ?_
  obtain ⟨⟨fs, ho⟩, h⟩ := h.is
  refine rc_callV (pc := 35) hC rfl ho (rw_X1_remember hH.1 v0) q1336 q1338 qs20 q116 q1339 rfl rd_X1_remember (hH.room (Nat.le_of_ble_eq_true rfl) (Nat.le_of_ble_eq_true rfl)) rfl rfl (Nat.le_of_ble_eq_true rfl) 0 rfl h.le.2.2 h.br rfl dX1_buyTruce_35 ?_ (fun E q S hT => rc_out hC hH.2.2.2.2 hT)
  intro _ S h
  show rc_Z Y S 38 [some (rc_q v0), some (rc_i v1), some (rc_i v2), some (rc_i v3), some (rc_i v4)] []
  refine rc_aload_n (pc := 38) hC dX1_buyTruce_38 rfl rfl ?_
  refine rc_r_getq (pc := 39) hC rF_X1_44 dX1_buyTruce_39 h ?_
  intro x3 h
  refine rc_iload_n (pc := 42) hC dX1_buyTruce_42 rfl rfl ?_
  refine rc_iload_n (pc := 43) hC dX1_buyTruce_43 rfl rfl ?_
  refine rc_iload_n (pc := 44) hC dX1_buyTruce_44 rfl rfl ?_
  refine rc_iload (pc := 45) hC dX1_buyTruce_45 rfl ?_
  obtain ⟨⟨fs, ho⟩, h⟩ := h.is
  refine rc_callV (pc := 47) hC rfl ho (rw_X3_buyTruce hH.1 x3 v1 v2 v3 v4) q1772 q1093 q1094 q126 q1095 rfl rd_X3_buyTruce (hH.room (Nat.le_of_ble_eq_true rfl) (Nat.le_of_ble_eq_true rfl)) rfl rfl (Nat.le_of_ble_eq_true rfl) 4 rfl h.le.2.2 h.br rfl dX1_buyTruce_47 ?_ (fun E q S hT => rc_out hC hH.2.2.2.2 hT)
  intro x4 S h
  show rc_Z Y S 50 [some (rc_q v0), some (rc_i v1), some (rc_i v2), some (rc_i v3), some (rc_i v4)] [rc_i x4]
  exact rc_iret hC rfl rfl dX1_buyTruce_50 h rfl
theorem rw_X1_nominate {l : Launch} (hl : l.stackTraces = false) (v0 : Option Nat) (v1 : Int32) (v2 : Int32) : rc_Ct l yX1_nominate (ws_ yX1_nominate cX1_nominate 3 (Option.some Jvm.ClassFile.FieldType.int)) 9 214 rc_tI (rp_X1_nominate v0 v1 v2) [rc_q v0, rc_i v1, rc_i v2] := by
  refine rc_Ct_H hl (plainFor_of_name rY_X1) rfl (Nat.le_of_ble_eq_true rfl) (L0 := [some (rc_q v0), some (rc_i v1), some (rc_i v2)]) rfl ?_
  intro Y S hC hH h
  have hC : rc_C Y cX1_nominate RX1 (Option.some Jvm.ClassFile.FieldType.int) 3 := hC
  unfold rp_X1_nominate at h
  refine rc_iload_n (pc := 0) hC dX1_nominate_0 rfl rfl ?_
  refine rc_iload_n (pc := 1) hC dX1_nominate_1 rfl rfl ?_
  refine rc_callS (pc := 2) hC (rw_X1_checkBody hH.1 v1 v2) q1702 q1703 q116 q1704 rd_X1_checkBody (hH.room (Nat.le_of_ble_eq_true rfl) (Nat.le_of_ble_eq_true rfl)) rfl rfl (Nat.le_of_ble_eq_true rfl) 2 rfl h.le.2.2 h.br rfl dX1_nominate_2 ?_ (fun E q S hT => rc_out hC hH.2.2.2.2 hT)
  intro _ S h
  show rc_Z Y S 5 [some (rc_q v0), some (rc_i v1), some (rc_i v2)] []
  refine rc_aload_n (pc := 5) hC dX1_nominate_5 rfl rfl ?_
  refine rc_r_getq (pc := 6) hC rF_X1_44 dX1_nominate_6 h ?_
  intro x1 h
  obtain ⟨⟨fs, ho⟩, h⟩ := h.is
  refine rc_callV (pc := 9) hC rfl ho (rw_X3_canNominate hH.1 x1) q1780 q1097 q1098 q126 q1099 rfl rd_X3_canNominate (hH.room (Nat.le_of_ble_eq_true rfl) (Nat.le_of_ble_eq_true rfl)) rfl rfl (Nat.le_of_ble_eq_true rfl) 0 rfl h.le.2.2 h.br rfl dX1_nominate_9 ?_ (fun E q S hT => rc_out hC hH.2.2.2.2 hT)
  intro x2 S h
  show rc_Z Y S 12 [some (rc_q v0), some (rc_i v1), some (rc_i v2)] [rc_i x2]
  refine rc_callS (pc := 12) hC (rw_X1_checkState hH.1 x2) q1655 q1656 q116 q1657 rd_X1_checkState (hH.room (Nat.le_of_ble_eq_true rfl) (Nat.le_of_ble_eq_true rfl)) rfl rfl (Nat.le_of_ble_eq_true rfl) 1 rfl h.le.2.2 h.br rfl dX1_nominate_12 ?_ (fun E q S hT => rc_out hC hH.2.2.2.2 hT)
  intro _ S h
  show rc_Z Y S 15 [some (rc_q v0), some (rc_i v1), some (rc_i v2)] []
  refine rc_aload_n (pc := 15) hC dX1_nominate_15 rfl rfl ?_
  obtain ⟨⟨fs, ho⟩, h⟩ := h.is
  refine rc_callV (pc := 16) hC rfl ho (rw_X1_remember hH.1 v0) q1336 q1338 qs20 q116 q1339 rfl rd_X1_remember (hH.room (Nat.le_of_ble_eq_true rfl) (Nat.le_of_ble_eq_true rfl)) rfl rfl (Nat.le_of_ble_eq_true rfl) 0 rfl h.le.2.2 h.br rfl dX1_nominate_16 ?_ (fun E q S hT => rc_out hC hH.2.2.2.2 hT)
  intro _ S h
  show rc_Z Y S 19 [some (rc_q v0), some (rc_i v1), some (rc_i v2)] []
  refine rc_aload_n (pc := 19) hC dX1_nominate_19 rfl rfl ?_
  refine rc_r_getq (pc := 20) hC rF_X1_44 dX1_nominate_20 h ?_
  intro x3 h
  refine rc_iload_n (pc := 23) hC dX1_nominate_23 rfl rfl ?_
  refine rc_iload_n (pc := 24) hC dX1_nominate_24 rfl rfl ?_
  obtain ⟨⟨fs, ho⟩, h⟩ := h.is
  refine rc_callV (pc := 25) hC rfl ho (rw_X3_nominate hH.1 x3 v1 v2) q1781 q1110 q1111 q126 q1112 rfl rd_X3_nominate (hH.room (Nat.le_of_ble_eq_true rfl) (Nat.le_of_ble_eq_true rfl)) rfl rfl (Nat.le_of_ble_eq_true rfl) 2 rfl h.le.2.2 h.br rfl dX1_nominate_25 ?_ (fun E q S hT => rc_out hC hH.2.2.2.2 hT)
  intro x4 S h
  show rc_Z Y S 28 [some (rc_q v0), some (rc_i v1), some (rc_i v2)] [rc_i x4]
  exact rc_iret hC rfl rfl dX1_nominate_28 h rfl
theorem rw_X1_vote {l : Launch} (hl : l.stackTraces = false) (v0 : Option Nat) (v1 : Int32) (v2 : Int32) : rc_Ct l yX1_vote (ws_ yX1_vote cX1_vote 3 (Option.some Jvm.ClassFile.FieldType.boolean)) 9 214 rc_tI (rp_X1_vote v0 v1 v2) [rc_q v0, rc_i v1, rc_i v2] := by
  refine rc_Ct_H hl (plainFor_of_name rY_X1) rfl (Nat.le_of_ble_eq_true rfl) (L0 := [some (rc_q v0), some (rc_i v1), some (rc_i v2)]) rfl ?_
  intro Y S hC hH h
  have hC : rc_C Y cX1_vote RX1 (Option.some Jvm.ClassFile.FieldType.boolean) 3 := hC
  unfold rp_X1_vote at h
  refine rc_aload_n (pc := 0) hC dX1_vote_0 rfl rfl ?_
  refine rc_r_getq (pc := 1) hC rF_X1_44 dX1_vote_1 h ?_
  intro x1 h
  refine rc_aload_n (pc := 4) hC dX1_vote_4 rfl rfl ?_
  refine rc_iload_n (pc := 5) hC dX1_vote_5 rfl rfl ?_
  obtain ⟨⟨fs, ho⟩, h⟩ := h.is
  refine rc_callV (pc := 6) hC rfl ho (rw_X1_cat hH.1 v0 v1) q1717 q1719 qs25 q116 q1720 rfl rd_X1_cat (hH.room (Nat.le_of_ble_eq_true rfl) (Nat.le_of_ble_eq_true rfl)) rfl rfl (Nat.le_of_ble_eq_true rfl) 1 rfl h.le.2.2 h.br rfl dX1_vote_6 ?_ (fun E q S hT => rc_out hC hH.2.2.2.2 hT)
  intro x2 S h
  show rc_Z Y S 9 [some (rc_q v0), some (rc_i v1), some (rc_i v2)] [rc_i x2, rc_q x1]
  obtain ⟨⟨fs, ho⟩, h⟩ := h.is
  refine rc_callV (pc := 9) hC rfl ho (rw_X3_canVote hH.1 x1 x2) q1789 q1161 q1162 q126 q1163 rfl rd_X3_canVote (hH.room (Nat.le_of_ble_eq_true rfl) (Nat.le_of_ble_eq_true rfl)) rfl rfl (Nat.le_of_ble_eq_true rfl) 1 rfl h.le.2.2 h.br rfl dX1_vote_9 ?_ (fun E q S hT => rc_out hC hH.2.2.2.2 hT)
  intro x3 S h
  show rc_Z Y S 12 [some (rc_q v0), some (rc_i v1), some (rc_i v2)] [rc_i x3]
  refine rc_callS (pc := 12) hC (rw_X1_checkState hH.1 x3) q1655 q1656 q116 q1657 rd_X1_checkState (hH.room (Nat.le_of_ble_eq_true rfl) (Nat.le_of_ble_eq_true rfl)) rfl rfl (Nat.le_of_ble_eq_true rfl) 1 rfl h.le.2.2 h.br rfl dX1_vote_12 ?_ (fun E q S hT => rc_out hC hH.2.2.2.2 hT)
  intro _ S h
  show rc_Z Y S 15 [some (rc_q v0), some (rc_i v1), some (rc_i v2)] []
  refine rc_aload_n (pc := 15) hC dX1_vote_15 rfl rfl ?_
  obtain ⟨⟨fs, ho⟩, h⟩ := h.is
  refine rc_callV (pc := 16) hC rfl ho (rw_X1_remember hH.1 v0) q1336 q1338 qs20 q116 q1339 rfl rd_X1_remember (hH.room (Nat.le_of_ble_eq_true rfl) (Nat.le_of_ble_eq_true rfl)) rfl rfl (Nat.le_of_ble_eq_true rfl) 0 rfl h.le.2.2 h.br rfl dX1_vote_16 ?_ (fun E q S hT => rc_out hC hH.2.2.2.2 hT)
  intro _ S h
  show rc_Z Y S 19 [some (rc_q v0), some (rc_i v1), some (rc_i v2)] []
  refine rc_aload_n (pc := 19) hC dX1_vote_19 rfl rfl ?_
  refine rc_r_getq (pc := 20) hC rF_X1_44 dX1_vote_20 h ?_
  intro x4 h
  refine rc_iload_n (pc := 23) hC dX1_vote_23 rfl rfl ?_
  refine rc_iload_n (pc := 24) hC dX1_vote_24 rfl rfl ?_
  obtain ⟨⟨fs, ho⟩, h⟩ := h.is
  refine rc_callV (pc := 25) hC rfl ho (rw_X3_vote hH.1 x4 v1 v2) q1790 q1169 q1170 q126 q1171 rfl rd_X3_vote (hH.room (Nat.le_of_ble_eq_true rfl) (Nat.le_of_ble_eq_true rfl)) rfl rfl (Nat.le_of_ble_eq_true rfl) 2 rfl h.le.2.2 h.br rfl dX1_vote_25 ?_ (fun E q S hT => rc_out hC hH.2.2.2.2 hT)
  intro x5 S h
  show rc_Z Y S 28 [some (rc_q v0), some (rc_i v1), some (rc_i v2)] [rc_i x5]
  obtain ⟨hn, h⟩ := h.nar
  exact rc_iret hC rfl hn dX1_vote_28 h rfl
theorem rw_X1_passNights_L27 {Y : rc_Y} (hC : rc_C Y cX1_passNights RX1 (Option.some Jvm.ClassFile.FieldType.int) 2) (hH : rc_H Y 9 214 yX1_passNights.name) (v0 : Option Nat) (v1 : Int32) (s0 : Int32) (S : rc_S) (h : rc_Go Y rc_tI (rp_X1_passNights_L27  v0 v1 s0) S) : rc_Z Y S 27 [some (rc_q v0), some (rc_i v1)] [rc_i s0] := by
  unfold rp_X1_passNights_L27 at h
  refine rc_callS (pc := 27) hC (rw_X1_checkState hH.1 s0) q1655 q1656 q116 q1657 rd_X1_checkState (hH.room (Nat.le_of_ble_eq_true rfl) (Nat.le_of_ble_eq_true rfl)) rfl rfl (Nat.le_of_ble_eq_true rfl) 1 rfl h.le.2.2 h.br rfl dX1_passNights_27 ?_ (fun E q S hT => rc_out hC hH.2.2.2.2 hT)
  intro _ S h
  show rc_Z Y S 30 [some (rc_q v0), some (rc_i v1)] []
  refine rc_aload_n (pc := 30) hC dX1_passNights_30 rfl rfl ?_
  obtain ⟨⟨fs, ho⟩, h⟩ := h.is
  refine rc_callV (pc := 31) hC rfl ho (rw_X1_remember hH.1 v0) q1336 q1338 qs20 q116 q1339 rfl rd_X1_remember (hH.room (Nat.le_of_ble_eq_true rfl) (Nat.le_of_ble_eq_true rfl)) rfl rfl (Nat.le_of_ble_eq_true rfl) 0 rfl h.le.2.2 h.br rfl dX1_passNights_31 ?_ (fun E q S hT => rc_out hC hH.2.2.2.2 hT)
  intro _ S h
  show rc_Z Y S 34 [some (rc_q v0), some (rc_i v1)] []
  refine rc_aload_n (pc := 34) hC dX1_passNights_34 rfl rfl ?_
  refine rc_r_getq (pc := 35) hC rF_X1_44 dX1_passNights_35 h ?_
  intro x1 h
  refine rc_iload_n (pc := 38) hC dX1_passNights_38 rfl rfl ?_
  obtain ⟨⟨fs, ho⟩, h⟩ := h.is
  refine rc_callV (pc := 39) hC rfl ho (rw_X3_passNights hH.1 x1 v1) q1798 q1133 q1134 q126 q1135 rfl rd_X3_passNights (hH.room (Nat.le_of_ble_eq_true rfl) (Nat.le_of_ble_eq_true rfl)) rfl rfl (Nat.le_of_ble_eq_true rfl) 1 rfl h.le.2.2 h.br rfl dX1_passNights_39 ?_ (fun E q S hT => rc_out hC hH.2.2.2.2 hT)
  intro x2 S h
  show rc_Z Y S 42 [some (rc_q v0), some (rc_i v1)] [rc_i x2]
  exact rc_iret hC rfl rfl dX1_passNights_42 h rfl
theorem rw_X1_passNights {l : Launch} (hl : l.stackTraces = false) (v0 : Option Nat) (v1 : Int32) : rc_Ct l yX1_passNights (ws_ yX1_passNights cX1_passNights 2 (Option.some Jvm.ClassFile.FieldType.int)) 9 214 rc_tI (rp_X1_passNights v0 v1) [rc_q v0, rc_i v1] := by
  refine rc_Ct_H hl (plainFor_of_name rY_X1) rfl (Nat.le_of_ble_eq_true rfl) (L0 := [some (rc_q v0), some (rc_i v1)]) rfl ?_
  intro Y S hC hH h
  have hC : rc_C Y cX1_passNights RX1 (Option.some Jvm.ClassFile.FieldType.int) 2 := hC
  unfold rp_X1_passNights at h
  refine rc_iload_n (pc := 0) hC dX1_passNights_0 rfl rfl ?_
  refine rc_iconst (pc := 1) hC (v := (1 : Int32)) dX1_passNights_1 rfl ?_
  refine rc_bipush (pc := 2) hC (v := (30 : Int32)) dX1_passNights_2 rfl ?_
  refine rc_callS (pc := 4) hC (rw_X1_checkRange hH.1 v1 (1 : Int32) (30 : Int32)) q1636 q1637 q116 q1638 rd_X1_checkRange (hH.room (Nat.le_of_ble_eq_true rfl) (Nat.le_of_ble_eq_true rfl)) rfl rfl (Nat.le_of_ble_eq_true rfl) 3 rfl h.le.2.2 h.br rfl dX1_passNights_4 ?_ (fun E q S hT => rc_out hC hH.2.2.2.2 hT)
  intro _ S h
  show rc_Z Y S 7 [some (rc_q v0), some (rc_i v1)] []
  refine rc_aload_n (pc := 7) hC dX1_passNights_7 rfl rfl ?_
  refine rc_r_getq (pc := 8) hC rF_X1_44 dX1_passNights_8 h ?_
  intro x1 h
  refine rc_r_geti (pc := 11) hC rF_X1_219 dX1_passNights_11 h ?_
  intro x2 h
  refine rc_iload_n (pc := 14) hC dX1_passNights_14 rfl rfl ?_
  refine rc_iadd (pc := 15) hC dX1_passNights_15 ?_
  refine rc_sipush (pc := 16) hC (v := (999 : Int32)) dX1_passNights_16 rfl ?_
  refine rc_icmp_gt (pc := 19) (tgt := 26) hC dX1_passNights_19 rfl h ?_ ?_
  · intro _ h
    refine rc_iconst (pc := 26) hC (v := (0 : Int32)) dX1_passNights_26 rfl ?_
    exact rw_X1_passNights_L27 hC hH  v0 v1 (0 : Int32) S h
  intro _ h
  refine rc_iconst (pc := 22) hC (v := (1 : Int32)) dX1_passNights_22 rfl ?_
  refine rc_goto (pc := 23) (tgt := 27) hC dX1_passNights_23 rfl ?_
  exact rw_X1_passNights_L27 hC hH  v0 v1 (1 : Int32) S h
theorem rw_X1_restoreSnapshot {l : Launch} (hl : l.stackTraces = false) (v0 : Option Nat) : rc_Ct l yX1_restoreSnapshot (ws_ yX1_restoreSnapshot cX1_restoreSnapshot 1 (Option.some Jvm.ClassFile.FieldType.int)) 8 194 rc_tI (rp_X1_restoreSnapshot v0) [rc_q v0] := by
  refine rc_Ct_H hl (plainFor_of_name rY_X1) rfl (Nat.le_of_ble_eq_true rfl) (L0 := [some (rc_q v0)]) rfl ?_
  intro Y S hC hH h
  have hC : rc_C Y cX1_restoreSnapshot RX1 (Option.some Jvm.ClassFile.FieldType.int) 1 := hC
  unfold rp_X1_restoreSnapshot at h
  refine rc_aload_n (pc := 0) hC dX1_restoreSnapshot_0 rfl rfl ?_
  refine rc_r_getq (pc := 1) hC rF_X1_231 dX1_restoreSnapshot_1 h ?_
  intro x1 h
  refine rc_ifnonnull (pc := 4) (tgt := 15) hC dX1_restoreSnapshot_4 rfl h ?_ ?_
  · intro _ h
    refine rc_aload_n (pc := 15) hC dX1_restoreSnapshot_15 rfl rfl ?_
    refine rc_aload_n (pc := 16) hC dX1_restoreSnapshot_16 rfl rfl ?_
    refine rc_r_getq (pc := 17) hC rF_X1_231 dX1_restoreSnapshot_17 h ?_
    intro x2 h
    obtain ⟨⟨fs, ho⟩, h⟩ := h.is
    refine rc_callV (pc := 20) hC rfl ho (rw_X3_copy hH.1 x2) q1398 q1399 q1400 q126 q1401 rfl rd_X3_copy (hH.room (Nat.le_of_ble_eq_true rfl) (Nat.le_of_ble_eq_true rfl)) rfl rfl (Nat.le_of_ble_eq_true rfl) 0 rfl h.le.2.2 h.br rfl dX1_restoreSnapshot_20 ?_ (fun E q S hT => rc_out hC hH.2.2.2.2 hT)
    intro x3 S h
    show rc_Z Y S 23 [some (rc_q v0)] [rc_q x3, rc_q v0]
    refine rc_r_put (pc := 23) hC rP_X1_44 (nofun) dX1_restoreSnapshot_23 h ?_
    intro S h
    refine rc_aload_n (pc := 26) hC dX1_restoreSnapshot_26 rfl rfl ?_
    refine rc_r_getq (pc := 27) hC rF_X1_10 dX1_restoreSnapshot_27 h ?_
    intro x4 h
    obtain ⟨⟨fs, ho⟩, h⟩ := h.is
    refine rc_callV (pc := 30) hC rfl ho (rw_J1_clear hH.1 x4) q1809 q1810 q1811 q118 q1812 rfl rd_J1_clear (hH.room (Nat.le_of_ble_eq_true rfl) (Nat.le_of_ble_eq_true rfl)) rfl rfl (Nat.le_of_ble_eq_true rfl) 0 rfl h.le.2.2 h.br rfl dX1_restoreSnapshot_30 ?_ (fun E q S hT => rc_out hC hH.2.2.2.2 hT)
    intro _ S h
    show rc_Z Y S 33 [some (rc_q v0)] []
    refine rc_aload_n (pc := 33) hC dX1_restoreSnapshot_33 rfl rfl ?_
    refine rc_r_getq (pc := 34) hC rF_X1_44 dX1_restoreSnapshot_34 h ?_
    intro x5 h
    refine rc_r_geti (pc := 37) hC rF_X1_219 dX1_restoreSnapshot_37 h ?_
    intro x6 h
    exact rc_iret hC rfl rfl dX1_restoreSnapshot_40 h rfl
  intro _ h
  exact rc_throw0 (E := 3) (ik := 234) (ic := 236) (names := ["java/lang/RuntimeException", "java/lang/Exception"]) hC hH.2.2.2.2 hH.1 (by decide +kernel) (by decide +kernel) q1807 q153 rT_X1_236.1 rT_X1_236.2.1 rT_X1_236.2.2 rfl dX1_restoreSnapshot_7 dX1_restoreSnapshot_10 dX1_restoreSnapshot_11 dX1_restoreSnapshot_14 (hH.frm (Nat.le_of_ble_eq_true rfl)) (hH.lom (Nat.le_of_ble_eq_true rfl)) rfl (Nat.le_of_ble_eq_true rfl) h
theorem rw_X1_warmth {l : Launch} (hl : l.stackTraces = false) (v0 : Option Nat) (v1 : Int32) : rc_Ct l yX1_warmth (ws_ yX1_warmth cX1_warmth 2 (Option.some Jvm.ClassFile.FieldType.int)) 8 131 rc_tI (rp_X1_warmth v0 v1) [rc_q v0, rc_i v1] := by
  refine rc_Ct_H hl (plainFor_of_name rY_X1) rfl (Nat.le_of_ble_eq_true rfl) (L0 := [some (rc_q v0), some (rc_i v1)]) rfl ?_
  intro Y S hC hH h
  have hC : rc_C Y cX1_warmth RX1 (Option.some Jvm.ClassFile.FieldType.int) 2 := hC
  unfold rp_X1_warmth at h
  refine rc_aload_n (pc := 0) hC dX1_warmth_0 rfl rfl ?_
  refine rc_r_getq (pc := 1) hC rF_X1_44 dX1_warmth_1 h ?_
  intro x1 h
  refine rc_r_getq (pc := 4) hC rF_X1_56 dX1_warmth_4 h ?_
  intro x2 h
  refine rc_aload_n (pc := 7) hC dX1_warmth_7 rfl rfl ?_
  refine rc_iload_n (pc := 8) hC dX1_warmth_8 rfl rfl ?_
  obtain ⟨⟨fs, ho⟩, h⟩ := h.is
  refine rc_callV (pc := 9) hC rfl ho (rw_X1_chimney hH.1 v0 v1) q1671 q1673 qs24 q116 q1674 rfl rd_X1_chimney (hH.room (Nat.le_of_ble_eq_true rfl) (Nat.le_of_ble_eq_true rfl)) rfl rfl (Nat.le_of_ble_eq_true rfl) 1 rfl h.le.2.2 h.br rfl dX1_warmth_9 ?_ (fun E q S hT => rc_out hC hH.2.2.2.2 hT)
  intro x3 S h
  show rc_Z Y S 12 [some (rc_q v0), some (rc_i v1)] [rc_i x3, rc_q x2]
  obtain ⟨⟨fs, ho⟩, h⟩ := h.is
  refine rc_callF (x0 := rc_xget) (y := yJ7_get) (pc := 12) hC rfl ho (rw_J7_get hH.1 x2 x3) q1574 q941 q943 q128 q945 (List.mem_of_getElem? (i := 2) rfl) ⟨by decide, by decide, rd_J7_get.2.2⟩ (hH.room (Nat.le_of_ble_eq_true rfl) (Nat.le_of_ble_eq_true rfl)) rfl rfl (Nat.le_of_ble_eq_true rfl) 1 rfl h.le.2.2 h.br rfl dX1_warmth_12 ?_ (fun E q S hT => rc_out hC hH.2.2.2.2 hT)
  intro x4 S h
  show rc_Z Y S 17 [some (rc_q v0), some (rc_i v1)] [rc_q x4]
  refine rc_r_cast (pc := 17) hC rK_X1_145 dX1_warmth_17 h ?_
  intro h
  refine rc_r_geti (pc := 20) hC rF_X1_240 dX1_warmth_20 h ?_
  intro x5 h
  exact rc_iret hC rfl rfl dX1_warmth_23 h rfl
theorem rw_X1_catOn {l : Launch} (hl : l.stackTraces = false) (v0 : Option Nat) (v1 : Int32) : rc_Ct l yX1_catOn (ws_ yX1_catOn cX1_catOn 2 (Option.some Jvm.ClassFile.FieldType.int)) 8 131 rc_tI (rp_X1_catOn v0 v1) [rc_q v0, rc_i v1] := by
  refine rc_Ct_H hl (plainFor_of_name rY_X1) rfl (Nat.le_of_ble_eq_true rfl) (L0 := [some (rc_q v0), some (rc_i v1)]) rfl ?_
  intro Y S hC hH h
  have hC : rc_C Y cX1_catOn RX1 (Option.some Jvm.ClassFile.FieldType.int) 2 := hC
  unfold rp_X1_catOn at h
  refine rc_aload_n (pc := 0) hC dX1_catOn_0 rfl rfl ?_
  refine rc_r_getq (pc := 1) hC rF_X1_44 dX1_catOn_1 h ?_
  intro x1 h
  refine rc_aload_n (pc := 4) hC dX1_catOn_4 rfl rfl ?_
  refine rc_iload_n (pc := 5) hC dX1_catOn_5 rfl rfl ?_
  obtain ⟨⟨fs, ho⟩, h⟩ := h.is
  refine rc_callV (pc := 6) hC rfl ho (rw_X1_chimney hH.1 v0 v1) q1671 q1673 qs24 q116 q1674 rfl rd_X1_chimney (hH.room (Nat.le_of_ble_eq_true rfl) (Nat.le_of_ble_eq_true rfl)) rfl rfl (Nat.le_of_ble_eq_true rfl) 1 rfl h.le.2.2 h.br rfl dX1_catOn_6 ?_ (fun E q S hT => rc_out hC hH.2.2.2.2 hT)
  intro x2 S h
  show rc_Z Y S 9 [some (rc_q v0), some (rc_i v1)] [rc_i x2, rc_q x1]
  obtain ⟨⟨fs, ho⟩, h⟩ := h.is
  refine rc_callV (pc := 9) hC rfl ho (rw_X3_catOn hH.1 x1 x2) q1620 q932 q933 q126 q934 rfl rd_X3_catOn (hH.room (Nat.le_of_ble_eq_true rfl) (Nat.le_of_ble_eq_true rfl)) rfl rfl (Nat.le_of_ble_eq_true rfl) 1 rfl h.le.2.2 h.br rfl dX1_catOn_9 ?_ (fun E q S hT => rc_out hC hH.2.2.2.2 hT)
  intro x3 S h
  show rc_Z Y S 12 [some (rc_q v0), some (rc_i v1)] [rc_i x3]
  exact rc_iret hC rfl rfl dX1_catOn_12 h rfl
theorem rw_X1_gutter {l : Launch} (hl : l.stackTraces = false) (v0 : Option Nat) (v1 : Int32) : rc_Ct l yX1_gutter (ws_ yX1_gutter cX1_gutter 2 (Option.some (Jvm.ClassFile.FieldType.object "RooftopCats$Gutter"))) 7 110 rc_tQ (rp_X1_gutter v0 v1) [rc_q v0, rc_i v1] := by
  refine rc_Ct_H hl (plainFor_of_name rY_X1) rfl (Nat.le_of_ble_eq_true rfl) (L0 := [some (rc_q v0), some (rc_i v1)]) rfl ?_
  intro Y S hC hH h
  have hC : rc_C Y cX1_gutter RX1 (Option.some (Jvm.ClassFile.FieldType.object "RooftopCats$Gutter")) 2 := hC
  unfold rp_X1_gutter at h
  refine rc_aload_n (pc := 0) hC dX1_gutter_0 rfl rfl ?_
  refine rc_r_getq (pc := 1) hC rF_X1_44 dX1_gutter_1 h ?_
  intro x1 h
  refine rc_r_getq (pc := 4) hC rF_X1_75 dX1_gutter_4 h ?_
  intro x2 h
  refine rc_iload_n (pc := 7) hC dX1_gutter_7 rfl rfl ?_
  refine rc_aload_n (pc := 8) hC dX1_gutter_8 rfl rfl ?_
  refine rc_r_getq (pc := 9) hC rF_X1_44 dX1_gutter_9 h ?_
  intro x3 h
  refine rc_r_getq (pc := 12) hC rF_X1_75 dX1_gutter_12 h ?_
  intro x4 h
  obtain ⟨⟨fs, ho⟩, h⟩ := h.is
  refine rc_callF (x0 := rc_xsize) (y := yJ7_size) (pc := 15) hC rfl ho (rw_J7_size hH.1 x4) q1471 q823 q825 q128 q827 (List.mem_of_getElem? (i := 0) rfl) ⟨by decide, by decide, rd_J7_size.2.2⟩ (hH.room (Nat.le_of_ble_eq_true rfl) (Nat.le_of_ble_eq_true rfl)) rfl rfl (Nat.le_of_ble_eq_true rfl) 0 rfl h.le.2.2 h.br rfl dX1_gutter_15 ?_ (fun E q S hT => rc_out hC hH.2.2.2.2 hT)
  intro x5 S h
  show rc_Z Y S 20 [some (rc_q v0), some (rc_i v1)] [rc_i x5, rc_i v1, rc_q x2]
  refine rc_callS (pc := 20) hC (rw_X1_checked hH.1 v1 x5) q1675 q1676 q116 q1677 rd_X1_checked (hH.room (Nat.le_of_ble_eq_true rfl) (Nat.le_of_ble_eq_true rfl)) rfl rfl (Nat.le_of_ble_eq_true rfl) 2 rfl h.le.2.2 h.br rfl dX1_gutter_20 ?_ (fun E q S hT => rc_out hC hH.2.2.2.2 hT)
  intro x6 S h
  show rc_Z Y S 23 [some (rc_q v0), some (rc_i v1)] [rc_i x6, rc_q x2]
  obtain ⟨⟨fs, ho⟩, h⟩ := h.is
  refine rc_callF (x0 := rc_xget) (y := yJ7_get) (pc := 23) hC rfl ho (rw_J7_get hH.1 x2 x6) q1574 q941 q943 q128 q945 (List.mem_of_getElem? (i := 2) rfl) ⟨by decide, by decide, rd_J7_get.2.2⟩ (hH.room (Nat.le_of_ble_eq_true rfl) (Nat.le_of_ble_eq_true rfl)) rfl rfl (Nat.le_of_ble_eq_true rfl) 1 rfl h.le.2.2 h.br rfl dX1_gutter_23 ?_ (fun E q S hT => rc_out hC hH.2.2.2.2 hT)
  intro x7 S h
  show rc_Z Y S 28 [some (rc_q v0), some (rc_i v1)] [rc_q x7]
  refine rc_r_cast (pc := 28) hC rK_X1_82 dX1_gutter_28 h ?_
  intro h
  exact rc_aret hC rfl (by first | exact Or.inl ⟨_, rfl⟩ | exact Or.inr ⟨_, rfl⟩) dX1_gutter_31 h rfl
theorem rw_X1_gutterEnds {l : Launch} (hl : l.stackTraces = false) (v0 : Option Nat) (v1 : Int32) : rc_Ct l yX1_gutterEnds (ws_ yX1_gutterEnds cX1_gutterEnds 2 (Option.some Jvm.ClassFile.FieldType.int)) 8 131 rc_tI (rp_X1_gutterEnds v0 v1) [rc_q v0, rc_i v1] := by
  refine rc_Ct_H hl (plainFor_of_name rY_X1) rfl (Nat.le_of_ble_eq_true rfl) (L0 := [some (rc_q v0), some (rc_i v1)]) rfl ?_
  intro Y S hC hH h
  have hC : rc_C Y cX1_gutterEnds RX1 (Option.some Jvm.ClassFile.FieldType.int) 2 := hC
  unfold rp_X1_gutterEnds at h
  refine rc_iconst (pc := 0) hC (v := (1 : Int32)) dX1_gutterEnds_0 rfl ?_
  refine rc_aload_n (pc := 1) hC dX1_gutterEnds_1 rfl rfl ?_
  refine rc_iload_n (pc := 2) hC dX1_gutterEnds_2 rfl rfl ?_
  obtain ⟨⟨fs, ho⟩, h⟩ := h.is
  refine rc_callV (pc := 3) hC rfl ho (rw_X1_gutter hH.1 v0 v1) q1841 q1843 qs27 q116 q1844 rfl rd_X1_gutter (hH.room (Nat.le_of_ble_eq_true rfl) (Nat.le_of_ble_eq_true rfl)) rfl rfl (Nat.le_of_ble_eq_true rfl) 1 rfl h.le.2.2 h.br rfl dX1_gutterEnds_3 ?_ (fun E q S hT => rc_out hC hH.2.2.2.2 hT)
  intro x1 S h
  show rc_Z Y S 6 [some (rc_q v0), some (rc_i v1)] [rc_q x1, rc_i (1 : Int32)]
  obtain ⟨⟨fs, ho⟩, h⟩ := h.is
  refine rc_callV (pc := 6) hC rfl ho (rw_X6_one hH.1 x1) q1845 q1846 q1847 q144 q1848 rfl rd_X6_one (hH.room (Nat.le_of_ble_eq_true rfl) (Nat.le_of_ble_eq_true rfl)) rfl rfl (Nat.le_of_ble_eq_true rfl) 0 rfl h.le.2.2 h.br rfl dX1_gutterEnds_6 ?_ (fun E q S hT => rc_out hC hH.2.2.2.2 hT)
  intro x2 S h
  show rc_Z Y S 9 [some (rc_q v0), some (rc_i v1)] [rc_i x2, rc_i (1 : Int32)]
  refine rc_ishl (pc := 9) hC dX1_gutterEnds_9 ?_
  refine rc_iconst (pc := 10) hC (v := (1 : Int32)) dX1_gutterEnds_10 rfl ?_
  refine rc_aload_n (pc := 11) hC dX1_gutterEnds_11 rfl rfl ?_
  refine rc_iload_n (pc := 12) hC dX1_gutterEnds_12 rfl rfl ?_
  obtain ⟨⟨fs, ho⟩, h⟩ := h.is
  refine rc_callV (pc := 13) hC rfl ho (rw_X1_gutter hH.1 v0 v1) q1841 q1843 qs27 q116 q1844 rfl rd_X1_gutter (hH.room (Nat.le_of_ble_eq_true rfl) (Nat.le_of_ble_eq_true rfl)) rfl rfl (Nat.le_of_ble_eq_true rfl) 1 rfl h.le.2.2 h.br rfl dX1_gutterEnds_13 ?_ (fun E q S hT => rc_out hC hH.2.2.2.2 hT)
  intro x3 S h
  show rc_Z Y S 16 [some (rc_q v0), some (rc_i v1)] [rc_q x3, rc_i (1 : Int32), rc_i ((1 : Int32) <<< (x2 &&& 31))]
  obtain ⟨⟨fs, ho⟩, h⟩ := h.is
  refine rc_callV (pc := 16) hC rfl ho (rw_X6_other hH.1 x3) q1849 q1850 q1851 q144 q1852 rfl rd_X6_other (hH.room (Nat.le_of_ble_eq_true rfl) (Nat.le_of_ble_eq_true rfl)) rfl rfl (Nat.le_of_ble_eq_true rfl) 0 rfl h.le.2.2 h.br rfl dX1_gutterEnds_16 ?_ (fun E q S hT => rc_out hC hH.2.2.2.2 hT)
  intro x4 S h
  show rc_Z Y S 19 [some (rc_q v0), some (rc_i v1)] [rc_i x4, rc_i (1 : Int32), rc_i ((1 : Int32) <<< (x2 &&& 31))]
  refine rc_ishl (pc := 19) hC dX1_gutterEnds_19 ?_
  refine rc_ior (pc := 20) hC dX1_gutterEnds_20 ?_
  exact rc_iret hC rfl rfl dX1_gutterEnds_21 h rfl
theorem rw_X1_width {l : Launch} (hl : l.stackTraces = false) (v0 : Option Nat) (v1 : Int32) : rc_Ct l yX1_width (ws_ yX1_width cX1_width 2 (Option.some Jvm.ClassFile.FieldType.int)) 8 131 rc_tI (rp_X1_width v0 v1) [rc_q v0, rc_i v1] := by
  refine rc_Ct_H hl (plainFor_of_name rY_X1) rfl (Nat.le_of_ble_eq_true rfl) (L0 := [some (rc_q v0), some (rc_i v1)]) rfl ?_
  intro Y S hC hH h
  have hC : rc_C Y cX1_width RX1 (Option.some Jvm.ClassFile.FieldType.int) 2 := hC
  unfold rp_X1_width at h
  refine rc_aload_n (pc := 0) hC dX1_width_0 rfl rfl ?_
  refine rc_iload_n (pc := 1) hC dX1_width_1 rfl rfl ?_
  obtain ⟨⟨fs, ho⟩, h⟩ := h.is
  refine rc_callV (pc := 2) hC rfl ho (rw_X1_gutter hH.1 v0 v1) q1841 q1843 qs27 q116 q1844 rfl rd_X1_gutter (hH.room (Nat.le_of_ble_eq_true rfl) (Nat.le_of_ble_eq_true rfl)) rfl rfl (Nat.le_of_ble_eq_true rfl) 1 rfl h.le.2.2 h.br rfl dX1_width_2 ?_ (fun E q S hT => rc_out hC hH.2.2.2.2 hT)
  intro x1 S h
  show rc_Z Y S 5 [some (rc_q v0), some (rc_i v1)] [rc_q x1]
  obtain ⟨⟨fs, ho⟩, h⟩ := h.is
  refine rc_callV (pc := 5) hC rfl ho (rw_X6_width hH.1 x1) q1860 q1033 q1034 q144 q1035 rfl rd_X6_width (hH.room (Nat.le_of_ble_eq_true rfl) (Nat.le_of_ble_eq_true rfl)) rfl rfl (Nat.le_of_ble_eq_true rfl) 0 rfl h.le.2.2 h.br rfl dX1_width_5 ?_ (fun E q S hT => rc_out hC hH.2.2.2.2 hT)
  intro x2 S h
  show rc_Z Y S 8 [some (rc_q v0), some (rc_i v1)] [rc_i x2]
  exact rc_iret hC rfl rfl dX1_width_8 h rfl
theorem rw_X1_widestWay {l : Launch} (hl : l.stackTraces = false) (v0 : Option Nat) (v1 : Int32) (v2 : Int32) : rc_Ct l yX1_widestWay (ws_ yX1_widestWay cX1_widestWay 3 (Option.some Jvm.ClassFile.FieldType.int)) 8 131 rc_tI (rp_X1_widestWay v0 v1 v2) [rc_q v0, rc_i v1, rc_i v2] := by
  refine rc_Ct_H hl (plainFor_of_name rY_X1) rfl (Nat.le_of_ble_eq_true rfl) (L0 := [some (rc_q v0), some (rc_i v1), some (rc_i v2)]) rfl ?_
  intro Y S hC hH h
  have hC : rc_C Y cX1_widestWay RX1 (Option.some Jvm.ClassFile.FieldType.int) 3 := hC
  unfold rp_X1_widestWay at h
  refine rc_aload_n (pc := 0) hC dX1_widestWay_0 rfl rfl ?_
  refine rc_iload_n (pc := 1) hC dX1_widestWay_1 rfl rfl ?_
  obtain ⟨⟨fs, ho⟩, h⟩ := h.is
  refine rc_callV (pc := 2) hC rfl ho (rw_X1_chimney hH.1 v0 v1) q1671 q1673 qs24 q116 q1674 rfl rd_X1_chimney (hH.room (Nat.le_of_ble_eq_true rfl) (Nat.le_of_ble_eq_true rfl)) rfl rfl (Nat.le_of_ble_eq_true rfl) 1 rfl h.le.2.2 h.br rfl dX1_widestWay_2 ?_ (fun E q S hT => rc_out hC hH.2.2.2.2 hT)
  intro x1 S h
  show rc_Z Y S 5 [some (rc_q v0), some (rc_i v1), some (rc_i v2)] [rc_i x1]
  refine rc_pop (pc := 5) hC dX1_widestWay_5 rfl ?_
  refine rc_aload_n (pc := 6) hC dX1_widestWay_6 rfl rfl ?_
  refine rc_r_getq (pc := 7) hC rF_X1_44 dX1_widestWay_7 h ?_
  intro x2 h
  refine rc_iload_n (pc := 10) hC dX1_widestWay_10 rfl rfl ?_
  refine rc_aload_n (pc := 11) hC dX1_widestWay_11 rfl rfl ?_
  refine rc_iload_n (pc := 12) hC dX1_widestWay_12 rfl rfl ?_
  obtain ⟨⟨fs, ho⟩, h⟩ := h.is
  refine rc_callV (pc := 13) hC rfl ho (rw_X1_chimney hH.1 v0 v2) q1671 q1673 qs24 q116 q1674 rfl rd_X1_chimney (hH.room (Nat.le_of_ble_eq_true rfl) (Nat.le_of_ble_eq_true rfl)) rfl rfl (Nat.le_of_ble_eq_true rfl) 1 rfl h.le.2.2 h.br rfl dX1_widestWay_13 ?_ (fun E q S hT => rc_out hC hH.2.2.2.2 hT)
  intro x3 S h
  show rc_Z Y S 16 [some (rc_q v0), some (rc_i v1), some (rc_i v2)] [rc_i x3, rc_i v1, rc_q x2]
  obtain ⟨⟨fs, ho⟩, h⟩ := h.is
  refine rc_callV (pc := 16) hC rfl ho (rw_X3_widestWay hH.1 x2 v1 x3) q1868 q1869 q1870 q126 q1871 rfl rd_X3_widestWay (hH.room (Nat.le_of_ble_eq_true rfl) (Nat.le_of_ble_eq_true rfl)) rfl rfl (Nat.le_of_ble_eq_true rfl) 2 rfl h.le.2.2 h.br rfl dX1_widestWay_16 ?_ (fun E q S hT => rc_out hC hH.2.2.2.2 hT)
  intro x4 S h
  show rc_Z Y S 19 [some (rc_q v0), some (rc_i v1), some (rc_i v2)] [rc_i x4]
  exact rc_iret hC rfl rfl dX1_widestWay_19 h rfl
theorem rw_X1_girth {l : Launch} (hl : l.stackTraces = false) (v0 : Option Nat) (v1 : Int32) : rc_Ct l yX1_girth (ws_ yX1_girth cX1_girth 2 (Option.some Jvm.ClassFile.FieldType.int)) 8 131 rc_tI (rp_X1_girth v0 v1) [rc_q v0, rc_i v1] := by
  refine rc_Ct_H hl (plainFor_of_name rY_X1) rfl (Nat.le_of_ble_eq_true rfl) (L0 := [some (rc_q v0), some (rc_i v1)]) rfl ?_
  intro Y S hC hH h
  have hC : rc_C Y cX1_girth RX1 (Option.some Jvm.ClassFile.FieldType.int) 2 := hC
  unfold rp_X1_girth at h
  refine rc_aload_n (pc := 0) hC dX1_girth_0 rfl rfl ?_
  refine rc_r_getq (pc := 1) hC rF_X1_44 dX1_girth_1 h ?_
  intro x1 h
  refine rc_r_getq (pc := 4) hC rF_X1_72 dX1_girth_4 h ?_
  intro x2 h
  refine rc_aload_n (pc := 7) hC dX1_girth_7 rfl rfl ?_
  refine rc_iload_n (pc := 8) hC dX1_girth_8 rfl rfl ?_
  obtain ⟨⟨fs, ho⟩, h⟩ := h.is
  refine rc_callV (pc := 9) hC rfl ho (rw_X1_cat hH.1 v0 v1) q1717 q1719 qs25 q116 q1720 rfl rd_X1_cat (hH.room (Nat.le_of_ble_eq_true rfl) (Nat.le_of_ble_eq_true rfl)) rfl rfl (Nat.le_of_ble_eq_true rfl) 1 rfl h.le.2.2 h.br rfl dX1_girth_9 ?_ (fun E q S hT => rc_out hC hH.2.2.2.2 hT)
  intro x3 S h
  show rc_Z Y S 12 [some (rc_q v0), some (rc_i v1)] [rc_i x3, rc_q x2]
  obtain ⟨⟨fs, ho⟩, h⟩ := h.is
  refine rc_callF (x0 := rc_xget) (y := yJ7_get) (pc := 12) hC rfl ho (rw_J7_get hH.1 x2 x3) q1574 q941 q943 q128 q945 (List.mem_of_getElem? (i := 2) rfl) ⟨by decide, by decide, rd_J7_get.2.2⟩ (hH.room (Nat.le_of_ble_eq_true rfl) (Nat.le_of_ble_eq_true rfl)) rfl rfl (Nat.le_of_ble_eq_true rfl) 1 rfl h.le.2.2 h.br rfl dX1_girth_12 ?_ (fun E q S hT => rc_out hC hH.2.2.2.2 hT)
  intro x4 S h
  show rc_Z Y S 17 [some (rc_q v0), some (rc_i v1)] [rc_q x4]
  refine rc_r_cast (pc := 17) hC rK_X1_165 dX1_girth_17 h ?_
  intro h
  refine rc_r_geti (pc := 20) hC rF_X1_264 dX1_girth_20 h ?_
  intro x5 h
  exact rc_iret hC rfl rfl dX1_girth_23 h rfl
theorem rw_X1_power {l : Launch} (hl : l.stackTraces = false) (v0 : Option Nat) (v1 : Int32) : rc_Ct l yX1_power (ws_ yX1_power cX1_power 2 (Option.some Jvm.ClassFile.FieldType.int)) 8 131 rc_tI (rp_X1_power v0 v1) [rc_q v0, rc_i v1] := by
  refine rc_Ct_H hl (plainFor_of_name rY_X1) rfl (Nat.le_of_ble_eq_true rfl) (L0 := [some (rc_q v0), some (rc_i v1)]) rfl ?_
  intro Y S hC hH h
  have hC : rc_C Y cX1_power RX1 (Option.some Jvm.ClassFile.FieldType.int) 2 := hC
  unfold rp_X1_power at h
  refine rc_aload_n (pc := 0) hC dX1_power_0 rfl rfl ?_
  refine rc_r_getq (pc := 1) hC rF_X1_44 dX1_power_1 h ?_
  intro x1 h
  refine rc_aload_n (pc := 4) hC dX1_power_4 rfl rfl ?_
  refine rc_iload_n (pc := 5) hC dX1_power_5 rfl rfl ?_
  obtain ⟨⟨fs, ho⟩, h⟩ := h.is
  refine rc_callV (pc := 6) hC rfl ho (rw_X1_cat hH.1 v0 v1) q1717 q1719 qs25 q116 q1720 rfl rd_X1_cat (hH.room (Nat.le_of_ble_eq_true rfl) (Nat.le_of_ble_eq_true rfl)) rfl rfl (Nat.le_of_ble_eq_true rfl) 1 rfl h.le.2.2 h.br rfl dX1_power_6 ?_ (fun E q S hT => rc_out hC hH.2.2.2.2 hT)
  intro x2 S h
  show rc_Z Y S 9 [some (rc_q v0), some (rc_i v1)] [rc_i x2, rc_q x1]
  obtain ⟨⟨fs, ho⟩, h⟩ := h.is
  refine rc_callV (pc := 9) hC rfl ho (rw_X3_power hH.1 x1 x2) q1892 q1072 q1073 q126 q1074 rfl rd_X3_power (hH.room (Nat.le_of_ble_eq_true rfl) (Nat.le_of_ble_eq_true rfl)) rfl rfl (Nat.le_of_ble_eq_true rfl) 1 rfl h.le.2.2 h.br rfl dX1_power_9 ?_ (fun E q S hT => rc_out hC hH.2.2.2.2 hT)
  intro x3 S h
  show rc_Z Y S 12 [some (rc_q v0), some (rc_i v1)] [rc_i x3]
  exact rc_iret hC rfl rfl dX1_power_12 h rfl
theorem rw_X1_fish {l : Launch} (hl : l.stackTraces = false) (v0 : Option Nat) (v1 : Int32) : rc_Ct l yX1_fish (ws_ yX1_fish cX1_fish 2 (Option.some Jvm.ClassFile.FieldType.int)) 8 131 rc_tI (rp_X1_fish v0 v1) [rc_q v0, rc_i v1] := by
  refine rc_Ct_H hl (plainFor_of_name rY_X1) rfl (Nat.le_of_ble_eq_true rfl) (L0 := [some (rc_q v0), some (rc_i v1)]) rfl ?_
  intro Y S hC hH h
  have hC : rc_C Y cX1_fish RX1 (Option.some Jvm.ClassFile.FieldType.int) 2 := hC
  unfold rp_X1_fish at h
  refine rc_aload_n (pc := 0) hC dX1_fish_0 rfl rfl ?_
  refine rc_r_getq (pc := 1) hC rF_X1_44 dX1_fish_1 h ?_
  intro x1 h
  refine rc_r_getq (pc := 4) hC rF_X1_72 dX1_fish_4 h ?_
  intro x2 h
  refine rc_aload_n (pc := 7) hC dX1_fish_7 rfl rfl ?_
  refine rc_iload_n (pc := 8) hC dX1_fish_8 rfl rfl ?_
  obtain ⟨⟨fs, ho⟩, h⟩ := h.is
  refine rc_callV (pc := 9) hC rfl ho (rw_X1_cat hH.1 v0 v1) q1717 q1719 qs25 q116 q1720 rfl rd_X1_cat (hH.room (Nat.le_of_ble_eq_true rfl) (Nat.le_of_ble_eq_true rfl)) rfl rfl (Nat.le_of_ble_eq_true rfl) 1 rfl h.le.2.2 h.br rfl dX1_fish_9 ?_ (fun E q S hT => rc_out hC hH.2.2.2.2 hT)
  intro x3 S h
  show rc_Z Y S 12 [some (rc_q v0), some (rc_i v1)] [rc_i x3, rc_q x2]
  obtain ⟨⟨fs, ho⟩, h⟩ := h.is
  refine rc_callF (x0 := rc_xget) (y := yJ7_get) (pc := 12) hC rfl ho (rw_J7_get hH.1 x2 x3) q1574 q941 q943 q128 q945 (List.mem_of_getElem? (i := 2) rfl) ⟨by decide, by decide, rd_J7_get.2.2⟩ (hH.room (Nat.le_of_ble_eq_true rfl) (Nat.le_of_ble_eq_true rfl)) rfl rfl (Nat.le_of_ble_eq_true rfl) 1 rfl h.le.2.2 h.br rfl dX1_fish_12 ?_ (fun E q S hT => rc_out hC hH.2.2.2.2 hT)
  intro x4 S h
  show rc_Z Y S 17 [some (rc_q v0), some (rc_i v1)] [rc_q x4]
  refine rc_r_cast (pc := 17) hC rK_X1_165 dX1_fish_17 h ?_
  intro h
  refine rc_r_geti (pc := 20) hC rF_X1_270 dX1_fish_20 h ?_
  intro x5 h
  exact rc_iret hC rfl rfl dX1_fish_23 h rfl
theorem rw_X1_chimneyOf {l : Launch} (hl : l.stackTraces = false) (v0 : Option Nat) (v1 : Int32) : rc_Ct l yX1_chimneyOf (ws_ yX1_chimneyOf cX1_chimneyOf 2 (Option.some Jvm.ClassFile.FieldType.int)) 8 131 rc_tI (rp_X1_chimneyOf v0 v1) [rc_q v0, rc_i v1] := by
  refine rc_Ct_H hl (plainFor_of_name rY_X1) rfl (Nat.le_of_ble_eq_true rfl) (L0 := [some (rc_q v0), some (rc_i v1)]) rfl ?_
  intro Y S hC hH h
  have hC : rc_C Y cX1_chimneyOf RX1 (Option.some Jvm.ClassFile.FieldType.int) 2 := hC
  unfold rp_X1_chimneyOf at h
  refine rc_aload_n (pc := 0) hC dX1_chimneyOf_0 rfl rfl ?_
  refine rc_r_getq (pc := 1) hC rF_X1_44 dX1_chimneyOf_1 h ?_
  intro x1 h
  refine rc_r_getq (pc := 4) hC rF_X1_72 dX1_chimneyOf_4 h ?_
  intro x2 h
  refine rc_aload_n (pc := 7) hC dX1_chimneyOf_7 rfl rfl ?_
  refine rc_iload_n (pc := 8) hC dX1_chimneyOf_8 rfl rfl ?_
  obtain ⟨⟨fs, ho⟩, h⟩ := h.is
  refine rc_callV (pc := 9) hC rfl ho (rw_X1_cat hH.1 v0 v1) q1717 q1719 qs25 q116 q1720 rfl rd_X1_cat (hH.room (Nat.le_of_ble_eq_true rfl) (Nat.le_of_ble_eq_true rfl)) rfl rfl (Nat.le_of_ble_eq_true rfl) 1 rfl h.le.2.2 h.br rfl dX1_chimneyOf_9 ?_ (fun E q S hT => rc_out hC hH.2.2.2.2 hT)
  intro x3 S h
  show rc_Z Y S 12 [some (rc_q v0), some (rc_i v1)] [rc_i x3, rc_q x2]
  obtain ⟨⟨fs, ho⟩, h⟩ := h.is
  refine rc_callF (x0 := rc_xget) (y := yJ7_get) (pc := 12) hC rfl ho (rw_J7_get hH.1 x2 x3) q1574 q941 q943 q128 q945 (List.mem_of_getElem? (i := 2) rfl) ⟨by decide, by decide, rd_J7_get.2.2⟩ (hH.room (Nat.le_of_ble_eq_true rfl) (Nat.le_of_ble_eq_true rfl)) rfl rfl (Nat.le_of_ble_eq_true rfl) 1 rfl h.le.2.2 h.br rfl dX1_chimneyOf_12 ?_ (fun E q S hT => rc_out hC hH.2.2.2.2 hT)
  intro x4 S h
  show rc_Z Y S 17 [some (rc_q v0), some (rc_i v1)] [rc_q x4]
  refine rc_r_cast (pc := 17) hC rK_X1_165 dX1_chimneyOf_17 h ?_
  intro h
  refine rc_r_geti (pc := 20) hC rF_X1_273 dX1_chimneyOf_20 h ?_
  intro x5 h
  exact rc_iret hC rfl rfl dX1_chimneyOf_23 h rfl
theorem rw_X1_ownedChimneys {l : Launch} (hl : l.stackTraces = false) (v0 : Option Nat) (v1 : Int32) : rc_Ct l yX1_ownedChimneys (ws_ yX1_ownedChimneys cX1_ownedChimneys 2 (Option.some Jvm.ClassFile.FieldType.int)) 8 131 rc_tI (rp_X1_ownedChimneys v0 v1) [rc_q v0, rc_i v1] := by
  refine rc_Ct_H hl (plainFor_of_name rY_X1) rfl (Nat.le_of_ble_eq_true rfl) (L0 := [some (rc_q v0), some (rc_i v1)]) rfl ?_
  intro Y S hC hH h
  have hC : rc_C Y cX1_ownedChimneys RX1 (Option.some Jvm.ClassFile.FieldType.int) 2 := hC
  unfold rp_X1_ownedChimneys at h
  refine rc_aload_n (pc := 0) hC dX1_ownedChimneys_0 rfl rfl ?_
  refine rc_r_getq (pc := 1) hC rF_X1_44 dX1_ownedChimneys_1 h ?_
  intro x1 h
  refine rc_aload_n (pc := 4) hC dX1_ownedChimneys_4 rfl rfl ?_
  refine rc_iload_n (pc := 5) hC dX1_ownedChimneys_5 rfl rfl ?_
  obtain ⟨⟨fs, ho⟩, h⟩ := h.is
  refine rc_callV (pc := 6) hC rfl ho (rw_X1_cat hH.1 v0 v1) q1717 q1719 qs25 q116 q1720 rfl rd_X1_cat (hH.room (Nat.le_of_ble_eq_true rfl) (Nat.le_of_ble_eq_true rfl)) rfl rfl (Nat.le_of_ble_eq_true rfl) 1 rfl h.le.2.2 h.br rfl dX1_ownedChimneys_6 ?_ (fun E q S hT => rc_out hC hH.2.2.2.2 hT)
  intro x2 S h
  show rc_Z Y S 9 [some (rc_q v0), some (rc_i v1)] [rc_i x2, rc_q x1]
  obtain ⟨⟨fs, ho⟩, h⟩ := h.is
  refine rc_callV (pc := 9) hC rfl ho (rw_X3_owned hH.1 x1 x2) q1608 q1006 q1007 q126 q1008 rfl rd_X3_owned (hH.room (Nat.le_of_ble_eq_true rfl) (Nat.le_of_ble_eq_true rfl)) rfl rfl (Nat.le_of_ble_eq_true rfl) 1 rfl h.le.2.2 h.br rfl dX1_ownedChimneys_9 ?_ (fun E q S hT => rc_out hC hH.2.2.2.2 hT)
  intro x3 S h
  show rc_Z Y S 12 [some (rc_q v0), some (rc_i v1)] [rc_i x3]
  exact rc_iret hC rfl rfl dX1_ownedChimneys_12 h rfl
theorem rw_X1_truceNights {l : Launch} (hl : l.stackTraces = false) (v0 : Option Nat) (v1 : Int32) (v2 : Int32) : rc_Ct l yX1_truceNights (ws_ yX1_truceNights cX1_truceNights 3 (Option.some Jvm.ClassFile.FieldType.int)) 9 153 rc_tI (rp_X1_truceNights v0 v1 v2) [rc_q v0, rc_i v1, rc_i v2] := by
  refine rc_Ct_H hl (plainFor_of_name rY_X1) rfl (Nat.le_of_ble_eq_true rfl) (L0 := [some (rc_q v0), some (rc_i v1), some (rc_i v2)]) rfl ?_
  intro Y S hC hH h
  have hC : rc_C Y cX1_truceNights RX1 (Option.some Jvm.ClassFile.FieldType.int) 3 := hC
  unfold rp_X1_truceNights at h
  refine rc_aload_n (pc := 0) hC dX1_truceNights_0 rfl rfl ?_
  refine rc_iload_n (pc := 1) hC dX1_truceNights_1 rfl rfl ?_
  refine rc_iload_n (pc := 2) hC dX1_truceNights_2 rfl rfl ?_
  obtain ⟨⟨fs, ho⟩, h⟩ := h.is
  refine rc_callV (pc := 3) hC rfl ho (rw_X1_checkCats hH.1 v0 v1 v2) q1758 q1760 qs26 q116 q1761 rfl rd_X1_checkCats (hH.room (Nat.le_of_ble_eq_true rfl) (Nat.le_of_ble_eq_true rfl)) rfl rfl (Nat.le_of_ble_eq_true rfl) 2 rfl h.le.2.2 h.br rfl dX1_truceNights_3 ?_ (fun E q S hT => rc_out hC hH.2.2.2.2 hT)
  intro _ S h
  show rc_Z Y S 6 [some (rc_q v0), some (rc_i v1), some (rc_i v2)] []
  refine rc_aload_n (pc := 6) hC dX1_truceNights_6 rfl rfl ?_
  refine rc_r_getq (pc := 7) hC rF_X1_44 dX1_truceNights_7 h ?_
  intro x1 h
  refine rc_iload_n (pc := 10) hC dX1_truceNights_10 rfl rfl ?_
  refine rc_iload_n (pc := 11) hC dX1_truceNights_11 rfl rfl ?_
  obtain ⟨⟨fs, ho⟩, h⟩ := h.is
  refine rc_callV (pc := 12) hC rfl ho (rw_X3_truceNights hH.1 x1 v1 v2) q1921 q1046 q1047 q126 q1048 rfl rd_X3_truceNights (hH.room (Nat.le_of_ble_eq_true rfl) (Nat.le_of_ble_eq_true rfl)) rfl rfl (Nat.le_of_ble_eq_true rfl) 2 rfl h.le.2.2 h.br rfl dX1_truceNights_12 ?_ (fun E q S hT => rc_out hC hH.2.2.2.2 hT)
  intro x2 S h
  show rc_Z Y S 15 [some (rc_q v0), some (rc_i v1), some (rc_i v2)] [rc_i x2]
  exact rc_iret hC rfl rfl dX1_truceNights_15 h rfl
theorem rw_X1_reachable {l : Launch} (hl : l.stackTraces = false) (v0 : Option Nat) (v1 : Int32) : rc_Ct l yX1_reachable (ws_ yX1_reachable cX1_reachable 2 (Option.some Jvm.ClassFile.FieldType.int)) 8 160 rc_tI (rp_X1_reachable v0 v1) [rc_q v0, rc_i v1] := by
  refine rc_Ct_H hl (plainFor_of_name rY_X1) rfl (Nat.le_of_ble_eq_true rfl) (L0 := [some (rc_q v0), some (rc_i v1)]) rfl ?_
  intro Y S hC hH h
  have hC : rc_C Y cX1_reachable RX1 (Option.some Jvm.ClassFile.FieldType.int) 2 := hC
  unfold rp_X1_reachable at h
  refine rc_aload_n (pc := 0) hC dX1_reachable_0 rfl rfl ?_
  refine rc_r_getq (pc := 1) hC rF_X1_44 dX1_reachable_1 h ?_
  intro x1 h
  refine rc_aload_n (pc := 4) hC dX1_reachable_4 rfl rfl ?_
  refine rc_iload_n (pc := 5) hC dX1_reachable_5 rfl rfl ?_
  obtain ⟨⟨fs, ho⟩, h⟩ := h.is
  refine rc_callV (pc := 6) hC rfl ho (rw_X1_cat hH.1 v0 v1) q1717 q1719 qs25 q116 q1720 rfl rd_X1_cat (hH.room (Nat.le_of_ble_eq_true rfl) (Nat.le_of_ble_eq_true rfl)) rfl rfl (Nat.le_of_ble_eq_true rfl) 1 rfl h.le.2.2 h.br rfl dX1_reachable_6 ?_ (fun E q S hT => rc_out hC hH.2.2.2.2 hT)
  intro x2 S h
  show rc_Z Y S 9 [some (rc_q v0), some (rc_i v1)] [rc_i x2, rc_q x1]
  obtain ⟨⟨fs, ho⟩, h⟩ := h.is
  refine rc_callV (pc := 9) hC rfl ho (rw_X3_reachable hH.1 x1 x2) q1929 q1930 q1931 q126 q1932 rfl rd_X3_reachable (hH.room (Nat.le_of_ble_eq_true rfl) (Nat.le_of_ble_eq_true rfl)) rfl rfl (Nat.le_of_ble_eq_true rfl) 1 rfl h.le.2.2 h.br rfl dX1_reachable_9 ?_ (fun E q S hT => rc_out hC hH.2.2.2.2 hT)
  intro x3 S h
  show rc_Z Y S 12 [some (rc_q v0), some (rc_i v1)] [rc_i x3]
  exact rc_iret hC rfl rfl dX1_reachable_12 h rfl
theorem rw_X1_stepsTo {l : Launch} (hl : l.stackTraces = false) (v0 : Option Nat) (v1 : Int32) (v2 : Int32) : rc_Ct l yX1_stepsTo (ws_ yX1_stepsTo cX1_stepsTo 3 (Option.some Jvm.ClassFile.FieldType.int)) 8 161 rc_tI (rp_X1_stepsTo v0 v1 v2) [rc_q v0, rc_i v1, rc_i v2] := by
  refine rc_Ct_H hl (plainFor_of_name rY_X1) rfl (Nat.le_of_ble_eq_true rfl) (L0 := [some (rc_q v0), some (rc_i v1), some (rc_i v2)]) rfl ?_
  intro Y S hC hH h
  have hC : rc_C Y cX1_stepsTo RX1 (Option.some Jvm.ClassFile.FieldType.int) 3 := hC
  unfold rp_X1_stepsTo at h
  refine rc_aload_n (pc := 0) hC dX1_stepsTo_0 rfl rfl ?_
  refine rc_iload_n (pc := 1) hC dX1_stepsTo_1 rfl rfl ?_
  obtain ⟨⟨fs, ho⟩, h⟩ := h.is
  refine rc_callV (pc := 2) hC rfl ho (rw_X1_cat hH.1 v0 v1) q1717 q1719 qs25 q116 q1720 rfl rd_X1_cat (hH.room (Nat.le_of_ble_eq_true rfl) (Nat.le_of_ble_eq_true rfl)) rfl rfl (Nat.le_of_ble_eq_true rfl) 1 rfl h.le.2.2 h.br rfl dX1_stepsTo_2 ?_ (fun E q S hT => rc_out hC hH.2.2.2.2 hT)
  intro x1 S h
  show rc_Z Y S 5 [some (rc_q v0), some (rc_i v1), some (rc_i v2)] [rc_i x1]
  refine rc_pop (pc := 5) hC dX1_stepsTo_5 rfl ?_
  refine rc_aload_n (pc := 6) hC dX1_stepsTo_6 rfl rfl ?_
  refine rc_r_getq (pc := 7) hC rF_X1_44 dX1_stepsTo_7 h ?_
  intro x2 h
  refine rc_iload_n (pc := 10) hC dX1_stepsTo_10 rfl rfl ?_
  refine rc_aload_n (pc := 11) hC dX1_stepsTo_11 rfl rfl ?_
  refine rc_iload_n (pc := 12) hC dX1_stepsTo_12 rfl rfl ?_
  obtain ⟨⟨fs, ho⟩, h⟩ := h.is
  refine rc_callV (pc := 13) hC rfl ho (rw_X1_chimney hH.1 v0 v2) q1671 q1673 qs24 q116 q1674 rfl rd_X1_chimney (hH.room (Nat.le_of_ble_eq_true rfl) (Nat.le_of_ble_eq_true rfl)) rfl rfl (Nat.le_of_ble_eq_true rfl) 1 rfl h.le.2.2 h.br rfl dX1_stepsTo_13 ?_ (fun E q S hT => rc_out hC hH.2.2.2.2 hT)
  intro x3 S h
  show rc_Z Y S 16 [some (rc_q v0), some (rc_i v1), some (rc_i v2)] [rc_i x3, rc_i v1, rc_q x2]
  obtain ⟨⟨fs, ho⟩, h⟩ := h.is
  refine rc_callV (pc := 16) hC rfl ho (rw_X3_stepsTo hH.1 x2 v1 x3) q1944 q1945 q1946 q126 q1947 rfl rd_X3_stepsTo (hH.room (Nat.le_of_ble_eq_true rfl) (Nat.le_of_ble_eq_true rfl)) rfl rfl (Nat.le_of_ble_eq_true rfl) 2 rfl h.le.2.2 h.br rfl dX1_stepsTo_16 ?_ (fun E q S hT => rc_out hC hH.2.2.2.2 hT)
  intro x4 S h
  show rc_Z Y S 19 [some (rc_q v0), some (rc_i v1), some (rc_i v2)] [rc_i x4]
  exact rc_iret hC rfl rfl dX1_stepsTo_19 h rfl
theorem rw_X1_openGutters_L46 {Y : rc_Y} (hC : rc_C Y cX1_openGutters RX1 (Option.some Jvm.ClassFile.FieldType.int) 4) (hH : rc_H Y 8 134 yX1_openGutters.name) {k10 : Option Nat → Int32 → Int32 → Int32 → rc_M Int32} (hk10 : ∀ (v0 : Option Nat) (v1 : Int32) (v2 : Int32) (v3 : Int32) (S : rc_S), rc_Go Y rc_tI (k10 v0 v1 v2 v3) S → rc_Z Y S 10 [some (rc_q v0), some (rc_i v1), some (rc_i v2), some (rc_i v3)] []) (v0 : Option Nat) (v1 : Int32) (v3 : Int32) (s0 : Int32) (s1 : Int32) (S : rc_S) (h : rc_Go Y rc_tI (rp_X1_openGutters_L46 k10 v0 v1 v3 s0 s1) S) : rc_Z Y S 46 [some (rc_q v0), some (rc_i v1), none, some (rc_i v3)] [rc_i s0, rc_i s1] := by
  unfold rp_X1_openGutters_L46 at h
  refine rc_ior (pc := 46) hC dX1_openGutters_46 ?_
  refine rc_istore_n (pc := 47) hC (L' := [some (rc_q v0), some (rc_i v1), some (rc_i (s1 ||| s0)), some (rc_i v3)]) dX1_openGutters_47 rfl (Nat.le_of_ble_eq_true rfl) rfl rfl ?_
  refine rc_iinc (pc := 48) hC (v := (v3 + (1 : Int32))) (L' := [some (rc_q v0), some (rc_i v1), some (rc_i (s1 ||| s0)), some (rc_i (v3 + (1 : Int32)))]) dX1_openGutters_48 rfl rfl rfl rfl ?_
  refine rc_goto (pc := 51) (tgt := 10) hC dX1_openGutters_51 rfl ?_
  exact hk10 v0 v1 (s1 ||| s0) (v3 + (1 : Int32)) S h
theorem rw_X1_openGutters_L10 {Y : rc_Y} (hC : rc_C Y cX1_openGutters RX1 (Option.some Jvm.ClassFile.FieldType.int) 4) (hH : rc_H Y 8 134 yX1_openGutters.name) : ∀ (n : Nat) (v0 : Option Nat) (v1 : Int32) (v2 : Int32) (v3 : Int32) (S : rc_S), rc_Go Y rc_tI (rp_X1_openGutters_L10  n v0 v1 v2 v3) S → rc_Z Y S 10 [some (rc_q v0), some (rc_i v1), some (rc_i v2), some (rc_i v3)] [] := by
  intro n
  induction n with
  | zero => intro v0 v1 v2 v3 S h; exact h.fail.elim
  | succ n ih =>
    intro v0 v1 v2 v3 S h
    rw [rp_X1_openGutters_L10] at h
    refine rc_iload_n (pc := 10) hC dX1_openGutters_10 rfl rfl ?_
    refine rc_aload_n (pc := 11) hC dX1_openGutters_11 rfl rfl ?_
    refine rc_r_getq (pc := 12) hC rF_X1_44 dX1_openGutters_12 h ?_
    intro x1 h
    refine rc_r_getq (pc := 15) hC rF_X1_75 dX1_openGutters_15 h ?_
    intro x2 h
    obtain ⟨⟨fs, ho⟩, h⟩ := h.is
    refine rc_callF (x0 := rc_xsize) (y := yJ7_size) (pc := 18) hC rfl ho (rw_J7_size hH.1 x2) q1471 q823 q825 q128 q827 (List.mem_of_getElem? (i := 0) rfl) ⟨by decide, by decide, rd_J7_size.2.2⟩ (hH.room (Nat.le_of_ble_eq_true rfl) (Nat.le_of_ble_eq_true rfl)) rfl rfl (Nat.le_of_ble_eq_true rfl) 0 rfl h.le.2.2 h.br rfl dX1_openGutters_18 ?_ (fun E q S hT => rc_out hC hH.2.2.2.2 hT)
    intro x3 S h
    show rc_Z Y S 23 [some (rc_q v0), some (rc_i v1), some (rc_i v2), some (rc_i v3)] [rc_i x3, rc_i v3]
    refine rc_icmp_ge (pc := 23) (tgt := 54) hC dX1_openGutters_23 rfl h ?_ ?_
    · intro _ h
      refine rc_iload_n (pc := 54) hC dX1_openGutters_54 rfl rfl ?_
      exact rc_iret hC rfl rfl dX1_openGutters_55 h rfl
    intro _ h
    refine rc_iload_n (pc := 26) hC dX1_openGutters_26 rfl rfl ?_
    refine rc_aload_n (pc := 27) hC dX1_openGutters_27 rfl rfl ?_
    refine rc_r_getq (pc := 28) hC rF_X1_44 dX1_openGutters_28 h ?_
    intro x4 h
    refine rc_iload_n (pc := 31) hC dX1_openGutters_31 rfl rfl ?_
    refine rc_iload_n (pc := 32) hC dX1_openGutters_32 rfl rfl ?_
    obtain ⟨⟨fs, ho⟩, h⟩ := h.is
    refine rc_callV (pc := 33) hC rfl ho (rw_X3_judgeStep hH.1 x4 v1 v3) q1721 q1020 q1021 q126 q1022 rfl rd_X3_judgeStep (hH.room (Nat.le_of_ble_eq_true rfl) (Nat.le_of_ble_eq_true rfl)) rfl rfl (Nat.le_of_ble_eq_true rfl) 2 rfl h.le.2.2 h.br rfl dX1_openGutters_33 ?_ (fun E q S hT => rc_out hC hH.2.2.2.2 hT)
    intro x5 S h
    show rc_Z Y S 36 [some (rc_q v0), some (rc_i v1), some (rc_i v2), some (rc_i v3)] [rc_i x5, rc_i v2]
    refine rc_if_ne (pc := 36) (tgt := 45) hC dX1_openGutters_36 rfl h ?_ ?_
    · intro _ h
      refine rc_iconst (pc := 45) hC (v := (0 : Int32)) dX1_openGutters_45 rfl ?_
      refine rc_drop [true, true, false, true] (L' := [some (rc_q v0), some (rc_i v1), none, some (rc_i v3)]) rfl ?_
      exact rw_X1_openGutters_L46 hC hH ih v0 v1 v3 (0 : Int32) v2 S h
    intro _ h
    refine rc_iconst (pc := 39) hC (v := (1 : Int32)) dX1_openGutters_39 rfl ?_
    refine rc_iload_n (pc := 40) hC dX1_openGutters_40 rfl rfl ?_
    refine rc_ishl (pc := 41) hC dX1_openGutters_41 ?_
    refine rc_goto (pc := 42) (tgt := 46) hC dX1_openGutters_42 rfl ?_
    refine rc_drop [true, true, false, true] (L' := [some (rc_q v0), some (rc_i v1), none, some (rc_i v3)]) rfl ?_
    exact rw_X1_openGutters_L46 hC hH ih v0 v1 v3 ((1 : Int32) <<< (v3 &&& 31)) v2 S h
theorem rw_X1_openGutters {l : Launch} (hl : l.stackTraces = false) (v0 : Option Nat) (v1 : Int32) : rc_Ct l yX1_openGutters (ws_ yX1_openGutters cX1_openGutters 4 (Option.some Jvm.ClassFile.FieldType.int)) 8 134 rc_tI (rp_X1_openGutters v0 v1) [rc_q v0, rc_i v1] := by
  refine rc_Ct_H hl (plainFor_of_name rY_X1) rfl (Nat.le_of_ble_eq_true rfl) (L0 := [some (rc_q v0), some (rc_i v1), none, none]) rfl ?_
  intro Y S hC hH h
  have hC : rc_C Y cX1_openGutters RX1 (Option.some Jvm.ClassFile.FieldType.int) 4 := hC
  unfold rp_X1_openGutters at h
  refine rc_aload_n (pc := 0) hC dX1_openGutters_0 rfl rfl ?_
  refine rc_iload_n (pc := 1) hC dX1_openGutters_1 rfl rfl ?_
  obtain ⟨⟨fs, ho⟩, h⟩ := h.is
  refine rc_callV (pc := 2) hC rfl ho (rw_X1_cat hH.1 v0 v1) q1717 q1719 qs25 q116 q1720 rfl rd_X1_cat (hH.room (Nat.le_of_ble_eq_true rfl) (Nat.le_of_ble_eq_true rfl)) rfl rfl (Nat.le_of_ble_eq_true rfl) 1 rfl h.le.2.2 h.br rfl dX1_openGutters_2 ?_ (fun E q S hT => rc_out hC hH.2.2.2.2 hT)
  intro x1 S h
  show rc_Z Y S 5 [some (rc_q v0), some (rc_i v1), none, none] [rc_i x1]
  refine rc_pop (pc := 5) hC dX1_openGutters_5 rfl ?_
  refine rc_iconst (pc := 6) hC (v := (0 : Int32)) dX1_openGutters_6 rfl ?_
  refine rc_istore_n (pc := 7) hC (L' := [some (rc_q v0), some (rc_i v1), some (rc_i (0 : Int32)), none]) dX1_openGutters_7 rfl (Nat.le_of_ble_eq_true rfl) rfl rfl ?_
  refine rc_iconst (pc := 8) hC (v := (0 : Int32)) dX1_openGutters_8 rfl ?_
  refine rc_istore_n (pc := 9) hC (L' := [some (rc_q v0), some (rc_i v1), some (rc_i (0 : Int32)), some (rc_i (0 : Int32))]) dX1_openGutters_9 rfl (Nat.le_of_ble_eq_true rfl) rfl rfl ?_
  refine rc_r_fuel h ?_
  intro x2 h
  exact rw_X1_openGutters_L10 hC hH  x2 v0 v1 (0 : Int32) (0 : Int32) S h
theorem rw_X1_preyOf_L51 {Y : rc_Y} (hC : rc_C Y cX1_preyOf RX1 (Option.some Jvm.ClassFile.FieldType.int) 4) (hH : rc_H Y 8 149 yX1_preyOf.name) {k10 : Option Nat → Int32 → Int32 → Int32 → rc_M Int32} (hk10 : ∀ (v0 : Option Nat) (v1 : Int32) (v2 : Int32) (v3 : Int32) (S : rc_S), rc_Go Y rc_tI (k10 v0 v1 v2 v3) S → rc_Z Y S 10 [some (rc_q v0), some (rc_i v1), some (rc_i v2), some (rc_i v3)] []) (v0 : Option Nat) (v1 : Int32) (v3 : Int32) (s0 : Int32) (s1 : Int32) (S : rc_S) (h : rc_Go Y rc_tI (rp_X1_preyOf_L51 k10 v0 v1 v3 s0 s1) S) : rc_Z Y S 51 [some (rc_q v0), some (rc_i v1), none, some (rc_i v3)] [rc_i s0, rc_i s1] := by
  unfold rp_X1_preyOf_L51 at h
  refine rc_ior (pc := 51) hC dX1_preyOf_51 ?_
  refine rc_istore_n (pc := 52) hC (L' := [some (rc_q v0), some (rc_i v1), some (rc_i (s1 ||| s0)), some (rc_i v3)]) dX1_preyOf_52 rfl (Nat.le_of_ble_eq_true rfl) rfl rfl ?_
  refine rc_iinc (pc := 53) hC (v := (v3 + (1 : Int32))) (L' := [some (rc_q v0), some (rc_i v1), some (rc_i (s1 ||| s0)), some (rc_i (v3 + (1 : Int32)))]) dX1_preyOf_53 rfl rfl rfl rfl ?_
  refine rc_goto (pc := 56) (tgt := 10) hC dX1_preyOf_56 rfl ?_
  exact hk10 v0 v1 (s1 ||| s0) (v3 + (1 : Int32)) S h
theorem rw_X1_preyOf_L50 {Y : rc_Y} (hC : rc_C Y cX1_preyOf RX1 (Option.some Jvm.ClassFile.FieldType.int) 4) (hH : rc_H Y 8 149 yX1_preyOf.name) {k10 : Option Nat → Int32 → Int32 → Int32 → rc_M Int32} (hk10 : ∀ (v0 : Option Nat) (v1 : Int32) (v2 : Int32) (v3 : Int32) (S : rc_S), rc_Go Y rc_tI (k10 v0 v1 v2 v3) S → rc_Z Y S 10 [some (rc_q v0), some (rc_i v1), some (rc_i v2), some (rc_i v3)] []) (v0 : Option Nat) (v1 : Int32) (v3 : Int32) (s0 : Int32) (S : rc_S) (h : rc_Go Y rc_tI (rp_X1_preyOf_L50 k10 v0 v1 v3 s0) S) : rc_Z Y S 50 [some (rc_q v0), some (rc_i v1), none, some (rc_i v3)] [rc_i s0] := by
  unfold rp_X1_preyOf_L50 at h
  refine rc_iconst (pc := 50) hC (v := (0 : Int32)) dX1_preyOf_50 rfl ?_
  exact rw_X1_preyOf_L51 hC hH hk10 v0 v1 v3 (0 : Int32) s0 S h
theorem rw_X1_preyOf_L10 {Y : rc_Y} (hC : rc_C Y cX1_preyOf RX1 (Option.some Jvm.ClassFile.FieldType.int) 4) (hH : rc_H Y 8 149 yX1_preyOf.name) : ∀ (n : Nat) (v0 : Option Nat) (v1 : Int32) (v2 : Int32) (v3 : Int32) (S : rc_S), rc_Go Y rc_tI (rp_X1_preyOf_L10  n v0 v1 v2 v3) S → rc_Z Y S 10 [some (rc_q v0), some (rc_i v1), some (rc_i v2), some (rc_i v3)] [] := by
  intro n
  induction n with
  | zero => intro v0 v1 v2 v3 S h; exact h.fail.elim
  | succ n ih =>
    intro v0 v1 v2 v3 S h
    rw [rp_X1_preyOf_L10] at h
    refine rc_iload_n (pc := 10) hC dX1_preyOf_10 rfl rfl ?_
    refine rc_aload_n (pc := 11) hC dX1_preyOf_11 rfl rfl ?_
    refine rc_r_getq (pc := 12) hC rF_X1_44 dX1_preyOf_12 h ?_
    intro x1 h
    refine rc_r_getq (pc := 15) hC rF_X1_72 dX1_preyOf_15 h ?_
    intro x2 h
    obtain ⟨⟨fs, ho⟩, h⟩ := h.is
    refine rc_callF (x0 := rc_xsize) (y := yJ7_size) (pc := 18) hC rfl ho (rw_J7_size hH.1 x2) q1471 q823 q825 q128 q827 (List.mem_of_getElem? (i := 0) rfl) ⟨by decide, by decide, rd_J7_size.2.2⟩ (hH.room (Nat.le_of_ble_eq_true rfl) (Nat.le_of_ble_eq_true rfl)) rfl rfl (Nat.le_of_ble_eq_true rfl) 0 rfl h.le.2.2 h.br rfl dX1_preyOf_18 ?_ (fun E q S hT => rc_out hC hH.2.2.2.2 hT)
    intro x3 S h
    show rc_Z Y S 23 [some (rc_q v0), some (rc_i v1), some (rc_i v2), some (rc_i v3)] [rc_i x3, rc_i v3]
    refine rc_icmp_ge (pc := 23) (tgt := 59) hC dX1_preyOf_23 rfl h ?_ ?_
    · intro _ h
      refine rc_iload_n (pc := 59) hC dX1_preyOf_59 rfl rfl ?_
      exact rc_iret hC rfl rfl dX1_preyOf_60 h rfl
    intro _ h
    refine rc_iload_n (pc := 26) hC dX1_preyOf_26 rfl rfl ?_
    refine rc_iload_n (pc := 27) hC dX1_preyOf_27 rfl rfl ?_
    refine rc_iload_n (pc := 28) hC dX1_preyOf_28 rfl rfl ?_
    refine rc_icmp_eq (pc := 29) (tgt := 50) hC dX1_preyOf_29 rfl h ?_ ?_
    · intro _ h
      refine rc_drop [true, true, false, true] (L' := [some (rc_q v0), some (rc_i v1), none, some (rc_i v3)]) rfl ?_
      exact rw_X1_preyOf_L50 hC hH ih v0 v1 v3 v2 S h
    intro _ h
    refine rc_aload_n (pc := 32) hC dX1_preyOf_32 rfl rfl ?_
    refine rc_r_getq (pc := 33) hC rF_X1_44 dX1_preyOf_33 h ?_
    intro x4 h
    refine rc_iload_n (pc := 36) hC dX1_preyOf_36 rfl rfl ?_
    refine rc_iload_n (pc := 37) hC dX1_preyOf_37 rfl rfl ?_
    obtain ⟨⟨fs, ho⟩, h⟩ := h.is
    refine rc_callV (pc := 38) hC rfl ho (rw_X3_judgeChase hH.1 x4 v1 v3) q1762 q1059 q1060 q126 q1061 rfl rd_X3_judgeChase (hH.room (Nat.le_of_ble_eq_true rfl) (Nat.le_of_ble_eq_true rfl)) rfl rfl (Nat.le_of_ble_eq_true rfl) 2 rfl h.le.2.2 h.br rfl dX1_preyOf_38 ?_ (fun E q S hT => rc_out hC hH.2.2.2.2 hT)
    intro x5 S h
    show rc_Z Y S 41 [some (rc_q v0), some (rc_i v1), some (rc_i v2), some (rc_i v3)] [rc_i x5, rc_i v2]
    refine rc_if_ne (pc := 41) (tgt := 50) hC dX1_preyOf_41 rfl h ?_ ?_
    · intro _ h
      refine rc_drop [true, true, false, true] (L' := [some (rc_q v0), some (rc_i v1), none, some (rc_i v3)]) rfl ?_
      exact rw_X1_preyOf_L50 hC hH ih v0 v1 v3 v2 S h
    intro _ h
    refine rc_iconst (pc := 44) hC (v := (1 : Int32)) dX1_preyOf_44 rfl ?_
    refine rc_iload_n (pc := 45) hC dX1_preyOf_45 rfl rfl ?_
    refine rc_ishl (pc := 46) hC dX1_preyOf_46 ?_
    refine rc_goto (pc := 47) (tgt := 51) hC dX1_preyOf_47 rfl ?_
    refine rc_drop [true, true, false, true] (L' := [some (rc_q v0), some (rc_i v1), none, some (rc_i v3)]) rfl ?_
    exact rw_X1_preyOf_L51 hC hH ih v0 v1 v3 ((1 : Int32) <<< (v3 &&& 31)) v2 S h
theorem rw_X1_preyOf {l : Launch} (hl : l.stackTraces = false) (v0 : Option Nat) (v1 : Int32) : rc_Ct l yX1_preyOf (ws_ yX1_preyOf cX1_preyOf 4 (Option.some Jvm.ClassFile.FieldType.int)) 8 149 rc_tI (rp_X1_preyOf v0 v1) [rc_q v0, rc_i v1] := by
  refine rc_Ct_H hl (plainFor_of_name rY_X1) rfl (Nat.le_of_ble_eq_true rfl) (L0 := [some (rc_q v0), some (rc_i v1), none, none]) rfl ?_
  intro Y S hC hH h
  have hC : rc_C Y cX1_preyOf RX1 (Option.some Jvm.ClassFile.FieldType.int) 4 := hC
  unfold rp_X1_preyOf at h
  refine rc_aload_n (pc := 0) hC dX1_preyOf_0 rfl rfl ?_
  refine rc_iload_n (pc := 1) hC dX1_preyOf_1 rfl rfl ?_
  obtain ⟨⟨fs, ho⟩, h⟩ := h.is
  refine rc_callV (pc := 2) hC rfl ho (rw_X1_cat hH.1 v0 v1) q1717 q1719 qs25 q116 q1720 rfl rd_X1_cat (hH.room (Nat.le_of_ble_eq_true rfl) (Nat.le_of_ble_eq_true rfl)) rfl rfl (Nat.le_of_ble_eq_true rfl) 1 rfl h.le.2.2 h.br rfl dX1_preyOf_2 ?_ (fun E q S hT => rc_out hC hH.2.2.2.2 hT)
  intro x1 S h
  show rc_Z Y S 5 [some (rc_q v0), some (rc_i v1), none, none] [rc_i x1]
  refine rc_pop (pc := 5) hC dX1_preyOf_5 rfl ?_
  refine rc_iconst (pc := 6) hC (v := (0 : Int32)) dX1_preyOf_6 rfl ?_
  refine rc_istore_n (pc := 7) hC (L' := [some (rc_q v0), some (rc_i v1), some (rc_i (0 : Int32)), none]) dX1_preyOf_7 rfl (Nat.le_of_ble_eq_true rfl) rfl rfl ?_
  refine rc_iconst (pc := 8) hC (v := (0 : Int32)) dX1_preyOf_8 rfl ?_
  refine rc_istore_n (pc := 9) hC (L' := [some (rc_q v0), some (rc_i v1), some (rc_i (0 : Int32)), some (rc_i (0 : Int32))]) dX1_preyOf_9 rfl (Nat.le_of_ble_eq_true rfl) rfl rfl ?_
  refine rc_r_fuel h ?_
  intro x2 h
  exact rw_X1_preyOf_L10 hC hH  x2 v0 v1 (0 : Int32) (0 : Int32) S h
theorem rw_X1_hasVoted {l : Launch} (hl : l.stackTraces = false) (v0 : Option Nat) (v1 : Int32) : rc_Ct l yX1_hasVoted (ws_ yX1_hasVoted cX1_hasVoted 2 (Option.some Jvm.ClassFile.FieldType.boolean)) 8 131 rc_tI (rp_X1_hasVoted v0 v1) [rc_q v0, rc_i v1] := by
  refine rc_Ct_H hl (plainFor_of_name rY_X1) rfl (Nat.le_of_ble_eq_true rfl) (L0 := [some (rc_q v0), some (rc_i v1)]) rfl ?_
  intro Y S hC hH h
  have hC : rc_C Y cX1_hasVoted RX1 (Option.some Jvm.ClassFile.FieldType.boolean) 2 := hC
  unfold rp_X1_hasVoted at h
  refine rc_aload_n (pc := 0) hC dX1_hasVoted_0 rfl rfl ?_
  refine rc_iload_n (pc := 1) hC dX1_hasVoted_1 rfl rfl ?_
  obtain ⟨⟨fs, ho⟩, h⟩ := h.is
  refine rc_callV (pc := 2) hC rfl ho (rw_X1_cat hH.1 v0 v1) q1717 q1719 qs25 q116 q1720 rfl rd_X1_cat (hH.room (Nat.le_of_ble_eq_true rfl) (Nat.le_of_ble_eq_true rfl)) rfl rfl (Nat.le_of_ble_eq_true rfl) 1 rfl h.le.2.2 h.br rfl dX1_hasVoted_2 ?_ (fun E q S hT => rc_out hC hH.2.2.2.2 hT)
  intro x1 S h
  show rc_Z Y S 5 [some (rc_q v0), some (rc_i v1)] [rc_i x1]
  refine rc_pop (pc := 5) hC dX1_hasVoted_5 rfl ?_
  refine rc_aload_n (pc := 6) hC dX1_hasVoted_6 rfl rfl ?_
  refine rc_r_getq (pc := 7) hC rF_X1_44 dX1_hasVoted_7 h ?_
  intro x2 h
  refine rc_r_getq (pc := 10) hC rF_X1_296 dX1_hasVoted_10 h ?_
  intro x3 h
  refine rc_ifnull (pc := 13) (tgt := 34) hC dX1_hasVoted_13 rfl h ?_ ?_
  · intro _ h
    refine rc_iconst (pc := 34) hC (v := (0 : Int32)) dX1_hasVoted_34 rfl ?_
    exact rc_iret hC rfl rfl dX1_hasVoted_35 h rfl
  intro _ h
  refine rc_aload_n (pc := 16) hC dX1_hasVoted_16 rfl rfl ?_
  refine rc_r_getq (pc := 17) hC rF_X1_44 dX1_hasVoted_17 h ?_
  intro x4 h
  refine rc_r_getq (pc := 20) hC rF_X1_296 dX1_hasVoted_20 h ?_
  intro x5 h
  refine rc_iload_n (pc := 23) hC dX1_hasVoted_23 rfl rfl ?_
  obtain ⟨⟨fs, ho⟩, h⟩ := h.is
  refine rc_callV (pc := 24) hC rfl ho (rw_X8_hasVote hH.1 x5 v1) q1981 q1165 q1166 q147 q1167 rfl rd_X8_hasVote (hH.room (Nat.le_of_ble_eq_true rfl) (Nat.le_of_ble_eq_true rfl)) rfl rfl (Nat.le_of_ble_eq_true rfl) 1 rfl h.le.2.2 h.br rfl dX1_hasVoted_24 ?_ (fun E q S hT => rc_out hC hH.2.2.2.2 hT)
  intro x6 S h
  show rc_Z Y S 27 [some (rc_q v0), some (rc_i v1)] [rc_i x6]
  refine rc_if_eq (pc := 27) (tgt := 34) hC dX1_hasVoted_27 rfl h ?_ ?_
  · intro _ h
    refine rc_iconst (pc := 34) hC (v := (0 : Int32)) dX1_hasVoted_34 rfl ?_
    exact rc_iret hC rfl rfl dX1_hasVoted_35 h rfl
  intro _ h
  refine rc_iconst (pc := 30) hC (v := (1 : Int32)) dX1_hasVoted_30 rfl ?_
  refine rc_goto (pc := 31) (tgt := 35) hC dX1_hasVoted_31 rfl ?_
  exact rc_iret hC rfl rfl dX1_hasVoted_35 h rfl
theorem rw_X1_choirOf {l : Launch} (hl : l.stackTraces = false) (v0 : Option Nat) (v1 : Int32) : rc_Ct l yX1_choirOf (ws_ yX1_choirOf cX1_choirOf 2 (Option.some Jvm.ClassFile.FieldType.int)) 8 131 rc_tI (rp_X1_choirOf v0 v1) [rc_q v0, rc_i v1] := by
  refine rc_Ct_H hl (plainFor_of_name rY_X1) rfl (Nat.le_of_ble_eq_true rfl) (L0 := [some (rc_q v0), some (rc_i v1)]) rfl ?_
  intro Y S hC hH h
  have hC : rc_C Y cX1_choirOf RX1 (Option.some Jvm.ClassFile.FieldType.int) 2 := hC
  unfold rp_X1_choirOf at h
  refine rc_aload_n (pc := 0) hC dX1_choirOf_0 rfl rfl ?_
  refine rc_r_getq (pc := 1) hC rF_X1_44 dX1_choirOf_1 h ?_
  intro x1 h
  refine rc_aload_n (pc := 4) hC dX1_choirOf_4 rfl rfl ?_
  refine rc_iload_n (pc := 5) hC dX1_choirOf_5 rfl rfl ?_
  obtain ⟨⟨fs, ho⟩, h⟩ := h.is
  refine rc_callV (pc := 6) hC rfl ho (rw_X1_cat hH.1 v0 v1) q1717 q1719 qs25 q116 q1720 rfl rd_X1_cat (hH.room (Nat.le_of_ble_eq_true rfl) (Nat.le_of_ble_eq_true rfl)) rfl rfl (Nat.le_of_ble_eq_true rfl) 1 rfl h.le.2.2 h.br rfl dX1_choirOf_6 ?_ (fun E q S hT => rc_out hC hH.2.2.2.2 hT)
  intro x2 S h
  show rc_Z Y S 9 [some (rc_q v0), some (rc_i v1)] [rc_i x2, rc_q x1]
  obtain ⟨⟨fs, ho⟩, h⟩ := h.is
  refine rc_callV (pc := 9) hC rfl ho (rw_X3_choir hH.1 x1 x2) q1989 q1149 q1150 q126 q1151 rfl rd_X3_choir (hH.room (Nat.le_of_ble_eq_true rfl) (Nat.le_of_ble_eq_true rfl)) rfl rfl (Nat.le_of_ble_eq_true rfl) 1 rfl h.le.2.2 h.br rfl dX1_choirOf_9 ?_ (fun E q S hT => rc_out hC hH.2.2.2.2 hT)
  intro x3 S h
  show rc_Z Y S 12 [some (rc_q v0), some (rc_i v1)] [rc_i x3]
  exact rc_iret hC rfl rfl dX1_choirOf_12 h rfl
theorem rw_X1_fishAfter_L24 {Y : rc_Y} (hC : rc_C Y cX1_fishAfter RX1 (Option.some Jvm.ClassFile.FieldType.int) 5) (hH : rc_H Y 8 194 yX1_fishAfter.name) : ∀ (n : Nat) (v1 : Int32) (v2 : Int32) (v3 : Option Nat) (v4 : Int32) (S : rc_S), rc_Go Y rc_tI (rp_X1_fishAfter_L24  n v1 v2 v3 v4) S → rc_Z Y S 24 [none, some (rc_i v1), some (rc_i v2), some (rc_q v3), some (rc_i v4)] [] := by
  intro n
  induction n with
  | zero => intro v1 v2 v3 v4 S h; exact h.fail.elim
  | succ n ih =>
    intro v1 v2 v3 v4 S h
    rw [rp_X1_fishAfter_L24] at h
    refine rc_iload (pc := 24) hC dX1_fishAfter_24 rfl ?_
    refine rc_iload_n (pc := 26) hC dX1_fishAfter_26 rfl rfl ?_
    refine rc_icmp_ge (pc := 27) (tgt := 40) hC dX1_fishAfter_27 rfl h ?_ ?_
    · intro _ h
      refine rc_aload_n (pc := 40) hC dX1_fishAfter_40 rfl rfl ?_
      refine rc_r_getq (pc := 41) hC rF_X1_72 dX1_fishAfter_41 h ?_
      intro x1 h
      refine rc_iload_n (pc := 44) hC dX1_fishAfter_44 rfl rfl ?_
      obtain ⟨⟨fs, ho⟩, h⟩ := h.is
      refine rc_callF (x0 := rc_xget) (y := yJ7_get) (pc := 45) hC rfl ho (rw_J7_get hH.1 x1 v1) q1574 q941 q943 q128 q945 (List.mem_of_getElem? (i := 2) rfl) ⟨by decide, by decide, rd_J7_get.2.2⟩ (hH.room (Nat.le_of_ble_eq_true rfl) (Nat.le_of_ble_eq_true rfl)) rfl rfl (Nat.le_of_ble_eq_true rfl) 1 rfl h.le.2.2 h.br rfl dX1_fishAfter_45 ?_ (fun E q S hT => rc_out hC hH.2.2.2.2 hT)
      intro x2 S h
      show rc_Z Y S 50 [none, some (rc_i v1), some (rc_i v2), some (rc_q v3), some (rc_i v4)] [rc_q x2]
      refine rc_r_cast (pc := 50) hC rK_X1_165 dX1_fishAfter_50 h ?_
      intro h
      refine rc_r_geti (pc := 53) hC rF_X1_270 dX1_fishAfter_53 h ?_
      intro x3 h
      exact rc_iret hC rfl rfl dX1_fishAfter_56 h rfl
    intro _ h
    refine rc_aload_n (pc := 30) hC dX1_fishAfter_30 rfl rfl ?_
    obtain ⟨⟨fs, ho⟩, h⟩ := h.is
    refine rc_callV (pc := 31) hC rfl ho (rw_X3_passNight hH.1 v3) q1997 q1137 q1138 q126 q1139 rfl rd_X3_passNight (hH.room (Nat.le_of_ble_eq_true rfl) (Nat.le_of_ble_eq_true rfl)) rfl rfl (Nat.le_of_ble_eq_true rfl) 0 rfl h.le.2.2 h.br rfl dX1_fishAfter_31 ?_ (fun E q S hT => rc_out hC hH.2.2.2.2 hT)
    intro _ S h
    show rc_Z Y S 34 [none, some (rc_i v1), some (rc_i v2), some (rc_q v3), some (rc_i v4)] []
    refine rc_iinc (pc := 34) hC (v := (v4 + (1 : Int32))) (L' := [none, some (rc_i v1), some (rc_i v2), some (rc_q v3), some (rc_i (v4 + (1 : Int32)))]) dX1_fishAfter_34 rfl rfl rfl rfl ?_
    refine rc_goto (pc := 37) (tgt := 24) hC dX1_fishAfter_37 rfl ?_
    exact ih v1 v2 v3 (v4 + (1 : Int32)) S h
theorem rw_X1_fishAfter {l : Launch} (hl : l.stackTraces = false) (v0 : Option Nat) (v1 : Int32) (v2 : Int32) : rc_Ct l yX1_fishAfter (ws_ yX1_fishAfter cX1_fishAfter 5 (Option.some Jvm.ClassFile.FieldType.int)) 8 194 rc_tI (rp_X1_fishAfter v0 v1 v2) [rc_q v0, rc_i v1, rc_i v2] := by
  refine rc_Ct_H hl (plainFor_of_name rY_X1) rfl (Nat.le_of_ble_eq_true rfl) (L0 := [some (rc_q v0), some (rc_i v1), some (rc_i v2), none, none]) rfl ?_
  intro Y S hC hH h
  have hC : rc_C Y cX1_fishAfter RX1 (Option.some Jvm.ClassFile.FieldType.int) 5 := hC
  unfold rp_X1_fishAfter at h
  refine rc_aload_n (pc := 0) hC dX1_fishAfter_0 rfl rfl ?_
  refine rc_iload_n (pc := 1) hC dX1_fishAfter_1 rfl rfl ?_
  obtain ⟨⟨fs, ho⟩, h⟩ := h.is
  refine rc_callV (pc := 2) hC rfl ho (rw_X1_cat hH.1 v0 v1) q1717 q1719 qs25 q116 q1720 rfl rd_X1_cat (hH.room (Nat.le_of_ble_eq_true rfl) (Nat.le_of_ble_eq_true rfl)) rfl rfl (Nat.le_of_ble_eq_true rfl) 1 rfl h.le.2.2 h.br rfl dX1_fishAfter_2 ?_ (fun E q S hT => rc_out hC hH.2.2.2.2 hT)
  intro x1 S h
  show rc_Z Y S 5 [some (rc_q v0), some (rc_i v1), some (rc_i v2), none, none] [rc_i x1]
  refine rc_pop (pc := 5) hC dX1_fishAfter_5 rfl ?_
  refine rc_iload_n (pc := 6) hC dX1_fishAfter_6 rfl rfl ?_
  refine rc_iconst (pc := 7) hC (v := (0 : Int32)) dX1_fishAfter_7 rfl ?_
  refine rc_bipush (pc := 8) hC (v := (30 : Int32)) dX1_fishAfter_8 rfl ?_
  refine rc_callS (pc := 10) hC (rw_X1_checkRange hH.1 v2 (0 : Int32) (30 : Int32)) q1636 q1637 q116 q1638 rd_X1_checkRange (hH.room (Nat.le_of_ble_eq_true rfl) (Nat.le_of_ble_eq_true rfl)) rfl rfl (Nat.le_of_ble_eq_true rfl) 3 rfl h.le.2.2 h.br rfl dX1_fishAfter_10 ?_ (fun E q S hT => rc_out hC hH.2.2.2.2 hT)
  intro _ S h
  show rc_Z Y S 13 [some (rc_q v0), some (rc_i v1), some (rc_i v2), none, none] []
  refine rc_aload_n (pc := 13) hC dX1_fishAfter_13 rfl rfl ?_
  refine rc_r_getq (pc := 14) hC rF_X1_44 dX1_fishAfter_14 h ?_
  intro x2 h
  obtain ⟨⟨fs, ho⟩, h⟩ := h.is
  refine rc_callV (pc := 17) hC rfl ho (rw_X3_copy hH.1 x2) q1398 q1399 q1400 q126 q1401 rfl rd_X3_copy (hH.room (Nat.le_of_ble_eq_true rfl) (Nat.le_of_ble_eq_true rfl)) rfl rfl (Nat.le_of_ble_eq_true rfl) 0 rfl h.le.2.2 h.br rfl dX1_fishAfter_17 ?_ (fun E q S hT => rc_out hC hH.2.2.2.2 hT)
  intro x3 S h
  show rc_Z Y S 20 [some (rc_q v0), some (rc_i v1), some (rc_i v2), none, none] [rc_q x3]
  refine rc_astore_n (pc := 20) hC (L' := [some (rc_q v0), some (rc_i v1), some (rc_i v2), some (rc_q x3), none]) dX1_fishAfter_20 rfl (Nat.le_of_ble_eq_true rfl) rfl rfl ?_
  refine rc_iconst (pc := 21) hC (v := (0 : Int32)) dX1_fishAfter_21 rfl ?_
  refine rc_istore (pc := 22) hC (L' := [some (rc_q v0), some (rc_i v1), some (rc_i v2), some (rc_q x3), some (rc_i (0 : Int32))]) dX1_fishAfter_22 (Nat.le_of_ble_eq_true rfl) rfl rfl ?_
  refine rc_drop [false, true, true, true, true] (L' := [none, some (rc_i v1), some (rc_i v2), some (rc_q x3), some (rc_i (0 : Int32))]) rfl ?_
  refine rc_r_fuel h ?_
  intro x4 h
  exact rw_X1_fishAfter_L24 hC hH  x4 v1 v2 x3 (0 : Int32) S h
