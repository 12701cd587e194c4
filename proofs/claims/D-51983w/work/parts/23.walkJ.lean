set_option maxRecDepth 100000
/-! WALKS (printed by gen.py) -/
theorem rw_J0_init {l : Launch} (hl : l.stackTraces = false) (v0 : Option Nat) : rc_Ct l yJ0_init (ws_ yJ0_init cJ0_init 1 (Option.none : Option Jvm.ClassFile.FieldType)) 1 20 rc_tU (rp_J0_init v0) [rc_q v0] := by
  refine rc_Ct_H hl (plainFor_of_name rY_J0) rfl (Nat.le_of_ble_eq_true rfl) (L0 := [some (rc_q v0)]) rfl ?_
  intro Y S hC hH h
  have hC : rc_C Y cJ0_init RJ0 (Option.none : Option Jvm.ClassFile.FieldType) 1 := hC
  unfold rp_J0_init at h
  refine rc_aload_n (pc := 0) hC dJ0_init_0 rfl rfl ?_
  refine rc_objInit (pc := 1) hC q172 q162 q163 rfl dJ0_init_1 (hH.frm (Nat.le_of_ble_eq_true rfl)) (hH.lom (Nat.le_of_ble_eq_true rfl)) (Nat.zero_le _) h ?_
  intro h
  exact rc_vret hC rfl dJ0_init_4 h rfl
theorem rw_J1_init {l : Launch} (hl : l.stackTraces = false) (v0 : Option Nat) : rc_Ct l yJ1_init (ws_ yJ1_init cJ1_init 1 (Option.none : Option Jvm.ClassFile.FieldType)) 2 40 rc_tU (rp_J1_init v0) [rc_q v0] := by
  refine rc_Ct_H hl (plainFor_of_name rY_J1) rfl (Nat.le_of_ble_eq_true rfl) (L0 := [some (rc_q v0)]) rfl ?_
  intro Y S hC hH h
  have hC : rc_C Y cJ1_init RJ1 (Option.none : Option Jvm.ClassFile.FieldType) 1 := hC
  unfold rp_J1_init at h
  refine rc_aload_n (pc := 0) hC dJ1_init_0 rfl rfl ?_
  obtain ⟨⟨b9, ho⟩, h⟩ := h.nn
  refine rc_callI (pc := 1) hC ho (rw_J0_init hH.1 v0) q169 q170 q117 q171 rfl rfl rd_J0_init (hH.room (Nat.le_of_ble_eq_true rfl) (Nat.le_of_ble_eq_true rfl)) rfl rfl (Nat.le_of_ble_eq_true rfl) 0 rfl h.le.2.2 h.br rfl dJ1_init_1 ?_ (fun E q S hT => rc_out hC hH.2.2.2.2 hT)
  intro _ S h
  show rc_Z Y S 4 [some (rc_q v0)] []
  refine rc_aload_n (pc := 4) hC dJ1_init_4 rfl rfl ?_
  refine rc_bipush (pc := 5) hC (v := (17 : Int32)) dJ1_init_5 rfl ?_
  refine rc_r_newq (pc := 7) hC q173 dJ1_init_7 h ?_
  intro x1 S h
  refine rc_r_put (pc := 10) hC rP_J1_3 (nofun) dJ1_init_10 h ?_
  intro S h
  exact rc_vret hC rfl dJ1_init_13 h rfl
theorem rw_J5_newBytesLength {l : Launch} (hl : l.stackTraces = false) (v0 : Int32) : rc_Ct l yJ5_newBytesLength (ws_ yJ5_newBytesLength cJ5_newBytesLength 1 (Option.some Jvm.ClassFile.FieldType.int)) 0 0 rc_tI (rp_J5_newBytesLength v0) [rc_i v0] := by
  refine rc_Ct_H hl (plainFor_of_name rY_J5) rfl (Nat.le_of_ble_eq_true rfl) (L0 := [some (rc_i v0)]) rfl ?_
  intro Y S hC hH h
  have hC : rc_C Y cJ5_newBytesLength RJ5 (Option.some Jvm.ClassFile.FieldType.int) 1 := hC
  unfold rp_J5_newBytesLength at h
  refine rc_iload_n (pc := 0) hC dJ5_newBytesLength_0 rfl rfl ?_
  refine rc_if_ge (pc := 1) (tgt := 12) hC dJ5_newBytesLength_1 rfl h ?_ ?_
  · intro _ h
    refine rc_iload_n (pc := 12) hC dJ5_newBytesLength_12 rfl rfl ?_
    refine rc_ldc (pc := 13) hC (v := (1073741823 : Int32)) q202 dJ5_newBytesLength_13 ?_
    refine rc_icmp_lt (pc := 15) (tgt := 55) hC dJ5_newBytesLength_15 rfl h ?_ ?_
    · intro _ h
      refine rc_iload_n (pc := 55) hC dJ5_newBytesLength_55 rfl rfl ?_
      refine rc_iconst (pc := 56) hC (v := (1 : Int32)) dJ5_newBytesLength_56 rfl ?_
      refine rc_ishl (pc := 57) hC dJ5_newBytesLength_57 ?_
      exact rc_iret hC rfl rfl dJ5_newBytesLength_58 h rfl
    intro _ h
    exact h.fail.elim
  intro _ h
  exact h.fail.elim
theorem rw_J5_newBytesFor {l : Launch} (hl : l.stackTraces = false) (v0 : Int32) : rc_Ct l yJ5_newBytesFor (ws_ yJ5_newBytesFor cJ5_newBytesFor 1 (Option.some (Jvm.ClassFile.FieldType.array Jvm.ClassFile.FieldType.byte))) 1 20 rc_tQ (rp_J5_newBytesFor v0) [rc_i v0] := by
  refine rc_Ct_H hl (plainFor_of_name rY_J5) rfl (Nat.le_of_ble_eq_true rfl) (L0 := [some (rc_i v0)]) rfl ?_
  intro Y S hC hH h
  have hC : rc_C Y cJ5_newBytesFor RJ5 (Option.some (Jvm.ClassFile.FieldType.array Jvm.ClassFile.FieldType.byte)) 1 := hC
  unfold rp_J5_newBytesFor at h
  refine rc_iload_n (pc := 0) hC dJ5_newBytesFor_0 rfl rfl ?_
  refine rc_callS (pc := 1) hC (rw_J5_newBytesLength hH.1 v0) q199 q200 q122 q201 rd_J5_newBytesLength (hH.room (Nat.le_of_ble_eq_true rfl) (Nat.le_of_ble_eq_true rfl)) rfl rfl (Nat.le_of_ble_eq_true rfl) 1 rfl h.le.2.2 h.br rfl dJ5_newBytesFor_1 ?_ (fun E q S hT => rc_out hC hH.2.2.2.2 hT)
  intro x1 S h
  show rc_Z Y S 4 [some (rc_i v0)] [rc_i x1]
  refine rc_r_newa (pc := 4) hC (t := 2) (atype := .byte) (by decide) rfl q217 dJ5_newBytesFor_4 h ?_
  intro x2 S h
  exact rc_aret hC rfl (by first | exact Or.inl ⟨_, rfl⟩ | exact Or.inr ⟨_, rfl⟩) dJ5_newBytesFor_6 h rfl
theorem rw_J2_init {l : Launch} (hl : l.stackTraces = false) (v0 : Option Nat) (v1 : Int32) : rc_Ct l yJ2_init (ws_ yJ2_init cJ2_init 2 (Option.none : Option Jvm.ClassFile.FieldType)) 2 40 rc_tU (rp_J2_init v0 v1) [rc_q v0, rc_i v1] := by
  refine rc_Ct_H hl (plainFor_of_name rY_J2) rfl (Nat.le_of_ble_eq_true rfl) (L0 := [some (rc_q v0), some (rc_i v1)]) rfl ?_
  intro Y S hC hH h
  have hC : rc_C Y cJ2_init RJ2 (Option.none : Option Jvm.ClassFile.FieldType) 2 := hC
  unfold rp_J2_init at h
  refine rc_aload_n (pc := 0) hC dJ2_init_0 rfl rfl ?_
  refine rc_objInit (pc := 1) hC q193 q162 q163 rfl dJ2_init_1 (hH.frm (Nat.le_of_ble_eq_true rfl)) (hH.lom (Nat.le_of_ble_eq_true rfl)) (Nat.zero_le _) h ?_
  intro h
  refine rc_r_stati (pc := 4) hC rS_J2_18 dJ2_init_4 h ?_
  intro x1 h
  refine rc_if_eq (pc := 7) (tgt := 25) hC dJ2_init_7 rfl h ?_ ?_
  · intro _ h
    refine rc_aload_n (pc := 25) hC dJ2_init_25 rfl rfl ?_
    refine rc_iload_n (pc := 26) hC dJ2_init_26 rfl rfl ?_
    refine rc_callS (pc := 27) hC (rw_J5_newBytesFor hH.1 v1) q196 q197 q122 q198 rd_J5_newBytesFor (hH.room (Nat.le_of_ble_eq_true rfl) (Nat.le_of_ble_eq_true rfl)) rfl rfl (Nat.le_of_ble_eq_true rfl) 1 rfl h.le.2.2 h.br rfl dJ2_init_27 ?_ (fun E q S hT => rc_out hC hH.2.2.2.2 hT)
    intro x2 S h
    show rc_Z Y S 30 [some (rc_q v0), some (rc_i v1)] [rc_q x2, rc_q v0]
    refine rc_r_put (pc := 30) hC rP_J2_15 (nofun) dJ2_init_30 h ?_
    intro S h
    refine rc_aload_n (pc := 33) hC dJ2_init_33 rfl rfl ?_
    refine rc_iconst (pc := 34) hC (v := (1 : Int32)) dJ2_init_34 rfl ?_
    refine rc_r_put (pc := 35) hC rP_J2_22 (nofun) dJ2_init_35 h ?_
    intro S h
    exact rc_vret hC rfl dJ2_init_38 h rfl
  intro _ h
  refine rc_aload_n (pc := 10) hC dJ2_init_10 rfl rfl ?_
  refine rc_iload_n (pc := 11) hC dJ2_init_11 rfl rfl ?_
  refine rc_r_newa (pc := 12) hC (t := 2) (atype := .byte) (by decide) rfl q217 dJ2_init_12 h ?_
  intro x3 S h
  refine rc_r_put (pc := 14) hC rP_J2_15 (nofun) dJ2_init_14 h ?_
  intro S h
  refine rc_aload_n (pc := 17) hC dJ2_init_17 rfl rfl ?_
  refine rc_iconst (pc := 18) hC (v := (0 : Int32)) dJ2_init_18 rfl ?_
  refine rc_r_put (pc := 19) hC rP_J2_22 (nofun) dJ2_init_19 h ?_
  intro S h
  refine rc_goto (pc := 22) (tgt := 38) hC dJ2_init_22 rfl ?_
  exact rc_vret hC rfl dJ2_init_38 h rfl
theorem rw_J3_init {l : Launch} (hl : l.stackTraces = false) (v0 : Option Nat) : rc_Ct l yJ3_init (ws_ yJ3_init cJ3_init 1 (Option.none : Option Jvm.ClassFile.FieldType)) 3 61 rc_tU (rp_J3_init v0) [rc_q v0] := by
  refine rc_Ct_H hl (plainFor_of_name rY_J3) rfl (Nat.le_of_ble_eq_true rfl) (L0 := [some (rc_q v0)]) rfl ?_
  intro Y S hC hH h
  have hC : rc_C Y cJ3_init RJ3 (Option.none : Option Jvm.ClassFile.FieldType) 1 := hC
  unfold rp_J3_init at h
  refine rc_aload_n (pc := 0) hC dJ3_init_0 rfl rfl ?_
  refine rc_bipush (pc := 1) hC (v := (16 : Int32)) dJ3_init_1 rfl ?_
  obtain ⟨⟨b9, ho⟩, h⟩ := h.nn
  refine rc_callI (pc := 3) hC ho (rw_J2_init hH.1 v0 (16 : Int32)) q190 q191 q119 q192 rfl rfl rd_J2_init (hH.room (Nat.le_of_ble_eq_true rfl) (Nat.le_of_ble_eq_true rfl)) rfl rfl (Nat.le_of_ble_eq_true rfl) 1 rfl h.le.2.2 h.br rfl dJ3_init_3 ?_ (fun E q S hT => rc_out hC hH.2.2.2.2 hT)
  intro _ S h
  show rc_Z Y S 6 [some (rc_q v0)] []
  exact rc_vret hC rfl dJ3_init_6 h rfl
theorem rw_J6_init {l : Launch} (hl : l.stackTraces = false) (v0 : Option Nat) : rc_Ct l yJ6_init (ws_ yJ6_init cJ6_init 1 (Option.none : Option Jvm.ClassFile.FieldType)) 2 40 rc_tU (rp_J6_init v0) [rc_q v0] := by
  refine rc_Ct_H hl (plainFor_of_name rY_J6) rfl (Nat.le_of_ble_eq_true rfl) (L0 := [some (rc_q v0)]) rfl ?_
  intro Y S hC hH h
  have hC : rc_C Y cJ6_init RJ6 (Option.none : Option Jvm.ClassFile.FieldType) 1 := hC
  unfold rp_J6_init at h
  refine rc_aload_n (pc := 0) hC dJ6_init_0 rfl rfl ?_
  obtain ⟨⟨b9, ho⟩, h⟩ := h.nn
  refine rc_callI (pc := 1) hC ho (rw_J0_init hH.1 v0) q243 q170 q117 q171 rfl rfl rd_J0_init (hH.room (Nat.le_of_ble_eq_true rfl) (Nat.le_of_ble_eq_true rfl)) rfl rfl (Nat.le_of_ble_eq_true rfl) 0 rfl h.le.2.2 h.br rfl dJ6_init_1 ?_ (fun E q S hT => rc_out hC hH.2.2.2.2 hT)
  intro _ S h
  show rc_Z Y S 4 [some (rc_q v0)] []
  refine rc_aload_n (pc := 4) hC dJ6_init_4 rfl rfl ?_
  refine rc_iconst (pc := 5) hC (v := (0 : Int32)) dJ6_init_5 rfl ?_
  refine rc_r_put (pc := 6) hC rP_J6_7 (nofun) dJ6_init_6 h ?_
  intro S h
  exact rc_vret hC rfl dJ6_init_9 h rfl
theorem rw_J7_init {l : Launch} (hl : l.stackTraces = false) (v0 : Option Nat) : rc_Ct l yJ7_init (ws_ yJ7_init cJ7_init 1 (Option.none : Option Jvm.ClassFile.FieldType)) 3 60 rc_tU (rp_J7_init v0) [rc_q v0] := by
  refine rc_Ct_H hl (plainFor_of_name rY_J7) rfl (Nat.le_of_ble_eq_true rfl) (L0 := [some (rc_q v0)]) rfl ?_
  intro Y S hC hH h
  have hC : rc_C Y cJ7_init RJ7 (Option.none : Option Jvm.ClassFile.FieldType) 1 := hC
  unfold rp_J7_init at h
  refine rc_aload_n (pc := 0) hC dJ7_init_0 rfl rfl ?_
  obtain ⟨⟨b9, ho⟩, h⟩ := h.nn
  refine rc_callI (pc := 1) hC ho (rw_J6_init hH.1 v0) q240 q241 q127 q242 rfl rfl rd_J6_init (hH.room (Nat.le_of_ble_eq_true rfl) (Nat.le_of_ble_eq_true rfl)) rfl rfl (Nat.le_of_ble_eq_true rfl) 0 rfl h.le.2.2 h.br rfl dJ7_init_1 ?_ (fun E q S hT => rc_out hC hH.2.2.2.2 hT)
  intro _ S h
  show rc_Z Y S 4 [some (rc_q v0)] []
  refine rc_aload_n (pc := 4) hC dJ7_init_4 rfl rfl ?_
  refine rc_r_stat (pc := 5) hC rS_J7_39 dJ7_init_5 h ?_
  intro x1 h
  refine rc_r_put (pc := 8) hC rP_J7_9 (nofun) dJ7_init_8 h ?_
  intro S h
  exact rc_vret hC rfl dJ7_init_11 h rfl
theorem rw_J4_coder {l : Launch} (hl : l.stackTraces = false) (v0 : Option Nat) : rc_Ct l yJ4_coder (ws_ yJ4_coder cJ4_coder 1 (Option.some Jvm.ClassFile.FieldType.byte)) 0 0 rc_tI (rp_J4_coder v0) [rc_q v0] := by
  refine rc_Ct_H hl (plainFor_of_name rY_J4) rfl (Nat.le_of_ble_eq_true rfl) (L0 := [some (rc_q v0)]) rfl ?_
  intro Y S hC hH h
  have hC : rc_C Y cJ4_coder RJ4 (Option.some Jvm.ClassFile.FieldType.byte) 1 := hC
  unfold rp_J4_coder at h
  refine rc_r_stati (pc := 0) hC rS_J4_38 dJ4_coder_0 h ?_
  intro x1 h
  refine rc_if_eq (pc := 3) (tgt := 13) hC dJ4_coder_3 rfl h ?_ ?_
  · intro _ h
    refine rc_iconst (pc := 13) hC (v := (1 : Int32)) dJ4_coder_13 rfl ?_
    exact rc_iret hC rfl rfl dJ4_coder_14 h rfl
  intro _ h
  refine rc_aload_n (pc := 6) hC dJ4_coder_6 rfl rfl ?_
  refine rc_r_geti (pc := 7) hC rF_J4_15 dJ4_coder_7 h ?_
  intro x2 h
  refine rc_goto (pc := 10) (tgt := 14) hC dJ4_coder_10 rfl ?_
  obtain ⟨hn, h⟩ := h.nar
  exact rc_iret hC rfl hn dJ4_coder_14 h rfl
theorem rw_J4_length {l : Launch} (hl : l.stackTraces = false) (v0 : Option Nat) : rc_Ct l yJ4_length (ws_ yJ4_length cJ4_length 1 (Option.some Jvm.ClassFile.FieldType.int)) 1 20 rc_tI (rp_J4_length v0) [rc_q v0] := by
  refine rc_Ct_H hl (plainFor_of_name rY_J4) rfl (Nat.le_of_ble_eq_true rfl) (L0 := [some (rc_q v0)]) rfl ?_
  intro Y S hC hH h
  have hC : rc_C Y cJ4_length RJ4 (Option.some Jvm.ClassFile.FieldType.int) 1 := hC
  unfold rp_J4_length at h
  refine rc_aload_n (pc := 0) hC dJ4_length_0 rfl rfl ?_
  refine rc_r_getq (pc := 1) hC rF_J4_9 dJ4_length_1 h ?_
  intro x1 h
  refine rc_r_alen (pc := 4) hC dJ4_length_4 h ?_
  intro x2 h
  refine rc_aload_n (pc := 5) hC dJ4_length_5 rfl rfl ?_
  obtain ⟨⟨fs, ho⟩, h⟩ := h.is
  refine rc_callV (pc := 6) hC rfl ho (rw_J4_coder hH.1 v0) q310 q311 q312 q121 q313 rfl rd_J4_coder (hH.room (Nat.le_of_ble_eq_true rfl) (Nat.le_of_ble_eq_true rfl)) rfl rfl (Nat.le_of_ble_eq_true rfl) 0 rfl h.le.2.2 h.br rfl dJ4_length_6 ?_ (fun E q S hT => rc_out hC hH.2.2.2.2 hT)
  intro x3 S h
  show rc_Z Y S 9 [some (rc_q v0)] [rc_i x3, rc_i x2]
  refine rc_ishr (pc := 9) hC dJ4_length_9 ?_
  exact rc_iret hC rfl rfl dJ4_length_10 h rfl
theorem rw_J4_isLatin1 {l : Launch} (hl : l.stackTraces = false) (v0 : Option Nat) : rc_Ct l yJ4_isLatin1 (ws_ yJ4_isLatin1 cJ4_isLatin1 1 (Option.some Jvm.ClassFile.FieldType.boolean)) 0 0 rc_tI (rp_J4_isLatin1 v0) [rc_q v0] := by
  refine rc_Ct_H hl (plainFor_of_name rY_J4) rfl (Nat.le_of_ble_eq_true rfl) (L0 := [some (rc_q v0)]) rfl ?_
  intro Y S hC hH h
  have hC : rc_C Y cJ4_isLatin1 RJ4 (Option.some Jvm.ClassFile.FieldType.boolean) 1 := hC
  unfold rp_J4_isLatin1 at h
  refine rc_r_stati (pc := 0) hC rS_J4_38 dJ4_isLatin1_0 h ?_
  intro x1 h
  refine rc_if_eq (pc := 3) (tgt := 17) hC dJ4_isLatin1_3 rfl h ?_ ?_
  · intro _ h
    refine rc_iconst (pc := 17) hC (v := (0 : Int32)) dJ4_isLatin1_17 rfl ?_
    exact rc_iret hC rfl rfl dJ4_isLatin1_18 h rfl
  intro _ h
  refine rc_aload_n (pc := 6) hC dJ4_isLatin1_6 rfl rfl ?_
  refine rc_r_geti (pc := 7) hC rF_J4_15 dJ4_isLatin1_7 h ?_
  intro x2 h
  refine rc_if_ne (pc := 10) (tgt := 17) hC dJ4_isLatin1_10 rfl h ?_ ?_
  · intro _ h
    refine rc_iconst (pc := 17) hC (v := (0 : Int32)) dJ4_isLatin1_17 rfl ?_
    exact rc_iret hC rfl rfl dJ4_isLatin1_18 h rfl
  intro _ h
  refine rc_iconst (pc := 13) hC (v := (1 : Int32)) dJ4_isLatin1_13 rfl ?_
  refine rc_goto (pc := 14) (tgt := 18) hC dJ4_isLatin1_14 rfl ?_
  exact rc_iret hC rfl rfl dJ4_isLatin1_18 h rfl
theorem rw_J9_checkIndex {l : Launch} (hl : l.stackTraces = false) (v0 : Int32) (v1 : Int32) (v2 : Option Nat) : rc_Ct l yJ9_checkIndex (ws_ yJ9_checkIndex cJ9_checkIndex 3 (Option.some Jvm.ClassFile.FieldType.int)) 0 0 rc_tI (rp_J9_checkIndex v0 v1 v2) [rc_i v0, rc_i v1, rc_q v2] := by
  refine rc_Ct_H hl (plainFor_of_name rY_J9) rfl (Nat.le_of_ble_eq_true rfl) (L0 := [some (rc_i v0), some (rc_i v1), some (rc_q v2)]) rfl ?_
  intro Y S hC hH h
  have hC : rc_C Y cJ9_checkIndex RJ9 (Option.some Jvm.ClassFile.FieldType.int) 3 := hC
  unfold rp_J9_checkIndex at h
  refine rc_iload_n (pc := 0) hC dJ9_checkIndex_0 rfl rfl ?_
  refine rc_if_lt (pc := 1) (tgt := 9) hC dJ9_checkIndex_1 rfl h ?_ ?_
  · intro _ h
    refine rc_aload_n (pc := 9) hC dJ9_checkIndex_9 rfl rfl ?_
    refine rc_iload_n (pc := 10) hC dJ9_checkIndex_10 rfl rfl ?_
    refine rc_iload_n (pc := 11) hC dJ9_checkIndex_11 rfl rfl ?_
    exact h.fail.elim
  intro _ h
  refine rc_iload_n (pc := 4) hC dJ9_checkIndex_4 rfl rfl ?_
  refine rc_iload_n (pc := 5) hC dJ9_checkIndex_5 rfl rfl ?_
  refine rc_icmp_lt (pc := 6) (tgt := 16) hC dJ9_checkIndex_6 rfl h ?_ ?_
  · intro _ h
    refine rc_iload_n (pc := 16) hC dJ9_checkIndex_16 rfl rfl ?_
    exact rc_iret hC rfl rfl dJ9_checkIndex_17 h rfl
  intro _ h
  refine rc_aload_n (pc := 9) hC dJ9_checkIndex_9 rfl rfl ?_
  refine rc_iload_n (pc := 10) hC dJ9_checkIndex_10 rfl rfl ?_
  refine rc_iload_n (pc := 11) hC dJ9_checkIndex_11 rfl rfl ?_
  exact h.fail.elim
theorem rw_J4_checkIndex {l : Launch} (hl : l.stackTraces = false) (v0 : Int32) (v1 : Int32) : rc_Ct l yJ4_checkIndex (ws_ yJ4_checkIndex cJ4_checkIndex 2 (Option.none : Option Jvm.ClassFile.FieldType)) 1 22 rc_tU (rp_J4_checkIndex v0 v1) [rc_i v0, rc_i v1] := by
  refine rc_Ct_H hl (plainFor_of_name rY_J4) rfl (Nat.le_of_ble_eq_true rfl) (L0 := [some (rc_i v0), some (rc_i v1)]) rfl ?_
  intro Y S hC hH h
  have hC : rc_C Y cJ4_checkIndex RJ4 (Option.none : Option Jvm.ClassFile.FieldType) 2 := hC
  unfold rp_J4_checkIndex at h
  refine rc_iload_n (pc := 0) hC dJ4_checkIndex_0 rfl rfl ?_
  refine rc_iload_n (pc := 1) hC dJ4_checkIndex_1 rfl rfl ?_
  refine rc_r_stat (pc := 2) hC rS_J4_1053 dJ4_checkIndex_2 h ?_
  intro x1 h
  refine rc_callS (pc := 5) hC (rw_J9_checkIndex hH.1 v0 v1 x1) q331 q332 q130 q333 rd_J9_checkIndex (hH.room (Nat.le_of_ble_eq_true rfl) (Nat.le_of_ble_eq_true rfl)) rfl rfl (Nat.le_of_ble_eq_true rfl) 3 rfl h.le.2.2 h.br rfl dJ4_checkIndex_5 ?_ (fun E q S hT => rc_out hC hH.2.2.2.2 hT)
  intro x2 S h
  show rc_Z Y S 8 [some (rc_i v0), some (rc_i v1)] [rc_i x2]
  refine rc_pop (pc := 8) hC dJ4_checkIndex_8 rfl ?_
  exact rc_vret hC rfl dJ4_checkIndex_9 h rfl
theorem rw_J8_charAt {l : Launch} (hl : l.stackTraces = false) (v0 : Option Nat) (v1 : Int32) : rc_Ct l yJ8_charAt (ws_ yJ8_charAt cJ8_charAt 2 (Option.some Jvm.ClassFile.FieldType.char)) 2 43 rc_tI (rp_J8_charAt v0 v1) [rc_q v0, rc_i v1] := by
  refine rc_Ct_H hl (plainFor_of_name rY_J8) rfl (Nat.le_of_ble_eq_true rfl) (L0 := [some (rc_q v0), some (rc_i v1)]) rfl ?_
  intro Y S hC hH h
  have hC : rc_C Y cJ8_charAt RJ8 (Option.some Jvm.ClassFile.FieldType.char) 2 := hC
  unfold rp_J8_charAt at h
  refine rc_iload_n (pc := 0) hC dJ8_charAt_0 rfl rfl ?_
  refine rc_aload_n (pc := 1) hC dJ8_charAt_1 rfl rfl ?_
  refine rc_r_alen (pc := 2) hC dJ8_charAt_2 h ?_
  intro x1 h
  refine rc_callS (pc := 3) hC (rw_J4_checkIndex hH.1 v1 x1) q326 q327 q121 q328 rd_J4_checkIndex (hH.room (Nat.le_of_ble_eq_true rfl) (Nat.le_of_ble_eq_true rfl)) rfl rfl (Nat.le_of_ble_eq_true rfl) 2 rfl h.le.2.2 h.br rfl dJ8_charAt_3 ?_ (fun E q S hT => rc_out hC hH.2.2.2.2 hT)
  intro _ S h
  show rc_Z Y S 6 [some (rc_q v0), some (rc_i v1)] []
  refine rc_aload_n (pc := 6) hC dJ8_charAt_6 rfl rfl ?_
  refine rc_iload_n (pc := 7) hC dJ8_charAt_7 rfl rfl ?_
  refine rc_r_bald (pc := 8) hC dJ8_charAt_8 h ?_
  intro x2 h
  refine rc_sipush (pc := 9) hC (v := (255 : Int32)) dJ8_charAt_9 rfl ?_
  refine rc_iand (pc := 12) hC dJ8_charAt_12 ?_
  refine rc_i2c (pc := 13) hC dJ8_charAt_13 ?_
  obtain ⟨hn, h⟩ := h.nar
  exact rc_iret hC rfl hn dJ8_charAt_14 h rfl
theorem rw_J5_length {l : Launch} (hl : l.stackTraces = false) (v0 : Option Nat) : rc_Ct l yJ5_length (ws_ yJ5_length cJ5_length 1 (Option.some Jvm.ClassFile.FieldType.int)) 0 0 rc_tI (rp_J5_length v0) [rc_q v0] := by
  refine rc_Ct_H hl (plainFor_of_name rY_J5) rfl (Nat.le_of_ble_eq_true rfl) (L0 := [some (rc_q v0)]) rfl ?_
  intro Y S hC hH h
  have hC : rc_C Y cJ5_length RJ5 (Option.some Jvm.ClassFile.FieldType.int) 1 := hC
  unfold rp_J5_length at h
  refine rc_aload_n (pc := 0) hC dJ5_length_0 rfl rfl ?_
  refine rc_r_alen (pc := 1) hC dJ5_length_1 h ?_
  intro x1 h
  refine rc_iconst (pc := 2) hC (v := (1 : Int32)) dJ5_length_2 rfl ?_
  refine rc_ishr (pc := 3) hC dJ5_length_3 ?_
  exact rc_iret hC rfl rfl dJ5_length_4 h rfl
theorem rw_J5_checkIndex {l : Launch} (hl : l.stackTraces = false) (v0 : Int32) (v1 : Option Nat) : rc_Ct l yJ5_checkIndex (ws_ yJ5_checkIndex cJ5_checkIndex 2 (Option.none : Option Jvm.ClassFile.FieldType)) 2 43 rc_tU (rp_J5_checkIndex v0 v1) [rc_i v0, rc_q v1] := by
  refine rc_Ct_H hl (plainFor_of_name rY_J5) rfl (Nat.le_of_ble_eq_true rfl) (L0 := [some (rc_i v0), some (rc_q v1)]) rfl ?_
  intro Y S hC hH h
  have hC : rc_C Y cJ5_checkIndex RJ5 (Option.none : Option Jvm.ClassFile.FieldType) 2 := hC
  unfold rp_J5_checkIndex at h
  refine rc_iload_n (pc := 0) hC dJ5_checkIndex_0 rfl rfl ?_
  refine rc_aload_n (pc := 1) hC dJ5_checkIndex_1 rfl rfl ?_
  refine rc_callS (pc := 2) hC (rw_J5_length hH.1 v1) q340 q341 q122 q342 rd_J5_length (hH.room (Nat.le_of_ble_eq_true rfl) (Nat.le_of_ble_eq_true rfl)) rfl rfl (Nat.le_of_ble_eq_true rfl) 1 rfl h.le.2.2 h.br rfl dJ5_checkIndex_2 ?_ (fun E q S hT => rc_out hC hH.2.2.2.2 hT)
  intro x1 S h
  show rc_Z Y S 5 [some (rc_i v0), some (rc_q v1)] [rc_i x1, rc_i v0]
  refine rc_callS (pc := 5) hC (rw_J4_checkIndex hH.1 v0 x1) q343 q327 q121 q328 rd_J4_checkIndex (hH.room (Nat.le_of_ble_eq_true rfl) (Nat.le_of_ble_eq_true rfl)) rfl rfl (Nat.le_of_ble_eq_true rfl) 2 rfl h.le.2.2 h.br rfl dJ5_checkIndex_5 ?_ (fun E q S hT => rc_out hC hH.2.2.2.2 hT)
  intro _ S h
  show rc_Z Y S 8 [some (rc_i v0), some (rc_q v1)] []
  exact rc_vret hC rfl dJ5_checkIndex_8 h rfl
theorem rw_J5_getChar {l : Launch} (hl : l.stackTraces = false) (v0 : Option Nat) (v1 : Int32) : rc_Ct l yJ5_getChar (ws_ yJ5_getChar cJ5_getChar 2 (Option.some Jvm.ClassFile.FieldType.char)) 0 0 rc_tI (rp_J5_getChar v0 v1) [rc_q v0, rc_i v1] := by
  refine rc_Ct_H hl (plainFor_of_name rY_J5) rfl (Nat.le_of_ble_eq_true rfl) (L0 := [some (rc_q v0), some (rc_i v1)]) rfl ?_
  intro Y S hC hH h
  have hC : rc_C Y cJ5_getChar RJ5 (Option.some Jvm.ClassFile.FieldType.char) 2 := hC
  unfold rp_J5_getChar at h
  exact h.fail.elim
theorem rw_J5_charAt {l : Launch} (hl : l.stackTraces = false) (v0 : Option Nat) (v1 : Int32) : rc_Ct l yJ5_charAt (ws_ yJ5_charAt cJ5_charAt 2 (Option.some Jvm.ClassFile.FieldType.char)) 3 64 rc_tI (rp_J5_charAt v0 v1) [rc_q v0, rc_i v1] := by
  refine rc_Ct_H hl (plainFor_of_name rY_J5) rfl (Nat.le_of_ble_eq_true rfl) (L0 := [some (rc_q v0), some (rc_i v1)]) rfl ?_
  intro Y S hC hH h
  have hC : rc_C Y cJ5_charAt RJ5 (Option.some Jvm.ClassFile.FieldType.char) 2 := hC
  unfold rp_J5_charAt at h
  refine rc_iload_n (pc := 0) hC dJ5_charAt_0 rfl rfl ?_
  refine rc_aload_n (pc := 1) hC dJ5_charAt_1 rfl rfl ?_
  refine rc_callS (pc := 2) hC (rw_J5_checkIndex hH.1 v1 v0) q337 q338 q122 q339 rd_J5_checkIndex (hH.room (Nat.le_of_ble_eq_true rfl) (Nat.le_of_ble_eq_true rfl)) rfl rfl (Nat.le_of_ble_eq_true rfl) 2 rfl h.le.2.2 h.br rfl dJ5_charAt_2 ?_ (fun E q S hT => rc_out hC hH.2.2.2.2 hT)
  intro _ S h
  show rc_Z Y S 5 [some (rc_q v0), some (rc_i v1)] []
  refine rc_aload_n (pc := 5) hC dJ5_charAt_5 rfl rfl ?_
  refine rc_iload_n (pc := 6) hC dJ5_charAt_6 rfl rfl ?_
  refine rc_callS (pc := 7) hC (rw_J5_getChar hH.1 v0 v1) q344 q345 q122 q346 rd_J5_getChar (hH.room (Nat.le_of_ble_eq_true rfl) (Nat.le_of_ble_eq_true rfl)) rfl rfl (Nat.le_of_ble_eq_true rfl) 2 rfl h.le.2.2 h.br rfl dJ5_charAt_7 ?_ (fun E q S hT => rc_out hC hH.2.2.2.2 hT)
  intro x1 S h
  show rc_Z Y S 10 [some (rc_q v0), some (rc_i v1)] [rc_i x1]
  obtain ⟨hn, h⟩ := h.nar
  exact rc_iret hC rfl hn dJ5_charAt_10 h rfl
theorem rw_J4_charAt {l : Launch} (hl : l.stackTraces = false) (v0 : Option Nat) (v1 : Int32) : rc_Ct l yJ4_charAt (ws_ yJ4_charAt cJ4_charAt 2 (Option.some Jvm.ClassFile.FieldType.char)) 4 85 rc_tI (rp_J4_charAt v0 v1) [rc_q v0, rc_i v1] := by
  refine rc_Ct_H hl (plainFor_of_name rY_J4) rfl (Nat.le_of_ble_eq_true rfl) (L0 := [some (rc_q v0), some (rc_i v1)]) rfl ?_
  intro Y S hC hH h
  have hC : rc_C Y cJ4_charAt RJ4 (Option.some Jvm.ClassFile.FieldType.char) 2 := hC
  unfold rp_J4_charAt at h
  refine rc_aload_n (pc := 0) hC dJ4_charAt_0 rfl rfl ?_
  obtain ⟨⟨fs, ho⟩, h⟩ := h.is
  refine rc_callV (pc := 1) hC rfl ho (rw_J4_isLatin1 hH.1 v0) q319 q320 q321 q121 q322 rfl rd_J4_isLatin1 (hH.room (Nat.le_of_ble_eq_true rfl) (Nat.le_of_ble_eq_true rfl)) rfl rfl (Nat.le_of_ble_eq_true rfl) 0 rfl h.le.2.2 h.br rfl dJ4_charAt_1 ?_ (fun E q S hT => rc_out hC hH.2.2.2.2 hT)
  intro x1 S h
  show rc_Z Y S 4 [some (rc_q v0), some (rc_i v1)] [rc_i x1]
  refine rc_if_eq (pc := 4) (tgt := 16) hC dJ4_charAt_4 rfl h ?_ ?_
  · intro _ h
    refine rc_aload_n (pc := 16) hC dJ4_charAt_16 rfl rfl ?_
    refine rc_r_getq (pc := 17) hC rF_J4_9 dJ4_charAt_17 h ?_
    intro x2 h
    refine rc_iload_n (pc := 20) hC dJ4_charAt_20 rfl rfl ?_
    refine rc_callS (pc := 21) hC (rw_J5_charAt hH.1 x2 v1) q334 q335 q122 q336 rd_J5_charAt (hH.room (Nat.le_of_ble_eq_true rfl) (Nat.le_of_ble_eq_true rfl)) rfl rfl (Nat.le_of_ble_eq_true rfl) 2 rfl h.le.2.2 h.br rfl dJ4_charAt_21 ?_ (fun E q S hT => rc_out hC hH.2.2.2.2 hT)
    intro x3 S h
    show rc_Z Y S 24 [some (rc_q v0), some (rc_i v1)] [rc_i x3]
    obtain ⟨hn, h⟩ := h.nar
    exact rc_iret hC rfl hn dJ4_charAt_24 h rfl
  intro _ h
  refine rc_aload_n (pc := 7) hC dJ4_charAt_7 rfl rfl ?_
  refine rc_r_getq (pc := 8) hC rF_J4_9 dJ4_charAt_8 h ?_
  intro x4 h
  refine rc_iload_n (pc := 11) hC dJ4_charAt_11 rfl rfl ?_
  refine rc_callS (pc := 12) hC (rw_J8_charAt hH.1 x4 v1) q323 q324 q129 q325 rd_J8_charAt (hH.room (Nat.le_of_ble_eq_true rfl) (Nat.le_of_ble_eq_true rfl)) rfl rfl (Nat.le_of_ble_eq_true rfl) 2 rfl h.le.2.2 h.br rfl dJ4_charAt_12 ?_ (fun E q S hT => rc_out hC hH.2.2.2.2 hT)
  intro x5 S h
  show rc_Z Y S 15 [some (rc_q v0), some (rc_i v1)] [rc_i x5]
  obtain ⟨hn, h⟩ := h.nar
  exact rc_iret hC rfl hn dJ4_charAt_15 h rfl
theorem rw_J9_checkFromToIndex {l : Launch} (hl : l.stackTraces = false) (v0 : Int32) (v1 : Int32) (v2 : Int32) (v3 : Option Nat) : rc_Ct l yJ9_checkFromToIndex (ws_ yJ9_checkFromToIndex cJ9_checkFromToIndex 4 (Option.some Jvm.ClassFile.FieldType.int)) 0 0 rc_tI (rp_J9_checkFromToIndex v0 v1 v2 v3) [rc_i v0, rc_i v1, rc_i v2, rc_q v3] := by
  refine rc_Ct_H hl (plainFor_of_name rY_J9) rfl (Nat.le_of_ble_eq_true rfl) (L0 := [some (rc_i v0), some (rc_i v1), some (rc_i v2), some (rc_q v3)]) rfl ?_
  intro Y S hC hH h
  have hC : rc_C Y cJ9_checkFromToIndex RJ9 (Option.some Jvm.ClassFile.FieldType.int) 4 := hC
  unfold rp_J9_checkFromToIndex at h
  refine rc_iload_n (pc := 0) hC dJ9_checkFromToIndex_0 rfl rfl ?_
  refine rc_if_lt (pc := 1) (tgt := 14) hC dJ9_checkFromToIndex_1 rfl h ?_ ?_
  · intro _ h
    refine rc_aload_n (pc := 14) hC dJ9_checkFromToIndex_14 rfl rfl ?_
    refine rc_iload_n (pc := 15) hC dJ9_checkFromToIndex_15 rfl rfl ?_
    refine rc_iload_n (pc := 16) hC dJ9_checkFromToIndex_16 rfl rfl ?_
    refine rc_iload_n (pc := 17) hC dJ9_checkFromToIndex_17 rfl rfl ?_
    exact h.fail.elim
  intro _ h
  refine rc_iload_n (pc := 4) hC dJ9_checkFromToIndex_4 rfl rfl ?_
  refine rc_iload_n (pc := 5) hC dJ9_checkFromToIndex_5 rfl rfl ?_
  refine rc_icmp_gt (pc := 6) (tgt := 14) hC dJ9_checkFromToIndex_6 rfl h ?_ ?_
  · intro _ h
    refine rc_aload_n (pc := 14) hC dJ9_checkFromToIndex_14 rfl rfl ?_
    refine rc_iload_n (pc := 15) hC dJ9_checkFromToIndex_15 rfl rfl ?_
    refine rc_iload_n (pc := 16) hC dJ9_checkFromToIndex_16 rfl rfl ?_
    refine rc_iload_n (pc := 17) hC dJ9_checkFromToIndex_17 rfl rfl ?_
    exact h.fail.elim
  intro _ h
  refine rc_iload_n (pc := 9) hC dJ9_checkFromToIndex_9 rfl rfl ?_
  refine rc_iload_n (pc := 10) hC dJ9_checkFromToIndex_10 rfl rfl ?_
  refine rc_icmp_le (pc := 11) (tgt := 22) hC dJ9_checkFromToIndex_11 rfl h ?_ ?_
  · intro _ h
    refine rc_iload_n (pc := 22) hC dJ9_checkFromToIndex_22 rfl rfl ?_
    exact rc_iret hC rfl rfl dJ9_checkFromToIndex_23 h rfl
  intro _ h
  refine rc_aload_n (pc := 14) hC dJ9_checkFromToIndex_14 rfl rfl ?_
  refine rc_iload_n (pc := 15) hC dJ9_checkFromToIndex_15 rfl rfl ?_
  refine rc_iload_n (pc := 16) hC dJ9_checkFromToIndex_16 rfl rfl ?_
  refine rc_iload_n (pc := 17) hC dJ9_checkFromToIndex_17 rfl rfl ?_
  exact h.fail.elim
theorem rw_J4_checkBoundsBeginEnd {l : Launch} (hl : l.stackTraces = false) (v0 : Int32) (v1 : Int32) (v2 : Int32) : rc_Ct l yJ4_checkBoundsBeginEnd (ws_ yJ4_checkBoundsBeginEnd cJ4_checkBoundsBeginEnd 3 (Option.none : Option Jvm.ClassFile.FieldType)) 1 23 rc_tU (rp_J4_checkBoundsBeginEnd v0 v1 v2) [rc_i v0, rc_i v1, rc_i v2] := by
  refine rc_Ct_H hl (plainFor_of_name rY_J4) rfl (Nat.le_of_ble_eq_true rfl) (L0 := [some (rc_i v0), some (rc_i v1), some (rc_i v2)]) rfl ?_
  intro Y S hC hH h
  have hC : rc_C Y cJ4_checkBoundsBeginEnd RJ4 (Option.none : Option Jvm.ClassFile.FieldType) 3 := hC
  unfold rp_J4_checkBoundsBeginEnd at h
  refine rc_iload_n (pc := 0) hC dJ4_checkBoundsBeginEnd_0 rfl rfl ?_
  refine rc_iload_n (pc := 1) hC dJ4_checkBoundsBeginEnd_1 rfl rfl ?_
  refine rc_iload_n (pc := 2) hC dJ4_checkBoundsBeginEnd_2 rfl rfl ?_
  refine rc_r_stat (pc := 3) hC rS_J4_1053 dJ4_checkBoundsBeginEnd_3 h ?_
  intro x1 h
  refine rc_callS (pc := 6) hC (rw_J9_checkFromToIndex hH.1 v0 v1 v2 x1) q361 q362 q130 q363 rd_J9_checkFromToIndex (hH.room (Nat.le_of_ble_eq_true rfl) (Nat.le_of_ble_eq_true rfl)) rfl rfl (Nat.le_of_ble_eq_true rfl) 4 rfl h.le.2.2 h.br rfl dJ4_checkBoundsBeginEnd_6 ?_ (fun E q S hT => rc_out hC hH.2.2.2.2 hT)
  intro x2 S h
  show rc_Z Y S 9 [some (rc_i v0), some (rc_i v1), some (rc_i v2)] [rc_i x2]
  refine rc_pop (pc := 9) hC dJ4_checkBoundsBeginEnd_9 rfl ?_
  exact rc_vret hC rfl dJ4_checkBoundsBeginEnd_10 h rfl
theorem rw_J10_checkLength {l : Launch} (hl : l.stackTraces = false) (v0 : Int32) (v1 : Int32) : rc_Ct l yJ10_checkLength (ws_ yJ10_checkLength cJ10_checkLength 2 (Option.none : Option Jvm.ClassFile.FieldType)) 0 0 rc_tU (rp_J10_checkLength v0 v1) [rc_i v0, rc_i v1] := by
  refine rc_Ct_H hl (plainFor_of_name rY_J10) rfl (Nat.le_of_ble_eq_true rfl) (L0 := [some (rc_i v0), some (rc_i v1)]) rfl ?_
  intro Y S hC hH h
  have hC : rc_C Y cJ10_checkLength RJ10 (Option.none : Option Jvm.ClassFile.FieldType) 2 := hC
  unfold rp_J10_checkLength at h
  refine rc_iload_n (pc := 0) hC dJ10_checkLength_0 rfl rfl ?_
  refine rc_iload_n (pc := 1) hC dJ10_checkLength_1 rfl rfl ?_
  refine rc_icmp_ge (pc := 2) (tgt := 37) hC dJ10_checkLength_2 rfl h ?_ ?_
  · intro _ h
    exact rc_vret hC rfl dJ10_checkLength_37 h rfl
  intro _ h
  exact h.fail.elim
theorem rw_J17_min {l : Launch} (hl : l.stackTraces = false) (v0 : Int32) (v1 : Int32) : rc_Ct l yJ17_min (ws_ yJ17_min cJ17_min 2 (Option.some Jvm.ClassFile.FieldType.int)) 0 0 rc_tI (rp_J17_min v0 v1) [rc_i v0, rc_i v1] := by
  refine rc_Ct_H hl rY_J17_min rfl (Nat.le_of_ble_eq_true rfl) (L0 := [some (rc_i v0), some (rc_i v1)]) rfl ?_
  intro Y S hC hH h
  have hC : rc_C Y cJ17_min RJ17 (Option.some Jvm.ClassFile.FieldType.int) 2 := hC
  unfold rp_J17_min at h
  refine rc_iload_n (pc := 0) hC dJ17_min_0 rfl rfl ?_
  refine rc_iload_n (pc := 1) hC dJ17_min_1 rfl rfl ?_
  refine rc_icmp_gt (pc := 2) (tgt := 9) hC dJ17_min_2 rfl h ?_ ?_
  · intro _ h
    refine rc_iload_n (pc := 9) hC dJ17_min_9 rfl rfl ?_
    exact rc_iret hC rfl rfl dJ17_min_10 h rfl
  intro _ h
  refine rc_iload_n (pc := 5) hC dJ17_min_5 rfl rfl ?_
  refine rc_goto (pc := 6) (tgt := 10) hC dJ17_min_6 rfl ?_
  exact rc_iret hC rfl rfl dJ17_min_10 h rfl
theorem rw_J10_copyOfRangeByte {l : Launch} (hl : l.stackTraces = false) (v0 : Option Nat) (v1 : Int32) (v2 : Int32) : rc_Ct l yJ10_copyOfRangeByte (ws_ yJ10_copyOfRangeByte cJ10_copyOfRangeByte 5 (Option.some (Jvm.ClassFile.FieldType.array Jvm.ClassFile.FieldType.byte))) 1 40 rc_tQ (rp_J10_copyOfRangeByte v0 v1 v2) [rc_q v0, rc_i v1, rc_i v2] := by
  refine rc_Ct_H hl (plainFor_of_name rY_J10) rfl (Nat.le_of_ble_eq_true rfl) (L0 := [some (rc_q v0), some (rc_i v1), some (rc_i v2), none, none]) rfl ?_
  intro Y S hC hH h
  have hC : rc_C Y cJ10_copyOfRangeByte RJ10 (Option.some (Jvm.ClassFile.FieldType.array Jvm.ClassFile.FieldType.byte)) 5 := hC
  unfold rp_J10_copyOfRangeByte at h
  refine rc_iload_n (pc := 0) hC dJ10_copyOfRangeByte_0 rfl rfl ?_
  refine rc_iload_n (pc := 1) hC dJ10_copyOfRangeByte_1 rfl rfl ?_
  refine rc_callS (pc := 2) hC (rw_J10_checkLength hH.1 v1 v2) q376 q377 q131 q378 rd_J10_checkLength (hH.room (Nat.le_of_ble_eq_true rfl) (Nat.le_of_ble_eq_true rfl)) rfl rfl (Nat.le_of_ble_eq_true rfl) 2 rfl h.le.2.2 h.br rfl dJ10_copyOfRangeByte_2 ?_ (fun E q S hT => rc_out hC hH.2.2.2.2 hT)
  intro _ S h
  show rc_Z Y S 5 [some (rc_q v0), some (rc_i v1), some (rc_i v2), none, none] []
  refine rc_iload_n (pc := 5) hC dJ10_copyOfRangeByte_5 rfl rfl ?_
  refine rc_iload_n (pc := 6) hC dJ10_copyOfRangeByte_6 rfl rfl ?_
  refine rc_isub (pc := 7) hC dJ10_copyOfRangeByte_7 ?_
  refine rc_istore_n (pc := 8) hC (L' := [some (rc_q v0), some (rc_i v1), some (rc_i v2), some (rc_i (v2 - v1)), none]) dJ10_copyOfRangeByte_8 rfl (Nat.le_of_ble_eq_true rfl) rfl rfl ?_
  refine rc_iload_n (pc := 9) hC dJ10_copyOfRangeByte_9 rfl rfl ?_
  refine rc_r_newa (pc := 10) hC (t := 2) (atype := .byte) (by decide) rfl q217 dJ10_copyOfRangeByte_10 h ?_
  intro x1 S h
  refine rc_astore (pc := 12) hC (L' := [some (rc_q v0), some (rc_i v1), some (rc_i v2), some (rc_i (v2 - v1)), some (rc_q x1)]) dJ10_copyOfRangeByte_12 (Nat.le_of_ble_eq_true rfl) rfl rfl ?_
  refine rc_aload_n (pc := 14) hC dJ10_copyOfRangeByte_14 rfl rfl ?_
  refine rc_iload_n (pc := 15) hC dJ10_copyOfRangeByte_15 rfl rfl ?_
  refine rc_aload (pc := 16) hC dJ10_copyOfRangeByte_16 rfl ?_
  refine rc_iconst (pc := 18) hC (v := (0 : Int32)) dJ10_copyOfRangeByte_18 rfl ?_
  refine rc_aload_n (pc := 19) hC dJ10_copyOfRangeByte_19 rfl rfl ?_
  refine rc_r_alen (pc := 20) hC dJ10_copyOfRangeByte_20 h ?_
  intro x2 h
  refine rc_iload_n (pc := 21) hC dJ10_copyOfRangeByte_21 rfl rfl ?_
  refine rc_isub (pc := 22) hC dJ10_copyOfRangeByte_22 ?_
  refine rc_iload_n (pc := 23) hC dJ10_copyOfRangeByte_23 rfl rfl ?_
  refine rc_callS (pc := 24) hC (rw_J17_min hH.1 (x2 - v1) (v2 - v1)) q465 q466 q139 q467 rd_J17_min (hH.room (Nat.le_of_ble_eq_true rfl) (Nat.le_of_ble_eq_true rfl)) rfl rfl (Nat.le_of_ble_eq_true rfl) 2 rfl h.le.2.2 h.br rfl dJ10_copyOfRangeByte_24 ?_ (fun E q S hT => rc_out hC hH.2.2.2.2 hT)
  intro x3 S h
  show rc_Z Y S 27 [some (rc_q v0), some (rc_i v1), some (rc_i v2), some (rc_i (v2 - v1)), some (rc_q x1)] [rc_i x3, rc_i (0 : Int32), rc_q x1, rc_i v1, rc_q v0]
  refine rc_r_acopy (pc := 27) (t := 2) hC q468 q470 q469 q140 (hH.frm (Nat.le_of_ble_eq_true rfl)) (hH.lom (Nat.le_of_ble_eq_true rfl)) rfl rfl (Nat.le_of_ble_eq_true rfl) dJ10_copyOfRangeByte_27 h ?_
  intro S h
  refine rc_aload (pc := 30) hC dJ10_copyOfRangeByte_30 rfl ?_
  exact rc_aret hC rfl (by first | exact Or.inl ⟨_, rfl⟩ | exact Or.inr ⟨_, rfl⟩) dJ10_copyOfRangeByte_32 h rfl
theorem rw_J10_copyOfRange_L10 {Y : rc_Y} (hC : rc_C Y cJ10_copyOfRange RJ10 (Option.some (Jvm.ClassFile.FieldType.array Jvm.ClassFile.FieldType.byte)) 3) (hH : rc_H Y 2 64 yJ10_copyOfRange.name) (v0 : Option Nat) (v1 : Int32) (v2 : Int32) (S : rc_S) (h : rc_Go Y rc_tQ (rp_J10_copyOfRange_L10  v0 v1 v2) S) : rc_Z Y S 10 [some (rc_q v0), some (rc_i v1), some (rc_i v2)] [] := by
  unfold rp_J10_copyOfRange_L10 at h
  refine rc_aload_n (pc := 10) hC dJ10_copyOfRange_10 rfl rfl ?_
  refine rc_iload_n (pc := 11) hC dJ10_copyOfRange_11 rfl rfl ?_
  refine rc_iload_n (pc := 12) hC dJ10_copyOfRange_12 rfl rfl ?_
  refine rc_callS (pc := 13) hC (rw_J10_copyOfRangeByte hH.1 v0 v1 v2) q373 q374 q131 q375 rd_J10_copyOfRangeByte (hH.room (Nat.le_of_ble_eq_true rfl) (Nat.le_of_ble_eq_true rfl)) rfl rfl (Nat.le_of_ble_eq_true rfl) 3 rfl h.le.2.2 h.br rfl dJ10_copyOfRange_13 ?_ (fun E q S hT => rc_out hC hH.2.2.2.2 hT)
  intro x1 S h
  show rc_Z Y S 16 [some (rc_q v0), some (rc_i v1), some (rc_i v2)] [rc_q x1]
  exact rc_aret hC rfl (by first | exact Or.inl ⟨_, rfl⟩ | exact Or.inr ⟨_, rfl⟩) dJ10_copyOfRange_16 h rfl
theorem rw_J10_copyOfRange {l : Launch} (hl : l.stackTraces = false) (v0 : Option Nat) (v1 : Int32) (v2 : Int32) : rc_Ct l yJ10_copyOfRange (ws_ yJ10_copyOfRange cJ10_copyOfRange 3 (Option.some (Jvm.ClassFile.FieldType.array Jvm.ClassFile.FieldType.byte))) 2 64 rc_tQ (rp_J10_copyOfRange v0 v1 v2) [rc_q v0, rc_i v1, rc_i v2] := by
  refine rc_Ct_H hl (plainFor_of_name rY_J10) rfl (Nat.le_of_ble_eq_true rfl) (L0 := [some (rc_q v0), some (rc_i v1), some (rc_i v2)]) rfl ?_
  intro Y S hC hH h
  have hC : rc_C Y cJ10_copyOfRange RJ10 (Option.some (Jvm.ClassFile.FieldType.array Jvm.ClassFile.FieldType.byte)) 3 := hC
  unfold rp_J10_copyOfRange at h
  refine rc_iload_n (pc := 0) hC dJ10_copyOfRange_0 rfl rfl ?_
  refine rc_if_ne (pc := 1) (tgt := 10) hC dJ10_copyOfRange_1 rfl h ?_ ?_
  · intro _ h
    exact rw_J10_copyOfRange_L10 hC hH  v0 v1 v2 S h
  intro _ h
  refine rc_iload_n (pc := 4) hC dJ10_copyOfRange_4 rfl rfl ?_
  refine rc_aload_n (pc := 5) hC dJ10_copyOfRange_5 rfl rfl ?_
  refine rc_r_alen (pc := 6) hC dJ10_copyOfRange_6 h ?_
  intro x1 h
  refine rc_icmp_eq (pc := 7) (tgt := 17) hC dJ10_copyOfRange_7 rfl h ?_ ?_
  · intro _ h
    refine rc_aload_n (pc := 17) hC dJ10_copyOfRange_17 rfl rfl ?_
    refine rc_r_clone (pc := 18) hC q458 (hH.frm (Nat.le_of_ble_eq_true rfl)) (hH.lom (Nat.le_of_ble_eq_true rfl)) rfl rfl (Nat.le_of_ble_eq_true rfl) dJ10_copyOfRange_18 h ?_
    intro x2 S h
    refine rc_r_casta (pc := 21) hC (t := 2) q464 dJ10_copyOfRange_21 h ?_
    intro h
    exact rc_aret hC rfl (by first | exact Or.inl ⟨_, rfl⟩ | exact Or.inr ⟨_, rfl⟩) dJ10_copyOfRange_24 h rfl
  intro _ h
  exact rw_J10_copyOfRange_L10 hC hH  v0 v1 v2 S h
theorem rw_J4_init_3 {l : Launch} (hl : l.stackTraces = false) (v0 : Option Nat) (v1 : Option Nat) (v2 : Int32) : rc_Ct l yJ4_init_3 (ws_ yJ4_init_3 cJ4_init_3 3 (Option.none : Option Jvm.ClassFile.FieldType)) 1 20 rc_tU (rp_J4_init_3 v0 v1 v2) [rc_q v0, rc_q v1, rc_i v2] := by
  refine rc_Ct_H hl (plainFor_of_name rY_J4) rfl (Nat.le_of_ble_eq_true rfl) (L0 := [some (rc_q v0), some (rc_q v1), some (rc_i v2)]) rfl ?_
  intro Y S hC hH h
  have hC : rc_C Y cJ4_init_3 RJ4 (Option.none : Option Jvm.ClassFile.FieldType) 3 := hC
  unfold rp_J4_init_3 at h
  refine rc_aload_n (pc := 0) hC dJ4_init_3_0 rfl rfl ?_
  refine rc_objInit (pc := 1) hC q559 q162 q163 rfl dJ4_init_3_1 (hH.frm (Nat.le_of_ble_eq_true rfl)) (hH.lom (Nat.le_of_ble_eq_true rfl)) (Nat.zero_le _) h ?_
  intro h
  refine rc_aload_n (pc := 4) hC dJ4_init_3_4 rfl rfl ?_
  refine rc_aload_n (pc := 5) hC dJ4_init_3_5 rfl rfl ?_
  refine rc_r_put (pc := 6) hC rP_J4_9 (fun _ => hH.2.1) dJ4_init_3_6 h ?_
  intro S h
  refine rc_aload_n (pc := 9) hC dJ4_init_3_9 rfl rfl ?_
  refine rc_iload_n (pc := 10) hC dJ4_init_3_10 rfl rfl ?_
  refine rc_r_put (pc := 11) hC rP_J4_15 (fun _ => hH.2.1) dJ4_init_3_11 h ?_
  intro S h
  exact rc_vret hC rfl dJ4_init_3_14 h rfl
theorem rw_J8_newString {l : Launch} (hl : l.stackTraces = false) (v0 : Option Nat) (v1 : Int32) (v2 : Int32) : rc_Ct l yJ8_newString (ws_ yJ8_newString cJ8_newString 3 (Option.some (Jvm.ClassFile.FieldType.object "java/lang/String"))) 3 86 rc_tQ (rp_J8_newString v0 v1 v2) [rc_q v0, rc_i v1, rc_i v2] := by
  refine rc_Ct_H hl (plainFor_of_name rY_J8) rfl (Nat.le_of_ble_eq_true rfl) (L0 := [some (rc_q v0), some (rc_i v1), some (rc_i v2)]) rfl ?_
  intro Y S hC hH h
  have hC : rc_C Y cJ8_newString RJ8 (Option.some (Jvm.ClassFile.FieldType.object "java/lang/String")) 3 := hC
  unfold rp_J8_newString at h
  refine rc_iload_n (pc := 0) hC dJ8_newString_0 rfl rfl ?_
  refine rc_if_ne (pc := 1) (tgt := 7) hC dJ8_newString_1 rfl h ?_ ?_
  · intro _ h
    refine rc_r_new (pc := 7) hC rN_J8_1 dJ8_newString_7 h ?_
    intro x1 S h
    refine rc_dup (pc := 10) hC dJ8_newString_10 rfl ?_
    refine rc_aload_n (pc := 11) hC dJ8_newString_11 rfl rfl ?_
    refine rc_iload_n (pc := 12) hC dJ8_newString_12 rfl rfl ?_
    refine rc_iload_n (pc := 13) hC dJ8_newString_13 rfl rfl ?_
    refine rc_iload_n (pc := 14) hC dJ8_newString_14 rfl rfl ?_
    refine rc_iadd (pc := 15) hC dJ8_newString_15 ?_
    refine rc_callS (pc := 16) hC (rw_J10_copyOfRange hH.1 v0 v1 (v1 + v2)) q370 q371 q131 q372 rd_J10_copyOfRange (hH.room (Nat.le_of_ble_eq_true rfl) (Nat.le_of_ble_eq_true rfl)) rfl rfl (Nat.le_of_ble_eq_true rfl) 3 rfl h.le.2.2 h.br rfl dJ8_newString_16 ?_ (fun E q S hT => rc_out hC hH.2.2.2.2 hT)
    intro x2 S h
    show rc_Z Y S 19 [some (rc_q v0), some (rc_i v1), some (rc_i v2)] [rc_q x2, rc_q x1, rc_q x1]
    refine rc_iconst (pc := 19) hC (v := (0 : Int32)) dJ8_newString_19 rfl ?_
    obtain ⟨⟨b9, ho⟩, h⟩ := h.nn
    refine rc_callI (pc := 20) hC ho (rw_J4_init_3 hH.1 x1 x2 (0 : Int32)) q623 q624 q121 q625 rfl rfl rd_J4_init_3 (hH.room (Nat.le_of_ble_eq_true rfl) (Nat.le_of_ble_eq_true rfl)) rfl rfl (Nat.le_of_ble_eq_true rfl) 2 rfl h.le.2.2 h.br rfl dJ8_newString_20 ?_ (fun E q S hT => rc_out hC hH.2.2.2.2 hT)
    intro _ S h
    show rc_Z Y S 23 [some (rc_q v0), some (rc_i v1), some (rc_i v2)] [rc_q x1]
    exact rc_aret hC rfl (by first | exact Or.inl ⟨_, rfl⟩ | exact Or.inr ⟨_, rfl⟩) dJ8_newString_23 h rfl
  intro _ h
  refine rc_r_text (pc := 4) hC (i := 3) rfl dJ8_newString_4 h ?_
  intro x3 h
  exact rc_aret hC rfl (by first | exact Or.inl ⟨_, rfl⟩ | exact Or.inr ⟨_, rfl⟩) dJ8_newString_6 h rfl
theorem rw_J9_checkFromIndexSize {l : Launch} (hl : l.stackTraces = false) (v0 : Int32) (v1 : Int32) (v2 : Int32) (v3 : Option Nat) : rc_Ct l yJ9_checkFromIndexSize (ws_ yJ9_checkFromIndexSize cJ9_checkFromIndexSize 4 (Option.some Jvm.ClassFile.FieldType.int)) 0 0 rc_tI (rp_J9_checkFromIndexSize v0 v1 v2 v3) [rc_i v0, rc_i v1, rc_i v2, rc_q v3] := by
  refine rc_Ct_H hl (plainFor_of_name rY_J9) rfl (Nat.le_of_ble_eq_true rfl) (L0 := [some (rc_i v0), some (rc_i v1), some (rc_i v2), some (rc_q v3)]) rfl ?_
  intro Y S hC hH h
  have hC : rc_C Y cJ9_checkFromIndexSize RJ9 (Option.some Jvm.ClassFile.FieldType.int) 4 := hC
  unfold rp_J9_checkFromIndexSize at h
  refine rc_iload_n (pc := 0) hC dJ9_checkFromIndexSize_0 rfl rfl ?_
  refine rc_iload_n (pc := 1) hC dJ9_checkFromIndexSize_1 rfl rfl ?_
  refine rc_ior (pc := 2) hC dJ9_checkFromIndexSize_2 ?_
  refine rc_iload_n (pc := 3) hC dJ9_checkFromIndexSize_3 rfl rfl ?_
  refine rc_ior (pc := 4) hC dJ9_checkFromIndexSize_4 ?_
  refine rc_if_lt (pc := 5) (tgt := 15) hC dJ9_checkFromIndexSize_5 rfl h ?_ ?_
  · intro _ h
    refine rc_aload_n (pc := 15) hC dJ9_checkFromIndexSize_15 rfl rfl ?_
    refine rc_iload_n (pc := 16) hC dJ9_checkFromIndexSize_16 rfl rfl ?_
    refine rc_iload_n (pc := 17) hC dJ9_checkFromIndexSize_17 rfl rfl ?_
    refine rc_iload_n (pc := 18) hC dJ9_checkFromIndexSize_18 rfl rfl ?_
    exact h.fail.elim
  intro _ h
  refine rc_iload_n (pc := 8) hC dJ9_checkFromIndexSize_8 rfl rfl ?_
  refine rc_iload_n (pc := 9) hC dJ9_checkFromIndexSize_9 rfl rfl ?_
  refine rc_iload_n (pc := 10) hC dJ9_checkFromIndexSize_10 rfl rfl ?_
  refine rc_isub (pc := 11) hC dJ9_checkFromIndexSize_11 ?_
  refine rc_icmp_le (pc := 12) (tgt := 23) hC dJ9_checkFromIndexSize_12 rfl h ?_ ?_
  · intro _ h
    refine rc_iload_n (pc := 23) hC dJ9_checkFromIndexSize_23 rfl rfl ?_
    exact rc_iret hC rfl rfl dJ9_checkFromIndexSize_24 h rfl
  intro _ h
  refine rc_aload_n (pc := 15) hC dJ9_checkFromIndexSize_15 rfl rfl ?_
  refine rc_iload_n (pc := 16) hC dJ9_checkFromIndexSize_16 rfl rfl ?_
  refine rc_iload_n (pc := 17) hC dJ9_checkFromIndexSize_17 rfl rfl ?_
  refine rc_iload_n (pc := 18) hC dJ9_checkFromIndexSize_18 rfl rfl ?_
  exact h.fail.elim
theorem rw_J4_checkBoundsOffCount {l : Launch} (hl : l.stackTraces = false) (v0 : Int32) (v1 : Int32) (v2 : Int32) : rc_Ct l yJ4_checkBoundsOffCount (ws_ yJ4_checkBoundsOffCount cJ4_checkBoundsOffCount 3 (Option.some Jvm.ClassFile.FieldType.int)) 1 23 rc_tI (rp_J4_checkBoundsOffCount v0 v1 v2) [rc_i v0, rc_i v1, rc_i v2] := by
  refine rc_Ct_H hl (plainFor_of_name rY_J4) rfl (Nat.le_of_ble_eq_true rfl) (L0 := [some (rc_i v0), some (rc_i v1), some (rc_i v2)]) rfl ?_
  intro Y S hC hH h
  have hC : rc_C Y cJ4_checkBoundsOffCount RJ4 (Option.some Jvm.ClassFile.FieldType.int) 3 := hC
  unfold rp_J4_checkBoundsOffCount at h
  refine rc_iload_n (pc := 0) hC dJ4_checkBoundsOffCount_0 rfl rfl ?_
  refine rc_iload_n (pc := 1) hC dJ4_checkBoundsOffCount_1 rfl rfl ?_
  refine rc_iload_n (pc := 2) hC dJ4_checkBoundsOffCount_2 rfl rfl ?_
  refine rc_r_stat (pc := 3) hC rS_J4_1053 dJ4_checkBoundsOffCount_3 h ?_
  intro x1 h
  refine rc_callS (pc := 6) hC (rw_J9_checkFromIndexSize hH.1 v0 v1 v2 x1) q539 q540 q130 q541 rd_J9_checkFromIndexSize (hH.room (Nat.le_of_ble_eq_true rfl) (Nat.le_of_ble_eq_true rfl)) rfl rfl (Nat.le_of_ble_eq_true rfl) 4 rfl h.le.2.2 h.br rfl dJ4_checkBoundsOffCount_6 ?_ (fun E q S hT => rc_out hC hH.2.2.2.2 hT)
  intro x2 S h
  show rc_Z Y S 9 [some (rc_i v0), some (rc_i v1), some (rc_i v2)] [rc_i x2]
  exact rc_iret hC rfl rfl dJ4_checkBoundsOffCount_9 h rfl
theorem rw_J5_checkBoundsOffCount {l : Launch} (hl : l.stackTraces = false) (v0 : Int32) (v1 : Int32) (v2 : Option Nat) : rc_Ct l yJ5_checkBoundsOffCount (ws_ yJ5_checkBoundsOffCount cJ5_checkBoundsOffCount 3 (Option.none : Option Jvm.ClassFile.FieldType)) 2 45 rc_tU (rp_J5_checkBoundsOffCount v0 v1 v2) [rc_i v0, rc_i v1, rc_q v2] := by
  refine rc_Ct_H hl (plainFor_of_name rY_J5) rfl (Nat.le_of_ble_eq_true rfl) (L0 := [some (rc_i v0), some (rc_i v1), some (rc_q v2)]) rfl ?_
  intro Y S hC hH h
  have hC : rc_C Y cJ5_checkBoundsOffCount RJ5 (Option.none : Option Jvm.ClassFile.FieldType) 3 := hC
  unfold rp_J5_checkBoundsOffCount at h
  refine rc_iload_n (pc := 0) hC dJ5_checkBoundsOffCount_0 rfl rfl ?_
  refine rc_iload_n (pc := 1) hC dJ5_checkBoundsOffCount_1 rfl rfl ?_
  refine rc_aload_n (pc := 2) hC dJ5_checkBoundsOffCount_2 rfl rfl ?_
  refine rc_callS (pc := 3) hC (rw_J5_length hH.1 v2) q340 q341 q122 q342 rd_J5_length (hH.room (Nat.le_of_ble_eq_true rfl) (Nat.le_of_ble_eq_true rfl)) rfl rfl (Nat.le_of_ble_eq_true rfl) 1 rfl h.le.2.2 h.br rfl dJ5_checkBoundsOffCount_3 ?_ (fun E q S hT => rc_out hC hH.2.2.2.2 hT)
  intro x1 S h
  show rc_Z Y S 6 [some (rc_i v0), some (rc_i v1), some (rc_q v2)] [rc_i x1, rc_i v1, rc_i v0]
  refine rc_callS (pc := 6) hC (rw_J4_checkBoundsOffCount hH.1 v0 v1 x1) q536 q537 q121 q538 rd_J4_checkBoundsOffCount (hH.room (Nat.le_of_ble_eq_true rfl) (Nat.le_of_ble_eq_true rfl)) rfl rfl (Nat.le_of_ble_eq_true rfl) 3 rfl h.le.2.2 h.br rfl dJ5_checkBoundsOffCount_6 ?_ (fun E q S hT => rc_out hC hH.2.2.2.2 hT)
  intro x2 S h
  show rc_Z Y S 9 [some (rc_i v0), some (rc_i v1), some (rc_q v2)] [rc_i x2]
  refine rc_pop (pc := 9) hC dJ5_checkBoundsOffCount_9 rfl ?_
  exact rc_vret hC rfl dJ5_checkBoundsOffCount_10 h rfl
theorem rw_J5_compress_2_L10 {Y : rc_Y} (hC : rc_C Y cJ5_compress_2 RJ5 (Option.some Jvm.ClassFile.FieldType.int) 7) (hH : rc_H Y 3 67 yJ5_compress_2.name) : ∀ (n : Nat) (v0 : Option Nat) (v1 : Int32) (v2 : Option Nat) (v3 : Int32) (v4 : Int32) (v5 : Int32) (S : rc_S), rc_Go Y rc_tI (rp_J5_compress_2_L10  n v0 v1 v2 v3 v4 v5) S → rc_Z Y S 10 [some (rc_q v0), some (rc_i v1), some (rc_q v2), some (rc_i v3), some (rc_i v4), some (rc_i v5), none] [] := by
  intro n
  induction n with
  | zero => intro v0 v1 v2 v3 v4 v5 S h; exact h.fail.elim
  | succ n ih =>
    intro v0 v1 v2 v3 v4 v5 S h
    rw [rp_J5_compress_2_L10] at h
    refine rc_iload (pc := 10) hC dJ5_compress_2_10 rfl ?_
    refine rc_iload (pc := 12) hC dJ5_compress_2_12 rfl ?_
    refine rc_icmp_ge (pc := 14) (tgt := 53) hC dJ5_compress_2_14 rfl h ?_ ?_
    · intro _ h
      refine rc_iload (pc := 53) hC dJ5_compress_2_53 rfl ?_
      exact rc_iret hC rfl rfl dJ5_compress_2_55 h rfl
    intro _ h
    refine rc_aload_n (pc := 17) hC dJ5_compress_2_17 rfl rfl ?_
    refine rc_iload_n (pc := 18) hC dJ5_compress_2_18 rfl rfl ?_
    refine rc_callS (pc := 19) hC (rw_J5_getChar hH.1 v0 v1) q344 q345 q122 q346 rd_J5_getChar (hH.room (Nat.le_of_ble_eq_true rfl) (Nat.le_of_ble_eq_true rfl)) rfl rfl (Nat.le_of_ble_eq_true rfl) 2 rfl h.le.2.2 h.br rfl dJ5_compress_2_19 ?_ (fun E q S hT => rc_out hC hH.2.2.2.2 hT)
    intro x1 S h
    show rc_Z Y S 22 [some (rc_q v0), some (rc_i v1), some (rc_q v2), some (rc_i v3), some (rc_i v4), some (rc_i v5), none] [rc_i x1]
    refine rc_istore (pc := 22) hC (L' := [some (rc_q v0), some (rc_i v1), some (rc_q v2), some (rc_i v3), some (rc_i v4), some (rc_i v5), some (rc_i x1)]) dJ5_compress_2_22 (Nat.le_of_ble_eq_true rfl) rfl rfl ?_
    refine rc_iload (pc := 24) hC dJ5_compress_2_24 rfl ?_
    refine rc_sipush (pc := 26) hC (v := (255 : Int32)) dJ5_compress_2_26 rfl ?_
    refine rc_icmp_le (pc := 29) (tgt := 35) hC dJ5_compress_2_29 rfl h ?_ ?_
    · intro _ h
      refine rc_aload_n (pc := 35) hC dJ5_compress_2_35 rfl rfl ?_
      refine rc_iload_n (pc := 36) hC dJ5_compress_2_36 rfl rfl ?_
      refine rc_iload (pc := 37) hC dJ5_compress_2_37 rfl ?_
      refine rc_i2b (pc := 39) hC dJ5_compress_2_39 ?_
      refine rc_r_bast (pc := 40) hC dJ5_compress_2_40 h ?_
      intro S h
      refine rc_iinc (pc := 41) hC (v := (v1 + (1 : Int32))) (L' := [some (rc_q v0), some (rc_i (v1 + (1 : Int32))), some (rc_q v2), some (rc_i v3), some (rc_i v4), some (rc_i v5), some (rc_i x1)]) dJ5_compress_2_41 rfl rfl rfl rfl ?_
      refine rc_iinc (pc := 44) hC (v := (v3 + (1 : Int32))) (L' := [some (rc_q v0), some (rc_i (v1 + (1 : Int32))), some (rc_q v2), some (rc_i (v3 + (1 : Int32))), some (rc_i v4), some (rc_i v5), some (rc_i x1)]) dJ5_compress_2_44 rfl rfl rfl rfl ?_
      refine rc_iinc (pc := 47) hC (v := (v5 + (1 : Int32))) (L' := [some (rc_q v0), some (rc_i (v1 + (1 : Int32))), some (rc_q v2), some (rc_i (v3 + (1 : Int32))), some (rc_i v4), some (rc_i (v5 + (1 : Int32))), some (rc_i x1)]) dJ5_compress_2_47 rfl rfl rfl rfl ?_
      refine rc_goto (pc := 50) (tgt := 10) hC dJ5_compress_2_50 rfl ?_
      refine rc_drop [true, true, true, true, true, true, false] (L' := [some (rc_q v0), some (rc_i (v1 + (1 : Int32))), some (rc_q v2), some (rc_i (v3 + (1 : Int32))), some (rc_i v4), some (rc_i (v5 + (1 : Int32))), none]) rfl ?_
      exact ih v0 (v1 + (1 : Int32)) v2 (v3 + (1 : Int32)) v4 (v5 + (1 : Int32)) S h
    intro _ h
    refine rc_iload (pc := 32) hC dJ5_compress_2_32 rfl ?_
    exact rc_iret hC rfl rfl dJ5_compress_2_34 h rfl
theorem rw_J5_compress_2 {l : Launch} (hl : l.stackTraces = false) (v0 : Option Nat) (v1 : Int32) (v2 : Option Nat) (v3 : Int32) (v4 : Int32) : rc_Ct l yJ5_compress_2 (ws_ yJ5_compress_2 cJ5_compress_2 7 (Option.some Jvm.ClassFile.FieldType.int)) 3 67 rc_tI (rp_J5_compress_2 v0 v1 v2 v3 v4) [rc_q v0, rc_i v1, rc_q v2, rc_i v3, rc_i v4] := by
  refine rc_Ct_H hl (plainFor_of_name rY_J5) rfl (Nat.le_of_ble_eq_true rfl) (L0 := [some (rc_q v0), some (rc_i v1), some (rc_q v2), some (rc_i v3), some (rc_i v4), none, none]) rfl ?_
  intro Y S hC hH h
  have hC : rc_C Y cJ5_compress_2 RJ5 (Option.some Jvm.ClassFile.FieldType.int) 7 := hC
  unfold rp_J5_compress_2 at h
  refine rc_iload_n (pc := 0) hC dJ5_compress_2_0 rfl rfl ?_
  refine rc_iload (pc := 1) hC dJ5_compress_2_1 rfl ?_
  refine rc_aload_n (pc := 3) hC dJ5_compress_2_3 rfl rfl ?_
  refine rc_callS (pc := 4) hC (rw_J5_checkBoundsOffCount hH.1 v1 v4 v0) q533 q534 q122 q535 rd_J5_checkBoundsOffCount (hH.room (Nat.le_of_ble_eq_true rfl) (Nat.le_of_ble_eq_true rfl)) rfl rfl (Nat.le_of_ble_eq_true rfl) 3 rfl h.le.2.2 h.br rfl dJ5_compress_2_4 ?_ (fun E q S hT => rc_out hC hH.2.2.2.2 hT)
  intro _ S h
  show rc_Z Y S 7 [some (rc_q v0), some (rc_i v1), some (rc_q v2), some (rc_i v3), some (rc_i v4), none, none] []
  refine rc_iconst (pc := 7) hC (v := (0 : Int32)) dJ5_compress_2_7 rfl ?_
  refine rc_istore (pc := 8) hC (L' := [some (rc_q v0), some (rc_i v1), some (rc_q v2), some (rc_i v3), some (rc_i v4), some (rc_i (0 : Int32)), none]) dJ5_compress_2_8 (Nat.le_of_ble_eq_true rfl) rfl rfl ?_
  refine rc_r_fuel h ?_
  intro x1 h
  exact rw_J5_compress_2_L10 hC hH  x1 v0 v1 v2 v3 v4 (0 : Int32) S h
theorem rw_J5_compress {l : Launch} (hl : l.stackTraces = false) (v0 : Option Nat) (v1 : Int32) (v2 : Int32) : rc_Ct l yJ5_compress (ws_ yJ5_compress cJ5_compress 6 (Option.some (Jvm.ClassFile.FieldType.array Jvm.ClassFile.FieldType.byte))) 4 93 rc_tQ (rp_J5_compress v0 v1 v2) [rc_q v0, rc_i v1, rc_i v2] := by
  refine rc_Ct_H hl (plainFor_of_name rY_J5) rfl (Nat.le_of_ble_eq_true rfl) (L0 := [some (rc_q v0), some (rc_i v1), some (rc_i v2), none, none, none]) rfl ?_
  intro Y S hC hH h
  have hC : rc_C Y cJ5_compress RJ5 (Option.some (Jvm.ClassFile.FieldType.array Jvm.ClassFile.FieldType.byte)) 6 := hC
  unfold rp_J5_compress at h
  refine rc_iload_n (pc := 0) hC dJ5_compress_0 rfl rfl ?_
  refine rc_r_newa (pc := 1) hC (t := 2) (atype := .byte) (by decide) rfl q217 dJ5_compress_1 h ?_
  intro x1 S h
  refine rc_astore_n (pc := 3) hC (L' := [some (rc_q v0), some (rc_i v1), some (rc_i v2), some (rc_q x1), none, none]) dJ5_compress_3 rfl (Nat.le_of_ble_eq_true rfl) rfl rfl ?_
  refine rc_aload_n (pc := 4) hC dJ5_compress_4 rfl rfl ?_
  refine rc_iload_n (pc := 5) hC dJ5_compress_5 rfl rfl ?_
  refine rc_aload_n (pc := 6) hC dJ5_compress_6 rfl rfl ?_
  refine rc_iconst (pc := 7) hC (v := (0 : Int32)) dJ5_compress_7 rfl ?_
  refine rc_iload_n (pc := 8) hC dJ5_compress_8 rfl rfl ?_
  refine rc_callS (pc := 9) hC (rw_J5_compress_2 hH.1 v0 v1 x1 (0 : Int32) v2) q578 q579 q122 q580 rd_J5_compress_2 (hH.room (Nat.le_of_ble_eq_true rfl) (Nat.le_of_ble_eq_true rfl)) rfl rfl (Nat.le_of_ble_eq_true rfl) 5 rfl h.le.2.2 h.br rfl dJ5_compress_9 ?_ (fun E q S hT => rc_out hC hH.2.2.2.2 hT)
  intro x2 S h
  show rc_Z Y S 12 [some (rc_q v0), some (rc_i v1), some (rc_i v2), some (rc_q x1), none, none] [rc_i x2]
  refine rc_istore (pc := 12) hC (L' := [some (rc_q v0), some (rc_i v1), some (rc_i v2), some (rc_q x1), some (rc_i x2), none]) dJ5_compress_12 (Nat.le_of_ble_eq_true rfl) rfl rfl ?_
  refine rc_iload (pc := 14) hC dJ5_compress_14 rfl ?_
  refine rc_iload_n (pc := 16) hC dJ5_compress_16 rfl rfl ?_
  refine rc_icmp_eq (pc := 17) (tgt := 64) hC dJ5_compress_17 rfl h ?_ ?_
  · intro _ h
    refine rc_aload_n (pc := 64) hC dJ5_compress_64 rfl rfl ?_
    exact rc_aret hC rfl (by first | exact Or.inl ⟨_, rfl⟩ | exact Or.inr ⟨_, rfl⟩) dJ5_compress_65 h rfl
  intro _ h
  refine rc_aload_n (pc := 20) hC dJ5_compress_20 rfl rfl ?_
  refine rc_iload_n (pc := 21) hC dJ5_compress_21 rfl rfl ?_
  refine rc_iconst (pc := 22) hC (v := (1 : Int32)) dJ5_compress_22 rfl ?_
  refine rc_ishl (pc := 23) hC dJ5_compress_23 ?_
  refine rc_iload_n (pc := 24) hC dJ5_compress_24 rfl rfl ?_
  refine rc_iload_n (pc := 25) hC dJ5_compress_25 rfl rfl ?_
  refine rc_iadd (pc := 26) hC dJ5_compress_26 ?_
  refine rc_callS (pc := 27) hC (rw_J5_newBytesLength hH.1 (v1 + v2)) q199 q200 q122 q201 rd_J5_newBytesLength (hH.room (Nat.le_of_ble_eq_true rfl) (Nat.le_of_ble_eq_true rfl)) rfl rfl (Nat.le_of_ble_eq_true rfl) 1 rfl h.le.2.2 h.br rfl dJ5_compress_27 ?_ (fun E q S hT => rc_out hC hH.2.2.2.2 hT)
  intro x3 S h
  show rc_Z Y S 30 [some (rc_q v0), some (rc_i v1), some (rc_i v2), some (rc_q x1), some (rc_i x2), none] [rc_i x3, rc_i (v1 <<< ((1 : Int32) &&& 31)), rc_q v0]
  refine rc_callS (pc := 30) hC (rw_J10_copyOfRange hH.1 v0 (v1 <<< ((1 : Int32) &&& 31)) x3) q581 q371 q131 q372 rd_J10_copyOfRange (hH.room (Nat.le_of_ble_eq_true rfl) (Nat.le_of_ble_eq_true rfl)) rfl rfl (Nat.le_of_ble_eq_true rfl) 3 rfl h.le.2.2 h.br rfl dJ5_compress_30 ?_ (fun E q S hT => rc_out hC hH.2.2.2.2 hT)
  intro x4 S h
  show rc_Z Y S 33 [some (rc_q v0), some (rc_i v1), some (rc_i v2), some (rc_q x1), some (rc_i x2), none] [rc_q x4]
  refine rc_astore (pc := 33) hC (L' := [some (rc_q v0), some (rc_i v1), some (rc_i v2), some (rc_q x1), some (rc_i x2), some (rc_q x4)]) dJ5_compress_33 (Nat.le_of_ble_eq_true rfl) rfl rfl ?_
  refine rc_aload (pc := 35) hC dJ5_compress_35 rfl ?_
  refine rc_iload (pc := 37) hC dJ5_compress_37 rfl ?_
  refine rc_callS (pc := 39) hC (rw_J5_getChar hH.1 x4 x2) q344 q345 q122 q346 rd_J5_getChar (hH.room (Nat.le_of_ble_eq_true rfl) (Nat.le_of_ble_eq_true rfl)) rfl rfl (Nat.le_of_ble_eq_true rfl) 2 rfl h.le.2.2 h.br rfl dJ5_compress_39 ?_ (fun E q S hT => rc_out hC hH.2.2.2.2 hT)
  intro x5 S h
  show rc_Z Y S 42 [some (rc_q v0), some (rc_i v1), some (rc_i v2), some (rc_q x1), some (rc_i x2), some (rc_q x4)] [rc_i x5]
  refine rc_sipush (pc := 42) hC (v := (255 : Int32)) dJ5_compress_42 rfl ?_
  refine rc_icmp_gt (pc := 45) (tgt := 61) hC dJ5_compress_45 rfl h ?_ ?_
  · intro _ h
    refine rc_aload (pc := 61) hC dJ5_compress_61 rfl ?_
    exact rc_aret hC rfl (by first | exact Or.inl ⟨_, rfl⟩ | exact Or.inr ⟨_, rfl⟩) dJ5_compress_63 h rfl
  intro _ h
  refine rc_aload (pc := 48) hC dJ5_compress_48 rfl ?_
  refine rc_iconst (pc := 50) hC (v := (0 : Int32)) dJ5_compress_50 rfl ?_
  refine rc_aload_n (pc := 51) hC dJ5_compress_51 rfl rfl ?_
  refine rc_iconst (pc := 52) hC (v := (0 : Int32)) dJ5_compress_52 rfl ?_
  refine rc_iload_n (pc := 53) hC dJ5_compress_53 rfl rfl ?_
  refine rc_callS (pc := 54) hC (rw_J5_compress_2 hH.1 x4 (0 : Int32) x1 (0 : Int32) v2) q578 q579 q122 q580 rd_J5_compress_2 (hH.room (Nat.le_of_ble_eq_true rfl) (Nat.le_of_ble_eq_true rfl)) rfl rfl (Nat.le_of_ble_eq_true rfl) 5 rfl h.le.2.2 h.br rfl dJ5_compress_54 ?_ (fun E q S hT => rc_out hC hH.2.2.2.2 hT)
  intro x6 S h
  show rc_Z Y S 57 [some (rc_q v0), some (rc_i v1), some (rc_i v2), some (rc_q x1), some (rc_i x2), some (rc_q x4)] [rc_i x6]
  refine rc_iload_n (pc := 57) hC dJ5_compress_57 rfl rfl ?_
  refine rc_icmp_eq (pc := 58) (tgt := 64) hC dJ5_compress_58 rfl h ?_ ?_
  · intro _ h
    refine rc_aload_n (pc := 64) hC dJ5_compress_64 rfl rfl ?_
    exact rc_aret hC rfl (by first | exact Or.inl ⟨_, rfl⟩ | exact Or.inr ⟨_, rfl⟩) dJ5_compress_65 h rfl
  intro _ h
  refine rc_aload (pc := 61) hC dJ5_compress_61 rfl ?_
  exact rc_aret hC rfl (by first | exact Or.inl ⟨_, rfl⟩ | exact Or.inr ⟨_, rfl⟩) dJ5_compress_63 h rfl
theorem rw_J5_coderFromArrayLen {l : Launch} (hl : l.stackTraces = false) (v0 : Option Nat) (v1 : Int32) : rc_Ct l yJ5_coderFromArrayLen (ws_ yJ5_coderFromArrayLen cJ5_coderFromArrayLen 2 (Option.some Jvm.ClassFile.FieldType.byte)) 0 0 rc_tI (rp_J5_coderFromArrayLen v0 v1) [rc_q v0, rc_i v1] := by
  refine rc_Ct_H hl (plainFor_of_name rY_J5) rfl (Nat.le_of_ble_eq_true rfl) (L0 := [some (rc_q v0), some (rc_i v1)]) rfl ?_
  intro Y S hC hH h
  have hC : rc_C Y cJ5_coderFromArrayLen RJ5 (Option.some Jvm.ClassFile.FieldType.byte) 2 := hC
  unfold rp_J5_coderFromArrayLen at h
  refine rc_iload_n (pc := 0) hC dJ5_coderFromArrayLen_0 rfl rfl ?_
  refine rc_aload_n (pc := 1) hC dJ5_coderFromArrayLen_1 rfl rfl ?_
  refine rc_r_alen (pc := 2) hC dJ5_coderFromArrayLen_2 h ?_
  intro x1 h
  refine rc_isub (pc := 3) hC dJ5_coderFromArrayLen_3 ?_
  refine rc_bipush (pc := 4) hC (v := (31 : Int32)) dJ5_coderFromArrayLen_4 rfl ?_
  refine rc_iushr (pc := 6) hC dJ5_coderFromArrayLen_6 ?_
  refine rc_i2b (pc := 7) hC dJ5_coderFromArrayLen_7 ?_
  obtain ⟨hn, h⟩ := h.nar
  exact rc_iret hC rfl hn dJ5_coderFromArrayLen_8 h rfl
theorem rw_J5_newString {l : Launch} (hl : l.stackTraces = false) (v0 : Option Nat) (v1 : Int32) (v2 : Int32) : rc_Ct l yJ5_newString (ws_ yJ5_newString cJ5_newString 5 (Option.some (Jvm.ClassFile.FieldType.object "java/lang/String"))) 5 118 rc_tQ (rp_J5_newString v0 v1 v2) [rc_q v0, rc_i v1, rc_i v2] := by
  refine rc_Ct_H hl (plainFor_of_name rY_J5) rfl (Nat.le_of_ble_eq_true rfl) (L0 := [some (rc_q v0), some (rc_i v1), some (rc_i v2), none, none]) rfl ?_
  intro Y S hC hH h
  have hC : rc_C Y cJ5_newString RJ5 (Option.some (Jvm.ClassFile.FieldType.object "java/lang/String")) 5 := hC
  unfold rp_J5_newString at h
  refine rc_iload_n (pc := 0) hC dJ5_newString_0 rfl rfl ?_
  refine rc_if_ne (pc := 1) (tgt := 8) hC dJ5_newString_1 rfl h ?_ ?_
  · intro _ h
    refine rc_r_stati (pc := 8) hC rS_J5_251 dJ5_newString_8 h ?_
    intro x1 h
    refine rc_if_eq (pc := 11) (tgt := 39) hC dJ5_newString_11 rfl h ?_ ?_
    · intro _ h
      refine rc_iload_n (pc := 39) hC dJ5_newString_39 rfl rfl ?_
      refine rc_iload_n (pc := 40) hC dJ5_newString_40 rfl rfl ?_
      refine rc_iadd (pc := 41) hC dJ5_newString_41 ?_
      refine rc_istore_n (pc := 42) hC (L' := [some (rc_q v0), some (rc_i v1), some (rc_i v2), some (rc_i (v1 + v2)), none]) dJ5_newString_42 rfl (Nat.le_of_ble_eq_true rfl) rfl rfl ?_
      refine rc_r_new (pc := 43) hC rN_J5_3 dJ5_newString_43 h ?_
      intro x2 S h
      refine rc_dup (pc := 46) hC dJ5_newString_46 rfl ?_
      refine rc_aload_n (pc := 47) hC dJ5_newString_47 rfl rfl ?_
      refine rc_iload_n (pc := 48) hC dJ5_newString_48 rfl rfl ?_
      refine rc_iconst (pc := 49) hC (v := (1 : Int32)) dJ5_newString_49 rfl ?_
      refine rc_ishl (pc := 50) hC dJ5_newString_50 ?_
      refine rc_iload_n (pc := 51) hC dJ5_newString_51 rfl rfl ?_
      refine rc_iconst (pc := 52) hC (v := (1 : Int32)) dJ5_newString_52 rfl ?_
      refine rc_ishl (pc := 53) hC dJ5_newString_53 ?_
      refine rc_callS (pc := 54) hC (rw_J10_copyOfRange hH.1 v0 (v1 <<< ((1 : Int32) &&& 31)) ((v1 + v2) <<< ((1 : Int32) &&& 31))) q581 q371 q131 q372 rd_J10_copyOfRange (hH.room (Nat.le_of_ble_eq_true rfl) (Nat.le_of_ble_eq_true rfl)) rfl rfl (Nat.le_of_ble_eq_true rfl) 3 rfl h.le.2.2 h.br rfl dJ5_newString_54 ?_ (fun E q S hT => rc_out hC hH.2.2.2.2 hT)
      intro x3 S h
      show rc_Z Y S 57 [some (rc_q v0), some (rc_i v1), some (rc_i v2), some (rc_i (v1 + v2)), none] [rc_q x3, rc_q x2, rc_q x2]
      refine rc_iconst (pc := 57) hC (v := (1 : Int32)) dJ5_newString_57 rfl ?_
      obtain ⟨⟨b9, ho⟩, h⟩ := h.nn
      refine rc_callI (pc := 58) hC ho (rw_J4_init_3 hH.1 x2 x3 (1 : Int32)) q634 q624 q121 q625 rfl rfl rd_J4_init_3 (hH.room (Nat.le_of_ble_eq_true rfl) (Nat.le_of_ble_eq_true rfl)) rfl rfl (Nat.le_of_ble_eq_true rfl) 2 rfl h.le.2.2 h.br rfl dJ5_newString_58 ?_ (fun E q S hT => rc_out hC hH.2.2.2.2 hT)
      intro _ S h
      show rc_Z Y S 61 [some (rc_q v0), some (rc_i v1), some (rc_i v2), some (rc_i (v1 + v2)), none] [rc_q x2]
      exact rc_aret hC rfl (by first | exact Or.inl ⟨_, rfl⟩ | exact Or.inr ⟨_, rfl⟩) dJ5_newString_61 h rfl
    intro _ h
    refine rc_aload_n (pc := 14) hC dJ5_newString_14 rfl rfl ?_
    refine rc_iload_n (pc := 15) hC dJ5_newString_15 rfl rfl ?_
    refine rc_iload_n (pc := 16) hC dJ5_newString_16 rfl rfl ?_
    refine rc_callS (pc := 17) hC (rw_J5_compress hH.1 v0 v1 v2) q631 q576 q122 q577 rd_J5_compress (hH.room (Nat.le_of_ble_eq_true rfl) (Nat.le_of_ble_eq_true rfl)) rfl rfl (Nat.le_of_ble_eq_true rfl) 3 rfl h.le.2.2 h.br rfl dJ5_newString_17 ?_ (fun E q S hT => rc_out hC hH.2.2.2.2 hT)
    intro x4 S h
    show rc_Z Y S 20 [some (rc_q v0), some (rc_i v1), some (rc_i v2), none, none] [rc_q x4]
    refine rc_astore_n (pc := 20) hC (L' := [some (rc_q v0), some (rc_i v1), some (rc_i v2), some (rc_q x4), none]) dJ5_newString_20 rfl (Nat.le_of_ble_eq_true rfl) rfl rfl ?_
    refine rc_aload_n (pc := 21) hC dJ5_newString_21 rfl rfl ?_
    refine rc_iload_n (pc := 22) hC dJ5_newString_22 rfl rfl ?_
    refine rc_callS (pc := 23) hC (rw_J5_coderFromArrayLen hH.1 x4 v2) q632 q583 q122 q584 rd_J5_coderFromArrayLen (hH.room (Nat.le_of_ble_eq_true rfl) (Nat.le_of_ble_eq_true rfl)) rfl rfl (Nat.le_of_ble_eq_true rfl) 2 rfl h.le.2.2 h.br rfl dJ5_newString_23 ?_ (fun E q S hT => rc_out hC hH.2.2.2.2 hT)
    intro x5 S h
    show rc_Z Y S 26 [some (rc_q v0), some (rc_i v1), some (rc_i v2), some (rc_q x4), none] [rc_i x5]
    refine rc_istore (pc := 26) hC (L' := [some (rc_q v0), some (rc_i v1), some (rc_i v2), some (rc_q x4), some (rc_i x5)]) dJ5_newString_26 (Nat.le_of_ble_eq_true rfl) rfl rfl ?_
    refine rc_r_new (pc := 28) hC rN_J5_3 dJ5_newString_28 h ?_
    intro x6 S h
    refine rc_dup (pc := 31) hC dJ5_newString_31 rfl ?_
    refine rc_aload_n (pc := 32) hC dJ5_newString_32 rfl rfl ?_
    refine rc_iload (pc := 33) hC dJ5_newString_33 rfl ?_
    obtain ⟨⟨b9, ho⟩, h⟩ := h.nn
    refine rc_callI (pc := 35) hC ho (rw_J4_init_3 hH.1 x6 x4 x5) q634 q624 q121 q625 rfl rfl rd_J4_init_3 (hH.room (Nat.le_of_ble_eq_true rfl) (Nat.le_of_ble_eq_true rfl)) rfl rfl (Nat.le_of_ble_eq_true rfl) 2 rfl h.le.2.2 h.br rfl dJ5_newString_35 ?_ (fun E q S hT => rc_out hC hH.2.2.2.2 hT)
    intro _ S h
    show rc_Z Y S 38 [some (rc_q v0), some (rc_i v1), some (rc_i v2), some (rc_q x4), some (rc_i x5)] [rc_q x6]
    exact rc_aret hC rfl (by first | exact Or.inl ⟨_, rfl⟩ | exact Or.inr ⟨_, rfl⟩) dJ5_newString_38 h rfl
  intro _ h
  refine rc_r_textw (pc := 4) hC (i := 5) rfl dJ5_newString_4 h ?_
  intro x7 h
  exact rc_aret hC rfl (by first | exact Or.inl ⟨_, rfl⟩ | exact Or.inr ⟨_, rfl⟩) dJ5_newString_7 h rfl
theorem rw_J4_substring_L22 {Y : rc_Y} (hC : rc_C Y cJ4_substring RJ4 (Option.some (Jvm.ClassFile.FieldType.object "java/lang/String")) 5) (hH : rc_H Y 6 142 yJ4_substring.name) (v0 : Option Nat) (v1 : Int32) (v2 : Int32) (S : rc_S) (h : rc_Go Y rc_tQ (rp_J4_substring_L22  v0 v1 v2) S) : rc_Z Y S 22 [some (rc_q v0), some (rc_i v1), some (rc_i v2), none, none] [] := by
  unfold rp_J4_substring_L22 at h
  refine rc_iload_n (pc := 22) hC dJ4_substring_22 rfl rfl ?_
  refine rc_iload_n (pc := 23) hC dJ4_substring_23 rfl rfl ?_
  refine rc_isub (pc := 24) hC dJ4_substring_24 ?_
  refine rc_istore (pc := 25) hC (L' := [some (rc_q v0), some (rc_i v1), some (rc_i v2), none, some (rc_i (v2 - v1))]) dJ4_substring_25 (Nat.le_of_ble_eq_true rfl) rfl rfl ?_
  refine rc_aload_n (pc := 27) hC dJ4_substring_27 rfl rfl ?_
  obtain ⟨⟨fs, ho⟩, h⟩ := h.is
  refine rc_callV (pc := 28) hC rfl ho (rw_J4_isLatin1 hH.1 v0) q319 q320 q321 q121 q322 rfl rd_J4_isLatin1 (hH.room (Nat.le_of_ble_eq_true rfl) (Nat.le_of_ble_eq_true rfl)) rfl rfl (Nat.le_of_ble_eq_true rfl) 0 rfl h.le.2.2 h.br rfl dJ4_substring_28 ?_ (fun E q S hT => rc_out hC hH.2.2.2.2 hT)
  intro x1 S h
  show rc_Z Y S 31 [some (rc_q v0), some (rc_i v1), some (rc_i v2), none, some (rc_i (v2 - v1))] [rc_i x1]
  refine rc_if_eq (pc := 31) (tgt := 47) hC dJ4_substring_31 rfl h ?_ ?_
  · intro _ h
    refine rc_aload_n (pc := 47) hC dJ4_substring_47 rfl rfl ?_
    refine rc_r_getq (pc := 48) hC rF_J4_9 dJ4_substring_48 h ?_
    intro x2 h
    refine rc_iload_n (pc := 51) hC dJ4_substring_51 rfl rfl ?_
    refine rc_iload (pc := 52) hC dJ4_substring_52 rfl ?_
    refine rc_callS (pc := 54) hC (rw_J5_newString hH.1 x2 v1 (v2 - v1)) q626 q627 q122 q628 rd_J5_newString (hH.room (Nat.le_of_ble_eq_true rfl) (Nat.le_of_ble_eq_true rfl)) rfl rfl (Nat.le_of_ble_eq_true rfl) 3 rfl h.le.2.2 h.br rfl dJ4_substring_54 ?_ (fun E q S hT => rc_out hC hH.2.2.2.2 hT)
    intro x3 S h
    show rc_Z Y S 57 [some (rc_q v0), some (rc_i v1), some (rc_i v2), none, some (rc_i (v2 - v1))] [rc_q x3]
    exact rc_aret hC rfl (by first | exact Or.inl ⟨_, rfl⟩ | exact Or.inr ⟨_, rfl⟩) dJ4_substring_57 h rfl
  intro _ h
  refine rc_aload_n (pc := 34) hC dJ4_substring_34 rfl rfl ?_
  refine rc_r_getq (pc := 35) hC rF_J4_9 dJ4_substring_35 h ?_
  intro x4 h
  refine rc_iload_n (pc := 38) hC dJ4_substring_38 rfl rfl ?_
  refine rc_iload (pc := 39) hC dJ4_substring_39 rfl ?_
  refine rc_callS (pc := 41) hC (rw_J8_newString hH.1 x4 v1 (v2 - v1)) q364 q365 q129 q366 rd_J8_newString (hH.room (Nat.le_of_ble_eq_true rfl) (Nat.le_of_ble_eq_true rfl)) rfl rfl (Nat.le_of_ble_eq_true rfl) 3 rfl h.le.2.2 h.br rfl dJ4_substring_41 ?_ (fun E q S hT => rc_out hC hH.2.2.2.2 hT)
  intro x5 S h
  show rc_Z Y S 44 [some (rc_q v0), some (rc_i v1), some (rc_i v2), none, some (rc_i (v2 - v1))] [rc_q x5]
  refine rc_goto (pc := 44) (tgt := 57) hC dJ4_substring_44 rfl ?_
  exact rc_aret hC rfl (by first | exact Or.inl ⟨_, rfl⟩ | exact Or.inr ⟨_, rfl⟩) dJ4_substring_57 h rfl
theorem rw_J4_substring {l : Launch} (hl : l.stackTraces = false) (v0 : Option Nat) (v1 : Int32) (v2 : Int32) : rc_Ct l yJ4_substring (ws_ yJ4_substring cJ4_substring 5 (Option.some (Jvm.ClassFile.FieldType.object "java/lang/String"))) 6 142 rc_tQ (rp_J4_substring v0 v1 v2) [rc_q v0, rc_i v1, rc_i v2] := by
  refine rc_Ct_H hl (plainFor_of_name rY_J4) rfl (Nat.le_of_ble_eq_true rfl) (L0 := [some (rc_q v0), some (rc_i v1), some (rc_i v2), none, none]) rfl ?_
  intro Y S hC hH h
  have hC : rc_C Y cJ4_substring RJ4 (Option.some (Jvm.ClassFile.FieldType.object "java/lang/String")) 5 := hC
  unfold rp_J4_substring at h
  refine rc_aload_n (pc := 0) hC dJ4_substring_0 rfl rfl ?_
  obtain ⟨⟨fs, ho⟩, h⟩ := h.is
  refine rc_callV (pc := 1) hC rfl ho (rw_J4_length hH.1 v0) q357 q307 q308 q121 q309 rfl rd_J4_length (hH.room (Nat.le_of_ble_eq_true rfl) (Nat.le_of_ble_eq_true rfl)) rfl rfl (Nat.le_of_ble_eq_true rfl) 0 rfl h.le.2.2 h.br rfl dJ4_substring_1 ?_ (fun E q S hT => rc_out hC hH.2.2.2.2 hT)
  intro x1 S h
  show rc_Z Y S 4 [some (rc_q v0), some (rc_i v1), some (rc_i v2), none, none] [rc_i x1]
  refine rc_istore_n (pc := 4) hC (L' := [some (rc_q v0), some (rc_i v1), some (rc_i v2), some (rc_i x1), none]) dJ4_substring_4 rfl (Nat.le_of_ble_eq_true rfl) rfl rfl ?_
  refine rc_iload_n (pc := 5) hC dJ4_substring_5 rfl rfl ?_
  refine rc_iload_n (pc := 6) hC dJ4_substring_6 rfl rfl ?_
  refine rc_iload_n (pc := 7) hC dJ4_substring_7 rfl rfl ?_
  refine rc_callS (pc := 8) hC (rw_J4_checkBoundsBeginEnd hH.1 v1 v2 x1) q358 q359 q121 q360 rd_J4_checkBoundsBeginEnd (hH.room (Nat.le_of_ble_eq_true rfl) (Nat.le_of_ble_eq_true rfl)) rfl rfl (Nat.le_of_ble_eq_true rfl) 3 rfl h.le.2.2 h.br rfl dJ4_substring_8 ?_ (fun E q S hT => rc_out hC hH.2.2.2.2 hT)
  intro _ S h
  show rc_Z Y S 11 [some (rc_q v0), some (rc_i v1), some (rc_i v2), some (rc_i x1), none] []
  refine rc_iload_n (pc := 11) hC dJ4_substring_11 rfl rfl ?_
  refine rc_if_ne (pc := 12) (tgt := 22) hC dJ4_substring_12 rfl h ?_ ?_
  · intro _ h
    refine rc_drop [true, true, true, false, false] (L' := [some (rc_q v0), some (rc_i v1), some (rc_i v2), none, none]) rfl ?_
    exact rw_J4_substring_L22 hC hH  v0 v1 v2 S h
  intro _ h
  refine rc_iload_n (pc := 15) hC dJ4_substring_15 rfl rfl ?_
  refine rc_iload_n (pc := 16) hC dJ4_substring_16 rfl rfl ?_
  refine rc_icmp_ne (pc := 17) (tgt := 22) hC dJ4_substring_17 rfl h ?_ ?_
  · intro _ h
    refine rc_drop [true, true, true, false, false] (L' := [some (rc_q v0), some (rc_i v1), some (rc_i v2), none, none]) rfl ?_
    exact rw_J4_substring_L22 hC hH  v0 v1 v2 S h
  intro _ h
  refine rc_aload_n (pc := 20) hC dJ4_substring_20 rfl rfl ?_
  exact rc_aret hC rfl (by first | exact Or.inl ⟨_, rfl⟩ | exact Or.inr ⟨_, rfl⟩) dJ4_substring_21 h rfl
theorem rw_J8_equals_L9 {Y : rc_Y} (hC : rc_C Y cJ8_equals RJ8 (Option.some Jvm.ClassFile.FieldType.boolean) 3) (hH : rc_H Y 0 0 yJ8_equals.name) : ∀ (n : Nat) (v0 : Option Nat) (v1 : Option Nat) (v2 : Int32) (S : rc_S), rc_Go Y rc_tI (rp_J8_equals_L9  n v0 v1 v2) S → rc_Z Y S 9 [some (rc_q v0), some (rc_q v1), some (rc_i v2)] [] := by
  intro n
  induction n with
  | zero => intro v0 v1 v2 S h; exact h.fail.elim
  | succ n ih =>
    intro v0 v1 v2 S h
    rw [rp_J8_equals_L9] at h
    refine rc_iload_n (pc := 9) hC dJ8_equals_9 rfl rfl ?_
    refine rc_aload_n (pc := 10) hC dJ8_equals_10 rfl rfl ?_
    refine rc_r_alen (pc := 11) hC dJ8_equals_11 h ?_
    intro x1 h
    refine rc_icmp_ge (pc := 12) (tgt := 32) hC dJ8_equals_12 rfl h ?_ ?_
    · intro _ h
      refine rc_iconst (pc := 32) hC (v := (1 : Int32)) dJ8_equals_32 rfl ?_
      exact rc_iret hC rfl rfl dJ8_equals_33 h rfl
    intro _ h
    refine rc_aload_n (pc := 15) hC dJ8_equals_15 rfl rfl ?_
    refine rc_iload_n (pc := 16) hC dJ8_equals_16 rfl rfl ?_
    refine rc_r_bald (pc := 17) hC dJ8_equals_17 h ?_
    intro x2 h
    refine rc_aload_n (pc := 18) hC dJ8_equals_18 rfl rfl ?_
    refine rc_iload_n (pc := 19) hC dJ8_equals_19 rfl rfl ?_
    refine rc_r_bald (pc := 20) hC dJ8_equals_20 h ?_
    intro x3 h
    refine rc_icmp_eq (pc := 21) (tgt := 26) hC dJ8_equals_21 rfl h ?_ ?_
    · intro _ h
      refine rc_iinc (pc := 26) hC (v := (v2 + (1 : Int32))) (L' := [some (rc_q v0), some (rc_q v1), some (rc_i (v2 + (1 : Int32)))]) dJ8_equals_26 rfl rfl rfl rfl ?_
      refine rc_goto (pc := 29) (tgt := 9) hC dJ8_equals_29 rfl ?_
      exact ih v0 v1 (v2 + (1 : Int32)) S h
    intro _ h
    refine rc_iconst (pc := 24) hC (v := (0 : Int32)) dJ8_equals_24 rfl ?_
    exact rc_iret hC rfl rfl dJ8_equals_25 h rfl
theorem rw_J8_equals {l : Launch} (hl : l.stackTraces = false) (v0 : Option Nat) (v1 : Option Nat) : rc_Ct l yJ8_equals (ws_ yJ8_equals cJ8_equals 3 (Option.some Jvm.ClassFile.FieldType.boolean)) 0 0 rc_tI (rp_J8_equals v0 v1) [rc_q v0, rc_q v1] := by
  refine rc_Ct_H hl (plainFor_of_name rY_J8) rfl (Nat.le_of_ble_eq_true rfl) (L0 := [some (rc_q v0), some (rc_q v1), none]) rfl ?_
  intro Y S hC hH h
  have hC : rc_C Y cJ8_equals RJ8 (Option.some Jvm.ClassFile.FieldType.boolean) 3 := hC
  unfold rp_J8_equals at h
  refine rc_aload_n (pc := 0) hC dJ8_equals_0 rfl rfl ?_
  refine rc_r_alen (pc := 1) hC dJ8_equals_1 h ?_
  intro x1 h
  refine rc_aload_n (pc := 2) hC dJ8_equals_2 rfl rfl ?_
  refine rc_r_alen (pc := 3) hC dJ8_equals_3 h ?_
  intro x2 h
  refine rc_icmp_ne (pc := 4) (tgt := 34) hC dJ8_equals_4 rfl h ?_ ?_
  · intro _ h
    refine rc_iconst (pc := 34) hC (v := (0 : Int32)) dJ8_equals_34 rfl ?_
    exact rc_iret hC rfl rfl dJ8_equals_35 h rfl
  intro _ h
  refine rc_iconst (pc := 7) hC (v := (0 : Int32)) dJ8_equals_7 rfl ?_
  refine rc_istore_n (pc := 8) hC (L' := [some (rc_q v0), some (rc_q v1), some (rc_i (0 : Int32))]) dJ8_equals_8 rfl (Nat.le_of_ble_eq_true rfl) rfl rfl ?_
  refine rc_r_fuel h ?_
  intro x3 h
  exact rw_J8_equals_L9 hC hH  x3 v0 v1 (0 : Int32) S h
theorem rw_J4_equals_L36 {Y : rc_Y} (hC : rc_C Y cJ4_equals RJ4 (Option.some Jvm.ClassFile.FieldType.boolean) 3) (hH : rc_H Y 1 22 yJ4_equals.name) (v0 : Option Nat) (v2 : Option Nat) (S : rc_S) (h : rc_Go Y rc_tI (rp_J4_equals_L36  v0 v2) S) : rc_Z Y S 36 [some (rc_q v0), none, some (rc_q v2)] [] := by
  unfold rp_J4_equals_L36 at h
  refine rc_aload_n (pc := 36) hC dJ4_equals_36 rfl rfl ?_
  refine rc_r_getq (pc := 37) hC rF_J4_9 dJ4_equals_37 h ?_
  intro x1 h
  refine rc_aload_n (pc := 40) hC dJ4_equals_40 rfl rfl ?_
  refine rc_r_getq (pc := 41) hC rF_J4_9 dJ4_equals_41 h ?_
  intro x2 h
  refine rc_callS (pc := 44) hC (rw_J8_equals hH.1 x1 x2) q692 q693 q129 q694 rd_J8_equals (hH.room (Nat.le_of_ble_eq_true rfl) (Nat.le_of_ble_eq_true rfl)) rfl rfl (Nat.le_of_ble_eq_true rfl) 2 rfl h.le.2.2 h.br rfl dJ4_equals_44 ?_ (fun E q S hT => rc_out hC hH.2.2.2.2 hT)
  intro x3 S h
  show rc_Z Y S 47 [some (rc_q v0), none, some (rc_q v2)] [rc_i x3]
  refine rc_if_eq (pc := 47) (tgt := 54) hC dJ4_equals_47 rfl h ?_ ?_
  · intro _ h
    refine rc_iconst (pc := 54) hC (v := (0 : Int32)) dJ4_equals_54 rfl ?_
    exact rc_iret hC rfl rfl dJ4_equals_55 h rfl
  intro _ h
  refine rc_iconst (pc := 50) hC (v := (1 : Int32)) dJ4_equals_50 rfl ?_
  refine rc_goto (pc := 51) (tgt := 55) hC dJ4_equals_51 rfl ?_
  exact rc_iret hC rfl rfl dJ4_equals_55 h rfl
theorem rw_J4_equals {l : Launch} (hl : l.stackTraces = false) (v0 : Option Nat) (v1 : Option Nat) : rc_Ct l yJ4_equals (ws_ yJ4_equals cJ4_equals 3 (Option.some Jvm.ClassFile.FieldType.boolean)) 1 22 rc_tI (rp_J4_equals v0 v1) [rc_q v0, rc_q v1] := by
  refine rc_Ct_H hl (plainFor_of_name rY_J4) rfl (Nat.le_of_ble_eq_true rfl) (L0 := [some (rc_q v0), some (rc_q v1), none]) rfl ?_
  intro Y S hC hH h
  have hC : rc_C Y cJ4_equals RJ4 (Option.some Jvm.ClassFile.FieldType.boolean) 3 := hC
  unfold rp_J4_equals at h
  refine rc_aload_n (pc := 0) hC dJ4_equals_0 rfl rfl ?_
  refine rc_aload_n (pc := 1) hC dJ4_equals_1 rfl rfl ?_
  refine rc_acmp_ne (pc := 2) (tgt := 7) hC dJ4_equals_2 rfl h ?_ ?_
  · intro _ h
    refine rc_aload_n (pc := 7) hC dJ4_equals_7 rfl rfl ?_
    refine rc_r_inst (pc := 8) hC rK_J4_10 dJ4_equals_8 h ?_
    intro x1 h
    refine rc_if_eq (pc := 11) (tgt := 54) hC dJ4_equals_11 rfl h ?_ ?_
    · intro _ h
      refine rc_iconst (pc := 54) hC (v := (0 : Int32)) dJ4_equals_54 rfl ?_
      exact rc_iret hC rfl rfl dJ4_equals_55 h rfl
    intro _ h
    refine rc_aload_n (pc := 14) hC dJ4_equals_14 rfl rfl ?_
    refine rc_r_cast (pc := 15) hC rK_J4_10 dJ4_equals_15 h ?_
    intro h
    refine rc_astore_n (pc := 18) hC (L' := [some (rc_q v0), some (rc_q v1), some (rc_q v1)]) dJ4_equals_18 rfl (Nat.le_of_ble_eq_true rfl) rfl rfl ?_
    refine rc_r_stati (pc := 19) hC rS_J4_38 dJ4_equals_19 h ?_
    intro x2 h
    refine rc_if_eq (pc := 22) (tgt := 36) hC dJ4_equals_22 rfl h ?_ ?_
    · intro _ h
      refine rc_drop [true, false, true] (L' := [some (rc_q v0), none, some (rc_q v1)]) rfl ?_
      exact rw_J4_equals_L36 hC hH  v0 v1 S h
    intro _ h
    refine rc_aload_n (pc := 25) hC dJ4_equals_25 rfl rfl ?_
    refine rc_r_geti (pc := 26) hC rF_J4_15 dJ4_equals_26 h ?_
    intro x3 h
    refine rc_aload_n (pc := 29) hC dJ4_equals_29 rfl rfl ?_
    refine rc_r_geti (pc := 30) hC rF_J4_15 dJ4_equals_30 h ?_
    intro x4 h
    refine rc_icmp_ne (pc := 33) (tgt := 54) hC dJ4_equals_33 rfl h ?_ ?_
    · intro _ h
      refine rc_iconst (pc := 54) hC (v := (0 : Int32)) dJ4_equals_54 rfl ?_
      exact rc_iret hC rfl rfl dJ4_equals_55 h rfl
    intro _ h
    refine rc_drop [true, false, true] (L' := [some (rc_q v0), none, some (rc_q v1)]) rfl ?_
    exact rw_J4_equals_L36 hC hH  v0 v1 S h
  intro _ h
  refine rc_iconst (pc := 5) hC (v := (1 : Int32)) dJ4_equals_5 rfl ?_
  exact rc_iret hC rfl rfl dJ4_equals_6 h rfl
theorem rw_J16_signedHashCode_L8 {Y : rc_Y} (hC : rc_C Y cJ16_signedHashCode RJ16 (Option.some Jvm.ClassFile.FieldType.int) 6) (hH : rc_H Y 0 0 yJ16_signedHashCode.name) : ∀ (n : Nat) (v0 : Int32) (v1 : Option Nat) (v4 : Int32) (v5 : Int32) (S : rc_S), rc_Go Y rc_tI (rp_J16_signedHashCode_L8  n v0 v1 v4 v5) S → rc_Z Y S 8 [some (rc_i v0), some (rc_q v1), none, none, some (rc_i v4), some (rc_i v5)] [] := by
  intro n
  induction n with
  | zero => intro v0 v1 v4 v5 S h; exact h.fail.elim
  | succ n ih =>
    intro v0 v1 v4 v5 S h
    rw [rp_J16_signedHashCode_L8] at h
    refine rc_iload (pc := 8) hC dJ16_signedHashCode_8 rfl ?_
    refine rc_iload (pc := 10) hC dJ16_signedHashCode_10 rfl ?_
    refine rc_icmp_ge (pc := 12) (tgt := 35) hC dJ16_signedHashCode_12 rfl h ?_ ?_
    · intro _ h
      refine rc_iload_n (pc := 35) hC dJ16_signedHashCode_35 rfl rfl ?_
      exact rc_iret hC rfl rfl dJ16_signedHashCode_36 h rfl
    intro _ h
    refine rc_bipush (pc := 15) hC (v := (31 : Int32)) dJ16_signedHashCode_15 rfl ?_
    refine rc_iload_n (pc := 17) hC dJ16_signedHashCode_17 rfl rfl ?_
    refine rc_imul (pc := 18) hC dJ16_signedHashCode_18 ?_
    refine rc_aload_n (pc := 19) hC dJ16_signedHashCode_19 rfl rfl ?_
    refine rc_iload (pc := 20) hC dJ16_signedHashCode_20 rfl ?_
    refine rc_r_bald (pc := 22) hC dJ16_signedHashCode_22 h ?_
    intro x1 h
    refine rc_sipush (pc := 23) hC (v := (255 : Int32)) dJ16_signedHashCode_23 rfl ?_
    refine rc_iand (pc := 26) hC dJ16_signedHashCode_26 ?_
    refine rc_iadd (pc := 27) hC dJ16_signedHashCode_27 ?_
    refine rc_istore_n (pc := 28) hC (L' := [some (rc_i (((31 : Int32) * v0) + (x1 &&& (255 : Int32)))), some (rc_q v1), none, none, some (rc_i v4), some (rc_i v5)]) dJ16_signedHashCode_28 rfl (Nat.le_of_ble_eq_true rfl) rfl rfl ?_
    refine rc_iinc (pc := 29) hC (v := (v5 + (1 : Int32))) (L' := [some (rc_i (((31 : Int32) * v0) + (x1 &&& (255 : Int32)))), some (rc_q v1), none, none, some (rc_i v4), some (rc_i (v5 + (1 : Int32)))]) dJ16_signedHashCode_29 rfl rfl rfl rfl ?_
    refine rc_goto (pc := 32) (tgt := 8) hC dJ16_signedHashCode_32 rfl ?_
    exact ih (((31 : Int32) * v0) + (x1 &&& (255 : Int32))) v1 v4 (v5 + (1 : Int32)) S h
theorem rw_J16_signedHashCode {l : Launch} (hl : l.stackTraces = false) (v0 : Int32) (v1 : Option Nat) (v2 : Int32) (v3 : Int32) : rc_Ct l yJ16_signedHashCode (ws_ yJ16_signedHashCode cJ16_signedHashCode 6 (Option.some Jvm.ClassFile.FieldType.int)) 0 0 rc_tI (rp_J16_signedHashCode v0 v1 v2 v3) [rc_i v0, rc_q v1, rc_i v2, rc_i v3] := by
  refine rc_Ct_H hl (plainFor_of_name rY_J16) rfl (Nat.le_of_ble_eq_true rfl) (L0 := [some (rc_i v0), some (rc_q v1), some (rc_i v2), some (rc_i v3), none, none]) rfl ?_
  intro Y S hC hH h
  have hC : rc_C Y cJ16_signedHashCode RJ16 (Option.some Jvm.ClassFile.FieldType.int) 6 := hC
  unfold rp_J16_signedHashCode at h
  refine rc_iload_n (pc := 0) hC dJ16_signedHashCode_0 rfl rfl ?_
  refine rc_iload_n (pc := 1) hC dJ16_signedHashCode_1 rfl rfl ?_
  refine rc_iadd (pc := 2) hC dJ16_signedHashCode_2 ?_
  refine rc_istore (pc := 3) hC (L' := [some (rc_i v0), some (rc_q v1), some (rc_i v2), some (rc_i v3), some (rc_i (v2 + v3)), none]) dJ16_signedHashCode_3 (Nat.le_of_ble_eq_true rfl) rfl rfl ?_
  refine rc_iload_n (pc := 5) hC dJ16_signedHashCode_5 rfl rfl ?_
  refine rc_istore (pc := 6) hC (L' := [some (rc_i v0), some (rc_q v1), some (rc_i v2), some (rc_i v3), some (rc_i (v2 + v3)), some (rc_i v2)]) dJ16_signedHashCode_6 (Nat.le_of_ble_eq_true rfl) rfl rfl ?_
  refine rc_drop [true, true, false, false, true, true] (L' := [some (rc_i v0), some (rc_q v1), none, none, some (rc_i (v2 + v3)), some (rc_i v2)]) rfl ?_
  refine rc_r_fuel h ?_
  intro x1 h
  exact rw_J16_signedHashCode_L8 hC hH  x1 v0 v1 (v2 + v3) v2 S h
theorem rw_J16_hashCode_2_L8 {Y : rc_Y} (hC : rc_C Y cJ16_hashCode_2 RJ16 (Option.some Jvm.ClassFile.FieldType.int) 6) (hH : rc_H Y 0 0 yJ16_hashCode_2.name) : ∀ (n : Nat) (v0 : Int32) (v1 : Option Nat) (v4 : Int32) (v5 : Int32) (S : rc_S), rc_Go Y rc_tI (rp_J16_hashCode_2_L8  n v0 v1 v4 v5) S → rc_Z Y S 8 [some (rc_i v0), some (rc_q v1), none, none, some (rc_i v4), some (rc_i v5)] [] := by
  intro n
  induction n with
  | zero => intro v0 v1 v4 v5 S h; exact h.fail.elim
  | succ n ih =>
    intro v0 v1 v4 v5 S h
    rw [rp_J16_hashCode_2_L8] at h
    refine rc_iload (pc := 8) hC dJ16_hashCode_2_8 rfl ?_
    refine rc_iload (pc := 10) hC dJ16_hashCode_2_10 rfl ?_
    refine rc_icmp_ge (pc := 12) (tgt := 31) hC dJ16_hashCode_2_12 rfl h ?_ ?_
    · intro _ h
      refine rc_iload_n (pc := 31) hC dJ16_hashCode_2_31 rfl rfl ?_
      exact rc_iret hC rfl rfl dJ16_hashCode_2_32 h rfl
    intro _ h
    refine rc_bipush (pc := 15) hC (v := (31 : Int32)) dJ16_hashCode_2_15 rfl ?_
    refine rc_iload_n (pc := 17) hC dJ16_hashCode_2_17 rfl rfl ?_
    refine rc_imul (pc := 18) hC dJ16_hashCode_2_18 ?_
    refine rc_aload_n (pc := 19) hC dJ16_hashCode_2_19 rfl rfl ?_
    refine rc_iload (pc := 20) hC dJ16_hashCode_2_20 rfl ?_
    refine rc_r_bald (pc := 22) hC dJ16_hashCode_2_22 h ?_
    intro x1 h
    refine rc_iadd (pc := 23) hC dJ16_hashCode_2_23 ?_
    refine rc_istore_n (pc := 24) hC (L' := [some (rc_i (((31 : Int32) * v0) + x1)), some (rc_q v1), none, none, some (rc_i v4), some (rc_i v5)]) dJ16_hashCode_2_24 rfl (Nat.le_of_ble_eq_true rfl) rfl rfl ?_
    refine rc_iinc (pc := 25) hC (v := (v5 + (1 : Int32))) (L' := [some (rc_i (((31 : Int32) * v0) + x1)), some (rc_q v1), none, none, some (rc_i v4), some (rc_i (v5 + (1 : Int32)))]) dJ16_hashCode_2_25 rfl rfl rfl rfl ?_
    refine rc_goto (pc := 28) (tgt := 8) hC dJ16_hashCode_2_28 rfl ?_
    exact ih (((31 : Int32) * v0) + x1) v1 v4 (v5 + (1 : Int32)) S h
theorem rw_J16_hashCode_2 {l : Launch} (hl : l.stackTraces = false) (v0 : Int32) (v1 : Option Nat) (v2 : Int32) (v3 : Int32) : rc_Ct l yJ16_hashCode_2 (ws_ yJ16_hashCode_2 cJ16_hashCode_2 6 (Option.some Jvm.ClassFile.FieldType.int)) 0 0 rc_tI (rp_J16_hashCode_2 v0 v1 v2 v3) [rc_i v0, rc_q v1, rc_i v2, rc_i v3] := by
  refine rc_Ct_H hl (plainFor_of_name rY_J16) rfl (Nat.le_of_ble_eq_true rfl) (L0 := [some (rc_i v0), some (rc_q v1), some (rc_i v2), some (rc_i v3), none, none]) rfl ?_
  intro Y S hC hH h
  have hC : rc_C Y cJ16_hashCode_2 RJ16 (Option.some Jvm.ClassFile.FieldType.int) 6 := hC
  unfold rp_J16_hashCode_2 at h
  refine rc_iload_n (pc := 0) hC dJ16_hashCode_2_0 rfl rfl ?_
  refine rc_iload_n (pc := 1) hC dJ16_hashCode_2_1 rfl rfl ?_
  refine rc_iadd (pc := 2) hC dJ16_hashCode_2_2 ?_
  refine rc_istore (pc := 3) hC (L' := [some (rc_i v0), some (rc_q v1), some (rc_i v2), some (rc_i v3), some (rc_i (v2 + v3)), none]) dJ16_hashCode_2_3 (Nat.le_of_ble_eq_true rfl) rfl rfl ?_
  refine rc_iload_n (pc := 5) hC dJ16_hashCode_2_5 rfl rfl ?_
  refine rc_istore (pc := 6) hC (L' := [some (rc_i v0), some (rc_q v1), some (rc_i v2), some (rc_i v3), some (rc_i (v2 + v3)), some (rc_i v2)]) dJ16_hashCode_2_6 (Nat.le_of_ble_eq_true rfl) rfl rfl ?_
  refine rc_drop [true, true, false, false, true, true] (L' := [some (rc_i v0), some (rc_q v1), none, none, some (rc_i (v2 + v3)), some (rc_i v2)]) rfl ?_
  refine rc_r_fuel h ?_
  intro x1 h
  exact rw_J16_hashCode_2_L8 hC hH  x1 v0 v1 (v2 + v3) v2 S h
theorem rw_J16_hashCode_4_L8 {Y : rc_Y} (hC : rc_C Y cJ16_hashCode_4 RJ16 (Option.some Jvm.ClassFile.FieldType.int) 6) (hH : rc_H Y 0 0 yJ16_hashCode_4.name) : ∀ (n : Nat) (v0 : Int32) (v1 : Option Nat) (v4 : Int32) (v5 : Int32) (S : rc_S), rc_Go Y rc_tI (rp_J16_hashCode_4_L8  n v0 v1 v4 v5) S → rc_Z Y S 8 [some (rc_i v0), some (rc_q v1), none, none, some (rc_i v4), some (rc_i v5)] [] := by
  intro n
  induction n with
  | zero => intro v0 v1 v4 v5 S h; exact h.fail.elim
  | succ n ih =>
    intro v0 v1 v4 v5 S h
    rw [rp_J16_hashCode_4_L8] at h
    refine rc_iload (pc := 8) hC dJ16_hashCode_4_8 rfl ?_
    refine rc_iload (pc := 10) hC dJ16_hashCode_4_10 rfl ?_
    refine rc_icmp_ge (pc := 12) (tgt := 31) hC dJ16_hashCode_4_12 rfl h ?_ ?_
    · intro _ h
      refine rc_iload_n (pc := 31) hC dJ16_hashCode_4_31 rfl rfl ?_
      exact rc_iret hC rfl rfl dJ16_hashCode_4_32 h rfl
    intro _ h
    refine rc_bipush (pc := 15) hC (v := (31 : Int32)) dJ16_hashCode_4_15 rfl ?_
    refine rc_iload_n (pc := 17) hC dJ16_hashCode_4_17 rfl rfl ?_
    refine rc_imul (pc := 18) hC dJ16_hashCode_4_18 ?_
    refine rc_aload_n (pc := 19) hC dJ16_hashCode_4_19 rfl rfl ?_
    refine rc_iload (pc := 20) hC dJ16_hashCode_4_20 rfl ?_
    refine rc_r_iald (pc := 22) hC dJ16_hashCode_4_22 h ?_
    intro x1 h
    refine rc_iadd (pc := 23) hC dJ16_hashCode_4_23 ?_
    refine rc_istore_n (pc := 24) hC (L' := [some (rc_i (((31 : Int32) * v0) + x1)), some (rc_q v1), none, none, some (rc_i v4), some (rc_i v5)]) dJ16_hashCode_4_24 rfl (Nat.le_of_ble_eq_true rfl) rfl rfl ?_
    refine rc_iinc (pc := 25) hC (v := (v5 + (1 : Int32))) (L' := [some (rc_i (((31 : Int32) * v0) + x1)), some (rc_q v1), none, none, some (rc_i v4), some (rc_i (v5 + (1 : Int32)))]) dJ16_hashCode_4_25 rfl rfl rfl rfl ?_
    refine rc_goto (pc := 28) (tgt := 8) hC dJ16_hashCode_4_28 rfl ?_
    exact ih (((31 : Int32) * v0) + x1) v1 v4 (v5 + (1 : Int32)) S h
theorem rw_J16_hashCode_4 {l : Launch} (hl : l.stackTraces = false) (v0 : Int32) (v1 : Option Nat) (v2 : Int32) (v3 : Int32) : rc_Ct l yJ16_hashCode_4 (ws_ yJ16_hashCode_4 cJ16_hashCode_4 6 (Option.some Jvm.ClassFile.FieldType.int)) 0 0 rc_tI (rp_J16_hashCode_4 v0 v1 v2 v3) [rc_i v0, rc_q v1, rc_i v2, rc_i v3] := by
  refine rc_Ct_H hl (plainFor_of_name rY_J16) rfl (Nat.le_of_ble_eq_true rfl) (L0 := [some (rc_i v0), some (rc_q v1), some (rc_i v2), some (rc_i v3), none, none]) rfl ?_
  intro Y S hC hH h
  have hC : rc_C Y cJ16_hashCode_4 RJ16 (Option.some Jvm.ClassFile.FieldType.int) 6 := hC
  unfold rp_J16_hashCode_4 at h
  refine rc_iload_n (pc := 0) hC dJ16_hashCode_4_0 rfl rfl ?_
  refine rc_iload_n (pc := 1) hC dJ16_hashCode_4_1 rfl rfl ?_
  refine rc_iadd (pc := 2) hC dJ16_hashCode_4_2 ?_
  refine rc_istore (pc := 3) hC (L' := [some (rc_i v0), some (rc_q v1), some (rc_i v2), some (rc_i v3), some (rc_i (v2 + v3)), none]) dJ16_hashCode_4_3 (Nat.le_of_ble_eq_true rfl) rfl rfl ?_
  refine rc_iload_n (pc := 5) hC dJ16_hashCode_4_5 rfl rfl ?_
  refine rc_istore (pc := 6) hC (L' := [some (rc_i v0), some (rc_q v1), some (rc_i v2), some (rc_i v3), some (rc_i (v2 + v3)), some (rc_i v2)]) dJ16_hashCode_4_6 (Nat.le_of_ble_eq_true rfl) rfl rfl ?_
  refine rc_drop [true, true, false, false, true, true] (L' := [some (rc_i v0), some (rc_q v1), none, none, some (rc_i (v2 + v3)), some (rc_i v2)]) rfl ?_
  refine rc_r_fuel h ?_
  intro x1 h
  exact rw_J16_hashCode_4_L8 hC hH  x1 v0 v1 (v2 + v3) v2 S h
theorem rw_J16_vectorizedHashCode {l : Launch} (hl : l.stackTraces = false) (v0 : Option Nat) (v1 : Int32) (v2 : Int32) (v3 : Int32) (v4 : Int32) : rc_Ct l yJ16_vectorizedHashCode (ws_ yJ16_vectorizedHashCode cJ16_vectorizedHashCode 5 (Option.some Jvm.ClassFile.FieldType.int)) 1 25 rc_tI (rp_J16_vectorizedHashCode v0 v1 v2 v3 v4) [rc_q v0, rc_i v1, rc_i v2, rc_i v3, rc_i v4] := by
  refine rc_Ct_H hl (plainFor_of_name rY_J16) rfl (Nat.le_of_ble_eq_true rfl) (L0 := [some (rc_q v0), some (rc_i v1), some (rc_i v2), some (rc_i v3), some (rc_i v4)]) rfl ?_
  intro Y S hC hH h
  have hC : rc_C Y cJ16_vectorizedHashCode RJ16 (Option.some Jvm.ClassFile.FieldType.int) 5 := hC
  unfold rp_J16_vectorizedHashCode at h
  refine rc_iload (pc := 0) hC dJ16_vectorizedHashCode_0 rfl ?_
  rcases h.ite with ⟨hc, h⟩ | ⟨hc0, h⟩
  · refine rc_tableIn (pc := 2) (tgt := 44) hC (off := 42) dJ16_vectorizedHashCode_2 (by rw [hc]; decide) (by rw [hc]; decide) (by rw [hc]; rfl) rfl ?_
    refine rc_iload_n (pc := 44) hC dJ16_vectorizedHashCode_44 rfl rfl ?_
    refine rc_aload_n (pc := 45) hC dJ16_vectorizedHashCode_45 rfl rfl ?_
    refine rc_r_casta (pc := 46) hC (t := 2) q755 dJ16_vectorizedHashCode_46 h ?_
    intro h
    refine rc_iload_n (pc := 49) hC dJ16_vectorizedHashCode_49 rfl rfl ?_
    refine rc_iload_n (pc := 50) hC dJ16_vectorizedHashCode_50 rfl rfl ?_
    refine rc_callS (pc := 51) hC (rw_J16_signedHashCode hH.1 v3 v0 v1 v2) q756 q757 q138 q758 rd_J16_signedHashCode (hH.room (Nat.le_of_ble_eq_true rfl) (Nat.le_of_ble_eq_true rfl)) rfl rfl (Nat.le_of_ble_eq_true rfl) 4 rfl h.le.2.2 h.br rfl dJ16_vectorizedHashCode_51 ?_ (fun E q S hT => rc_out hC hH.2.2.2.2 hT)
    intro x1 S h
    show rc_Z Y S 54 [some (rc_q v0), some (rc_i v1), some (rc_i v2), some (rc_i v3), some (rc_i v4)] [rc_i x1]
    refine rc_goto (pc := 54) (tgt := 157) hC dJ16_vectorizedHashCode_54 rfl ?_
    exact rc_iret hC rfl rfl dJ16_vectorizedHashCode_157 h rfl
  rcases h.ite with ⟨hc, h⟩ | ⟨hc1, h⟩
  · refine rc_tableIn (pc := 2) (tgt := 57) hC (off := 55) dJ16_vectorizedHashCode_2 (by rw [hc]; decide) (by rw [hc]; decide) (by rw [hc]; rfl) rfl ?_
    refine rc_aload_n (pc := 57) hC dJ16_vectorizedHashCode_57 rfl rfl ?_
    exact h.fail.elim
  rcases h.ite with ⟨hc, h⟩ | ⟨hc2, h⟩
  · refine rc_tableIn (pc := 2) (tgt := 129) hC (off := 127) dJ16_vectorizedHashCode_2 (by rw [hc]; decide) (by rw [hc]; decide) (by rw [hc]; rfl) rfl ?_
    exact h.fail.elim
  rcases h.ite with ⟨hc, h⟩ | ⟨hc3, h⟩
  · refine rc_tableIn (pc := 2) (tgt := 129) hC (off := 127) dJ16_vectorizedHashCode_2 (by rw [hc]; decide) (by rw [hc]; decide) (by rw [hc]; rfl) rfl ?_
    exact h.fail.elim
  rcases h.ite with ⟨hc, h⟩ | ⟨hc4, h⟩
  · refine rc_tableIn (pc := 2) (tgt := 90) hC (off := 88) dJ16_vectorizedHashCode_2 (by rw [hc]; decide) (by rw [hc]; decide) (by rw [hc]; rfl) rfl ?_
    refine rc_iload_n (pc := 90) hC dJ16_vectorizedHashCode_90 rfl rfl ?_
    refine rc_aload_n (pc := 91) hC dJ16_vectorizedHashCode_91 rfl rfl ?_
    refine rc_r_casta (pc := 92) hC (t := 2) q755 dJ16_vectorizedHashCode_92 h ?_
    intro h
    refine rc_iload_n (pc := 95) hC dJ16_vectorizedHashCode_95 rfl rfl ?_
    refine rc_iload_n (pc := 96) hC dJ16_vectorizedHashCode_96 rfl rfl ?_
    refine rc_callS (pc := 97) hC (rw_J16_hashCode_2 hH.1 v3 v0 v1 v2) q779 q780 q138 q781 rd_J16_hashCode_2 (hH.room (Nat.le_of_ble_eq_true rfl) (Nat.le_of_ble_eq_true rfl)) rfl rfl (Nat.le_of_ble_eq_true rfl) 4 rfl h.le.2.2 h.br rfl dJ16_vectorizedHashCode_97 ?_ (fun E q S hT => rc_out hC hH.2.2.2.2 hT)
    intro x2 S h
    show rc_Z Y S 100 [some (rc_q v0), some (rc_i v1), some (rc_i v2), some (rc_i v3), some (rc_i v4)] [rc_i x2]
    refine rc_goto (pc := 100) (tgt := 157) hC dJ16_vectorizedHashCode_100 rfl ?_
    exact rc_iret hC rfl rfl dJ16_vectorizedHashCode_157 h rfl
  rcases h.ite with ⟨hc, h⟩ | ⟨hc5, h⟩
  · refine rc_tableIn (pc := 2) (tgt := 103) hC (off := 101) dJ16_vectorizedHashCode_2 (by rw [hc]; decide) (by rw [hc]; decide) (by rw [hc]; rfl) rfl ?_
    refine rc_iload_n (pc := 103) hC dJ16_vectorizedHashCode_103 rfl rfl ?_
    refine rc_aload_n (pc := 104) hC dJ16_vectorizedHashCode_104 rfl rfl ?_
    exact h.fail.elim
  rcases h.ite with ⟨hc, h⟩ | ⟨hc6, h⟩
  · refine rc_tableIn (pc := 2) (tgt := 116) hC (off := 114) dJ16_vectorizedHashCode_2 (by rw [hc]; decide) (by rw [hc]; decide) (by rw [hc]; rfl) rfl ?_
    refine rc_iload_n (pc := 116) hC dJ16_vectorizedHashCode_116 rfl rfl ?_
    refine rc_aload_n (pc := 117) hC dJ16_vectorizedHashCode_117 rfl rfl ?_
    refine rc_r_casta (pc := 118) hC (t := 0) q786 dJ16_vectorizedHashCode_118 h ?_
    intro h
    refine rc_iload_n (pc := 121) hC dJ16_vectorizedHashCode_121 rfl rfl ?_
    refine rc_iload_n (pc := 122) hC dJ16_vectorizedHashCode_122 rfl rfl ?_
    refine rc_callS (pc := 123) hC (rw_J16_hashCode_4 hH.1 v3 v0 v1 v2) q787 q788 q138 q789 rd_J16_hashCode_4 (hH.room (Nat.le_of_ble_eq_true rfl) (Nat.le_of_ble_eq_true rfl)) rfl rfl (Nat.le_of_ble_eq_true rfl) 4 rfl h.le.2.2 h.br rfl dJ16_vectorizedHashCode_123 ?_ (fun E q S hT => rc_out hC hH.2.2.2.2 hT)
    intro x3 S h
    show rc_Z Y S 126 [some (rc_q v0), some (rc_i v1), some (rc_i v2), some (rc_i v3), some (rc_i v4)] [rc_i x3]
    refine rc_goto (pc := 126) (tgt := 157) hC dJ16_vectorizedHashCode_126 rfl ?_
    exact rc_iret hC rfl rfl dJ16_vectorizedHashCode_157 h rfl
  have hout : (v4).toInt < 4 ∨ 10 < (v4).toInt := by
    have hq0 : (v4).toInt ≠ 4 := fun e => hc0 (Int32.toInt_inj.mp (e.trans rfl))
    have hq1 : (v4).toInt ≠ 5 := fun e => hc1 (Int32.toInt_inj.mp (e.trans rfl))
    have hq2 : (v4).toInt ≠ 6 := fun e => hc2 (Int32.toInt_inj.mp (e.trans rfl))
    have hq3 : (v4).toInt ≠ 7 := fun e => hc3 (Int32.toInt_inj.mp (e.trans rfl))
    have hq4 : (v4).toInt ≠ 8 := fun e => hc4 (Int32.toInt_inj.mp (e.trans rfl))
    have hq5 : (v4).toInt ≠ 9 := fun e => hc5 (Int32.toInt_inj.mp (e.trans rfl))
    have hq6 : (v4).toInt ≠ 10 := fun e => hc6 (Int32.toInt_inj.mp (e.trans rfl))
    omega
  refine rc_tableOut (pc := 2) (tgt := 129) hC dJ16_vectorizedHashCode_2 hout rfl ?_
  exact h.fail.elim
theorem rw_J8_hashCode {l : Launch} (hl : l.stackTraces = false) (v0 : Option Nat) : rc_Ct l yJ8_hashCode (ws_ yJ8_hashCode cJ8_hashCode 1 (Option.some Jvm.ClassFile.FieldType.int)) 2 49 rc_tI (rp_J8_hashCode v0) [rc_q v0] := by
  refine rc_Ct_H hl (plainFor_of_name rY_J8) rfl (Nat.le_of_ble_eq_true rfl) (L0 := [some (rc_q v0)]) rfl ?_
  intro Y S hC hH h
  have hC : rc_C Y cJ8_hashCode RJ8 (Option.some Jvm.ClassFile.FieldType.int) 1 := hC
  unfold rp_J8_hashCode at h
  refine rc_aload_n (pc := 0) hC dJ8_hashCode_0 rfl rfl ?_
  refine rc_r_alen (pc := 1) hC dJ8_hashCode_1 h ?_
  intro x1 h
  rcases h.ite with ⟨hc, h⟩ | ⟨hc0, h⟩
  · refine rc_lookup (pc := 2) (tgt := 28) hC (off := 26) dJ8_hashCode_2 rfl (by rw [hc]; rfl) rfl ?_
    refine rc_iconst (pc := 28) hC (v := (0 : Int32)) dJ8_hashCode_28 rfl ?_
    refine rc_goto (pc := 29) (tgt := 51) hC dJ8_hashCode_29 rfl ?_
    exact rc_iret hC rfl rfl dJ8_hashCode_51 h rfl
  rcases h.ite with ⟨hc, h⟩ | ⟨hc1, h⟩
  · refine rc_lookup (pc := 2) (tgt := 32) hC (off := 30) dJ8_hashCode_2 rfl (by rw [hc]; rfl) rfl ?_
    refine rc_aload_n (pc := 32) hC dJ8_hashCode_32 rfl rfl ?_
    refine rc_iconst (pc := 33) hC (v := (0 : Int32)) dJ8_hashCode_33 rfl ?_
    refine rc_r_bald (pc := 34) hC dJ8_hashCode_34 h ?_
    intro x4 h
    refine rc_sipush (pc := 35) hC (v := (255 : Int32)) dJ8_hashCode_35 rfl ?_
    refine rc_iand (pc := 38) hC dJ8_hashCode_38 ?_
    refine rc_goto (pc := 39) (tgt := 51) hC dJ8_hashCode_39 rfl ?_
    exact rc_iret hC rfl rfl dJ8_hashCode_51 h rfl
  refine rc_lookup (pc := 2) (tgt := 42) hC (off := 40) dJ8_hashCode_2 rfl (rc_offC hc0 rfl (rc_offC hc1 rfl rc_offZ)) rfl ?_
  refine rc_aload_n (pc := 42) hC dJ8_hashCode_42 rfl rfl ?_
  refine rc_iconst (pc := 43) hC (v := (0 : Int32)) dJ8_hashCode_43 rfl ?_
  refine rc_aload_n (pc := 44) hC dJ8_hashCode_44 rfl rfl ?_
  refine rc_r_alen (pc := 45) hC dJ8_hashCode_45 h ?_
  intro x2 h
  refine rc_iconst (pc := 46) hC (v := (0 : Int32)) dJ8_hashCode_46 rfl ?_
  refine rc_iconst (pc := 47) hC (v := (4 : Int32)) dJ8_hashCode_47 rfl ?_
  refine rc_callS (pc := 48) hC (rw_J16_vectorizedHashCode hH.1 v0 (0 : Int32) x2 (0 : Int32) (4 : Int32)) q752 q753 q138 q754 rd_J16_vectorizedHashCode (hH.room (Nat.le_of_ble_eq_true rfl) (Nat.le_of_ble_eq_true rfl)) rfl rfl (Nat.le_of_ble_eq_true rfl) 5 rfl h.le.2.2 h.br rfl dJ8_hashCode_48 ?_ (fun E q S hT => rc_out hC hH.2.2.2.2 hT)
  intro x3 S h
  show rc_Z Y S 51 [some (rc_q v0)] [rc_i x3]
  exact rc_iret hC rfl rfl dJ8_hashCode_51 h rfl
theorem rw_J5_hashCode {l : Launch} (hl : l.stackTraces = false) (v0 : Option Nat) : rc_Ct l yJ5_hashCode (ws_ yJ5_hashCode cJ5_hashCode 1 (Option.some Jvm.ClassFile.FieldType.int)) 2 49 rc_tI (rp_J5_hashCode v0) [rc_q v0] := by
  refine rc_Ct_H hl (plainFor_of_name rY_J5) rfl (Nat.le_of_ble_eq_true rfl) (L0 := [some (rc_q v0)]) rfl ?_
  intro Y S hC hH h
  have hC : rc_C Y cJ5_hashCode RJ5 (Option.some Jvm.ClassFile.FieldType.int) 1 := hC
  unfold rp_J5_hashCode at h
  refine rc_aload_n (pc := 0) hC dJ5_hashCode_0 rfl rfl ?_
  refine rc_r_alen (pc := 1) hC dJ5_hashCode_1 h ?_
  intro x1 h
  rcases h.ite with ⟨hc, h⟩ | ⟨hc0, h⟩
  · refine rc_lookup (pc := 2) (tgt := 28) hC (off := 26) dJ5_hashCode_2 rfl (by rw [hc]; rfl) rfl ?_
    refine rc_iconst (pc := 28) hC (v := (0 : Int32)) dJ5_hashCode_28 rfl ?_
    refine rc_goto (pc := 29) (tgt := 51) hC dJ5_hashCode_29 rfl ?_
    exact rc_iret hC rfl rfl dJ5_hashCode_51 h rfl
  rcases h.ite with ⟨hc, h⟩ | ⟨hc1, h⟩
  · refine rc_lookup (pc := 2) (tgt := 32) hC (off := 30) dJ5_hashCode_2 rfl (by rw [hc]; rfl) rfl ?_
    refine rc_aload_n (pc := 32) hC dJ5_hashCode_32 rfl rfl ?_
    refine rc_iconst (pc := 33) hC (v := (0 : Int32)) dJ5_hashCode_33 rfl ?_
    refine rc_callS (pc := 34) hC (rw_J5_getChar hH.1 v0 (0 : Int32)) q344 q345 q122 q346 rd_J5_getChar (hH.room (Nat.le_of_ble_eq_true rfl) (Nat.le_of_ble_eq_true rfl)) rfl rfl (Nat.le_of_ble_eq_true rfl) 2 rfl h.le.2.2 h.br rfl dJ5_hashCode_34 ?_ (fun E q S hT => rc_out hC hH.2.2.2.2 hT)
    intro x4 S h
    show rc_Z Y S 37 [some (rc_q v0)] [rc_i x4]
    refine rc_goto (pc := 37) (tgt := 51) hC dJ5_hashCode_37 rfl ?_
    exact rc_iret hC rfl rfl dJ5_hashCode_51 h rfl
  refine rc_lookup (pc := 2) (tgt := 40) hC (off := 38) dJ5_hashCode_2 rfl (rc_offC hc0 rfl (rc_offC hc1 rfl rc_offZ)) rfl ?_
  refine rc_aload_n (pc := 40) hC dJ5_hashCode_40 rfl rfl ?_
  refine rc_iconst (pc := 41) hC (v := (0 : Int32)) dJ5_hashCode_41 rfl ?_
  refine rc_aload_n (pc := 42) hC dJ5_hashCode_42 rfl rfl ?_
  refine rc_r_alen (pc := 43) hC dJ5_hashCode_43 h ?_
  intro x2 h
  refine rc_iconst (pc := 44) hC (v := (1 : Int32)) dJ5_hashCode_44 rfl ?_
  refine rc_ishr (pc := 45) hC dJ5_hashCode_45 ?_
  refine rc_iconst (pc := 46) hC (v := (0 : Int32)) dJ5_hashCode_46 rfl ?_
  refine rc_iconst (pc := 47) hC (v := (5 : Int32)) dJ5_hashCode_47 rfl ?_
  refine rc_callS (pc := 48) hC (rw_J16_vectorizedHashCode hH.1 v0 (0 : Int32) (x2 >>> ((1 : Int32) &&& 31)) (0 : Int32) (5 : Int32)) q801 q753 q138 q754 rd_J16_vectorizedHashCode (hH.room (Nat.le_of_ble_eq_true rfl) (Nat.le_of_ble_eq_true rfl)) rfl rfl (Nat.le_of_ble_eq_true rfl) 5 rfl h.le.2.2 h.br rfl dJ5_hashCode_48 ?_ (fun E q S hT => rc_out hC hH.2.2.2.2 hT)
  intro x3 S h
  show rc_Z Y S 51 [some (rc_q v0)] [rc_i x3]
  exact rc_iret hC rfl rfl dJ5_hashCode_51 h rfl
theorem rw_J4_hashCode_L40 {Y : rc_Y} (hC : rc_C Y cJ4_hashCode RJ4 (Option.some Jvm.ClassFile.FieldType.int) 2) (hH : rc_H Y 3 69 yJ4_hashCode.name) (v0 : Option Nat) (s0 : Int32) (S : rc_S) (h : rc_Go Y rc_tI (rp_J4_hashCode_L40  v0 s0) S) : rc_Z Y S 40 [some (rc_q v0), none] [rc_i s0] := by
  unfold rp_J4_hashCode_L40 at h
  refine rc_istore_n (pc := 40) hC (L' := [some (rc_q v0), some (rc_i s0)]) dJ4_hashCode_40 rfl (Nat.le_of_ble_eq_true rfl) rfl rfl ?_
  refine rc_iload_n (pc := 41) hC dJ4_hashCode_41 rfl rfl ?_
  refine rc_if_ne (pc := 42) (tgt := 53) hC dJ4_hashCode_42 rfl h ?_ ?_
  · intro _ h
    refine rc_aload_n (pc := 53) hC dJ4_hashCode_53 rfl rfl ?_
    refine rc_iload_n (pc := 54) hC dJ4_hashCode_54 rfl rfl ?_
    refine rc_r_put (pc := 55) hC rP_J4_19 (nofun) dJ4_hashCode_55 h ?_
    intro S h
    refine rc_iload_n (pc := 58) hC dJ4_hashCode_58 rfl rfl ?_
    exact rc_iret hC rfl rfl dJ4_hashCode_59 h rfl
  intro _ h
  refine rc_aload_n (pc := 45) hC dJ4_hashCode_45 rfl rfl ?_
  refine rc_iconst (pc := 46) hC (v := (1 : Int32)) dJ4_hashCode_46 rfl ?_
  refine rc_r_put (pc := 47) hC rP_J4_23 (nofun) dJ4_hashCode_47 h ?_
  intro S h
  refine rc_goto (pc := 50) (tgt := 58) hC dJ4_hashCode_50 rfl ?_
  refine rc_iload_n (pc := 58) hC dJ4_hashCode_58 rfl rfl ?_
  exact rc_iret hC rfl rfl dJ4_hashCode_59 h rfl
theorem rw_J4_hashCode {l : Launch} (hl : l.stackTraces = false) (v0 : Option Nat) : rc_Ct l yJ4_hashCode (ws_ yJ4_hashCode cJ4_hashCode 2 (Option.some Jvm.ClassFile.FieldType.int)) 3 69 rc_tI (rp_J4_hashCode v0) [rc_q v0] := by
  refine rc_Ct_H hl (plainFor_of_name rY_J4) rfl (Nat.le_of_ble_eq_true rfl) (L0 := [some (rc_q v0), none]) rfl ?_
  intro Y S hC hH h
  have hC : rc_C Y cJ4_hashCode RJ4 (Option.some Jvm.ClassFile.FieldType.int) 2 := hC
  unfold rp_J4_hashCode at h
  refine rc_aload_n (pc := 0) hC dJ4_hashCode_0 rfl rfl ?_
  refine rc_r_geti (pc := 1) hC rF_J4_19 dJ4_hashCode_1 h ?_
  intro x1 h
  refine rc_istore_n (pc := 4) hC (L' := [some (rc_q v0), some (rc_i x1)]) dJ4_hashCode_4 rfl (Nat.le_of_ble_eq_true rfl) rfl rfl ?_
  refine rc_iload_n (pc := 5) hC dJ4_hashCode_5 rfl rfl ?_
  refine rc_if_ne (pc := 6) (tgt := 58) hC dJ4_hashCode_6 rfl h ?_ ?_
  · intro _ h
    refine rc_iload_n (pc := 58) hC dJ4_hashCode_58 rfl rfl ?_
    exact rc_iret hC rfl rfl dJ4_hashCode_59 h rfl
  intro _ h
  refine rc_aload_n (pc := 9) hC dJ4_hashCode_9 rfl rfl ?_
  refine rc_r_geti (pc := 10) hC rF_J4_23 dJ4_hashCode_10 h ?_
  intro x2 h
  refine rc_if_ne (pc := 13) (tgt := 58) hC dJ4_hashCode_13 rfl h ?_ ?_
  · intro _ h
    refine rc_iload_n (pc := 58) hC dJ4_hashCode_58 rfl rfl ?_
    exact rc_iret hC rfl rfl dJ4_hashCode_59 h rfl
  intro _ h
  refine rc_aload_n (pc := 16) hC dJ4_hashCode_16 rfl rfl ?_
  obtain ⟨⟨fs, ho⟩, h⟩ := h.is
  refine rc_callV (pc := 17) hC rfl ho (rw_J4_isLatin1 hH.1 v0) q319 q320 q321 q121 q322 rfl rd_J4_isLatin1 (hH.room (Nat.le_of_ble_eq_true rfl) (Nat.le_of_ble_eq_true rfl)) rfl rfl (Nat.le_of_ble_eq_true rfl) 0 rfl h.le.2.2 h.br rfl dJ4_hashCode_17 ?_ (fun E q S hT => rc_out hC hH.2.2.2.2 hT)
  intro x3 S h
  show rc_Z Y S 20 [some (rc_q v0), some (rc_i x1)] [rc_i x3]
  refine rc_if_eq (pc := 20) (tgt := 33) hC dJ4_hashCode_20 rfl h ?_ ?_
  · intro _ h
    refine rc_aload_n (pc := 33) hC dJ4_hashCode_33 rfl rfl ?_
    refine rc_r_getq (pc := 34) hC rF_J4_9 dJ4_hashCode_34 h ?_
    intro x4 h
    refine rc_callS (pc := 37) hC (rw_J5_hashCode hH.1 x4) q798 q799 q122 q800 rd_J5_hashCode (hH.room (Nat.le_of_ble_eq_true rfl) (Nat.le_of_ble_eq_true rfl)) rfl rfl (Nat.le_of_ble_eq_true rfl) 1 rfl h.le.2.2 h.br rfl dJ4_hashCode_37 ?_ (fun E q S hT => rc_out hC hH.2.2.2.2 hT)
    intro x5 S h
    show rc_Z Y S 40 [some (rc_q v0), some (rc_i x1)] [rc_i x5]
    refine rc_drop [true, false] (L' := [some (rc_q v0), none]) rfl ?_
    exact rw_J4_hashCode_L40 hC hH  v0 x5 S h
  intro _ h
  refine rc_aload_n (pc := 23) hC dJ4_hashCode_23 rfl rfl ?_
  refine rc_r_getq (pc := 24) hC rF_J4_9 dJ4_hashCode_24 h ?_
  intro x6 h
  refine rc_callS (pc := 27) hC (rw_J8_hashCode hH.1 x6) q749 q750 q129 q751 rd_J8_hashCode (hH.room (Nat.le_of_ble_eq_true rfl) (Nat.le_of_ble_eq_true rfl)) rfl rfl (Nat.le_of_ble_eq_true rfl) 1 rfl h.le.2.2 h.br rfl dJ4_hashCode_27 ?_ (fun E q S hT => rc_out hC hH.2.2.2.2 hT)
  intro x7 S h
  show rc_Z Y S 30 [some (rc_q v0), some (rc_i x1)] [rc_i x7]
  refine rc_goto (pc := 30) (tgt := 40) hC dJ4_hashCode_30 rfl ?_
  refine rc_drop [true, false] (L' := [some (rc_q v0), none]) rfl ?_
  exact rw_J4_hashCode_L40 hC hH  v0 x7 S h
theorem rw_J7_size {l : Launch} (hl : l.stackTraces = false) (v0 : Option Nat) : rc_Ct l yJ7_size (ws_ yJ7_size cJ7_size 1 (Option.some Jvm.ClassFile.FieldType.int)) 0 0 rc_tI (rp_J7_size v0) [rc_q v0] := by
  refine rc_Ct_H hl (plainFor_of_name rY_J7) rfl (Nat.le_of_ble_eq_true rfl) (L0 := [some (rc_q v0)]) rfl ?_
  intro Y S hC hH h
  have hC : rc_C Y cJ7_size RJ7 (Option.some Jvm.ClassFile.FieldType.int) 1 := hC
  unfold rp_J7_size at h
  refine rc_aload_n (pc := 0) hC dJ7_size_0 rfl rfl ?_
  refine rc_r_geti (pc := 1) hC rF_J7_48 dJ7_size_1 h ?_
  intro x1 h
  exact rc_iret hC rfl rfl dJ7_size_4 h rfl
theorem rw_J17_max {l : Launch} (hl : l.stackTraces = false) (v0 : Int32) (v1 : Int32) : rc_Ct l yJ17_max (ws_ yJ17_max cJ17_max 2 (Option.some Jvm.ClassFile.FieldType.int)) 0 0 rc_tI (rp_J17_max v0 v1) [rc_i v0, rc_i v1] := by
  refine rc_Ct_H hl rY_J17_max rfl (Nat.le_of_ble_eq_true rfl) (L0 := [some (rc_i v0), some (rc_i v1)]) rfl ?_
  intro Y S hC hH h
  have hC : rc_C Y cJ17_max RJ17 (Option.some Jvm.ClassFile.FieldType.int) 2 := hC
  unfold rp_J17_max at h
  refine rc_iload_n (pc := 0) hC dJ17_max_0 rfl rfl ?_
  refine rc_iload_n (pc := 1) hC dJ17_max_1 rfl rfl ?_
  refine rc_icmp_lt (pc := 2) (tgt := 9) hC dJ17_max_2 rfl h ?_ ?_
  · intro _ h
    refine rc_iload_n (pc := 9) hC dJ17_max_9 rfl rfl ?_
    exact rc_iret hC rfl rfl dJ17_max_10 h rfl
  intro _ h
  refine rc_iload_n (pc := 5) hC dJ17_max_5 rfl rfl ?_
  refine rc_goto (pc := 6) (tgt := 10) hC dJ17_max_6 rfl ?_
  exact rc_iret hC rfl rfl dJ17_max_10 h rfl
theorem rw_J16_hugeLength {l : Launch} (hl : l.stackTraces = false) (v0 : Int32) (v1 : Int32) : rc_Ct l yJ16_hugeLength (ws_ yJ16_hugeLength cJ16_hugeLength 3 (Option.some Jvm.ClassFile.FieldType.int)) 0 0 rc_tI (rp_J16_hugeLength v0 v1) [rc_i v0, rc_i v1] := by
  refine rc_Ct_H hl (plainFor_of_name rY_J16) rfl (Nat.le_of_ble_eq_true rfl) (L0 := [some (rc_i v0), some (rc_i v1), none]) rfl ?_
  intro Y S hC hH h
  have hC : rc_C Y cJ16_hugeLength RJ16 (Option.some Jvm.ClassFile.FieldType.int) 3 := hC
  unfold rp_J16_hugeLength at h
  refine rc_iload_n (pc := 0) hC dJ16_hugeLength_0 rfl rfl ?_
  refine rc_iload_n (pc := 1) hC dJ16_hugeLength_1 rfl rfl ?_
  refine rc_iadd (pc := 2) hC dJ16_hugeLength_2 ?_
  refine rc_istore_n (pc := 3) hC (L' := [some (rc_i v0), some (rc_i v1), some (rc_i (v0 + v1))]) dJ16_hugeLength_3 rfl (Nat.le_of_ble_eq_true rfl) rfl rfl ?_
  refine rc_iload_n (pc := 4) hC dJ16_hugeLength_4 rfl rfl ?_
  refine rc_if_ge (pc := 5) (tgt := 49) hC dJ16_hugeLength_5 rfl h ?_ ?_
  · intro _ h
    refine rc_iload_n (pc := 49) hC dJ16_hugeLength_49 rfl rfl ?_
    refine rc_ldc (pc := 50) hC (v := (2147483639 : Int32)) q450 dJ16_hugeLength_50 ?_
    refine rc_icmp_gt (pc := 52) (tgt := 58) hC dJ16_hugeLength_52 rfl h ?_ ?_
    · intro _ h
      refine rc_iload_n (pc := 58) hC dJ16_hugeLength_58 rfl rfl ?_
      exact rc_iret hC rfl rfl dJ16_hugeLength_59 h rfl
    intro _ h
    refine rc_ldc (pc := 55) hC (v := (2147483639 : Int32)) q450 dJ16_hugeLength_55 ?_
    exact rc_iret hC rfl rfl dJ16_hugeLength_57 h rfl
  intro _ h
  exact h.fail.elim
theorem rw_J16_newLength_L21 {Y : rc_Y} (hC : rc_C Y cJ16_newLength RJ16 (Option.some Jvm.ClassFile.FieldType.int) 4) (hH : rc_H Y 1 22 yJ16_newLength.name) (v0 : Int32) (v1 : Int32) (S : rc_S) (h : rc_Go Y rc_tI (rp_J16_newLength_L21  v0 v1) S) : rc_Z Y S 21 [some (rc_i v0), some (rc_i v1), none, none] [] := by
  unfold rp_J16_newLength_L21 at h
  refine rc_iload_n (pc := 21) hC dJ16_newLength_21 rfl rfl ?_
  refine rc_iload_n (pc := 22) hC dJ16_newLength_22 rfl rfl ?_
  refine rc_callS (pc := 23) hC (rw_J16_hugeLength hH.1 v0 v1) q451 q452 q138 q453 rd_J16_hugeLength (hH.room (Nat.le_of_ble_eq_true rfl) (Nat.le_of_ble_eq_true rfl)) rfl rfl (Nat.le_of_ble_eq_true rfl) 2 rfl h.le.2.2 h.br rfl dJ16_newLength_23 ?_ (fun E q S hT => rc_out hC hH.2.2.2.2 hT)
  intro x1 S h
  show rc_Z Y S 26 [some (rc_i v0), some (rc_i v1), none, none] [rc_i x1]
  exact rc_iret hC rfl rfl dJ16_newLength_26 h rfl
theorem rw_J16_newLength {l : Launch} (hl : l.stackTraces = false) (v0 : Int32) (v1 : Int32) (v2 : Int32) : rc_Ct l yJ16_newLength (ws_ yJ16_newLength cJ16_newLength 4 (Option.some Jvm.ClassFile.FieldType.int)) 1 22 rc_tI (rp_J16_newLength v0 v1 v2) [rc_i v0, rc_i v1, rc_i v2] := by
  refine rc_Ct_H hl (plainFor_of_name rY_J16) rfl (Nat.le_of_ble_eq_true rfl) (L0 := [some (rc_i v0), some (rc_i v1), some (rc_i v2), none]) rfl ?_
  intro Y S hC hH h
  have hC : rc_C Y cJ16_newLength RJ16 (Option.some Jvm.ClassFile.FieldType.int) 4 := hC
  unfold rp_J16_newLength at h
  refine rc_iload_n (pc := 0) hC dJ16_newLength_0 rfl rfl ?_
  refine rc_iload_n (pc := 1) hC dJ16_newLength_1 rfl rfl ?_
  refine rc_iload_n (pc := 2) hC dJ16_newLength_2 rfl rfl ?_
  refine rc_callS (pc := 3) hC (rw_J17_max hH.1 v1 v2) q447 q448 q139 q449 rd_J17_max (hH.room (Nat.le_of_ble_eq_true rfl) (Nat.le_of_ble_eq_true rfl)) rfl rfl (Nat.le_of_ble_eq_true rfl) 2 rfl h.le.2.2 h.br rfl dJ16_newLength_3 ?_ (fun E q S hT => rc_out hC hH.2.2.2.2 hT)
  intro x1 S h
  show rc_Z Y S 6 [some (rc_i v0), some (rc_i v1), some (rc_i v2), none] [rc_i x1, rc_i v0]
  refine rc_iadd (pc := 6) hC dJ16_newLength_6 ?_
  refine rc_istore_n (pc := 7) hC (L' := [some (rc_i v0), some (rc_i v1), some (rc_i v2), some (rc_i (v0 + x1))]) dJ16_newLength_7 rfl (Nat.le_of_ble_eq_true rfl) rfl rfl ?_
  refine rc_iconst (pc := 8) hC (v := (0 : Int32)) dJ16_newLength_8 rfl ?_
  refine rc_iload_n (pc := 9) hC dJ16_newLength_9 rfl rfl ?_
  refine rc_icmp_ge (pc := 10) (tgt := 21) hC dJ16_newLength_10 rfl h ?_ ?_
  · intro _ h
    refine rc_drop [true, true, false, false] (L' := [some (rc_i v0), some (rc_i v1), none, none]) rfl ?_
    exact rw_J16_newLength_L21 hC hH  v0 v1 S h
  intro _ h
  refine rc_iload_n (pc := 13) hC dJ16_newLength_13 rfl rfl ?_
  refine rc_ldc (pc := 14) hC (v := (2147483639 : Int32)) q450 dJ16_newLength_14 ?_
  refine rc_icmp_gt (pc := 16) (tgt := 21) hC dJ16_newLength_16 rfl h ?_ ?_
  · intro _ h
    refine rc_drop [true, true, false, false] (L' := [some (rc_i v0), some (rc_i v1), none, none]) rfl ?_
    exact rw_J16_newLength_L21 hC hH  v0 v1 S h
  intro _ h
  refine rc_iload_n (pc := 19) hC dJ16_newLength_19 rfl rfl ?_
  exact rc_iret hC rfl rfl dJ16_newLength_20 h rfl
theorem rw_J10_copyOf_3 {l : Launch} (hl : l.stackTraces = false) (v0 : Option Nat) (v1 : Int32) (v2 : Option Nat) : rc_Ct l yJ10_copyOf_3 (ws_ yJ10_copyOf_3 cJ10_copyOf_3 4 (Option.some (Jvm.ClassFile.FieldType.array (Jvm.ClassFile.FieldType.object "java/lang/Object")))) 1 40 rc_tQ (rp_J10_copyOf_3 v0 v1 v2) [rc_q v0, rc_i v1, rc_q v2] := by
  refine rc_Ct_H hl (plainFor_of_name rY_J10) rfl (Nat.le_of_ble_eq_true rfl) (L0 := [some (rc_q v0), some (rc_i v1), some (rc_q v2), none]) rfl ?_
  intro Y S hC hH h
  have hC : rc_C Y cJ10_copyOf_3 RJ10 (Option.some (Jvm.ClassFile.FieldType.array (Jvm.ClassFile.FieldType.object "java/lang/Object"))) 4 := hC
  unfold rp_J10_copyOf_3 at h
  refine rc_aload_n (pc := 0) hC dJ10_copyOf_3_0 rfl rfl ?_
  refine rc_r_mir (pc := 1) hC q900 dJ10_copyOf_3_1 h ?_
  intro x1 h
  refine rc_acmp_ne (pc := 3) (tgt := 13) hC dJ10_copyOf_3_3 rfl h ?_ ?_
  · intro _ h
    refine rc_aload_n (pc := 13) hC dJ10_copyOf_3_13 rfl rfl ?_
    exact h.fail.elim
  intro _ h
  refine rc_iload_n (pc := 6) hC dJ10_copyOf_3_6 rfl rfl ?_
  refine rc_r_newq (pc := 7) hC q901 dJ10_copyOf_3_7 h ?_
  intro x2 S h
  refine rc_goto (pc := 10) (tgt := 24) hC dJ10_copyOf_3_10 rfl ?_
  refine rc_astore_n (pc := 24) hC (L' := [some (rc_q v0), some (rc_i v1), some (rc_q v2), some (rc_q x2)]) dJ10_copyOf_3_24 rfl (Nat.le_of_ble_eq_true rfl) rfl rfl ?_
  refine rc_aload_n (pc := 25) hC dJ10_copyOf_3_25 rfl rfl ?_
  refine rc_iconst (pc := 26) hC (v := (0 : Int32)) dJ10_copyOf_3_26 rfl ?_
  refine rc_aload_n (pc := 27) hC dJ10_copyOf_3_27 rfl rfl ?_
  refine rc_iconst (pc := 28) hC (v := (0 : Int32)) dJ10_copyOf_3_28 rfl ?_
  refine rc_aload_n (pc := 29) hC dJ10_copyOf_3_29 rfl rfl ?_
  refine rc_r_alen (pc := 30) hC dJ10_copyOf_3_30 h ?_
  intro x3 h
  refine rc_iload_n (pc := 31) hC dJ10_copyOf_3_31 rfl rfl ?_
  refine rc_callS (pc := 32) hC (rw_J17_min hH.1 x3 v1) q465 q466 q139 q467 rd_J17_min (hH.room (Nat.le_of_ble_eq_true rfl) (Nat.le_of_ble_eq_true rfl)) rfl rfl (Nat.le_of_ble_eq_true rfl) 2 rfl h.le.2.2 h.br rfl dJ10_copyOf_3_32 ?_ (fun E q S hT => rc_out hC hH.2.2.2.2 hT)
  intro x4 S h
  show rc_Z Y S 35 [some (rc_q v0), some (rc_i v1), some (rc_q v2), some (rc_q x2)] [rc_i x4, rc_i (0 : Int32), rc_q x2, rc_i (0 : Int32), rc_q v0]
  refine rc_r_acopy (pc := 35) (t := 4) hC q468 q470 q469 q140 (hH.frm (Nat.le_of_ble_eq_true rfl)) (hH.lom (Nat.le_of_ble_eq_true rfl)) rfl rfl (Nat.le_of_ble_eq_true rfl) dJ10_copyOf_3_35 h ?_
  intro S h
  refine rc_aload_n (pc := 38) hC dJ10_copyOf_3_38 rfl rfl ?_
  exact rc_aret hC rfl (by first | exact Or.inl ⟨_, rfl⟩ | exact Or.inr ⟨_, rfl⟩) dJ10_copyOf_3_39 h rfl
theorem rw_J10_copyOf_2 {l : Launch} (hl : l.stackTraces = false) (v0 : Option Nat) (v1 : Int32) : rc_Ct l yJ10_copyOf_2 (ws_ yJ10_copyOf_2 cJ10_copyOf_2 2 (Option.some (Jvm.ClassFile.FieldType.array (Jvm.ClassFile.FieldType.object "java/lang/Object")))) 2 63 rc_tQ (rp_J10_copyOf_2 v0 v1) [rc_q v0, rc_i v1] := by
  refine rc_Ct_H hl (plainFor_of_name rY_J10) rfl (Nat.le_of_ble_eq_true rfl) (L0 := [some (rc_q v0), some (rc_i v1)]) rfl ?_
  intro Y S hC hH h
  have hC : rc_C Y cJ10_copyOf_2 RJ10 (Option.some (Jvm.ClassFile.FieldType.array (Jvm.ClassFile.FieldType.object "java/lang/Object"))) 2 := hC
  unfold rp_J10_copyOf_2 at h
  refine rc_aload_n (pc := 0) hC dJ10_copyOf_2_0 rfl rfl ?_
  refine rc_iload_n (pc := 1) hC dJ10_copyOf_2_1 rfl rfl ?_
  refine rc_aload_n (pc := 2) hC dJ10_copyOf_2_2 rfl rfl ?_
  refine rc_r_getC (pc := 3) hC q871 (hH.frm (Nat.le_of_ble_eq_true rfl)) (hH.lom (Nat.le_of_ble_eq_true rfl)) rfl rfl (Nat.le_of_ble_eq_true rfl) dJ10_copyOf_2_3 h ?_
  intro x1 h
  refine rc_callS (pc := 6) hC (rw_J10_copyOf_3 hH.1 v0 v1 x1) q897 q898 q131 q899 rd_J10_copyOf_3 (hH.room (Nat.le_of_ble_eq_true rfl) (Nat.le_of_ble_eq_true rfl)) rfl rfl (Nat.le_of_ble_eq_true rfl) 3 rfl h.le.2.2 h.br rfl dJ10_copyOf_2_6 ?_ (fun E q S hT => rc_out hC hH.2.2.2.2 hT)
  intro x2 S h
  show rc_Z Y S 9 [some (rc_q v0), some (rc_i v1)] [rc_q x2]
  exact rc_aret hC rfl (by first | exact Or.inl ⟨_, rfl⟩ | exact Or.inr ⟨_, rfl⟩) dJ10_copyOf_2_9 h rfl
theorem rw_J7_grow_2_L20 {Y : rc_Y} (hC : rc_C Y cJ7_grow_2 RJ7 (Option.some (Jvm.ClassFile.FieldType.array (Jvm.ClassFile.FieldType.object "java/lang/Object"))) 4) (hH : rc_H Y 3 84 yJ7_grow_2.name) (v0 : Option Nat) (v1 : Int32) (v2 : Int32) (S : rc_S) (h : rc_Go Y rc_tQ (rp_J7_grow_2_L20  v0 v1 v2) S) : rc_Z Y S 20 [some (rc_q v0), some (rc_i v1), some (rc_i v2), none] [] := by
  unfold rp_J7_grow_2_L20 at h
  refine rc_iload_n (pc := 20) hC dJ7_grow_2_20 rfl rfl ?_
  refine rc_iload_n (pc := 21) hC dJ7_grow_2_21 rfl rfl ?_
  refine rc_iload_n (pc := 22) hC dJ7_grow_2_22 rfl rfl ?_
  refine rc_isub (pc := 23) hC dJ7_grow_2_23 ?_
  refine rc_iload_n (pc := 24) hC dJ7_grow_2_24 rfl rfl ?_
  refine rc_iconst (pc := 25) hC (v := (1 : Int32)) dJ7_grow_2_25 rfl ?_
  refine rc_ishr (pc := 26) hC dJ7_grow_2_26 ?_
  refine rc_callS (pc := 27) hC (rw_J16_newLength hH.1 v2 (v1 - v2) (v2 >>> ((1 : Int32) &&& 31))) q867 q445 q138 q446 rd_J16_newLength (hH.room (Nat.le_of_ble_eq_true rfl) (Nat.le_of_ble_eq_true rfl)) rfl rfl (Nat.le_of_ble_eq_true rfl) 3 rfl h.le.2.2 h.br rfl dJ7_grow_2_27 ?_ (fun E q S hT => rc_out hC hH.2.2.2.2 hT)
  intro x1 S h
  show rc_Z Y S 30 [some (rc_q v0), some (rc_i v1), some (rc_i v2), none] [rc_i x1]
  refine rc_istore_n (pc := 30) hC (L' := [some (rc_q v0), some (rc_i v1), some (rc_i v2), some (rc_i x1)]) dJ7_grow_2_30 rfl (Nat.le_of_ble_eq_true rfl) rfl rfl ?_
  refine rc_aload_n (pc := 31) hC dJ7_grow_2_31 rfl rfl ?_
  refine rc_aload_n (pc := 32) hC dJ7_grow_2_32 rfl rfl ?_
  refine rc_r_getq (pc := 33) hC rF_J7_9 dJ7_grow_2_33 h ?_
  intro x2 h
  refine rc_iload_n (pc := 36) hC dJ7_grow_2_36 rfl rfl ?_
  refine rc_callS (pc := 37) hC (rw_J10_copyOf_2 hH.1 x2 x1) q868 q869 q131 q870 rd_J10_copyOf_2 (hH.room (Nat.le_of_ble_eq_true rfl) (Nat.le_of_ble_eq_true rfl)) rfl rfl (Nat.le_of_ble_eq_true rfl) 2 rfl h.le.2.2 h.br rfl dJ7_grow_2_37 ?_ (fun E q S hT => rc_out hC hH.2.2.2.2 hT)
  intro x3 S h
  show rc_Z Y S 40 [some (rc_q v0), some (rc_i v1), some (rc_i v2), some (rc_i x1)] [rc_q x3, rc_q v0]
  refine rc_dup_x1 (pc := 40) hC dJ7_grow_2_40 rfl rfl ?_
  refine rc_r_put (pc := 41) hC rP_J7_9 (nofun) dJ7_grow_2_41 h ?_
  intro S h
  exact rc_aret hC rfl (by first | exact Or.inl ⟨_, rfl⟩ | exact Or.inr ⟨_, rfl⟩) dJ7_grow_2_44 h rfl
theorem rw_J7_grow_2 {l : Launch} (hl : l.stackTraces = false) (v0 : Option Nat) (v1 : Int32) : rc_Ct l yJ7_grow_2 (ws_ yJ7_grow_2 cJ7_grow_2 4 (Option.some (Jvm.ClassFile.FieldType.array (Jvm.ClassFile.FieldType.object "java/lang/Object")))) 3 84 rc_tQ (rp_J7_grow_2 v0 v1) [rc_q v0, rc_i v1] := by
  refine rc_Ct_H hl (plainFor_of_name rY_J7) rfl (Nat.le_of_ble_eq_true rfl) (L0 := [some (rc_q v0), some (rc_i v1), none, none]) rfl ?_
  intro Y S hC hH h
  have hC : rc_C Y cJ7_grow_2 RJ7 (Option.some (Jvm.ClassFile.FieldType.array (Jvm.ClassFile.FieldType.object "java/lang/Object"))) 4 := hC
  unfold rp_J7_grow_2 at h
  refine rc_aload_n (pc := 0) hC dJ7_grow_2_0 rfl rfl ?_
  refine rc_r_getq (pc := 1) hC rF_J7_9 dJ7_grow_2_1 h ?_
  intro x1 h
  refine rc_r_alen (pc := 4) hC dJ7_grow_2_4 h ?_
  intro x2 h
  refine rc_istore_n (pc := 5) hC (L' := [some (rc_q v0), some (rc_i v1), some (rc_i x2), none]) dJ7_grow_2_5 rfl (Nat.le_of_ble_eq_true rfl) rfl rfl ?_
  refine rc_iload_n (pc := 6) hC dJ7_grow_2_6 rfl rfl ?_
  refine rc_if_gt (pc := 7) (tgt := 20) hC dJ7_grow_2_7 rfl h ?_ ?_
  · intro _ h
    exact rw_J7_grow_2_L20 hC hH  v0 v1 x2 S h
  intro _ h
  refine rc_aload_n (pc := 10) hC dJ7_grow_2_10 rfl rfl ?_
  refine rc_r_getq (pc := 11) hC rF_J7_9 dJ7_grow_2_11 h ?_
  intro x3 h
  refine rc_r_stat (pc := 14) hC rS_J7_39 dJ7_grow_2_14 h ?_
  intro x4 h
  refine rc_acmp_eq (pc := 17) (tgt := 45) hC dJ7_grow_2_17 rfl h ?_ ?_
  · intro _ h
    refine rc_aload_n (pc := 45) hC dJ7_grow_2_45 rfl rfl ?_
    refine rc_bipush (pc := 46) hC (v := (10 : Int32)) dJ7_grow_2_46 rfl ?_
    refine rc_iload_n (pc := 48) hC dJ7_grow_2_48 rfl rfl ?_
    refine rc_callS (pc := 49) hC (rw_J17_max hH.1 (10 : Int32) v1) q902 q448 q139 q449 rd_J17_max (hH.room (Nat.le_of_ble_eq_true rfl) (Nat.le_of_ble_eq_true rfl)) rfl rfl (Nat.le_of_ble_eq_true rfl) 2 rfl h.le.2.2 h.br rfl dJ7_grow_2_49 ?_ (fun E q S hT => rc_out hC hH.2.2.2.2 hT)
    intro x5 S h
    show rc_Z Y S 52 [some (rc_q v0), some (rc_i v1), some (rc_i x2), none] [rc_i x5, rc_q v0]
    refine rc_r_newq (pc := 52) hC q903 dJ7_grow_2_52 h ?_
    intro x6 S h
    refine rc_dup_x1 (pc := 55) hC dJ7_grow_2_55 rfl rfl ?_
    refine rc_r_put (pc := 56) hC rP_J7_9 (nofun) dJ7_grow_2_56 h ?_
    intro S h
    exact rc_aret hC rfl (by first | exact Or.inl ⟨_, rfl⟩ | exact Or.inr ⟨_, rfl⟩) dJ7_grow_2_59 h rfl
  intro _ h
  exact rw_J7_grow_2_L20 hC hH  v0 v1 x2 S h
theorem rw_J7_grow {l : Launch} (hl : l.stackTraces = false) (v0 : Option Nat) : rc_Ct l yJ7_grow (ws_ yJ7_grow cJ7_grow 1 (Option.some (Jvm.ClassFile.FieldType.array (Jvm.ClassFile.FieldType.object "java/lang/Object")))) 4 107 rc_tQ (rp_J7_grow v0) [rc_q v0] := by
  refine rc_Ct_H hl (plainFor_of_name rY_J7) rfl (Nat.le_of_ble_eq_true rfl) (L0 := [some (rc_q v0)]) rfl ?_
  intro Y S hC hH h
  have hC : rc_C Y cJ7_grow RJ7 (Option.some (Jvm.ClassFile.FieldType.array (Jvm.ClassFile.FieldType.object "java/lang/Object"))) 1 := hC
  unfold rp_J7_grow at h
  refine rc_aload_n (pc := 0) hC dJ7_grow_0 rfl rfl ?_
  refine rc_aload_n (pc := 1) hC dJ7_grow_1 rfl rfl ?_
  refine rc_r_geti (pc := 2) hC rF_J7_48 dJ7_grow_2 h ?_
  intro x1 h
  refine rc_iconst (pc := 5) hC (v := (1 : Int32)) dJ7_grow_5 rfl ?_
  refine rc_iadd (pc := 6) hC dJ7_grow_6 ?_
  obtain ⟨⟨fs, ho⟩, h⟩ := h.is
  refine rc_callV (pc := 7) hC rfl ho (rw_J7_grow_2 hH.1 v0 (x1 + (1 : Int32))) q863 q865 qs12 q128 q866 rfl rd_J7_grow_2 (hH.room (Nat.le_of_ble_eq_true rfl) (Nat.le_of_ble_eq_true rfl)) rfl rfl (Nat.le_of_ble_eq_true rfl) 1 rfl h.le.2.2 h.br rfl dJ7_grow_7 ?_ (fun E q S hT => rc_out hC hH.2.2.2.2 hT)
  intro x2 S h
  show rc_Z Y S 10 [some (rc_q v0)] [rc_q x2]
  exact rc_aret hC rfl (by first | exact Or.inl ⟨_, rfl⟩ | exact Or.inr ⟨_, rfl⟩) dJ7_grow_10 h rfl
theorem rw_J7_add_2_L11 {Y : rc_Y} (hC : rc_C Y cJ7_add_2 RJ7 (Option.none : Option Jvm.ClassFile.FieldType) 4) (hH : rc_H Y 5 127 yJ7_add_2.name) (v0 : Option Nat) (v1 : Option Nat) (v2 : Option Nat) (v3 : Int32) (S : rc_S) (h : rc_Go Y rc_tU (rp_J7_add_2_L11  v0 v1 v2 v3) S) : rc_Z Y S 11 [some (rc_q v0), some (rc_q v1), some (rc_q v2), some (rc_i v3)] [] := by
  unfold rp_J7_add_2_L11 at h
  refine rc_aload_n (pc := 11) hC dJ7_add_2_11 rfl rfl ?_
  refine rc_iload_n (pc := 12) hC dJ7_add_2_12 rfl rfl ?_
  refine rc_aload_n (pc := 13) hC dJ7_add_2_13 rfl rfl ?_
  refine rc_r_aast (pc := 14) hC dJ7_add_2_14 h ?_
  intro S h
  refine rc_aload_n (pc := 15) hC dJ7_add_2_15 rfl rfl ?_
  refine rc_iload_n (pc := 16) hC dJ7_add_2_16 rfl rfl ?_
  refine rc_iconst (pc := 17) hC (v := (1 : Int32)) dJ7_add_2_17 rfl ?_
  refine rc_iadd (pc := 18) hC dJ7_add_2_18 ?_
  refine rc_r_put (pc := 19) hC rP_J7_48 (nofun) dJ7_add_2_19 h ?_
  intro S h
  exact rc_vret hC rfl dJ7_add_2_22 h rfl
theorem rw_J7_add_2 {l : Launch} (hl : l.stackTraces = false) (v0 : Option Nat) (v1 : Option Nat) (v2 : Option Nat) (v3 : Int32) : rc_Ct l yJ7_add_2 (ws_ yJ7_add_2 cJ7_add_2 4 (Option.none : Option Jvm.ClassFile.FieldType)) 5 127 rc_tU (rp_J7_add_2 v0 v1 v2 v3) [rc_q v0, rc_q v1, rc_q v2, rc_i v3] := by
  refine rc_Ct_H hl (plainFor_of_name rY_J7) rfl (Nat.le_of_ble_eq_true rfl) (L0 := [some (rc_q v0), some (rc_q v1), some (rc_q v2), some (rc_i v3)]) rfl ?_
  intro Y S hC hH h
  have hC : rc_C Y cJ7_add_2 RJ7 (Option.none : Option Jvm.ClassFile.FieldType) 4 := hC
  unfold rp_J7_add_2 at h
  refine rc_iload_n (pc := 0) hC dJ7_add_2_0 rfl rfl ?_
  refine rc_aload_n (pc := 1) hC dJ7_add_2_1 rfl rfl ?_
  refine rc_r_alen (pc := 2) hC dJ7_add_2_2 h ?_
  intro x1 h
  refine rc_icmp_ne (pc := 3) (tgt := 11) hC dJ7_add_2_3 rfl h ?_ ?_
  · intro _ h
    exact rw_J7_add_2_L11 hC hH  v0 v1 v2 v3 S h
  intro _ h
  refine rc_aload_n (pc := 6) hC dJ7_add_2_6 rfl rfl ?_
  obtain ⟨⟨fs, ho⟩, h⟩ := h.is
  refine rc_callV (pc := 7) hC rfl ho (rw_J7_grow hH.1 v0) q859 q861 qs11 q128 q862 rfl rd_J7_grow (hH.room (Nat.le_of_ble_eq_true rfl) (Nat.le_of_ble_eq_true rfl)) rfl rfl (Nat.le_of_ble_eq_true rfl) 0 rfl h.le.2.2 h.br rfl dJ7_add_2_7 ?_ (fun E q S hT => rc_out hC hH.2.2.2.2 hT)
  intro x2 S h
  show rc_Z Y S 10 [some (rc_q v0), some (rc_q v1), some (rc_q v2), some (rc_i v3)] [rc_q x2]
  refine rc_astore_n (pc := 10) hC (L' := [some (rc_q v0), some (rc_q v1), some (rc_q x2), some (rc_i v3)]) dJ7_add_2_10 rfl (Nat.le_of_ble_eq_true rfl) rfl rfl ?_
  exact rw_J7_add_2_L11 hC hH  v0 v1 x2 v3 S h
theorem rw_J7_add {l : Launch} (hl : l.stackTraces = false) (v0 : Option Nat) (v1 : Option Nat) : rc_Ct l yJ7_add (ws_ yJ7_add cJ7_add 2 (Option.some Jvm.ClassFile.FieldType.boolean)) 6 150 rc_tI (rp_J7_add v0 v1) [rc_q v0, rc_q v1] := by
  refine rc_Ct_H hl (plainFor_of_name rY_J7) rfl (Nat.le_of_ble_eq_true rfl) (L0 := [some (rc_q v0), some (rc_q v1)]) rfl ?_
  intro Y S hC hH h
  have hC : rc_C Y cJ7_add RJ7 (Option.some Jvm.ClassFile.FieldType.boolean) 2 := hC
  unfold rp_J7_add at h
  refine rc_aload_n (pc := 0) hC dJ7_add_0 rfl rfl ?_
  refine rc_dup (pc := 1) hC dJ7_add_1 rfl ?_
  refine rc_r_geti (pc := 2) hC rF_J7_63 dJ7_add_2 h ?_
  intro x1 h
  refine rc_iconst (pc := 5) hC (v := (1 : Int32)) dJ7_add_5 rfl ?_
  refine rc_iadd (pc := 6) hC dJ7_add_6 ?_
  refine rc_r_put (pc := 7) hC rP_J7_63 (nofun) dJ7_add_7 h ?_
  intro S h
  refine rc_aload_n (pc := 10) hC dJ7_add_10 rfl rfl ?_
  refine rc_aload_n (pc := 11) hC dJ7_add_11 rfl rfl ?_
  refine rc_aload_n (pc := 12) hC dJ7_add_12 rfl rfl ?_
  refine rc_r_getq (pc := 13) hC rF_J7_9 dJ7_add_13 h ?_
  intro x2 h
  refine rc_aload_n (pc := 16) hC dJ7_add_16 rfl rfl ?_
  refine rc_r_geti (pc := 17) hC rF_J7_48 dJ7_add_17 h ?_
  intro x3 h
  obtain ⟨⟨fs, ho⟩, h⟩ := h.is
  refine rc_callV (pc := 20) hC rfl ho (rw_J7_add_2 hH.1 v0 v1 x2 x3) q855 q857 qs10 q128 q858 rfl rd_J7_add_2 (hH.room (Nat.le_of_ble_eq_true rfl) (Nat.le_of_ble_eq_true rfl)) rfl rfl (Nat.le_of_ble_eq_true rfl) 3 rfl h.le.2.2 h.br rfl dJ7_add_20 ?_ (fun E q S hT => rc_out hC hH.2.2.2.2 hT)
  intro _ S h
  show rc_Z Y S 23 [some (rc_q v0), some (rc_q v1)] []
  refine rc_iconst (pc := 23) hC (v := (1 : Int32)) dJ7_add_23 rfl ?_
  exact rc_iret hC rfl rfl dJ7_add_24 h rfl
theorem rw_J18_init {l : Launch} (hl : l.stackTraces = false) (v0 : Option Nat) : rc_Ct l yJ18_init (ws_ yJ18_init cJ18_init 1 (Option.none : Option Jvm.ClassFile.FieldType)) 1 20 rc_tU (rp_J18_init v0) [rc_q v0] := by
  refine rc_Ct_H hl (plainFor_of_name rY_J18) rfl (Nat.le_of_ble_eq_true rfl) (L0 := [some (rc_q v0)]) rfl ?_
  intro Y S hC hH h
  have hC : rc_C Y cJ18_init RJ18 (Option.none : Option Jvm.ClassFile.FieldType) 1 := hC
  unfold rp_J18_init at h
  refine rc_aload_n (pc := 0) hC dJ18_init_0 rfl rfl ?_
  refine rc_objInit (pc := 1) hC q920 q162 q163 rfl dJ18_init_1 (hH.frm (Nat.le_of_ble_eq_true rfl)) (hH.lom (Nat.le_of_ble_eq_true rfl)) (Nat.zero_le _) h ?_
  intro h
  exact rc_vret hC rfl dJ18_init_4 h rfl
theorem rw_J19_checkIndex {l : Launch} (hl : l.stackTraces = false) (v0 : Int32) (v1 : Int32) : rc_Ct l yJ19_checkIndex (ws_ yJ19_checkIndex cJ19_checkIndex 2 (Option.some Jvm.ClassFile.FieldType.int)) 1 22 rc_tI (rp_J19_checkIndex v0 v1) [rc_i v0, rc_i v1] := by
  refine rc_Ct_H hl (plainFor_of_name rY_J19) rfl (Nat.le_of_ble_eq_true rfl) (L0 := [some (rc_i v0), some (rc_i v1)]) rfl ?_
  intro Y S hC hH h
  have hC : rc_C Y cJ19_checkIndex RJ19 (Option.some Jvm.ClassFile.FieldType.int) 2 := hC
  unfold rp_J19_checkIndex at h
  refine rc_iload_n (pc := 0) hC dJ19_checkIndex_0 rfl rfl ?_
  refine rc_iload_n (pc := 1) hC dJ19_checkIndex_1 rfl rfl ?_
  refine rc_null (pc := 2) hC dJ19_checkIndex_2 ?_
  refine rc_callS (pc := 3) hC (rw_J9_checkIndex hH.1 v0 v1 none) q949 q332 q130 q333 rd_J9_checkIndex (hH.room (Nat.le_of_ble_eq_true rfl) (Nat.le_of_ble_eq_true rfl)) rfl rfl (Nat.le_of_ble_eq_true rfl) 3 rfl h.le.2.2 h.br rfl dJ19_checkIndex_3 ?_ (fun E q S hT => rc_out hC hH.2.2.2.2 hT)
  intro x1 S h
  show rc_Z Y S 6 [some (rc_i v0), some (rc_i v1)] [rc_i x1]
  exact rc_iret hC rfl rfl dJ19_checkIndex_6 h rfl
theorem rw_J7_elementData {l : Launch} (hl : l.stackTraces = false) (v0 : Option Nat) (v1 : Int32) : rc_Ct l yJ7_elementData (ws_ yJ7_elementData cJ7_elementData 2 (Option.some (Jvm.ClassFile.FieldType.object "java/lang/Object"))) 0 0 rc_tQ (rp_J7_elementData v0 v1) [rc_q v0, rc_i v1] := by
  refine rc_Ct_H hl (plainFor_of_name rY_J7) rfl (Nat.le_of_ble_eq_true rfl) (L0 := [some (rc_q v0), some (rc_i v1)]) rfl ?_
  intro Y S hC hH h
  have hC : rc_C Y cJ7_elementData RJ7 (Option.some (Jvm.ClassFile.FieldType.object "java/lang/Object")) 2 := hC
  unfold rp_J7_elementData at h
  refine rc_aload_n (pc := 0) hC dJ7_elementData_0 rfl rfl ?_
  refine rc_r_getq (pc := 1) hC rF_J7_9 dJ7_elementData_1 h ?_
  intro x1 h
  refine rc_iload_n (pc := 4) hC dJ7_elementData_4 rfl rfl ?_
  refine rc_r_aald (pc := 5) hC dJ7_elementData_5 h ?_
  intro x2 h
  exact rc_aret hC rfl (by first | exact Or.inl ⟨_, rfl⟩ | exact Or.inr ⟨_, rfl⟩) dJ7_elementData_6 h rfl
theorem rw_J7_get {l : Launch} (hl : l.stackTraces = false) (v0 : Option Nat) (v1 : Int32) : rc_Ct l yJ7_get (ws_ yJ7_get cJ7_get 2 (Option.some (Jvm.ClassFile.FieldType.object "java/lang/Object"))) 2 43 rc_tQ (rp_J7_get v0 v1) [rc_q v0, rc_i v1] := by
  refine rc_Ct_H hl (plainFor_of_name rY_J7) rfl (Nat.le_of_ble_eq_true rfl) (L0 := [some (rc_q v0), some (rc_i v1)]) rfl ?_
  intro Y S hC hH h
  have hC : rc_C Y cJ7_get RJ7 (Option.some (Jvm.ClassFile.FieldType.object "java/lang/Object")) 2 := hC
  unfold rp_J7_get at h
  refine rc_iload_n (pc := 0) hC dJ7_get_0 rfl rfl ?_
  refine rc_aload_n (pc := 1) hC dJ7_get_1 rfl rfl ?_
  refine rc_r_geti (pc := 2) hC rF_J7_48 dJ7_get_2 h ?_
  intro x1 h
  refine rc_callS (pc := 5) hC (rw_J19_checkIndex hH.1 v1 x1) q946 q947 q145 q948 rd_J19_checkIndex (hH.room (Nat.le_of_ble_eq_true rfl) (Nat.le_of_ble_eq_true rfl)) rfl rfl (Nat.le_of_ble_eq_true rfl) 2 rfl h.le.2.2 h.br rfl dJ7_get_5 ?_ (fun E q S hT => rc_out hC hH.2.2.2.2 hT)
  intro x2 S h
  show rc_Z Y S 8 [some (rc_q v0), some (rc_i v1)] [rc_i x2]
  refine rc_pop (pc := 8) hC dJ7_get_8 rfl ?_
  refine rc_aload_n (pc := 9) hC dJ7_get_9 rfl rfl ?_
  refine rc_iload_n (pc := 10) hC dJ7_get_10 rfl rfl ?_
  obtain ⟨⟨fs, ho⟩, h⟩ := h.is
  refine rc_callV (pc := 11) hC rfl ho (rw_J7_elementData hH.1 v0 v1) q950 q951 q952 q128 q953 rfl rd_J7_elementData (hH.room (Nat.le_of_ble_eq_true rfl) (Nat.le_of_ble_eq_true rfl)) rfl rfl (Nat.le_of_ble_eq_true rfl) 1 rfl h.le.2.2 h.br rfl dJ7_get_11 ?_ (fun E q S hT => rc_out hC hH.2.2.2.2 hT)
  intro x3 S h
  show rc_Z Y S 14 [some (rc_q v0), some (rc_i v1)] [rc_q x3]
  exact rc_aret hC rfl (by first | exact Or.inl ⟨_, rfl⟩ | exact Or.inr ⟨_, rfl⟩) dJ7_get_14 h rfl
theorem rw_J15_bitCount {l : Launch} (hl : l.stackTraces = false) (v0 : Int32) : rc_Ct l yJ15_bitCount (ws_ yJ15_bitCount cJ15_bitCount 1 (Option.some Jvm.ClassFile.FieldType.int)) 0 0 rc_tI (rp_J15_bitCount v0) [rc_i v0] := by
  refine rc_Ct_H hl (plainFor_of_name rY_J15) rfl (Nat.le_of_ble_eq_true rfl) (L0 := [some (rc_i v0)]) rfl ?_
  intro Y S hC hH h
  have hC : rc_C Y cJ15_bitCount RJ15 (Option.some Jvm.ClassFile.FieldType.int) 1 := hC
  unfold rp_J15_bitCount at h
  refine rc_iload_n (pc := 0) hC dJ15_bitCount_0 rfl rfl ?_
  refine rc_iload_n (pc := 1) hC dJ15_bitCount_1 rfl rfl ?_
  refine rc_iconst (pc := 2) hC (v := (1 : Int32)) dJ15_bitCount_2 rfl ?_
  refine rc_iushr (pc := 3) hC dJ15_bitCount_3 ?_
  refine rc_ldcw (pc := 4) hC (v := (1431655765 : Int32)) q1012 dJ15_bitCount_4 ?_
  refine rc_iand (pc := 7) hC dJ15_bitCount_7 ?_
  refine rc_isub (pc := 8) hC dJ15_bitCount_8 ?_
  refine rc_istore_n (pc := 9) hC (L' := [some (rc_i (v0 - (((v0.toUInt32 >>> ((1 : Int32).toUInt32 &&& Int32.toUInt32 31)).toInt32) &&& (1431655765 : Int32))))]) dJ15_bitCount_9 rfl (Nat.le_of_ble_eq_true rfl) rfl rfl ?_
  refine rc_iload_n (pc := 10) hC dJ15_bitCount_10 rfl rfl ?_
  refine rc_ldcw (pc := 11) hC (v := (858993459 : Int32)) q1013 dJ15_bitCount_11 ?_
  refine rc_iand (pc := 14) hC dJ15_bitCount_14 ?_
  refine rc_iload_n (pc := 15) hC dJ15_bitCount_15 rfl rfl ?_
  refine rc_iconst (pc := 16) hC (v := (2 : Int32)) dJ15_bitCount_16 rfl ?_
  refine rc_iushr (pc := 17) hC dJ15_bitCount_17 ?_
  refine rc_ldcw (pc := 18) hC (v := (858993459 : Int32)) q1013 dJ15_bitCount_18 ?_
  refine rc_iand (pc := 21) hC dJ15_bitCount_21 ?_
  refine rc_iadd (pc := 22) hC dJ15_bitCount_22 ?_
  refine rc_istore_n (pc := 23) hC (L' := [some (rc_i (((v0 - (((v0.toUInt32 >>> ((1 : Int32).toUInt32 &&& Int32.toUInt32 31)).toInt32) &&& (1431655765 : Int32))) &&& (858993459 : Int32)) + ((((v0 - (((v0.toUInt32 >>> ((1 : Int32).toUInt32 &&& Int32.toUInt32 31)).toInt32) &&& (1431655765 : Int32))).toUInt32 >>> ((2 : Int32).toUInt32 &&& Int32.toUInt32 31)).toInt32) &&& (858993459 : Int32))))]) dJ15_bitCount_23 rfl (Nat.le_of_ble_eq_true rfl) rfl rfl ?_
  refine rc_iload_n (pc := 24) hC dJ15_bitCount_24 rfl rfl ?_
  refine rc_iload_n (pc := 25) hC dJ15_bitCount_25 rfl rfl ?_
  refine rc_iconst (pc := 26) hC (v := (4 : Int32)) dJ15_bitCount_26 rfl ?_
  refine rc_iushr (pc := 27) hC dJ15_bitCount_27 ?_
  refine rc_iadd (pc := 28) hC dJ15_bitCount_28 ?_
  refine rc_ldcw (pc := 29) hC (v := (252645135 : Int32)) q1014 dJ15_bitCount_29 ?_
  refine rc_iand (pc := 32) hC dJ15_bitCount_32 ?_
  refine rc_istore_n (pc := 33) hC (L' := [some (rc_i (((((v0 - (((v0.toUInt32 >>> ((1 : Int32).toUInt32 &&& Int32.toUInt32 31)).toInt32) &&& (1431655765 : Int32))) &&& (858993459 : Int32)) + ((((v0 - (((v0.toUInt32 >>> ((1 : Int32).toUInt32 &&& Int32.toUInt32 31)).toInt32) &&& (1431655765 : Int32))).toUInt32 >>> ((2 : Int32).toUInt32 &&& Int32.toUInt32 31)).toInt32) &&& (858993459 : Int32))) + (((((v0 - (((v0.toUInt32 >>> ((1 : Int32).toUInt32 &&& Int32.toUInt32 31)).toInt32) &&& (1431655765 : Int32))) &&& (858993459 : Int32)) + ((((v0 - (((v0.toUInt32 >>> ((1 : Int32).toUInt32 &&& Int32.toUInt32 31)).toInt32) &&& (1431655765 : Int32))).toUInt32 >>> ((2 : Int32).toUInt32 &&& Int32.toUInt32 31)).toInt32) &&& (858993459 : Int32))).toUInt32 >>> ((4 : Int32).toUInt32 &&& Int32.toUInt32 31)).toInt32)) &&& (252645135 : Int32)))]) dJ15_bitCount_33 rfl (Nat.le_of_ble_eq_true rfl) rfl rfl ?_
  refine rc_iload_n (pc := 34) hC dJ15_bitCount_34 rfl rfl ?_
  refine rc_iload_n (pc := 35) hC dJ15_bitCount_35 rfl rfl ?_
  refine rc_bipush (pc := 36) hC (v := (8 : Int32)) dJ15_bitCount_36 rfl ?_
  refine rc_iushr (pc := 38) hC dJ15_bitCount_38 ?_
  refine rc_iadd (pc := 39) hC dJ15_bitCount_39 ?_
  refine rc_istore_n (pc := 40) hC (L' := [some (rc_i ((((((v0 - (((v0.toUInt32 >>> ((1 : Int32).toUInt32 &&& Int32.toUInt32 31)).toInt32) &&& (1431655765 : Int32))) &&& (858993459 : Int32)) + ((((v0 - (((v0.toUInt32 >>> ((1 : Int32).toUInt32 &&& Int32.toUInt32 31)).toInt32) &&& (1431655765 : Int32))).toUInt32 >>> ((2 : Int32).toUInt32 &&& Int32.toUInt32 31)).toInt32) &&& (858993459 : Int32))) + (((((v0 - (((v0.toUInt32 >>> ((1 : Int32).toUInt32 &&& Int32.toUInt32 31)).toInt32) &&& (1431655765 : Int32))) &&& (858993459 : Int32)) + ((((v0 - (((v0.toUInt32 >>> ((1 : Int32).toUInt32 &&& Int32.toUInt32 31)).toInt32) &&& (1431655765 : Int32))).toUInt32 >>> ((2 : Int32).toUInt32 &&& Int32.toUInt32 31)).toInt32) &&& (858993459 : Int32))).toUInt32 >>> ((4 : Int32).toUInt32 &&& Int32.toUInt32 31)).toInt32)) &&& (252645135 : Int32)) + (((((((v0 - (((v0.toUInt32 >>> ((1 : Int32).toUInt32 &&& Int32.toUInt32 31)).toInt32) &&& (1431655765 : Int32))) &&& (858993459 : Int32)) + ((((v0 - (((v0.toUInt32 >>> ((1 : Int32).toUInt32 &&& Int32.toUInt32 31)).toInt32) &&& (1431655765 : Int32))).toUInt32 >>> ((2 : Int32).toUInt32 &&& Int32.toUInt32 31)).toInt32) &&& (858993459 : Int32))) + (((((v0 - (((v0.toUInt32 >>> ((1 : Int32).toUInt32 &&& Int32.toUInt32 31)).toInt32) &&& (1431655765 : Int32))) &&& (858993459 : Int32)) + ((((v0 - (((v0.toUInt32 >>> ((1 : Int32).toUInt32 &&& Int32.toUInt32 31)).toInt32) &&& (1431655765 : Int32))).toUInt32 >>> ((2 : Int32).toUInt32 &&& Int32.toUInt32 31)).toInt32) &&& (858993459 : Int32))).toUInt32 >>> ((4 : Int32).toUInt32 &&& Int32.toUInt32 31)).toInt32)) &&& (252645135 : Int32)).toUInt32 >>> ((8 : Int32).toUInt32 &&& Int32.toUInt32 31)).toInt32)))]) dJ15_bitCount_40 rfl (Nat.le_of_ble_eq_true rfl) rfl rfl ?_
  refine rc_iload_n (pc := 41) hC dJ15_bitCount_41 rfl rfl ?_
  refine rc_iload_n (pc := 42) hC dJ15_bitCount_42 rfl rfl ?_
  refine rc_bipush (pc := 43) hC (v := (16 : Int32)) dJ15_bitCount_43 rfl ?_
  refine rc_iushr (pc := 45) hC dJ15_bitCount_45 ?_
  refine rc_iadd (pc := 46) hC dJ15_bitCount_46 ?_
  refine rc_istore_n (pc := 47) hC (L' := [some (rc_i (((((((v0 - (((v0.toUInt32 >>> ((1 : Int32).toUInt32 &&& Int32.toUInt32 31)).toInt32) &&& (1431655765 : Int32))) &&& (858993459 : Int32)) + ((((v0 - (((v0.toUInt32 >>> ((1 : Int32).toUInt32 &&& Int32.toUInt32 31)).toInt32) &&& (1431655765 : Int32))).toUInt32 >>> ((2 : Int32).toUInt32 &&& Int32.toUInt32 31)).toInt32) &&& (858993459 : Int32))) + (((((v0 - (((v0.toUInt32 >>> ((1 : Int32).toUInt32 &&& Int32.toUInt32 31)).toInt32) &&& (1431655765 : Int32))) &&& (858993459 : Int32)) + ((((v0 - (((v0.toUInt32 >>> ((1 : Int32).toUInt32 &&& Int32.toUInt32 31)).toInt32) &&& (1431655765 : Int32))).toUInt32 >>> ((2 : Int32).toUInt32 &&& Int32.toUInt32 31)).toInt32) &&& (858993459 : Int32))).toUInt32 >>> ((4 : Int32).toUInt32 &&& Int32.toUInt32 31)).toInt32)) &&& (252645135 : Int32)) + (((((((v0 - (((v0.toUInt32 >>> ((1 : Int32).toUInt32 &&& Int32.toUInt32 31)).toInt32) &&& (1431655765 : Int32))) &&& (858993459 : Int32)) + ((((v0 - (((v0.toUInt32 >>> ((1 : Int32).toUInt32 &&& Int32.toUInt32 31)).toInt32) &&& (1431655765 : Int32))).toUInt32 >>> ((2 : Int32).toUInt32 &&& Int32.toUInt32 31)).toInt32) &&& (858993459 : Int32))) + (((((v0 - (((v0.toUInt32 >>> ((1 : Int32).toUInt32 &&& Int32.toUInt32 31)).toInt32) &&& (1431655765 : Int32))) &&& (858993459 : Int32)) + ((((v0 - (((v0.toUInt32 >>> ((1 : Int32).toUInt32 &&& Int32.toUInt32 31)).toInt32) &&& (1431655765 : Int32))).toUInt32 >>> ((2 : Int32).toUInt32 &&& Int32.toUInt32 31)).toInt32) &&& (858993459 : Int32))).toUInt32 >>> ((4 : Int32).toUInt32 &&& Int32.toUInt32 31)).toInt32)) &&& (252645135 : Int32)).toUInt32 >>> ((8 : Int32).toUInt32 &&& Int32.toUInt32 31)).toInt32)) + ((((((((v0 - (((v0.toUInt32 >>> ((1 : Int32).toUInt32 &&& Int32.toUInt32 31)).toInt32) &&& (1431655765 : Int32))) &&& (858993459 : Int32)) + ((((v0 - (((v0.toUInt32 >>> ((1 : Int32).toUInt32 &&& Int32.toUInt32 31)).toInt32) &&& (1431655765 : Int32))).toUInt32 >>> ((2 : Int32).toUInt32 &&& Int32.toUInt32 31)).toInt32) &&& (858993459 : Int32))) + (((((v0 - (((v0.toUInt32 >>> ((1 : Int32).toUInt32 &&& Int32.toUInt32 31)).toInt32) &&& (1431655765 : Int32))) &&& (858993459 : Int32)) + ((((v0 - (((v0.toUInt32 >>> ((1 : Int32).toUInt32 &&& Int32.toUInt32 31)).toInt32) &&& (1431655765 : Int32))).toUInt32 >>> ((2 : Int32).toUInt32 &&& Int32.toUInt32 31)).toInt32) &&& (858993459 : Int32))).toUInt32 >>> ((4 : Int32).toUInt32 &&& Int32.toUInt32 31)).toInt32)) &&& (252645135 : Int32)) + (((((((v0 - (((v0.toUInt32 >>> ((1 : Int32).toUInt32 &&& Int32.toUInt32 31)).toInt32) &&& (1431655765 : Int32))) &&& (858993459 : Int32)) + ((((v0 - (((v0.toUInt32 >>> ((1 : Int32).toUInt32 &&& Int32.toUInt32 31)).toInt32) &&& (1431655765 : Int32))).toUInt32 >>> ((2 : Int32).toUInt32 &&& Int32.toUInt32 31)).toInt32) &&& (858993459 : Int32))) + (((((v0 - (((v0.toUInt32 >>> ((1 : Int32).toUInt32 &&& Int32.toUInt32 31)).toInt32) &&& (1431655765 : Int32))) &&& (858993459 : Int32)) + ((((v0 - (((v0.toUInt32 >>> ((1 : Int32).toUInt32 &&& Int32.toUInt32 31)).toInt32) &&& (1431655765 : Int32))).toUInt32 >>> ((2 : Int32).toUInt32 &&& Int32.toUInt32 31)).toInt32) &&& (858993459 : Int32))).toUInt32 >>> ((4 : Int32).toUInt32 &&& Int32.toUInt32 31)).toInt32)) &&& (252645135 : Int32)).toUInt32 >>> ((8 : Int32).toUInt32 &&& Int32.toUInt32 31)).toInt32)).toUInt32 >>> ((16 : Int32).toUInt32 &&& Int32.toUInt32 31)).toInt32)))]) dJ15_bitCount_47 rfl (Nat.le_of_ble_eq_true rfl) rfl rfl ?_
  refine rc_iload_n (pc := 48) hC dJ15_bitCount_48 rfl rfl ?_
  refine rc_bipush (pc := 49) hC (v := (63 : Int32)) dJ15_bitCount_49 rfl ?_
  refine rc_iand (pc := 51) hC dJ15_bitCount_51 ?_
  exact rc_iret hC rfl rfl dJ15_bitCount_52 h rfl
theorem rw_J7_isEmpty {l : Launch} (hl : l.stackTraces = false) (v0 : Option Nat) : rc_Ct l yJ7_isEmpty (ws_ yJ7_isEmpty cJ7_isEmpty 1 (Option.some Jvm.ClassFile.FieldType.boolean)) 0 0 rc_tI (rp_J7_isEmpty v0) [rc_q v0] := by
  refine rc_Ct_H hl (plainFor_of_name rY_J7) rfl (Nat.le_of_ble_eq_true rfl) (L0 := [some (rc_q v0)]) rfl ?_
  intro Y S hC hH h
  have hC : rc_C Y cJ7_isEmpty RJ7 (Option.some Jvm.ClassFile.FieldType.boolean) 1 := hC
  unfold rp_J7_isEmpty at h
  refine rc_aload_n (pc := 0) hC dJ7_isEmpty_0 rfl rfl ?_
  refine rc_r_geti (pc := 1) hC rF_J7_48 dJ7_isEmpty_1 h ?_
  intro x1 h
  refine rc_if_ne (pc := 4) (tgt := 11) hC dJ7_isEmpty_4 rfl h ?_ ?_
  · intro _ h
    refine rc_iconst (pc := 11) hC (v := (0 : Int32)) dJ7_isEmpty_11 rfl ?_
    exact rc_iret hC rfl rfl dJ7_isEmpty_12 h rfl
  intro _ h
  refine rc_iconst (pc := 7) hC (v := (1 : Int32)) dJ7_isEmpty_7 rfl ?_
  refine rc_goto (pc := 8) (tgt := 12) hC dJ7_isEmpty_8 rfl ?_
  exact rc_iret hC rfl rfl dJ7_isEmpty_12 h rfl
theorem rw_J2_length {l : Launch} (hl : l.stackTraces = false) (v0 : Option Nat) : rc_Ct l yJ2_length (ws_ yJ2_length cJ2_length 1 (Option.some Jvm.ClassFile.FieldType.int)) 0 0 rc_tI (rp_J2_length v0) [rc_q v0] := by
  refine rc_Ct_H hl (plainFor_of_name rY_J2) rfl (Nat.le_of_ble_eq_true rfl) (L0 := [some (rc_q v0)]) rfl ?_
  intro Y S hC hH h
  have hC : rc_C Y cJ2_length RJ2 (Option.some Jvm.ClassFile.FieldType.int) 1 := hC
  unfold rp_J2_length at h
  refine rc_aload_n (pc := 0) hC dJ2_length_0 rfl rfl ?_
  refine rc_r_geti (pc := 1) hC rF_J2_79 dJ2_length_1 h ?_
  intro x1 h
  exact rc_iret hC rfl rfl dJ2_length_4 h rfl
theorem rw_J3_length {l : Launch} (hl : l.stackTraces = false) (v0 : Option Nat) : rc_Ct l yJ3_length (ws_ yJ3_length cJ3_length 1 (Option.some Jvm.ClassFile.FieldType.int)) 1 20 rc_tI (rp_J3_length v0) [rc_q v0] := by
  refine rc_Ct_H hl (plainFor_of_name rY_J3) rfl (Nat.le_of_ble_eq_true rfl) (L0 := [some (rc_q v0)]) rfl ?_
  intro Y S hC hH h
  have hC : rc_C Y cJ3_length RJ3 (Option.some Jvm.ClassFile.FieldType.int) 1 := hC
  unfold rp_J3_length at h
  refine rc_aload_n (pc := 0) hC dJ3_length_0 rfl rfl ?_
  obtain ⟨⟨fs, ho⟩, h⟩ := h.is
  refine rc_callSU (pc := 1) hC rfl ho (rw_J2_length hH.1 v0) q571 q567 q216 q566 q119 q572 ⟨by decide, rd_J2_length.2.2⟩ (hH.room (Nat.le_of_ble_eq_true rfl) (Nat.le_of_ble_eq_true rfl)) rfl rfl (Nat.le_of_ble_eq_true rfl) 0 rfl h.le.2.2 h.br rfl dJ3_length_1 ?_ (fun E q S hT => rc_out hC hH.2.2.2.2 hT)
  intro x1 S h
  show rc_Z Y S 4 [some (rc_q v0)] [rc_i x1]
  exact rc_iret hC rfl rfl dJ3_length_4 h rfl
theorem rw_J2_newCapacity {l : Launch} (hl : l.stackTraces = false) (v0 : Option Nat) (v1 : Int32) : rc_Ct l yJ2_newCapacity (ws_ yJ2_newCapacity cJ2_newCapacity 6 (Option.some Jvm.ClassFile.FieldType.int)) 2 45 rc_tI (rp_J2_newCapacity v0 v1) [rc_q v0, rc_i v1] := by
  refine rc_Ct_H hl (plainFor_of_name rY_J2) rfl (Nat.le_of_ble_eq_true rfl) (L0 := [some (rc_q v0), some (rc_i v1), none, none, none, none]) rfl ?_
  intro Y S hC hH h
  have hC : rc_C Y cJ2_newCapacity RJ2 (Option.some Jvm.ClassFile.FieldType.int) 6 := hC
  unfold rp_J2_newCapacity at h
  refine rc_aload_n (pc := 0) hC dJ2_newCapacity_0 rfl rfl ?_
  refine rc_r_getq (pc := 1) hC rF_J2_15 dJ2_newCapacity_1 h ?_
  intro x1 h
  refine rc_r_alen (pc := 4) hC dJ2_newCapacity_4 h ?_
  intro x2 h
  refine rc_istore_n (pc := 5) hC (L' := [some (rc_q v0), some (rc_i v1), some (rc_i x2), none, none, none]) dJ2_newCapacity_5 rfl (Nat.le_of_ble_eq_true rfl) rfl rfl ?_
  refine rc_iload_n (pc := 6) hC dJ2_newCapacity_6 rfl rfl ?_
  refine rc_aload_n (pc := 7) hC dJ2_newCapacity_7 rfl rfl ?_
  refine rc_r_geti (pc := 8) hC rF_J2_22 dJ2_newCapacity_8 h ?_
  intro x3 h
  refine rc_ishl (pc := 11) hC dJ2_newCapacity_11 ?_
  refine rc_istore_n (pc := 12) hC (L' := [some (rc_q v0), some (rc_i v1), some (rc_i x2), some (rc_i (v1 <<< (x3 &&& 31))), none, none]) dJ2_newCapacity_12 rfl (Nat.le_of_ble_eq_true rfl) rfl rfl ?_
  refine rc_iload_n (pc := 13) hC dJ2_newCapacity_13 rfl rfl ?_
  refine rc_iload_n (pc := 14) hC dJ2_newCapacity_14 rfl rfl ?_
  refine rc_isub (pc := 15) hC dJ2_newCapacity_15 ?_
  refine rc_istore (pc := 16) hC (L' := [some (rc_q v0), some (rc_i v1), some (rc_i x2), some (rc_i (v1 <<< (x3 &&& 31))), some (rc_i ((v1 <<< (x3 &&& 31)) - x2)), none]) dJ2_newCapacity_16 (Nat.le_of_ble_eq_true rfl) rfl rfl ?_
  refine rc_iload_n (pc := 18) hC dJ2_newCapacity_18 rfl rfl ?_
  refine rc_iload (pc := 19) hC dJ2_newCapacity_19 rfl ?_
  refine rc_iload_n (pc := 21) hC dJ2_newCapacity_21 rfl rfl ?_
  refine rc_iconst (pc := 22) hC (v := (2 : Int32)) dJ2_newCapacity_22 rfl ?_
  refine rc_aload_n (pc := 23) hC dJ2_newCapacity_23 rfl rfl ?_
  refine rc_r_geti (pc := 24) hC rF_J2_22 dJ2_newCapacity_24 h ?_
  intro x4 h
  refine rc_ishl (pc := 27) hC dJ2_newCapacity_27 ?_
  refine rc_iadd (pc := 28) hC dJ2_newCapacity_28 ?_
  refine rc_callS (pc := 29) hC (rw_J16_newLength hH.1 x2 ((v1 <<< (x3 &&& 31)) - x2) (x2 + ((2 : Int32) <<< (x4 &&& 31)))) q444 q445 q138 q446 rd_J16_newLength (hH.room (Nat.le_of_ble_eq_true rfl) (Nat.le_of_ble_eq_true rfl)) rfl rfl (Nat.le_of_ble_eq_true rfl) 3 rfl h.le.2.2 h.br rfl dJ2_newCapacity_29 ?_ (fun E q S hT => rc_out hC hH.2.2.2.2 hT)
  intro x5 S h
  show rc_Z Y S 32 [some (rc_q v0), some (rc_i v1), some (rc_i x2), some (rc_i (v1 <<< (x3 &&& 31))), some (rc_i ((v1 <<< (x3 &&& 31)) - x2)), none] [rc_i x5]
  refine rc_istore (pc := 32) hC (L' := [some (rc_q v0), some (rc_i v1), some (rc_i x2), some (rc_i (v1 <<< (x3 &&& 31))), some (rc_i ((v1 <<< (x3 &&& 31)) - x2)), some (rc_i x5)]) dJ2_newCapacity_32 (Nat.le_of_ble_eq_true rfl) rfl rfl ?_
  refine rc_iload (pc := 34) hC dJ2_newCapacity_34 rfl ?_
  refine rc_ldc (pc := 36) hC (v := (2147483647 : Int32)) q454 dJ2_newCapacity_36 ?_
  refine rc_icmp_ne (pc := 38) (tgt := 51) hC dJ2_newCapacity_38 rfl h ?_ ?_
  · intro _ h
    refine rc_iload (pc := 51) hC dJ2_newCapacity_51 rfl ?_
    refine rc_aload_n (pc := 53) hC dJ2_newCapacity_53 rfl rfl ?_
    refine rc_r_geti (pc := 54) hC rF_J2_22 dJ2_newCapacity_54 h ?_
    intro x6 h
    refine rc_ishr (pc := 57) hC dJ2_newCapacity_57 ?_
    exact rc_iret hC rfl rfl dJ2_newCapacity_58 h rfl
  intro _ h
  exact h.fail.elim
theorem rw_J10_copyOf {l : Launch} (hl : l.stackTraces = false) (v0 : Option Nat) (v1 : Int32) : rc_Ct l yJ10_copyOf (ws_ yJ10_copyOf cJ10_copyOf 3 (Option.some (Jvm.ClassFile.FieldType.array Jvm.ClassFile.FieldType.byte))) 1 40 rc_tQ (rp_J10_copyOf v0 v1) [rc_q v0, rc_i v1] := by
  refine rc_Ct_H hl (plainFor_of_name rY_J10) rfl (Nat.le_of_ble_eq_true rfl) (L0 := [some (rc_q v0), some (rc_i v1), none]) rfl ?_
  intro Y S hC hH h
  have hC : rc_C Y cJ10_copyOf RJ10 (Option.some (Jvm.ClassFile.FieldType.array Jvm.ClassFile.FieldType.byte)) 3 := hC
  unfold rp_J10_copyOf at h
  refine rc_iload_n (pc := 0) hC dJ10_copyOf_0 rfl rfl ?_
  refine rc_aload_n (pc := 1) hC dJ10_copyOf_1 rfl rfl ?_
  refine rc_r_alen (pc := 2) hC dJ10_copyOf_2 h ?_
  intro x1 h
  refine rc_icmp_ne (pc := 3) (tgt := 14) hC dJ10_copyOf_3 rfl h ?_ ?_
  · intro _ h
    refine rc_iload_n (pc := 14) hC dJ10_copyOf_14 rfl rfl ?_
    refine rc_r_newa (pc := 15) hC (t := 2) (atype := .byte) (by decide) rfl q217 dJ10_copyOf_15 h ?_
    intro x2 S h
    refine rc_astore_n (pc := 17) hC (L' := [some (rc_q v0), some (rc_i v1), some (rc_q x2)]) dJ10_copyOf_17 rfl (Nat.le_of_ble_eq_true rfl) rfl rfl ?_
    refine rc_aload_n (pc := 18) hC dJ10_copyOf_18 rfl rfl ?_
    refine rc_iconst (pc := 19) hC (v := (0 : Int32)) dJ10_copyOf_19 rfl ?_
    refine rc_aload_n (pc := 20) hC dJ10_copyOf_20 rfl rfl ?_
    refine rc_iconst (pc := 21) hC (v := (0 : Int32)) dJ10_copyOf_21 rfl ?_
    refine rc_aload_n (pc := 22) hC dJ10_copyOf_22 rfl rfl ?_
    refine rc_r_alen (pc := 23) hC dJ10_copyOf_23 h ?_
    intro x3 h
    refine rc_iload_n (pc := 24) hC dJ10_copyOf_24 rfl rfl ?_
    refine rc_callS (pc := 25) hC (rw_J17_min hH.1 x3 v1) q465 q466 q139 q467 rd_J17_min (hH.room (Nat.le_of_ble_eq_true rfl) (Nat.le_of_ble_eq_true rfl)) rfl rfl (Nat.le_of_ble_eq_true rfl) 2 rfl h.le.2.2 h.br rfl dJ10_copyOf_25 ?_ (fun E q S hT => rc_out hC hH.2.2.2.2 hT)
    intro x4 S h
    show rc_Z Y S 28 [some (rc_q v0), some (rc_i v1), some (rc_q x2)] [rc_i x4, rc_i (0 : Int32), rc_q x2, rc_i (0 : Int32), rc_q v0]
    refine rc_r_acopy (pc := 28) (t := 2) hC q468 q470 q469 q140 (hH.frm (Nat.le_of_ble_eq_true rfl)) (hH.lom (Nat.le_of_ble_eq_true rfl)) rfl rfl (Nat.le_of_ble_eq_true rfl) dJ10_copyOf_28 h ?_
    intro S h
    refine rc_aload_n (pc := 31) hC dJ10_copyOf_31 rfl rfl ?_
    exact rc_aret hC rfl (by first | exact Or.inl ⟨_, rfl⟩ | exact Or.inr ⟨_, rfl⟩) dJ10_copyOf_32 h rfl
  intro _ h
  refine rc_aload_n (pc := 6) hC dJ10_copyOf_6 rfl rfl ?_
  refine rc_r_clone (pc := 7) hC q458 (hH.frm (Nat.le_of_ble_eq_true rfl)) (hH.lom (Nat.le_of_ble_eq_true rfl)) rfl rfl (Nat.le_of_ble_eq_true rfl) dJ10_copyOf_7 h ?_
  intro x5 S h
  refine rc_r_casta (pc := 10) hC (t := 2) q464 dJ10_copyOf_10 h ?_
  intro h
  exact rc_aret hC rfl (by first | exact Or.inl ⟨_, rfl⟩ | exact Or.inr ⟨_, rfl⟩) dJ10_copyOf_13 h rfl
theorem rw_J2_ensureCapacityInternal {l : Launch} (hl : l.stackTraces = false) (v0 : Option Nat) (v1 : Int32) : rc_Ct l yJ2_ensureCapacityInternal (ws_ yJ2_ensureCapacityInternal cJ2_ensureCapacityInternal 3 (Option.none : Option Jvm.ClassFile.FieldType)) 3 70 rc_tU (rp_J2_ensureCapacityInternal v0 v1) [rc_q v0, rc_i v1] := by
  refine rc_Ct_H hl (plainFor_of_name rY_J2) rfl (Nat.le_of_ble_eq_true rfl) (L0 := [some (rc_q v0), some (rc_i v1), none]) rfl ?_
  intro Y S hC hH h
  have hC : rc_C Y cJ2_ensureCapacityInternal RJ2 (Option.none : Option Jvm.ClassFile.FieldType) 3 := hC
  unfold rp_J2_ensureCapacityInternal at h
  refine rc_aload_n (pc := 0) hC dJ2_ensureCapacityInternal_0 rfl rfl ?_
  refine rc_r_getq (pc := 1) hC rF_J2_15 dJ2_ensureCapacityInternal_1 h ?_
  intro x1 h
  refine rc_r_alen (pc := 4) hC dJ2_ensureCapacityInternal_4 h ?_
  intro x2 h
  refine rc_aload_n (pc := 5) hC dJ2_ensureCapacityInternal_5 rfl rfl ?_
  refine rc_r_geti (pc := 6) hC rF_J2_22 dJ2_ensureCapacityInternal_6 h ?_
  intro x3 h
  refine rc_ishr (pc := 9) hC dJ2_ensureCapacityInternal_9 ?_
  refine rc_istore_n (pc := 10) hC (L' := [some (rc_q v0), some (rc_i v1), some (rc_i (x2 >>> (x3 &&& 31)))]) dJ2_ensureCapacityInternal_10 rfl (Nat.le_of_ble_eq_true rfl) rfl rfl ?_
  refine rc_iload_n (pc := 11) hC dJ2_ensureCapacityInternal_11 rfl rfl ?_
  refine rc_iload_n (pc := 12) hC dJ2_ensureCapacityInternal_12 rfl rfl ?_
  refine rc_isub (pc := 13) hC dJ2_ensureCapacityInternal_13 ?_
  refine rc_if_le (pc := 14) (tgt := 38) hC dJ2_ensureCapacityInternal_14 rfl h ?_ ?_
  · intro _ h
    exact rc_vret hC rfl dJ2_ensureCapacityInternal_38 h rfl
  intro _ h
  refine rc_aload_n (pc := 17) hC dJ2_ensureCapacityInternal_17 rfl rfl ?_
  refine rc_aload_n (pc := 18) hC dJ2_ensureCapacityInternal_18 rfl rfl ?_
  refine rc_r_getq (pc := 19) hC rF_J2_15 dJ2_ensureCapacityInternal_19 h ?_
  intro x4 h
  refine rc_aload_n (pc := 22) hC dJ2_ensureCapacityInternal_22 rfl rfl ?_
  refine rc_iload_n (pc := 23) hC dJ2_ensureCapacityInternal_23 rfl rfl ?_
  obtain ⟨⟨fs, ho⟩, h⟩ := h.is
  refine rc_callVP (pc := 24) hC rfl ho (rw_J2_newCapacity hH.1 v0 v1) q440 q442 q474 q472 rfl (lw_o q441 rfl) q119 q443 rd_J2_newCapacity (hH.room (Nat.le_of_ble_eq_true rfl) (Nat.le_of_ble_eq_true rfl)) rfl rfl (Nat.le_of_ble_eq_true rfl) 1 rfl h.le.2.2 h.br rfl dJ2_ensureCapacityInternal_24 ?_ (fun E q S hT => rc_out hC hH.2.2.2.2 hT)
  intro x5 S h
  show rc_Z Y S 27 [some (rc_q v0), some (rc_i v1), some (rc_i (x2 >>> (x3 &&& 31)))] [rc_i x5, rc_q x4, rc_q v0]
  refine rc_aload_n (pc := 27) hC dJ2_ensureCapacityInternal_27 rfl rfl ?_
  refine rc_r_geti (pc := 28) hC rF_J2_22 dJ2_ensureCapacityInternal_28 h ?_
  intro x6 h
  refine rc_ishl (pc := 31) hC dJ2_ensureCapacityInternal_31 ?_
  refine rc_callS (pc := 32) hC (rw_J10_copyOf hH.1 x4 (x5 <<< (x6 &&& 31))) q455 q456 q131 q457 rd_J10_copyOf (hH.room (Nat.le_of_ble_eq_true rfl) (Nat.le_of_ble_eq_true rfl)) rfl rfl (Nat.le_of_ble_eq_true rfl) 2 rfl h.le.2.2 h.br rfl dJ2_ensureCapacityInternal_32 ?_ (fun E q S hT => rc_out hC hH.2.2.2.2 hT)
  intro x7 S h
  show rc_Z Y S 35 [some (rc_q v0), some (rc_i v1), some (rc_i (x2 >>> (x3 &&& 31)))] [rc_q x7, rc_q v0]
  refine rc_r_put (pc := 35) hC rP_J2_15 (nofun) dJ2_ensureCapacityInternal_35 h ?_
  intro S h
  exact rc_vret hC rfl dJ2_ensureCapacityInternal_38 h rfl
theorem rw_J2_isLatin1 {l : Launch} (hl : l.stackTraces = false) (v0 : Option Nat) : rc_Ct l yJ2_isLatin1 (ws_ yJ2_isLatin1 cJ2_isLatin1 1 (Option.some Jvm.ClassFile.FieldType.boolean)) 0 0 rc_tI (rp_J2_isLatin1 v0) [rc_q v0] := by
  refine rc_Ct_H hl (plainFor_of_name rY_J2) rfl (Nat.le_of_ble_eq_true rfl) (L0 := [some (rc_q v0)]) rfl ?_
  intro Y S hC hH h
  have hC : rc_C Y cJ2_isLatin1 RJ2 (Option.some Jvm.ClassFile.FieldType.boolean) 1 := hC
  unfold rp_J2_isLatin1 at h
  refine rc_r_stati (pc := 0) hC rS_J2_18 dJ2_isLatin1_0 h ?_
  intro x1 h
  refine rc_if_eq (pc := 3) (tgt := 17) hC dJ2_isLatin1_3 rfl h ?_ ?_
  · intro _ h
    refine rc_iconst (pc := 17) hC (v := (0 : Int32)) dJ2_isLatin1_17 rfl ?_
    exact rc_iret hC rfl rfl dJ2_isLatin1_18 h rfl
  intro _ h
  refine rc_aload_n (pc := 6) hC dJ2_isLatin1_6 rfl rfl ?_
  refine rc_r_geti (pc := 7) hC rF_J2_22 dJ2_isLatin1_7 h ?_
  intro x2 h
  refine rc_if_ne (pc := 10) (tgt := 17) hC dJ2_isLatin1_10 rfl h ?_ ?_
  · intro _ h
    refine rc_iconst (pc := 17) hC (v := (0 : Int32)) dJ2_isLatin1_17 rfl ?_
    exact rc_iret hC rfl rfl dJ2_isLatin1_18 h rfl
  intro _ h
  refine rc_iconst (pc := 13) hC (v := (1 : Int32)) dJ2_isLatin1_13 rfl ?_
  refine rc_goto (pc := 14) (tgt := 18) hC dJ2_isLatin1_14 rfl ?_
  exact rc_iret hC rfl rfl dJ2_isLatin1_18 h rfl
theorem rw_J8_canEncode {l : Launch} (hl : l.stackTraces = false) (v0 : Int32) : rc_Ct l yJ8_canEncode (ws_ yJ8_canEncode cJ8_canEncode 1 (Option.some Jvm.ClassFile.FieldType.boolean)) 0 0 rc_tI (rp_J8_canEncode v0) [rc_i v0] := by
  refine rc_Ct_H hl (plainFor_of_name rY_J8) rfl (Nat.le_of_ble_eq_true rfl) (L0 := [some (rc_i v0)]) rfl ?_
  intro Y S hC hH h
  have hC : rc_C Y cJ8_canEncode RJ8 (Option.some Jvm.ClassFile.FieldType.boolean) 1 := hC
  unfold rp_J8_canEncode at h
  refine rc_iload_n (pc := 0) hC dJ8_canEncode_0 rfl rfl ?_
  refine rc_sipush (pc := 1) hC (v := (255 : Int32)) dJ8_canEncode_1 rfl ?_
  refine rc_icmp_gt (pc := 4) (tgt := 11) hC dJ8_canEncode_4 rfl h ?_ ?_
  · intro _ h
    refine rc_iconst (pc := 11) hC (v := (0 : Int32)) dJ8_canEncode_11 rfl ?_
    exact rc_iret hC rfl rfl dJ8_canEncode_12 h rfl
  intro _ h
  refine rc_iconst (pc := 7) hC (v := (1 : Int32)) dJ8_canEncode_7 rfl ?_
  refine rc_goto (pc := 8) (tgt := 12) hC dJ8_canEncode_8 rfl ?_
  exact rc_iret hC rfl rfl dJ8_canEncode_12 h rfl
theorem rw_J5_putChar {l : Launch} (hl : l.stackTraces = false) (v0 : Option Nat) (v1 : Int32) (v2 : Int32) : rc_Ct l yJ5_putChar (ws_ yJ5_putChar cJ5_putChar 3 (Option.none : Option Jvm.ClassFile.FieldType)) 0 0 rc_tU (rp_J5_putChar v0 v1 v2) [rc_q v0, rc_i v1, rc_i v2] := by
  refine rc_Ct_H hl (plainFor_of_name rY_J5) rfl (Nat.le_of_ble_eq_true rfl) (L0 := [some (rc_q v0), some (rc_i v1), some (rc_i v2)]) rfl ?_
  intro Y S hC hH h
  have hC : rc_C Y cJ5_putChar RJ5 (Option.none : Option Jvm.ClassFile.FieldType) 3 := hC
  unfold rp_J5_putChar at h
  exact h.fail.elim
theorem rw_J5_inflate_L10 {Y : rc_Y} (hC : rc_C Y cJ5_inflate RJ5 (Option.none : Option Jvm.ClassFile.FieldType) 6) (hH : rc_H Y 3 67 yJ5_inflate.name) : ∀ (n : Nat) (v0 : Option Nat) (v1 : Int32) (v2 : Option Nat) (v3 : Int32) (v4 : Int32) (v5 : Int32) (S : rc_S), rc_Go Y rc_tU (rp_J5_inflate_L10  n v0 v1 v2 v3 v4 v5) S → rc_Z Y S 10 [some (rc_q v0), some (rc_i v1), some (rc_q v2), some (rc_i v3), some (rc_i v4), some (rc_i v5)] [] := by
  intro n
  induction n with
  | zero => intro v0 v1 v2 v3 v4 v5 S h; exact h.fail.elim
  | succ n ih =>
    intro v0 v1 v2 v3 v4 v5 S h
    rw [rp_J5_inflate_L10] at h
    refine rc_iload (pc := 10) hC dJ5_inflate_10 rfl ?_
    refine rc_iload (pc := 12) hC dJ5_inflate_12 rfl ?_
    refine rc_icmp_ge (pc := 14) (tgt := 41) hC dJ5_inflate_14 rfl h ?_ ?_
    · intro _ h
      exact rc_vret hC rfl dJ5_inflate_41 h rfl
    intro _ h
    refine rc_aload_n (pc := 17) hC dJ5_inflate_17 rfl rfl ?_
    refine rc_iload_n (pc := 18) hC dJ5_inflate_18 rfl rfl ?_
    refine rc_iinc (pc := 19) hC (v := (v3 + (1 : Int32))) (L' := [some (rc_q v0), some (rc_i v1), some (rc_q v2), some (rc_i (v3 + (1 : Int32))), some (rc_i v4), some (rc_i v5)]) dJ5_inflate_19 rfl rfl rfl rfl ?_
    refine rc_aload_n (pc := 22) hC dJ5_inflate_22 rfl rfl ?_
    refine rc_iload_n (pc := 23) hC dJ5_inflate_23 rfl rfl ?_
    refine rc_iinc (pc := 24) hC (v := (v1 + (1 : Int32))) (L' := [some (rc_q v0), some (rc_i (v1 + (1 : Int32))), some (rc_q v2), some (rc_i (v3 + (1 : Int32))), some (rc_i v4), some (rc_i v5)]) dJ5_inflate_24 rfl rfl rfl rfl ?_
    refine rc_r_bald (pc := 27) hC dJ5_inflate_27 h ?_
    intro x1 h
    refine rc_sipush (pc := 28) hC (v := (255 : Int32)) dJ5_inflate_28 rfl ?_
    refine rc_iand (pc := 31) hC dJ5_inflate_31 ?_
    refine rc_callS (pc := 32) hC (rw_J5_putChar hH.1 v2 v3 (x1 &&& (255 : Int32))) q494 q495 q122 q496 rd_J5_putChar (hH.room (Nat.le_of_ble_eq_true rfl) (Nat.le_of_ble_eq_true rfl)) rfl rfl (Nat.le_of_ble_eq_true rfl) 3 rfl h.le.2.2 h.br rfl dJ5_inflate_32 ?_ (fun E q S hT => rc_out hC hH.2.2.2.2 hT)
    intro _ S h
    show rc_Z Y S 35 [some (rc_q v0), some (rc_i (v1 + (1 : Int32))), some (rc_q v2), some (rc_i (v3 + (1 : Int32))), some (rc_i v4), some (rc_i v5)] []
    refine rc_iinc (pc := 35) hC (v := (v5 + (1 : Int32))) (L' := [some (rc_q v0), some (rc_i (v1 + (1 : Int32))), some (rc_q v2), some (rc_i (v3 + (1 : Int32))), some (rc_i v4), some (rc_i (v5 + (1 : Int32)))]) dJ5_inflate_35 rfl rfl rfl rfl ?_
    refine rc_goto (pc := 38) (tgt := 10) hC dJ5_inflate_38 rfl ?_
    exact ih v0 (v1 + (1 : Int32)) v2 (v3 + (1 : Int32)) v4 (v5 + (1 : Int32)) S h
theorem rw_J5_inflate {l : Launch} (hl : l.stackTraces = false) (v0 : Option Nat) (v1 : Int32) (v2 : Option Nat) (v3 : Int32) (v4 : Int32) : rc_Ct l yJ5_inflate (ws_ yJ5_inflate cJ5_inflate 6 (Option.none : Option Jvm.ClassFile.FieldType)) 3 67 rc_tU (rp_J5_inflate v0 v1 v2 v3 v4) [rc_q v0, rc_i v1, rc_q v2, rc_i v3, rc_i v4] := by
  refine rc_Ct_H hl (plainFor_of_name rY_J5) rfl (Nat.le_of_ble_eq_true rfl) (L0 := [some (rc_q v0), some (rc_i v1), some (rc_q v2), some (rc_i v3), some (rc_i v4), none]) rfl ?_
  intro Y S hC hH h
  have hC : rc_C Y cJ5_inflate RJ5 (Option.none : Option Jvm.ClassFile.FieldType) 6 := hC
  unfold rp_J5_inflate at h
  refine rc_iload_n (pc := 0) hC dJ5_inflate_0 rfl rfl ?_
  refine rc_iload (pc := 1) hC dJ5_inflate_1 rfl ?_
  refine rc_aload_n (pc := 3) hC dJ5_inflate_3 rfl rfl ?_
  refine rc_callS (pc := 4) hC (rw_J5_checkBoundsOffCount hH.1 v3 v4 v2) q533 q534 q122 q535 rd_J5_checkBoundsOffCount (hH.room (Nat.le_of_ble_eq_true rfl) (Nat.le_of_ble_eq_true rfl)) rfl rfl (Nat.le_of_ble_eq_true rfl) 3 rfl h.le.2.2 h.br rfl dJ5_inflate_4 ?_ (fun E q S hT => rc_out hC hH.2.2.2.2 hT)
  intro _ S h
  show rc_Z Y S 7 [some (rc_q v0), some (rc_i v1), some (rc_q v2), some (rc_i v3), some (rc_i v4), none] []
  refine rc_iconst (pc := 7) hC (v := (0 : Int32)) dJ5_inflate_7 rfl ?_
  refine rc_istore (pc := 8) hC (L' := [some (rc_q v0), some (rc_i v1), some (rc_q v2), some (rc_i v3), some (rc_i v4), some (rc_i (0 : Int32))]) dJ5_inflate_8 (Nat.le_of_ble_eq_true rfl) rfl rfl ?_
  refine rc_r_fuel h ?_
  intro x1 h
  exact rw_J5_inflate_L10 hC hH  x1 v0 v1 v2 v3 v4 (0 : Int32) S h
theorem rw_J8_inflate {l : Launch} (hl : l.stackTraces = false) (v0 : Option Nat) (v1 : Int32) (v2 : Option Nat) (v3 : Int32) (v4 : Int32) : rc_Ct l yJ8_inflate (ws_ yJ8_inflate cJ8_inflate 5 (Option.none : Option Jvm.ClassFile.FieldType)) 4 92 rc_tU (rp_J8_inflate v0 v1 v2 v3 v4) [rc_q v0, rc_i v1, rc_q v2, rc_i v3, rc_i v4] := by
  refine rc_Ct_H hl (plainFor_of_name rY_J8) rfl (Nat.le_of_ble_eq_true rfl) (L0 := [some (rc_q v0), some (rc_i v1), some (rc_q v2), some (rc_i v3), some (rc_i v4)]) rfl ?_
  intro Y S hC hH h
  have hC : rc_C Y cJ8_inflate RJ8 (Option.none : Option Jvm.ClassFile.FieldType) 5 := hC
  unfold rp_J8_inflate at h
  refine rc_aload_n (pc := 0) hC dJ8_inflate_0 rfl rfl ?_
  refine rc_iload_n (pc := 1) hC dJ8_inflate_1 rfl rfl ?_
  refine rc_aload_n (pc := 2) hC dJ8_inflate_2 rfl rfl ?_
  refine rc_iload_n (pc := 3) hC dJ8_inflate_3 rfl rfl ?_
  refine rc_iload (pc := 4) hC dJ8_inflate_4 rfl ?_
  refine rc_callS (pc := 6) hC (rw_J5_inflate hH.1 v0 v1 v2 v3 v4) q530 q531 q122 q532 rd_J5_inflate (hH.room (Nat.le_of_ble_eq_true rfl) (Nat.le_of_ble_eq_true rfl)) rfl rfl (Nat.le_of_ble_eq_true rfl) 5 rfl h.le.2.2 h.br rfl dJ8_inflate_6 ?_ (fun E q S hT => rc_out hC hH.2.2.2.2 hT)
  intro _ S h
  show rc_Z Y S 9 [some (rc_q v0), some (rc_i v1), some (rc_q v2), some (rc_i v3), some (rc_i v4)] []
  exact rc_vret hC rfl dJ8_inflate_9 h rfl
theorem rw_J2_inflate {l : Launch} (hl : l.stackTraces = false) (v0 : Option Nat) : rc_Ct l yJ2_inflate (ws_ yJ2_inflate cJ2_inflate 2 (Option.none : Option Jvm.ClassFile.FieldType)) 5 116 rc_tU (rp_J2_inflate v0) [rc_q v0] := by
  refine rc_Ct_H hl (plainFor_of_name rY_J2) rfl (Nat.le_of_ble_eq_true rfl) (L0 := [some (rc_q v0), none]) rfl ?_
  intro Y S hC hH h
  have hC : rc_C Y cJ2_inflate RJ2 (Option.none : Option Jvm.ClassFile.FieldType) 2 := hC
  unfold rp_J2_inflate at h
  refine rc_aload_n (pc := 0) hC dJ2_inflate_0 rfl rfl ?_
  obtain ⟨⟨fs, ho⟩, h⟩ := h.is
  refine rc_callU (pc := 1) hC rfl ho (rw_J2_isLatin1 hH.1 v0) q471 q473 q474 q472 q119 q475 rfl ⟨by decide, by decide, rd_J2_isLatin1.2.2⟩ (hH.room (Nat.le_of_ble_eq_true rfl) (Nat.le_of_ble_eq_true rfl)) rfl rfl (Nat.le_of_ble_eq_true rfl) 0 rfl h.le.2.2 h.br rfl dJ2_inflate_1 ?_ (fun E q S hT => rc_out hC hH.2.2.2.2 hT)
  intro x1 S h
  show rc_Z Y S 4 [some (rc_q v0), none] [rc_i x1]
  refine rc_if_ne (pc := 4) (tgt := 8) hC dJ2_inflate_4 rfl h ?_ ?_
  · intro _ h
    refine rc_aload_n (pc := 8) hC dJ2_inflate_8 rfl rfl ?_
    refine rc_r_getq (pc := 9) hC rF_J2_15 dJ2_inflate_9 h ?_
    intro x2 h
    refine rc_r_alen (pc := 12) hC dJ2_inflate_12 h ?_
    intro x3 h
    refine rc_callS (pc := 13) hC (rw_J5_newBytesFor hH.1 x3) q196 q197 q122 q198 rd_J5_newBytesFor (hH.room (Nat.le_of_ble_eq_true rfl) (Nat.le_of_ble_eq_true rfl)) rfl rfl (Nat.le_of_ble_eq_true rfl) 1 rfl h.le.2.2 h.br rfl dJ2_inflate_13 ?_ (fun E q S hT => rc_out hC hH.2.2.2.2 hT)
    intro x4 S h
    show rc_Z Y S 16 [some (rc_q v0), none] [rc_q x4]
    refine rc_astore_n (pc := 16) hC (L' := [some (rc_q v0), some (rc_q x4)]) dJ2_inflate_16 rfl (Nat.le_of_ble_eq_true rfl) rfl rfl ?_
    refine rc_aload_n (pc := 17) hC dJ2_inflate_17 rfl rfl ?_
    refine rc_r_getq (pc := 18) hC rF_J2_15 dJ2_inflate_18 h ?_
    intro x5 h
    refine rc_iconst (pc := 21) hC (v := (0 : Int32)) dJ2_inflate_21 rfl ?_
    refine rc_aload_n (pc := 22) hC dJ2_inflate_22 rfl rfl ?_
    refine rc_iconst (pc := 23) hC (v := (0 : Int32)) dJ2_inflate_23 rfl ?_
    refine rc_aload_n (pc := 24) hC dJ2_inflate_24 rfl rfl ?_
    refine rc_r_geti (pc := 25) hC rF_J2_79 dJ2_inflate_25 h ?_
    intro x6 h
    refine rc_callS (pc := 28) hC (rw_J8_inflate hH.1 x5 (0 : Int32) x4 (0 : Int32) x6) q527 q528 q129 q529 rd_J8_inflate (hH.room (Nat.le_of_ble_eq_true rfl) (Nat.le_of_ble_eq_true rfl)) rfl rfl (Nat.le_of_ble_eq_true rfl) 5 rfl h.le.2.2 h.br rfl dJ2_inflate_28 ?_ (fun E q S hT => rc_out hC hH.2.2.2.2 hT)
    intro _ S h
    show rc_Z Y S 31 [some (rc_q v0), some (rc_q x4)] []
    refine rc_aload_n (pc := 31) hC dJ2_inflate_31 rfl rfl ?_
    refine rc_aload_n (pc := 32) hC dJ2_inflate_32 rfl rfl ?_
    refine rc_r_put (pc := 33) hC rP_J2_15 (nofun) dJ2_inflate_33 h ?_
    intro S h
    refine rc_aload_n (pc := 36) hC dJ2_inflate_36 rfl rfl ?_
    refine rc_iconst (pc := 37) hC (v := (1 : Int32)) dJ2_inflate_37 rfl ?_
    refine rc_r_put (pc := 38) hC rP_J2_22 (nofun) dJ2_inflate_38 h ?_
    intro S h
    exact rc_vret hC rfl dJ2_inflate_41 h rfl
  intro _ h
  exact rc_vret hC rfl dJ2_inflate_7 h rfl
theorem rw_J5_putCharSB {l : Launch} (hl : l.stackTraces = false) (v0 : Option Nat) (v1 : Int32) (v2 : Int32) : rc_Ct l yJ5_putCharSB (ws_ yJ5_putCharSB cJ5_putCharSB 3 (Option.none : Option Jvm.ClassFile.FieldType)) 3 64 rc_tU (rp_J5_putCharSB v0 v1 v2) [rc_q v0, rc_i v1, rc_i v2] := by
  refine rc_Ct_H hl (plainFor_of_name rY_J5) rfl (Nat.le_of_ble_eq_true rfl) (L0 := [some (rc_q v0), some (rc_i v1), some (rc_i v2)]) rfl ?_
  intro Y S hC hH h
  have hC : rc_C Y cJ5_putCharSB RJ5 (Option.none : Option Jvm.ClassFile.FieldType) 3 := hC
  unfold rp_J5_putCharSB at h
  refine rc_iload_n (pc := 0) hC dJ5_putCharSB_0 rfl rfl ?_
  refine rc_aload_n (pc := 1) hC dJ5_putCharSB_1 rfl rfl ?_
  refine rc_callS (pc := 2) hC (rw_J5_checkIndex hH.1 v1 v0) q337 q338 q122 q339 rd_J5_checkIndex (hH.room (Nat.le_of_ble_eq_true rfl) (Nat.le_of_ble_eq_true rfl)) rfl rfl (Nat.le_of_ble_eq_true rfl) 2 rfl h.le.2.2 h.br rfl dJ5_putCharSB_2 ?_ (fun E q S hT => rc_out hC hH.2.2.2.2 hT)
  intro _ S h
  show rc_Z Y S 5 [some (rc_q v0), some (rc_i v1), some (rc_i v2)] []
  refine rc_aload_n (pc := 5) hC dJ5_putCharSB_5 rfl rfl ?_
  refine rc_iload_n (pc := 6) hC dJ5_putCharSB_6 rfl rfl ?_
  refine rc_iload_n (pc := 7) hC dJ5_putCharSB_7 rfl rfl ?_
  refine rc_callS (pc := 8) hC (rw_J5_putChar hH.1 v0 v1 v2) q494 q495 q122 q496 rd_J5_putChar (hH.room (Nat.le_of_ble_eq_true rfl) (Nat.le_of_ble_eq_true rfl)) rfl rfl (Nat.le_of_ble_eq_true rfl) 3 rfl h.le.2.2 h.br rfl dJ5_putCharSB_8 ?_ (fun E q S hT => rc_out hC hH.2.2.2.2 hT)
  intro _ S h
  show rc_Z Y S 11 [some (rc_q v0), some (rc_i v1), some (rc_i v2)] []
  exact rc_vret hC rfl dJ5_putCharSB_11 h rfl
theorem rw_J2_append_3_L56 {Y : rc_Y} (hC : rc_C Y cJ2_append_3 RJ2 (Option.some (Jvm.ClassFile.FieldType.object "java/lang/AbstractStringBuilder")) 2) (hH : rc_H Y 6 137 yJ2_append_3.name) (v0 : Option Nat) (v1 : Int32) (S : rc_S) (h : rc_Go Y rc_tQ (rp_J2_append_3_L56  v0 v1) S) : rc_Z Y S 56 [some (rc_q v0), some (rc_i v1)] [] := by
  unfold rp_J2_append_3_L56 at h
  refine rc_aload_n (pc := 56) hC dJ2_append_3_56 rfl rfl ?_
  refine rc_r_getq (pc := 57) hC rF_J2_15 dJ2_append_3_57 h ?_
  intro x1 h
  refine rc_aload_n (pc := 60) hC dJ2_append_3_60 rfl rfl ?_
  refine rc_dup (pc := 61) hC dJ2_append_3_61 rfl ?_
  refine rc_r_geti (pc := 62) hC rF_J2_79 dJ2_append_3_62 h ?_
  intro x2 h
  refine rc_dup_x1 (pc := 65) hC dJ2_append_3_65 rfl rfl ?_
  refine rc_iconst (pc := 66) hC (v := (1 : Int32)) dJ2_append_3_66 rfl ?_
  refine rc_iadd (pc := 67) hC dJ2_append_3_67 ?_
  refine rc_r_put (pc := 68) hC rP_J2_79 (nofun) dJ2_append_3_68 h ?_
  intro S h
  refine rc_iload_n (pc := 71) hC dJ2_append_3_71 rfl rfl ?_
  refine rc_callS (pc := 72) hC (rw_J5_putCharSB hH.1 x1 x2 v1) q1260 q1261 q122 q1262 rd_J5_putCharSB (hH.room (Nat.le_of_ble_eq_true rfl) (Nat.le_of_ble_eq_true rfl)) rfl rfl (Nat.le_of_ble_eq_true rfl) 3 rfl h.le.2.2 h.br rfl dJ2_append_3_72 ?_ (fun E q S hT => rc_out hC hH.2.2.2.2 hT)
  intro _ S h
  show rc_Z Y S 75 [some (rc_q v0), some (rc_i v1)] []
  refine rc_aload_n (pc := 75) hC dJ2_append_3_75 rfl rfl ?_
  exact rc_aret hC rfl (by first | exact Or.inl ⟨_, rfl⟩ | exact Or.inr ⟨_, rfl⟩) dJ2_append_3_76 h rfl
theorem rw_J2_append_3_L45 {Y : rc_Y} (hC : rc_C Y cJ2_append_3 RJ2 (Option.some (Jvm.ClassFile.FieldType.object "java/lang/AbstractStringBuilder")) 2) (hH : rc_H Y 6 137 yJ2_append_3.name) (v0 : Option Nat) (v1 : Int32) (S : rc_S) (h : rc_Go Y rc_tQ (rp_J2_append_3_L45  v0 v1) S) : rc_Z Y S 45 [some (rc_q v0), some (rc_i v1)] [] := by
  unfold rp_J2_append_3_L45 at h
  refine rc_aload_n (pc := 45) hC dJ2_append_3_45 rfl rfl ?_
  obtain ⟨⟨fs, ho⟩, h⟩ := h.is
  refine rc_callU (pc := 46) hC rfl ho (rw_J2_isLatin1 hH.1 v0) q471 q473 q474 q472 q119 q475 rfl ⟨by decide, by decide, rd_J2_isLatin1.2.2⟩ (hH.room (Nat.le_of_ble_eq_true rfl) (Nat.le_of_ble_eq_true rfl)) rfl rfl (Nat.le_of_ble_eq_true rfl) 0 rfl h.le.2.2 h.br rfl dJ2_append_3_46 ?_ (fun E q S hT => rc_out hC hH.2.2.2.2 hT)
  intro x1 S h
  show rc_Z Y S 49 [some (rc_q v0), some (rc_i v1)] [rc_i x1]
  refine rc_if_eq (pc := 49) (tgt := 56) hC dJ2_append_3_49 rfl h ?_ ?_
  · intro _ h
    exact rw_J2_append_3_L56 hC hH  v0 v1 S h
  intro _ h
  refine rc_aload_n (pc := 52) hC dJ2_append_3_52 rfl rfl ?_
  obtain ⟨⟨fs, ho⟩, h⟩ := h.is
  refine rc_callVP (pc := 53) hC rfl ho (rw_J2_inflate hH.1 v0) q523 q525 q474 q472 rfl (lw_o q524 rfl) q119 q526 rd_J2_inflate (hH.room (Nat.le_of_ble_eq_true rfl) (Nat.le_of_ble_eq_true rfl)) rfl rfl (Nat.le_of_ble_eq_true rfl) 0 rfl h.le.2.2 h.br rfl dJ2_append_3_53 ?_ (fun E q S hT => rc_out hC hH.2.2.2.2 hT)
  intro _ S h
  show rc_Z Y S 56 [some (rc_q v0), some (rc_i v1)] []
  exact rw_J2_append_3_L56 hC hH  v0 v1 S h
theorem rw_J2_append_3 {l : Launch} (hl : l.stackTraces = false) (v0 : Option Nat) (v1 : Int32) : rc_Ct l yJ2_append_3 (ws_ yJ2_append_3 cJ2_append_3 2 (Option.some (Jvm.ClassFile.FieldType.object "java/lang/AbstractStringBuilder"))) 6 137 rc_tQ (rp_J2_append_3 v0 v1) [rc_q v0, rc_i v1] := by
  refine rc_Ct_H hl (plainFor_of_name rY_J2) rfl (Nat.le_of_ble_eq_true rfl) (L0 := [some (rc_q v0), some (rc_i v1)]) rfl ?_
  intro Y S hC hH h
  have hC : rc_C Y cJ2_append_3 RJ2 (Option.some (Jvm.ClassFile.FieldType.object "java/lang/AbstractStringBuilder")) 2 := hC
  unfold rp_J2_append_3 at h
  refine rc_aload_n (pc := 0) hC dJ2_append_3_0 rfl rfl ?_
  refine rc_aload_n (pc := 1) hC dJ2_append_3_1 rfl rfl ?_
  refine rc_r_geti (pc := 2) hC rF_J2_79 dJ2_append_3_2 h ?_
  intro x1 h
  refine rc_iconst (pc := 5) hC (v := (1 : Int32)) dJ2_append_3_5 rfl ?_
  refine rc_iadd (pc := 6) hC dJ2_append_3_6 ?_
  obtain ⟨⟨fs, ho⟩, h⟩ := h.is
  refine rc_callVP (pc := 7) hC rfl ho (rw_J2_ensureCapacityInternal hH.1 v0 (x1 + (1 : Int32))) q436 q438 q474 q472 rfl (lw_o q437 rfl) q119 q439 rd_J2_ensureCapacityInternal (hH.room (Nat.le_of_ble_eq_true rfl) (Nat.le_of_ble_eq_true rfl)) rfl rfl (Nat.le_of_ble_eq_true rfl) 1 rfl h.le.2.2 h.br rfl dJ2_append_3_7 ?_ (fun E q S hT => rc_out hC hH.2.2.2.2 hT)
  intro _ S h
  show rc_Z Y S 10 [some (rc_q v0), some (rc_i v1)] []
  refine rc_aload_n (pc := 10) hC dJ2_append_3_10 rfl rfl ?_
  obtain ⟨⟨fs, ho⟩, h⟩ := h.is
  refine rc_callU (pc := 11) hC rfl ho (rw_J2_isLatin1 hH.1 v0) q471 q473 q474 q472 q119 q475 rfl ⟨by decide, by decide, rd_J2_isLatin1.2.2⟩ (hH.room (Nat.le_of_ble_eq_true rfl) (Nat.le_of_ble_eq_true rfl)) rfl rfl (Nat.le_of_ble_eq_true rfl) 0 rfl h.le.2.2 h.br rfl dJ2_append_3_11 ?_ (fun E q S hT => rc_out hC hH.2.2.2.2 hT)
  intro x2 S h
  show rc_Z Y S 14 [some (rc_q v0), some (rc_i v1)] [rc_i x2]
  refine rc_if_eq (pc := 14) (tgt := 45) hC dJ2_append_3_14 rfl h ?_ ?_
  · intro _ h
    exact rw_J2_append_3_L45 hC hH  v0 v1 S h
  intro _ h
  refine rc_iload_n (pc := 17) hC dJ2_append_3_17 rfl rfl ?_
  refine rc_callS (pc := 18) hC (rw_J8_canEncode hH.1 v1) q1257 q1258 q129 q1259 rd_J8_canEncode (hH.room (Nat.le_of_ble_eq_true rfl) (Nat.le_of_ble_eq_true rfl)) rfl rfl (Nat.le_of_ble_eq_true rfl) 1 rfl h.le.2.2 h.br rfl dJ2_append_3_18 ?_ (fun E q S hT => rc_out hC hH.2.2.2.2 hT)
  intro x3 S h
  show rc_Z Y S 21 [some (rc_q v0), some (rc_i v1)] [rc_i x3]
  refine rc_if_eq (pc := 21) (tgt := 45) hC dJ2_append_3_21 rfl h ?_ ?_
  · intro _ h
    exact rw_J2_append_3_L45 hC hH  v0 v1 S h
  intro _ h
  refine rc_aload_n (pc := 24) hC dJ2_append_3_24 rfl rfl ?_
  refine rc_r_getq (pc := 25) hC rF_J2_15 dJ2_append_3_25 h ?_
  intro x4 h
  refine rc_aload_n (pc := 28) hC dJ2_append_3_28 rfl rfl ?_
  refine rc_dup (pc := 29) hC dJ2_append_3_29 rfl ?_
  refine rc_r_geti (pc := 30) hC rF_J2_79 dJ2_append_3_30 h ?_
  intro x5 h
  refine rc_dup_x1 (pc := 33) hC dJ2_append_3_33 rfl rfl ?_
  refine rc_iconst (pc := 34) hC (v := (1 : Int32)) dJ2_append_3_34 rfl ?_
  refine rc_iadd (pc := 35) hC dJ2_append_3_35 ?_
  refine rc_r_put (pc := 36) hC rP_J2_79 (nofun) dJ2_append_3_36 h ?_
  intro S h
  refine rc_iload_n (pc := 39) hC dJ2_append_3_39 rfl rfl ?_
  refine rc_i2b (pc := 40) hC dJ2_append_3_40 ?_
  refine rc_r_bast (pc := 41) hC dJ2_append_3_41 h ?_
  intro S h
  refine rc_goto (pc := 42) (tgt := 75) hC dJ2_append_3_42 rfl ?_
  refine rc_aload_n (pc := 75) hC dJ2_append_3_75 rfl rfl ?_
  exact rc_aret hC rfl (by first | exact Or.inl ⟨_, rfl⟩ | exact Or.inr ⟨_, rfl⟩) dJ2_append_3_76 h rfl
theorem rw_J3_append_3 {l : Launch} (hl : l.stackTraces = false) (v0 : Option Nat) (v1 : Int32) : rc_Ct l yJ3_append_3 (ws_ yJ3_append_3 cJ3_append_3 2 (Option.some (Jvm.ClassFile.FieldType.object "java/lang/StringBuilder"))) 7 158 rc_tQ (rp_J3_append_3 v0 v1) [rc_q v0, rc_i v1] := by
  refine rc_Ct_H hl (plainFor_of_name rY_J3) rfl (Nat.le_of_ble_eq_true rfl) (L0 := [some (rc_q v0), some (rc_i v1)]) rfl ?_
  intro Y S hC hH h
  have hC : rc_C Y cJ3_append_3 RJ3 (Option.some (Jvm.ClassFile.FieldType.object "java/lang/StringBuilder")) 2 := hC
  unfold rp_J3_append_3 at h
  refine rc_aload_n (pc := 0) hC dJ3_append_3_0 rfl rfl ?_
  refine rc_iload_n (pc := 1) hC dJ3_append_3_1 rfl rfl ?_
  obtain ⟨⟨fs, ho⟩, h⟩ := h.is
  refine rc_callSU (pc := 2) hC rfl ho (rw_J2_append_3 hH.1 v0 v1) q1254 q2714 q216 q1255 q119 q1256 ⟨by decide, rd_J2_append_3.2.2⟩ (hH.room (Nat.le_of_ble_eq_true rfl) (Nat.le_of_ble_eq_true rfl)) rfl rfl (Nat.le_of_ble_eq_true rfl) 1 rfl h.le.2.2 h.br rfl dJ3_append_3_2 ?_ (fun E q S hT => rc_out hC hH.2.2.2.2 hT)
  intro x1 S h
  show rc_Z Y S 5 [some (rc_q v0), some (rc_i v1)] [rc_q x1]
  refine rc_pop (pc := 5) hC dJ3_append_3_5 rfl ?_
  refine rc_aload_n (pc := 6) hC dJ3_append_3_6 rfl rfl ?_
  exact rc_aret hC rfl (by first | exact Or.inl ⟨_, rfl⟩ | exact Or.inr ⟨_, rfl⟩) dJ3_append_3_7 h rfl
theorem rw_J2_getValue {l : Launch} (hl : l.stackTraces = false) (v0 : Option Nat) : rc_Ct l yJ2_getValue (ws_ yJ2_getValue cJ2_getValue 1 (Option.some (Jvm.ClassFile.FieldType.array Jvm.ClassFile.FieldType.byte))) 0 0 rc_tQ (rp_J2_getValue v0) [rc_q v0] := by
  refine rc_Ct_H hl (plainFor_of_name rY_J2) rfl (Nat.le_of_ble_eq_true rfl) (L0 := [some (rc_q v0)]) rfl ?_
  intro Y S hC hH h
  have hC : rc_C Y cJ2_getValue RJ2 (Option.some (Jvm.ClassFile.FieldType.array Jvm.ClassFile.FieldType.byte)) 1 := hC
  unfold rp_J2_getValue at h
  refine rc_aload_n (pc := 0) hC dJ2_getValue_0 rfl rfl ?_
  refine rc_r_getq (pc := 1) hC rF_J2_15 dJ2_getValue_1 h ?_
  intro x1 h
  exact rc_aret hC rfl (by first | exact Or.inl ⟨_, rfl⟩ | exact Or.inr ⟨_, rfl⟩) dJ2_getValue_4 h rfl
theorem rw_J4_init_2_L79 {Y : rc_Y} (hC : rc_C Y cJ4_init_2 RJ4 (Option.none : Option Jvm.ClassFile.FieldType) 5) (hH : rc_H Y 5 118 yJ4_init_2.name) (v0 : Option Nat) (v3 : Option Nat) (v4 : Int32) (S : rc_S) (h : rc_Go Y rc_tU (rp_J4_init_2_L79  v0 v3 v4) S) : rc_Z Y S 79 [some (rc_q v0), none, none, some (rc_q v3), some (rc_i v4)] [] := by
  unfold rp_J4_init_2_L79 at h
  refine rc_aload_n (pc := 79) hC dJ4_init_2_79 rfl rfl ?_
  refine rc_iconst (pc := 80) hC (v := (1 : Int32)) dJ4_init_2_80 rfl ?_
  refine rc_r_put (pc := 81) hC rP_J4_15 (fun _ => hH.2.1) dJ4_init_2_81 h ?_
  intro S h
  refine rc_aload_n (pc := 84) hC dJ4_init_2_84 rfl rfl ?_
  refine rc_aload_n (pc := 85) hC dJ4_init_2_85 rfl rfl ?_
  refine rc_iconst (pc := 86) hC (v := (0 : Int32)) dJ4_init_2_86 rfl ?_
  refine rc_iload (pc := 87) hC dJ4_init_2_87 rfl ?_
  refine rc_iconst (pc := 89) hC (v := (1 : Int32)) dJ4_init_2_89 rfl ?_
  refine rc_ishl (pc := 90) hC dJ4_init_2_90 ?_
  refine rc_callS (pc := 91) hC (rw_J10_copyOfRange hH.1 v3 (0 : Int32) (v4 <<< ((1 : Int32) &&& 31))) q574 q371 q131 q372 rd_J10_copyOfRange (hH.room (Nat.le_of_ble_eq_true rfl) (Nat.le_of_ble_eq_true rfl)) rfl rfl (Nat.le_of_ble_eq_true rfl) 3 rfl h.le.2.2 h.br rfl dJ4_init_2_91 ?_ (fun E q S hT => rc_out hC hH.2.2.2.2 hT)
  intro x1 S h
  show rc_Z Y S 94 [some (rc_q v0), none, none, some (rc_q v3), some (rc_i v4)] [rc_q x1, rc_q v0]
  refine rc_r_put (pc := 94) hC rP_J4_9 (fun _ => hH.2.1) dJ4_init_2_94 h ?_
  intro S h
  exact rc_vret hC rfl dJ4_init_2_97 h rfl
theorem rw_J4_init_2 {l : Launch} (hl : l.stackTraces = false) (v0 : Option Nat) (v1 : Option Nat) (v2 : Option Nat) : rc_Ct l yJ4_init_2 (ws_ yJ4_init_2 cJ4_init_2 5 (Option.none : Option Jvm.ClassFile.FieldType)) 5 118 rc_tU (rp_J4_init_2 v0 v1 v2) [rc_q v0, rc_q v1, rc_q v2] := by
  refine rc_Ct_H hl (plainFor_of_name rY_J4) rfl (Nat.le_of_ble_eq_true rfl) (L0 := [some (rc_q v0), some (rc_q v1), some (rc_q v2), none, none]) rfl ?_
  intro Y S hC hH h
  have hC : rc_C Y cJ4_init_2 RJ4 (Option.none : Option Jvm.ClassFile.FieldType) 5 := hC
  unfold rp_J4_init_2 at h
  refine rc_aload_n (pc := 0) hC dJ4_init_2_0 rfl rfl ?_
  refine rc_objInit (pc := 1) hC q559 q162 q163 rfl dJ4_init_2_1 (hH.frm (Nat.le_of_ble_eq_true rfl)) (hH.lom (Nat.le_of_ble_eq_true rfl)) (Nat.zero_le _) h ?_
  intro h
  refine rc_aload_n (pc := 4) hC dJ4_init_2_4 rfl rfl ?_
  obtain ⟨⟨fs, ho⟩, h⟩ := h.is
  refine rc_callU (pc := 5) hC rfl ho (rw_J2_getValue hH.1 v1) q560 q562 q563 q561 q119 q564 rfl ⟨by decide, by decide, rd_J2_getValue.2.2⟩ (hH.room (Nat.le_of_ble_eq_true rfl) (Nat.le_of_ble_eq_true rfl)) rfl rfl (Nat.le_of_ble_eq_true rfl) 0 rfl h.le.2.2 h.br rfl dJ4_init_2_5 ?_ (fun E q S hT => rc_out hC hH.2.2.2.2 hT)
  intro x1 S h
  show rc_Z Y S 8 [some (rc_q v0), some (rc_q v1), some (rc_q v2), none, none] [rc_q x1]
  refine rc_astore_n (pc := 8) hC (L' := [some (rc_q v0), some (rc_q v1), some (rc_q v2), some (rc_q x1), none]) dJ4_init_2_8 rfl (Nat.le_of_ble_eq_true rfl) rfl rfl ?_
  refine rc_aload_n (pc := 9) hC dJ4_init_2_9 rfl rfl ?_
  obtain ⟨⟨fs, ho⟩, h⟩ := h.is
  refine rc_callO (pc := 10) hC rfl ho (rw_J3_length hH.1 v1) (x0 := ⟨"java/lang/AbstractStringBuilder", "length", "()I"⟩) (owner := "java/lang/AbstractStringBuilder") q565 q567 q568 q569 q120 q566 q570 q572 ⟨by decide, by decide, rd_J3_length.2.2⟩ (hH.room (Nat.le_of_ble_eq_true rfl) (Nat.le_of_ble_eq_true rfl)) rfl rfl (Nat.le_of_ble_eq_true rfl) 0 rfl h.le.2.2 h.br rfl dJ4_init_2_10 ?_ (fun E q S hT => rc_out hC hH.2.2.2.2 hT)
  intro x2 S h
  show rc_Z Y S 13 [some (rc_q v0), some (rc_q v1), some (rc_q v2), some (rc_q x1), none] [rc_i x2]
  refine rc_istore (pc := 13) hC (L' := [some (rc_q v0), some (rc_q v1), some (rc_q v2), some (rc_q x1), some (rc_i x2)]) dJ4_init_2_13 (Nat.le_of_ble_eq_true rfl) rfl rfl ?_
  refine rc_aload_n (pc := 15) hC dJ4_init_2_15 rfl rfl ?_
  obtain ⟨⟨fs, ho⟩, h⟩ := h.is
  refine rc_callU (pc := 16) hC rfl ho (rw_J2_isLatin1 hH.1 v1) q573 q473 q474 q472 q119 q475 rfl ⟨by decide, by decide, rd_J2_isLatin1.2.2⟩ (hH.room (Nat.le_of_ble_eq_true rfl) (Nat.le_of_ble_eq_true rfl)) rfl rfl (Nat.le_of_ble_eq_true rfl) 0 rfl h.le.2.2 h.br rfl dJ4_init_2_16 ?_ (fun E q S hT => rc_out hC hH.2.2.2.2 hT)
  intro x3 S h
  show rc_Z Y S 19 [some (rc_q v0), some (rc_q v1), some (rc_q v2), some (rc_q x1), some (rc_i x2)] [rc_i x3]
  refine rc_if_eq (pc := 19) (tgt := 41) hC dJ4_init_2_19 rfl h ?_ ?_
  · intro _ h
    refine rc_r_stati (pc := 41) hC rS_J4_38 dJ4_init_2_41 h ?_
    intro x4 h
    refine rc_if_eq (pc := 44) (tgt := 79) hC dJ4_init_2_44 rfl h ?_ ?_
    · intro _ h
      refine rc_drop [true, false, false, true, true] (L' := [some (rc_q v0), none, none, some (rc_q x1), some (rc_i x2)]) rfl ?_
      exact rw_J4_init_2_L79 hC hH  v0 x1 x2 S h
    intro _ h
    refine rc_aload_n (pc := 47) hC dJ4_init_2_47 rfl rfl ?_
    refine rc_r_geti (pc := 48) hC rF_J4_1048 dJ4_init_2_48 h ?_
    intro x5 h
    refine rc_if_eq (pc := 51) (tgt := 79) hC dJ4_init_2_51 rfl h ?_ ?_
    · intro _ h
      refine rc_drop [true, false, false, true, true] (L' := [some (rc_q v0), none, none, some (rc_q x1), some (rc_i x2)]) rfl ?_
      exact rw_J4_init_2_L79 hC hH  v0 x1 x2 S h
    intro _ h
    refine rc_aload_n (pc := 54) hC dJ4_init_2_54 rfl rfl ?_
    refine rc_aload_n (pc := 55) hC dJ4_init_2_55 rfl rfl ?_
    refine rc_iconst (pc := 56) hC (v := (0 : Int32)) dJ4_init_2_56 rfl ?_
    refine rc_iload (pc := 57) hC dJ4_init_2_57 rfl ?_
    refine rc_callS (pc := 59) hC (rw_J5_compress hH.1 x1 (0 : Int32) x2) q575 q576 q122 q577 rd_J5_compress (hH.room (Nat.le_of_ble_eq_true rfl) (Nat.le_of_ble_eq_true rfl)) rfl rfl (Nat.le_of_ble_eq_true rfl) 3 rfl h.le.2.2 h.br rfl dJ4_init_2_59 ?_ (fun E q S hT => rc_out hC hH.2.2.2.2 hT)
    intro x6 S h
    show rc_Z Y S 62 [some (rc_q v0), some (rc_q v1), some (rc_q v2), some (rc_q x1), some (rc_i x2)] [rc_q x6, rc_q v0]
    refine rc_r_put (pc := 62) hC rP_J4_9 (fun _ => hH.2.1) dJ4_init_2_62 h ?_
    intro S h
    refine rc_aload_n (pc := 65) hC dJ4_init_2_65 rfl rfl ?_
    refine rc_aload_n (pc := 66) hC dJ4_init_2_66 rfl rfl ?_
    refine rc_r_getq (pc := 67) hC rF_J4_9 dJ4_init_2_67 h ?_
    intro x7 h
    refine rc_iload (pc := 70) hC dJ4_init_2_70 rfl ?_
    refine rc_callS (pc := 72) hC (rw_J5_coderFromArrayLen hH.1 x7 x2) q582 q583 q122 q584 rd_J5_coderFromArrayLen (hH.room (Nat.le_of_ble_eq_true rfl) (Nat.le_of_ble_eq_true rfl)) rfl rfl (Nat.le_of_ble_eq_true rfl) 2 rfl h.le.2.2 h.br rfl dJ4_init_2_72 ?_ (fun E q S hT => rc_out hC hH.2.2.2.2 hT)
    intro x8 S h
    show rc_Z Y S 75 [some (rc_q v0), some (rc_q v1), some (rc_q v2), some (rc_q x1), some (rc_i x2)] [rc_i x8, rc_q v0]
    refine rc_r_put (pc := 75) hC rP_J4_15 (fun _ => hH.2.1) dJ4_init_2_75 h ?_
    intro S h
    exact rc_vret hC rfl dJ4_init_2_78 h rfl
  intro _ h
  refine rc_aload_n (pc := 22) hC dJ4_init_2_22 rfl rfl ?_
  refine rc_iconst (pc := 23) hC (v := (0 : Int32)) dJ4_init_2_23 rfl ?_
  refine rc_r_put (pc := 24) hC rP_J4_15 (fun _ => hH.2.1) dJ4_init_2_24 h ?_
  intro S h
  refine rc_aload_n (pc := 27) hC dJ4_init_2_27 rfl rfl ?_
  refine rc_aload_n (pc := 28) hC dJ4_init_2_28 rfl rfl ?_
  refine rc_iconst (pc := 29) hC (v := (0 : Int32)) dJ4_init_2_29 rfl ?_
  refine rc_iload (pc := 30) hC dJ4_init_2_30 rfl ?_
  refine rc_callS (pc := 32) hC (rw_J10_copyOfRange hH.1 x1 (0 : Int32) x2) q574 q371 q131 q372 rd_J10_copyOfRange (hH.room (Nat.le_of_ble_eq_true rfl) (Nat.le_of_ble_eq_true rfl)) rfl rfl (Nat.le_of_ble_eq_true rfl) 3 rfl h.le.2.2 h.br rfl dJ4_init_2_32 ?_ (fun E q S hT => rc_out hC hH.2.2.2.2 hT)
  intro x9 S h
  show rc_Z Y S 35 [some (rc_q v0), some (rc_q v1), some (rc_q v2), some (rc_q x1), some (rc_i x2)] [rc_q x9, rc_q v0]
  refine rc_r_put (pc := 35) hC rP_J4_9 (fun _ => hH.2.1) dJ4_init_2_35 h ?_
  intro S h
  refine rc_goto (pc := 38) (tgt := 97) hC dJ4_init_2_38 rfl ?_
  exact rc_vret hC rfl dJ4_init_2_97 h rfl
theorem rw_J4_init {l : Launch} (hl : l.stackTraces = false) (v0 : Option Nat) (v1 : Option Nat) : rc_Ct l yJ4_init (ws_ yJ4_init cJ4_init 2 (Option.none : Option Jvm.ClassFile.FieldType)) 6 142 rc_tU (rp_J4_init v0 v1) [rc_q v0, rc_q v1] := by
  refine rc_Ct_H hl (plainFor_of_name rY_J4) rfl (Nat.le_of_ble_eq_true rfl) (L0 := [some (rc_q v0), some (rc_q v1)]) rfl ?_
  intro Y S hC hH h
  have hC : rc_C Y cJ4_init RJ4 (Option.none : Option Jvm.ClassFile.FieldType) 2 := hC
  unfold rp_J4_init at h
  refine rc_aload_n (pc := 0) hC dJ4_init_0 rfl rfl ?_
  refine rc_aload_n (pc := 1) hC dJ4_init_1 rfl rfl ?_
  refine rc_null (pc := 2) hC dJ4_init_2 ?_
  obtain ⟨⟨b9, ho⟩, h⟩ := h.nn
  refine rc_callI (pc := 3) hC ho (rw_J4_init_2 hH.1 v0 v1 none) q556 q557 q121 q558 rfl rfl rd_J4_init_2 (hH.room (Nat.le_of_ble_eq_true rfl) (Nat.le_of_ble_eq_true rfl)) rfl rfl (Nat.le_of_ble_eq_true rfl) 2 rfl h.le.2.2 h.br rfl dJ4_init_3 ?_ (fun E q S hT => rc_out hC hH.2.2.2.2 hT)
  intro _ S h
  show rc_Z Y S 6 [some (rc_q v0), some (rc_q v1)] []
  exact rc_vret hC rfl dJ4_init_6 h rfl
theorem rw_J3_toString {l : Launch} (hl : l.stackTraces = false) (v0 : Option Nat) : rc_Ct l yJ3_toString (ws_ yJ3_toString cJ3_toString 1 (Option.some (Jvm.ClassFile.FieldType.object "java/lang/String"))) 7 163 rc_tQ (rp_J3_toString v0) [rc_q v0] := by
  refine rc_Ct_H hl (plainFor_of_name rY_J3) rfl (Nat.le_of_ble_eq_true rfl) (L0 := [some (rc_q v0)]) rfl ?_
  intro Y S hC hH h
  have hC : rc_C Y cJ3_toString RJ3 (Option.some (Jvm.ClassFile.FieldType.object "java/lang/String")) 1 := hC
  unfold rp_J3_toString at h
  refine rc_r_new (pc := 0) hC rN_J3_18 dJ3_toString_0 h ?_
  intro x1 S h
  refine rc_dup (pc := 3) hC dJ3_toString_3 rfl ?_
  refine rc_aload_n (pc := 4) hC dJ3_toString_4 rfl rfl ?_
  obtain ⟨⟨b9, ho⟩, h⟩ := h.nn
  refine rc_callI (pc := 5) hC ho (rw_J4_init hH.1 x1 v0) q553 q554 q121 q555 rfl rfl rd_J4_init (hH.room (Nat.le_of_ble_eq_true rfl) (Nat.le_of_ble_eq_true rfl)) rfl rfl (Nat.le_of_ble_eq_true rfl) 1 rfl h.le.2.2 h.br rfl dJ3_toString_5 ?_ (fun E q S hT => rc_out hC hH.2.2.2.2 hT)
  intro _ S h
  show rc_Z Y S 8 [some (rc_q v0)] [rc_q x1]
  exact rc_aret hC rfl (by first | exact Or.inl ⟨_, rfl⟩ | exact Or.inr ⟨_, rfl⟩) dJ3_toString_8 h rfl
theorem rw_J10_rangeCheck {l : Launch} (hl : l.stackTraces = false) (v0 : Int32) (v1 : Int32) (v2 : Int32) : rc_Ct l yJ10_rangeCheck (ws_ yJ10_rangeCheck cJ10_rangeCheck 3 (Option.none : Option Jvm.ClassFile.FieldType)) 0 0 rc_tU (rp_J10_rangeCheck v0 v1 v2) [rc_i v0, rc_i v1, rc_i v2] := by
  refine rc_Ct_H hl (plainFor_of_name rY_J10) rfl (Nat.le_of_ble_eq_true rfl) (L0 := [some (rc_i v0), some (rc_i v1), some (rc_i v2)]) rfl ?_
  intro Y S hC hH h
  have hC : rc_C Y cJ10_rangeCheck RJ10 (Option.none : Option Jvm.ClassFile.FieldType) 3 := hC
  unfold rp_J10_rangeCheck at h
  refine rc_iload_n (pc := 0) hC dJ10_rangeCheck_0 rfl rfl ?_
  refine rc_iload_n (pc := 1) hC dJ10_rangeCheck_1 rfl rfl ?_
  refine rc_icmp_le (pc := 2) (tgt := 46) hC dJ10_rangeCheck_2 rfl h ?_ ?_
  · intro _ h
    refine rc_iload_n (pc := 46) hC dJ10_rangeCheck_46 rfl rfl ?_
    refine rc_if_ge (pc := 47) (tgt := 59) hC dJ10_rangeCheck_47 rfl h ?_ ?_
    · intro _ h
      refine rc_iload_n (pc := 59) hC dJ10_rangeCheck_59 rfl rfl ?_
      refine rc_iload_n (pc := 60) hC dJ10_rangeCheck_60 rfl rfl ?_
      refine rc_icmp_le (pc := 61) (tgt := 73) hC dJ10_rangeCheck_61 rfl h ?_ ?_
      · intro _ h
        exact rc_vret hC rfl dJ10_rangeCheck_73 h rfl
      intro _ h
      exact h.fail.elim
    intro _ h
    exact h.fail.elim
  intro _ h
  exact h.fail.elim
theorem rw_J10_fill_L10 {Y : rc_Y} (hC : rc_C Y cJ10_fill RJ10 (Option.none : Option Jvm.ClassFile.FieldType) 5) (hH : rc_H Y 1 22 yJ10_fill.name) : ∀ (n : Nat) (v0 : Option Nat) (v2 : Int32) (v3 : Int32) (v4 : Int32) (S : rc_S), rc_Go Y rc_tU (rp_J10_fill_L10  n v0 v2 v3 v4) S → rc_Z Y S 10 [some (rc_q v0), none, some (rc_i v2), some (rc_i v3), some (rc_i v4)] [] := by
  intro n
  induction n with
  | zero => intro v0 v2 v3 v4 S h; exact h.fail.elim
  | succ n ih =>
    intro v0 v2 v3 v4 S h
    rw [rp_J10_fill_L10] at h
    refine rc_iload (pc := 10) hC dJ10_fill_10 rfl ?_
    refine rc_iload_n (pc := 12) hC dJ10_fill_12 rfl rfl ?_
    refine rc_icmp_ge (pc := 13) (tgt := 27) hC dJ10_fill_13 rfl h ?_ ?_
    · intro _ h
      exact rc_vret hC rfl dJ10_fill_27 h rfl
    intro _ h
    refine rc_aload_n (pc := 16) hC dJ10_fill_16 rfl rfl ?_
    refine rc_iload (pc := 17) hC dJ10_fill_17 rfl ?_
    refine rc_iload_n (pc := 19) hC dJ10_fill_19 rfl rfl ?_
    refine rc_r_bast (pc := 20) hC dJ10_fill_20 h ?_
    intro S h
    refine rc_iinc (pc := 21) hC (v := (v4 + (1 : Int32))) (L' := [some (rc_q v0), none, some (rc_i v2), some (rc_i v3), some (rc_i (v4 + (1 : Int32)))]) dJ10_fill_21 rfl rfl rfl rfl ?_
    refine rc_goto (pc := 24) (tgt := 10) hC dJ10_fill_24 rfl ?_
    exact ih v0 v2 v3 (v4 + (1 : Int32)) S h
theorem rw_J10_fill {l : Launch} (hl : l.stackTraces = false) (v0 : Option Nat) (v1 : Int32) (v2 : Int32) (v3 : Int32) : rc_Ct l yJ10_fill (ws_ yJ10_fill cJ10_fill 5 (Option.none : Option Jvm.ClassFile.FieldType)) 1 22 rc_tU (rp_J10_fill v0 v1 v2 v3) [rc_q v0, rc_i v1, rc_i v2, rc_i v3] := by
  refine rc_Ct_H hl (plainFor_of_name rY_J10) rfl (Nat.le_of_ble_eq_true rfl) (L0 := [some (rc_q v0), some (rc_i v1), some (rc_i v2), some (rc_i v3), none]) rfl ?_
  intro Y S hC hH h
  have hC : rc_C Y cJ10_fill RJ10 (Option.none : Option Jvm.ClassFile.FieldType) 5 := hC
  unfold rp_J10_fill at h
  refine rc_aload_n (pc := 0) hC dJ10_fill_0 rfl rfl ?_
  refine rc_r_alen (pc := 1) hC dJ10_fill_1 h ?_
  intro x1 h
  refine rc_iload_n (pc := 2) hC dJ10_fill_2 rfl rfl ?_
  refine rc_iload_n (pc := 3) hC dJ10_fill_3 rfl rfl ?_
  refine rc_callS (pc := 4) hC (rw_J10_rangeCheck hH.1 x1 v1 v2) q1303 q1304 q131 q1305 rd_J10_rangeCheck (hH.room (Nat.le_of_ble_eq_true rfl) (Nat.le_of_ble_eq_true rfl)) rfl rfl (Nat.le_of_ble_eq_true rfl) 3 rfl h.le.2.2 h.br rfl dJ10_fill_4 ?_ (fun E q S hT => rc_out hC hH.2.2.2.2 hT)
  intro _ S h
  show rc_Z Y S 7 [some (rc_q v0), some (rc_i v1), some (rc_i v2), some (rc_i v3), none] []
  refine rc_iload_n (pc := 7) hC dJ10_fill_7 rfl rfl ?_
  refine rc_istore (pc := 8) hC (L' := [some (rc_q v0), some (rc_i v1), some (rc_i v2), some (rc_i v3), some (rc_i v1)]) dJ10_fill_8 (Nat.le_of_ble_eq_true rfl) rfl rfl ?_
  refine rc_drop [true, false, true, true, true] (L' := [some (rc_q v0), none, some (rc_i v2), some (rc_i v3), some (rc_i v1)]) rfl ?_
  refine rc_r_fuel h ?_
  intro x2 h
  exact rw_J10_fill_L10 hC hH  x2 v0 v2 v3 v1 S h
theorem rw_J8_fillNull {l : Launch} (hl : l.stackTraces = false) (v0 : Option Nat) (v1 : Int32) (v2 : Int32) : rc_Ct l yJ8_fillNull (ws_ yJ8_fillNull cJ8_fillNull 3 (Option.none : Option Jvm.ClassFile.FieldType)) 2 46 rc_tU (rp_J8_fillNull v0 v1 v2) [rc_q v0, rc_i v1, rc_i v2] := by
  refine rc_Ct_H hl (plainFor_of_name rY_J8) rfl (Nat.le_of_ble_eq_true rfl) (L0 := [some (rc_q v0), some (rc_i v1), some (rc_i v2)]) rfl ?_
  intro Y S hC hH h
  have hC : rc_C Y cJ8_fillNull RJ8 (Option.none : Option Jvm.ClassFile.FieldType) 3 := hC
  unfold rp_J8_fillNull at h
  refine rc_aload_n (pc := 0) hC dJ8_fillNull_0 rfl rfl ?_
  refine rc_iload_n (pc := 1) hC dJ8_fillNull_1 rfl rfl ?_
  refine rc_iload_n (pc := 2) hC dJ8_fillNull_2 rfl rfl ?_
  refine rc_iconst (pc := 3) hC (v := (0 : Int32)) dJ8_fillNull_3 rfl ?_
  refine rc_callS (pc := 4) hC (rw_J10_fill hH.1 v0 v1 v2 (0 : Int32)) q1300 q1301 q131 q1302 rd_J10_fill (hH.room (Nat.le_of_ble_eq_true rfl) (Nat.le_of_ble_eq_true rfl)) rfl rfl (Nat.le_of_ble_eq_true rfl) 4 rfl h.le.2.2 h.br rfl dJ8_fillNull_4 ?_ (fun E q S hT => rc_out hC hH.2.2.2.2 hT)
  intro _ S h
  show rc_Z Y S 7 [some (rc_q v0), some (rc_i v1), some (rc_i v2)] []
  exact rc_vret hC rfl dJ8_fillNull_7 h rfl
theorem rw_J5_fillNull {l : Launch} (hl : l.stackTraces = false) (v0 : Option Nat) (v1 : Int32) (v2 : Int32) : rc_Ct l yJ5_fillNull (ws_ yJ5_fillNull cJ5_fillNull 3 (Option.none : Option Jvm.ClassFile.FieldType)) 2 46 rc_tU (rp_J5_fillNull v0 v1 v2) [rc_q v0, rc_i v1, rc_i v2] := by
  refine rc_Ct_H hl (plainFor_of_name rY_J5) rfl (Nat.le_of_ble_eq_true rfl) (L0 := [some (rc_q v0), some (rc_i v1), some (rc_i v2)]) rfl ?_
  intro Y S hC hH h
  have hC : rc_C Y cJ5_fillNull RJ5 (Option.none : Option Jvm.ClassFile.FieldType) 3 := hC
  unfold rp_J5_fillNull at h
  refine rc_aload_n (pc := 0) hC dJ5_fillNull_0 rfl rfl ?_
  refine rc_iload_n (pc := 1) hC dJ5_fillNull_1 rfl rfl ?_
  refine rc_iconst (pc := 2) hC (v := (1 : Int32)) dJ5_fillNull_2 rfl ?_
  refine rc_ishl (pc := 3) hC dJ5_fillNull_3 ?_
  refine rc_iload_n (pc := 4) hC dJ5_fillNull_4 rfl rfl ?_
  refine rc_iconst (pc := 5) hC (v := (1 : Int32)) dJ5_fillNull_5 rfl ?_
  refine rc_ishl (pc := 6) hC dJ5_fillNull_6 ?_
  refine rc_iconst (pc := 7) hC (v := (0 : Int32)) dJ5_fillNull_7 rfl ?_
  refine rc_callS (pc := 8) hC (rw_J10_fill hH.1 v0 (v1 <<< ((1 : Int32) &&& 31)) (v2 <<< ((1 : Int32) &&& 31)) (0 : Int32)) q1335 q1301 q131 q1302 rd_J10_fill (hH.room (Nat.le_of_ble_eq_true rfl) (Nat.le_of_ble_eq_true rfl)) rfl rfl (Nat.le_of_ble_eq_true rfl) 4 rfl h.le.2.2 h.br rfl dJ5_fillNull_8 ?_ (fun E q S hT => rc_out hC hH.2.2.2.2 hT)
  intro _ S h
  show rc_Z Y S 11 [some (rc_q v0), some (rc_i v1), some (rc_i v2)] []
  exact rc_vret hC rfl dJ5_fillNull_11 h rfl
theorem rw_J2_setLength_L76 {Y : rc_Y} (hC : rc_C Y cJ2_setLength RJ2 (Option.none : Option Jvm.ClassFile.FieldType) 2) (hH : rc_H Y 4 92 yJ2_setLength.name) (v0 : Option Nat) (v1 : Int32) (S : rc_S) (h : rc_Go Y rc_tU (rp_J2_setLength_L76  v0 v1) S) : rc_Z Y S 76 [some (rc_q v0), some (rc_i v1)] [] := by
  unfold rp_J2_setLength_L76 at h
  refine rc_aload_n (pc := 76) hC dJ2_setLength_76 rfl rfl ?_
  refine rc_iload_n (pc := 77) hC dJ2_setLength_77 rfl rfl ?_
  refine rc_r_put (pc := 78) hC rP_J2_79 (nofun) dJ2_setLength_78 h ?_
  intro S h
  exact rc_vret hC rfl dJ2_setLength_81 h rfl
theorem rw_J2_setLength {l : Launch} (hl : l.stackTraces = false) (v0 : Option Nat) (v1 : Int32) : rc_Ct l yJ2_setLength (ws_ yJ2_setLength cJ2_setLength 2 (Option.none : Option Jvm.ClassFile.FieldType)) 4 92 rc_tU (rp_J2_setLength v0 v1) [rc_q v0, rc_i v1] := by
  refine rc_Ct_H hl (plainFor_of_name rY_J2) rfl (Nat.le_of_ble_eq_true rfl) (L0 := [some (rc_q v0), some (rc_i v1)]) rfl ?_
  intro Y S hC hH h
  have hC : rc_C Y cJ2_setLength RJ2 (Option.none : Option Jvm.ClassFile.FieldType) 2 := hC
  unfold rp_J2_setLength at h
  refine rc_iload_n (pc := 0) hC dJ2_setLength_0 rfl rfl ?_
  refine rc_if_ge (pc := 1) (tgt := 13) hC dJ2_setLength_1 rfl h ?_ ?_
  · intro _ h
    refine rc_aload_n (pc := 13) hC dJ2_setLength_13 rfl rfl ?_
    refine rc_iload_n (pc := 14) hC dJ2_setLength_14 rfl rfl ?_
    obtain ⟨⟨fs, ho⟩, h⟩ := h.is
    refine rc_callVP (pc := 15) hC rfl ho (rw_J2_ensureCapacityInternal hH.1 v0 v1) q436 q438 q474 q472 rfl (lw_o q437 rfl) q119 q439 rd_J2_ensureCapacityInternal (hH.room (Nat.le_of_ble_eq_true rfl) (Nat.le_of_ble_eq_true rfl)) rfl rfl (Nat.le_of_ble_eq_true rfl) 1 rfl h.le.2.2 h.br rfl dJ2_setLength_15 ?_ (fun E q S hT => rc_out hC hH.2.2.2.2 hT)
    intro _ S h
    show rc_Z Y S 18 [some (rc_q v0), some (rc_i v1)] []
    refine rc_aload_n (pc := 18) hC dJ2_setLength_18 rfl rfl ?_
    refine rc_r_geti (pc := 19) hC rF_J2_79 dJ2_setLength_19 h ?_
    intro x1 h
    refine rc_iload_n (pc := 22) hC dJ2_setLength_22 rfl rfl ?_
    refine rc_icmp_ge (pc := 23) (tgt := 63) hC dJ2_setLength_23 rfl h ?_ ?_
    · intro _ h
      refine rc_aload_n (pc := 63) hC dJ2_setLength_63 rfl rfl ?_
      refine rc_r_geti (pc := 64) hC rF_J2_79 dJ2_setLength_64 h ?_
      intro x2 h
      refine rc_iload_n (pc := 67) hC dJ2_setLength_67 rfl rfl ?_
      refine rc_icmp_le (pc := 68) (tgt := 76) hC dJ2_setLength_68 rfl h ?_ ?_
      · intro _ h
        exact rw_J2_setLength_L76 hC hH  v0 v1 S h
      intro _ h
      refine rc_aload_n (pc := 71) hC dJ2_setLength_71 rfl rfl ?_
      refine rc_iconst (pc := 72) hC (v := (1 : Int32)) dJ2_setLength_72 rfl ?_
      refine rc_r_put (pc := 73) hC rP_J2_73 (nofun) dJ2_setLength_73 h ?_
      intro S h
      exact rw_J2_setLength_L76 hC hH  v0 v1 S h
    intro _ h
    refine rc_aload_n (pc := 26) hC dJ2_setLength_26 rfl rfl ?_
    obtain ⟨⟨fs, ho⟩, h⟩ := h.is
    refine rc_callU (pc := 27) hC rfl ho (rw_J2_isLatin1 hH.1 v0) q471 q473 q474 q472 q119 q475 rfl ⟨by decide, by decide, rd_J2_isLatin1.2.2⟩ (hH.room (Nat.le_of_ble_eq_true rfl) (Nat.le_of_ble_eq_true rfl)) rfl rfl (Nat.le_of_ble_eq_true rfl) 0 rfl h.le.2.2 h.br rfl dJ2_setLength_27 ?_ (fun E q S hT => rc_out hC hH.2.2.2.2 hT)
    intro x3 S h
    show rc_Z Y S 30 [some (rc_q v0), some (rc_i v1)] [rc_i x3]
    refine rc_if_eq (pc := 30) (tgt := 48) hC dJ2_setLength_30 rfl h ?_ ?_
    · intro _ h
      refine rc_aload_n (pc := 48) hC dJ2_setLength_48 rfl rfl ?_
      refine rc_r_getq (pc := 49) hC rF_J2_15 dJ2_setLength_49 h ?_
      intro x4 h
      refine rc_aload_n (pc := 52) hC dJ2_setLength_52 rfl rfl ?_
      refine rc_r_geti (pc := 53) hC rF_J2_79 dJ2_setLength_53 h ?_
      intro x5 h
      refine rc_iload_n (pc := 56) hC dJ2_setLength_56 rfl rfl ?_
      refine rc_callS (pc := 57) hC (rw_J5_fillNull hH.1 x4 x5 v1) q1332 q1333 q122 q1334 rd_J5_fillNull (hH.room (Nat.le_of_ble_eq_true rfl) (Nat.le_of_ble_eq_true rfl)) rfl rfl (Nat.le_of_ble_eq_true rfl) 3 rfl h.le.2.2 h.br rfl dJ2_setLength_57 ?_ (fun E q S hT => rc_out hC hH.2.2.2.2 hT)
      intro _ S h
      show rc_Z Y S 60 [some (rc_q v0), some (rc_i v1)] []
      refine rc_goto (pc := 60) (tgt := 76) hC dJ2_setLength_60 rfl ?_
      exact rw_J2_setLength_L76 hC hH  v0 v1 S h
    intro _ h
    refine rc_aload_n (pc := 33) hC dJ2_setLength_33 rfl rfl ?_
    refine rc_r_getq (pc := 34) hC rF_J2_15 dJ2_setLength_34 h ?_
    intro x6 h
    refine rc_aload_n (pc := 37) hC dJ2_setLength_37 rfl rfl ?_
    refine rc_r_geti (pc := 38) hC rF_J2_79 dJ2_setLength_38 h ?_
    intro x7 h
    refine rc_iload_n (pc := 41) hC dJ2_setLength_41 rfl rfl ?_
    refine rc_callS (pc := 42) hC (rw_J8_fillNull hH.1 x6 x7 v1) q1297 q1298 q129 q1299 rd_J8_fillNull (hH.room (Nat.le_of_ble_eq_true rfl) (Nat.le_of_ble_eq_true rfl)) rfl rfl (Nat.le_of_ble_eq_true rfl) 3 rfl h.le.2.2 h.br rfl dJ2_setLength_42 ?_ (fun E q S hT => rc_out hC hH.2.2.2.2 hT)
    intro _ S h
    show rc_Z Y S 45 [some (rc_q v0), some (rc_i v1)] []
    refine rc_goto (pc := 45) (tgt := 76) hC dJ2_setLength_45 rfl ?_
    exact rw_J2_setLength_L76 hC hH  v0 v1 S h
  intro _ h
  exact h.fail.elim
theorem rw_J3_setLength {l : Launch} (hl : l.stackTraces = false) (v0 : Option Nat) (v1 : Int32) : rc_Ct l yJ3_setLength (ws_ yJ3_setLength cJ3_setLength 2 (Option.none : Option Jvm.ClassFile.FieldType)) 5 113 rc_tU (rp_J3_setLength v0 v1) [rc_q v0, rc_i v1] := by
  refine rc_Ct_H hl (plainFor_of_name rY_J3) rfl (Nat.le_of_ble_eq_true rfl) (L0 := [some (rc_q v0), some (rc_i v1)]) rfl ?_
  intro Y S hC hH h
  have hC : rc_C Y cJ3_setLength RJ3 (Option.none : Option Jvm.ClassFile.FieldType) 2 := hC
  unfold rp_J3_setLength at h
  refine rc_aload_n (pc := 0) hC dJ3_setLength_0 rfl rfl ?_
  refine rc_iload_n (pc := 1) hC dJ3_setLength_1 rfl rfl ?_
  obtain ⟨⟨fs, ho⟩, h⟩ := h.is
  refine rc_callSU (pc := 2) hC rfl ho (rw_J2_setLength hH.1 v0 v1) q1272 q2715 q216 q1273 q119 q1274 ⟨by decide, rd_J2_setLength.2.2⟩ (hH.room (Nat.le_of_ble_eq_true rfl) (Nat.le_of_ble_eq_true rfl)) rfl rfl (Nat.le_of_ble_eq_true rfl) 1 rfl h.le.2.2 h.br rfl dJ3_setLength_2 ?_ (fun E q S hT => rc_out hC hH.2.2.2.2 hT)
  intro _ S h
  show rc_Z Y S 5 [some (rc_q v0), some (rc_i v1)] []
  exact rc_vret hC rfl dJ3_setLength_5 h rfl
theorem rw_J1_inc {l : Launch} (hl : l.stackTraces = false) (v0 : Int32) (v1 : Int32) : rc_Ct l yJ1_inc (ws_ yJ1_inc cJ1_inc 2 (Option.some Jvm.ClassFile.FieldType.int)) 0 0 rc_tI (rp_J1_inc v0 v1) [rc_i v0, rc_i v1] := by
  refine rc_Ct_H hl (plainFor_of_name rY_J1) rfl (Nat.le_of_ble_eq_true rfl) (L0 := [some (rc_i v0), some (rc_i v1)]) rfl ?_
  intro Y S hC hH h
  have hC : rc_C Y cJ1_inc RJ1 (Option.some Jvm.ClassFile.FieldType.int) 2 := hC
  unfold rp_J1_inc at h
  refine rc_iinc (pc := 0) hC (v := (v0 + (1 : Int32))) (L' := [some (rc_i (v0 + (1 : Int32))), some (rc_i v1)]) dJ1_inc_0 rfl rfl rfl rfl ?_
  refine rc_iload_n (pc := 3) hC dJ1_inc_3 rfl rfl ?_
  refine rc_iload_n (pc := 4) hC dJ1_inc_4 rfl rfl ?_
  refine rc_icmp_lt (pc := 5) (tgt := 10) hC dJ1_inc_5 rfl h ?_ ?_
  · intro _ h
    refine rc_iload_n (pc := 10) hC dJ1_inc_10 rfl rfl ?_
    exact rc_iret hC rfl rfl dJ1_inc_11 h rfl
  intro _ h
  refine rc_iconst (pc := 8) hC (v := (0 : Int32)) dJ1_inc_8 rfl ?_
  refine rc_istore_n (pc := 9) hC (L' := [some (rc_i (0 : Int32)), some (rc_i v1)]) dJ1_inc_9 rfl (Nat.le_of_ble_eq_true rfl) rfl rfl ?_
  refine rc_iload_n (pc := 10) hC dJ1_inc_10 rfl rfl ?_
  exact rc_iret hC rfl rfl dJ1_inc_11 h rfl
theorem rw_J1_newCapacity {l : Launch} (hl : l.stackTraces = false) (v0 : Option Nat) (v1 : Int32) (v2 : Int32) : rc_Ct l yJ1_newCapacity (ws_ yJ1_newCapacity cJ1_newCapacity 5 (Option.some Jvm.ClassFile.FieldType.int)) 0 0 rc_tI (rp_J1_newCapacity v0 v1 v2) [rc_q v0, rc_i v1, rc_i v2] := by
  refine rc_Ct_H hl (plainFor_of_name rY_J1) rfl (Nat.le_of_ble_eq_true rfl) (L0 := [some (rc_q v0), some (rc_i v1), some (rc_i v2), none, none]) rfl ?_
  intro Y S hC hH h
  have hC : rc_C Y cJ1_newCapacity RJ1 (Option.some Jvm.ClassFile.FieldType.int) 5 := hC
  unfold rp_J1_newCapacity at h
  refine rc_aload_n (pc := 0) hC dJ1_newCapacity_0 rfl rfl ?_
  refine rc_r_getq (pc := 1) hC rF_J1_3 dJ1_newCapacity_1 h ?_
  intro x1 h
  refine rc_r_alen (pc := 4) hC dJ1_newCapacity_4 h ?_
  intro x2 h
  refine rc_istore_n (pc := 5) hC (L' := [some (rc_q v0), some (rc_i v1), some (rc_i v2), some (rc_i x2), none]) dJ1_newCapacity_5 rfl (Nat.le_of_ble_eq_true rfl) rfl rfl ?_
  refine rc_iload_n (pc := 6) hC dJ1_newCapacity_6 rfl rfl ?_
  refine rc_iload_n (pc := 7) hC dJ1_newCapacity_7 rfl rfl ?_
  refine rc_iadd (pc := 8) hC dJ1_newCapacity_8 ?_
  refine rc_dup (pc := 9) hC dJ1_newCapacity_9 rfl ?_
  refine rc_istore (pc := 10) hC (L' := [some (rc_q v0), some (rc_i v1), some (rc_i v2), some (rc_i x2), some (rc_i (x2 + v1))]) dJ1_newCapacity_10 (Nat.le_of_ble_eq_true rfl) rfl rfl ?_
  refine rc_ldc (pc := 12) hC (v := (2147483639 : Int32)) q1351 dJ1_newCapacity_12 ?_
  refine rc_isub (pc := 14) hC dJ1_newCapacity_14 ?_
  refine rc_if_le (pc := 15) (tgt := 36) hC dJ1_newCapacity_15 rfl h ?_ ?_
  · intro _ h
    refine rc_iload_n (pc := 36) hC dJ1_newCapacity_36 rfl rfl ?_
    refine rc_iload_n (pc := 37) hC dJ1_newCapacity_37 rfl rfl ?_
    refine rc_icmp_le (pc := 38) (tgt := 44) hC dJ1_newCapacity_38 rfl h ?_ ?_
    · intro _ h
      refine rc_iload_n (pc := 44) hC dJ1_newCapacity_44 rfl rfl ?_
      refine rc_iload_n (pc := 45) hC dJ1_newCapacity_45 rfl rfl ?_
      refine rc_iadd (pc := 46) hC dJ1_newCapacity_46 ?_
      refine rc_ldc (pc := 47) hC (v := (2147483639 : Int32)) q1351 dJ1_newCapacity_47 ?_
      refine rc_isub (pc := 49) hC dJ1_newCapacity_49 ?_
      refine rc_if_ge (pc := 50) (tgt := 59) hC dJ1_newCapacity_50 rfl h ?_ ?_
      · intro _ h
        refine rc_ldc (pc := 59) hC (v := (2147483639 : Int32)) q1351 dJ1_newCapacity_59 ?_
        exact rc_iret hC rfl rfl dJ1_newCapacity_61 h rfl
      intro _ h
      refine rc_iload_n (pc := 53) hC dJ1_newCapacity_53 rfl rfl ?_
      refine rc_iload_n (pc := 54) hC dJ1_newCapacity_54 rfl rfl ?_
      refine rc_iadd (pc := 55) hC dJ1_newCapacity_55 ?_
      refine rc_goto (pc := 56) (tgt := 61) hC dJ1_newCapacity_56 rfl ?_
      exact rc_iret hC rfl rfl dJ1_newCapacity_61 h rfl
    intro _ h
    refine rc_iload (pc := 41) hC dJ1_newCapacity_41 rfl ?_
    exact rc_iret hC rfl rfl dJ1_newCapacity_43 h rfl
  intro _ h
  refine rc_iload (pc := 18) hC dJ1_newCapacity_18 rfl ?_
  refine rc_if_ge (pc := 20) (tgt := 33) hC dJ1_newCapacity_20 rfl h ?_ ?_
  · intro _ h
    refine rc_ldc (pc := 33) hC (v := (2147483647 : Int32)) q1362 dJ1_newCapacity_33 ?_
    exact rc_iret hC rfl rfl dJ1_newCapacity_35 h rfl
  intro _ h
  exact h.fail.elim
theorem rw_J1_grow_L145 {Y : rc_Y} (hC : rc_C Y cJ1_grow RJ1 (Option.none : Option Jvm.ClassFile.FieldType) 9) (hH : rc_H Y 3 84 yJ1_grow.name) : ∀ (n : Nat) (v5 : Option Nat) (v7 : Int32) (v8 : Int32) (S : rc_S), rc_Go Y rc_tU (rp_J1_grow_L145  n v5 v7 v8) S → rc_Z Y S 145 [none, none, none, none, none, some (rc_q v5), none, some (rc_i v7), some (rc_i v8)] [] := by
  intro n
  induction n with
  | zero => intro v5 v7 v8 S h; exact h.fail.elim
  | succ n ih =>
    intro v5 v7 v8 S h
    rw [rp_J1_grow_L145] at h
    refine rc_iload (pc := 145) hC dJ1_grow_145 rfl ?_
    refine rc_iload (pc := 147) hC dJ1_grow_147 rfl ?_
    refine rc_icmp_ge (pc := 149) (tgt := 164) hC dJ1_grow_149 rfl h ?_ ?_
    · intro _ h
      exact rc_vret hC rfl dJ1_grow_164 h rfl
    intro _ h
    refine rc_aload (pc := 152) hC dJ1_grow_152 rfl ?_
    refine rc_iload (pc := 154) hC dJ1_grow_154 rfl ?_
    refine rc_null (pc := 156) hC dJ1_grow_156 ?_
    refine rc_r_aast (pc := 157) hC dJ1_grow_157 h ?_
    intro S h
    refine rc_iinc (pc := 158) hC (v := (v7 + (1 : Int32))) (L' := [none, none, none, none, none, some (rc_q v5), none, some (rc_i (v7 + (1 : Int32))), some (rc_i v8)]) dJ1_grow_158 rfl rfl rfl rfl ?_
    refine rc_goto (pc := 161) (tgt := 145) hC dJ1_grow_161 rfl ?_
    exact ih v5 (v7 + (1 : Int32)) v8 S h
theorem rw_J1_grow_L96 {Y : rc_Y} (hC : rc_C Y cJ1_grow RJ1 (Option.none : Option Jvm.ClassFile.FieldType) 9) (hH : rc_H Y 3 84 yJ1_grow.name) (v0 : Option Nat) (v2 : Int32) (v3 : Int32) (v5 : Option Nat) (S : rc_S) (h : rc_Go Y rc_tU (rp_J1_grow_L96  v0 v2 v3 v5) S) : rc_Z Y S 96 [some (rc_q v0), none, some (rc_i v2), some (rc_i v3), none, some (rc_q v5), none, none, none] [] := by
  unfold rp_J1_grow_L96 at h
  refine rc_iload_n (pc := 96) hC dJ1_grow_96 rfl rfl ?_
  refine rc_iload_n (pc := 97) hC dJ1_grow_97 rfl rfl ?_
  refine rc_isub (pc := 98) hC dJ1_grow_98 ?_
  refine rc_istore (pc := 99) hC (L' := [some (rc_q v0), none, some (rc_i v2), some (rc_i v3), none, some (rc_q v5), some (rc_i (v3 - v2)), none, none]) dJ1_grow_99 (Nat.le_of_ble_eq_true rfl) rfl rfl ?_
  refine rc_aload (pc := 101) hC dJ1_grow_101 rfl ?_
  refine rc_aload_n (pc := 103) hC dJ1_grow_103 rfl rfl ?_
  refine rc_r_geti (pc := 104) hC rF_J1_24 dJ1_grow_104 h ?_
  intro x1 h
  refine rc_aload (pc := 107) hC dJ1_grow_107 rfl ?_
  refine rc_aload_n (pc := 109) hC dJ1_grow_109 rfl rfl ?_
  refine rc_r_geti (pc := 110) hC rF_J1_24 dJ1_grow_110 h ?_
  intro x2 h
  refine rc_iload (pc := 113) hC dJ1_grow_113 rfl ?_
  refine rc_iadd (pc := 115) hC dJ1_grow_115 ?_
  refine rc_iload_n (pc := 116) hC dJ1_grow_116 rfl rfl ?_
  refine rc_aload_n (pc := 117) hC dJ1_grow_117 rfl rfl ?_
  refine rc_r_geti (pc := 118) hC rF_J1_24 dJ1_grow_118 h ?_
  intro x3 h
  refine rc_isub (pc := 121) hC dJ1_grow_121 ?_
  refine rc_r_acopy (pc := 122) (t := 4) hC q1364 q470 q469 q140 (hH.frm (Nat.le_of_ble_eq_true rfl)) (hH.lom (Nat.le_of_ble_eq_true rfl)) rfl rfl (Nat.le_of_ble_eq_true rfl) dJ1_grow_122 h ?_
  intro S h
  refine rc_aload_n (pc := 125) hC dJ1_grow_125 rfl rfl ?_
  refine rc_r_geti (pc := 126) hC rF_J1_24 dJ1_grow_126 h ?_
  intro x4 h
  refine rc_istore (pc := 129) hC (L' := [some (rc_q v0), none, some (rc_i v2), some (rc_i v3), none, some (rc_q v5), some (rc_i (v3 - v2)), some (rc_i x4), none]) dJ1_grow_129 (Nat.le_of_ble_eq_true rfl) rfl rfl ?_
  refine rc_aload_n (pc := 131) hC dJ1_grow_131 rfl rfl ?_
  refine rc_dup (pc := 132) hC dJ1_grow_132 rfl ?_
  refine rc_r_geti (pc := 133) hC rF_J1_24 dJ1_grow_133 h ?_
  intro x5 h
  refine rc_iload (pc := 136) hC dJ1_grow_136 rfl ?_
  refine rc_iadd (pc := 138) hC dJ1_grow_138 ?_
  refine rc_dup_x1 (pc := 139) hC dJ1_grow_139 rfl rfl ?_
  refine rc_r_put (pc := 140) hC rP_J1_24 (nofun) dJ1_grow_140 h ?_
  intro S h
  refine rc_istore (pc := 143) hC (L' := [some (rc_q v0), none, some (rc_i v2), some (rc_i v3), none, some (rc_q v5), some (rc_i (v3 - v2)), some (rc_i x4), some (rc_i (x5 + (v3 - v2)))]) dJ1_grow_143 (Nat.le_of_ble_eq_true rfl) rfl rfl ?_
  refine rc_drop [false, false, false, false, false, true, false, true, true] (L' := [none, none, none, none, none, some (rc_q v5), none, some (rc_i x4), some (rc_i (x5 + (v3 - v2)))]) rfl ?_
  refine rc_r_fuel h ?_
  intro x6 h
  exact rw_J1_grow_L145 hC hH  x6 v5 x4 (x5 + (v3 - v2)) S h
theorem rw_J1_grow_L49 {Y : rc_Y} (hC : rc_C Y cJ1_grow RJ1 (Option.none : Option Jvm.ClassFile.FieldType) 9) (hH : rc_H Y 3 84 yJ1_grow.name) (v0 : Option Nat) (v2 : Int32) (v3 : Int32) (S : rc_S) (h : rc_Go Y rc_tU (rp_J1_grow_L49  v0 v2 v3) S) : rc_Z Y S 49 [some (rc_q v0), none, some (rc_i v2), some (rc_i v3), none, none, none, none, none] [] := by
  unfold rp_J1_grow_L49 at h
  refine rc_aload_n (pc := 49) hC dJ1_grow_49 rfl rfl ?_
  refine rc_aload_n (pc := 50) hC dJ1_grow_50 rfl rfl ?_
  refine rc_r_getq (pc := 51) hC rF_J1_3 dJ1_grow_51 h ?_
  intro x1 h
  refine rc_iload_n (pc := 54) hC dJ1_grow_54 rfl rfl ?_
  refine rc_callS (pc := 55) hC (rw_J10_copyOf_2 hH.1 x1 v3) q1363 q869 q131 q870 rd_J10_copyOf_2 (hH.room (Nat.le_of_ble_eq_true rfl) (Nat.le_of_ble_eq_true rfl)) rfl rfl (Nat.le_of_ble_eq_true rfl) 2 rfl h.le.2.2 h.br rfl dJ1_grow_55 ?_ (fun E q S hT => rc_out hC hH.2.2.2.2 hT)
  intro x2 S h
  show rc_Z Y S 58 [some (rc_q v0), none, some (rc_i v2), some (rc_i v3), none, none, none, none, none] [rc_q x2, rc_q v0]
  refine rc_dup_x1 (pc := 58) hC dJ1_grow_58 rfl rfl ?_
  refine rc_r_put (pc := 59) hC rP_J1_3 (nofun) dJ1_grow_59 h ?_
  intro S h
  refine rc_astore (pc := 62) hC (L' := [some (rc_q v0), none, some (rc_i v2), some (rc_i v3), none, some (rc_q x2), none, none, none]) dJ1_grow_62 (Nat.le_of_ble_eq_true rfl) rfl rfl ?_
  refine rc_aload_n (pc := 64) hC dJ1_grow_64 rfl rfl ?_
  refine rc_r_geti (pc := 65) hC rF_J1_20 dJ1_grow_65 h ?_
  intro x3 h
  refine rc_aload_n (pc := 68) hC dJ1_grow_68 rfl rfl ?_
  refine rc_r_geti (pc := 69) hC rF_J1_24 dJ1_grow_69 h ?_
  intro x4 h
  refine rc_icmp_lt (pc := 72) (tgt := 96) hC dJ1_grow_72 rfl h ?_ ?_
  · intro _ h
    exact rw_J1_grow_L96 hC hH  v0 v2 v3 x2 S h
  intro _ h
  refine rc_aload_n (pc := 75) hC dJ1_grow_75 rfl rfl ?_
  refine rc_r_geti (pc := 76) hC rF_J1_20 dJ1_grow_76 h ?_
  intro x5 h
  refine rc_aload_n (pc := 79) hC dJ1_grow_79 rfl rfl ?_
  refine rc_r_geti (pc := 80) hC rF_J1_24 dJ1_grow_80 h ?_
  intro x6 h
  refine rc_icmp_ne (pc := 83) (tgt := 164) hC dJ1_grow_83 rfl h ?_ ?_
  · intro _ h
    exact rc_vret hC rfl dJ1_grow_164 h rfl
  intro _ h
  refine rc_aload (pc := 86) hC dJ1_grow_86 rfl ?_
  refine rc_aload_n (pc := 88) hC dJ1_grow_88 rfl rfl ?_
  refine rc_r_geti (pc := 89) hC rF_J1_24 dJ1_grow_89 h ?_
  intro x7 h
  refine rc_r_aald (pc := 92) hC dJ1_grow_92 h ?_
  intro x8 h
  refine rc_ifnull (pc := 93) (tgt := 164) hC dJ1_grow_93 rfl h ?_ ?_
  · intro _ h
    exact rc_vret hC rfl dJ1_grow_164 h rfl
  intro _ h
  exact rw_J1_grow_L96 hC hH  v0 v2 v3 x2 S h
theorem rw_J1_grow_L41 {Y : rc_Y} (hC : rc_C Y cJ1_grow RJ1 (Option.none : Option Jvm.ClassFile.FieldType) 9) (hH : rc_H Y 3 84 yJ1_grow.name) (v0 : Option Nat) (v1 : Int32) (v2 : Int32) (v4 : Int32) (S : rc_S) (h : rc_Go Y rc_tU (rp_J1_grow_L41  v0 v1 v2 v4) S) : rc_Z Y S 41 [some (rc_q v0), some (rc_i v1), some (rc_i v2), none, some (rc_i v4), none, none, none, none] [] := by
  unfold rp_J1_grow_L41 at h
  refine rc_aload_n (pc := 41) hC dJ1_grow_41 rfl rfl ?_
  refine rc_iload_n (pc := 42) hC dJ1_grow_42 rfl rfl ?_
  refine rc_iload (pc := 43) hC dJ1_grow_43 rfl ?_
  obtain ⟨⟨fs, ho⟩, h⟩ := h.is
  refine rc_callV (pc := 45) hC rfl ho (rw_J1_newCapacity hH.1 v0 v1 v4) q1352 q1354 qs22 q118 q1355 rfl rd_J1_newCapacity (hH.room (Nat.le_of_ble_eq_true rfl) (Nat.le_of_ble_eq_true rfl)) rfl rfl (Nat.le_of_ble_eq_true rfl) 2 rfl h.le.2.2 h.br rfl dJ1_grow_45 ?_ (fun E q S hT => rc_out hC hH.2.2.2.2 hT)
  intro x1 S h
  show rc_Z Y S 48 [some (rc_q v0), some (rc_i v1), some (rc_i v2), none, some (rc_i v4), none, none, none, none] [rc_i x1]
  refine rc_istore_n (pc := 48) hC (L' := [some (rc_q v0), some (rc_i v1), some (rc_i v2), some (rc_i x1), some (rc_i v4), none, none, none, none]) dJ1_grow_48 rfl (Nat.le_of_ble_eq_true rfl) rfl rfl ?_
  refine rc_drop [true, false, true, true, false, false, false, false, false] (L' := [some (rc_q v0), none, some (rc_i v2), some (rc_i x1), none, none, none, none, none]) rfl ?_
  exact rw_J1_grow_L49 hC hH  v0 v2 x1 S h
theorem rw_J1_grow_L21 {Y : rc_Y} (hC : rc_C Y cJ1_grow RJ1 (Option.none : Option Jvm.ClassFile.FieldType) 9) (hH : rc_H Y 3 84 yJ1_grow.name) (v0 : Option Nat) (v1 : Int32) (v2 : Int32) (s0 : Int32) (S : rc_S) (h : rc_Go Y rc_tU (rp_J1_grow_L21  v0 v1 v2 s0) S) : rc_Z Y S 21 [some (rc_q v0), some (rc_i v1), some (rc_i v2), none, none, none, none, none, none] [rc_i s0] := by
  unfold rp_J1_grow_L21 at h
  refine rc_istore (pc := 21) hC (L' := [some (rc_q v0), some (rc_i v1), some (rc_i v2), none, some (rc_i s0), none, none, none, none]) dJ1_grow_21 (Nat.le_of_ble_eq_true rfl) rfl rfl ?_
  refine rc_iload (pc := 23) hC dJ1_grow_23 rfl ?_
  refine rc_iload_n (pc := 25) hC dJ1_grow_25 rfl rfl ?_
  refine rc_icmp_lt (pc := 26) (tgt := 41) hC dJ1_grow_26 rfl h ?_ ?_
  · intro _ h
    exact rw_J1_grow_L41 hC hH  v0 v1 v2 s0 S h
  intro _ h
  refine rc_iload_n (pc := 29) hC dJ1_grow_29 rfl rfl ?_
  refine rc_iload (pc := 30) hC dJ1_grow_30 rfl ?_
  refine rc_iadd (pc := 32) hC dJ1_grow_32 ?_
  refine rc_dup (pc := 33) hC dJ1_grow_33 rfl ?_
  refine rc_istore_n (pc := 34) hC (L' := [some (rc_q v0), some (rc_i v1), some (rc_i v2), some (rc_i (v2 + s0)), some (rc_i s0), none, none, none, none]) dJ1_grow_34 rfl (Nat.le_of_ble_eq_true rfl) rfl rfl ?_
  refine rc_ldc (pc := 35) hC (v := (2147483639 : Int32)) q1351 dJ1_grow_35 ?_
  refine rc_isub (pc := 37) hC dJ1_grow_37 ?_
  refine rc_if_le (pc := 38) (tgt := 49) hC dJ1_grow_38 rfl h ?_ ?_
  · intro _ h
    refine rc_drop [true, false, true, true, false, false, false, false, false] (L' := [some (rc_q v0), none, some (rc_i v2), some (rc_i (v2 + s0)), none, none, none, none, none]) rfl ?_
    exact rw_J1_grow_L49 hC hH  v0 v2 (v2 + s0) S h
  intro _ h
  refine rc_drop [true, true, true, false, true, false, false, false, false] (L' := [some (rc_q v0), some (rc_i v1), some (rc_i v2), none, some (rc_i s0), none, none, none, none]) rfl ?_
  exact rw_J1_grow_L41 hC hH  v0 v1 v2 s0 S h
theorem rw_J1_grow {l : Launch} (hl : l.stackTraces = false) (v0 : Option Nat) (v1 : Int32) : rc_Ct l yJ1_grow (ws_ yJ1_grow cJ1_grow 9 (Option.none : Option Jvm.ClassFile.FieldType)) 3 84 rc_tU (rp_J1_grow v0 v1) [rc_q v0, rc_i v1] := by
  refine rc_Ct_H hl (plainFor_of_name rY_J1) rfl (Nat.le_of_ble_eq_true rfl) (L0 := [some (rc_q v0), some (rc_i v1), none, none, none, none, none, none, none]) rfl ?_
  intro Y S hC hH h
  have hC : rc_C Y cJ1_grow RJ1 (Option.none : Option Jvm.ClassFile.FieldType) 9 := hC
  unfold rp_J1_grow at h
  refine rc_aload_n (pc := 0) hC dJ1_grow_0 rfl rfl ?_
  refine rc_r_getq (pc := 1) hC rF_J1_3 dJ1_grow_1 h ?_
  intro x1 h
  refine rc_r_alen (pc := 4) hC dJ1_grow_4 h ?_
  intro x2 h
  refine rc_istore_n (pc := 5) hC (L' := [some (rc_q v0), some (rc_i v1), some (rc_i x2), none, none, none, none, none, none]) dJ1_grow_5 rfl (Nat.le_of_ble_eq_true rfl) rfl rfl ?_
  refine rc_iload_n (pc := 6) hC dJ1_grow_6 rfl rfl ?_
  refine rc_bipush (pc := 7) hC (v := (64 : Int32)) dJ1_grow_7 rfl ?_
  refine rc_icmp_ge (pc := 9) (tgt := 18) hC dJ1_grow_9 rfl h ?_ ?_
  · intro _ h
    refine rc_iload_n (pc := 18) hC dJ1_grow_18 rfl rfl ?_
    refine rc_iconst (pc := 19) hC (v := (1 : Int32)) dJ1_grow_19 rfl ?_
    refine rc_ishr (pc := 20) hC dJ1_grow_20 ?_
    exact rw_J1_grow_L21 hC hH  v0 v1 x2 (x2 >>> ((1 : Int32) &&& 31)) S h
  intro _ h
  refine rc_iload_n (pc := 12) hC dJ1_grow_12 rfl rfl ?_
  refine rc_iconst (pc := 13) hC (v := (2 : Int32)) dJ1_grow_13 rfl ?_
  refine rc_iadd (pc := 14) hC dJ1_grow_14 ?_
  refine rc_goto (pc := 15) (tgt := 21) hC dJ1_grow_15 rfl ?_
  exact rw_J1_grow_L21 hC hH  v0 v1 x2 (x2 + (2 : Int32)) S h
theorem rw_J1_addLast {l : Launch} (hl : l.stackTraces = false) (v0 : Option Nat) (v1 : Option Nat) : rc_Ct l yJ1_addLast (ws_ yJ1_addLast cJ1_addLast 3 (Option.none : Option Jvm.ClassFile.FieldType)) 4 112 rc_tU (rp_J1_addLast v0 v1) [rc_q v0, rc_q v1] := by
  refine rc_Ct_H hl (plainFor_of_name rY_J1) rfl (Nat.le_of_ble_eq_true rfl) (L0 := [some (rc_q v0), some (rc_q v1), none]) rfl ?_
  intro Y S hC hH h
  have hC : rc_C Y cJ1_addLast RJ1 (Option.none : Option Jvm.ClassFile.FieldType) 3 := hC
  unfold rp_J1_addLast at h
  refine rc_aload_n (pc := 0) hC dJ1_addLast_0 rfl rfl ?_
  refine rc_ifnonnull (pc := 1) (tgt := 12) hC dJ1_addLast_1 rfl h ?_ ?_
  · intro _ h
    refine rc_aload_n (pc := 12) hC dJ1_addLast_12 rfl rfl ?_
    refine rc_r_getq (pc := 13) hC rF_J1_3 dJ1_addLast_13 h ?_
    intro x1 h
    refine rc_astore_n (pc := 16) hC (L' := [some (rc_q v0), some (rc_q v1), some (rc_q x1)]) dJ1_addLast_16 rfl (Nat.le_of_ble_eq_true rfl) rfl rfl ?_
    refine rc_aload_n (pc := 17) hC dJ1_addLast_17 rfl rfl ?_
    refine rc_aload_n (pc := 18) hC dJ1_addLast_18 rfl rfl ?_
    refine rc_r_geti (pc := 19) hC rF_J1_20 dJ1_addLast_19 h ?_
    intro x2 h
    refine rc_aload_n (pc := 22) hC dJ1_addLast_22 rfl rfl ?_
    refine rc_r_aast (pc := 23) hC dJ1_addLast_23 h ?_
    intro S h
    refine rc_aload_n (pc := 24) hC dJ1_addLast_24 rfl rfl ?_
    refine rc_r_geti (pc := 25) hC rF_J1_24 dJ1_addLast_25 h ?_
    intro x3 h
    refine rc_aload_n (pc := 28) hC dJ1_addLast_28 rfl rfl ?_
    refine rc_aload_n (pc := 29) hC dJ1_addLast_29 rfl rfl ?_
    refine rc_r_geti (pc := 30) hC rF_J1_20 dJ1_addLast_30 h ?_
    intro x4 h
    refine rc_aload_n (pc := 33) hC dJ1_addLast_33 rfl rfl ?_
    refine rc_r_alen (pc := 34) hC dJ1_addLast_34 h ?_
    intro x5 h
    refine rc_callS (pc := 35) hC (rw_J1_inc hH.1 x4 x5) q1344 q1345 q118 q1346 rd_J1_inc (hH.room (Nat.le_of_ble_eq_true rfl) (Nat.le_of_ble_eq_true rfl)) rfl rfl (Nat.le_of_ble_eq_true rfl) 2 rfl h.le.2.2 h.br rfl dJ1_addLast_35 ?_ (fun E q S hT => rc_out hC hH.2.2.2.2 hT)
    intro x6 S h
    show rc_Z Y S 38 [some (rc_q v0), some (rc_q v1), some (rc_q x1)] [rc_i x6, rc_q v0, rc_i x3]
    refine rc_dup_x1 (pc := 38) hC dJ1_addLast_38 rfl rfl ?_
    refine rc_r_put (pc := 39) hC rP_J1_20 (nofun) dJ1_addLast_39 h ?_
    intro S h
    refine rc_icmp_ne (pc := 42) (tgt := 50) hC dJ1_addLast_42 rfl h ?_ ?_
    · intro _ h
      exact rc_vret hC rfl dJ1_addLast_50 h rfl
    intro _ h
    refine rc_aload_n (pc := 45) hC dJ1_addLast_45 rfl rfl ?_
    refine rc_iconst (pc := 46) hC (v := (1 : Int32)) dJ1_addLast_46 rfl ?_
    obtain ⟨⟨fs, ho⟩, h⟩ := h.is
    refine rc_callV (pc := 47) hC rfl ho (rw_J1_grow hH.1 v0 (1 : Int32)) q1347 q1349 qs21 q118 q1350 rfl rd_J1_grow (hH.room (Nat.le_of_ble_eq_true rfl) (Nat.le_of_ble_eq_true rfl)) rfl rfl (Nat.le_of_ble_eq_true rfl) 1 rfl h.le.2.2 h.br rfl dJ1_addLast_47 ?_ (fun E q S hT => rc_out hC hH.2.2.2.2 hT)
    intro _ S h
    show rc_Z Y S 50 [some (rc_q v0), some (rc_q v1), some (rc_q x1)] []
    exact rc_vret hC rfl dJ1_addLast_50 h rfl
  intro _ h
  exact h.fail.elim
theorem rw_J1_sub {l : Launch} (hl : l.stackTraces = false) (v0 : Int32) (v1 : Int32) (v2 : Int32) : rc_Ct l yJ1_sub (ws_ yJ1_sub cJ1_sub 3 (Option.some Jvm.ClassFile.FieldType.int)) 0 0 rc_tI (rp_J1_sub v0 v1 v2) [rc_i v0, rc_i v1, rc_i v2] := by
  refine rc_Ct_H hl (plainFor_of_name rY_J1) rfl (Nat.le_of_ble_eq_true rfl) (L0 := [some (rc_i v0), some (rc_i v1), some (rc_i v2)]) rfl ?_
  intro Y S hC hH h
  have hC : rc_C Y cJ1_sub RJ1 (Option.some Jvm.ClassFile.FieldType.int) 3 := hC
  unfold rp_J1_sub at h
  refine rc_iload_n (pc := 0) hC dJ1_sub_0 rfl rfl ?_
  refine rc_iload_n (pc := 1) hC dJ1_sub_1 rfl rfl ?_
  refine rc_isub (pc := 2) hC dJ1_sub_2 ?_
  refine rc_dup (pc := 3) hC dJ1_sub_3 rfl ?_
  refine rc_istore_n (pc := 4) hC (L' := [some (rc_i (v0 - v1)), some (rc_i v1), some (rc_i v2)]) dJ1_sub_4 rfl (Nat.le_of_ble_eq_true rfl) rfl rfl ?_
  refine rc_if_ge (pc := 5) (tgt := 12) hC dJ1_sub_5 rfl h ?_ ?_
  · intro _ h
    refine rc_iload_n (pc := 12) hC dJ1_sub_12 rfl rfl ?_
    exact rc_iret hC rfl rfl dJ1_sub_13 h rfl
  intro _ h
  refine rc_iload_n (pc := 8) hC dJ1_sub_8 rfl rfl ?_
  refine rc_iload_n (pc := 9) hC dJ1_sub_9 rfl rfl ?_
  refine rc_iadd (pc := 10) hC dJ1_sub_10 ?_
  refine rc_istore_n (pc := 11) hC (L' := [some (rc_i ((v0 - v1) + v2)), some (rc_i v1), some (rc_i v2)]) dJ1_sub_11 rfl (Nat.le_of_ble_eq_true rfl) rfl rfl ?_
  refine rc_iload_n (pc := 12) hC dJ1_sub_12 rfl rfl ?_
  exact rc_iret hC rfl rfl dJ1_sub_13 h rfl
theorem rw_J1_size {l : Launch} (hl : l.stackTraces = false) (v0 : Option Nat) : rc_Ct l yJ1_size (ws_ yJ1_size cJ1_size 1 (Option.some Jvm.ClassFile.FieldType.int)) 1 22 rc_tI (rp_J1_size v0) [rc_q v0] := by
  refine rc_Ct_H hl (plainFor_of_name rY_J1) rfl (Nat.le_of_ble_eq_true rfl) (L0 := [some (rc_q v0)]) rfl ?_
  intro Y S hC hH h
  have hC : rc_C Y cJ1_size RJ1 (Option.some Jvm.ClassFile.FieldType.int) 1 := hC
  unfold rp_J1_size at h
  refine rc_aload_n (pc := 0) hC dJ1_size_0 rfl rfl ?_
  refine rc_r_geti (pc := 1) hC rF_J1_20 dJ1_size_1 h ?_
  intro x1 h
  refine rc_aload_n (pc := 4) hC dJ1_size_4 rfl rfl ?_
  refine rc_r_geti (pc := 5) hC rF_J1_24 dJ1_size_5 h ?_
  intro x2 h
  refine rc_aload_n (pc := 8) hC dJ1_size_8 rfl rfl ?_
  refine rc_r_getq (pc := 9) hC rF_J1_3 dJ1_size_9 h ?_
  intro x3 h
  refine rc_r_alen (pc := 12) hC dJ1_size_12 h ?_
  intro x4 h
  refine rc_callS (pc := 13) hC (rw_J1_sub hH.1 x1 x2 x4) q1369 q1370 q118 q1371 rd_J1_sub (hH.room (Nat.le_of_ble_eq_true rfl) (Nat.le_of_ble_eq_true rfl)) rfl rfl (Nat.le_of_ble_eq_true rfl) 3 rfl h.le.2.2 h.br rfl dJ1_size_13 ?_ (fun E q S hT => rc_out hC hH.2.2.2.2 hT)
  intro x5 S h
  show rc_Z Y S 16 [some (rc_q v0)] [rc_i x5]
  exact rc_iret hC rfl rfl dJ1_size_16 h rfl
theorem rw_J1_elementAt {l : Launch} (hl : l.stackTraces = false) (v0 : Option Nat) (v1 : Int32) : rc_Ct l yJ1_elementAt (ws_ yJ1_elementAt cJ1_elementAt 2 (Option.some (Jvm.ClassFile.FieldType.object "java/lang/Object"))) 0 0 rc_tQ (rp_J1_elementAt v0 v1) [rc_q v0, rc_i v1] := by
  refine rc_Ct_H hl (plainFor_of_name rY_J1) rfl (Nat.le_of_ble_eq_true rfl) (L0 := [some (rc_q v0), some (rc_i v1)]) rfl ?_
  intro Y S hC hH h
  have hC : rc_C Y cJ1_elementAt RJ1 (Option.some (Jvm.ClassFile.FieldType.object "java/lang/Object")) 2 := hC
  unfold rp_J1_elementAt at h
  refine rc_aload_n (pc := 0) hC dJ1_elementAt_0 rfl rfl ?_
  refine rc_iload_n (pc := 1) hC dJ1_elementAt_1 rfl rfl ?_
  refine rc_r_aald (pc := 2) hC dJ1_elementAt_2 h ?_
  intro x1 h
  exact rc_aret hC rfl (by first | exact Or.inl ⟨_, rfl⟩ | exact Or.inr ⟨_, rfl⟩) dJ1_elementAt_3 h rfl
theorem rw_J1_pollFirst {l : Launch} (hl : l.stackTraces = false) (v0 : Option Nat) : rc_Ct l yJ1_pollFirst (ws_ yJ1_pollFirst cJ1_pollFirst 4 (Option.some (Jvm.ClassFile.FieldType.object "java/lang/Object"))) 1 21 rc_tQ (rp_J1_pollFirst v0) [rc_q v0] := by
  refine rc_Ct_H hl (plainFor_of_name rY_J1) rfl (Nat.le_of_ble_eq_true rfl) (L0 := [some (rc_q v0), none, none, none]) rfl ?_
  intro Y S hC hH h
  have hC : rc_C Y cJ1_pollFirst RJ1 (Option.some (Jvm.ClassFile.FieldType.object "java/lang/Object")) 4 := hC
  unfold rp_J1_pollFirst at h
  refine rc_aload_n (pc := 0) hC dJ1_pollFirst_0 rfl rfl ?_
  refine rc_r_getq (pc := 1) hC rF_J1_3 dJ1_pollFirst_1 h ?_
  intro x1 h
  refine rc_dup (pc := 4) hC dJ1_pollFirst_4 rfl ?_
  refine rc_astore_n (pc := 5) hC (L' := [some (rc_q v0), some (rc_q x1), none, none]) dJ1_pollFirst_5 rfl (Nat.le_of_ble_eq_true rfl) rfl rfl ?_
  refine rc_aload_n (pc := 6) hC dJ1_pollFirst_6 rfl rfl ?_
  refine rc_r_geti (pc := 7) hC rF_J1_24 dJ1_pollFirst_7 h ?_
  intro x2 h
  refine rc_dup (pc := 10) hC dJ1_pollFirst_10 rfl ?_
  refine rc_istore_n (pc := 11) hC (L' := [some (rc_q v0), some (rc_q x1), some (rc_i x2), none]) dJ1_pollFirst_11 rfl (Nat.le_of_ble_eq_true rfl) rfl rfl ?_
  refine rc_callS (pc := 12) hC (rw_J1_elementAt hH.1 x1 x2) q1380 q1381 q118 q1382 rd_J1_elementAt (hH.room (Nat.le_of_ble_eq_true rfl) (Nat.le_of_ble_eq_true rfl)) rfl rfl (Nat.le_of_ble_eq_true rfl) 2 rfl h.le.2.2 h.br rfl dJ1_pollFirst_12 ?_ (fun E q S hT => rc_out hC hH.2.2.2.2 hT)
  intro x3 S h
  show rc_Z Y S 15 [some (rc_q v0), some (rc_q x1), some (rc_i x2), none] [rc_q x3]
  refine rc_astore_n (pc := 15) hC (L' := [some (rc_q v0), some (rc_q x1), some (rc_i x2), some (rc_q x3)]) dJ1_pollFirst_15 rfl (Nat.le_of_ble_eq_true rfl) rfl rfl ?_
  refine rc_aload_n (pc := 16) hC dJ1_pollFirst_16 rfl rfl ?_
  refine rc_ifnull (pc := 17) (tgt := 34) hC dJ1_pollFirst_17 rfl h ?_ ?_
  · intro _ h
    refine rc_aload_n (pc := 34) hC dJ1_pollFirst_34 rfl rfl ?_
    exact rc_aret hC rfl (by first | exact Or.inl ⟨_, rfl⟩ | exact Or.inr ⟨_, rfl⟩) dJ1_pollFirst_35 h rfl
  intro _ h
  refine rc_aload_n (pc := 20) hC dJ1_pollFirst_20 rfl rfl ?_
  refine rc_iload_n (pc := 21) hC dJ1_pollFirst_21 rfl rfl ?_
  refine rc_null (pc := 22) hC dJ1_pollFirst_22 ?_
  refine rc_r_aast (pc := 23) hC dJ1_pollFirst_23 h ?_
  intro S h
  refine rc_aload_n (pc := 24) hC dJ1_pollFirst_24 rfl rfl ?_
  refine rc_iload_n (pc := 25) hC dJ1_pollFirst_25 rfl rfl ?_
  refine rc_aload_n (pc := 26) hC dJ1_pollFirst_26 rfl rfl ?_
  refine rc_r_alen (pc := 27) hC dJ1_pollFirst_27 h ?_
  intro x4 h
  refine rc_callS (pc := 28) hC (rw_J1_inc hH.1 x2 x4) q1344 q1345 q118 q1346 rd_J1_inc (hH.room (Nat.le_of_ble_eq_true rfl) (Nat.le_of_ble_eq_true rfl)) rfl rfl (Nat.le_of_ble_eq_true rfl) 2 rfl h.le.2.2 h.br rfl dJ1_pollFirst_28 ?_ (fun E q S hT => rc_out hC hH.2.2.2.2 hT)
  intro x5 S h
  show rc_Z Y S 31 [some (rc_q v0), some (rc_q x1), some (rc_i x2), some (rc_q x3)] [rc_i x5, rc_q v0]
  refine rc_r_put (pc := 31) hC rP_J1_24 (nofun) dJ1_pollFirst_31 h ?_
  intro S h
  refine rc_aload_n (pc := 34) hC dJ1_pollFirst_34 rfl rfl ?_
  exact rc_aret hC rfl (by first | exact Or.inl ⟨_, rfl⟩ | exact Or.inr ⟨_, rfl⟩) dJ1_pollFirst_35 h rfl
theorem rw_J1_removeFirst {l : Launch} (hl : l.stackTraces = false) (v0 : Option Nat) : rc_Ct l yJ1_removeFirst (ws_ yJ1_removeFirst cJ1_removeFirst 2 (Option.some (Jvm.ClassFile.FieldType.object "java/lang/Object"))) 6 89 rc_tQ (rp_J1_removeFirst v0) [rc_q v0] := by
  refine rc_Ct_H hl (plainFor_of_name rY_J1) rfl (Nat.le_of_ble_eq_true rfl) (L0 := [some (rc_q v0), none]) rfl ?_
  intro Y S hC hH h
  have hC : rc_C Y cJ1_removeFirst RJ1 (Option.some (Jvm.ClassFile.FieldType.object "java/lang/Object")) 2 := hC
  unfold rp_J1_removeFirst at h
  refine rc_aload_n (pc := 0) hC dJ1_removeFirst_0 rfl rfl ?_
  obtain ⟨⟨fs, ho⟩, h⟩ := h.is
  refine rc_callV (pc := 1) hC rfl ho (rw_J1_pollFirst hH.1 v0) q1376 q1377 q1378 q118 q1379 rfl rd_J1_pollFirst (hH.room (Nat.le_of_ble_eq_true rfl) (Nat.le_of_ble_eq_true rfl)) rfl rfl (Nat.le_of_ble_eq_true rfl) 0 rfl h.le.2.2 h.br rfl dJ1_removeFirst_1 ?_ (fun E q S hT => rc_out hC hH.2.2.2.2 hT)
  intro x1 S h
  show rc_Z Y S 4 [some (rc_q v0), none] [rc_q x1]
  refine rc_astore_n (pc := 4) hC (L' := [some (rc_q v0), some (rc_q x1)]) dJ1_removeFirst_4 rfl (Nat.le_of_ble_eq_true rfl) rfl rfl ?_
  refine rc_aload_n (pc := 5) hC dJ1_removeFirst_5 rfl rfl ?_
  refine rc_ifnonnull (pc := 6) (tgt := 17) hC dJ1_removeFirst_6 rfl h ?_ ?_
  · intro _ h
    refine rc_aload_n (pc := 17) hC dJ1_removeFirst_17 rfl rfl ?_
    exact rc_aret hC rfl (by first | exact Or.inl ⟨_, rfl⟩ | exact Or.inr ⟨_, rfl⟩) dJ1_removeFirst_18 h rfl
  intro _ h
  exact rc_throw0 (E := 3) (ik := 97) (ic := 99) (names := ["java/lang/RuntimeException", "java/lang/Exception"]) hC hH.2.2.2.2 hH.1 (by decide +kernel) (by decide +kernel) q1383 q153 rT_J1_99.1 rT_J1_99.2.1 rT_J1_99.2.2 rfl dJ1_removeFirst_9 dJ1_removeFirst_12 dJ1_removeFirst_13 dJ1_removeFirst_16 (hH.frm (Nat.le_of_ble_eq_true rfl)) (hH.lom (Nat.le_of_ble_eq_true rfl)) rfl (Nat.le_of_ble_eq_true rfl) h
theorem rw_J25_init {l : Launch} (hl : l.stackTraces = false) (v0 : Option Nat) (v1 : Option Nat) : rc_Ct l yJ25_init (ws_ yJ25_init cJ25_init 2 (Option.none : Option Jvm.ClassFile.FieldType)) 1 20 rc_tU (rp_J25_init v0 v1) [rc_q v0, rc_q v1] := by
  refine rc_Ct_H hl (plainFor_of_name rY_J25) rfl (Nat.le_of_ble_eq_true rfl) (L0 := [some (rc_q v0), some (rc_q v1)]) rfl ?_
  intro Y S hC hH h
  have hC : rc_C Y cJ25_init RJ25 (Option.none : Option Jvm.ClassFile.FieldType) 2 := hC
  unfold rp_J25_init at h
  refine rc_aload_n (pc := 0) hC dJ25_init_0 rfl rfl ?_
  refine rc_aload_n (pc := 1) hC dJ25_init_1 rfl rfl ?_
  refine rc_r_put (pc := 2) hC rP_J25_1 (fun _ => hH.2.1) dJ25_init_2 h ?_
  intro S h
  refine rc_aload_n (pc := 5) hC dJ25_init_5 rfl rfl ?_
  refine rc_objInit (pc := 6) hC q1418 q162 q163 rfl dJ25_init_6 (hH.frm (Nat.le_of_ble_eq_true rfl)) (hH.lom (Nat.le_of_ble_eq_true rfl)) (Nat.zero_le _) h ?_
  intro h
  refine rc_aload_n (pc := 9) hC dJ25_init_9 rfl rfl ?_
  refine rc_iconst (pc := 10) hC (v := (-1 : Int32)) dJ25_init_10 rfl ?_
  refine rc_r_put (pc := 11) hC rP_J25_13 (nofun) dJ25_init_11 h ?_
  intro S h
  refine rc_aload_n (pc := 14) hC dJ25_init_14 rfl rfl ?_
  refine rc_aload_n (pc := 15) hC dJ25_init_15 rfl rfl ?_
  refine rc_r_getq (pc := 16) hC rF_J25_1 dJ25_init_16 h ?_
  intro x1 h
  refine rc_r_geti (pc := 19) hC rF_J25_17 dJ25_init_19 h ?_
  intro x2 h
  refine rc_r_put (pc := 22) hC rP_J25_22 (nofun) dJ25_init_22 h ?_
  intro S h
  exact rc_vret hC rfl dJ25_init_25 h rfl
theorem rw_J7_iterator {l : Launch} (hl : l.stackTraces = false) (v0 : Option Nat) : rc_Ct l yJ7_iterator (ws_ yJ7_iterator cJ7_iterator 1 (Option.some (Jvm.ClassFile.FieldType.object "java/util/Iterator"))) 2 41 rc_tQ (rp_J7_iterator v0) [rc_q v0] := by
  refine rc_Ct_H hl (plainFor_of_name rY_J7) rfl (Nat.le_of_ble_eq_true rfl) (L0 := [some (rc_q v0)]) rfl ?_
  intro Y S hC hH h
  have hC : rc_C Y cJ7_iterator RJ7 (Option.some (Jvm.ClassFile.FieldType.object "java/util/Iterator")) 1 := hC
  unfold rp_J7_iterator at h
  refine rc_r_new (pc := 0) hC rN_J7_267 dJ7_iterator_0 h ?_
  intro x1 S h
  refine rc_dup (pc := 3) hC dJ7_iterator_3 rfl ?_
  refine rc_aload_n (pc := 4) hC dJ7_iterator_4 rfl rfl ?_
  obtain ⟨⟨b9, ho⟩, h⟩ := h.nn
  refine rc_callI (pc := 5) hC ho (rw_J25_init hH.1 x1 v0) q1415 q1416 q154 q1417 rfl rfl rd_J25_init (hH.room (Nat.le_of_ble_eq_true rfl) (Nat.le_of_ble_eq_true rfl)) rfl rfl (Nat.le_of_ble_eq_true rfl) 1 rfl h.le.2.2 h.br rfl dJ7_iterator_5 ?_ (fun E q S hT => rc_out hC hH.2.2.2.2 hT)
  intro _ S h
  show rc_Z Y S 8 [some (rc_q v0)] [rc_q x1]
  exact rc_aret hC rfl (by first | exact Or.inl ⟨_, rfl⟩ | exact Or.inr ⟨_, rfl⟩) dJ7_iterator_8 h rfl
theorem rw_J25_hasNext {l : Launch} (hl : l.stackTraces = false) (v0 : Option Nat) : rc_Ct l yJ25_hasNext (ws_ yJ25_hasNext cJ25_hasNext 1 (Option.some Jvm.ClassFile.FieldType.boolean)) 0 0 rc_tI (rp_J25_hasNext v0) [rc_q v0] := by
  refine rc_Ct_H hl (plainFor_of_name rY_J25) rfl (Nat.le_of_ble_eq_true rfl) (L0 := [some (rc_q v0)]) rfl ?_
  intro Y S hC hH h
  have hC : rc_C Y cJ25_hasNext RJ25 (Option.some Jvm.ClassFile.FieldType.boolean) 1 := hC
  unfold rp_J25_hasNext at h
  refine rc_aload_n (pc := 0) hC dJ25_hasNext_0 rfl rfl ?_
  refine rc_r_geti (pc := 1) hC rF_J25_25 dJ25_hasNext_1 h ?_
  intro x1 h
  refine rc_aload_n (pc := 4) hC dJ25_hasNext_4 rfl rfl ?_
  refine rc_r_getq (pc := 5) hC rF_J25_1 dJ25_hasNext_5 h ?_
  intro x2 h
  refine rc_r_geti (pc := 8) hC rF_J25_28 dJ25_hasNext_8 h ?_
  intro x3 h
  refine rc_icmp_eq (pc := 11) (tgt := 18) hC dJ25_hasNext_11 rfl h ?_ ?_
  · intro _ h
    refine rc_iconst (pc := 18) hC (v := (0 : Int32)) dJ25_hasNext_18 rfl ?_
    exact rc_iret hC rfl rfl dJ25_hasNext_19 h rfl
  intro _ h
  refine rc_iconst (pc := 14) hC (v := (1 : Int32)) dJ25_hasNext_14 rfl ?_
  refine rc_goto (pc := 15) (tgt := 19) hC dJ25_hasNext_15 rfl ?_
  exact rc_iret hC rfl rfl dJ25_hasNext_19 h rfl
theorem rw_J25_checkForComodification {l : Launch} (hl : l.stackTraces = false) (v0 : Option Nat) : rc_Ct l yJ25_checkForComodification (ws_ yJ25_checkForComodification cJ25_checkForComodification 1 (Option.none : Option Jvm.ClassFile.FieldType)) 0 0 rc_tU (rp_J25_checkForComodification v0) [rc_q v0] := by
  refine rc_Ct_H hl (plainFor_of_name rY_J25) rfl (Nat.le_of_ble_eq_true rfl) (L0 := [some (rc_q v0)]) rfl ?_
  intro Y S hC hH h
  have hC : rc_C Y cJ25_checkForComodification RJ25 (Option.none : Option Jvm.ClassFile.FieldType) 1 := hC
  unfold rp_J25_checkForComodification at h
  refine rc_aload_n (pc := 0) hC dJ25_checkForComodification_0 rfl rfl ?_
  refine rc_r_getq (pc := 1) hC rF_J25_1 dJ25_checkForComodification_1 h ?_
  intro x1 h
  refine rc_r_geti (pc := 4) hC rF_J25_17 dJ25_checkForComodification_4 h ?_
  intro x2 h
  refine rc_aload_n (pc := 7) hC dJ25_checkForComodification_7 rfl rfl ?_
  refine rc_r_geti (pc := 8) hC rF_J25_22 dJ25_checkForComodification_8 h ?_
  intro x3 h
  refine rc_icmp_eq (pc := 11) (tgt := 22) hC dJ25_checkForComodification_11 rfl h ?_ ?_
  · intro _ h
    exact rc_vret hC rfl dJ25_checkForComodification_22 h rfl
  intro _ h
  exact h.fail.elim
theorem rw_J25_next {l : Launch} (hl : l.stackTraces = false) (v0 : Option Nat) : rc_Ct l yJ25_next (ws_ yJ25_next cJ25_next 3 (Option.some (Jvm.ClassFile.FieldType.object "java/lang/Object"))) 6 89 rc_tQ (rp_J25_next v0) [rc_q v0] := by
  refine rc_Ct_H hl (plainFor_of_name rY_J25) rfl (Nat.le_of_ble_eq_true rfl) (L0 := [some (rc_q v0), none, none]) rfl ?_
  intro Y S hC hH h
  have hC : rc_C Y cJ25_next RJ25 (Option.some (Jvm.ClassFile.FieldType.object "java/lang/Object")) 3 := hC
  unfold rp_J25_next at h
  refine rc_aload_n (pc := 0) hC dJ25_next_0 rfl rfl ?_
  obtain ⟨⟨fs, ho⟩, h⟩ := h.is
  refine rc_callV (pc := 1) hC rfl ho (rw_J25_checkForComodification hH.1 v0) q1451 q1452 q1453 q154 q1454 rfl rd_J25_checkForComodification (hH.room (Nat.le_of_ble_eq_true rfl) (Nat.le_of_ble_eq_true rfl)) rfl rfl (Nat.le_of_ble_eq_true rfl) 0 rfl h.le.2.2 h.br rfl dJ25_next_1 ?_ (fun E q S hT => rc_out hC hH.2.2.2.2 hT)
  intro _ S h
  show rc_Z Y S 4 [some (rc_q v0), none, none] []
  refine rc_aload_n (pc := 4) hC dJ25_next_4 rfl rfl ?_
  refine rc_r_geti (pc := 5) hC rF_J25_25 dJ25_next_5 h ?_
  intro x1 h
  refine rc_istore_n (pc := 8) hC (L' := [some (rc_q v0), some (rc_i x1), none]) dJ25_next_8 rfl (Nat.le_of_ble_eq_true rfl) rfl rfl ?_
  refine rc_iload_n (pc := 9) hC dJ25_next_9 rfl rfl ?_
  refine rc_aload_n (pc := 10) hC dJ25_next_10 rfl rfl ?_
  refine rc_r_getq (pc := 11) hC rF_J25_1 dJ25_next_11 h ?_
  intro x2 h
  refine rc_r_geti (pc := 14) hC rF_J25_28 dJ25_next_14 h ?_
  intro x3 h
  refine rc_icmp_lt (pc := 17) (tgt := 28) hC dJ25_next_17 rfl h ?_ ?_
  · intro _ h
    refine rc_aload_n (pc := 28) hC dJ25_next_28 rfl rfl ?_
    refine rc_r_getq (pc := 29) hC rF_J25_1 dJ25_next_29 h ?_
    intro x4 h
    refine rc_r_getq (pc := 32) hC rF_J25_37 dJ25_next_32 h ?_
    intro x5 h
    refine rc_astore_n (pc := 35) hC (L' := [some (rc_q v0), some (rc_i x1), some (rc_q x5)]) dJ25_next_35 rfl (Nat.le_of_ble_eq_true rfl) rfl rfl ?_
    refine rc_iload_n (pc := 36) hC dJ25_next_36 rfl rfl ?_
    refine rc_aload_n (pc := 37) hC dJ25_next_37 rfl rfl ?_
    refine rc_r_alen (pc := 38) hC dJ25_next_38 h ?_
    intro x6 h
    refine rc_icmp_lt (pc := 39) (tgt := 50) hC dJ25_next_39 rfl h ?_ ?_
    · intro _ h
      refine rc_aload_n (pc := 50) hC dJ25_next_50 rfl rfl ?_
      refine rc_iload_n (pc := 51) hC dJ25_next_51 rfl rfl ?_
      refine rc_iconst (pc := 52) hC (v := (1 : Int32)) dJ25_next_52 rfl ?_
      refine rc_iadd (pc := 53) hC dJ25_next_53 ?_
      refine rc_r_put (pc := 54) hC rP_J25_25 (nofun) dJ25_next_54 h ?_
      intro S h
      refine rc_aload_n (pc := 57) hC dJ25_next_57 rfl rfl ?_
      refine rc_aload_n (pc := 58) hC dJ25_next_58 rfl rfl ?_
      refine rc_iload_n (pc := 59) hC dJ25_next_59 rfl rfl ?_
      refine rc_dup_x1 (pc := 60) hC dJ25_next_60 rfl rfl ?_
      refine rc_r_put (pc := 61) hC rP_J25_13 (nofun) dJ25_next_61 h ?_
      intro S h
      refine rc_r_aald (pc := 64) hC dJ25_next_64 h ?_
      intro x7 h
      exact rc_aret hC rfl (by first | exact Or.inl ⟨_, rfl⟩ | exact Or.inr ⟨_, rfl⟩) dJ25_next_65 h rfl
    intro _ h
    exact h.fail.elim
  intro _ h
  exact rc_throw0 (E := 3) (ik := 34) (ic := 36) (names := ["java/lang/RuntimeException", "java/lang/Exception"]) hC hH.2.2.2.2 hH.1 (by decide +kernel) (by decide +kernel) q1455 q153 rT_J25_36.1 rT_J25_36.2.1 rT_J25_36.2.2 rfl dJ25_next_20 dJ25_next_23 dJ25_next_24 dJ25_next_27 (hH.frm (Nat.le_of_ble_eq_true rfl)) (hH.lom (Nat.le_of_ble_eq_true rfl)) rfl (Nat.le_of_ble_eq_true rfl) h
theorem rw_J1_isEmpty {l : Launch} (hl : l.stackTraces = false) (v0 : Option Nat) : rc_Ct l yJ1_isEmpty (ws_ yJ1_isEmpty cJ1_isEmpty 1 (Option.some Jvm.ClassFile.FieldType.boolean)) 0 0 rc_tI (rp_J1_isEmpty v0) [rc_q v0] := by
  refine rc_Ct_H hl (plainFor_of_name rY_J1) rfl (Nat.le_of_ble_eq_true rfl) (L0 := [some (rc_q v0)]) rfl ?_
  intro Y S hC hH h
  have hC : rc_C Y cJ1_isEmpty RJ1 (Option.some Jvm.ClassFile.FieldType.boolean) 1 := hC
  unfold rp_J1_isEmpty at h
  refine rc_aload_n (pc := 0) hC dJ1_isEmpty_0 rfl rfl ?_
  refine rc_r_geti (pc := 1) hC rF_J1_24 dJ1_isEmpty_1 h ?_
  intro x1 h
  refine rc_aload_n (pc := 4) hC dJ1_isEmpty_4 rfl rfl ?_
  refine rc_r_geti (pc := 5) hC rF_J1_20 dJ1_isEmpty_5 h ?_
  intro x2 h
  refine rc_icmp_ne (pc := 8) (tgt := 15) hC dJ1_isEmpty_8 rfl h ?_ ?_
  · intro _ h
    refine rc_iconst (pc := 15) hC (v := (0 : Int32)) dJ1_isEmpty_15 rfl ?_
    exact rc_iret hC rfl rfl dJ1_isEmpty_16 h rfl
  intro _ h
  refine rc_iconst (pc := 11) hC (v := (1 : Int32)) dJ1_isEmpty_11 rfl ?_
  refine rc_goto (pc := 12) (tgt := 16) hC dJ1_isEmpty_12 rfl ?_
  exact rc_iret hC rfl rfl dJ1_isEmpty_16 h rfl
theorem rw_J1_dec {l : Launch} (hl : l.stackTraces = false) (v0 : Int32) (v1 : Int32) : rc_Ct l yJ1_dec (ws_ yJ1_dec cJ1_dec 2 (Option.some Jvm.ClassFile.FieldType.int)) 0 0 rc_tI (rp_J1_dec v0 v1) [rc_i v0, rc_i v1] := by
  refine rc_Ct_H hl (plainFor_of_name rY_J1) rfl (Nat.le_of_ble_eq_true rfl) (L0 := [some (rc_i v0), some (rc_i v1)]) rfl ?_
  intro Y S hC hH h
  have hC : rc_C Y cJ1_dec RJ1 (Option.some Jvm.ClassFile.FieldType.int) 2 := hC
  unfold rp_J1_dec at h
  refine rc_iinc (pc := 0) hC (v := (v0 + (-1 : Int32))) (L' := [some (rc_i (v0 + (-1 : Int32))), some (rc_i v1)]) dJ1_dec_0 rfl rfl rfl rfl ?_
  refine rc_iload_n (pc := 3) hC dJ1_dec_3 rfl rfl ?_
  refine rc_if_ge (pc := 4) (tgt := 11) hC dJ1_dec_4 rfl h ?_ ?_
  · intro _ h
    refine rc_iload_n (pc := 11) hC dJ1_dec_11 rfl rfl ?_
    exact rc_iret hC rfl rfl dJ1_dec_12 h rfl
  intro _ h
  refine rc_iload_n (pc := 7) hC dJ1_dec_7 rfl rfl ?_
  refine rc_iconst (pc := 8) hC (v := (1 : Int32)) dJ1_dec_8 rfl ?_
  refine rc_isub (pc := 9) hC dJ1_dec_9 ?_
  refine rc_istore_n (pc := 10) hC (L' := [some (rc_i (v1 - (1 : Int32))), some (rc_i v1)]) dJ1_dec_10 rfl (Nat.le_of_ble_eq_true rfl) rfl rfl ?_
  refine rc_iload_n (pc := 11) hC dJ1_dec_11 rfl rfl ?_
  exact rc_iret hC rfl rfl dJ1_dec_12 h rfl
theorem rw_J1_pollLast {l : Launch} (hl : l.stackTraces = false) (v0 : Option Nat) : rc_Ct l yJ1_pollLast (ws_ yJ1_pollLast cJ1_pollLast 4 (Option.some (Jvm.ClassFile.FieldType.object "java/lang/Object"))) 1 21 rc_tQ (rp_J1_pollLast v0) [rc_q v0] := by
  refine rc_Ct_H hl (plainFor_of_name rY_J1) rfl (Nat.le_of_ble_eq_true rfl) (L0 := [some (rc_q v0), none, none, none]) rfl ?_
  intro Y S hC hH h
  have hC : rc_C Y cJ1_pollLast RJ1 (Option.some (Jvm.ClassFile.FieldType.object "java/lang/Object")) 4 := hC
  unfold rp_J1_pollLast at h
  refine rc_aload_n (pc := 0) hC dJ1_pollLast_0 rfl rfl ?_
  refine rc_r_getq (pc := 1) hC rF_J1_3 dJ1_pollLast_1 h ?_
  intro x1 h
  refine rc_dup (pc := 4) hC dJ1_pollLast_4 rfl ?_
  refine rc_astore_n (pc := 5) hC (L' := [some (rc_q v0), some (rc_q x1), none, none]) dJ1_pollLast_5 rfl (Nat.le_of_ble_eq_true rfl) rfl rfl ?_
  refine rc_aload_n (pc := 6) hC dJ1_pollLast_6 rfl rfl ?_
  refine rc_r_geti (pc := 7) hC rF_J1_20 dJ1_pollLast_7 h ?_
  intro x2 h
  refine rc_aload_n (pc := 10) hC dJ1_pollLast_10 rfl rfl ?_
  refine rc_r_alen (pc := 11) hC dJ1_pollLast_11 h ?_
  intro x3 h
  refine rc_callS (pc := 12) hC (rw_J1_dec hH.1 x2 x3) q1488 q1489 q118 q1490 rd_J1_dec (hH.room (Nat.le_of_ble_eq_true rfl) (Nat.le_of_ble_eq_true rfl)) rfl rfl (Nat.le_of_ble_eq_true rfl) 2 rfl h.le.2.2 h.br rfl dJ1_pollLast_12 ?_ (fun E q S hT => rc_out hC hH.2.2.2.2 hT)
  intro x4 S h
  show rc_Z Y S 15 [some (rc_q v0), some (rc_q x1), none, none] [rc_i x4, rc_q x1]
  refine rc_dup (pc := 15) hC dJ1_pollLast_15 rfl ?_
  refine rc_istore_n (pc := 16) hC (L' := [some (rc_q v0), some (rc_q x1), some (rc_i x4), none]) dJ1_pollLast_16 rfl (Nat.le_of_ble_eq_true rfl) rfl rfl ?_
  refine rc_callS (pc := 17) hC (rw_J1_elementAt hH.1 x1 x4) q1380 q1381 q118 q1382 rd_J1_elementAt (hH.room (Nat.le_of_ble_eq_true rfl) (Nat.le_of_ble_eq_true rfl)) rfl rfl (Nat.le_of_ble_eq_true rfl) 2 rfl h.le.2.2 h.br rfl dJ1_pollLast_17 ?_ (fun E q S hT => rc_out hC hH.2.2.2.2 hT)
  intro x5 S h
  show rc_Z Y S 20 [some (rc_q v0), some (rc_q x1), some (rc_i x4), none] [rc_q x5]
  refine rc_astore_n (pc := 20) hC (L' := [some (rc_q v0), some (rc_q x1), some (rc_i x4), some (rc_q x5)]) dJ1_pollLast_20 rfl (Nat.le_of_ble_eq_true rfl) rfl rfl ?_
  refine rc_aload_n (pc := 21) hC dJ1_pollLast_21 rfl rfl ?_
  refine rc_ifnull (pc := 22) (tgt := 34) hC dJ1_pollLast_22 rfl h ?_ ?_
  · intro _ h
    refine rc_aload_n (pc := 34) hC dJ1_pollLast_34 rfl rfl ?_
    exact rc_aret hC rfl (by first | exact Or.inl ⟨_, rfl⟩ | exact Or.inr ⟨_, rfl⟩) dJ1_pollLast_35 h rfl
  intro _ h
  refine rc_aload_n (pc := 25) hC dJ1_pollLast_25 rfl rfl ?_
  refine rc_aload_n (pc := 26) hC dJ1_pollLast_26 rfl rfl ?_
  refine rc_iload_n (pc := 27) hC dJ1_pollLast_27 rfl rfl ?_
  refine rc_dup_x1 (pc := 28) hC dJ1_pollLast_28 rfl rfl ?_
  refine rc_r_put (pc := 29) hC rP_J1_20 (nofun) dJ1_pollLast_29 h ?_
  intro S h
  refine rc_null (pc := 32) hC dJ1_pollLast_32 ?_
  refine rc_r_aast (pc := 33) hC dJ1_pollLast_33 h ?_
  intro S h
  refine rc_aload_n (pc := 34) hC dJ1_pollLast_34 rfl rfl ?_
  exact rc_aret hC rfl (by first | exact Or.inl ⟨_, rfl⟩ | exact Or.inr ⟨_, rfl⟩) dJ1_pollLast_35 h rfl
theorem rw_J1_removeLast {l : Launch} (hl : l.stackTraces = false) (v0 : Option Nat) : rc_Ct l yJ1_removeLast (ws_ yJ1_removeLast cJ1_removeLast 2 (Option.some (Jvm.ClassFile.FieldType.object "java/lang/Object"))) 6 89 rc_tQ (rp_J1_removeLast v0) [rc_q v0] := by
  refine rc_Ct_H hl (plainFor_of_name rY_J1) rfl (Nat.le_of_ble_eq_true rfl) (L0 := [some (rc_q v0), none]) rfl ?_
  intro Y S hC hH h
  have hC : rc_C Y cJ1_removeLast RJ1 (Option.some (Jvm.ClassFile.FieldType.object "java/lang/Object")) 2 := hC
  unfold rp_J1_removeLast at h
  refine rc_aload_n (pc := 0) hC dJ1_removeLast_0 rfl rfl ?_
  obtain ⟨⟨fs, ho⟩, h⟩ := h.is
  refine rc_callV (pc := 1) hC rfl ho (rw_J1_pollLast hH.1 v0) q1484 q1485 q1486 q118 q1487 rfl rd_J1_pollLast (hH.room (Nat.le_of_ble_eq_true rfl) (Nat.le_of_ble_eq_true rfl)) rfl rfl (Nat.le_of_ble_eq_true rfl) 0 rfl h.le.2.2 h.br rfl dJ1_removeLast_1 ?_ (fun E q S hT => rc_out hC hH.2.2.2.2 hT)
  intro x1 S h
  show rc_Z Y S 4 [some (rc_q v0), none] [rc_q x1]
  refine rc_astore_n (pc := 4) hC (L' := [some (rc_q v0), some (rc_q x1)]) dJ1_removeLast_4 rfl (Nat.le_of_ble_eq_true rfl) rfl rfl ?_
  refine rc_aload_n (pc := 5) hC dJ1_removeLast_5 rfl rfl ?_
  refine rc_ifnonnull (pc := 6) (tgt := 17) hC dJ1_removeLast_6 rfl h ?_ ?_
  · intro _ h
    refine rc_aload_n (pc := 17) hC dJ1_removeLast_17 rfl rfl ?_
    exact rc_aret hC rfl (by first | exact Or.inl ⟨_, rfl⟩ | exact Or.inr ⟨_, rfl⟩) dJ1_removeLast_18 h rfl
  intro _ h
  exact rc_throw0 (E := 3) (ik := 97) (ic := 99) (names := ["java/lang/RuntimeException", "java/lang/Exception"]) hC hH.2.2.2.2 hH.1 (by decide +kernel) (by decide +kernel) q1383 q153 rT_J1_99.1 rT_J1_99.2.1 rT_J1_99.2.2 rfl dJ1_removeLast_9 dJ1_removeLast_12 dJ1_removeLast_13 dJ1_removeLast_16 (hH.frm (Nat.le_of_ble_eq_true rfl)) (hH.lom (Nat.le_of_ble_eq_true rfl)) rfl (Nat.le_of_ble_eq_true rfl) h
theorem rw_J15_numberOfTrailingZeros_L74 {Y : rc_Y} (hC : rc_C Y cJ15_numberOfTrailingZeros RJ15 (Option.some Jvm.ClassFile.FieldType.int) 2) (hH : rc_H Y 0 0 yJ15_numberOfTrailingZeros.name) (v0 : Int32) (v1 : Int32) (S : rc_S) (h : rc_Go Y rc_tI (rp_J15_numberOfTrailingZeros_L74  v0 v1) S) : rc_Z Y S 74 [some (rc_i v0), some (rc_i v1)] [] := by
  unfold rp_J15_numberOfTrailingZeros_L74 at h
  refine rc_iload_n (pc := 74) hC dJ15_numberOfTrailingZeros_74 rfl rfl ?_
  refine rc_iload_n (pc := 75) hC dJ15_numberOfTrailingZeros_75 rfl rfl ?_
  refine rc_iconst (pc := 76) hC (v := (1 : Int32)) dJ15_numberOfTrailingZeros_76 rfl ?_
  refine rc_iushr (pc := 77) hC dJ15_numberOfTrailingZeros_77 ?_
  refine rc_iadd (pc := 78) hC dJ15_numberOfTrailingZeros_78 ?_
  exact rc_iret hC rfl rfl dJ15_numberOfTrailingZeros_79 h rfl
theorem rw_J15_numberOfTrailingZeros_L62 {Y : rc_Y} (hC : rc_C Y cJ15_numberOfTrailingZeros RJ15 (Option.some Jvm.ClassFile.FieldType.int) 2) (hH : rc_H Y 0 0 yJ15_numberOfTrailingZeros.name) (v0 : Int32) (v1 : Int32) (S : rc_S) (h : rc_Go Y rc_tI (rp_J15_numberOfTrailingZeros_L62  v0 v1) S) : rc_Z Y S 62 [some (rc_i v0), some (rc_i v1)] [] := by
  unfold rp_J15_numberOfTrailingZeros_L62 at h
  refine rc_iload_n (pc := 62) hC dJ15_numberOfTrailingZeros_62 rfl rfl ?_
  refine rc_iconst (pc := 63) hC (v := (4 : Int32)) dJ15_numberOfTrailingZeros_63 rfl ?_
  refine rc_icmp_le (pc := 64) (tgt := 74) hC dJ15_numberOfTrailingZeros_64 rfl h ?_ ?_
  · intro _ h
    exact rw_J15_numberOfTrailingZeros_L74 hC hH  v0 v1 S h
  intro _ h
  refine rc_iinc (pc := 67) hC (v := (v1 + (2 : Int32))) (L' := [some (rc_i v0), some (rc_i (v1 + (2 : Int32)))]) dJ15_numberOfTrailingZeros_67 rfl rfl rfl rfl ?_
  refine rc_iload_n (pc := 70) hC dJ15_numberOfTrailingZeros_70 rfl rfl ?_
  refine rc_iconst (pc := 71) hC (v := (2 : Int32)) dJ15_numberOfTrailingZeros_71 rfl ?_
  refine rc_iushr (pc := 72) hC dJ15_numberOfTrailingZeros_72 ?_
  refine rc_istore_n (pc := 73) hC (L' := [some (rc_i ((v0.toUInt32 >>> ((2 : Int32).toUInt32 &&& Int32.toUInt32 31)).toInt32)), some (rc_i (v1 + (2 : Int32)))]) dJ15_numberOfTrailingZeros_73 rfl (Nat.le_of_ble_eq_true rfl) rfl rfl ?_
  exact rw_J15_numberOfTrailingZeros_L74 hC hH  ((v0.toUInt32 >>> ((2 : Int32).toUInt32 &&& Int32.toUInt32 31)).toInt32) (v1 + (2 : Int32)) S h
theorem rw_J15_numberOfTrailingZeros_L49 {Y : rc_Y} (hC : rc_C Y cJ15_numberOfTrailingZeros RJ15 (Option.some Jvm.ClassFile.FieldType.int) 2) (hH : rc_H Y 0 0 yJ15_numberOfTrailingZeros.name) (v0 : Int32) (v1 : Int32) (S : rc_S) (h : rc_Go Y rc_tI (rp_J15_numberOfTrailingZeros_L49  v0 v1) S) : rc_Z Y S 49 [some (rc_i v0), some (rc_i v1)] [] := by
  unfold rp_J15_numberOfTrailingZeros_L49 at h
  refine rc_iload_n (pc := 49) hC dJ15_numberOfTrailingZeros_49 rfl rfl ?_
  refine rc_bipush (pc := 50) hC (v := (16 : Int32)) dJ15_numberOfTrailingZeros_50 rfl ?_
  refine rc_icmp_le (pc := 52) (tgt := 62) hC dJ15_numberOfTrailingZeros_52 rfl h ?_ ?_
  · intro _ h
    exact rw_J15_numberOfTrailingZeros_L62 hC hH  v0 v1 S h
  intro _ h
  refine rc_iinc (pc := 55) hC (v := (v1 + (4 : Int32))) (L' := [some (rc_i v0), some (rc_i (v1 + (4 : Int32)))]) dJ15_numberOfTrailingZeros_55 rfl rfl rfl rfl ?_
  refine rc_iload_n (pc := 58) hC dJ15_numberOfTrailingZeros_58 rfl rfl ?_
  refine rc_iconst (pc := 59) hC (v := (4 : Int32)) dJ15_numberOfTrailingZeros_59 rfl ?_
  refine rc_iushr (pc := 60) hC dJ15_numberOfTrailingZeros_60 ?_
  refine rc_istore_n (pc := 61) hC (L' := [some (rc_i ((v0.toUInt32 >>> ((4 : Int32).toUInt32 &&& Int32.toUInt32 31)).toInt32)), some (rc_i (v1 + (4 : Int32)))]) dJ15_numberOfTrailingZeros_61 rfl (Nat.le_of_ble_eq_true rfl) rfl rfl ?_
  exact rw_J15_numberOfTrailingZeros_L62 hC hH  ((v0.toUInt32 >>> ((4 : Int32).toUInt32 &&& Int32.toUInt32 31)).toInt32) (v1 + (4 : Int32)) S h
theorem rw_J15_numberOfTrailingZeros_L34 {Y : rc_Y} (hC : rc_C Y cJ15_numberOfTrailingZeros RJ15 (Option.some Jvm.ClassFile.FieldType.int) 2) (hH : rc_H Y 0 0 yJ15_numberOfTrailingZeros.name) (v0 : Int32) (v1 : Int32) (S : rc_S) (h : rc_Go Y rc_tI (rp_J15_numberOfTrailingZeros_L34  v0 v1) S) : rc_Z Y S 34 [some (rc_i v0), some (rc_i v1)] [] := by
  unfold rp_J15_numberOfTrailingZeros_L34 at h
  refine rc_iload_n (pc := 34) hC dJ15_numberOfTrailingZeros_34 rfl rfl ?_
  refine rc_sipush (pc := 35) hC (v := (256 : Int32)) dJ15_numberOfTrailingZeros_35 rfl ?_
  refine rc_icmp_le (pc := 38) (tgt := 49) hC dJ15_numberOfTrailingZeros_38 rfl h ?_ ?_
  · intro _ h
    exact rw_J15_numberOfTrailingZeros_L49 hC hH  v0 v1 S h
  intro _ h
  refine rc_iinc (pc := 41) hC (v := (v1 + (8 : Int32))) (L' := [some (rc_i v0), some (rc_i (v1 + (8 : Int32)))]) dJ15_numberOfTrailingZeros_41 rfl rfl rfl rfl ?_
  refine rc_iload_n (pc := 44) hC dJ15_numberOfTrailingZeros_44 rfl rfl ?_
  refine rc_bipush (pc := 45) hC (v := (8 : Int32)) dJ15_numberOfTrailingZeros_45 rfl ?_
  refine rc_iushr (pc := 47) hC dJ15_numberOfTrailingZeros_47 ?_
  refine rc_istore_n (pc := 48) hC (L' := [some (rc_i ((v0.toUInt32 >>> ((8 : Int32).toUInt32 &&& Int32.toUInt32 31)).toInt32)), some (rc_i (v1 + (8 : Int32)))]) dJ15_numberOfTrailingZeros_48 rfl (Nat.le_of_ble_eq_true rfl) rfl rfl ?_
  exact rw_J15_numberOfTrailingZeros_L49 hC hH  ((v0.toUInt32 >>> ((8 : Int32).toUInt32 &&& Int32.toUInt32 31)).toInt32) (v1 + (8 : Int32)) S h
theorem rw_J15_numberOfTrailingZeros {l : Launch} (hl : l.stackTraces = false) (v0 : Int32) : rc_Ct l yJ15_numberOfTrailingZeros (ws_ yJ15_numberOfTrailingZeros cJ15_numberOfTrailingZeros 2 (Option.some Jvm.ClassFile.FieldType.int)) 0 0 rc_tI (rp_J15_numberOfTrailingZeros v0) [rc_i v0] := by
  refine rc_Ct_H hl (plainFor_of_name rY_J15) rfl (Nat.le_of_ble_eq_true rfl) (L0 := [some (rc_i v0), none]) rfl ?_
  intro Y S hC hH h
  have hC : rc_C Y cJ15_numberOfTrailingZeros RJ15 (Option.some Jvm.ClassFile.FieldType.int) 2 := hC
  unfold rp_J15_numberOfTrailingZeros at h
  refine rc_iload_n (pc := 0) hC dJ15_numberOfTrailingZeros_0 rfl rfl ?_
  refine rc_iconst (pc := 1) hC (v := (-1 : Int32)) dJ15_numberOfTrailingZeros_1 rfl ?_
  refine rc_ixor (pc := 2) hC dJ15_numberOfTrailingZeros_2 ?_
  refine rc_iload_n (pc := 3) hC dJ15_numberOfTrailingZeros_3 rfl rfl ?_
  refine rc_iconst (pc := 4) hC (v := (1 : Int32)) dJ15_numberOfTrailingZeros_4 rfl ?_
  refine rc_isub (pc := 5) hC dJ15_numberOfTrailingZeros_5 ?_
  refine rc_iand (pc := 6) hC dJ15_numberOfTrailingZeros_6 ?_
  refine rc_istore_n (pc := 7) hC (L' := [some (rc_i ((v0 ^^^ (-1 : Int32)) &&& (v0 - (1 : Int32)))), none]) dJ15_numberOfTrailingZeros_7 rfl (Nat.le_of_ble_eq_true rfl) rfl rfl ?_
  refine rc_iload_n (pc := 8) hC dJ15_numberOfTrailingZeros_8 rfl rfl ?_
  refine rc_if_gt (pc := 9) (tgt := 17) hC dJ15_numberOfTrailingZeros_9 rfl h ?_ ?_
  · intro _ h
    refine rc_iconst (pc := 17) hC (v := (1 : Int32)) dJ15_numberOfTrailingZeros_17 rfl ?_
    refine rc_istore_n (pc := 18) hC (L' := [some (rc_i ((v0 ^^^ (-1 : Int32)) &&& (v0 - (1 : Int32)))), some (rc_i (1 : Int32))]) dJ15_numberOfTrailingZeros_18 rfl (Nat.le_of_ble_eq_true rfl) rfl rfl ?_
    refine rc_iload_n (pc := 19) hC dJ15_numberOfTrailingZeros_19 rfl rfl ?_
    refine rc_ldcw (pc := 20) hC (v := (65536 : Int32)) q1559 dJ15_numberOfTrailingZeros_20 ?_
    refine rc_icmp_le (pc := 23) (tgt := 34) hC dJ15_numberOfTrailingZeros_23 rfl h ?_ ?_
    · intro _ h
      exact rw_J15_numberOfTrailingZeros_L34 hC hH  ((v0 ^^^ (-1 : Int32)) &&& (v0 - (1 : Int32))) (1 : Int32) S h
    intro _ h
    refine rc_iinc (pc := 26) hC (v := ((1 : Int32) + (16 : Int32))) (L' := [some (rc_i ((v0 ^^^ (-1 : Int32)) &&& (v0 - (1 : Int32)))), some (rc_i ((1 : Int32) + (16 : Int32)))]) dJ15_numberOfTrailingZeros_26 rfl rfl rfl rfl ?_
    refine rc_iload_n (pc := 29) hC dJ15_numberOfTrailingZeros_29 rfl rfl ?_
    refine rc_bipush (pc := 30) hC (v := (16 : Int32)) dJ15_numberOfTrailingZeros_30 rfl ?_
    refine rc_iushr (pc := 32) hC dJ15_numberOfTrailingZeros_32 ?_
    refine rc_istore_n (pc := 33) hC (L' := [some (rc_i ((((v0 ^^^ (-1 : Int32)) &&& (v0 - (1 : Int32))).toUInt32 >>> ((16 : Int32).toUInt32 &&& Int32.toUInt32 31)).toInt32)), some (rc_i ((1 : Int32) + (16 : Int32)))]) dJ15_numberOfTrailingZeros_33 rfl (Nat.le_of_ble_eq_true rfl) rfl rfl ?_
    exact rw_J15_numberOfTrailingZeros_L34 hC hH  ((((v0 ^^^ (-1 : Int32)) &&& (v0 - (1 : Int32))).toUInt32 >>> ((16 : Int32).toUInt32 &&& Int32.toUInt32 31)).toInt32) ((1 : Int32) + (16 : Int32)) S h
  intro _ h
  refine rc_iload_n (pc := 12) hC dJ15_numberOfTrailingZeros_12 rfl rfl ?_
  refine rc_bipush (pc := 13) hC (v := (32 : Int32)) dJ15_numberOfTrailingZeros_13 rfl ?_
  refine rc_iand (pc := 15) hC dJ15_numberOfTrailingZeros_15 ?_
  exact rc_iret hC rfl rfl dJ15_numberOfTrailingZeros_16 h rfl
theorem rw_J17_abs {l : Launch} (hl : l.stackTraces = false) (v0 : Int32) : rc_Ct l yJ17_abs (ws_ yJ17_abs cJ17_abs 1 (Option.some Jvm.ClassFile.FieldType.int)) 0 0 rc_tI (rp_J17_abs v0) [rc_i v0] := by
  refine rc_Ct_H hl rY_J17_abs rfl (Nat.le_of_ble_eq_true rfl) (L0 := [some (rc_i v0)]) rfl ?_
  intro Y S hC hH h
  have hC : rc_C Y cJ17_abs RJ17 (Option.some Jvm.ClassFile.FieldType.int) 1 := hC
  unfold rp_J17_abs at h
  refine rc_iload_n (pc := 0) hC dJ17_abs_0 rfl rfl ?_
  refine rc_if_ge (pc := 1) (tgt := 9) hC dJ17_abs_1 rfl h ?_ ?_
  · intro _ h
    refine rc_iload_n (pc := 9) hC dJ17_abs_9 rfl rfl ?_
    exact rc_iret hC rfl rfl dJ17_abs_10 h rfl
  intro _ h
  refine rc_iload_n (pc := 4) hC dJ17_abs_4 rfl rfl ?_
  refine rc_ineg (pc := 5) hC dJ17_abs_5 ?_
  refine rc_goto (pc := 6) (tgt := 10) hC dJ17_abs_6 rfl ?_
  exact rc_iret hC rfl rfl dJ17_abs_10 h rfl
theorem rw_J5_checkBoundsBeginEnd {l : Launch} (hl : l.stackTraces = false) (v0 : Int32) (v1 : Int32) (v2 : Option Nat) : rc_Ct l yJ5_checkBoundsBeginEnd (ws_ yJ5_checkBoundsBeginEnd cJ5_checkBoundsBeginEnd 3 (Option.none : Option Jvm.ClassFile.FieldType)) 2 45 rc_tU (rp_J5_checkBoundsBeginEnd v0 v1 v2) [rc_i v0, rc_i v1, rc_q v2] := by
  refine rc_Ct_H hl (plainFor_of_name rY_J5) rfl (Nat.le_of_ble_eq_true rfl) (L0 := [some (rc_i v0), some (rc_i v1), some (rc_q v2)]) rfl ?_
  intro Y S hC hH h
  have hC : rc_C Y cJ5_checkBoundsBeginEnd RJ5 (Option.none : Option Jvm.ClassFile.FieldType) 3 := hC
  unfold rp_J5_checkBoundsBeginEnd at h
  refine rc_iload_n (pc := 0) hC dJ5_checkBoundsBeginEnd_0 rfl rfl ?_
  refine rc_iload_n (pc := 1) hC dJ5_checkBoundsBeginEnd_1 rfl rfl ?_
  refine rc_aload_n (pc := 2) hC dJ5_checkBoundsBeginEnd_2 rfl rfl ?_
  refine rc_callS (pc := 3) hC (rw_J5_length hH.1 v2) q340 q341 q122 q342 rd_J5_length (hH.room (Nat.le_of_ble_eq_true rfl) (Nat.le_of_ble_eq_true rfl)) rfl rfl (Nat.le_of_ble_eq_true rfl) 1 rfl h.le.2.2 h.br rfl dJ5_checkBoundsBeginEnd_3 ?_ (fun E q S hT => rc_out hC hH.2.2.2.2 hT)
  intro x1 S h
  show rc_Z Y S 6 [some (rc_i v0), some (rc_i v1), some (rc_q v2)] [rc_i x1, rc_i v1, rc_i v0]
  refine rc_callS (pc := 6) hC (rw_J4_checkBoundsBeginEnd hH.1 v0 v1 x1) q489 q359 q121 q360 rd_J4_checkBoundsBeginEnd (hH.room (Nat.le_of_ble_eq_true rfl) (Nat.le_of_ble_eq_true rfl)) rfl rfl (Nat.le_of_ble_eq_true rfl) 3 rfl h.le.2.2 h.br rfl dJ5_checkBoundsBeginEnd_6 ?_ (fun E q S hT => rc_out hC hH.2.2.2.2 hT)
  intro _ S h
  show rc_Z Y S 9 [some (rc_i v0), some (rc_i v1), some (rc_q v2)] []
  exact rc_vret hC rfl dJ5_checkBoundsBeginEnd_9 h rfl
theorem rw_J5_putCharsAt {l : Launch} (hl : l.stackTraces = false) (v0 : Option Nat) (v1 : Int32) (v2 : Int32) (v3 : Int32) (v4 : Int32) (v5 : Int32) : rc_Ct l yJ5_putCharsAt (ws_ yJ5_putCharsAt cJ5_putCharsAt 7 (Option.some Jvm.ClassFile.FieldType.int)) 3 67 rc_tI (rp_J5_putCharsAt v0 v1 v2 v3 v4 v5) [rc_q v0, rc_i v1, rc_i v2, rc_i v3, rc_i v4, rc_i v5] := by
  refine rc_Ct_H hl (plainFor_of_name rY_J5) rfl (Nat.le_of_ble_eq_true rfl) (L0 := [some (rc_q v0), some (rc_i v1), some (rc_i v2), some (rc_i v3), some (rc_i v4), some (rc_i v5), none]) rfl ?_
  intro Y S hC hH h
  have hC : rc_C Y cJ5_putCharsAt RJ5 (Option.some Jvm.ClassFile.FieldType.int) 7 := hC
  unfold rp_J5_putCharsAt at h
  refine rc_iload_n (pc := 0) hC dJ5_putCharsAt_0 rfl rfl ?_
  refine rc_iconst (pc := 1) hC (v := (4 : Int32)) dJ5_putCharsAt_1 rfl ?_
  refine rc_iadd (pc := 2) hC dJ5_putCharsAt_2 ?_
  refine rc_istore (pc := 3) hC (L' := [some (rc_q v0), some (rc_i v1), some (rc_i v2), some (rc_i v3), some (rc_i v4), some (rc_i v5), some (rc_i (v1 + (4 : Int32)))]) dJ5_putCharsAt_3 (Nat.le_of_ble_eq_true rfl) rfl rfl ?_
  refine rc_iload_n (pc := 5) hC dJ5_putCharsAt_5 rfl rfl ?_
  refine rc_iload (pc := 6) hC dJ5_putCharsAt_6 rfl ?_
  refine rc_aload_n (pc := 8) hC dJ5_putCharsAt_8 rfl rfl ?_
  refine rc_callS (pc := 9) hC (rw_J5_checkBoundsBeginEnd hH.1 v1 (v1 + (4 : Int32)) v0) q486 q487 q122 q488 rd_J5_checkBoundsBeginEnd (hH.room (Nat.le_of_ble_eq_true rfl) (Nat.le_of_ble_eq_true rfl)) rfl rfl (Nat.le_of_ble_eq_true rfl) 3 rfl h.le.2.2 h.br rfl dJ5_putCharsAt_9 ?_ (fun E q S hT => rc_out hC hH.2.2.2.2 hT)
  intro _ S h
  show rc_Z Y S 12 [some (rc_q v0), some (rc_i v1), some (rc_i v2), some (rc_i v3), some (rc_i v4), some (rc_i v5), some (rc_i (v1 + (4 : Int32)))] []
  refine rc_aload_n (pc := 12) hC dJ5_putCharsAt_12 rfl rfl ?_
  refine rc_iload_n (pc := 13) hC dJ5_putCharsAt_13 rfl rfl ?_
  refine rc_iinc (pc := 14) hC (v := (v1 + (1 : Int32))) (L' := [some (rc_q v0), some (rc_i (v1 + (1 : Int32))), some (rc_i v2), some (rc_i v3), some (rc_i v4), some (rc_i v5), some (rc_i (v1 + (4 : Int32)))]) dJ5_putCharsAt_14 rfl rfl rfl rfl ?_
  refine rc_iload_n (pc := 17) hC dJ5_putCharsAt_17 rfl rfl ?_
  refine rc_callS (pc := 18) hC (rw_J5_putChar hH.1 v0 v1 v2) q494 q495 q122 q496 rd_J5_putChar (hH.room (Nat.le_of_ble_eq_true rfl) (Nat.le_of_ble_eq_true rfl)) rfl rfl (Nat.le_of_ble_eq_true rfl) 3 rfl h.le.2.2 h.br rfl dJ5_putCharsAt_18 ?_ (fun E q S hT => rc_out hC hH.2.2.2.2 hT)
  intro _ S h
  show rc_Z Y S 21 [some (rc_q v0), some (rc_i (v1 + (1 : Int32))), some (rc_i v2), some (rc_i v3), some (rc_i v4), some (rc_i v5), some (rc_i (v1 + (4 : Int32)))] []
  refine rc_aload_n (pc := 21) hC dJ5_putCharsAt_21 rfl rfl ?_
  refine rc_iload_n (pc := 22) hC dJ5_putCharsAt_22 rfl rfl ?_
  refine rc_iinc (pc := 23) hC (v := ((v1 + (1 : Int32)) + (1 : Int32))) (L' := [some (rc_q v0), some (rc_i ((v1 + (1 : Int32)) + (1 : Int32))), some (rc_i v2), some (rc_i v3), some (rc_i v4), some (rc_i v5), some (rc_i (v1 + (4 : Int32)))]) dJ5_putCharsAt_23 rfl rfl rfl rfl ?_
  refine rc_iload_n (pc := 26) hC dJ5_putCharsAt_26 rfl rfl ?_
  refine rc_callS (pc := 27) hC (rw_J5_putChar hH.1 v0 (v1 + (1 : Int32)) v3) q494 q495 q122 q496 rd_J5_putChar (hH.room (Nat.le_of_ble_eq_true rfl) (Nat.le_of_ble_eq_true rfl)) rfl rfl (Nat.le_of_ble_eq_true rfl) 3 rfl h.le.2.2 h.br rfl dJ5_putCharsAt_27 ?_ (fun E q S hT => rc_out hC hH.2.2.2.2 hT)
  intro _ S h
  show rc_Z Y S 30 [some (rc_q v0), some (rc_i ((v1 + (1 : Int32)) + (1 : Int32))), some (rc_i v2), some (rc_i v3), some (rc_i v4), some (rc_i v5), some (rc_i (v1 + (4 : Int32)))] []
  refine rc_aload_n (pc := 30) hC dJ5_putCharsAt_30 rfl rfl ?_
  refine rc_iload_n (pc := 31) hC dJ5_putCharsAt_31 rfl rfl ?_
  refine rc_iinc (pc := 32) hC (v := (((v1 + (1 : Int32)) + (1 : Int32)) + (1 : Int32))) (L' := [some (rc_q v0), some (rc_i (((v1 + (1 : Int32)) + (1 : Int32)) + (1 : Int32))), some (rc_i v2), some (rc_i v3), some (rc_i v4), some (rc_i v5), some (rc_i (v1 + (4 : Int32)))]) dJ5_putCharsAt_32 rfl rfl rfl rfl ?_
  refine rc_iload (pc := 35) hC dJ5_putCharsAt_35 rfl ?_
  refine rc_callS (pc := 37) hC (rw_J5_putChar hH.1 v0 ((v1 + (1 : Int32)) + (1 : Int32)) v4) q494 q495 q122 q496 rd_J5_putChar (hH.room (Nat.le_of_ble_eq_true rfl) (Nat.le_of_ble_eq_true rfl)) rfl rfl (Nat.le_of_ble_eq_true rfl) 3 rfl h.le.2.2 h.br rfl dJ5_putCharsAt_37 ?_ (fun E q S hT => rc_out hC hH.2.2.2.2 hT)
  intro _ S h
  show rc_Z Y S 40 [some (rc_q v0), some (rc_i (((v1 + (1 : Int32)) + (1 : Int32)) + (1 : Int32))), some (rc_i v2), some (rc_i v3), some (rc_i v4), some (rc_i v5), some (rc_i (v1 + (4 : Int32)))] []
  refine rc_aload_n (pc := 40) hC dJ5_putCharsAt_40 rfl rfl ?_
  refine rc_iload_n (pc := 41) hC dJ5_putCharsAt_41 rfl rfl ?_
  refine rc_iinc (pc := 42) hC (v := ((((v1 + (1 : Int32)) + (1 : Int32)) + (1 : Int32)) + (1 : Int32))) (L' := [some (rc_q v0), some (rc_i ((((v1 + (1 : Int32)) + (1 : Int32)) + (1 : Int32)) + (1 : Int32))), some (rc_i v2), some (rc_i v3), some (rc_i v4), some (rc_i v5), some (rc_i (v1 + (4 : Int32)))]) dJ5_putCharsAt_42 rfl rfl rfl rfl ?_
  refine rc_iload (pc := 45) hC dJ5_putCharsAt_45 rfl ?_
  refine rc_callS (pc := 47) hC (rw_J5_putChar hH.1 v0 (((v1 + (1 : Int32)) + (1 : Int32)) + (1 : Int32)) v5) q494 q495 q122 q496 rd_J5_putChar (hH.room (Nat.le_of_ble_eq_true rfl) (Nat.le_of_ble_eq_true rfl)) rfl rfl (Nat.le_of_ble_eq_true rfl) 3 rfl h.le.2.2 h.br rfl dJ5_putCharsAt_47 ?_ (fun E q S hT => rc_out hC hH.2.2.2.2 hT)
  intro _ S h
  show rc_Z Y S 50 [some (rc_q v0), some (rc_i ((((v1 + (1 : Int32)) + (1 : Int32)) + (1 : Int32)) + (1 : Int32))), some (rc_i v2), some (rc_i v3), some (rc_i v4), some (rc_i v5), some (rc_i (v1 + (4 : Int32)))] []
  exact h.fail.elim
theorem rw_J2_appendNull_L76 {Y : rc_Y} (hC : rc_C Y cJ2_appendNull RJ2 (Option.some (Jvm.ClassFile.FieldType.object "java/lang/AbstractStringBuilder")) 3) (hH : rc_H Y 4 93 yJ2_appendNull.name) (v0 : Option Nat) (v1 : Int32) (S : rc_S) (h : rc_Go Y rc_tQ (rp_J2_appendNull_L76  v0 v1) S) : rc_Z Y S 76 [some (rc_q v0), some (rc_i v1), none] [] := by
  unfold rp_J2_appendNull_L76 at h
  refine rc_aload_n (pc := 76) hC dJ2_appendNull_76 rfl rfl ?_
  refine rc_iload_n (pc := 77) hC dJ2_appendNull_77 rfl rfl ?_
  refine rc_r_put (pc := 78) hC rP_J2_79 (nofun) dJ2_appendNull_78 h ?_
  intro S h
  refine rc_aload_n (pc := 81) hC dJ2_appendNull_81 rfl rfl ?_
  exact rc_aret hC rfl (by first | exact Or.inl ⟨_, rfl⟩ | exact Or.inr ⟨_, rfl⟩) dJ2_appendNull_82 h rfl
theorem rw_J2_appendNull {l : Launch} (hl : l.stackTraces = false) (v0 : Option Nat) : rc_Ct l yJ2_appendNull (ws_ yJ2_appendNull cJ2_appendNull 3 (Option.some (Jvm.ClassFile.FieldType.object "java/lang/AbstractStringBuilder"))) 4 93 rc_tQ (rp_J2_appendNull v0) [rc_q v0] := by
  refine rc_Ct_H hl (plainFor_of_name rY_J2) rfl (Nat.le_of_ble_eq_true rfl) (L0 := [some (rc_q v0), none, none]) rfl ?_
  intro Y S hC hH h
  have hC : rc_C Y cJ2_appendNull RJ2 (Option.some (Jvm.ClassFile.FieldType.object "java/lang/AbstractStringBuilder")) 3 := hC
  unfold rp_J2_appendNull at h
  refine rc_aload_n (pc := 0) hC dJ2_appendNull_0 rfl rfl ?_
  refine rc_aload_n (pc := 1) hC dJ2_appendNull_1 rfl rfl ?_
  refine rc_r_geti (pc := 2) hC rF_J2_79 dJ2_appendNull_2 h ?_
  intro x1 h
  refine rc_iconst (pc := 5) hC (v := (4 : Int32)) dJ2_appendNull_5 rfl ?_
  refine rc_iadd (pc := 6) hC dJ2_appendNull_6 ?_
  obtain ⟨⟨fs, ho⟩, h⟩ := h.is
  refine rc_callVP (pc := 7) hC rfl ho (rw_J2_ensureCapacityInternal hH.1 v0 (x1 + (4 : Int32))) q436 q438 q474 q472 rfl (lw_o q437 rfl) q119 q439 rd_J2_ensureCapacityInternal (hH.room (Nat.le_of_ble_eq_true rfl) (Nat.le_of_ble_eq_true rfl)) rfl rfl (Nat.le_of_ble_eq_true rfl) 1 rfl h.le.2.2 h.br rfl dJ2_appendNull_7 ?_ (fun E q S hT => rc_out hC hH.2.2.2.2 hT)
  intro _ S h
  show rc_Z Y S 10 [some (rc_q v0), none, none] []
  refine rc_aload_n (pc := 10) hC dJ2_appendNull_10 rfl rfl ?_
  refine rc_r_geti (pc := 11) hC rF_J2_79 dJ2_appendNull_11 h ?_
  intro x2 h
  refine rc_istore_n (pc := 14) hC (L' := [some (rc_q v0), some (rc_i x2), none]) dJ2_appendNull_14 rfl (Nat.le_of_ble_eq_true rfl) rfl rfl ?_
  refine rc_aload_n (pc := 15) hC dJ2_appendNull_15 rfl rfl ?_
  refine rc_r_getq (pc := 16) hC rF_J2_15 dJ2_appendNull_16 h ?_
  intro x3 h
  refine rc_astore_n (pc := 19) hC (L' := [some (rc_q v0), some (rc_i x2), some (rc_q x3)]) dJ2_appendNull_19 rfl (Nat.le_of_ble_eq_true rfl) rfl rfl ?_
  refine rc_aload_n (pc := 20) hC dJ2_appendNull_20 rfl rfl ?_
  obtain ⟨⟨fs, ho⟩, h⟩ := h.is
  refine rc_callU (pc := 21) hC rfl ho (rw_J2_isLatin1 hH.1 v0) q471 q473 q474 q472 q119 q475 rfl ⟨by decide, by decide, rd_J2_isLatin1.2.2⟩ (hH.room (Nat.le_of_ble_eq_true rfl) (Nat.le_of_ble_eq_true rfl)) rfl rfl (Nat.le_of_ble_eq_true rfl) 0 rfl h.le.2.2 h.br rfl dJ2_appendNull_21 ?_ (fun E q S hT => rc_out hC hH.2.2.2.2 hT)
  intro x4 S h
  show rc_Z Y S 24 [some (rc_q v0), some (rc_i x2), some (rc_q x3)] [rc_i x4]
  refine rc_if_eq (pc := 24) (tgt := 62) hC dJ2_appendNull_24 rfl h ?_ ?_
  · intro _ h
    refine rc_aload_n (pc := 62) hC dJ2_appendNull_62 rfl rfl ?_
    refine rc_iload_n (pc := 63) hC dJ2_appendNull_63 rfl rfl ?_
    refine rc_bipush (pc := 64) hC (v := (110 : Int32)) dJ2_appendNull_64 rfl ?_
    refine rc_bipush (pc := 66) hC (v := (117 : Int32)) dJ2_appendNull_66 rfl ?_
    refine rc_bipush (pc := 68) hC (v := (108 : Int32)) dJ2_appendNull_68 rfl ?_
    refine rc_bipush (pc := 70) hC (v := (108 : Int32)) dJ2_appendNull_70 rfl ?_
    refine rc_callS (pc := 72) hC (rw_J5_putCharsAt hH.1 x3 x2 (110 : Int32) (117 : Int32) (108 : Int32) (108 : Int32)) q510 q511 q122 q512 rd_J5_putCharsAt (hH.room (Nat.le_of_ble_eq_true rfl) (Nat.le_of_ble_eq_true rfl)) rfl rfl (Nat.le_of_ble_eq_true rfl) 6 rfl h.le.2.2 h.br rfl dJ2_appendNull_72 ?_ (fun E q S hT => rc_out hC hH.2.2.2.2 hT)
    intro x5 S h
    show rc_Z Y S 75 [some (rc_q v0), some (rc_i x2), some (rc_q x3)] [rc_i x5]
    refine rc_istore_n (pc := 75) hC (L' := [some (rc_q v0), some (rc_i x5), some (rc_q x3)]) dJ2_appendNull_75 rfl (Nat.le_of_ble_eq_true rfl) rfl rfl ?_
    refine rc_drop [true, true, false] (L' := [some (rc_q v0), some (rc_i x5), none]) rfl ?_
    exact rw_J2_appendNull_L76 hC hH  v0 x5 S h
  intro _ h
  refine rc_aload_n (pc := 27) hC dJ2_appendNull_27 rfl rfl ?_
  refine rc_iload_n (pc := 28) hC dJ2_appendNull_28 rfl rfl ?_
  refine rc_iinc (pc := 29) hC (v := (x2 + (1 : Int32))) (L' := [some (rc_q v0), some (rc_i (x2 + (1 : Int32))), some (rc_q x3)]) dJ2_appendNull_29 rfl rfl rfl rfl ?_
  refine rc_bipush (pc := 32) hC (v := (110 : Int32)) dJ2_appendNull_32 rfl ?_
  refine rc_r_bast (pc := 34) hC dJ2_appendNull_34 h ?_
  intro S h
  refine rc_aload_n (pc := 35) hC dJ2_appendNull_35 rfl rfl ?_
  refine rc_iload_n (pc := 36) hC dJ2_appendNull_36 rfl rfl ?_
  refine rc_iinc (pc := 37) hC (v := ((x2 + (1 : Int32)) + (1 : Int32))) (L' := [some (rc_q v0), some (rc_i ((x2 + (1 : Int32)) + (1 : Int32))), some (rc_q x3)]) dJ2_appendNull_37 rfl rfl rfl rfl ?_
  refine rc_bipush (pc := 40) hC (v := (117 : Int32)) dJ2_appendNull_40 rfl ?_
  refine rc_r_bast (pc := 42) hC dJ2_appendNull_42 h ?_
  intro S h
  refine rc_aload_n (pc := 43) hC dJ2_appendNull_43 rfl rfl ?_
  refine rc_iload_n (pc := 44) hC dJ2_appendNull_44 rfl rfl ?_
  refine rc_iinc (pc := 45) hC (v := (((x2 + (1 : Int32)) + (1 : Int32)) + (1 : Int32))) (L' := [some (rc_q v0), some (rc_i (((x2 + (1 : Int32)) + (1 : Int32)) + (1 : Int32))), some (rc_q x3)]) dJ2_appendNull_45 rfl rfl rfl rfl ?_
  refine rc_bipush (pc := 48) hC (v := (108 : Int32)) dJ2_appendNull_48 rfl ?_
  refine rc_r_bast (pc := 50) hC dJ2_appendNull_50 h ?_
  intro S h
  refine rc_aload_n (pc := 51) hC dJ2_appendNull_51 rfl rfl ?_
  refine rc_iload_n (pc := 52) hC dJ2_appendNull_52 rfl rfl ?_
  refine rc_iinc (pc := 53) hC (v := ((((x2 + (1 : Int32)) + (1 : Int32)) + (1 : Int32)) + (1 : Int32))) (L' := [some (rc_q v0), some (rc_i ((((x2 + (1 : Int32)) + (1 : Int32)) + (1 : Int32)) + (1 : Int32))), some (rc_q x3)]) dJ2_appendNull_53 rfl rfl rfl rfl ?_
  refine rc_bipush (pc := 56) hC (v := (108 : Int32)) dJ2_appendNull_56 rfl ?_
  refine rc_r_bast (pc := 58) hC dJ2_appendNull_58 h ?_
  intro S h
  refine rc_goto (pc := 59) (tgt := 76) hC dJ2_appendNull_59 rfl ?_
  refine rc_drop [true, true, false] (L' := [some (rc_q v0), some (rc_i ((((x2 + (1 : Int32)) + (1 : Int32)) + (1 : Int32)) + (1 : Int32))), none]) rfl ?_
  exact rw_J2_appendNull_L76 hC hH  v0 ((((x2 + (1 : Int32)) + (1 : Int32)) + (1 : Int32)) + (1 : Int32)) S h
theorem rw_J2_inflateIfNeededFor {l : Launch} (hl : l.stackTraces = false) (v0 : Option Nat) (v1 : Option Nat) : rc_Ct l yJ2_inflateIfNeededFor (ws_ yJ2_inflateIfNeededFor cJ2_inflateIfNeededFor 2 (Option.none : Option Jvm.ClassFile.FieldType)) 6 137 rc_tU (rp_J2_inflateIfNeededFor v0 v1) [rc_q v0, rc_q v1] := by
  refine rc_Ct_H hl (plainFor_of_name rY_J2) rfl (Nat.le_of_ble_eq_true rfl) (L0 := [some (rc_q v0), some (rc_q v1)]) rfl ?_
  intro Y S hC hH h
  have hC : rc_C Y cJ2_inflateIfNeededFor RJ2 (Option.none : Option Jvm.ClassFile.FieldType) 2 := hC
  unfold rp_J2_inflateIfNeededFor at h
  refine rc_r_stati (pc := 0) hC rS_J2_18 dJ2_inflateIfNeededFor_0 h ?_
  intro x1 h
  refine rc_if_eq (pc := 3) (tgt := 21) hC dJ2_inflateIfNeededFor_3 rfl h ?_ ?_
  · intro _ h
    exact rc_vret hC rfl dJ2_inflateIfNeededFor_21 h rfl
  intro _ h
  refine rc_aload_n (pc := 6) hC dJ2_inflateIfNeededFor_6 rfl rfl ?_
  refine rc_r_geti (pc := 7) hC rF_J2_22 dJ2_inflateIfNeededFor_7 h ?_
  intro x2 h
  refine rc_aload_n (pc := 10) hC dJ2_inflateIfNeededFor_10 rfl rfl ?_
  obtain ⟨⟨fs, ho⟩, h⟩ := h.is
  refine rc_callV (pc := 11) hC rfl ho (rw_J4_coder hH.1 v1) q522 q311 q312 q121 q313 rfl rd_J4_coder (hH.room (Nat.le_of_ble_eq_true rfl) (Nat.le_of_ble_eq_true rfl)) rfl rfl (Nat.le_of_ble_eq_true rfl) 0 rfl h.le.2.2 h.br rfl dJ2_inflateIfNeededFor_11 ?_ (fun E q S hT => rc_out hC hH.2.2.2.2 hT)
  intro x3 S h
  show rc_Z Y S 14 [some (rc_q v0), some (rc_q v1)] [rc_i x3, rc_i x2]
  refine rc_icmp_eq (pc := 14) (tgt := 21) hC dJ2_inflateIfNeededFor_14 rfl h ?_ ?_
  · intro _ h
    exact rc_vret hC rfl dJ2_inflateIfNeededFor_21 h rfl
  intro _ h
  refine rc_aload_n (pc := 17) hC dJ2_inflateIfNeededFor_17 rfl rfl ?_
  obtain ⟨⟨fs, ho⟩, h⟩ := h.is
  refine rc_callVP (pc := 18) hC rfl ho (rw_J2_inflate hH.1 v0) q523 q525 q474 q472 rfl (lw_o q524 rfl) q119 q526 rd_J2_inflate (hH.room (Nat.le_of_ble_eq_true rfl) (Nat.le_of_ble_eq_true rfl)) rfl rfl (Nat.le_of_ble_eq_true rfl) 0 rfl h.le.2.2 h.br rfl dJ2_inflateIfNeededFor_18 ?_ (fun E q S hT => rc_out hC hH.2.2.2.2 hT)
  intro _ S h
  show rc_Z Y S 21 [some (rc_q v0), some (rc_q v1)] []
  exact rc_vret hC rfl dJ2_inflateIfNeededFor_21 h rfl
theorem rw_J4_getBytes {l : Launch} (hl : l.stackTraces = false) (v0 : Option Nat) (v1 : Option Nat) (v2 : Int32) (v3 : Int32) : rc_Ct l yJ4_getBytes (ws_ yJ4_getBytes cJ4_getBytes 4 (Option.none : Option Jvm.ClassFile.FieldType)) 5 116 rc_tU (rp_J4_getBytes v0 v1 v2 v3) [rc_q v0, rc_q v1, rc_i v2, rc_i v3] := by
  refine rc_Ct_H hl (plainFor_of_name rY_J4) rfl (Nat.le_of_ble_eq_true rfl) (L0 := [some (rc_q v0), some (rc_q v1), some (rc_i v2), some (rc_i v3)]) rfl ?_
  intro Y S hC hH h
  have hC : rc_C Y cJ4_getBytes RJ4 (Option.none : Option Jvm.ClassFile.FieldType) 4 := hC
  unfold rp_J4_getBytes at h
  refine rc_aload_n (pc := 0) hC dJ4_getBytes_0 rfl rfl ?_
  obtain ⟨⟨fs, ho⟩, h⟩ := h.is
  refine rc_callV (pc := 1) hC rfl ho (rw_J4_coder hH.1 v0) q310 q311 q312 q121 q313 rfl rd_J4_coder (hH.room (Nat.le_of_ble_eq_true rfl) (Nat.le_of_ble_eq_true rfl)) rfl rfl (Nat.le_of_ble_eq_true rfl) 0 rfl h.le.2.2 h.br rfl dJ4_getBytes_1 ?_ (fun E q S hT => rc_out hC hH.2.2.2.2 hT)
  intro x1 S h
  show rc_Z Y S 4 [some (rc_q v0), some (rc_q v1), some (rc_i v2), some (rc_i v3)] [rc_i x1]
  refine rc_iload_n (pc := 4) hC dJ4_getBytes_4 rfl rfl ?_
  refine rc_icmp_ne (pc := 5) (tgt := 28) hC dJ4_getBytes_5 rfl h ?_ ?_
  · intro _ h
    refine rc_aload_n (pc := 28) hC dJ4_getBytes_28 rfl rfl ?_
    refine rc_r_getq (pc := 29) hC rF_J4_9 dJ4_getBytes_29 h ?_
    intro x2 h
    refine rc_iconst (pc := 32) hC (v := (0 : Int32)) dJ4_getBytes_32 rfl ?_
    refine rc_aload_n (pc := 33) hC dJ4_getBytes_33 rfl rfl ?_
    refine rc_iload_n (pc := 34) hC dJ4_getBytes_34 rfl rfl ?_
    refine rc_aload_n (pc := 35) hC dJ4_getBytes_35 rfl rfl ?_
    refine rc_r_getq (pc := 36) hC rF_J4_9 dJ4_getBytes_36 h ?_
    intro x3 h
    refine rc_r_alen (pc := 39) hC dJ4_getBytes_39 h ?_
    intro x4 h
    refine rc_callS (pc := 40) hC (rw_J8_inflate hH.1 x2 (0 : Int32) v1 v2 x4) q547 q528 q129 q529 rd_J8_inflate (hH.room (Nat.le_of_ble_eq_true rfl) (Nat.le_of_ble_eq_true rfl)) rfl rfl (Nat.le_of_ble_eq_true rfl) 5 rfl h.le.2.2 h.br rfl dJ4_getBytes_40 ?_ (fun E q S hT => rc_out hC hH.2.2.2.2 hT)
    intro _ S h
    show rc_Z Y S 43 [some (rc_q v0), some (rc_q v1), some (rc_i v2), some (rc_i v3)] []
    exact rc_vret hC rfl dJ4_getBytes_43 h rfl
  intro _ h
  refine rc_aload_n (pc := 8) hC dJ4_getBytes_8 rfl rfl ?_
  refine rc_r_getq (pc := 9) hC rF_J4_9 dJ4_getBytes_9 h ?_
  intro x5 h
  refine rc_iconst (pc := 12) hC (v := (0 : Int32)) dJ4_getBytes_12 rfl ?_
  refine rc_aload_n (pc := 13) hC dJ4_getBytes_13 rfl rfl ?_
  refine rc_iload_n (pc := 14) hC dJ4_getBytes_14 rfl rfl ?_
  refine rc_iload_n (pc := 15) hC dJ4_getBytes_15 rfl rfl ?_
  refine rc_ishl (pc := 16) hC dJ4_getBytes_16 ?_
  refine rc_aload_n (pc := 17) hC dJ4_getBytes_17 rfl rfl ?_
  refine rc_r_getq (pc := 18) hC rF_J4_9 dJ4_getBytes_18 h ?_
  intro x6 h
  refine rc_r_alen (pc := 21) hC dJ4_getBytes_21 h ?_
  intro x7 h
  refine rc_r_acopy (pc := 22) (t := 2) hC q546 q470 q469 q140 (hH.frm (Nat.le_of_ble_eq_true rfl)) (hH.lom (Nat.le_of_ble_eq_true rfl)) rfl rfl (Nat.le_of_ble_eq_true rfl) dJ4_getBytes_22 h ?_
  intro S h
  refine rc_goto (pc := 25) (tgt := 43) hC dJ4_getBytes_25 rfl ?_
  exact rc_vret hC rfl dJ4_getBytes_43 h rfl
theorem rw_J2_putStringAt {l : Launch} (hl : l.stackTraces = false) (v0 : Option Nat) (v1 : Int32) (v2 : Option Nat) : rc_Ct l yJ2_putStringAt (ws_ yJ2_putStringAt cJ2_putStringAt 3 (Option.none : Option Jvm.ClassFile.FieldType)) 7 158 rc_tU (rp_J2_putStringAt v0 v1 v2) [rc_q v0, rc_i v1, rc_q v2] := by
  refine rc_Ct_H hl (plainFor_of_name rY_J2) rfl (Nat.le_of_ble_eq_true rfl) (L0 := [some (rc_q v0), some (rc_i v1), some (rc_q v2)]) rfl ?_
  intro Y S hC hH h
  have hC : rc_C Y cJ2_putStringAt RJ2 (Option.none : Option Jvm.ClassFile.FieldType) 3 := hC
  unfold rp_J2_putStringAt at h
  refine rc_aload_n (pc := 0) hC dJ2_putStringAt_0 rfl rfl ?_
  refine rc_aload_n (pc := 1) hC dJ2_putStringAt_1 rfl rfl ?_
  obtain ⟨⟨fs, ho⟩, h⟩ := h.is
  refine rc_callVP (pc := 2) hC rfl ho (rw_J2_inflateIfNeededFor hH.1 v0 v2) q518 q520 q474 q472 rfl (lw_o q519 rfl) q119 q521 rd_J2_inflateIfNeededFor (hH.room (Nat.le_of_ble_eq_true rfl) (Nat.le_of_ble_eq_true rfl)) rfl rfl (Nat.le_of_ble_eq_true rfl) 1 rfl h.le.2.2 h.br rfl dJ2_putStringAt_2 ?_ (fun E q S hT => rc_out hC hH.2.2.2.2 hT)
  intro _ S h
  show rc_Z Y S 5 [some (rc_q v0), some (rc_i v1), some (rc_q v2)] []
  refine rc_aload_n (pc := 5) hC dJ2_putStringAt_5 rfl rfl ?_
  refine rc_aload_n (pc := 6) hC dJ2_putStringAt_6 rfl rfl ?_
  refine rc_r_getq (pc := 7) hC rF_J2_15 dJ2_putStringAt_7 h ?_
  intro x1 h
  refine rc_iload_n (pc := 10) hC dJ2_putStringAt_10 rfl rfl ?_
  refine rc_aload_n (pc := 11) hC dJ2_putStringAt_11 rfl rfl ?_
  refine rc_r_geti (pc := 12) hC rF_J2_22 dJ2_putStringAt_12 h ?_
  intro x2 h
  obtain ⟨⟨fs, ho⟩, h⟩ := h.is
  refine rc_callV (pc := 15) hC rfl ho (rw_J4_getBytes hH.1 v2 x1 v1 x2) q542 q543 q544 q121 q545 rfl rd_J4_getBytes (hH.room (Nat.le_of_ble_eq_true rfl) (Nat.le_of_ble_eq_true rfl)) rfl rfl (Nat.le_of_ble_eq_true rfl) 3 rfl h.le.2.2 h.br rfl dJ2_putStringAt_15 ?_ (fun E q S hT => rc_out hC hH.2.2.2.2 hT)
  intro _ S h
  show rc_Z Y S 18 [some (rc_q v0), some (rc_i v1), some (rc_q v2)] []
  exact rc_vret hC rfl dJ2_putStringAt_18 h rfl
theorem rw_J2_append_2 {l : Launch} (hl : l.stackTraces = false) (v0 : Option Nat) (v1 : Option Nat) : rc_Ct l yJ2_append_2 (ws_ yJ2_append_2 cJ2_append_2 3 (Option.some (Jvm.ClassFile.FieldType.object "java/lang/AbstractStringBuilder"))) 8 180 rc_tQ (rp_J2_append_2 v0 v1) [rc_q v0, rc_q v1] := by
  refine rc_Ct_H hl (plainFor_of_name rY_J2) rfl (Nat.le_of_ble_eq_true rfl) (L0 := [some (rc_q v0), some (rc_q v1), none]) rfl ?_
  intro Y S hC hH h
  have hC : rc_C Y cJ2_append_2 RJ2 (Option.some (Jvm.ClassFile.FieldType.object "java/lang/AbstractStringBuilder")) 3 := hC
  unfold rp_J2_append_2 at h
  refine rc_aload_n (pc := 0) hC dJ2_append_2_0 rfl rfl ?_
  refine rc_ifnonnull (pc := 1) (tgt := 9) hC dJ2_append_2_1 rfl h ?_ ?_
  · intro _ h
    refine rc_aload_n (pc := 9) hC dJ2_append_2_9 rfl rfl ?_
    obtain ⟨⟨fs, ho⟩, h⟩ := h.is
    refine rc_callV (pc := 10) hC rfl ho (rw_J4_length hH.1 v1) q513 q307 q308 q121 q309 rfl rd_J4_length (hH.room (Nat.le_of_ble_eq_true rfl) (Nat.le_of_ble_eq_true rfl)) rfl rfl (Nat.le_of_ble_eq_true rfl) 0 rfl h.le.2.2 h.br rfl dJ2_append_2_10 ?_ (fun E q S hT => rc_out hC hH.2.2.2.2 hT)
    intro x1 S h
    show rc_Z Y S 13 [some (rc_q v0), some (rc_q v1), none] [rc_i x1]
    refine rc_istore_n (pc := 13) hC (L' := [some (rc_q v0), some (rc_q v1), some (rc_i x1)]) dJ2_append_2_13 rfl (Nat.le_of_ble_eq_true rfl) rfl rfl ?_
    refine rc_aload_n (pc := 14) hC dJ2_append_2_14 rfl rfl ?_
    refine rc_aload_n (pc := 15) hC dJ2_append_2_15 rfl rfl ?_
    refine rc_r_geti (pc := 16) hC rF_J2_79 dJ2_append_2_16 h ?_
    intro x2 h
    refine rc_iload_n (pc := 19) hC dJ2_append_2_19 rfl rfl ?_
    refine rc_iadd (pc := 20) hC dJ2_append_2_20 ?_
    obtain ⟨⟨fs, ho⟩, h⟩ := h.is
    refine rc_callVP (pc := 21) hC rfl ho (rw_J2_ensureCapacityInternal hH.1 v0 (x2 + x1)) q436 q438 q474 q472 rfl (lw_o q437 rfl) q119 q439 rd_J2_ensureCapacityInternal (hH.room (Nat.le_of_ble_eq_true rfl) (Nat.le_of_ble_eq_true rfl)) rfl rfl (Nat.le_of_ble_eq_true rfl) 1 rfl h.le.2.2 h.br rfl dJ2_append_2_21 ?_ (fun E q S hT => rc_out hC hH.2.2.2.2 hT)
    intro _ S h
    show rc_Z Y S 24 [some (rc_q v0), some (rc_q v1), some (rc_i x1)] []
    refine rc_aload_n (pc := 24) hC dJ2_append_2_24 rfl rfl ?_
    refine rc_aload_n (pc := 25) hC dJ2_append_2_25 rfl rfl ?_
    refine rc_r_geti (pc := 26) hC rF_J2_79 dJ2_append_2_26 h ?_
    intro x3 h
    refine rc_aload_n (pc := 29) hC dJ2_append_2_29 rfl rfl ?_
    obtain ⟨⟨fs, ho⟩, h⟩ := h.is
    refine rc_callVP (pc := 30) hC rfl ho (rw_J2_putStringAt hH.1 v0 x3 v1) q514 q516 q474 q472 rfl (lw_o q515 rfl) q119 q517 rd_J2_putStringAt (hH.room (Nat.le_of_ble_eq_true rfl) (Nat.le_of_ble_eq_true rfl)) rfl rfl (Nat.le_of_ble_eq_true rfl) 2 rfl h.le.2.2 h.br rfl dJ2_append_2_30 ?_ (fun E q S hT => rc_out hC hH.2.2.2.2 hT)
    intro _ S h
    show rc_Z Y S 33 [some (rc_q v0), some (rc_q v1), some (rc_i x1)] []
    refine rc_aload_n (pc := 33) hC dJ2_append_2_33 rfl rfl ?_
    refine rc_dup (pc := 34) hC dJ2_append_2_34 rfl ?_
    refine rc_r_geti (pc := 35) hC rF_J2_79 dJ2_append_2_35 h ?_
    intro x4 h
    refine rc_iload_n (pc := 38) hC dJ2_append_2_38 rfl rfl ?_
    refine rc_iadd (pc := 39) hC dJ2_append_2_39 ?_
    refine rc_r_put (pc := 40) hC rP_J2_79 (nofun) dJ2_append_2_40 h ?_
    intro S h
    refine rc_aload_n (pc := 43) hC dJ2_append_2_43 rfl rfl ?_
    exact rc_aret hC rfl (by first | exact Or.inl ⟨_, rfl⟩ | exact Or.inr ⟨_, rfl⟩) dJ2_append_2_44 h rfl
  intro _ h
  refine rc_aload_n (pc := 4) hC dJ2_append_2_4 rfl rfl ?_
  obtain ⟨⟨fs, ho⟩, h⟩ := h.is
  refine rc_callVP (pc := 5) hC rfl ho (rw_J2_appendNull hH.1 v0) q506 q508 q474 q472 rfl (lw_o q507 rfl) q119 q509 rd_J2_appendNull (hH.room (Nat.le_of_ble_eq_true rfl) (Nat.le_of_ble_eq_true rfl)) rfl rfl (Nat.le_of_ble_eq_true rfl) 0 rfl h.le.2.2 h.br rfl dJ2_append_2_5 ?_ (fun E q S hT => rc_out hC hH.2.2.2.2 hT)
  intro x5 S h
  show rc_Z Y S 8 [some (rc_q v0), some (rc_q v1), none] [rc_q x5]
  exact rc_aret hC rfl (by first | exact Or.inl ⟨_, rfl⟩ | exact Or.inr ⟨_, rfl⟩) dJ2_append_2_8 h rfl
theorem rw_J3_append_2 {l : Launch} (hl : l.stackTraces = false) (v0 : Option Nat) (v1 : Option Nat) : rc_Ct l yJ3_append_2 (ws_ yJ3_append_2 cJ3_append_2 2 (Option.some (Jvm.ClassFile.FieldType.object "java/lang/StringBuilder"))) 9 202 rc_tQ (rp_J3_append_2 v0 v1) [rc_q v0, rc_q v1] := by
  refine rc_Ct_H hl (plainFor_of_name rY_J3) rfl (Nat.le_of_ble_eq_true rfl) (L0 := [some (rc_q v0), some (rc_q v1)]) rfl ?_
  intro Y S hC hH h
  have hC : rc_C Y cJ3_append_2 RJ3 (Option.some (Jvm.ClassFile.FieldType.object "java/lang/StringBuilder")) 2 := hC
  unfold rp_J3_append_2 at h
  refine rc_aload_n (pc := 0) hC dJ3_append_2_0 rfl rfl ?_
  refine rc_aload_n (pc := 1) hC dJ3_append_2_1 rfl rfl ?_
  obtain ⟨⟨fs, ho⟩, h⟩ := h.is
  refine rc_callSU (pc := 2) hC rfl ho (rw_J2_append_2 hH.1 v0 v1) q503 q2708 q216 q504 q119 q505 ⟨by decide, rd_J2_append_2.2.2⟩ (hH.room (Nat.le_of_ble_eq_true rfl) (Nat.le_of_ble_eq_true rfl)) rfl rfl (Nat.le_of_ble_eq_true rfl) 1 rfl h.le.2.2 h.br rfl dJ3_append_2_2 ?_ (fun E q S hT => rc_out hC hH.2.2.2.2 hT)
  intro x1 S h
  show rc_Z Y S 5 [some (rc_q v0), some (rc_q v1)] [rc_q x1]
  refine rc_pop (pc := 5) hC dJ3_append_2_5 rfl ?_
  refine rc_aload_n (pc := 6) hC dJ3_append_2_6 rfl rfl ?_
  exact rc_aret hC rfl (by first | exact Or.inl ⟨_, rfl⟩ | exact Or.inr ⟨_, rfl⟩) dJ3_append_2_7 h rfl
theorem rw_J15_stringSize_L16 {Y : rc_Y} (hC : rc_C Y cJ15_stringSize RJ15 (Option.some Jvm.ClassFile.FieldType.int) 4) (hH : rc_H Y 0 0 yJ15_stringSize.name) : ∀ (n : Nat) (v0 : Int32) (v1 : Int32) (v2 : Int32) (v3 : Int32) (S : rc_S), rc_Go Y rc_tI (rp_J15_stringSize_L16  n v0 v1 v2 v3) S → rc_Z Y S 16 [some (rc_i v0), some (rc_i v1), some (rc_i v2), some (rc_i v3)] [] := by
  intro n
  induction n with
  | zero => intro v0 v1 v2 v3 S h; exact h.fail.elim
  | succ n ih =>
    intro v0 v1 v2 v3 S h
    rw [rp_J15_stringSize_L16] at h
    refine rc_iload_n (pc := 16) hC dJ15_stringSize_16 rfl rfl ?_
    refine rc_bipush (pc := 17) hC (v := (10 : Int32)) dJ15_stringSize_17 rfl ?_
    refine rc_icmp_ge (pc := 19) (tgt := 42) hC dJ15_stringSize_19 rfl h ?_ ?_
    · intro _ h
      refine rc_bipush (pc := 42) hC (v := (10 : Int32)) dJ15_stringSize_42 rfl ?_
      refine rc_iload_n (pc := 44) hC dJ15_stringSize_44 rfl rfl ?_
      refine rc_iadd (pc := 45) hC dJ15_stringSize_45 ?_
      exact rc_iret hC rfl rfl dJ15_stringSize_46 h rfl
    intro _ h
    refine rc_iload_n (pc := 22) hC dJ15_stringSize_22 rfl rfl ?_
    refine rc_iload_n (pc := 23) hC dJ15_stringSize_23 rfl rfl ?_
    refine rc_icmp_le (pc := 24) (tgt := 31) hC dJ15_stringSize_24 rfl h ?_ ?_
    · intro _ h
      refine rc_bipush (pc := 31) hC (v := (10 : Int32)) dJ15_stringSize_31 rfl ?_
      refine rc_iload_n (pc := 33) hC dJ15_stringSize_33 rfl rfl ?_
      refine rc_imul (pc := 34) hC dJ15_stringSize_34 ?_
      refine rc_istore_n (pc := 35) hC (L' := [some (rc_i v0), some (rc_i v1), some (rc_i ((10 : Int32) * v2)), some (rc_i v3)]) dJ15_stringSize_35 rfl (Nat.le_of_ble_eq_true rfl) rfl rfl ?_
      refine rc_iinc (pc := 36) hC (v := (v3 + (1 : Int32))) (L' := [some (rc_i v0), some (rc_i v1), some (rc_i ((10 : Int32) * v2)), some (rc_i (v3 + (1 : Int32)))]) dJ15_stringSize_36 rfl rfl rfl rfl ?_
      refine rc_goto (pc := 39) (tgt := 16) hC dJ15_stringSize_39 rfl ?_
      exact ih v0 v1 ((10 : Int32) * v2) (v3 + (1 : Int32)) S h
    intro _ h
    refine rc_iload_n (pc := 27) hC dJ15_stringSize_27 rfl rfl ?_
    refine rc_iload_n (pc := 28) hC dJ15_stringSize_28 rfl rfl ?_
    refine rc_iadd (pc := 29) hC dJ15_stringSize_29 ?_
    exact rc_iret hC rfl rfl dJ15_stringSize_30 h rfl
theorem rw_J15_stringSize_L11 {Y : rc_Y} (hC : rc_C Y cJ15_stringSize RJ15 (Option.some Jvm.ClassFile.FieldType.int) 4) (hH : rc_H Y 0 0 yJ15_stringSize.name) (v0 : Int32) (v1 : Int32) (S : rc_S) (h : rc_Go Y rc_tI (rp_J15_stringSize_L11  v0 v1) S) : rc_Z Y S 11 [some (rc_i v0), some (rc_i v1), none, none] [] := by
  unfold rp_J15_stringSize_L11 at h
  refine rc_bipush (pc := 11) hC (v := (-10 : Int32)) dJ15_stringSize_11 rfl ?_
  refine rc_istore_n (pc := 13) hC (L' := [some (rc_i v0), some (rc_i v1), some (rc_i (-10 : Int32)), none]) dJ15_stringSize_13 rfl (Nat.le_of_ble_eq_true rfl) rfl rfl ?_
  refine rc_iconst (pc := 14) hC (v := (1 : Int32)) dJ15_stringSize_14 rfl ?_
  refine rc_istore_n (pc := 15) hC (L' := [some (rc_i v0), some (rc_i v1), some (rc_i (-10 : Int32)), some (rc_i (1 : Int32))]) dJ15_stringSize_15 rfl (Nat.le_of_ble_eq_true rfl) rfl rfl ?_
  refine rc_r_fuel h ?_
  intro x1 h
  exact rw_J15_stringSize_L16 hC hH  x1 v0 v1 (-10 : Int32) (1 : Int32) S h
theorem rw_J15_stringSize {l : Launch} (hl : l.stackTraces = false) (v0 : Int32) : rc_Ct l yJ15_stringSize (ws_ yJ15_stringSize cJ15_stringSize 4 (Option.some Jvm.ClassFile.FieldType.int)) 0 0 rc_tI (rp_J15_stringSize v0) [rc_i v0] := by
  refine rc_Ct_H hl (plainFor_of_name rY_J15) rfl (Nat.le_of_ble_eq_true rfl) (L0 := [some (rc_i v0), none, none, none]) rfl ?_
  intro Y S hC hH h
  have hC : rc_C Y cJ15_stringSize RJ15 (Option.some Jvm.ClassFile.FieldType.int) 4 := hC
  unfold rp_J15_stringSize at h
  refine rc_iconst (pc := 0) hC (v := (1 : Int32)) dJ15_stringSize_0 rfl ?_
  refine rc_istore_n (pc := 1) hC (L' := [some (rc_i v0), some (rc_i (1 : Int32)), none, none]) dJ15_stringSize_1 rfl (Nat.le_of_ble_eq_true rfl) rfl rfl ?_
  refine rc_iload_n (pc := 2) hC dJ15_stringSize_2 rfl rfl ?_
  refine rc_if_lt (pc := 3) (tgt := 11) hC dJ15_stringSize_3 rfl h ?_ ?_
  · intro _ h
    exact rw_J15_stringSize_L11 hC hH  v0 (1 : Int32) S h
  intro _ h
  refine rc_iconst (pc := 6) hC (v := (0 : Int32)) dJ15_stringSize_6 rfl ?_
  refine rc_istore_n (pc := 7) hC (L' := [some (rc_i v0), some (rc_i (0 : Int32)), none, none]) dJ15_stringSize_7 rfl (Nat.le_of_ble_eq_true rfl) rfl rfl ?_
  refine rc_iload_n (pc := 8) hC dJ15_stringSize_8 rfl rfl ?_
  refine rc_ineg (pc := 9) hC dJ15_stringSize_9 ?_
  refine rc_istore_n (pc := 10) hC (L' := [some (rc_i (-v0)), some (rc_i (0 : Int32)), none, none]) dJ15_stringSize_10 rfl (Nat.le_of_ble_eq_true rfl) rfl rfl ?_
  exact rw_J15_stringSize_L11 hC hH  (-v0) (0 : Int32) S h
theorem rw_J15_getChars_L22 {Y : rc_Y} (hC : rc_C Y cJ15_getChars RJ15 (Option.some Jvm.ClassFile.FieldType.int) 7) (hH : rc_H Y 0 0 yJ15_getChars.name) (v0 : Int32) (v2 : Option Nat) (v5 : Int32) (S : rc_S) (h : rc_Go Y rc_tI (rp_J15_getChars_L22  v0 v2 v5) S) : rc_Z Y S 22 [some (rc_i v0), none, some (rc_q v2), none, none, some (rc_i v5), none] [] := by
  unfold rp_J15_getChars_L22 at h
  refine rc_iload_n (pc := 22) hC dJ15_getChars_22 rfl rfl ?_
  refine rc_bipush (pc := 23) hC (v := (-100 : Int32)) dJ15_getChars_23 rfl ?_
  refine rc_icmp_gt (pc := 25) (tgt := 72) hC dJ15_getChars_25 rfl h ?_ ?_
  · intro _ h
    refine rc_aload_n (pc := 72) hC dJ15_getChars_72 rfl rfl ?_
    refine rc_iinc (pc := 73) hC (v := (v5 + (-1 : Int32))) (L' := [some (rc_i v0), none, some (rc_q v2), none, none, some (rc_i (v5 + (-1 : Int32))), none]) dJ15_getChars_73 rfl rfl rfl rfl ?_
    refine rc_iload (pc := 76) hC dJ15_getChars_76 rfl ?_
    exact h.fail.elim
  intro _ h
  refine rc_iload_n (pc := 28) hC dJ15_getChars_28 rfl rfl ?_
  refine rc_bipush (pc := 29) hC (v := (100 : Int32)) dJ15_getChars_29 rfl ?_
  refine rc_idiv (pc := 31) hC dJ15_getChars_31 (by decide) ?_
  refine rc_istore_n (pc := 32) hC (L' := [some (rc_i v0), none, some (rc_q v2), some (rc_i (v0 / (100 : Int32))), none, some (rc_i v5), none]) dJ15_getChars_32 rfl (Nat.le_of_ble_eq_true rfl) rfl rfl ?_
  refine rc_iload_n (pc := 33) hC dJ15_getChars_33 rfl rfl ?_
  refine rc_bipush (pc := 34) hC (v := (100 : Int32)) dJ15_getChars_34 rfl ?_
  refine rc_imul (pc := 36) hC dJ15_getChars_36 ?_
  refine rc_iload_n (pc := 37) hC dJ15_getChars_37 rfl rfl ?_
  refine rc_isub (pc := 38) hC dJ15_getChars_38 ?_
  refine rc_istore (pc := 39) hC (L' := [some (rc_i v0), none, some (rc_q v2), some (rc_i (v0 / (100 : Int32))), some (rc_i (((v0 / (100 : Int32)) * (100 : Int32)) - v0)), some (rc_i v5), none]) dJ15_getChars_39 (Nat.le_of_ble_eq_true rfl) rfl rfl ?_
  refine rc_iload_n (pc := 41) hC dJ15_getChars_41 rfl rfl ?_
  refine rc_istore_n (pc := 42) hC (L' := [some (rc_i (v0 / (100 : Int32))), none, some (rc_q v2), some (rc_i (v0 / (100 : Int32))), some (rc_i (((v0 / (100 : Int32)) * (100 : Int32)) - v0)), some (rc_i v5), none]) dJ15_getChars_42 rfl (Nat.le_of_ble_eq_true rfl) rfl rfl ?_
  refine rc_aload_n (pc := 43) hC dJ15_getChars_43 rfl rfl ?_
  refine rc_iinc (pc := 44) hC (v := (v5 + (-1 : Int32))) (L' := [some (rc_i (v0 / (100 : Int32))), none, some (rc_q v2), some (rc_i (v0 / (100 : Int32))), some (rc_i (((v0 / (100 : Int32)) * (100 : Int32)) - v0)), some (rc_i (v5 + (-1 : Int32))), none]) dJ15_getChars_44 rfl rfl rfl rfl ?_
  refine rc_iload (pc := 47) hC dJ15_getChars_47 rfl ?_
  exact h.fail.elim
theorem rw_J15_getChars_L12 {Y : rc_Y} (hC : rc_C Y cJ15_getChars RJ15 (Option.some Jvm.ClassFile.FieldType.int) 7) (hH : rc_H Y 0 0 yJ15_getChars.name) (v0 : Int32) (v2 : Option Nat) (v5 : Int32) (s0 : Int32) (S : rc_S) (h : rc_Go Y rc_tI (rp_J15_getChars_L12  v0 v2 v5 s0) S) : rc_Z Y S 12 [some (rc_i v0), none, some (rc_q v2), none, none, some (rc_i v5), none] [rc_i s0] := by
  unfold rp_J15_getChars_L12 at h
  refine rc_istore (pc := 12) hC (L' := [some (rc_i v0), none, some (rc_q v2), none, none, some (rc_i v5), some (rc_i s0)]) dJ15_getChars_12 (Nat.le_of_ble_eq_true rfl) rfl rfl ?_
  refine rc_iload (pc := 14) hC dJ15_getChars_14 rfl ?_
  refine rc_if_ne (pc := 16) (tgt := 22) hC dJ15_getChars_16 rfl h ?_ ?_
  · intro _ h
    refine rc_drop [true, false, true, false, false, true, false] (L' := [some (rc_i v0), none, some (rc_q v2), none, none, some (rc_i v5), none]) rfl ?_
    exact rw_J15_getChars_L22 hC hH  v0 v2 v5 S h
  intro _ h
  refine rc_iload_n (pc := 19) hC dJ15_getChars_19 rfl rfl ?_
  refine rc_ineg (pc := 20) hC dJ15_getChars_20 ?_
  refine rc_istore_n (pc := 21) hC (L' := [some (rc_i (-v0)), none, some (rc_q v2), none, none, some (rc_i v5), some (rc_i s0)]) dJ15_getChars_21 rfl (Nat.le_of_ble_eq_true rfl) rfl rfl ?_
  refine rc_drop [true, false, true, false, false, true, false] (L' := [some (rc_i (-v0)), none, some (rc_q v2), none, none, some (rc_i v5), none]) rfl ?_
  exact rw_J15_getChars_L22 hC hH  (-v0) v2 v5 S h
theorem rw_J15_getChars {l : Launch} (hl : l.stackTraces = false) (v0 : Int32) (v1 : Int32) (v2 : Option Nat) : rc_Ct l yJ15_getChars (ws_ yJ15_getChars cJ15_getChars 7 (Option.some Jvm.ClassFile.FieldType.int)) 0 0 rc_tI (rp_J15_getChars v0 v1 v2) [rc_i v0, rc_i v1, rc_q v2] := by
  refine rc_Ct_H hl (plainFor_of_name rY_J15) rfl (Nat.le_of_ble_eq_true rfl) (L0 := [some (rc_i v0), some (rc_i v1), some (rc_q v2), none, none, none, none]) rfl ?_
  intro Y S hC hH h
  have hC : rc_C Y cJ15_getChars RJ15 (Option.some Jvm.ClassFile.FieldType.int) 7 := hC
  unfold rp_J15_getChars at h
  refine rc_iload_n (pc := 0) hC dJ15_getChars_0 rfl rfl ?_
  refine rc_istore (pc := 1) hC (L' := [some (rc_i v0), some (rc_i v1), some (rc_q v2), none, none, some (rc_i v1), none]) dJ15_getChars_1 (Nat.le_of_ble_eq_true rfl) rfl rfl ?_
  refine rc_iload_n (pc := 3) hC dJ15_getChars_3 rfl rfl ?_
  refine rc_if_ge (pc := 4) (tgt := 11) hC dJ15_getChars_4 rfl h ?_ ?_
  · intro _ h
    refine rc_iconst (pc := 11) hC (v := (0 : Int32)) dJ15_getChars_11 rfl ?_
    refine rc_drop [true, false, true, false, false, true, false] (L' := [some (rc_i v0), none, some (rc_q v2), none, none, some (rc_i v1), none]) rfl ?_
    exact rw_J15_getChars_L12 hC hH  v0 v2 v1 (0 : Int32) S h
  intro _ h
  refine rc_iconst (pc := 7) hC (v := (1 : Int32)) dJ15_getChars_7 rfl ?_
  refine rc_goto (pc := 8) (tgt := 12) hC dJ15_getChars_8 rfl ?_
  refine rc_drop [true, false, true, false, false, true, false] (L' := [some (rc_i v0), none, some (rc_q v2), none, none, some (rc_i v1), none]) rfl ?_
  exact rw_J15_getChars_L12 hC hH  v0 v2 v1 (1 : Int32) S h
theorem rw_J5_getChars_2_L22 {Y : rc_Y} (hC : rc_C Y cJ5_getChars_2 RJ5 (Option.some Jvm.ClassFile.FieldType.int) 7) (hH : rc_H Y 0 0 yJ5_getChars_2.name) (v0 : Int32) (v2 : Option Nat) (v5 : Int32) (S : rc_S) (h : rc_Go Y rc_tI (rp_J5_getChars_2_L22  v0 v2 v5) S) : rc_Z Y S 22 [some (rc_i v0), none, some (rc_q v2), none, none, some (rc_i v5), none] [] := by
  unfold rp_J5_getChars_2_L22 at h
  refine rc_iload_n (pc := 22) hC dJ5_getChars_2_22 rfl rfl ?_
  refine rc_bipush (pc := 23) hC (v := (-100 : Int32)) dJ5_getChars_2_23 rfl ?_
  refine rc_icmp_gt (pc := 25) (tgt := 76) hC dJ5_getChars_2_25 rfl h ?_ ?_
  · intro _ h
    refine rc_aload_n (pc := 76) hC dJ5_getChars_2_76 rfl rfl ?_
    refine rc_iinc (pc := 77) hC (v := (v5 + (-1 : Int32))) (L' := [some (rc_i v0), none, some (rc_q v2), none, none, some (rc_i (v5 + (-1 : Int32))), none]) dJ5_getChars_2_77 rfl rfl rfl rfl ?_
    refine rc_iload (pc := 80) hC dJ5_getChars_2_80 rfl ?_
    exact h.fail.elim
  intro _ h
  refine rc_iload_n (pc := 28) hC dJ5_getChars_2_28 rfl rfl ?_
  refine rc_bipush (pc := 29) hC (v := (100 : Int32)) dJ5_getChars_2_29 rfl ?_
  refine rc_idiv (pc := 31) hC dJ5_getChars_2_31 (by decide) ?_
  refine rc_istore_n (pc := 32) hC (L' := [some (rc_i v0), none, some (rc_q v2), some (rc_i (v0 / (100 : Int32))), none, some (rc_i v5), none]) dJ5_getChars_2_32 rfl (Nat.le_of_ble_eq_true rfl) rfl rfl ?_
  refine rc_iload_n (pc := 33) hC dJ5_getChars_2_33 rfl rfl ?_
  refine rc_bipush (pc := 34) hC (v := (100 : Int32)) dJ5_getChars_2_34 rfl ?_
  refine rc_imul (pc := 36) hC dJ5_getChars_2_36 ?_
  refine rc_iload_n (pc := 37) hC dJ5_getChars_2_37 rfl rfl ?_
  refine rc_isub (pc := 38) hC dJ5_getChars_2_38 ?_
  refine rc_istore (pc := 39) hC (L' := [some (rc_i v0), none, some (rc_q v2), some (rc_i (v0 / (100 : Int32))), some (rc_i (((v0 / (100 : Int32)) * (100 : Int32)) - v0)), some (rc_i v5), none]) dJ5_getChars_2_39 (Nat.le_of_ble_eq_true rfl) rfl rfl ?_
  refine rc_iload_n (pc := 41) hC dJ5_getChars_2_41 rfl rfl ?_
  refine rc_istore_n (pc := 42) hC (L' := [some (rc_i (v0 / (100 : Int32))), none, some (rc_q v2), some (rc_i (v0 / (100 : Int32))), some (rc_i (((v0 / (100 : Int32)) * (100 : Int32)) - v0)), some (rc_i v5), none]) dJ5_getChars_2_42 rfl (Nat.le_of_ble_eq_true rfl) rfl rfl ?_
  refine rc_aload_n (pc := 43) hC dJ5_getChars_2_43 rfl rfl ?_
  refine rc_iinc (pc := 44) hC (v := (v5 + (-1 : Int32))) (L' := [some (rc_i (v0 / (100 : Int32))), none, some (rc_q v2), some (rc_i (v0 / (100 : Int32))), some (rc_i (((v0 / (100 : Int32)) * (100 : Int32)) - v0)), some (rc_i (v5 + (-1 : Int32))), none]) dJ5_getChars_2_44 rfl rfl rfl rfl ?_
  refine rc_iload (pc := 47) hC dJ5_getChars_2_47 rfl ?_
  exact h.fail.elim
theorem rw_J5_getChars_2_L12 {Y : rc_Y} (hC : rc_C Y cJ5_getChars_2 RJ5 (Option.some Jvm.ClassFile.FieldType.int) 7) (hH : rc_H Y 0 0 yJ5_getChars_2.name) (v0 : Int32) (v2 : Option Nat) (v5 : Int32) (s0 : Int32) (S : rc_S) (h : rc_Go Y rc_tI (rp_J5_getChars_2_L12  v0 v2 v5 s0) S) : rc_Z Y S 12 [some (rc_i v0), none, some (rc_q v2), none, none, some (rc_i v5), none] [rc_i s0] := by
  unfold rp_J5_getChars_2_L12 at h
  refine rc_istore (pc := 12) hC (L' := [some (rc_i v0), none, some (rc_q v2), none, none, some (rc_i v5), some (rc_i s0)]) dJ5_getChars_2_12 (Nat.le_of_ble_eq_true rfl) rfl rfl ?_
  refine rc_iload (pc := 14) hC dJ5_getChars_2_14 rfl ?_
  refine rc_if_ne (pc := 16) (tgt := 22) hC dJ5_getChars_2_16 rfl h ?_ ?_
  · intro _ h
    refine rc_drop [true, false, true, false, false, true, false] (L' := [some (rc_i v0), none, some (rc_q v2), none, none, some (rc_i v5), none]) rfl ?_
    exact rw_J5_getChars_2_L22 hC hH  v0 v2 v5 S h
  intro _ h
  refine rc_iload_n (pc := 19) hC dJ5_getChars_2_19 rfl rfl ?_
  refine rc_ineg (pc := 20) hC dJ5_getChars_2_20 ?_
  refine rc_istore_n (pc := 21) hC (L' := [some (rc_i (-v0)), none, some (rc_q v2), none, none, some (rc_i v5), some (rc_i s0)]) dJ5_getChars_2_21 rfl (Nat.le_of_ble_eq_true rfl) rfl rfl ?_
  refine rc_drop [true, false, true, false, false, true, false] (L' := [some (rc_i (-v0)), none, some (rc_q v2), none, none, some (rc_i v5), none]) rfl ?_
  exact rw_J5_getChars_2_L22 hC hH  (-v0) v2 v5 S h
theorem rw_J5_getChars_2 {l : Launch} (hl : l.stackTraces = false) (v0 : Int32) (v1 : Int32) (v2 : Option Nat) : rc_Ct l yJ5_getChars_2 (ws_ yJ5_getChars_2 cJ5_getChars_2 7 (Option.some Jvm.ClassFile.FieldType.int)) 0 0 rc_tI (rp_J5_getChars_2 v0 v1 v2) [rc_i v0, rc_i v1, rc_q v2] := by
  refine rc_Ct_H hl (plainFor_of_name rY_J5) rfl (Nat.le_of_ble_eq_true rfl) (L0 := [some (rc_i v0), some (rc_i v1), some (rc_q v2), none, none, none, none]) rfl ?_
  intro Y S hC hH h
  have hC : rc_C Y cJ5_getChars_2 RJ5 (Option.some Jvm.ClassFile.FieldType.int) 7 := hC
  unfold rp_J5_getChars_2 at h
  refine rc_iload_n (pc := 0) hC dJ5_getChars_2_0 rfl rfl ?_
  refine rc_istore (pc := 1) hC (L' := [some (rc_i v0), some (rc_i v1), some (rc_q v2), none, none, some (rc_i v1), none]) dJ5_getChars_2_1 (Nat.le_of_ble_eq_true rfl) rfl rfl ?_
  refine rc_iload_n (pc := 3) hC dJ5_getChars_2_3 rfl rfl ?_
  refine rc_if_ge (pc := 4) (tgt := 11) hC dJ5_getChars_2_4 rfl h ?_ ?_
  · intro _ h
    refine rc_iconst (pc := 11) hC (v := (0 : Int32)) dJ5_getChars_2_11 rfl ?_
    refine rc_drop [true, false, true, false, false, true, false] (L' := [some (rc_i v0), none, some (rc_q v2), none, none, some (rc_i v1), none]) rfl ?_
    exact rw_J5_getChars_2_L12 hC hH  v0 v2 v1 (0 : Int32) S h
  intro _ h
  refine rc_iconst (pc := 7) hC (v := (1 : Int32)) dJ5_getChars_2_7 rfl ?_
  refine rc_goto (pc := 8) (tgt := 12) hC dJ5_getChars_2_8 rfl ?_
  refine rc_drop [true, false, true, false, false, true, false] (L' := [some (rc_i v0), none, some (rc_q v2), none, none, some (rc_i v1), none]) rfl ?_
  exact rw_J5_getChars_2_L12 hC hH  v0 v2 v1 (1 : Int32) S h
theorem rw_J5_getChars {l : Launch} (hl : l.stackTraces = false) (v0 : Int32) (v1 : Int32) (v2 : Int32) (v3 : Option Nat) : rc_Ct l yJ5_getChars (ws_ yJ5_getChars cJ5_getChars 5 (Option.some Jvm.ClassFile.FieldType.int)) 3 67 rc_tI (rp_J5_getChars v0 v1 v2 v3) [rc_i v0, rc_i v1, rc_i v2, rc_q v3] := by
  refine rc_Ct_H hl (plainFor_of_name rY_J5) rfl (Nat.le_of_ble_eq_true rfl) (L0 := [some (rc_i v0), some (rc_i v1), some (rc_i v2), some (rc_q v3), none]) rfl ?_
  intro Y S hC hH h
  have hC : rc_C Y cJ5_getChars RJ5 (Option.some Jvm.ClassFile.FieldType.int) 5 := hC
  unfold rp_J5_getChars at h
  refine rc_iload_n (pc := 0) hC dJ5_getChars_0 rfl rfl ?_
  refine rc_iload_n (pc := 1) hC dJ5_getChars_1 rfl rfl ?_
  refine rc_aload_n (pc := 2) hC dJ5_getChars_2 rfl rfl ?_
  refine rc_callS (pc := 3) hC (rw_J5_checkBoundsBeginEnd hH.1 v1 v2 v3) q486 q487 q122 q488 rd_J5_checkBoundsBeginEnd (hH.room (Nat.le_of_ble_eq_true rfl) (Nat.le_of_ble_eq_true rfl)) rfl rfl (Nat.le_of_ble_eq_true rfl) 3 rfl h.le.2.2 h.br rfl dJ5_getChars_3 ?_ (fun E q S hT => rc_out hC hH.2.2.2.2 hT)
  intro _ S h
  show rc_Z Y S 6 [some (rc_i v0), some (rc_i v1), some (rc_i v2), some (rc_q v3), none] []
  refine rc_iload_n (pc := 6) hC dJ5_getChars_6 rfl rfl ?_
  refine rc_iload_n (pc := 7) hC dJ5_getChars_7 rfl rfl ?_
  refine rc_aload_n (pc := 8) hC dJ5_getChars_8 rfl rfl ?_
  refine rc_callS (pc := 9) hC (rw_J5_getChars_2 hH.1 v0 v2 v3) q490 q491 q122 q492 rd_J5_getChars_2 (hH.room (Nat.le_of_ble_eq_true rfl) (Nat.le_of_ble_eq_true rfl)) rfl rfl (Nat.le_of_ble_eq_true rfl) 3 rfl h.le.2.2 h.br rfl dJ5_getChars_9 ?_ (fun E q S hT => rc_out hC hH.2.2.2.2 hT)
  intro x1 S h
  show rc_Z Y S 12 [some (rc_i v0), some (rc_i v1), some (rc_i v2), some (rc_q v3), none] [rc_i x1]
  refine rc_istore (pc := 12) hC (L' := [some (rc_i v0), some (rc_i v1), some (rc_i v2), some (rc_q v3), some (rc_i x1)]) dJ5_getChars_12 (Nat.le_of_ble_eq_true rfl) rfl rfl ?_
  exact h.fail.elim
theorem rw_J2_append_L48 {Y : rc_Y} (hC : rc_C Y cJ2_append RJ2 (Option.some (Jvm.ClassFile.FieldType.object "java/lang/AbstractStringBuilder")) 4) (hH : rc_H Y 4 92 yJ2_append.name) (v0 : Option Nat) (v3 : Int32) (S : rc_S) (h : rc_Go Y rc_tQ (rp_J2_append_L48  v0 v3) S) : rc_Z Y S 48 [some (rc_q v0), none, none, some (rc_i v3)] [] := by
  unfold rp_J2_append_L48 at h
  refine rc_aload_n (pc := 48) hC dJ2_append_48 rfl rfl ?_
  refine rc_iload_n (pc := 49) hC dJ2_append_49 rfl rfl ?_
  refine rc_r_put (pc := 50) hC rP_J2_79 (nofun) dJ2_append_50 h ?_
  intro S h
  refine rc_aload_n (pc := 53) hC dJ2_append_53 rfl rfl ?_
  exact rc_aret hC rfl (by first | exact Or.inl ⟨_, rfl⟩ | exact Or.inr ⟨_, rfl⟩) dJ2_append_54 h rfl
theorem rw_J2_append {l : Launch} (hl : l.stackTraces = false) (v0 : Option Nat) (v1 : Int32) : rc_Ct l yJ2_append (ws_ yJ2_append cJ2_append 4 (Option.some (Jvm.ClassFile.FieldType.object "java/lang/AbstractStringBuilder"))) 4 92 rc_tQ (rp_J2_append v0 v1) [rc_q v0, rc_i v1] := by
  refine rc_Ct_H hl (plainFor_of_name rY_J2) rfl (Nat.le_of_ble_eq_true rfl) (L0 := [some (rc_q v0), some (rc_i v1), none, none]) rfl ?_
  intro Y S hC hH h
  have hC : rc_C Y cJ2_append RJ2 (Option.some (Jvm.ClassFile.FieldType.object "java/lang/AbstractStringBuilder")) 4 := hC
  unfold rp_J2_append at h
  refine rc_aload_n (pc := 0) hC dJ2_append_0 rfl rfl ?_
  refine rc_r_geti (pc := 1) hC rF_J2_79 dJ2_append_1 h ?_
  intro x1 h
  refine rc_istore_n (pc := 4) hC (L' := [some (rc_q v0), some (rc_i v1), some (rc_i x1), none]) dJ2_append_4 rfl (Nat.le_of_ble_eq_true rfl) rfl rfl ?_
  refine rc_iload_n (pc := 5) hC dJ2_append_5 rfl rfl ?_
  refine rc_iload_n (pc := 6) hC dJ2_append_6 rfl rfl ?_
  refine rc_callS (pc := 7) hC (rw_J15_stringSize hH.1 v1) q433 q434 q137 q435 rd_J15_stringSize (hH.room (Nat.le_of_ble_eq_true rfl) (Nat.le_of_ble_eq_true rfl)) rfl rfl (Nat.le_of_ble_eq_true rfl) 1 rfl h.le.2.2 h.br rfl dJ2_append_7 ?_ (fun E q S hT => rc_out hC hH.2.2.2.2 hT)
  intro x2 S h
  show rc_Z Y S 10 [some (rc_q v0), some (rc_i v1), some (rc_i x1), none] [rc_i x2, rc_i x1]
  refine rc_iadd (pc := 10) hC dJ2_append_10 ?_
  refine rc_istore_n (pc := 11) hC (L' := [some (rc_q v0), some (rc_i v1), some (rc_i x1), some (rc_i (x1 + x2))]) dJ2_append_11 rfl (Nat.le_of_ble_eq_true rfl) rfl rfl ?_
  refine rc_aload_n (pc := 12) hC dJ2_append_12 rfl rfl ?_
  refine rc_iload_n (pc := 13) hC dJ2_append_13 rfl rfl ?_
  obtain ⟨⟨fs, ho⟩, h⟩ := h.is
  refine rc_callVP (pc := 14) hC rfl ho (rw_J2_ensureCapacityInternal hH.1 v0 (x1 + x2)) q436 q438 q474 q472 rfl (lw_o q437 rfl) q119 q439 rd_J2_ensureCapacityInternal (hH.room (Nat.le_of_ble_eq_true rfl) (Nat.le_of_ble_eq_true rfl)) rfl rfl (Nat.le_of_ble_eq_true rfl) 1 rfl h.le.2.2 h.br rfl dJ2_append_14 ?_ (fun E q S hT => rc_out hC hH.2.2.2.2 hT)
  intro _ S h
  show rc_Z Y S 17 [some (rc_q v0), some (rc_i v1), some (rc_i x1), some (rc_i (x1 + x2))] []
  refine rc_aload_n (pc := 17) hC dJ2_append_17 rfl rfl ?_
  obtain ⟨⟨fs, ho⟩, h⟩ := h.is
  refine rc_callU (pc := 18) hC rfl ho (rw_J2_isLatin1 hH.1 v0) q471 q473 q474 q472 q119 q475 rfl ⟨by decide, by decide, rd_J2_isLatin1.2.2⟩ (hH.room (Nat.le_of_ble_eq_true rfl) (Nat.le_of_ble_eq_true rfl)) rfl rfl (Nat.le_of_ble_eq_true rfl) 0 rfl h.le.2.2 h.br rfl dJ2_append_18 ?_ (fun E q S hT => rc_out hC hH.2.2.2.2 hT)
  intro x3 S h
  show rc_Z Y S 21 [some (rc_q v0), some (rc_i v1), some (rc_i x1), some (rc_i (x1 + x2))] [rc_i x3]
  refine rc_if_eq (pc := 21) (tgt := 37) hC dJ2_append_21 rfl h ?_ ?_
  · intro _ h
    refine rc_iload_n (pc := 37) hC dJ2_append_37 rfl rfl ?_
    refine rc_iload_n (pc := 38) hC dJ2_append_38 rfl rfl ?_
    refine rc_iload_n (pc := 39) hC dJ2_append_39 rfl rfl ?_
    refine rc_aload_n (pc := 40) hC dJ2_append_40 rfl rfl ?_
    refine rc_r_getq (pc := 41) hC rF_J2_15 dJ2_append_41 h ?_
    intro x4 h
    refine rc_callS (pc := 44) hC (rw_J5_getChars hH.1 v1 x1 (x1 + x2) x4) q483 q484 q122 q485 rd_J5_getChars (hH.room (Nat.le_of_ble_eq_true rfl) (Nat.le_of_ble_eq_true rfl)) rfl rfl (Nat.le_of_ble_eq_true rfl) 4 rfl h.le.2.2 h.br rfl dJ2_append_44 ?_ (fun E q S hT => rc_out hC hH.2.2.2.2 hT)
    intro x5 S h
    show rc_Z Y S 47 [some (rc_q v0), some (rc_i v1), some (rc_i x1), some (rc_i (x1 + x2))] [rc_i x5]
    refine rc_pop (pc := 47) hC dJ2_append_47 rfl ?_
    refine rc_drop [true, false, false, true] (L' := [some (rc_q v0), none, none, some (rc_i (x1 + x2))]) rfl ?_
    exact rw_J2_append_L48 hC hH  v0 (x1 + x2) S h
  intro _ h
  refine rc_iload_n (pc := 24) hC dJ2_append_24 rfl rfl ?_
  refine rc_iload_n (pc := 25) hC dJ2_append_25 rfl rfl ?_
  refine rc_aload_n (pc := 26) hC dJ2_append_26 rfl rfl ?_
  refine rc_r_getq (pc := 27) hC rF_J2_15 dJ2_append_27 h ?_
  intro x6 h
  refine rc_callS (pc := 30) hC (rw_J15_getChars hH.1 v1 (x1 + x2) x6) q476 q477 q137 q478 rd_J15_getChars (hH.room (Nat.le_of_ble_eq_true rfl) (Nat.le_of_ble_eq_true rfl)) rfl rfl (Nat.le_of_ble_eq_true rfl) 3 rfl h.le.2.2 h.br rfl dJ2_append_30 ?_ (fun E q S hT => rc_out hC hH.2.2.2.2 hT)
  intro x7 S h
  show rc_Z Y S 33 [some (rc_q v0), some (rc_i v1), some (rc_i x1), some (rc_i (x1 + x2))] [rc_i x7]
  refine rc_pop (pc := 33) hC dJ2_append_33 rfl ?_
  refine rc_goto (pc := 34) (tgt := 48) hC dJ2_append_34 rfl ?_
  refine rc_drop [true, false, false, true] (L' := [some (rc_q v0), none, none, some (rc_i (x1 + x2))]) rfl ?_
  exact rw_J2_append_L48 hC hH  v0 (x1 + x2) S h
theorem rw_J3_append {l : Launch} (hl : l.stackTraces = false) (v0 : Option Nat) (v1 : Int32) : rc_Ct l yJ3_append (ws_ yJ3_append cJ3_append 2 (Option.some (Jvm.ClassFile.FieldType.object "java/lang/StringBuilder"))) 5 115 rc_tQ (rp_J3_append v0 v1) [rc_q v0, rc_i v1] := by
  refine rc_Ct_H hl (plainFor_of_name rY_J3) rfl (Nat.le_of_ble_eq_true rfl) (L0 := [some (rc_q v0), some (rc_i v1)]) rfl ?_
  intro Y S hC hH h
  have hC : rc_C Y cJ3_append RJ3 (Option.some (Jvm.ClassFile.FieldType.object "java/lang/StringBuilder")) 2 := hC
  unfold rp_J3_append at h
  refine rc_aload_n (pc := 0) hC dJ3_append_0 rfl rfl ?_
  refine rc_iload_n (pc := 1) hC dJ3_append_1 rfl rfl ?_
  obtain ⟨⟨fs, ho⟩, h⟩ := h.is
  refine rc_callSU (pc := 2) hC rfl ho (rw_J2_append hH.1 v0 v1) q430 q2705 q216 q431 q119 q432 ⟨by decide, rd_J2_append.2.2⟩ (hH.room (Nat.le_of_ble_eq_true rfl) (Nat.le_of_ble_eq_true rfl)) rfl rfl (Nat.le_of_ble_eq_true rfl) 1 rfl h.le.2.2 h.br rfl dJ3_append_2 ?_ (fun E q S hT => rc_out hC hH.2.2.2.2 hT)
  intro x1 S h
  show rc_Z Y S 5 [some (rc_q v0), some (rc_i v1)] [rc_q x1]
  refine rc_pop (pc := 5) hC dJ3_append_5 rfl ?_
  refine rc_aload_n (pc := 6) hC dJ3_append_6 rfl rfl ?_
  exact rc_aret hC rfl (by first | exact Or.inl ⟨_, rfl⟩ | exact Or.inr ⟨_, rfl⟩) dJ3_append_7 h rfl
theorem rw_J1_circularClear_L12 {Y : rc_Y} (hC : rc_C Y cJ1_circularClear RJ1 (Option.none : Option Jvm.ClassFile.FieldType) 4) (hH : rc_H Y 0 0 yJ1_circularClear.name) : ∀ (n : Nat) (v0 : Option Nat) (v1 : Int32) (v2 : Int32) (v3 : Int32) (S : rc_S), rc_Go Y rc_tU (rp_J1_circularClear_L12  n v0 v1 v2 v3) S → rc_Z Y S 12 [some (rc_q v0), some (rc_i v1), some (rc_i v2), some (rc_i v3)] [] := by
  intro n
  induction n with
  | zero => intro v0 v1 v2 v3 S h; exact h.fail.elim
  | succ n ih =>
    intro v0 v1 v2 v3 S h
    rw [rp_J1_circularClear_L12] at h
    refine rc_iload_n (pc := 12) hC dJ1_circularClear_12 rfl rfl ?_
    refine rc_iload_n (pc := 13) hC dJ1_circularClear_13 rfl rfl ?_
    refine rc_icmp_ge (pc := 14) (tgt := 27) hC dJ1_circularClear_14 rfl h ?_ ?_
    · intro _ h
      refine rc_iload_n (pc := 27) hC dJ1_circularClear_27 rfl rfl ?_
      refine rc_iload_n (pc := 28) hC dJ1_circularClear_28 rfl rfl ?_
      refine rc_icmp_ne (pc := 29) (tgt := 35) hC dJ1_circularClear_29 rfl h ?_ ?_
      · intro _ h
        refine rc_iconst (pc := 35) hC (v := (0 : Int32)) dJ1_circularClear_35 rfl ?_
        refine rc_istore_n (pc := 36) hC (L' := [some (rc_q v0), some (rc_i (0 : Int32)), some (rc_i v2), some (rc_i v3)]) dJ1_circularClear_36 rfl (Nat.le_of_ble_eq_true rfl) rfl rfl ?_
        refine rc_iload_n (pc := 37) hC dJ1_circularClear_37 rfl rfl ?_
        refine rc_istore_n (pc := 38) hC (L' := [some (rc_q v0), some (rc_i (0 : Int32)), some (rc_i v2), some (rc_i v2)]) dJ1_circularClear_38 rfl (Nat.le_of_ble_eq_true rfl) rfl rfl ?_
        refine rc_goto (pc := 39) (tgt := 12) hC dJ1_circularClear_39 rfl ?_
        exact ih v0 (0 : Int32) v2 v2 S h
      intro _ h
      refine rc_goto (pc := 32) (tgt := 42) hC dJ1_circularClear_32 rfl ?_
      exact rc_vret hC rfl dJ1_circularClear_42 h rfl
    intro _ h
    refine rc_aload_n (pc := 17) hC dJ1_circularClear_17 rfl rfl ?_
    refine rc_iload_n (pc := 18) hC dJ1_circularClear_18 rfl rfl ?_
    refine rc_null (pc := 19) hC dJ1_circularClear_19 ?_
    refine rc_r_aast (pc := 20) hC dJ1_circularClear_20 h ?_
    intro S h
    refine rc_iinc (pc := 21) hC (v := (v1 + (1 : Int32))) (L' := [some (rc_q v0), some (rc_i (v1 + (1 : Int32))), some (rc_i v2), some (rc_i v3)]) dJ1_circularClear_21 rfl rfl rfl rfl ?_
    refine rc_goto (pc := 24) (tgt := 12) hC dJ1_circularClear_24 rfl ?_
    exact ih v0 (v1 + (1 : Int32)) v2 v3 S h
theorem rw_J1_circularClear_L11 {Y : rc_Y} (hC : rc_C Y cJ1_circularClear RJ1 (Option.none : Option Jvm.ClassFile.FieldType) 4) (hH : rc_H Y 0 0 yJ1_circularClear.name) (v0 : Option Nat) (v1 : Int32) (v2 : Int32) (s0 : Int32) (S : rc_S) (h : rc_Go Y rc_tU (rp_J1_circularClear_L11  v0 v1 v2 s0) S) : rc_Z Y S 11 [some (rc_q v0), some (rc_i v1), some (rc_i v2), none] [rc_i s0] := by
  unfold rp_J1_circularClear_L11 at h
  refine rc_istore_n (pc := 11) hC (L' := [some (rc_q v0), some (rc_i v1), some (rc_i v2), some (rc_i s0)]) dJ1_circularClear_11 rfl (Nat.le_of_ble_eq_true rfl) rfl rfl ?_
  refine rc_r_fuel h ?_
  intro x1 h
  exact rw_J1_circularClear_L12 hC hH  x1 v0 v1 v2 s0 S h
theorem rw_J1_circularClear {l : Launch} (hl : l.stackTraces = false) (v0 : Option Nat) (v1 : Int32) (v2 : Int32) : rc_Ct l yJ1_circularClear (ws_ yJ1_circularClear cJ1_circularClear 4 (Option.none : Option Jvm.ClassFile.FieldType)) 0 0 rc_tU (rp_J1_circularClear v0 v1 v2) [rc_q v0, rc_i v1, rc_i v2] := by
  refine rc_Ct_H hl (plainFor_of_name rY_J1) rfl (Nat.le_of_ble_eq_true rfl) (L0 := [some (rc_q v0), some (rc_i v1), some (rc_i v2), none]) rfl ?_
  intro Y S hC hH h
  have hC : rc_C Y cJ1_circularClear RJ1 (Option.none : Option Jvm.ClassFile.FieldType) 4 := hC
  unfold rp_J1_circularClear at h
  refine rc_iload_n (pc := 0) hC dJ1_circularClear_0 rfl rfl ?_
  refine rc_iload_n (pc := 1) hC dJ1_circularClear_1 rfl rfl ?_
  refine rc_icmp_gt (pc := 2) (tgt := 9) hC dJ1_circularClear_2 rfl h ?_ ?_
  · intro _ h
    refine rc_aload_n (pc := 9) hC dJ1_circularClear_9 rfl rfl ?_
    refine rc_r_alen (pc := 10) hC dJ1_circularClear_10 h ?_
    intro x1 h
    exact rw_J1_circularClear_L11 hC hH  v0 v1 v2 x1 S h
  intro _ h
  refine rc_iload_n (pc := 5) hC dJ1_circularClear_5 rfl rfl ?_
  refine rc_goto (pc := 6) (tgt := 11) hC dJ1_circularClear_6 rfl ?_
  exact rw_J1_circularClear_L11 hC hH  v0 v1 v2 v2 S h
theorem rw_J1_clear {l : Launch} (hl : l.stackTraces = false) (v0 : Option Nat) : rc_Ct l yJ1_clear (ws_ yJ1_clear cJ1_clear 1 (Option.none : Option Jvm.ClassFile.FieldType)) 1 23 rc_tU (rp_J1_clear v0) [rc_q v0] := by
  refine rc_Ct_H hl (plainFor_of_name rY_J1) rfl (Nat.le_of_ble_eq_true rfl) (L0 := [some (rc_q v0)]) rfl ?_
  intro Y S hC hH h
  have hC : rc_C Y cJ1_clear RJ1 (Option.none : Option Jvm.ClassFile.FieldType) 1 := hC
  unfold rp_J1_clear at h
  refine rc_aload_n (pc := 0) hC dJ1_clear_0 rfl rfl ?_
  refine rc_r_getq (pc := 1) hC rF_J1_3 dJ1_clear_1 h ?_
  intro x1 h
  refine rc_aload_n (pc := 4) hC dJ1_clear_4 rfl rfl ?_
  refine rc_r_geti (pc := 5) hC rF_J1_24 dJ1_clear_5 h ?_
  intro x2 h
  refine rc_aload_n (pc := 8) hC dJ1_clear_8 rfl rfl ?_
  refine rc_r_geti (pc := 9) hC rF_J1_20 dJ1_clear_9 h ?_
  intro x3 h
  refine rc_callS (pc := 12) hC (rw_J1_circularClear hH.1 x1 x2 x3) q1813 q1814 q118 q1815 rd_J1_circularClear (hH.room (Nat.le_of_ble_eq_true rfl) (Nat.le_of_ble_eq_true rfl)) rfl rfl (Nat.le_of_ble_eq_true rfl) 3 rfl h.le.2.2 h.br rfl dJ1_clear_12 ?_ (fun E q S hT => rc_out hC hH.2.2.2.2 hT)
  intro _ S h
  show rc_Z Y S 15 [some (rc_q v0)] []
  refine rc_aload_n (pc := 15) hC dJ1_clear_15 rfl rfl ?_
  refine rc_aload_n (pc := 16) hC dJ1_clear_16 rfl rfl ?_
  refine rc_iconst (pc := 17) hC (v := (0 : Int32)) dJ1_clear_17 rfl ?_
  refine rc_dup_x1 (pc := 18) hC dJ1_clear_18 rfl rfl ?_
  refine rc_r_put (pc := 19) hC rP_J1_20 (nofun) dJ1_clear_19 h ?_
  intro S h
  refine rc_r_put (pc := 22) hC rP_J1_24 (nofun) dJ1_clear_22 h ?_
  intro S h
  exact rc_vret hC rfl dJ1_clear_25 h rfl
