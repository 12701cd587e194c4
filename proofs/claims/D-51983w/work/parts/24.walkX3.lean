set_option maxRecDepth 100000
/-! WALKS (printed by gen.py) -/
theorem rw_X3_init {l : Launch} (hl : l.stackTraces = false) (v0 : Option Nat) : rc_Ct l yX3_init (ws_ yX3_init cX3_init 1 (Option.none : Option Jvm.ClassFile.FieldType)) 4 80 rc_tU (rp_X3_init v0) [rc_q v0] := by
  refine rc_Ct_H hl (plainFor_of_name rY_X3) rfl (Nat.le_of_ble_eq_true rfl) (L0 := [some (rc_q v0)]) rfl ?_
  intro Y S hC hH h
  have hC : rc_C Y cX3_init RX3 (Option.none : Option Jvm.ClassFile.FieldType) 1 := hC
  unfold rp_X3_init at h
  refine rc_aload_n (pc := 0) hC dX3_init_0 rfl rfl ?_
  refine rc_objInit (pc := 1) hC q234 q162 q163 rfl dX3_init_1 (hH.frm (Nat.le_of_ble_eq_true rfl)) (hH.lom (Nat.le_of_ble_eq_true rfl)) (Nat.zero_le _) h ?_
  intro h
  refine rc_aload_n (pc := 4) hC dX3_init_4 rfl rfl ?_
  refine rc_r_new (pc := 5) hC rN_X3_9 dX3_init_5 h ?_
  intro x1 S h
  refine rc_dup (pc := 8) hC dX3_init_8 rfl ?_
  obtain ⟨⟨b9, ho⟩, h⟩ := h.nn
  refine rc_callI (pc := 9) hC ho (rw_J7_init hH.1 x1) q237 q238 q128 q239 rfl rfl rd_J7_init (hH.room (Nat.le_of_ble_eq_true rfl) (Nat.le_of_ble_eq_true rfl)) rfl rfl (Nat.le_of_ble_eq_true rfl) 0 rfl h.le.2.2 h.br rfl dX3_init_9 ?_ (fun E q S hT => rc_out hC hH.2.2.2.2 hT)
  intro _ S h
  show rc_Z Y S 12 [some (rc_q v0)] [rc_q x1, rc_q v0]
  refine rc_r_put (pc := 12) hC rP_X3_12 (fun _ => hH.2.1) dX3_init_12 h ?_
  intro S h
  refine rc_aload_n (pc := 15) hC dX3_init_15 rfl rfl ?_
  refine rc_r_new (pc := 16) hC rN_X3_9 dX3_init_16 h ?_
  intro x2 S h
  refine rc_dup (pc := 19) hC dX3_init_19 rfl ?_
  obtain ⟨⟨b9, ho⟩, h⟩ := h.nn
  refine rc_callI (pc := 20) hC ho (rw_J7_init hH.1 x2) q237 q238 q128 q239 rfl rfl rd_J7_init (hH.room (Nat.le_of_ble_eq_true rfl) (Nat.le_of_ble_eq_true rfl)) rfl rfl (Nat.le_of_ble_eq_true rfl) 0 rfl h.le.2.2 h.br rfl dX3_init_20 ?_ (fun E q S hT => rc_out hC hH.2.2.2.2 hT)
  intro _ S h
  show rc_Z Y S 23 [some (rc_q v0)] [rc_q x2, rc_q v0]
  refine rc_r_put (pc := 23) hC rP_X3_18 (fun _ => hH.2.1) dX3_init_23 h ?_
  intro S h
  refine rc_aload_n (pc := 26) hC dX3_init_26 rfl rfl ?_
  refine rc_r_new (pc := 27) hC rN_X3_9 dX3_init_27 h ?_
  intro x3 S h
  refine rc_dup (pc := 30) hC dX3_init_30 rfl ?_
  obtain ⟨⟨b9, ho⟩, h⟩ := h.nn
  refine rc_callI (pc := 31) hC ho (rw_J7_init hH.1 x3) q237 q238 q128 q239 rfl rfl rd_J7_init (hH.room (Nat.le_of_ble_eq_true rfl) (Nat.le_of_ble_eq_true rfl)) rfl rfl (Nat.le_of_ble_eq_true rfl) 0 rfl h.le.2.2 h.br rfl dX3_init_31 ?_ (fun E q S hT => rc_out hC hH.2.2.2.2 hT)
  intro _ S h
  show rc_Z Y S 34 [some (rc_q v0)] [rc_q x3, rc_q v0]
  refine rc_r_put (pc := 34) hC rP_X3_21 (fun _ => hH.2.1) dX3_init_34 h ?_
  intro S h
  refine rc_aload_n (pc := 37) hC dX3_init_37 rfl rfl ?_
  refine rc_bipush (pc := 38) hC (v := (64 : Int32)) dX3_init_38 rfl ?_
  refine rc_r_newa (pc := 40) hC (t := 0) (atype := .int) (by decide) rfl q297 dX3_init_40 h ?_
  intro x4 S h
  refine rc_r_put (pc := 42) hC rP_X3_24 (fun _ => hH.2.1) dX3_init_42 h ?_
  intro S h
  exact rc_vret hC rfl dX3_init_45 h rfl
theorem rw_X5_init {l : Launch} (hl : l.stackTraces = false) (v0 : Option Nat) (v1 : Int32) : rc_Ct l yX5_init (ws_ yX5_init cX5_init 2 (Option.none : Option Jvm.ClassFile.FieldType)) 1 20 rc_tU (rp_X5_init v0 v1) [rc_q v0, rc_i v1] := by
  refine rc_Ct_H hl (plainFor_of_name rY_X5) rfl (Nat.le_of_ble_eq_true rfl) (L0 := [some (rc_q v0), some (rc_i v1)]) rfl ?_
  intro Y S hC hH h
  have hC : rc_C Y cX5_init RX5 (Option.none : Option Jvm.ClassFile.FieldType) 2 := hC
  unfold rp_X5_init at h
  refine rc_aload_n (pc := 0) hC dX5_init_0 rfl rfl ?_
  refine rc_objInit (pc := 1) hC q833 q162 q163 rfl dX5_init_1 (hH.frm (Nat.le_of_ble_eq_true rfl)) (hH.lom (Nat.le_of_ble_eq_true rfl)) (Nat.zero_le _) h ?_
  intro h
  refine rc_aload_n (pc := 4) hC dX5_init_4 rfl rfl ?_
  refine rc_iconst (pc := 5) hC (v := (-1 : Int32)) dX5_init_5 rfl ?_
  refine rc_r_put (pc := 6) hC rP_X5_9 (nofun) dX5_init_6 h ?_
  intro S h
  refine rc_aload_n (pc := 9) hC dX5_init_9 rfl rfl ?_
  refine rc_iload_n (pc := 10) hC dX5_init_10 rfl rfl ?_
  refine rc_r_put (pc := 11) hC rP_X5_15 (fun _ => hH.2.1) dX5_init_11 h ?_
  intro S h
  exact rc_vret hC rfl dX5_init_14 h rfl
theorem rw_X6_init {l : Launch} (hl : l.stackTraces = false) (v0 : Option Nat) (v1 : Int32) (v2 : Int32) (v3 : Int32) : rc_Ct l yX6_init (ws_ yX6_init cX6_init 4 (Option.none : Option Jvm.ClassFile.FieldType)) 2 40 rc_tU (rp_X6_init v0 v1 v2 v3) [rc_q v0, rc_i v1, rc_i v2, rc_i v3] := by
  refine rc_Ct_H hl (plainFor_of_name rY_X6) rfl (Nat.le_of_ble_eq_true rfl) (L0 := [some (rc_q v0), some (rc_i v1), some (rc_i v2), some (rc_i v3)]) rfl ?_
  intro Y S hC hH h
  have hC : rc_C Y cX6_init RX6 (Option.none : Option Jvm.ClassFile.FieldType) 4 := hC
  unfold rp_X6_init at h
  refine rc_aload_n (pc := 0) hC dX6_init_0 rfl rfl ?_
  obtain ⟨⟨b9, ho⟩, h⟩ := h.nn
  refine rc_callI (pc := 1) hC ho (rw_J18_init hH.1 v0) q917 q918 q143 q919 rfl rfl rd_J18_init (hH.room (Nat.le_of_ble_eq_true rfl) (Nat.le_of_ble_eq_true rfl)) rfl rfl (Nat.le_of_ble_eq_true rfl) 0 rfl h.le.2.2 h.br rfl dX6_init_1 ?_ (fun E q S hT => rc_out hC hH.2.2.2.2 hT)
  intro _ S h
  show rc_Z Y S 4 [some (rc_q v0), some (rc_i v1), some (rc_i v2), some (rc_i v3)] []
  refine rc_aload_n (pc := 4) hC dX6_init_4 rfl rfl ?_
  refine rc_iload_n (pc := 5) hC dX6_init_5 rfl rfl ?_
  refine rc_r_put (pc := 6) hC rP_X6_7 (fun _ => hH.2.1) dX6_init_6 h ?_
  intro S h
  refine rc_aload_n (pc := 9) hC dX6_init_9 rfl rfl ?_
  refine rc_iload_n (pc := 10) hC dX6_init_10 rfl rfl ?_
  refine rc_r_put (pc := 11) hC rP_X6_13 (fun _ => hH.2.1) dX6_init_11 h ?_
  intro S h
  refine rc_aload_n (pc := 14) hC dX6_init_14 rfl rfl ?_
  refine rc_iload_n (pc := 15) hC dX6_init_15 rfl rfl ?_
  refine rc_r_put (pc := 16) hC rP_X6_16 (fun _ => hH.2.1) dX6_init_16 h ?_
  intro S h
  exact rc_vret hC rfl dX6_init_19 h rfl
theorem rw_X3_catOn_L2 {Y : rc_Y} (hC : rc_C Y cX3_catOn RX3 (Option.some Jvm.ClassFile.FieldType.int) 3) (hH : rc_H Y 3 64 yX3_catOn.name) : ∀ (n : Nat) (v0 : Option Nat) (v1 : Int32) (v2 : Int32) (S : rc_S), rc_Go Y rc_tI (rp_X3_catOn_L2  n v0 v1 v2) S → rc_Z Y S 2 [some (rc_q v0), some (rc_i v1), some (rc_i v2)] [] := by
  intro n
  induction n with
  | zero => intro v0 v1 v2 S h; exact h.fail.elim
  | succ n ih =>
    intro v0 v1 v2 S h
    rw [rp_X3_catOn_L2] at h
    refine rc_iload_n (pc := 2) hC dX3_catOn_2 rfl rfl ?_
    refine rc_aload_n (pc := 3) hC dX3_catOn_3 rfl rfl ?_
    refine rc_r_getq (pc := 4) hC rF_X3_21 dX3_catOn_4 h ?_
    intro x1 h
    obtain ⟨⟨fs, ho⟩, h⟩ := h.is
    refine rc_callF (x0 := rc_xsize) (y := yJ7_size) (pc := 7) hC rfl ho (rw_J7_size hH.1 x1) q936 q823 q825 q128 q827 (List.mem_of_getElem? (i := 0) rfl) ⟨by decide, by decide, rd_J7_size.2.2⟩ (hH.room (Nat.le_of_ble_eq_true rfl) (Nat.le_of_ble_eq_true rfl)) rfl rfl (Nat.le_of_ble_eq_true rfl) 0 rfl h.le.2.2 h.br rfl dX3_catOn_7 ?_ (fun E q S hT => rc_out hC hH.2.2.2.2 hT)
    intro x2 S h
    show rc_Z Y S 12 [some (rc_q v0), some (rc_i v1), some (rc_i v2)] [rc_i x2, rc_i v2]
    refine rc_icmp_ge (pc := 12) (tgt := 43) hC dX3_catOn_12 rfl h ?_ ?_
    · intro _ h
      refine rc_iconst (pc := 43) hC (v := (-1 : Int32)) dX3_catOn_43 rfl ?_
      exact rc_iret hC rfl rfl dX3_catOn_44 h rfl
    intro _ h
    refine rc_aload_n (pc := 15) hC dX3_catOn_15 rfl rfl ?_
    refine rc_r_getq (pc := 16) hC rF_X3_21 dX3_catOn_16 h ?_
    intro x3 h
    refine rc_iload_n (pc := 19) hC dX3_catOn_19 rfl rfl ?_
    obtain ⟨⟨fs, ho⟩, h⟩ := h.is
    refine rc_callF (x0 := rc_xget) (y := yJ7_get) (pc := 20) hC rfl ho (rw_J7_get hH.1 x3 v2) q938 q941 q943 q128 q945 (List.mem_of_getElem? (i := 2) rfl) ⟨by decide, by decide, rd_J7_get.2.2⟩ (hH.room (Nat.le_of_ble_eq_true rfl) (Nat.le_of_ble_eq_true rfl)) rfl rfl (Nat.le_of_ble_eq_true rfl) 1 rfl h.le.2.2 h.br rfl dX3_catOn_20 ?_ (fun E q S hT => rc_out hC hH.2.2.2.2 hT)
    intro x4 S h
    show rc_Z Y S 25 [some (rc_q v0), some (rc_i v1), some (rc_i v2)] [rc_q x4]
    refine rc_r_cast (pc := 25) hC rK_X3_57 dX3_catOn_25 h ?_
    intro h
    refine rc_r_geti (pc := 28) hC rF_X3_90 dX3_catOn_28 h ?_
    intro x5 h
    refine rc_iload_n (pc := 31) hC dX3_catOn_31 rfl rfl ?_
    refine rc_icmp_ne (pc := 32) (tgt := 37) hC dX3_catOn_32 rfl h ?_ ?_
    · intro _ h
      refine rc_iinc (pc := 37) hC (v := (v2 + (1 : Int32))) (L' := [some (rc_q v0), some (rc_i v1), some (rc_i (v2 + (1 : Int32)))]) dX3_catOn_37 rfl rfl rfl rfl ?_
      refine rc_goto (pc := 40) (tgt := 2) hC dX3_catOn_40 rfl ?_
      exact ih v0 v1 (v2 + (1 : Int32)) S h
    intro _ h
    refine rc_iload_n (pc := 35) hC dX3_catOn_35 rfl rfl ?_
    exact rc_iret hC rfl rfl dX3_catOn_36 h rfl
theorem rw_X3_catOn {l : Launch} (hl : l.stackTraces = false) (v0 : Option Nat) (v1 : Int32) : rc_Ct l yX3_catOn (ws_ yX3_catOn cX3_catOn 3 (Option.some Jvm.ClassFile.FieldType.int)) 3 64 rc_tI (rp_X3_catOn v0 v1) [rc_q v0, rc_i v1] := by
  refine rc_Ct_H hl (plainFor_of_name rY_X3) rfl (Nat.le_of_ble_eq_true rfl) (L0 := [some (rc_q v0), some (rc_i v1), none]) rfl ?_
  intro Y S hC hH h
  have hC : rc_C Y cX3_catOn RX3 (Option.some Jvm.ClassFile.FieldType.int) 3 := hC
  unfold rp_X3_catOn at h
  refine rc_iconst (pc := 0) hC (v := (0 : Int32)) dX3_catOn_0 rfl ?_
  refine rc_istore_n (pc := 1) hC (L' := [some (rc_q v0), some (rc_i v1), some (rc_i (0 : Int32))]) dX3_catOn_1 rfl (Nat.le_of_ble_eq_true rfl) rfl rfl ?_
  refine rc_r_fuel h ?_
  intro x1 h
  exact rw_X3_catOn_L2 hC hH  x1 v0 v1 (0 : Int32) S h
theorem rw_X7_init {l : Launch} (hl : l.stackTraces = false) (v0 : Option Nat) (v1 : Int32) (v2 : Int32) (v3 : Int32) : rc_Ct l yX7_init (ws_ yX7_init cX7_init 4 (Option.none : Option Jvm.ClassFile.FieldType)) 1 20 rc_tU (rp_X7_init v0 v1 v2 v3) [rc_q v0, rc_i v1, rc_i v2, rc_i v3] := by
  refine rc_Ct_H hl (plainFor_of_name rY_X7) rfl (Nat.le_of_ble_eq_true rfl) (L0 := [some (rc_q v0), some (rc_i v1), some (rc_i v2), some (rc_i v3)]) rfl ?_
  intro Y S hC hH h
  have hC : rc_C Y cX7_init RX7 (Option.none : Option Jvm.ClassFile.FieldType) 4 := hC
  unfold rp_X7_init at h
  refine rc_aload_n (pc := 0) hC dX7_init_0 rfl rfl ?_
  refine rc_objInit (pc := 1) hC q960 q162 q163 rfl dX7_init_1 (hH.frm (Nat.le_of_ble_eq_true rfl)) (hH.lom (Nat.le_of_ble_eq_true rfl)) (Nat.zero_le _) h ?_
  intro h
  refine rc_aload_n (pc := 4) hC dX7_init_4 rfl rfl ?_
  refine rc_iconst (pc := 5) hC (v := (5 : Int32)) dX7_init_5 rfl ?_
  refine rc_r_put (pc := 6) hC rP_X7_9 (nofun) dX7_init_6 h ?_
  intro S h
  refine rc_aload_n (pc := 9) hC dX7_init_9 rfl rfl ?_
  refine rc_iload_n (pc := 10) hC dX7_init_10 rfl rfl ?_
  refine rc_r_put (pc := 11) hC rP_X7_15 (nofun) dX7_init_11 h ?_
  intro S h
  refine rc_aload_n (pc := 14) hC dX7_init_14 rfl rfl ?_
  refine rc_iload_n (pc := 15) hC dX7_init_15 rfl rfl ?_
  refine rc_r_put (pc := 16) hC rP_X7_18 (fun _ => hH.2.1) dX7_init_16 h ?_
  intro S h
  refine rc_aload_n (pc := 19) hC dX7_init_19 rfl rfl ?_
  refine rc_iload_n (pc := 20) hC dX7_init_20 rfl rfl ?_
  refine rc_r_put (pc := 21) hC rP_X7_21 (fun _ => hH.2.1) dX7_init_21 h ?_
  intro S h
  exact rc_vret hC rfl dX7_init_24 h rfl
theorem rw_X3_owner {l : Launch} (hl : l.stackTraces = false) (v0 : Option Nat) (v1 : Int32) : rc_Ct l yX3_owner (ws_ yX3_owner cX3_owner 2 (Option.some Jvm.ClassFile.FieldType.int)) 3 64 rc_tI (rp_X3_owner v0 v1) [rc_q v0, rc_i v1] := by
  refine rc_Ct_H hl (plainFor_of_name rY_X3) rfl (Nat.le_of_ble_eq_true rfl) (L0 := [some (rc_q v0), some (rc_i v1)]) rfl ?_
  intro Y S hC hH h
  have hC : rc_C Y cX3_owner RX3 (Option.some Jvm.ClassFile.FieldType.int) 2 := hC
  unfold rp_X3_owner at h
  refine rc_aload_n (pc := 0) hC dX3_owner_0 rfl rfl ?_
  refine rc_r_getq (pc := 1) hC rF_X3_12 dX3_owner_1 h ?_
  intro x1 h
  refine rc_iload_n (pc := 4) hC dX3_owner_4 rfl rfl ?_
  obtain ⟨⟨fs, ho⟩, h⟩ := h.is
  refine rc_callF (x0 := rc_xget) (y := yJ7_get) (pc := 5) hC rfl ho (rw_J7_get hH.1 x1 v1) q938 q941 q943 q128 q945 (List.mem_of_getElem? (i := 2) rfl) ⟨by decide, by decide, rd_J7_get.2.2⟩ (hH.room (Nat.le_of_ble_eq_true rfl) (Nat.le_of_ble_eq_true rfl)) rfl rfl (Nat.le_of_ble_eq_true rfl) 1 rfl h.le.2.2 h.br rfl dX3_owner_5 ?_ (fun E q S hT => rc_out hC hH.2.2.2.2 hT)
  intro x2 S h
  show rc_Z Y S 10 [some (rc_q v0), some (rc_i v1)] [rc_q x2]
  refine rc_r_cast (pc := 10) hC rK_X3_45 dX3_owner_10 h ?_
  intro h
  refine rc_r_geti (pc := 13) hC rF_X3_93 dX3_owner_13 h ?_
  intro x3 h
  exact rc_iret hC rfl rfl dX3_owner_16 h rfl
theorem rw_X3_owned_L34 {Y : rc_Y} (hC : rc_C Y cX3_owned RX3 (Option.some Jvm.ClassFile.FieldType.int) 4) (hH : rc_H Y 4 85 yX3_owned.name) {k4 : Option Nat → Int32 → Int32 → Int32 → rc_M Int32} (hk4 : ∀ (v0 : Option Nat) (v1 : Int32) (v2 : Int32) (v3 : Int32) (S : rc_S), rc_Go Y rc_tI (k4 v0 v1 v2 v3) S → rc_Z Y S 4 [some (rc_q v0), some (rc_i v1), some (rc_i v2), some (rc_i v3)] []) (v0 : Option Nat) (v1 : Int32) (v3 : Int32) (s0 : Int32) (s1 : Int32) (S : rc_S) (h : rc_Go Y rc_tI (rp_X3_owned_L34 k4 v0 v1 v3 s0 s1) S) : rc_Z Y S 34 [some (rc_q v0), some (rc_i v1), none, some (rc_i v3)] [rc_i s0, rc_i s1] := by
  unfold rp_X3_owned_L34 at h
  refine rc_ior (pc := 34) hC dX3_owned_34 ?_
  refine rc_istore_n (pc := 35) hC (L' := [some (rc_q v0), some (rc_i v1), some (rc_i (s1 ||| s0)), some (rc_i v3)]) dX3_owned_35 rfl (Nat.le_of_ble_eq_true rfl) rfl rfl ?_
  refine rc_iinc (pc := 36) hC (v := (v3 + (1 : Int32))) (L' := [some (rc_q v0), some (rc_i v1), some (rc_i (s1 ||| s0)), some (rc_i (v3 + (1 : Int32)))]) dX3_owned_36 rfl rfl rfl rfl ?_
  refine rc_goto (pc := 39) (tgt := 4) hC dX3_owned_39 rfl ?_
  exact hk4 v0 v1 (s1 ||| s0) (v3 + (1 : Int32)) S h
theorem rw_X3_owned_L4 {Y : rc_Y} (hC : rc_C Y cX3_owned RX3 (Option.some Jvm.ClassFile.FieldType.int) 4) (hH : rc_H Y 4 85 yX3_owned.name) : ∀ (n : Nat) (v0 : Option Nat) (v1 : Int32) (v2 : Int32) (v3 : Int32) (S : rc_S), rc_Go Y rc_tI (rp_X3_owned_L4  n v0 v1 v2 v3) S → rc_Z Y S 4 [some (rc_q v0), some (rc_i v1), some (rc_i v2), some (rc_i v3)] [] := by
  intro n
  induction n with
  | zero => intro v0 v1 v2 v3 S h; exact h.fail.elim
  | succ n ih =>
    intro v0 v1 v2 v3 S h
    rw [rp_X3_owned_L4] at h
    refine rc_iload_n (pc := 4) hC dX3_owned_4 rfl rfl ?_
    refine rc_aload_n (pc := 5) hC dX3_owned_5 rfl rfl ?_
    refine rc_r_getq (pc := 6) hC rF_X3_12 dX3_owned_6 h ?_
    intro x1 h
    obtain ⟨⟨fs, ho⟩, h⟩ := h.is
    refine rc_callF (x0 := rc_xsize) (y := yJ7_size) (pc := 9) hC rfl ho (rw_J7_size hH.1 x1) q936 q823 q825 q128 q827 (List.mem_of_getElem? (i := 0) rfl) ⟨by decide, by decide, rd_J7_size.2.2⟩ (hH.room (Nat.le_of_ble_eq_true rfl) (Nat.le_of_ble_eq_true rfl)) rfl rfl (Nat.le_of_ble_eq_true rfl) 0 rfl h.le.2.2 h.br rfl dX3_owned_9 ?_ (fun E q S hT => rc_out hC hH.2.2.2.2 hT)
    intro x2 S h
    show rc_Z Y S 14 [some (rc_q v0), some (rc_i v1), some (rc_i v2), some (rc_i v3)] [rc_i x2, rc_i v3]
    refine rc_icmp_ge (pc := 14) (tgt := 42) hC dX3_owned_14 rfl h ?_ ?_
    · intro _ h
      refine rc_iload_n (pc := 42) hC dX3_owned_42 rfl rfl ?_
      exact rc_iret hC rfl rfl dX3_owned_43 h rfl
    intro _ h
    refine rc_iload_n (pc := 17) hC dX3_owned_17 rfl rfl ?_
    refine rc_aload_n (pc := 18) hC dX3_owned_18 rfl rfl ?_
    refine rc_iload_n (pc := 19) hC dX3_owned_19 rfl rfl ?_
    obtain ⟨⟨fs, ho⟩, h⟩ := h.is
    refine rc_callV (pc := 20) hC rfl ho (rw_X3_owner hH.1 v0 v3) q1000 q986 q987 q126 q988 rfl rd_X3_owner (hH.room (Nat.le_of_ble_eq_true rfl) (Nat.le_of_ble_eq_true rfl)) rfl rfl (Nat.le_of_ble_eq_true rfl) 1 rfl h.le.2.2 h.br rfl dX3_owned_20 ?_ (fun E q S hT => rc_out hC hH.2.2.2.2 hT)
    intro x3 S h
    show rc_Z Y S 23 [some (rc_q v0), some (rc_i v1), some (rc_i v2), some (rc_i v3)] [rc_i x3, rc_i v2]
    refine rc_iload_n (pc := 23) hC dX3_owned_23 rfl rfl ?_
    refine rc_icmp_ne (pc := 24) (tgt := 33) hC dX3_owned_24 rfl h ?_ ?_
    · intro _ h
      refine rc_iconst (pc := 33) hC (v := (0 : Int32)) dX3_owned_33 rfl ?_
      refine rc_drop [true, true, false, true] (L' := [some (rc_q v0), some (rc_i v1), none, some (rc_i v3)]) rfl ?_
      exact rw_X3_owned_L34 hC hH ih v0 v1 v3 (0 : Int32) v2 S h
    intro _ h
    refine rc_iconst (pc := 27) hC (v := (1 : Int32)) dX3_owned_27 rfl ?_
    refine rc_iload_n (pc := 28) hC dX3_owned_28 rfl rfl ?_
    refine rc_ishl (pc := 29) hC dX3_owned_29 ?_
    refine rc_goto (pc := 30) (tgt := 34) hC dX3_owned_30 rfl ?_
    refine rc_drop [true, true, false, true] (L' := [some (rc_q v0), some (rc_i v1), none, some (rc_i v3)]) rfl ?_
    exact rw_X3_owned_L34 hC hH ih v0 v1 v3 ((1 : Int32) <<< (v3 &&& 31)) v2 S h
theorem rw_X3_owned {l : Launch} (hl : l.stackTraces = false) (v0 : Option Nat) (v1 : Int32) : rc_Ct l yX3_owned (ws_ yX3_owned cX3_owned 4 (Option.some Jvm.ClassFile.FieldType.int)) 4 85 rc_tI (rp_X3_owned v0 v1) [rc_q v0, rc_i v1] := by
  refine rc_Ct_H hl (plainFor_of_name rY_X3) rfl (Nat.le_of_ble_eq_true rfl) (L0 := [some (rc_q v0), some (rc_i v1), none, none]) rfl ?_
  intro Y S hC hH h
  have hC : rc_C Y cX3_owned RX3 (Option.some Jvm.ClassFile.FieldType.int) 4 := hC
  unfold rp_X3_owned at h
  refine rc_iconst (pc := 0) hC (v := (0 : Int32)) dX3_owned_0 rfl ?_
  refine rc_istore_n (pc := 1) hC (L' := [some (rc_q v0), some (rc_i v1), some (rc_i (0 : Int32)), none]) dX3_owned_1 rfl (Nat.le_of_ble_eq_true rfl) rfl rfl ?_
  refine rc_iconst (pc := 2) hC (v := (0 : Int32)) dX3_owned_2 rfl ?_
  refine rc_istore_n (pc := 3) hC (L' := [some (rc_q v0), some (rc_i v1), some (rc_i (0 : Int32)), some (rc_i (0 : Int32))]) dX3_owned_3 rfl (Nat.le_of_ble_eq_true rfl) rfl rfl ?_
  refine rc_r_fuel h ?_
  intro x1 h
  exact rw_X3_owned_L4 hC hH  x1 v0 v1 (0 : Int32) (0 : Int32) S h
theorem rw_X3_ownsEnough {l : Launch} (hl : l.stackTraces = false) (v0 : Option Nat) (v1 : Int32) : rc_Ct l yX3_ownsEnough (ws_ yX3_ownsEnough cX3_ownsEnough 2 (Option.some Jvm.ClassFile.FieldType.boolean)) 5 108 rc_tI (rp_X3_ownsEnough v0 v1) [rc_q v0, rc_i v1] := by
  refine rc_Ct_H hl (plainFor_of_name rY_X3) rfl (Nat.le_of_ble_eq_true rfl) (L0 := [some (rc_q v0), some (rc_i v1)]) rfl ?_
  intro Y S hC hH h
  have hC : rc_C Y cX3_ownsEnough RX3 (Option.some Jvm.ClassFile.FieldType.boolean) 2 := hC
  unfold rp_X3_ownsEnough at h
  refine rc_aload_n (pc := 0) hC dX3_ownsEnough_0 rfl rfl ?_
  refine rc_iload_n (pc := 1) hC dX3_ownsEnough_1 rfl rfl ?_
  obtain ⟨⟨fs, ho⟩, h⟩ := h.is
  refine rc_callV (pc := 2) hC rfl ho (rw_X3_owned hH.1 v0 v1) q1005 q1006 q1007 q126 q1008 rfl rd_X3_owned (hH.room (Nat.le_of_ble_eq_true rfl) (Nat.le_of_ble_eq_true rfl)) rfl rfl (Nat.le_of_ble_eq_true rfl) 1 rfl h.le.2.2 h.br rfl dX3_ownsEnough_2 ?_ (fun E q S hT => rc_out hC hH.2.2.2.2 hT)
  intro x1 S h
  show rc_Z Y S 5 [some (rc_q v0), some (rc_i v1)] [rc_i x1]
  refine rc_callS (pc := 5) hC (rw_J15_bitCount hH.1 x1) q1009 q1010 q137 q1011 rd_J15_bitCount (hH.room (Nat.le_of_ble_eq_true rfl) (Nat.le_of_ble_eq_true rfl)) rfl rfl (Nat.le_of_ble_eq_true rfl) 1 rfl h.le.2.2 h.br rfl dX3_ownsEnough_5 ?_ (fun E q S hT => rc_out hC hH.2.2.2.2 hT)
  intro x2 S h
  show rc_Z Y S 8 [some (rc_q v0), some (rc_i v1)] [rc_i x2]
  refine rc_iconst (pc := 8) hC (v := (4 : Int32)) dX3_ownsEnough_8 rfl ?_
  refine rc_icmp_lt (pc := 9) (tgt := 16) hC dX3_ownsEnough_9 rfl h ?_ ?_
  · intro _ h
    refine rc_iconst (pc := 16) hC (v := (0 : Int32)) dX3_ownsEnough_16 rfl ?_
    exact rc_iret hC rfl rfl dX3_ownsEnough_17 h rfl
  intro _ h
  refine rc_iconst (pc := 12) hC (v := (1 : Int32)) dX3_ownsEnough_12 rfl ?_
  refine rc_goto (pc := 13) (tgt := 17) hC dX3_ownsEnough_13 rfl ?_
  exact rc_iret hC rfl rfl dX3_ownsEnough_17 h rfl
theorem rw_X3_judgeClaim {l : Launch} (hl : l.stackTraces = false) (v0 : Option Nat) (v1 : Int32) : rc_Ct l yX3_judgeClaim (ws_ yX3_judgeClaim cX3_judgeClaim 2 (Option.some Jvm.ClassFile.FieldType.int)) 6 129 rc_tI (rp_X3_judgeClaim v0 v1) [rc_q v0, rc_i v1] := by
  refine rc_Ct_H hl (plainFor_of_name rY_X3) rfl (Nat.le_of_ble_eq_true rfl) (L0 := [some (rc_q v0), some (rc_i v1)]) rfl ?_
  intro Y S hC hH h
  have hC : rc_C Y cX3_judgeClaim RX3 (Option.some Jvm.ClassFile.FieldType.int) 2 := hC
  unfold rp_X3_judgeClaim at h
  refine rc_aload_n (pc := 0) hC dX3_judgeClaim_0 rfl rfl ?_
  refine rc_aload_n (pc := 1) hC dX3_judgeClaim_1 rfl rfl ?_
  refine rc_r_getq (pc := 2) hC rF_X3_21 dX3_judgeClaim_2 h ?_
  intro x1 h
  refine rc_iload_n (pc := 5) hC dX3_judgeClaim_5 rfl rfl ?_
  obtain ⟨⟨fs, ho⟩, h⟩ := h.is
  refine rc_callF (x0 := rc_xget) (y := yJ7_get) (pc := 6) hC rfl ho (rw_J7_get hH.1 x1 v1) q938 q941 q943 q128 q945 (List.mem_of_getElem? (i := 2) rfl) ⟨by decide, by decide, rd_J7_get.2.2⟩ (hH.room (Nat.le_of_ble_eq_true rfl) (Nat.le_of_ble_eq_true rfl)) rfl rfl (Nat.le_of_ble_eq_true rfl) 1 rfl h.le.2.2 h.br rfl dX3_judgeClaim_6 ?_ (fun E q S hT => rc_out hC hH.2.2.2.2 hT)
  intro x2 S h
  show rc_Z Y S 11 [some (rc_q v0), some (rc_i v1)] [rc_q x2, rc_q v0]
  refine rc_r_cast (pc := 11) hC rK_X3_57 dX3_judgeClaim_11 h ?_
  intro h
  refine rc_r_geti (pc := 14) hC rF_X3_90 dX3_judgeClaim_14 h ?_
  intro x3 h
  obtain ⟨⟨fs, ho⟩, h⟩ := h.is
  refine rc_callV (pc := 17) hC rfl ho (rw_X3_owner hH.1 v0 x3) q1000 q986 q987 q126 q988 rfl rd_X3_owner (hH.room (Nat.le_of_ble_eq_true rfl) (Nat.le_of_ble_eq_true rfl)) rfl rfl (Nat.le_of_ble_eq_true rfl) 1 rfl h.le.2.2 h.br rfl dX3_judgeClaim_17 ?_ (fun E q S hT => rc_out hC hH.2.2.2.2 hT)
  intro x4 S h
  show rc_Z Y S 20 [some (rc_q v0), some (rc_i v1)] [rc_i x4]
  refine rc_iconst (pc := 20) hC (v := (-1 : Int32)) dX3_judgeClaim_20 rfl ?_
  refine rc_icmp_eq (pc := 21) (tgt := 26) hC dX3_judgeClaim_21 rfl h ?_ ?_
  · intro _ h
    refine rc_aload_n (pc := 26) hC dX3_judgeClaim_26 rfl rfl ?_
    refine rc_iload_n (pc := 27) hC dX3_judgeClaim_27 rfl rfl ?_
    obtain ⟨⟨fs, ho⟩, h⟩ := h.is
    refine rc_callV (pc := 28) hC rfl ho (rw_X3_ownsEnough hH.1 v0 v1) q1001 q1002 q1003 q126 q1004 rfl rd_X3_ownsEnough (hH.room (Nat.le_of_ble_eq_true rfl) (Nat.le_of_ble_eq_true rfl)) rfl rfl (Nat.le_of_ble_eq_true rfl) 1 rfl h.le.2.2 h.br rfl dX3_judgeClaim_28 ?_ (fun E q S hT => rc_out hC hH.2.2.2.2 hT)
    intro x5 S h
    show rc_Z Y S 31 [some (rc_q v0), some (rc_i v1)] [rc_i x5]
    refine rc_if_eq (pc := 31) (tgt := 39) hC dX3_judgeClaim_31 rfl h ?_ ?_
    · intro _ h
      refine rc_iconst (pc := 39) hC (v := (0 : Int32)) dX3_judgeClaim_39 rfl ?_
      exact rc_iret hC rfl rfl dX3_judgeClaim_40 h rfl
    intro _ h
    refine rc_bipush (pc := 34) hC (v := (6 : Int32)) dX3_judgeClaim_34 rfl ?_
    refine rc_goto (pc := 36) (tgt := 40) hC dX3_judgeClaim_36 rfl ?_
    exact rc_iret hC rfl rfl dX3_judgeClaim_40 h rfl
  intro _ h
  refine rc_iconst (pc := 24) hC (v := (5 : Int32)) dX3_judgeClaim_24 rfl ?_
  exact rc_iret hC rfl rfl dX3_judgeClaim_25 h rfl
theorem rw_X3_claim {l : Launch} (hl : l.stackTraces = false) (v0 : Option Nat) (v1 : Int32) : rc_Ct l yX3_claim (ws_ yX3_claim cX3_claim 2 (Option.some Jvm.ClassFile.FieldType.int)) 5 108 rc_tI (rp_X3_claim v0 v1) [rc_q v0, rc_i v1] := by
  refine rc_Ct_H hl (plainFor_of_name rY_X3) rfl (Nat.le_of_ble_eq_true rfl) (L0 := [some (rc_q v0), some (rc_i v1)]) rfl ?_
  intro Y S hC hH h
  have hC : rc_C Y cX3_claim RX3 (Option.some Jvm.ClassFile.FieldType.int) 2 := hC
  unfold rp_X3_claim at h
  refine rc_aload_n (pc := 0) hC dX3_claim_0 rfl rfl ?_
  refine rc_r_getq (pc := 1) hC rF_X3_12 dX3_claim_1 h ?_
  intro x1 h
  refine rc_aload_n (pc := 4) hC dX3_claim_4 rfl rfl ?_
  refine rc_r_getq (pc := 5) hC rF_X3_21 dX3_claim_5 h ?_
  intro x2 h
  refine rc_iload_n (pc := 8) hC dX3_claim_8 rfl rfl ?_
  obtain ⟨⟨fs, ho⟩, h⟩ := h.is
  refine rc_callF (x0 := rc_xget) (y := yJ7_get) (pc := 9) hC rfl ho (rw_J7_get hH.1 x2 v1) q938 q941 q943 q128 q945 (List.mem_of_getElem? (i := 2) rfl) ⟨by decide, by decide, rd_J7_get.2.2⟩ (hH.room (Nat.le_of_ble_eq_true rfl) (Nat.le_of_ble_eq_true rfl)) rfl rfl (Nat.le_of_ble_eq_true rfl) 1 rfl h.le.2.2 h.br rfl dX3_claim_9 ?_ (fun E q S hT => rc_out hC hH.2.2.2.2 hT)
  intro x3 S h
  show rc_Z Y S 14 [some (rc_q v0), some (rc_i v1)] [rc_q x3, rc_q x1]
  refine rc_r_cast (pc := 14) hC rK_X3_57 dX3_claim_14 h ?_
  intro h
  refine rc_r_geti (pc := 17) hC rF_X3_90 dX3_claim_17 h ?_
  intro x4 h
  obtain ⟨⟨fs, ho⟩, h⟩ := h.is
  refine rc_callF (x0 := rc_xget) (y := yJ7_get) (pc := 20) hC rfl ho (rw_J7_get hH.1 x1 x4) q938 q941 q943 q128 q945 (List.mem_of_getElem? (i := 2) rfl) ⟨by decide, by decide, rd_J7_get.2.2⟩ (hH.room (Nat.le_of_ble_eq_true rfl) (Nat.le_of_ble_eq_true rfl)) rfl rfl (Nat.le_of_ble_eq_true rfl) 1 rfl h.le.2.2 h.br rfl dX3_claim_20 ?_ (fun E q S hT => rc_out hC hH.2.2.2.2 hT)
  intro x5 S h
  show rc_Z Y S 25 [some (rc_q v0), some (rc_i v1)] [rc_q x5]
  refine rc_r_cast (pc := 25) hC rK_X3_45 dX3_claim_25 h ?_
  intro h
  refine rc_iload_n (pc := 28) hC dX3_claim_28 rfl rfl ?_
  refine rc_r_put (pc := 29) hC rP_X3_93 (nofun) dX3_claim_29 h ?_
  intro S h
  refine rc_aload_n (pc := 32) hC dX3_claim_32 rfl rfl ?_
  refine rc_iload_n (pc := 33) hC dX3_claim_33 rfl rfl ?_
  obtain ⟨⟨fs, ho⟩, h⟩ := h.is
  refine rc_callV (pc := 34) hC rfl ho (rw_X3_owned hH.1 v0 v1) q1005 q1006 q1007 q126 q1008 rfl rd_X3_owned (hH.room (Nat.le_of_ble_eq_true rfl) (Nat.le_of_ble_eq_true rfl)) rfl rfl (Nat.le_of_ble_eq_true rfl) 1 rfl h.le.2.2 h.br rfl dX3_claim_34 ?_ (fun E q S hT => rc_out hC hH.2.2.2.2 hT)
  intro x6 S h
  show rc_Z Y S 37 [some (rc_q v0), some (rc_i v1)] [rc_i x6]
  refine rc_callS (pc := 37) hC (rw_J15_bitCount hH.1 x6) q1009 q1010 q137 q1011 rd_J15_bitCount (hH.room (Nat.le_of_ble_eq_true rfl) (Nat.le_of_ble_eq_true rfl)) rfl rfl (Nat.le_of_ble_eq_true rfl) 1 rfl h.le.2.2 h.br rfl dX3_claim_37 ?_ (fun E q S hT => rc_out hC hH.2.2.2.2 hT)
  intro x7 S h
  show rc_Z Y S 40 [some (rc_q v0), some (rc_i v1)] [rc_i x7]
  exact rc_iret hC rfl rfl dX3_claim_40 h rfl
theorem rw_X6_endsAt_L16 {Y : rc_Y} (hC : rc_C Y cX6_endsAt RX6 (Option.some Jvm.ClassFile.FieldType.boolean) 2) (hH : rc_H Y 0 0 yX6_endsAt.name) (S : rc_S) (h : rc_Go Y rc_tI (rp_X6_endsAt_L16  ) S) : rc_Z Y S 16 [none, none] [] := by
  unfold rp_X6_endsAt_L16 at h
  refine rc_iconst (pc := 16) hC (v := (1 : Int32)) dX6_endsAt_16 rfl ?_
  refine rc_goto (pc := 17) (tgt := 21) hC dX6_endsAt_17 rfl ?_
  exact rc_iret hC rfl rfl dX6_endsAt_21 h rfl
theorem rw_X6_endsAt {l : Launch} (hl : l.stackTraces = false) (v0 : Option Nat) (v1 : Int32) : rc_Ct l yX6_endsAt (ws_ yX6_endsAt cX6_endsAt 2 (Option.some Jvm.ClassFile.FieldType.boolean)) 0 0 rc_tI (rp_X6_endsAt v0 v1) [rc_q v0, rc_i v1] := by
  refine rc_Ct_H hl (plainFor_of_name rY_X6) rfl (Nat.le_of_ble_eq_true rfl) (L0 := [some (rc_q v0), some (rc_i v1)]) rfl ?_
  intro Y S hC hH h
  have hC : rc_C Y cX6_endsAt RX6 (Option.some Jvm.ClassFile.FieldType.boolean) 2 := hC
  unfold rp_X6_endsAt at h
  refine rc_aload_n (pc := 0) hC dX6_endsAt_0 rfl rfl ?_
  refine rc_r_geti (pc := 1) hC rF_X6_7 dX6_endsAt_1 h ?_
  intro x1 h
  refine rc_iload_n (pc := 4) hC dX6_endsAt_4 rfl rfl ?_
  refine rc_icmp_eq (pc := 5) (tgt := 16) hC dX6_endsAt_5 rfl h ?_ ?_
  · intro _ h
    refine rc_drop [false, false] (L' := [none, none]) rfl ?_
    exact rw_X6_endsAt_L16 hC hH   S h
  intro _ h
  refine rc_aload_n (pc := 8) hC dX6_endsAt_8 rfl rfl ?_
  refine rc_r_geti (pc := 9) hC rF_X6_13 dX6_endsAt_9 h ?_
  intro x2 h
  refine rc_iload_n (pc := 12) hC dX6_endsAt_12 rfl rfl ?_
  refine rc_icmp_ne (pc := 13) (tgt := 20) hC dX6_endsAt_13 rfl h ?_ ?_
  · intro _ h
    refine rc_iconst (pc := 20) hC (v := (0 : Int32)) dX6_endsAt_20 rfl ?_
    exact rc_iret hC rfl rfl dX6_endsAt_21 h rfl
  intro _ h
  refine rc_drop [false, false] (L' := [none, none]) rfl ?_
  exact rw_X6_endsAt_L16 hC hH   S h
theorem rw_X6_width {l : Launch} (hl : l.stackTraces = false) (v0 : Option Nat) : rc_Ct l yX6_width (ws_ yX6_width cX6_width 1 (Option.some Jvm.ClassFile.FieldType.int)) 0 0 rc_tI (rp_X6_width v0) [rc_q v0] := by
  refine rc_Ct_H hl (plainFor_of_name rY_X6) rfl (Nat.le_of_ble_eq_true rfl) (L0 := [some (rc_q v0)]) rfl ?_
  intro Y S hC hH h
  have hC : rc_C Y cX6_width RX6 (Option.some Jvm.ClassFile.FieldType.int) 1 := hC
  unfold rp_X6_width at h
  refine rc_aload_n (pc := 0) hC dX6_width_0 rfl rfl ?_
  refine rc_r_geti (pc := 1) hC rF_X6_16 dX6_width_1 h ?_
  intro x1 h
  exact rc_iret hC rfl rfl dX6_width_4 h rfl
theorem rw_X6_from {l : Launch} (hl : l.stackTraces = false) (v0 : Option Nat) (v1 : Int32) : rc_Ct l yX6_from (ws_ yX6_from cX6_from 2 (Option.some Jvm.ClassFile.FieldType.int)) 0 0 rc_tI (rp_X6_from v0 v1) [rc_q v0, rc_i v1] := by
  refine rc_Ct_H hl (plainFor_of_name rY_X6) rfl (Nat.le_of_ble_eq_true rfl) (L0 := [some (rc_q v0), some (rc_i v1)]) rfl ?_
  intro Y S hC hH h
  have hC : rc_C Y cX6_from RX6 (Option.some Jvm.ClassFile.FieldType.int) 2 := hC
  unfold rp_X6_from at h
  refine rc_aload_n (pc := 0) hC dX6_from_0 rfl rfl ?_
  refine rc_r_geti (pc := 1) hC rF_X6_7 dX6_from_1 h ?_
  intro x1 h
  refine rc_iload_n (pc := 4) hC dX6_from_4 rfl rfl ?_
  refine rc_icmp_ne (pc := 5) (tgt := 15) hC dX6_from_5 rfl h ?_ ?_
  · intro _ h
    refine rc_aload_n (pc := 15) hC dX6_from_15 rfl rfl ?_
    refine rc_r_geti (pc := 16) hC rF_X6_7 dX6_from_16 h ?_
    intro x2 h
    exact rc_iret hC rfl rfl dX6_from_19 h rfl
  intro _ h
  refine rc_aload_n (pc := 8) hC dX6_from_8 rfl rfl ?_
  refine rc_r_geti (pc := 9) hC rF_X6_13 dX6_from_9 h ?_
  intro x3 h
  refine rc_goto (pc := 12) (tgt := 19) hC dX6_from_12 rfl ?_
  exact rc_iret hC rfl rfl dX6_from_19 h rfl
theorem rw_X3_truceNights {l : Launch} (hl : l.stackTraces = false) (v0 : Option Nat) (v1 : Int32) (v2 : Int32) : rc_Ct l yX3_truceNights (ws_ yX3_truceNights cX3_truceNights 3 (Option.some Jvm.ClassFile.FieldType.int)) 1 21 rc_tI (rp_X3_truceNights v0 v1 v2) [rc_q v0, rc_i v1, rc_i v2] := by
  refine rc_Ct_H hl (plainFor_of_name rY_X3) rfl (Nat.le_of_ble_eq_true rfl) (L0 := [some (rc_q v0), some (rc_i v1), some (rc_i v2)]) rfl ?_
  intro Y S hC hH h
  have hC : rc_C Y cX3_truceNights RX3 (Option.some Jvm.ClassFile.FieldType.int) 3 := hC
  unfold rp_X3_truceNights at h
  refine rc_iconst (pc := 0) hC (v := (0 : Int32)) dX3_truceNights_0 rfl ?_
  refine rc_aload_n (pc := 1) hC dX3_truceNights_1 rfl rfl ?_
  refine rc_r_getq (pc := 2) hC rF_X3_24 dX3_truceNights_2 h ?_
  intro x1 h
  refine rc_iload_n (pc := 5) hC dX3_truceNights_5 rfl rfl ?_
  refine rc_bipush (pc := 6) hC (v := (8 : Int32)) dX3_truceNights_6 rfl ?_
  refine rc_imul (pc := 8) hC dX3_truceNights_8 ?_
  refine rc_iload_n (pc := 9) hC dX3_truceNights_9 rfl rfl ?_
  refine rc_iadd (pc := 10) hC dX3_truceNights_10 ?_
  refine rc_r_iald (pc := 11) hC dX3_truceNights_11 h ?_
  intro x2 h
  refine rc_aload_n (pc := 12) hC dX3_truceNights_12 rfl rfl ?_
  refine rc_r_geti (pc := 13) hC rF_X3_72 dX3_truceNights_13 h ?_
  intro x3 h
  refine rc_isub (pc := 16) hC dX3_truceNights_16 ?_
  refine rc_callS (pc := 17) hC (rw_J17_max hH.1 (0 : Int32) (x2 - x3)) q1049 q448 q139 q449 rd_J17_max (hH.room (Nat.le_of_ble_eq_true rfl) (Nat.le_of_ble_eq_true rfl)) rfl rfl (Nat.le_of_ble_eq_true rfl) 2 rfl h.le.2.2 h.br rfl dX3_truceNights_17 ?_ (fun E q S hT => rc_out hC hH.2.2.2.2 hT)
  intro x4 S h
  show rc_Z Y S 20 [some (rc_q v0), some (rc_i v1), some (rc_i v2)] [rc_i x4]
  exact rc_iret hC rfl rfl dX3_truceNights_20 h rfl
theorem rw_X3_isTruce {l : Launch} (hl : l.stackTraces = false) (v0 : Option Nat) (v1 : Int32) (v2 : Int32) : rc_Ct l yX3_isTruce (ws_ yX3_isTruce cX3_isTruce 3 (Option.some Jvm.ClassFile.FieldType.boolean)) 2 43 rc_tI (rp_X3_isTruce v0 v1 v2) [rc_q v0, rc_i v1, rc_i v2] := by
  refine rc_Ct_H hl (plainFor_of_name rY_X3) rfl (Nat.le_of_ble_eq_true rfl) (L0 := [some (rc_q v0), some (rc_i v1), some (rc_i v2)]) rfl ?_
  intro Y S hC hH h
  have hC : rc_C Y cX3_isTruce RX3 (Option.some Jvm.ClassFile.FieldType.boolean) 3 := hC
  unfold rp_X3_isTruce at h
  refine rc_aload_n (pc := 0) hC dX3_isTruce_0 rfl rfl ?_
  refine rc_iload_n (pc := 1) hC dX3_isTruce_1 rfl rfl ?_
  refine rc_iload_n (pc := 2) hC dX3_isTruce_2 rfl rfl ?_
  obtain ⟨⟨fs, ho⟩, h⟩ := h.is
  refine rc_callV (pc := 3) hC rfl ho (rw_X3_truceNights hH.1 v0 v1 v2) q1045 q1046 q1047 q126 q1048 rfl rd_X3_truceNights (hH.room (Nat.le_of_ble_eq_true rfl) (Nat.le_of_ble_eq_true rfl)) rfl rfl (Nat.le_of_ble_eq_true rfl) 2 rfl h.le.2.2 h.br rfl dX3_isTruce_3 ?_ (fun E q S hT => rc_out hC hH.2.2.2.2 hT)
  intro x1 S h
  show rc_Z Y S 6 [some (rc_q v0), some (rc_i v1), some (rc_i v2)] [rc_i x1]
  refine rc_if_le (pc := 6) (tgt := 13) hC dX3_isTruce_6 rfl h ?_ ?_
  · intro _ h
    refine rc_iconst (pc := 13) hC (v := (0 : Int32)) dX3_isTruce_13 rfl ?_
    exact rc_iret hC rfl rfl dX3_isTruce_14 h rfl
  intro _ h
  refine rc_iconst (pc := 9) hC (v := (1 : Int32)) dX3_isTruce_9 rfl ?_
  refine rc_goto (pc := 10) (tgt := 14) hC dX3_isTruce_10 rfl ?_
  exact rc_iret hC rfl rfl dX3_isTruce_14 h rfl
theorem rw_X3_judgeWalk_L64 {Y : rc_Y} (hC : rc_C Y cX3_judgeWalk RX3 (Option.some Jvm.ClassFile.FieldType.int) 7) (hH : rc_H Y 4 86 yX3_judgeWalk.name) (v0 : Option Nat) (v1 : Int32) (v4 : Int32) (S : rc_S) (h : rc_Go Y rc_tI (rp_X3_judgeWalk_L64  v0 v1 v4) S) : rc_Z Y S 64 [some (rc_q v0), some (rc_i v1), none, none, some (rc_i v4), none, none] [] := by
  unfold rp_X3_judgeWalk_L64 at h
  refine rc_aload_n (pc := 64) hC dX3_judgeWalk_64 rfl rfl ?_
  refine rc_iload (pc := 65) hC dX3_judgeWalk_65 rfl ?_
  obtain ⟨⟨fs, ho⟩, h⟩ := h.is
  refine rc_callV (pc := 67) hC rfl ho (rw_X3_owner hH.1 v0 v4) q1000 q986 q987 q126 q988 rfl rd_X3_owner (hH.room (Nat.le_of_ble_eq_true rfl) (Nat.le_of_ble_eq_true rfl)) rfl rfl (Nat.le_of_ble_eq_true rfl) 1 rfl h.le.2.2 h.br rfl dX3_judgeWalk_67 ?_ (fun E q S hT => rc_out hC hH.2.2.2.2 hT)
  intro x1 S h
  show rc_Z Y S 70 [some (rc_q v0), some (rc_i v1), none, none, some (rc_i v4), none, none] [rc_i x1]
  refine rc_istore (pc := 70) hC (L' := [some (rc_q v0), some (rc_i v1), none, none, some (rc_i v4), none, some (rc_i x1)]) dX3_judgeWalk_70 (Nat.le_of_ble_eq_true rfl) rfl rfl ?_
  refine rc_iload (pc := 72) hC dX3_judgeWalk_72 rfl ?_
  refine rc_iconst (pc := 74) hC (v := (-1 : Int32)) dX3_judgeWalk_74 rfl ?_
  refine rc_icmp_eq (pc := 75) (tgt := 98) hC dX3_judgeWalk_75 rfl h ?_ ?_
  · intro _ h
    refine rc_iconst (pc := 98) hC (v := (0 : Int32)) dX3_judgeWalk_98 rfl ?_
    exact rc_iret hC rfl rfl dX3_judgeWalk_99 h rfl
  intro _ h
  refine rc_iload (pc := 78) hC dX3_judgeWalk_78 rfl ?_
  refine rc_iload_n (pc := 80) hC dX3_judgeWalk_80 rfl rfl ?_
  refine rc_icmp_eq (pc := 81) (tgt := 98) hC dX3_judgeWalk_81 rfl h ?_ ?_
  · intro _ h
    refine rc_iconst (pc := 98) hC (v := (0 : Int32)) dX3_judgeWalk_98 rfl ?_
    exact rc_iret hC rfl rfl dX3_judgeWalk_99 h rfl
  intro _ h
  refine rc_aload_n (pc := 84) hC dX3_judgeWalk_84 rfl rfl ?_
  refine rc_iload_n (pc := 85) hC dX3_judgeWalk_85 rfl rfl ?_
  refine rc_iload (pc := 86) hC dX3_judgeWalk_86 rfl ?_
  obtain ⟨⟨fs, ho⟩, h⟩ := h.is
  refine rc_callV (pc := 88) hC rfl ho (rw_X3_isTruce hH.1 v0 v1 x1) q1041 q1042 q1043 q126 q1044 rfl rd_X3_isTruce (hH.room (Nat.le_of_ble_eq_true rfl) (Nat.le_of_ble_eq_true rfl)) rfl rfl (Nat.le_of_ble_eq_true rfl) 2 rfl h.le.2.2 h.br rfl dX3_judgeWalk_88 ?_ (fun E q S hT => rc_out hC hH.2.2.2.2 hT)
  intro x2 S h
  show rc_Z Y S 91 [some (rc_q v0), some (rc_i v1), none, none, some (rc_i v4), none, some (rc_i x1)] [rc_i x2]
  refine rc_if_ne (pc := 91) (tgt := 98) hC dX3_judgeWalk_91 rfl h ?_ ?_
  · intro _ h
    refine rc_iconst (pc := 98) hC (v := (0 : Int32)) dX3_judgeWalk_98 rfl ?_
    exact rc_iret hC rfl rfl dX3_judgeWalk_99 h rfl
  intro _ h
  refine rc_iconst (pc := 94) hC (v := (4 : Int32)) dX3_judgeWalk_94 rfl ?_
  refine rc_goto (pc := 95) (tgt := 99) hC dX3_judgeWalk_95 rfl ?_
  exact rc_iret hC rfl rfl dX3_judgeWalk_99 h rfl
theorem rw_X3_judgeWalk {l : Launch} (hl : l.stackTraces = false) (v0 : Option Nat) (v1 : Int32) (v2 : Int32) (v3 : Option Nat) : rc_Ct l yX3_judgeWalk (ws_ yX3_judgeWalk cX3_judgeWalk 7 (Option.some Jvm.ClassFile.FieldType.int)) 4 86 rc_tI (rp_X3_judgeWalk v0 v1 v2 v3) [rc_q v0, rc_i v1, rc_i v2, rc_q v3] := by
  refine rc_Ct_H hl (plainFor_of_name rY_X3) rfl (Nat.le_of_ble_eq_true rfl) (L0 := [some (rc_q v0), some (rc_i v1), some (rc_i v2), some (rc_q v3), none, none, none]) rfl ?_
  intro Y S hC hH h
  have hC : rc_C Y cX3_judgeWalk RX3 (Option.some Jvm.ClassFile.FieldType.int) 7 := hC
  unfold rp_X3_judgeWalk at h
  refine rc_aload_n (pc := 0) hC dX3_judgeWalk_0 rfl rfl ?_
  refine rc_iload_n (pc := 1) hC dX3_judgeWalk_1 rfl rfl ?_
  obtain ⟨⟨fs, ho⟩, h⟩ := h.is
  refine rc_callV (pc := 2) hC rfl ho (rw_X6_endsAt hH.1 v3 v2) q1028 q1029 q1030 q144 q1031 rfl rd_X6_endsAt (hH.room (Nat.le_of_ble_eq_true rfl) (Nat.le_of_ble_eq_true rfl)) rfl rfl (Nat.le_of_ble_eq_true rfl) 1 rfl h.le.2.2 h.br rfl dX3_judgeWalk_2 ?_ (fun E q S hT => rc_out hC hH.2.2.2.2 hT)
  intro x1 S h
  show rc_Z Y S 5 [some (rc_q v0), some (rc_i v1), some (rc_i v2), some (rc_q v3), none, none, none] [rc_i x1]
  refine rc_if_ne (pc := 5) (tgt := 10) hC dX3_judgeWalk_5 rfl h ?_ ?_
  · intro _ h
    refine rc_aload_n (pc := 10) hC dX3_judgeWalk_10 rfl rfl ?_
    obtain ⟨⟨fs, ho⟩, h⟩ := h.is
    refine rc_callV (pc := 11) hC rfl ho (rw_X6_width hH.1 v3) q1032 q1033 q1034 q144 q1035 rfl rd_X6_width (hH.room (Nat.le_of_ble_eq_true rfl) (Nat.le_of_ble_eq_true rfl)) rfl rfl (Nat.le_of_ble_eq_true rfl) 0 rfl h.le.2.2 h.br rfl dX3_judgeWalk_11 ?_ (fun E q S hT => rc_out hC hH.2.2.2.2 hT)
    intro x2 S h
    show rc_Z Y S 14 [some (rc_q v0), some (rc_i v1), some (rc_i v2), some (rc_q v3), none, none, none] [rc_i x2]
    refine rc_aload_n (pc := 14) hC dX3_judgeWalk_14 rfl rfl ?_
    refine rc_r_getq (pc := 15) hC rF_X3_21 dX3_judgeWalk_15 h ?_
    intro x3 h
    refine rc_iload_n (pc := 18) hC dX3_judgeWalk_18 rfl rfl ?_
    obtain ⟨⟨fs, ho⟩, h⟩ := h.is
    refine rc_callF (x0 := rc_xget) (y := yJ7_get) (pc := 19) hC rfl ho (rw_J7_get hH.1 x3 v1) q938 q941 q943 q128 q945 (List.mem_of_getElem? (i := 2) rfl) ⟨by decide, by decide, rd_J7_get.2.2⟩ (hH.room (Nat.le_of_ble_eq_true rfl) (Nat.le_of_ble_eq_true rfl)) rfl rfl (Nat.le_of_ble_eq_true rfl) 1 rfl h.le.2.2 h.br rfl dX3_judgeWalk_19 ?_ (fun E q S hT => rc_out hC hH.2.2.2.2 hT)
    intro x4 S h
    show rc_Z Y S 24 [some (rc_q v0), some (rc_i v1), some (rc_i v2), some (rc_q v3), none, none, none] [rc_q x4, rc_i x2]
    refine rc_r_cast (pc := 24) hC rK_X3_57 dX3_judgeWalk_24 h ?_
    intro h
    refine rc_r_geti (pc := 27) hC rF_X3_142 dX3_judgeWalk_27 h ?_
    intro x5 h
    refine rc_icmp_ge (pc := 30) (tgt := 35) hC dX3_judgeWalk_30 rfl h ?_ ?_
    · intro _ h
      refine rc_aload_n (pc := 35) hC dX3_judgeWalk_35 rfl rfl ?_
      refine rc_iload_n (pc := 36) hC dX3_judgeWalk_36 rfl rfl ?_
      obtain ⟨⟨fs, ho⟩, h⟩ := h.is
      refine rc_callV (pc := 37) hC rfl ho (rw_X6_from hH.1 v3 v2) q1036 q1037 q1038 q144 q1039 rfl rd_X6_from (hH.room (Nat.le_of_ble_eq_true rfl) (Nat.le_of_ble_eq_true rfl)) rfl rfl (Nat.le_of_ble_eq_true rfl) 1 rfl h.le.2.2 h.br rfl dX3_judgeWalk_37 ?_ (fun E q S hT => rc_out hC hH.2.2.2.2 hT)
      intro x6 S h
      show rc_Z Y S 40 [some (rc_q v0), some (rc_i v1), some (rc_i v2), some (rc_q v3), none, none, none] [rc_i x6]
      refine rc_istore (pc := 40) hC (L' := [some (rc_q v0), some (rc_i v1), some (rc_i v2), some (rc_q v3), some (rc_i x6), none, none]) dX3_judgeWalk_40 (Nat.le_of_ble_eq_true rfl) rfl rfl ?_
      refine rc_aload_n (pc := 42) hC dX3_judgeWalk_42 rfl rfl ?_
      refine rc_iload (pc := 43) hC dX3_judgeWalk_43 rfl ?_
      obtain ⟨⟨fs, ho⟩, h⟩ := h.is
      refine rc_callV (pc := 45) hC rfl ho (rw_X3_catOn hH.1 v0 x6) q1040 q932 q933 q126 q934 rfl rd_X3_catOn (hH.room (Nat.le_of_ble_eq_true rfl) (Nat.le_of_ble_eq_true rfl)) rfl rfl (Nat.le_of_ble_eq_true rfl) 1 rfl h.le.2.2 h.br rfl dX3_judgeWalk_45 ?_ (fun E q S hT => rc_out hC hH.2.2.2.2 hT)
      intro x7 S h
      show rc_Z Y S 48 [some (rc_q v0), some (rc_i v1), some (rc_i v2), some (rc_q v3), some (rc_i x6), none, none] [rc_i x7]
      refine rc_istore (pc := 48) hC (L' := [some (rc_q v0), some (rc_i v1), some (rc_i v2), some (rc_q v3), some (rc_i x6), some (rc_i x7), none]) dX3_judgeWalk_48 (Nat.le_of_ble_eq_true rfl) rfl rfl ?_
      refine rc_iload (pc := 50) hC dX3_judgeWalk_50 rfl ?_
      refine rc_iconst (pc := 52) hC (v := (-1 : Int32)) dX3_judgeWalk_52 rfl ?_
      refine rc_icmp_eq (pc := 53) (tgt := 64) hC dX3_judgeWalk_53 rfl h ?_ ?_
      · intro _ h
        refine rc_drop [true, true, false, false, true, false, false] (L' := [some (rc_q v0), some (rc_i v1), none, none, some (rc_i x6), none, none]) rfl ?_
        exact rw_X3_judgeWalk_L64 hC hH  v0 v1 x6 S h
      intro _ h
      refine rc_iload (pc := 56) hC dX3_judgeWalk_56 rfl ?_
      refine rc_iload_n (pc := 58) hC dX3_judgeWalk_58 rfl rfl ?_
      refine rc_icmp_eq (pc := 59) (tgt := 64) hC dX3_judgeWalk_59 rfl h ?_ ?_
      · intro _ h
        refine rc_drop [true, true, false, false, true, false, false] (L' := [some (rc_q v0), some (rc_i v1), none, none, some (rc_i x6), none, none]) rfl ?_
        exact rw_X3_judgeWalk_L64 hC hH  v0 v1 x6 S h
      intro _ h
      refine rc_iconst (pc := 62) hC (v := (3 : Int32)) dX3_judgeWalk_62 rfl ?_
      exact rc_iret hC rfl rfl dX3_judgeWalk_63 h rfl
    intro _ h
    refine rc_iconst (pc := 33) hC (v := (2 : Int32)) dX3_judgeWalk_33 rfl ?_
    exact rc_iret hC rfl rfl dX3_judgeWalk_34 h rfl
  intro _ h
  refine rc_iconst (pc := 8) hC (v := (1 : Int32)) dX3_judgeWalk_8 rfl ?_
  exact rc_iret hC rfl rfl dX3_judgeWalk_9 h rfl
theorem rw_X3_judgeStep {l : Launch} (hl : l.stackTraces = false) (v0 : Option Nat) (v1 : Int32) (v2 : Int32) : rc_Ct l yX3_judgeStep (ws_ yX3_judgeStep cX3_judgeStep 3 (Option.some Jvm.ClassFile.FieldType.int)) 5 112 rc_tI (rp_X3_judgeStep v0 v1 v2) [rc_q v0, rc_i v1, rc_i v2] := by
  refine rc_Ct_H hl (plainFor_of_name rY_X3) rfl (Nat.le_of_ble_eq_true rfl) (L0 := [some (rc_q v0), some (rc_i v1), some (rc_i v2)]) rfl ?_
  intro Y S hC hH h
  have hC : rc_C Y cX3_judgeStep RX3 (Option.some Jvm.ClassFile.FieldType.int) 3 := hC
  unfold rp_X3_judgeStep at h
  refine rc_aload_n (pc := 0) hC dX3_judgeStep_0 rfl rfl ?_
  refine rc_iload_n (pc := 1) hC dX3_judgeStep_1 rfl rfl ?_
  refine rc_aload_n (pc := 2) hC dX3_judgeStep_2 rfl rfl ?_
  refine rc_r_getq (pc := 3) hC rF_X3_21 dX3_judgeStep_3 h ?_
  intro x1 h
  refine rc_iload_n (pc := 6) hC dX3_judgeStep_6 rfl rfl ?_
  obtain ⟨⟨fs, ho⟩, h⟩ := h.is
  refine rc_callF (x0 := rc_xget) (y := yJ7_get) (pc := 7) hC rfl ho (rw_J7_get hH.1 x1 v1) q938 q941 q943 q128 q945 (List.mem_of_getElem? (i := 2) rfl) ⟨by decide, by decide, rd_J7_get.2.2⟩ (hH.room (Nat.le_of_ble_eq_true rfl) (Nat.le_of_ble_eq_true rfl)) rfl rfl (Nat.le_of_ble_eq_true rfl) 1 rfl h.le.2.2 h.br rfl dX3_judgeStep_7 ?_ (fun E q S hT => rc_out hC hH.2.2.2.2 hT)
  intro x2 S h
  show rc_Z Y S 12 [some (rc_q v0), some (rc_i v1), some (rc_i v2)] [rc_q x2, rc_i v1, rc_q v0]
  refine rc_r_cast (pc := 12) hC rK_X3_57 dX3_judgeStep_12 h ?_
  intro h
  refine rc_r_geti (pc := 15) hC rF_X3_90 dX3_judgeStep_15 h ?_
  intro x3 h
  refine rc_aload_n (pc := 18) hC dX3_judgeStep_18 rfl rfl ?_
  refine rc_r_getq (pc := 19) hC rF_X3_18 dX3_judgeStep_19 h ?_
  intro x4 h
  refine rc_iload_n (pc := 22) hC dX3_judgeStep_22 rfl rfl ?_
  obtain ⟨⟨fs, ho⟩, h⟩ := h.is
  refine rc_callF (x0 := rc_xget) (y := yJ7_get) (pc := 23) hC rfl ho (rw_J7_get hH.1 x4 v2) q938 q941 q943 q128 q945 (List.mem_of_getElem? (i := 2) rfl) ⟨by decide, by decide, rd_J7_get.2.2⟩ (hH.room (Nat.le_of_ble_eq_true rfl) (Nat.le_of_ble_eq_true rfl)) rfl rfl (Nat.le_of_ble_eq_true rfl) 1 rfl h.le.2.2 h.br rfl dX3_judgeStep_23 ?_ (fun E q S hT => rc_out hC hH.2.2.2.2 hT)
  intro x5 S h
  show rc_Z Y S 28 [some (rc_q v0), some (rc_i v1), some (rc_i v2)] [rc_q x5, rc_i x3, rc_i v1, rc_q v0]
  refine rc_r_cast (pc := 28) hC rK_X3_55 dX3_judgeStep_28 h ?_
  intro h
  obtain ⟨⟨fs, ho⟩, h⟩ := h.is
  refine rc_callV (pc := 31) hC rfl ho (rw_X3_judgeWalk hH.1 v0 v1 x3 x5) q1024 q1025 q1026 q126 q1027 rfl rd_X3_judgeWalk (hH.room (Nat.le_of_ble_eq_true rfl) (Nat.le_of_ble_eq_true rfl)) rfl rfl (Nat.le_of_ble_eq_true rfl) 3 rfl h.le.2.2 h.br rfl dX3_judgeStep_31 ?_ (fun E q S hT => rc_out hC hH.2.2.2.2 hT)
  intro x6 S h
  show rc_Z Y S 34 [some (rc_q v0), some (rc_i v1), some (rc_i v2)] [rc_i x6]
  exact rc_iret hC rfl rfl dX3_judgeStep_34 h rfl
theorem rw_X3_step {l : Launch} (hl : l.stackTraces = false) (v0 : Option Nat) (v1 : Int32) (v2 : Int32) : rc_Ct l yX3_step (ws_ yX3_step cX3_step 4 (Option.some Jvm.ClassFile.FieldType.int)) 3 64 rc_tI (rp_X3_step v0 v1 v2) [rc_q v0, rc_i v1, rc_i v2] := by
  refine rc_Ct_H hl (plainFor_of_name rY_X3) rfl (Nat.le_of_ble_eq_true rfl) (L0 := [some (rc_q v0), some (rc_i v1), some (rc_i v2), none]) rfl ?_
  intro Y S hC hH h
  have hC : rc_C Y cX3_step RX3 (Option.some Jvm.ClassFile.FieldType.int) 4 := hC
  unfold rp_X3_step at h
  refine rc_aload_n (pc := 0) hC dX3_step_0 rfl rfl ?_
  refine rc_r_getq (pc := 1) hC rF_X3_21 dX3_step_1 h ?_
  intro x1 h
  refine rc_iload_n (pc := 4) hC dX3_step_4 rfl rfl ?_
  obtain ⟨⟨fs, ho⟩, h⟩ := h.is
  refine rc_callF (x0 := rc_xget) (y := yJ7_get) (pc := 5) hC rfl ho (rw_J7_get hH.1 x1 v1) q938 q941 q943 q128 q945 (List.mem_of_getElem? (i := 2) rfl) ⟨by decide, by decide, rd_J7_get.2.2⟩ (hH.room (Nat.le_of_ble_eq_true rfl) (Nat.le_of_ble_eq_true rfl)) rfl rfl (Nat.le_of_ble_eq_true rfl) 1 rfl h.le.2.2 h.br rfl dX3_step_5 ?_ (fun E q S hT => rc_out hC hH.2.2.2.2 hT)
  intro x2 S h
  show rc_Z Y S 10 [some (rc_q v0), some (rc_i v1), some (rc_i v2), none] [rc_q x2]
  refine rc_r_cast (pc := 10) hC rK_X3_57 dX3_step_10 h ?_
  intro h
  refine rc_astore_n (pc := 13) hC (L' := [some (rc_q v0), some (rc_i v1), some (rc_i v2), some (rc_q x2)]) dX3_step_13 rfl (Nat.le_of_ble_eq_true rfl) rfl rfl ?_
  refine rc_aload_n (pc := 14) hC dX3_step_14 rfl rfl ?_
  refine rc_aload_n (pc := 15) hC dX3_step_15 rfl rfl ?_
  refine rc_r_getq (pc := 16) hC rF_X3_18 dX3_step_16 h ?_
  intro x3 h
  refine rc_iload_n (pc := 19) hC dX3_step_19 rfl rfl ?_
  obtain ⟨⟨fs, ho⟩, h⟩ := h.is
  refine rc_callF (x0 := rc_xget) (y := yJ7_get) (pc := 20) hC rfl ho (rw_J7_get hH.1 x3 v2) q938 q941 q943 q128 q945 (List.mem_of_getElem? (i := 2) rfl) ⟨by decide, by decide, rd_J7_get.2.2⟩ (hH.room (Nat.le_of_ble_eq_true rfl) (Nat.le_of_ble_eq_true rfl)) rfl rfl (Nat.le_of_ble_eq_true rfl) 1 rfl h.le.2.2 h.br rfl dX3_step_20 ?_ (fun E q S hT => rc_out hC hH.2.2.2.2 hT)
  intro x4 S h
  show rc_Z Y S 25 [some (rc_q v0), some (rc_i v1), some (rc_i v2), some (rc_q x2)] [rc_q x4, rc_q x2]
  refine rc_r_cast (pc := 25) hC rK_X3_55 dX3_step_25 h ?_
  intro h
  refine rc_aload_n (pc := 28) hC dX3_step_28 rfl rfl ?_
  refine rc_r_geti (pc := 29) hC rF_X3_90 dX3_step_29 h ?_
  intro x5 h
  obtain ⟨⟨fs, ho⟩, h⟩ := h.is
  refine rc_callV (pc := 32) hC rfl ho (rw_X6_from hH.1 x4 x5) q1036 q1037 q1038 q144 q1039 rfl rd_X6_from (hH.room (Nat.le_of_ble_eq_true rfl) (Nat.le_of_ble_eq_true rfl)) rfl rfl (Nat.le_of_ble_eq_true rfl) 1 rfl h.le.2.2 h.br rfl dX3_step_32 ?_ (fun E q S hT => rc_out hC hH.2.2.2.2 hT)
  intro x6 S h
  show rc_Z Y S 35 [some (rc_q v0), some (rc_i v1), some (rc_i v2), some (rc_q x2)] [rc_i x6, rc_q x2]
  refine rc_r_put (pc := 35) hC rP_X3_90 (nofun) dX3_step_35 h ?_
  intro S h
  refine rc_aload_n (pc := 38) hC dX3_step_38 rfl rfl ?_
  refine rc_r_geti (pc := 39) hC rF_X3_90 dX3_step_39 h ?_
  intro x7 h
  exact rc_iret hC rfl rfl dX3_step_42 h rfl
theorem rw_X6_connects {l : Launch} (hl : l.stackTraces = false) (v0 : Option Nat) (v1 : Int32) (v2 : Int32) : rc_Ct l yX6_connects (ws_ yX6_connects cX6_connects 3 (Option.some Jvm.ClassFile.FieldType.boolean)) 1 21 rc_tI (rp_X6_connects v0 v1 v2) [rc_q v0, rc_i v1, rc_i v2] := by
  refine rc_Ct_H hl (plainFor_of_name rY_X6) rfl (Nat.le_of_ble_eq_true rfl) (L0 := [some (rc_q v0), some (rc_i v1), some (rc_i v2)]) rfl ?_
  intro Y S hC hH h
  have hC : rc_C Y cX6_connects RX6 (Option.some Jvm.ClassFile.FieldType.boolean) 3 := hC
  unfold rp_X6_connects at h
  refine rc_iload_n (pc := 0) hC dX6_connects_0 rfl rfl ?_
  refine rc_iload_n (pc := 1) hC dX6_connects_1 rfl rfl ?_
  refine rc_icmp_eq (pc := 2) (tgt := 25) hC dX6_connects_2 rfl h ?_ ?_
  · intro _ h
    refine rc_iconst (pc := 25) hC (v := (0 : Int32)) dX6_connects_25 rfl ?_
    exact rc_iret hC rfl rfl dX6_connects_26 h rfl
  intro _ h
  refine rc_aload_n (pc := 5) hC dX6_connects_5 rfl rfl ?_
  refine rc_iload_n (pc := 6) hC dX6_connects_6 rfl rfl ?_
  obtain ⟨⟨fs, ho⟩, h⟩ := h.is
  refine rc_callV (pc := 7) hC rfl ho (rw_X6_endsAt hH.1 v0 v1) q1070 q1029 q1030 q144 q1031 rfl rd_X6_endsAt (hH.room (Nat.le_of_ble_eq_true rfl) (Nat.le_of_ble_eq_true rfl)) rfl rfl (Nat.le_of_ble_eq_true rfl) 1 rfl h.le.2.2 h.br rfl dX6_connects_7 ?_ (fun E q S hT => rc_out hC hH.2.2.2.2 hT)
  intro x1 S h
  show rc_Z Y S 10 [some (rc_q v0), some (rc_i v1), some (rc_i v2)] [rc_i x1]
  refine rc_if_eq (pc := 10) (tgt := 25) hC dX6_connects_10 rfl h ?_ ?_
  · intro _ h
    refine rc_iconst (pc := 25) hC (v := (0 : Int32)) dX6_connects_25 rfl ?_
    exact rc_iret hC rfl rfl dX6_connects_26 h rfl
  intro _ h
  refine rc_aload_n (pc := 13) hC dX6_connects_13 rfl rfl ?_
  refine rc_iload_n (pc := 14) hC dX6_connects_14 rfl rfl ?_
  obtain ⟨⟨fs, ho⟩, h⟩ := h.is
  refine rc_callV (pc := 15) hC rfl ho (rw_X6_endsAt hH.1 v0 v2) q1070 q1029 q1030 q144 q1031 rfl rd_X6_endsAt (hH.room (Nat.le_of_ble_eq_true rfl) (Nat.le_of_ble_eq_true rfl)) rfl rfl (Nat.le_of_ble_eq_true rfl) 1 rfl h.le.2.2 h.br rfl dX6_connects_15 ?_ (fun E q S hT => rc_out hC hH.2.2.2.2 hT)
  intro x2 S h
  show rc_Z Y S 18 [some (rc_q v0), some (rc_i v1), some (rc_i v2)] [rc_i x2]
  refine rc_if_eq (pc := 18) (tgt := 25) hC dX6_connects_18 rfl h ?_ ?_
  · intro _ h
    refine rc_iconst (pc := 25) hC (v := (0 : Int32)) dX6_connects_25 rfl ?_
    exact rc_iret hC rfl rfl dX6_connects_26 h rfl
  intro _ h
  refine rc_iconst (pc := 21) hC (v := (1 : Int32)) dX6_connects_21 rfl ?_
  refine rc_goto (pc := 22) (tgt := 26) hC dX6_connects_22 rfl ?_
  exact rc_iret hC rfl rfl dX6_connects_26 h rfl
theorem rw_X3_isNear_L60 {Y : rc_Y} (hC : rc_C Y cX3_isNear RX3 (Option.some Jvm.ClassFile.FieldType.boolean) 5) (hH : rc_H Y 3 64 yX3_isNear.name) {k2 : Option Nat → Option Nat → Option Nat → Int32 → rc_M Int32} (hk2 : ∀ (v0 : Option Nat) (v1 : Option Nat) (v2 : Option Nat) (v3 : Int32) (S : rc_S), rc_Go Y rc_tI (k2 v0 v1 v2 v3) S → rc_Z Y S 2 [some (rc_q v0), some (rc_q v1), some (rc_q v2), some (rc_i v3), none] []) (v0 : Option Nat) (v1 : Option Nat) (v2 : Option Nat) (v3 : Int32) (S : rc_S) (h : rc_Go Y rc_tI (rp_X3_isNear_L60 k2 v0 v1 v2 v3) S) : rc_Z Y S 60 [some (rc_q v0), some (rc_q v1), some (rc_q v2), some (rc_i v3), none] [] := by
  unfold rp_X3_isNear_L60 at h
  refine rc_iinc (pc := 60) hC (v := (v3 + (1 : Int32))) (L' := [some (rc_q v0), some (rc_q v1), some (rc_q v2), some (rc_i (v3 + (1 : Int32))), none]) dX3_isNear_60 rfl rfl rfl rfl ?_
  refine rc_goto (pc := 63) (tgt := 2) hC dX3_isNear_63 rfl ?_
  exact hk2 v0 v1 v2 (v3 + (1 : Int32)) S h
theorem rw_X3_isNear_L2 {Y : rc_Y} (hC : rc_C Y cX3_isNear RX3 (Option.some Jvm.ClassFile.FieldType.boolean) 5) (hH : rc_H Y 3 64 yX3_isNear.name) : ∀ (n : Nat) (v0 : Option Nat) (v1 : Option Nat) (v2 : Option Nat) (v3 : Int32) (S : rc_S), rc_Go Y rc_tI (rp_X3_isNear_L2  n v0 v1 v2 v3) S → rc_Z Y S 2 [some (rc_q v0), some (rc_q v1), some (rc_q v2), some (rc_i v3), none] [] := by
  intro n
  induction n with
  | zero => intro v0 v1 v2 v3 S h; exact h.fail.elim
  | succ n ih =>
    intro v0 v1 v2 v3 S h
    rw [rp_X3_isNear_L2] at h
    refine rc_iload_n (pc := 2) hC dX3_isNear_2 rfl rfl ?_
    refine rc_aload_n (pc := 3) hC dX3_isNear_3 rfl rfl ?_
    refine rc_r_getq (pc := 4) hC rF_X3_18 dX3_isNear_4 h ?_
    intro x1 h
    obtain ⟨⟨fs, ho⟩, h⟩ := h.is
    refine rc_callF (x0 := rc_xsize) (y := yJ7_size) (pc := 7) hC rfl ho (rw_J7_size hH.1 x1) q936 q823 q825 q128 q827 (List.mem_of_getElem? (i := 0) rfl) ⟨by decide, by decide, rd_J7_size.2.2⟩ (hH.room (Nat.le_of_ble_eq_true rfl) (Nat.le_of_ble_eq_true rfl)) rfl rfl (Nat.le_of_ble_eq_true rfl) 0 rfl h.le.2.2 h.br rfl dX3_isNear_7 ?_ (fun E q S hT => rc_out hC hH.2.2.2.2 hT)
    intro x2 S h
    show rc_Z Y S 12 [some (rc_q v0), some (rc_q v1), some (rc_q v2), some (rc_i v3), none] [rc_i x2, rc_i v3]
    refine rc_icmp_ge (pc := 12) (tgt := 66) hC dX3_isNear_12 rfl h ?_ ?_
    · intro _ h
      refine rc_iconst (pc := 66) hC (v := (0 : Int32)) dX3_isNear_66 rfl ?_
      exact rc_iret hC rfl rfl dX3_isNear_67 h rfl
    intro _ h
    refine rc_aload_n (pc := 15) hC dX3_isNear_15 rfl rfl ?_
    refine rc_r_getq (pc := 16) hC rF_X3_18 dX3_isNear_16 h ?_
    intro x3 h
    refine rc_iload_n (pc := 19) hC dX3_isNear_19 rfl rfl ?_
    obtain ⟨⟨fs, ho⟩, h⟩ := h.is
    refine rc_callF (x0 := rc_xget) (y := yJ7_get) (pc := 20) hC rfl ho (rw_J7_get hH.1 x3 v3) q938 q941 q943 q128 q945 (List.mem_of_getElem? (i := 2) rfl) ⟨by decide, by decide, rd_J7_get.2.2⟩ (hH.room (Nat.le_of_ble_eq_true rfl) (Nat.le_of_ble_eq_true rfl)) rfl rfl (Nat.le_of_ble_eq_true rfl) 1 rfl h.le.2.2 h.br rfl dX3_isNear_20 ?_ (fun E q S hT => rc_out hC hH.2.2.2.2 hT)
    intro x4 S h
    show rc_Z Y S 25 [some (rc_q v0), some (rc_q v1), some (rc_q v2), some (rc_i v3), none] [rc_q x4]
    refine rc_r_cast (pc := 25) hC rK_X3_55 dX3_isNear_25 h ?_
    intro h
    refine rc_astore (pc := 28) hC (L' := [some (rc_q v0), some (rc_q v1), some (rc_q v2), some (rc_i v3), some (rc_q x4)]) dX3_isNear_28 (Nat.le_of_ble_eq_true rfl) rfl rfl ?_
    refine rc_aload (pc := 30) hC dX3_isNear_30 rfl ?_
    obtain ⟨⟨fs, ho⟩, h⟩ := h.is
    refine rc_callV (pc := 32) hC rfl ho (rw_X6_width hH.1 x4) q1032 q1033 q1034 q144 q1035 rfl rd_X6_width (hH.room (Nat.le_of_ble_eq_true rfl) (Nat.le_of_ble_eq_true rfl)) rfl rfl (Nat.le_of_ble_eq_true rfl) 0 rfl h.le.2.2 h.br rfl dX3_isNear_32 ?_ (fun E q S hT => rc_out hC hH.2.2.2.2 hT)
    intro x5 S h
    show rc_Z Y S 35 [some (rc_q v0), some (rc_q v1), some (rc_q v2), some (rc_i v3), some (rc_q x4)] [rc_i x5]
    refine rc_aload_n (pc := 35) hC dX3_isNear_35 rfl rfl ?_
    refine rc_r_geti (pc := 36) hC rF_X3_142 dX3_isNear_36 h ?_
    intro x6 h
    refine rc_icmp_lt (pc := 39) (tgt := 60) hC dX3_isNear_39 rfl h ?_ ?_
    · intro _ h
      refine rc_drop [true, true, true, true, false] (L' := [some (rc_q v0), some (rc_q v1), some (rc_q v2), some (rc_i v3), none]) rfl ?_
      exact rw_X3_isNear_L60 hC hH ih v0 v1 v2 v3 S h
    intro _ h
    refine rc_aload (pc := 42) hC dX3_isNear_42 rfl ?_
    refine rc_aload_n (pc := 44) hC dX3_isNear_44 rfl rfl ?_
    refine rc_r_geti (pc := 45) hC rF_X3_90 dX3_isNear_45 h ?_
    intro x7 h
    refine rc_aload_n (pc := 48) hC dX3_isNear_48 rfl rfl ?_
    refine rc_r_geti (pc := 49) hC rF_X3_90 dX3_isNear_49 h ?_
    intro x8 h
    obtain ⟨⟨fs, ho⟩, h⟩ := h.is
    refine rc_callV (pc := 52) hC rfl ho (rw_X6_connects hH.1 x4 x7 x8) q1066 q1067 q1068 q144 q1069 rfl rd_X6_connects (hH.room (Nat.le_of_ble_eq_true rfl) (Nat.le_of_ble_eq_true rfl)) rfl rfl (Nat.le_of_ble_eq_true rfl) 2 rfl h.le.2.2 h.br rfl dX3_isNear_52 ?_ (fun E q S hT => rc_out hC hH.2.2.2.2 hT)
    intro x9 S h
    show rc_Z Y S 55 [some (rc_q v0), some (rc_q v1), some (rc_q v2), some (rc_i v3), some (rc_q x4)] [rc_i x9]
    refine rc_if_eq (pc := 55) (tgt := 60) hC dX3_isNear_55 rfl h ?_ ?_
    · intro _ h
      refine rc_drop [true, true, true, true, false] (L' := [some (rc_q v0), some (rc_q v1), some (rc_q v2), some (rc_i v3), none]) rfl ?_
      exact rw_X3_isNear_L60 hC hH ih v0 v1 v2 v3 S h
    intro _ h
    refine rc_iconst (pc := 58) hC (v := (1 : Int32)) dX3_isNear_58 rfl ?_
    exact rc_iret hC rfl rfl dX3_isNear_59 h rfl
theorem rw_X3_isNear {l : Launch} (hl : l.stackTraces = false) (v0 : Option Nat) (v1 : Option Nat) (v2 : Option Nat) : rc_Ct l yX3_isNear (ws_ yX3_isNear cX3_isNear 5 (Option.some Jvm.ClassFile.FieldType.boolean)) 3 64 rc_tI (rp_X3_isNear v0 v1 v2) [rc_q v0, rc_q v1, rc_q v2] := by
  refine rc_Ct_H hl (plainFor_of_name rY_X3) rfl (Nat.le_of_ble_eq_true rfl) (L0 := [some (rc_q v0), some (rc_q v1), some (rc_q v2), none, none]) rfl ?_
  intro Y S hC hH h
  have hC : rc_C Y cX3_isNear RX3 (Option.some Jvm.ClassFile.FieldType.boolean) 5 := hC
  unfold rp_X3_isNear at h
  refine rc_iconst (pc := 0) hC (v := (0 : Int32)) dX3_isNear_0 rfl ?_
  refine rc_istore_n (pc := 1) hC (L' := [some (rc_q v0), some (rc_q v1), some (rc_q v2), some (rc_i (0 : Int32)), none]) dX3_isNear_1 rfl (Nat.le_of_ble_eq_true rfl) rfl rfl ?_
  refine rc_r_fuel h ?_
  intro x1 h
  exact rw_X3_isNear_L2 hC hH  x1 v0 v1 v2 (0 : Int32) S h
theorem rw_X3_isHome {l : Launch} (hl : l.stackTraces = false) (v0 : Option Nat) (v1 : Int32) : rc_Ct l yX3_isHome (ws_ yX3_isHome cX3_isHome 2 (Option.some Jvm.ClassFile.FieldType.boolean)) 4 85 rc_tI (rp_X3_isHome v0 v1) [rc_q v0, rc_i v1] := by
  refine rc_Ct_H hl (plainFor_of_name rY_X3) rfl (Nat.le_of_ble_eq_true rfl) (L0 := [some (rc_q v0), some (rc_i v1)]) rfl ?_
  intro Y S hC hH h
  have hC : rc_C Y cX3_isHome RX3 (Option.some Jvm.ClassFile.FieldType.boolean) 2 := hC
  unfold rp_X3_isHome at h
  refine rc_aload_n (pc := 0) hC dX3_isHome_0 rfl rfl ?_
  refine rc_aload_n (pc := 1) hC dX3_isHome_1 rfl rfl ?_
  refine rc_r_getq (pc := 2) hC rF_X3_21 dX3_isHome_2 h ?_
  intro x1 h
  refine rc_iload_n (pc := 5) hC dX3_isHome_5 rfl rfl ?_
  obtain ⟨⟨fs, ho⟩, h⟩ := h.is
  refine rc_callF (x0 := rc_xget) (y := yJ7_get) (pc := 6) hC rfl ho (rw_J7_get hH.1 x1 v1) q938 q941 q943 q128 q945 (List.mem_of_getElem? (i := 2) rfl) ⟨by decide, by decide, rd_J7_get.2.2⟩ (hH.room (Nat.le_of_ble_eq_true rfl) (Nat.le_of_ble_eq_true rfl)) rfl rfl (Nat.le_of_ble_eq_true rfl) 1 rfl h.le.2.2 h.br rfl dX3_isHome_6 ?_ (fun E q S hT => rc_out hC hH.2.2.2.2 hT)
  intro x2 S h
  show rc_Z Y S 11 [some (rc_q v0), some (rc_i v1)] [rc_q x2, rc_q v0]
  refine rc_r_cast (pc := 11) hC rK_X3_57 dX3_isHome_11 h ?_
  intro h
  refine rc_r_geti (pc := 14) hC rF_X3_90 dX3_isHome_14 h ?_
  intro x3 h
  obtain ⟨⟨fs, ho⟩, h⟩ := h.is
  refine rc_callV (pc := 17) hC rfl ho (rw_X3_owner hH.1 v0 x3) q1000 q986 q987 q126 q988 rfl rd_X3_owner (hH.room (Nat.le_of_ble_eq_true rfl) (Nat.le_of_ble_eq_true rfl)) rfl rfl (Nat.le_of_ble_eq_true rfl) 1 rfl h.le.2.2 h.br rfl dX3_isHome_17 ?_ (fun E q S hT => rc_out hC hH.2.2.2.2 hT)
  intro x4 S h
  show rc_Z Y S 20 [some (rc_q v0), some (rc_i v1)] [rc_i x4]
  refine rc_iload_n (pc := 20) hC dX3_isHome_20 rfl rfl ?_
  refine rc_icmp_ne (pc := 21) (tgt := 28) hC dX3_isHome_21 rfl h ?_ ?_
  · intro _ h
    refine rc_iconst (pc := 28) hC (v := (0 : Int32)) dX3_isHome_28 rfl ?_
    exact rc_iret hC rfl rfl dX3_isHome_29 h rfl
  intro _ h
  refine rc_iconst (pc := 24) hC (v := (1 : Int32)) dX3_isHome_24 rfl ?_
  refine rc_goto (pc := 25) (tgt := 29) hC dX3_isHome_25 rfl ?_
  exact rc_iret hC rfl rfl dX3_isHome_29 h rfl
theorem rw_X3_power {l : Launch} (hl : l.stackTraces = false) (v0 : Option Nat) (v1 : Int32) : rc_Ct l yX3_power (ws_ yX3_power cX3_power 2 (Option.some Jvm.ClassFile.FieldType.int)) 5 106 rc_tI (rp_X3_power v0 v1) [rc_q v0, rc_i v1] := by
  refine rc_Ct_H hl (plainFor_of_name rY_X3) rfl (Nat.le_of_ble_eq_true rfl) (L0 := [some (rc_q v0), some (rc_i v1)]) rfl ?_
  intro Y S hC hH h
  have hC : rc_C Y cX3_power RX3 (Option.some Jvm.ClassFile.FieldType.int) 2 := hC
  unfold rp_X3_power at h
  refine rc_aload_n (pc := 0) hC dX3_power_0 rfl rfl ?_
  refine rc_r_getq (pc := 1) hC rF_X3_21 dX3_power_1 h ?_
  intro x1 h
  refine rc_iload_n (pc := 4) hC dX3_power_4 rfl rfl ?_
  obtain ⟨⟨fs, ho⟩, h⟩ := h.is
  refine rc_callF (x0 := rc_xget) (y := yJ7_get) (pc := 5) hC rfl ho (rw_J7_get hH.1 x1 v1) q938 q941 q943 q128 q945 (List.mem_of_getElem? (i := 2) rfl) ⟨by decide, by decide, rd_J7_get.2.2⟩ (hH.room (Nat.le_of_ble_eq_true rfl) (Nat.le_of_ble_eq_true rfl)) rfl rfl (Nat.le_of_ble_eq_true rfl) 1 rfl h.le.2.2 h.br rfl dX3_power_5 ?_ (fun E q S hT => rc_out hC hH.2.2.2.2 hT)
  intro x2 S h
  show rc_Z Y S 10 [some (rc_q v0), some (rc_i v1)] [rc_q x2]
  refine rc_r_cast (pc := 10) hC rK_X3_57 dX3_power_10 h ?_
  intro h
  refine rc_r_geti (pc := 13) hC rF_X3_107 dX3_power_13 h ?_
  intro x3 h
  refine rc_aload_n (pc := 16) hC dX3_power_16 rfl rfl ?_
  refine rc_iload_n (pc := 17) hC dX3_power_17 rfl rfl ?_
  obtain ⟨⟨fs, ho⟩, h⟩ := h.is
  refine rc_callV (pc := 18) hC rfl ho (rw_X3_isHome hH.1 v0 v1) q1075 q1076 q1077 q126 q1078 rfl rd_X3_isHome (hH.room (Nat.le_of_ble_eq_true rfl) (Nat.le_of_ble_eq_true rfl)) rfl rfl (Nat.le_of_ble_eq_true rfl) 1 rfl h.le.2.2 h.br rfl dX3_power_18 ?_ (fun E q S hT => rc_out hC hH.2.2.2.2 hT)
  intro x4 S h
  show rc_Z Y S 21 [some (rc_q v0), some (rc_i v1)] [rc_i x4, rc_i x3]
  refine rc_if_eq (pc := 21) (tgt := 28) hC dX3_power_21 rfl h ?_ ?_
  · intro _ h
    refine rc_iconst (pc := 28) hC (v := (0 : Int32)) dX3_power_28 rfl ?_
    refine rc_iadd (pc := 29) hC dX3_power_29 ?_
    exact rc_iret hC rfl rfl dX3_power_30 h rfl
  intro _ h
  refine rc_iconst (pc := 24) hC (v := (2 : Int32)) dX3_power_24 rfl ?_
  refine rc_goto (pc := 25) (tgt := 29) hC dX3_power_25 rfl ?_
  refine rc_iadd (pc := 29) hC dX3_power_29 ?_
  exact rc_iret hC rfl rfl dX3_power_30 h rfl
theorem rw_X3_judgeChase {l : Launch} (hl : l.stackTraces = false) (v0 : Option Nat) (v1 : Int32) (v2 : Int32) : rc_Ct l yX3_judgeChase (ws_ yX3_judgeChase cX3_judgeChase 3 (Option.some Jvm.ClassFile.FieldType.int)) 6 127 rc_tI (rp_X3_judgeChase v0 v1 v2) [rc_q v0, rc_i v1, rc_i v2] := by
  refine rc_Ct_H hl (plainFor_of_name rY_X3) rfl (Nat.le_of_ble_eq_true rfl) (L0 := [some (rc_q v0), some (rc_i v1), some (rc_i v2)]) rfl ?_
  intro Y S hC hH h
  have hC : rc_C Y cX3_judgeChase RX3 (Option.some Jvm.ClassFile.FieldType.int) 3 := hC
  unfold rp_X3_judgeChase at h
  refine rc_aload_n (pc := 0) hC dX3_judgeChase_0 rfl rfl ?_
  refine rc_aload_n (pc := 1) hC dX3_judgeChase_1 rfl rfl ?_
  refine rc_r_getq (pc := 2) hC rF_X3_21 dX3_judgeChase_2 h ?_
  intro x1 h
  refine rc_iload_n (pc := 5) hC dX3_judgeChase_5 rfl rfl ?_
  obtain ⟨⟨fs, ho⟩, h⟩ := h.is
  refine rc_callF (x0 := rc_xget) (y := yJ7_get) (pc := 6) hC rfl ho (rw_J7_get hH.1 x1 v1) q938 q941 q943 q128 q945 (List.mem_of_getElem? (i := 2) rfl) ⟨by decide, by decide, rd_J7_get.2.2⟩ (hH.room (Nat.le_of_ble_eq_true rfl) (Nat.le_of_ble_eq_true rfl)) rfl rfl (Nat.le_of_ble_eq_true rfl) 1 rfl h.le.2.2 h.br rfl dX3_judgeChase_6 ?_ (fun E q S hT => rc_out hC hH.2.2.2.2 hT)
  intro x2 S h
  show rc_Z Y S 11 [some (rc_q v0), some (rc_i v1), some (rc_i v2)] [rc_q x2, rc_q v0]
  refine rc_r_cast (pc := 11) hC rK_X3_57 dX3_judgeChase_11 h ?_
  intro h
  refine rc_aload_n (pc := 14) hC dX3_judgeChase_14 rfl rfl ?_
  refine rc_r_getq (pc := 15) hC rF_X3_21 dX3_judgeChase_15 h ?_
  intro x3 h
  refine rc_iload_n (pc := 18) hC dX3_judgeChase_18 rfl rfl ?_
  obtain ⟨⟨fs, ho⟩, h⟩ := h.is
  refine rc_callF (x0 := rc_xget) (y := yJ7_get) (pc := 19) hC rfl ho (rw_J7_get hH.1 x3 v2) q938 q941 q943 q128 q945 (List.mem_of_getElem? (i := 2) rfl) ⟨by decide, by decide, rd_J7_get.2.2⟩ (hH.room (Nat.le_of_ble_eq_true rfl) (Nat.le_of_ble_eq_true rfl)) rfl rfl (Nat.le_of_ble_eq_true rfl) 1 rfl h.le.2.2 h.br rfl dX3_judgeChase_19 ?_ (fun E q S hT => rc_out hC hH.2.2.2.2 hT)
  intro x4 S h
  show rc_Z Y S 24 [some (rc_q v0), some (rc_i v1), some (rc_i v2)] [rc_q x4, rc_q x2, rc_q v0]
  refine rc_r_cast (pc := 24) hC rK_X3_57 dX3_judgeChase_24 h ?_
  intro h
  obtain ⟨⟨fs, ho⟩, h⟩ := h.is
  refine rc_callV (pc := 27) hC rfl ho (rw_X3_isNear hH.1 v0 x2 x4) q1062 q1063 q1064 q126 q1065 rfl rd_X3_isNear (hH.room (Nat.le_of_ble_eq_true rfl) (Nat.le_of_ble_eq_true rfl)) rfl rfl (Nat.le_of_ble_eq_true rfl) 2 rfl h.le.2.2 h.br rfl dX3_judgeChase_27 ?_ (fun E q S hT => rc_out hC hH.2.2.2.2 hT)
  intro x5 S h
  show rc_Z Y S 30 [some (rc_q v0), some (rc_i v1), some (rc_i v2)] [rc_i x5]
  refine rc_if_ne (pc := 30) (tgt := 36) hC dX3_judgeChase_30 rfl h ?_ ?_
  · intro _ h
    refine rc_aload_n (pc := 36) hC dX3_judgeChase_36 rfl rfl ?_
    refine rc_iload_n (pc := 37) hC dX3_judgeChase_37 rfl rfl ?_
    refine rc_iload_n (pc := 38) hC dX3_judgeChase_38 rfl rfl ?_
    obtain ⟨⟨fs, ho⟩, h⟩ := h.is
    refine rc_callV (pc := 39) hC rfl ho (rw_X3_isTruce hH.1 v0 v1 v2) q1041 q1042 q1043 q126 q1044 rfl rd_X3_isTruce (hH.room (Nat.le_of_ble_eq_true rfl) (Nat.le_of_ble_eq_true rfl)) rfl rfl (Nat.le_of_ble_eq_true rfl) 2 rfl h.le.2.2 h.br rfl dX3_judgeChase_39 ?_ (fun E q S hT => rc_out hC hH.2.2.2.2 hT)
    intro x6 S h
    show rc_Z Y S 42 [some (rc_q v0), some (rc_i v1), some (rc_i v2)] [rc_i x6]
    refine rc_if_eq (pc := 42) (tgt := 48) hC dX3_judgeChase_42 rfl h ?_ ?_
    · intro _ h
      refine rc_aload_n (pc := 48) hC dX3_judgeChase_48 rfl rfl ?_
      refine rc_iload_n (pc := 49) hC dX3_judgeChase_49 rfl rfl ?_
      obtain ⟨⟨fs, ho⟩, h⟩ := h.is
      refine rc_callV (pc := 50) hC rfl ho (rw_X3_power hH.1 v0 v1) q1071 q1072 q1073 q126 q1074 rfl rd_X3_power (hH.room (Nat.le_of_ble_eq_true rfl) (Nat.le_of_ble_eq_true rfl)) rfl rfl (Nat.le_of_ble_eq_true rfl) 1 rfl h.le.2.2 h.br rfl dX3_judgeChase_50 ?_ (fun E q S hT => rc_out hC hH.2.2.2.2 hT)
      intro x7 S h
      show rc_Z Y S 53 [some (rc_q v0), some (rc_i v1), some (rc_i v2)] [rc_i x7]
      refine rc_aload_n (pc := 53) hC dX3_judgeChase_53 rfl rfl ?_
      refine rc_iload_n (pc := 54) hC dX3_judgeChase_54 rfl rfl ?_
      obtain ⟨⟨fs, ho⟩, h⟩ := h.is
      refine rc_callV (pc := 55) hC rfl ho (rw_X3_power hH.1 v0 v2) q1071 q1072 q1073 q126 q1074 rfl rd_X3_power (hH.room (Nat.le_of_ble_eq_true rfl) (Nat.le_of_ble_eq_true rfl)) rfl rfl (Nat.le_of_ble_eq_true rfl) 1 rfl h.le.2.2 h.br rfl dX3_judgeChase_55 ?_ (fun E q S hT => rc_out hC hH.2.2.2.2 hT)
      intro x8 S h
      show rc_Z Y S 58 [some (rc_q v0), some (rc_i v1), some (rc_i v2)] [rc_i x8, rc_i x7]
      refine rc_icmp_le (pc := 58) (tgt := 65) hC dX3_judgeChase_58 rfl h ?_ ?_
      · intro _ h
        refine rc_bipush (pc := 65) hC (v := (9 : Int32)) dX3_judgeChase_65 rfl ?_
        exact rc_iret hC rfl rfl dX3_judgeChase_67 h rfl
      intro _ h
      refine rc_iconst (pc := 61) hC (v := (0 : Int32)) dX3_judgeChase_61 rfl ?_
      refine rc_goto (pc := 62) (tgt := 67) hC dX3_judgeChase_62 rfl ?_
      exact rc_iret hC rfl rfl dX3_judgeChase_67 h rfl
    intro _ h
    refine rc_bipush (pc := 45) hC (v := (8 : Int32)) dX3_judgeChase_45 rfl ?_
    exact rc_iret hC rfl rfl dX3_judgeChase_47 h rfl
  intro _ h
  refine rc_bipush (pc := 33) hC (v := (7 : Int32)) dX3_judgeChase_33 rfl ?_
  exact rc_iret hC rfl rfl dX3_judgeChase_35 h rfl
theorem rw_X7_get {l : Launch} (hl : l.stackTraces = false) (v0 : Option Nat) (v1 : Int32) : rc_Ct l yX7_get (ws_ yX7_get cX7_get 3 (Option.some Jvm.ClassFile.FieldType.int)) 1 21 rc_tI (rp_X7_get v0 v1) [rc_q v0, rc_i v1] := by
  refine rc_Ct_H hl (plainFor_of_name rY_X7) rfl (Nat.le_of_ble_eq_true rfl) (L0 := [some (rc_q v0), some (rc_i v1), none]) rfl ?_
  intro Y S hC hH h
  have hC : rc_C Y cX7_get RX7 (Option.some Jvm.ClassFile.FieldType.int) 3 := hC
  unfold rp_X7_get at h
  refine rc_iload_n (pc := 0) hC dX7_get_0 rfl rfl ?_
  refine rc_bipush (pc := 1) hC (v := (99 : Int32)) dX7_get_1 rfl ?_
  refine rc_aload_n (pc := 3) hC dX7_get_3 rfl rfl ?_
  refine rc_r_geti (pc := 4) hC rF_X7_9 dX7_get_4 h ?_
  intro x1 h
  refine rc_isub (pc := 7) hC dX7_get_7 ?_
  refine rc_callS (pc := 8) hC (rw_J17_min hH.1 v1 ((99 : Int32) - x1)) q1087 q466 q139 q467 rd_J17_min (hH.room (Nat.le_of_ble_eq_true rfl) (Nat.le_of_ble_eq_true rfl)) rfl rfl (Nat.le_of_ble_eq_true rfl) 2 rfl h.le.2.2 h.br rfl dX7_get_8 ?_ (fun E q S hT => rc_out hC hH.2.2.2.2 hT)
  intro x2 S h
  show rc_Z Y S 11 [some (rc_q v0), some (rc_i v1), none] [rc_i x2]
  refine rc_istore_n (pc := 11) hC (L' := [some (rc_q v0), some (rc_i v1), some (rc_i x2)]) dX7_get_11 rfl (Nat.le_of_ble_eq_true rfl) rfl rfl ?_
  refine rc_aload_n (pc := 12) hC dX7_get_12 rfl rfl ?_
  refine rc_dup (pc := 13) hC dX7_get_13 rfl ?_
  refine rc_r_geti (pc := 14) hC rF_X7_9 dX7_get_14 h ?_
  intro x3 h
  refine rc_iload_n (pc := 17) hC dX7_get_17 rfl rfl ?_
  refine rc_iadd (pc := 18) hC dX7_get_18 ?_
  refine rc_r_put (pc := 19) hC rP_X7_9 (nofun) dX7_get_19 h ?_
  intro S h
  refine rc_iload_n (pc := 22) hC dX7_get_22 rfl rfl ?_
  exact rc_iret hC rfl rfl dX7_get_23 h rfl
theorem rw_X3_chase_L114 {Y : rc_Y} (hC : rc_C Y cX3_chase RX3 (Option.some Jvm.ClassFile.FieldType.boolean) 6) (hH : rc_H Y 6 129 yX3_chase.name) (v0 : Option Nat) (v1 : Int32) (v5 : Int32) (S : rc_S) (h : rc_Go Y rc_tI (rp_X3_chase_L114  v0 v1 v5) S) : rc_Z Y S 114 [some (rc_q v0), some (rc_i v1), none, none, none, some (rc_i v5)] [] := by
  unfold rp_X3_chase_L114 at h
  refine rc_aload_n (pc := 114) hC dX3_chase_114 rfl rfl ?_
  refine rc_iload (pc := 115) hC dX3_chase_115 rfl ?_
  obtain ⟨⟨fs, ho⟩, h⟩ := h.is
  refine rc_callV (pc := 117) hC rfl ho (rw_X3_owner hH.1 v0 v5) q1000 q986 q987 q126 q988 rfl rd_X3_owner (hH.room (Nat.le_of_ble_eq_true rfl) (Nat.le_of_ble_eq_true rfl)) rfl rfl (Nat.le_of_ble_eq_true rfl) 1 rfl h.le.2.2 h.br rfl dX3_chase_117 ?_ (fun E q S hT => rc_out hC hH.2.2.2.2 hT)
  intro x1 S h
  show rc_Z Y S 120 [some (rc_q v0), some (rc_i v1), none, none, none, some (rc_i v5)] [rc_i x1]
  refine rc_iload_n (pc := 120) hC dX3_chase_120 rfl rfl ?_
  refine rc_icmp_ne (pc := 121) (tgt := 128) hC dX3_chase_121 rfl h ?_ ?_
  · intro _ h
    refine rc_iconst (pc := 128) hC (v := (0 : Int32)) dX3_chase_128 rfl ?_
    exact rc_iret hC rfl rfl dX3_chase_129 h rfl
  intro _ h
  refine rc_iconst (pc := 124) hC (v := (1 : Int32)) dX3_chase_124 rfl ?_
  refine rc_goto (pc := 125) (tgt := 129) hC dX3_chase_125 rfl ?_
  exact rc_iret hC rfl rfl dX3_chase_129 h rfl
theorem rw_X3_chase_L76 {Y : rc_Y} (hC : rc_C Y cX3_chase RX3 (Option.some Jvm.ClassFile.FieldType.boolean) 6) (hH : rc_H Y 6 129 yX3_chase.name) (v0 : Option Nat) (v1 : Int32) (v3 : Option Nat) (v4 : Option Nat) (v5 : Int32) (S : rc_S) (h : rc_Go Y rc_tI (rp_X3_chase_L76  v0 v1 v3 v4 v5) S) : rc_Z Y S 76 [some (rc_q v0), some (rc_i v1), none, some (rc_q v3), some (rc_q v4), some (rc_i v5)] [] := by
  unfold rp_X3_chase_L76 at h
  refine rc_aload (pc := 76) hC dX3_chase_76 rfl ?_
  refine rc_aload_n (pc := 78) hC dX3_chase_78 rfl rfl ?_
  refine rc_r_geti (pc := 79) hC rF_X3_90 dX3_chase_79 h ?_
  intro x1 h
  refine rc_r_put (pc := 82) hC rP_X3_90 (nofun) dX3_chase_82 h ?_
  intro S h
  refine rc_aload_n (pc := 85) hC dX3_chase_85 rfl rfl ?_
  refine rc_iload (pc := 86) hC dX3_chase_86 rfl ?_
  refine rc_r_put (pc := 88) hC rP_X3_90 (nofun) dX3_chase_88 h ?_
  intro S h
  refine rc_aload (pc := 91) hC dX3_chase_91 rfl ?_
  refine rc_r_geti (pc := 93) hC rF_X3_133 dX3_chase_93 h ?_
  intro x2 h
  refine rc_if_le (pc := 96) (tgt := 114) hC dX3_chase_96 rfl h ?_ ?_
  · intro _ h
    refine rc_drop [true, true, false, false, false, true] (L' := [some (rc_q v0), some (rc_i v1), none, none, none, some (rc_i v5)]) rfl ?_
    exact rw_X3_chase_L114 hC hH  v0 v1 v5 S h
  intro _ h
  refine rc_aload (pc := 99) hC dX3_chase_99 rfl ?_
  refine rc_dup (pc := 101) hC dX3_chase_101 rfl ?_
  refine rc_r_geti (pc := 102) hC rF_X3_133 dX3_chase_102 h ?_
  intro x3 h
  refine rc_aload_n (pc := 105) hC dX3_chase_105 rfl rfl ?_
  refine rc_iconst (pc := 106) hC (v := (1 : Int32)) dX3_chase_106 rfl ?_
  obtain ⟨⟨fs, ho⟩, h⟩ := h.is
  refine rc_callV (pc := 107) hC rfl ho (rw_X7_get hH.1 v3 (1 : Int32)) q1083 q1084 q1085 q146 q1086 rfl rd_X7_get (hH.room (Nat.le_of_ble_eq_true rfl) (Nat.le_of_ble_eq_true rfl)) rfl rfl (Nat.le_of_ble_eq_true rfl) 1 rfl h.le.2.2 h.br rfl dX3_chase_107 ?_ (fun E q S hT => rc_out hC hH.2.2.2.2 hT)
  intro x4 S h
  show rc_Z Y S 110 [some (rc_q v0), some (rc_i v1), none, some (rc_q v3), some (rc_q v4), some (rc_i v5)] [rc_i x4, rc_i x3, rc_q v4]
  refine rc_isub (pc := 110) hC dX3_chase_110 ?_
  refine rc_r_put (pc := 111) hC rP_X3_133 (nofun) dX3_chase_111 h ?_
  intro S h
  refine rc_drop [true, true, false, false, false, true] (L' := [some (rc_q v0), some (rc_i v1), none, none, none, some (rc_i v5)]) rfl ?_
  exact rw_X3_chase_L114 hC hH  v0 v1 v5 S h
theorem rw_X3_chase_L73 {Y : rc_Y} (hC : rc_C Y cX3_chase RX3 (Option.some Jvm.ClassFile.FieldType.boolean) 6) (hH : rc_H Y 6 129 yX3_chase.name) (v0 : Option Nat) (v1 : Int32) (v3 : Option Nat) (v4 : Option Nat) (v5 : Int32) (s0 : Int32) (s1 : Option Nat) (S : rc_S) (h : rc_Go Y rc_tI (rp_X3_chase_L73  v0 v1 v3 v4 v5 s0 s1) S) : rc_Z Y S 73 [some (rc_q v0), some (rc_i v1), none, some (rc_q v3), some (rc_q v4), some (rc_i v5)] [rc_i s0, rc_q s1] := by
  unfold rp_X3_chase_L73 at h
  refine rc_r_put (pc := 73) hC rP_X3_93 (nofun) dX3_chase_73 h ?_
  intro S h
  exact rw_X3_chase_L76 hC hH  v0 v1 v3 v4 v5 S h
theorem rw_X3_chase {l : Launch} (hl : l.stackTraces = false) (v0 : Option Nat) (v1 : Int32) (v2 : Int32) : rc_Ct l yX3_chase (ws_ yX3_chase cX3_chase 6 (Option.some Jvm.ClassFile.FieldType.boolean)) 6 129 rc_tI (rp_X3_chase v0 v1 v2) [rc_q v0, rc_i v1, rc_i v2] := by
  refine rc_Ct_H hl (plainFor_of_name rY_X3) rfl (Nat.le_of_ble_eq_true rfl) (L0 := [some (rc_q v0), some (rc_i v1), some (rc_i v2), none, none, none]) rfl ?_
  intro Y S hC hH h
  have hC : rc_C Y cX3_chase RX3 (Option.some Jvm.ClassFile.FieldType.boolean) 6 := hC
  unfold rp_X3_chase at h
  refine rc_aload_n (pc := 0) hC dX3_chase_0 rfl rfl ?_
  refine rc_r_getq (pc := 1) hC rF_X3_21 dX3_chase_1 h ?_
  intro x1 h
  refine rc_iload_n (pc := 4) hC dX3_chase_4 rfl rfl ?_
  obtain ⟨⟨fs, ho⟩, h⟩ := h.is
  refine rc_callF (x0 := rc_xget) (y := yJ7_get) (pc := 5) hC rfl ho (rw_J7_get hH.1 x1 v1) q938 q941 q943 q128 q945 (List.mem_of_getElem? (i := 2) rfl) ⟨by decide, by decide, rd_J7_get.2.2⟩ (hH.room (Nat.le_of_ble_eq_true rfl) (Nat.le_of_ble_eq_true rfl)) rfl rfl (Nat.le_of_ble_eq_true rfl) 1 rfl h.le.2.2 h.br rfl dX3_chase_5 ?_ (fun E q S hT => rc_out hC hH.2.2.2.2 hT)
  intro x2 S h
  show rc_Z Y S 10 [some (rc_q v0), some (rc_i v1), some (rc_i v2), none, none, none] [rc_q x2]
  refine rc_r_cast (pc := 10) hC rK_X3_57 dX3_chase_10 h ?_
  intro h
  refine rc_astore_n (pc := 13) hC (L' := [some (rc_q v0), some (rc_i v1), some (rc_i v2), some (rc_q x2), none, none]) dX3_chase_13 rfl (Nat.le_of_ble_eq_true rfl) rfl rfl ?_
  refine rc_aload_n (pc := 14) hC dX3_chase_14 rfl rfl ?_
  refine rc_r_getq (pc := 15) hC rF_X3_21 dX3_chase_15 h ?_
  intro x3 h
  refine rc_iload_n (pc := 18) hC dX3_chase_18 rfl rfl ?_
  obtain ⟨⟨fs, ho⟩, h⟩ := h.is
  refine rc_callF (x0 := rc_xget) (y := yJ7_get) (pc := 19) hC rfl ho (rw_J7_get hH.1 x3 v2) q938 q941 q943 q128 q945 (List.mem_of_getElem? (i := 2) rfl) ⟨by decide, by decide, rd_J7_get.2.2⟩ (hH.room (Nat.le_of_ble_eq_true rfl) (Nat.le_of_ble_eq_true rfl)) rfl rfl (Nat.le_of_ble_eq_true rfl) 1 rfl h.le.2.2 h.br rfl dX3_chase_19 ?_ (fun E q S hT => rc_out hC hH.2.2.2.2 hT)
  intro x4 S h
  show rc_Z Y S 24 [some (rc_q v0), some (rc_i v1), some (rc_i v2), some (rc_q x2), none, none] [rc_q x4]
  refine rc_r_cast (pc := 24) hC rK_X3_57 dX3_chase_24 h ?_
  intro h
  refine rc_astore (pc := 27) hC (L' := [some (rc_q v0), some (rc_i v1), some (rc_i v2), some (rc_q x2), some (rc_q x4), none]) dX3_chase_27 (Nat.le_of_ble_eq_true rfl) rfl rfl ?_
  refine rc_aload (pc := 29) hC dX3_chase_29 rfl ?_
  refine rc_r_geti (pc := 31) hC rF_X3_90 dX3_chase_31 h ?_
  intro x5 h
  refine rc_istore (pc := 34) hC (L' := [some (rc_q v0), some (rc_i v1), some (rc_i v2), some (rc_q x2), some (rc_q x4), some (rc_i x5)]) dX3_chase_34 (Nat.le_of_ble_eq_true rfl) rfl rfl ?_
  refine rc_aload_n (pc := 36) hC dX3_chase_36 rfl rfl ?_
  refine rc_iload (pc := 37) hC dX3_chase_37 rfl ?_
  obtain ⟨⟨fs, ho⟩, h⟩ := h.is
  refine rc_callV (pc := 39) hC rfl ho (rw_X3_owner hH.1 v0 x5) q1000 q986 q987 q126 q988 rfl rd_X3_owner (hH.room (Nat.le_of_ble_eq_true rfl) (Nat.le_of_ble_eq_true rfl)) rfl rfl (Nat.le_of_ble_eq_true rfl) 1 rfl h.le.2.2 h.br rfl dX3_chase_39 ?_ (fun E q S hT => rc_out hC hH.2.2.2.2 hT)
  intro x6 S h
  show rc_Z Y S 42 [some (rc_q v0), some (rc_i v1), some (rc_i v2), some (rc_q x2), some (rc_q x4), some (rc_i x5)] [rc_i x6]
  refine rc_iload_n (pc := 42) hC dX3_chase_42 rfl rfl ?_
  refine rc_icmp_ne (pc := 43) (tgt := 76) hC dX3_chase_43 rfl h ?_ ?_
  · intro _ h
    refine rc_drop [true, true, false, true, true, true] (L' := [some (rc_q v0), some (rc_i v1), none, some (rc_q x2), some (rc_q x4), some (rc_i x5)]) rfl ?_
    exact rw_X3_chase_L76 hC hH  v0 v1 x2 x4 x5 S h
  intro _ h
  refine rc_aload_n (pc := 46) hC dX3_chase_46 rfl rfl ?_
  refine rc_r_getq (pc := 47) hC rF_X3_12 dX3_chase_47 h ?_
  intro x7 h
  refine rc_iload (pc := 50) hC dX3_chase_50 rfl ?_
  obtain ⟨⟨fs, ho⟩, h⟩ := h.is
  refine rc_callF (x0 := rc_xget) (y := yJ7_get) (pc := 52) hC rfl ho (rw_J7_get hH.1 x7 x5) q938 q941 q943 q128 q945 (List.mem_of_getElem? (i := 2) rfl) ⟨by decide, by decide, rd_J7_get.2.2⟩ (hH.room (Nat.le_of_ble_eq_true rfl) (Nat.le_of_ble_eq_true rfl)) rfl rfl (Nat.le_of_ble_eq_true rfl) 1 rfl h.le.2.2 h.br rfl dX3_chase_52 ?_ (fun E q S hT => rc_out hC hH.2.2.2.2 hT)
  intro x8 S h
  show rc_Z Y S 57 [some (rc_q v0), some (rc_i v1), some (rc_i v2), some (rc_q x2), some (rc_q x4), some (rc_i x5)] [rc_q x8]
  refine rc_r_cast (pc := 57) hC rK_X3_45 dX3_chase_57 h ?_
  intro h
  refine rc_aload_n (pc := 60) hC dX3_chase_60 rfl rfl ?_
  refine rc_iload_n (pc := 61) hC dX3_chase_61 rfl rfl ?_
  obtain ⟨⟨fs, ho⟩, h⟩ := h.is
  refine rc_callV (pc := 62) hC rfl ho (rw_X3_ownsEnough hH.1 v0 v1) q1001 q1002 q1003 q126 q1004 rfl rd_X3_ownsEnough (hH.room (Nat.le_of_ble_eq_true rfl) (Nat.le_of_ble_eq_true rfl)) rfl rfl (Nat.le_of_ble_eq_true rfl) 1 rfl h.le.2.2 h.br rfl dX3_chase_62 ?_ (fun E q S hT => rc_out hC hH.2.2.2.2 hT)
  intro x9 S h
  show rc_Z Y S 65 [some (rc_q v0), some (rc_i v1), some (rc_i v2), some (rc_q x2), some (rc_q x4), some (rc_i x5)] [rc_i x9, rc_q x8]
  refine rc_if_eq (pc := 65) (tgt := 72) hC dX3_chase_65 rfl h ?_ ?_
  · intro _ h
    refine rc_iload_n (pc := 72) hC dX3_chase_72 rfl rfl ?_
    refine rc_drop [true, true, false, true, true, true] (L' := [some (rc_q v0), some (rc_i v1), none, some (rc_q x2), some (rc_q x4), some (rc_i x5)]) rfl ?_
    exact rw_X3_chase_L73 hC hH  v0 v1 x2 x4 x5 v1 x8 S h
  intro _ h
  refine rc_iconst (pc := 68) hC (v := (-1 : Int32)) dX3_chase_68 rfl ?_
  refine rc_goto (pc := 69) (tgt := 73) hC dX3_chase_69 rfl ?_
  refine rc_drop [true, true, false, true, true, true] (L' := [some (rc_q v0), some (rc_i v1), none, some (rc_q x2), some (rc_q x4), some (rc_i x5)]) rfl ?_
  exact rw_X3_chase_L73 hC hH  v0 v1 x2 x4 x5 (-1 : Int32) x8 S h
theorem rw_X3_canBuy {l : Launch} (hl : l.stackTraces = false) (v0 : Option Nat) (v1 : Int32) (v2 : Int32) (v3 : Int32) : rc_Ct l yX3_canBuy (ws_ yX3_canBuy cX3_canBuy 4 (Option.some Jvm.ClassFile.FieldType.boolean)) 3 65 rc_tI (rp_X3_canBuy v0 v1 v2 v3) [rc_q v0, rc_i v1, rc_i v2, rc_i v3] := by
  refine rc_Ct_H hl (plainFor_of_name rY_X3) rfl (Nat.le_of_ble_eq_true rfl) (L0 := [some (rc_q v0), some (rc_i v1), some (rc_i v2), some (rc_i v3)]) rfl ?_
  intro Y S hC hH h
  have hC : rc_C Y cX3_canBuy RX3 (Option.some Jvm.ClassFile.FieldType.boolean) 4 := hC
  unfold rp_X3_canBuy at h
  refine rc_aload_n (pc := 0) hC dX3_canBuy_0 rfl rfl ?_
  refine rc_iload_n (pc := 1) hC dX3_canBuy_1 rfl rfl ?_
  refine rc_iload_n (pc := 2) hC dX3_canBuy_2 rfl rfl ?_
  obtain ⟨⟨fs, ho⟩, h⟩ := h.is
  refine rc_callV (pc := 3) hC rfl ho (rw_X3_isTruce hH.1 v0 v1 v2) q1041 q1042 q1043 q126 q1044 rfl rd_X3_isTruce (hH.room (Nat.le_of_ble_eq_true rfl) (Nat.le_of_ble_eq_true rfl)) rfl rfl (Nat.le_of_ble_eq_true rfl) 2 rfl h.le.2.2 h.br rfl dX3_canBuy_3 ?_ (fun E q S hT => rc_out hC hH.2.2.2.2 hT)
  intro x1 S h
  show rc_Z Y S 6 [some (rc_q v0), some (rc_i v1), some (rc_i v2), some (rc_i v3)] [rc_i x1]
  refine rc_if_ne (pc := 6) (tgt := 56) hC dX3_canBuy_6 rfl h ?_ ?_
  · intro _ h
    refine rc_iconst (pc := 56) hC (v := (0 : Int32)) dX3_canBuy_56 rfl ?_
    exact rc_iret hC rfl rfl dX3_canBuy_57 h rfl
  intro _ h
  refine rc_aload_n (pc := 9) hC dX3_canBuy_9 rfl rfl ?_
  refine rc_r_getq (pc := 10) hC rF_X3_21 dX3_canBuy_10 h ?_
  intro x2 h
  refine rc_iload_n (pc := 13) hC dX3_canBuy_13 rfl rfl ?_
  obtain ⟨⟨fs, ho⟩, h⟩ := h.is
  refine rc_callF (x0 := rc_xget) (y := yJ7_get) (pc := 14) hC rfl ho (rw_J7_get hH.1 x2 v1) q938 q941 q943 q128 q945 (List.mem_of_getElem? (i := 2) rfl) ⟨by decide, by decide, rd_J7_get.2.2⟩ (hH.room (Nat.le_of_ble_eq_true rfl) (Nat.le_of_ble_eq_true rfl)) rfl rfl (Nat.le_of_ble_eq_true rfl) 1 rfl h.le.2.2 h.br rfl dX3_canBuy_14 ?_ (fun E q S hT => rc_out hC hH.2.2.2.2 hT)
  intro x3 S h
  show rc_Z Y S 19 [some (rc_q v0), some (rc_i v1), some (rc_i v2), some (rc_i v3)] [rc_q x3]
  refine rc_r_cast (pc := 19) hC rK_X3_57 dX3_canBuy_19 h ?_
  intro h
  refine rc_r_geti (pc := 22) hC rF_X3_133 dX3_canBuy_22 h ?_
  intro x4 h
  refine rc_iload_n (pc := 25) hC dX3_canBuy_25 rfl rfl ?_
  refine rc_icmp_lt (pc := 26) (tgt := 56) hC dX3_canBuy_26 rfl h ?_ ?_
  · intro _ h
    refine rc_iconst (pc := 56) hC (v := (0 : Int32)) dX3_canBuy_56 rfl ?_
    exact rc_iret hC rfl rfl dX3_canBuy_57 h rfl
  intro _ h
  refine rc_aload_n (pc := 29) hC dX3_canBuy_29 rfl rfl ?_
  refine rc_r_getq (pc := 30) hC rF_X3_21 dX3_canBuy_30 h ?_
  intro x5 h
  refine rc_iload_n (pc := 33) hC dX3_canBuy_33 rfl rfl ?_
  obtain ⟨⟨fs, ho⟩, h⟩ := h.is
  refine rc_callF (x0 := rc_xget) (y := yJ7_get) (pc := 34) hC rfl ho (rw_J7_get hH.1 x5 v2) q938 q941 q943 q128 q945 (List.mem_of_getElem? (i := 2) rfl) ⟨by decide, by decide, rd_J7_get.2.2⟩ (hH.room (Nat.le_of_ble_eq_true rfl) (Nat.le_of_ble_eq_true rfl)) rfl rfl (Nat.le_of_ble_eq_true rfl) 1 rfl h.le.2.2 h.br rfl dX3_canBuy_34 ?_ (fun E q S hT => rc_out hC hH.2.2.2.2 hT)
  intro x6 S h
  show rc_Z Y S 39 [some (rc_q v0), some (rc_i v1), some (rc_i v2), some (rc_i v3)] [rc_q x6]
  refine rc_r_cast (pc := 39) hC rK_X3_57 dX3_canBuy_39 h ?_
  intro h
  refine rc_r_geti (pc := 42) hC rF_X3_133 dX3_canBuy_42 h ?_
  intro x7 h
  refine rc_iload_n (pc := 45) hC dX3_canBuy_45 rfl rfl ?_
  refine rc_iadd (pc := 46) hC dX3_canBuy_46 ?_
  refine rc_bipush (pc := 47) hC (v := (99 : Int32)) dX3_canBuy_47 rfl ?_
  refine rc_icmp_gt (pc := 49) (tgt := 56) hC dX3_canBuy_49 rfl h ?_ ?_
  · intro _ h
    refine rc_iconst (pc := 56) hC (v := (0 : Int32)) dX3_canBuy_56 rfl ?_
    exact rc_iret hC rfl rfl dX3_canBuy_57 h rfl
  intro _ h
  refine rc_iconst (pc := 52) hC (v := (1 : Int32)) dX3_canBuy_52 rfl ?_
  refine rc_goto (pc := 53) (tgt := 57) hC dX3_canBuy_53 rfl ?_
  exact rc_iret hC rfl rfl dX3_canBuy_57 h rfl
theorem rw_X3_buyTruce {l : Launch} (hl : l.stackTraces = false) (v0 : Option Nat) (v1 : Int32) (v2 : Int32) (v3 : Int32) (v4 : Int32) : rc_Ct l yX3_buyTruce (ws_ yX3_buyTruce cX3_buyTruce 5 (Option.some Jvm.ClassFile.FieldType.int)) 3 64 rc_tI (rp_X3_buyTruce v0 v1 v2 v3 v4) [rc_q v0, rc_i v1, rc_i v2, rc_i v3, rc_i v4] := by
  refine rc_Ct_H hl (plainFor_of_name rY_X3) rfl (Nat.le_of_ble_eq_true rfl) (L0 := [some (rc_q v0), some (rc_i v1), some (rc_i v2), some (rc_i v3), some (rc_i v4)]) rfl ?_
  intro Y S hC hH h
  have hC : rc_C Y cX3_buyTruce RX3 (Option.some Jvm.ClassFile.FieldType.int) 5 := hC
  unfold rp_X3_buyTruce at h
  refine rc_aload_n (pc := 0) hC dX3_buyTruce_0 rfl rfl ?_
  refine rc_r_getq (pc := 1) hC rF_X3_21 dX3_buyTruce_1 h ?_
  intro x1 h
  refine rc_iload_n (pc := 4) hC dX3_buyTruce_4 rfl rfl ?_
  obtain ⟨⟨fs, ho⟩, h⟩ := h.is
  refine rc_callF (x0 := rc_xget) (y := yJ7_get) (pc := 5) hC rfl ho (rw_J7_get hH.1 x1 v1) q938 q941 q943 q128 q945 (List.mem_of_getElem? (i := 2) rfl) ⟨by decide, by decide, rd_J7_get.2.2⟩ (hH.room (Nat.le_of_ble_eq_true rfl) (Nat.le_of_ble_eq_true rfl)) rfl rfl (Nat.le_of_ble_eq_true rfl) 1 rfl h.le.2.2 h.br rfl dX3_buyTruce_5 ?_ (fun E q S hT => rc_out hC hH.2.2.2.2 hT)
  intro x2 S h
  show rc_Z Y S 10 [some (rc_q v0), some (rc_i v1), some (rc_i v2), some (rc_i v3), some (rc_i v4)] [rc_q x2]
  refine rc_r_cast (pc := 10) hC rK_X3_57 dX3_buyTruce_10 h ?_
  intro h
  refine rc_dup (pc := 13) hC dX3_buyTruce_13 rfl ?_
  refine rc_r_geti (pc := 14) hC rF_X3_133 dX3_buyTruce_14 h ?_
  intro x3 h
  refine rc_iload_n (pc := 17) hC dX3_buyTruce_17 rfl rfl ?_
  refine rc_isub (pc := 18) hC dX3_buyTruce_18 ?_
  refine rc_r_put (pc := 19) hC rP_X3_133 (nofun) dX3_buyTruce_19 h ?_
  intro S h
  refine rc_aload_n (pc := 22) hC dX3_buyTruce_22 rfl rfl ?_
  refine rc_r_getq (pc := 23) hC rF_X3_21 dX3_buyTruce_23 h ?_
  intro x4 h
  refine rc_iload_n (pc := 26) hC dX3_buyTruce_26 rfl rfl ?_
  obtain ⟨⟨fs, ho⟩, h⟩ := h.is
  refine rc_callF (x0 := rc_xget) (y := yJ7_get) (pc := 27) hC rfl ho (rw_J7_get hH.1 x4 v2) q938 q941 q943 q128 q945 (List.mem_of_getElem? (i := 2) rfl) ⟨by decide, by decide, rd_J7_get.2.2⟩ (hH.room (Nat.le_of_ble_eq_true rfl) (Nat.le_of_ble_eq_true rfl)) rfl rfl (Nat.le_of_ble_eq_true rfl) 1 rfl h.le.2.2 h.br rfl dX3_buyTruce_27 ?_ (fun E q S hT => rc_out hC hH.2.2.2.2 hT)
  intro x5 S h
  show rc_Z Y S 32 [some (rc_q v0), some (rc_i v1), some (rc_i v2), some (rc_i v3), some (rc_i v4)] [rc_q x5]
  refine rc_r_cast (pc := 32) hC rK_X3_57 dX3_buyTruce_32 h ?_
  intro h
  refine rc_dup (pc := 35) hC dX3_buyTruce_35 rfl ?_
  refine rc_r_geti (pc := 36) hC rF_X3_133 dX3_buyTruce_36 h ?_
  intro x6 h
  refine rc_iload_n (pc := 39) hC dX3_buyTruce_39 rfl rfl ?_
  refine rc_iadd (pc := 40) hC dX3_buyTruce_40 ?_
  refine rc_r_put (pc := 41) hC rP_X3_133 (nofun) dX3_buyTruce_41 h ?_
  intro S h
  refine rc_aload_n (pc := 44) hC dX3_buyTruce_44 rfl rfl ?_
  refine rc_r_getq (pc := 45) hC rF_X3_24 dX3_buyTruce_45 h ?_
  intro x7 h
  refine rc_iload_n (pc := 48) hC dX3_buyTruce_48 rfl rfl ?_
  refine rc_bipush (pc := 49) hC (v := (8 : Int32)) dX3_buyTruce_49 rfl ?_
  refine rc_imul (pc := 51) hC dX3_buyTruce_51 ?_
  refine rc_iload_n (pc := 52) hC dX3_buyTruce_52 rfl rfl ?_
  refine rc_iadd (pc := 53) hC dX3_buyTruce_53 ?_
  refine rc_aload_n (pc := 54) hC dX3_buyTruce_54 rfl rfl ?_
  refine rc_r_geti (pc := 55) hC rF_X3_72 dX3_buyTruce_55 h ?_
  intro x8 h
  refine rc_iload (pc := 58) hC dX3_buyTruce_58 rfl ?_
  refine rc_iadd (pc := 60) hC dX3_buyTruce_60 ?_
  refine rc_r_iast (pc := 61) hC dX3_buyTruce_61 h ?_
  intro S h
  refine rc_aload_n (pc := 62) hC dX3_buyTruce_62 rfl rfl ?_
  refine rc_r_getq (pc := 63) hC rF_X3_24 dX3_buyTruce_63 h ?_
  intro x9 h
  refine rc_iload_n (pc := 66) hC dX3_buyTruce_66 rfl rfl ?_
  refine rc_bipush (pc := 67) hC (v := (8 : Int32)) dX3_buyTruce_67 rfl ?_
  refine rc_imul (pc := 69) hC dX3_buyTruce_69 ?_
  refine rc_iload_n (pc := 70) hC dX3_buyTruce_70 rfl rfl ?_
  refine rc_iadd (pc := 71) hC dX3_buyTruce_71 ?_
  refine rc_aload_n (pc := 72) hC dX3_buyTruce_72 rfl rfl ?_
  refine rc_r_geti (pc := 73) hC rF_X3_72 dX3_buyTruce_73 h ?_
  intro x10 h
  refine rc_iload (pc := 76) hC dX3_buyTruce_76 rfl ?_
  refine rc_iadd (pc := 78) hC dX3_buyTruce_78 ?_
  refine rc_r_iast (pc := 79) hC dX3_buyTruce_79 h ?_
  intro S h
  refine rc_aload_n (pc := 80) hC dX3_buyTruce_80 rfl rfl ?_
  refine rc_r_geti (pc := 81) hC rF_X3_72 dX3_buyTruce_81 h ?_
  intro x11 h
  refine rc_iload (pc := 84) hC dX3_buyTruce_84 rfl ?_
  refine rc_iadd (pc := 86) hC dX3_buyTruce_86 ?_
  exact rc_iret hC rfl rfl dX3_buyTruce_87 h rfl
theorem rw_X3_canNominate {l : Launch} (hl : l.stackTraces = false) (v0 : Option Nat) : rc_Ct l yX3_canNominate (ws_ yX3_canNominate cX3_canNominate 1 (Option.some Jvm.ClassFile.FieldType.boolean)) 1 20 rc_tI (rp_X3_canNominate v0) [rc_q v0] := by
  refine rc_Ct_H hl (plainFor_of_name rY_X3) rfl (Nat.le_of_ble_eq_true rfl) (L0 := [some (rc_q v0)]) rfl ?_
  intro Y S hC hH h
  have hC : rc_C Y cX3_canNominate RX3 (Option.some Jvm.ClassFile.FieldType.boolean) 1 := hC
  unfold rp_X3_canNominate at h
  refine rc_aload_n (pc := 0) hC dX3_canNominate_0 rfl rfl ?_
  refine rc_r_getq (pc := 1) hC rF_X3_68 dX3_canNominate_1 h ?_
  intro x1 h
  refine rc_ifnonnull (pc := 4) (tgt := 37) hC dX3_canNominate_4 rfl h ?_ ?_
  · intro _ h
    refine rc_iconst (pc := 37) hC (v := (0 : Int32)) dX3_canNominate_37 rfl ?_
    exact rc_iret hC rfl rfl dX3_canNominate_38 h rfl
  intro _ h
  refine rc_aload_n (pc := 7) hC dX3_canNominate_7 rfl rfl ?_
  refine rc_r_getq (pc := 8) hC rF_X3_21 dX3_canNominate_8 h ?_
  intro x2 h
  obtain ⟨⟨fs, ho⟩, h⟩ := h.is
  refine rc_callF (x0 := rc_xempty) (y := yJ7_isEmpty) (pc := 11) hC rfl ho (rw_J7_isEmpty hH.1 x2) q1101 q1104 q1106 q128 q1108 (List.mem_of_getElem? (i := 3) rfl) ⟨by decide, by decide, rd_J7_isEmpty.2.2⟩ (hH.room (Nat.le_of_ble_eq_true rfl) (Nat.le_of_ble_eq_true rfl)) rfl rfl (Nat.le_of_ble_eq_true rfl) 0 rfl h.le.2.2 h.br rfl dX3_canNominate_11 ?_ (fun E q S hT => rc_out hC hH.2.2.2.2 hT)
  intro x3 S h
  show rc_Z Y S 16 [some (rc_q v0)] [rc_i x3]
  refine rc_if_ne (pc := 16) (tgt := 37) hC dX3_canNominate_16 rfl h ?_ ?_
  · intro _ h
    refine rc_iconst (pc := 37) hC (v := (0 : Int32)) dX3_canNominate_37 rfl ?_
    exact rc_iret hC rfl rfl dX3_canNominate_38 h rfl
  intro _ h
  refine rc_aload_n (pc := 19) hC dX3_canNominate_19 rfl rfl ?_
  refine rc_r_getq (pc := 20) hC rF_X3_21 dX3_canNominate_20 h ?_
  intro x4 h
  obtain ⟨⟨fs, ho⟩, h⟩ := h.is
  refine rc_callF (x0 := rc_xsize) (y := yJ7_size) (pc := 23) hC rfl ho (rw_J7_size hH.1 x4) q936 q823 q825 q128 q827 (List.mem_of_getElem? (i := 0) rfl) ⟨by decide, by decide, rd_J7_size.2.2⟩ (hH.room (Nat.le_of_ble_eq_true rfl) (Nat.le_of_ble_eq_true rfl)) rfl rfl (Nat.le_of_ble_eq_true rfl) 0 rfl h.le.2.2 h.br rfl dX3_canNominate_23 ?_ (fun E q S hT => rc_out hC hH.2.2.2.2 hT)
  intro x5 S h
  show rc_Z Y S 28 [some (rc_q v0)] [rc_i x5]
  refine rc_bipush (pc := 28) hC (v := (8 : Int32)) dX3_canNominate_28 rfl ?_
  refine rc_icmp_ge (pc := 30) (tgt := 37) hC dX3_canNominate_30 rfl h ?_ ?_
  · intro _ h
    refine rc_iconst (pc := 37) hC (v := (0 : Int32)) dX3_canNominate_37 rfl ?_
    exact rc_iret hC rfl rfl dX3_canNominate_38 h rfl
  intro _ h
  refine rc_iconst (pc := 33) hC (v := (1 : Int32)) dX3_canNominate_33 rfl ?_
  refine rc_goto (pc := 34) (tgt := 38) hC dX3_canNominate_34 rfl ?_
  exact rc_iret hC rfl rfl dX3_canNominate_38 h rfl
theorem rw_X8_init {l : Launch} (hl : l.stackTraces = false) (v0 : Option Nat) (v1 : Int32) (v2 : Int32) (v3 : Int32) (v4 : Int32) : rc_Ct l yX8_init (ws_ yX8_init cX8_init 5 (Option.none : Option Jvm.ClassFile.FieldType)) 2 40 rc_tU (rp_X8_init v0 v1 v2 v3 v4) [rc_q v0, rc_i v1, rc_i v2, rc_i v3, rc_i v4] := by
  refine rc_Ct_H hl (plainFor_of_name rY_X8) rfl (Nat.le_of_ble_eq_true rfl) (L0 := [some (rc_q v0), some (rc_i v1), some (rc_i v2), some (rc_i v3), some (rc_i v4)]) rfl ?_
  intro Y S hC hH h
  have hC : rc_C Y cX8_init RX8 (Option.none : Option Jvm.ClassFile.FieldType) 5 := hC
  unfold rp_X8_init at h
  refine rc_aload_n (pc := 0) hC dX8_init_0 rfl rfl ?_
  obtain ⟨⟨b9, ho⟩, h⟩ := h.nn
  refine rc_callI (pc := 1) hC ho (rw_J18_init hH.1 v0) q1118 q918 q143 q919 rfl rfl rd_J18_init (hH.room (Nat.le_of_ble_eq_true rfl) (Nat.le_of_ble_eq_true rfl)) rfl rfl (Nat.le_of_ble_eq_true rfl) 0 rfl h.le.2.2 h.br rfl dX8_init_1 ?_ (fun E q S hT => rc_out hC hH.2.2.2.2 hT)
  intro _ S h
  show rc_Z Y S 4 [some (rc_q v0), some (rc_i v1), some (rc_i v2), some (rc_i v3), some (rc_i v4)] []
  refine rc_aload_n (pc := 4) hC dX8_init_4 rfl rfl ?_
  refine rc_iload_n (pc := 5) hC dX8_init_5 rfl rfl ?_
  refine rc_r_put (pc := 6) hC rP_X8_7 (fun _ => hH.2.1) dX8_init_6 h ?_
  intro S h
  refine rc_aload_n (pc := 9) hC dX8_init_9 rfl rfl ?_
  refine rc_iload_n (pc := 10) hC dX8_init_10 rfl rfl ?_
  refine rc_r_put (pc := 11) hC rP_X8_13 (fun _ => hH.2.1) dX8_init_11 h ?_
  intro S h
  refine rc_aload_n (pc := 14) hC dX8_init_14 rfl rfl ?_
  refine rc_iload_n (pc := 15) hC dX8_init_15 rfl rfl ?_
  refine rc_r_put (pc := 16) hC rP_X8_16 (fun _ => hH.2.1) dX8_init_16 h ?_
  intro S h
  refine rc_aload_n (pc := 19) hC dX8_init_19 rfl rfl ?_
  refine rc_iload (pc := 20) hC dX8_init_20 rfl ?_
  refine rc_r_put (pc := 22) hC rP_X8_19 (fun _ => hH.2.1) dX8_init_22 h ?_
  intro S h
  exact rc_vret hC rfl dX8_init_25 h rfl
theorem rw_X3_nominate {l : Launch} (hl : l.stackTraces = false) (v0 : Option Nat) (v1 : Int32) (v2 : Int32) : rc_Ct l yX3_nominate (ws_ yX3_nominate cX3_nominate 3 (Option.some Jvm.ClassFile.FieldType.int)) 3 64 rc_tI (rp_X3_nominate v0 v1 v2) [rc_q v0, rc_i v1, rc_i v2] := by
  refine rc_Ct_H hl (plainFor_of_name rY_X3) rfl (Nat.le_of_ble_eq_true rfl) (L0 := [some (rc_q v0), some (rc_i v1), some (rc_i v2)]) rfl ?_
  intro Y S hC hH h
  have hC : rc_C Y cX3_nominate RX3 (Option.some Jvm.ClassFile.FieldType.int) 3 := hC
  unfold rp_X3_nominate at h
  refine rc_aload_n (pc := 0) hC dX3_nominate_0 rfl rfl ?_
  refine rc_r_new (pc := 1) hC rN_X3_182 dX3_nominate_1 h ?_
  intro x1 S h
  refine rc_dup (pc := 4) hC dX3_nominate_4 rfl ?_
  refine rc_iload_n (pc := 5) hC dX3_nominate_5 rfl rfl ?_
  refine rc_iload_n (pc := 6) hC dX3_nominate_6 rfl rfl ?_
  refine rc_iconst (pc := 7) hC (v := (0 : Int32)) dX3_nominate_7 rfl ?_
  refine rc_iconst (pc := 8) hC (v := (0 : Int32)) dX3_nominate_8 rfl ?_
  obtain ⟨⟨b9, ho⟩, h⟩ := h.nn
  refine rc_callIN (pc := 9) hC ho (rw_X8_init hH.1 x1 v1 v2 (0 : Int32) (0 : Int32)) (lw_o q1115 rfl) q1116 q147 q1117 rfl rfl rd_X8_init (hH.room (Nat.le_of_ble_eq_true rfl) (Nat.le_of_ble_eq_true rfl)) rfl rfl (Nat.le_of_ble_eq_true rfl) 4 rfl h.le.2.2 h.br rfl dX3_nominate_9 ?_ (fun E q S hT => rc_out hC hH.2.2.2.2 hT)
  intro _ S h
  show rc_Z Y S 12 [some (rc_q v0), some (rc_i v1), some (rc_i v2)] [rc_q x1, rc_q v0]
  refine rc_r_put (pc := 12) hC rP_X3_68 (nofun) dX3_nominate_12 h ?_
  intro S h
  refine rc_aload_n (pc := 15) hC dX3_nominate_15 rfl rfl ?_
  refine rc_r_getq (pc := 16) hC rF_X3_21 dX3_nominate_16 h ?_
  intro x2 h
  obtain ⟨⟨fs, ho⟩, h⟩ := h.is
  refine rc_callF (x0 := rc_xsize) (y := yJ7_size) (pc := 19) hC rfl ho (rw_J7_size hH.1 x2) q936 q823 q825 q128 q827 (List.mem_of_getElem? (i := 0) rfl) ⟨by decide, by decide, rd_J7_size.2.2⟩ (hH.room (Nat.le_of_ble_eq_true rfl) (Nat.le_of_ble_eq_true rfl)) rfl rfl (Nat.le_of_ble_eq_true rfl) 0 rfl h.le.2.2 h.br rfl dX3_nominate_19 ?_ (fun E q S hT => rc_out hC hH.2.2.2.2 hT)
  intro x3 S h
  show rc_Z Y S 24 [some (rc_q v0), some (rc_i v1), some (rc_i v2)] [rc_i x3]
  exact rc_iret hC rfl rfl dX3_nominate_24 h rfl
theorem rw_X7_eat {l : Launch} (hl : l.stackTraces = false) (v0 : Option Nat) : rc_Ct l yX7_eat (ws_ yX7_eat cX7_eat 2 (Option.some Jvm.ClassFile.FieldType.int)) 1 21 rc_tI (rp_X7_eat v0) [rc_q v0] := by
  refine rc_Ct_H hl (plainFor_of_name rY_X7) rfl (Nat.le_of_ble_eq_true rfl) (L0 := [some (rc_q v0), none]) rfl ?_
  intro Y S hC hH h
  have hC : rc_C Y cX7_eat RX7 (Option.some Jvm.ClassFile.FieldType.int) 2 := hC
  unfold rp_X7_eat at h
  refine rc_iconst (pc := 0) hC (v := (1 : Int32)) dX7_eat_0 rfl ?_
  refine rc_aload_n (pc := 1) hC dX7_eat_1 rfl rfl ?_
  refine rc_r_geti (pc := 2) hC rF_X7_9 dX7_eat_2 h ?_
  intro x1 h
  refine rc_callS (pc := 5) hC (rw_J17_min hH.1 (1 : Int32) x1) q1087 q466 q139 q467 rd_J17_min (hH.room (Nat.le_of_ble_eq_true rfl) (Nat.le_of_ble_eq_true rfl)) rfl rfl (Nat.le_of_ble_eq_true rfl) 2 rfl h.le.2.2 h.br rfl dX7_eat_5 ?_ (fun E q S hT => rc_out hC hH.2.2.2.2 hT)
  intro x2 S h
  show rc_Z Y S 8 [some (rc_q v0), none] [rc_i x2]
  refine rc_istore_n (pc := 8) hC (L' := [some (rc_q v0), some (rc_i x2)]) dX7_eat_8 rfl (Nat.le_of_ble_eq_true rfl) rfl rfl ?_
  refine rc_aload_n (pc := 9) hC dX7_eat_9 rfl rfl ?_
  refine rc_dup (pc := 10) hC dX7_eat_10 rfl ?_
  refine rc_r_geti (pc := 11) hC rF_X7_9 dX7_eat_11 h ?_
  intro x3 h
  refine rc_iload_n (pc := 14) hC dX7_eat_14 rfl rfl ?_
  refine rc_isub (pc := 15) hC dX7_eat_15 ?_
  refine rc_r_put (pc := 16) hC rP_X7_9 (nofun) dX7_eat_16 h ?_
  intro S h
  refine rc_iload_n (pc := 19) hC dX7_eat_19 rfl rfl ?_
  exact rc_iret hC rfl rfl dX7_eat_20 h rfl
theorem rw_X3_singTogether_L2 {Y : rc_Y} (hC : rc_C Y cX3_singTogether RX3 (Option.some Jvm.ClassFile.FieldType.boolean) 4) (hH : rc_H Y 3 64 yX3_singTogether.name) : ∀ (n : Nat) (v0 : Option Nat) (v1 : Int32) (v2 : Int32) (v3 : Int32) (S : rc_S), rc_Go Y rc_tI (rp_X3_singTogether_L2  n v0 v1 v2 v3) S → rc_Z Y S 2 [some (rc_q v0), some (rc_i v1), some (rc_i v2), some (rc_i v3)] [] := by
  intro n
  induction n with
  | zero => intro v0 v1 v2 v3 S h; exact h.fail.elim
  | succ n ih =>
    intro v0 v1 v2 v3 S h
    rw [rp_X3_singTogether_L2] at h
    refine rc_iload_n (pc := 2) hC dX3_singTogether_2 rfl rfl ?_
    refine rc_aload_n (pc := 3) hC dX3_singTogether_3 rfl rfl ?_
    refine rc_r_getq (pc := 4) hC rF_X3_18 dX3_singTogether_4 h ?_
    intro x1 h
    obtain ⟨⟨fs, ho⟩, h⟩ := h.is
    refine rc_callF (x0 := rc_xsize) (y := yJ7_size) (pc := 7) hC rfl ho (rw_J7_size hH.1 x1) q936 q823 q825 q128 q827 (List.mem_of_getElem? (i := 0) rfl) ⟨by decide, by decide, rd_J7_size.2.2⟩ (hH.room (Nat.le_of_ble_eq_true rfl) (Nat.le_of_ble_eq_true rfl)) rfl rfl (Nat.le_of_ble_eq_true rfl) 0 rfl h.le.2.2 h.br rfl dX3_singTogether_7 ?_ (fun E q S hT => rc_out hC hH.2.2.2.2 hT)
    intro x2 S h
    show rc_Z Y S 12 [some (rc_q v0), some (rc_i v1), some (rc_i v2), some (rc_i v3)] [rc_i x2, rc_i v3]
    refine rc_icmp_ge (pc := 12) (tgt := 74) hC dX3_singTogether_12 rfl h ?_ ?_
    · intro _ h
      refine rc_iconst (pc := 74) hC (v := (0 : Int32)) dX3_singTogether_74 rfl ?_
      exact rc_iret hC rfl rfl dX3_singTogether_75 h rfl
    intro _ h
    refine rc_aload_n (pc := 15) hC dX3_singTogether_15 rfl rfl ?_
    refine rc_r_getq (pc := 16) hC rF_X3_18 dX3_singTogether_16 h ?_
    intro x3 h
    refine rc_iload_n (pc := 19) hC dX3_singTogether_19 rfl rfl ?_
    obtain ⟨⟨fs, ho⟩, h⟩ := h.is
    refine rc_callF (x0 := rc_xget) (y := yJ7_get) (pc := 20) hC rfl ho (rw_J7_get hH.1 x3 v3) q938 q941 q943 q128 q945 (List.mem_of_getElem? (i := 2) rfl) ⟨by decide, by decide, rd_J7_get.2.2⟩ (hH.room (Nat.le_of_ble_eq_true rfl) (Nat.le_of_ble_eq_true rfl)) rfl rfl (Nat.le_of_ble_eq_true rfl) 1 rfl h.le.2.2 h.br rfl dX3_singTogether_20 ?_ (fun E q S hT => rc_out hC hH.2.2.2.2 hT)
    intro x4 S h
    show rc_Z Y S 25 [some (rc_q v0), some (rc_i v1), some (rc_i v2), some (rc_i v3)] [rc_q x4]
    refine rc_r_cast (pc := 25) hC rK_X3_55 dX3_singTogether_25 h ?_
    intro h
    refine rc_aload_n (pc := 28) hC dX3_singTogether_28 rfl rfl ?_
    refine rc_r_getq (pc := 29) hC rF_X3_21 dX3_singTogether_29 h ?_
    intro x5 h
    refine rc_iload_n (pc := 32) hC dX3_singTogether_32 rfl rfl ?_
    obtain ⟨⟨fs, ho⟩, h⟩ := h.is
    refine rc_callF (x0 := rc_xget) (y := yJ7_get) (pc := 33) hC rfl ho (rw_J7_get hH.1 x5 v1) q938 q941 q943 q128 q945 (List.mem_of_getElem? (i := 2) rfl) ⟨by decide, by decide, rd_J7_get.2.2⟩ (hH.room (Nat.le_of_ble_eq_true rfl) (Nat.le_of_ble_eq_true rfl)) rfl rfl (Nat.le_of_ble_eq_true rfl) 1 rfl h.le.2.2 h.br rfl dX3_singTogether_33 ?_ (fun E q S hT => rc_out hC hH.2.2.2.2 hT)
    intro x6 S h
    show rc_Z Y S 38 [some (rc_q v0), some (rc_i v1), some (rc_i v2), some (rc_i v3)] [rc_q x6, rc_q x4]
    refine rc_r_cast (pc := 38) hC rK_X3_57 dX3_singTogether_38 h ?_
    intro h
    refine rc_r_geti (pc := 41) hC rF_X3_90 dX3_singTogether_41 h ?_
    intro x7 h
    refine rc_aload_n (pc := 44) hC dX3_singTogether_44 rfl rfl ?_
    refine rc_r_getq (pc := 45) hC rF_X3_21 dX3_singTogether_45 h ?_
    intro x8 h
    refine rc_iload_n (pc := 48) hC dX3_singTogether_48 rfl rfl ?_
    obtain ⟨⟨fs, ho⟩, h⟩ := h.is
    refine rc_callF (x0 := rc_xget) (y := yJ7_get) (pc := 49) hC rfl ho (rw_J7_get hH.1 x8 v2) q938 q941 q943 q128 q945 (List.mem_of_getElem? (i := 2) rfl) ⟨by decide, by decide, rd_J7_get.2.2⟩ (hH.room (Nat.le_of_ble_eq_true rfl) (Nat.le_of_ble_eq_true rfl)) rfl rfl (Nat.le_of_ble_eq_true rfl) 1 rfl h.le.2.2 h.br rfl dX3_singTogether_49 ?_ (fun E q S hT => rc_out hC hH.2.2.2.2 hT)
    intro x9 S h
    show rc_Z Y S 54 [some (rc_q v0), some (rc_i v1), some (rc_i v2), some (rc_i v3)] [rc_q x9, rc_i x7, rc_q x4]
    refine rc_r_cast (pc := 54) hC rK_X3_57 dX3_singTogether_54 h ?_
    intro h
    refine rc_r_geti (pc := 57) hC rF_X3_90 dX3_singTogether_57 h ?_
    intro x10 h
    obtain ⟨⟨fs, ho⟩, h⟩ := h.is
    refine rc_callV (pc := 60) hC rfl ho (rw_X6_connects hH.1 x4 x7 x10) q1066 q1067 q1068 q144 q1069 rfl rd_X6_connects (hH.room (Nat.le_of_ble_eq_true rfl) (Nat.le_of_ble_eq_true rfl)) rfl rfl (Nat.le_of_ble_eq_true rfl) 2 rfl h.le.2.2 h.br rfl dX3_singTogether_60 ?_ (fun E q S hT => rc_out hC hH.2.2.2.2 hT)
    intro x11 S h
    show rc_Z Y S 63 [some (rc_q v0), some (rc_i v1), some (rc_i v2), some (rc_i v3)] [rc_i x11]
    refine rc_if_eq (pc := 63) (tgt := 68) hC dX3_singTogether_63 rfl h ?_ ?_
    · intro _ h
      refine rc_iinc (pc := 68) hC (v := (v3 + (1 : Int32))) (L' := [some (rc_q v0), some (rc_i v1), some (rc_i v2), some (rc_i (v3 + (1 : Int32)))]) dX3_singTogether_68 rfl rfl rfl rfl ?_
      refine rc_goto (pc := 71) (tgt := 2) hC dX3_singTogether_71 rfl ?_
      exact ih v0 v1 v2 (v3 + (1 : Int32)) S h
    intro _ h
    refine rc_iconst (pc := 66) hC (v := (1 : Int32)) dX3_singTogether_66 rfl ?_
    exact rc_iret hC rfl rfl dX3_singTogether_67 h rfl
theorem rw_X3_singTogether {l : Launch} (hl : l.stackTraces = false) (v0 : Option Nat) (v1 : Int32) (v2 : Int32) : rc_Ct l yX3_singTogether (ws_ yX3_singTogether cX3_singTogether 4 (Option.some Jvm.ClassFile.FieldType.boolean)) 3 64 rc_tI (rp_X3_singTogether v0 v1 v2) [rc_q v0, rc_i v1, rc_i v2] := by
  refine rc_Ct_H hl (plainFor_of_name rY_X3) rfl (Nat.le_of_ble_eq_true rfl) (L0 := [some (rc_q v0), some (rc_i v1), some (rc_i v2), none]) rfl ?_
  intro Y S hC hH h
  have hC : rc_C Y cX3_singTogether RX3 (Option.some Jvm.ClassFile.FieldType.boolean) 4 := hC
  unfold rp_X3_singTogether at h
  refine rc_iconst (pc := 0) hC (v := (0 : Int32)) dX3_singTogether_0 rfl ?_
  refine rc_istore_n (pc := 1) hC (L' := [some (rc_q v0), some (rc_i v1), some (rc_i v2), some (rc_i (0 : Int32))]) dX3_singTogether_1 rfl (Nat.le_of_ble_eq_true rfl) rfl rfl ?_
  refine rc_r_fuel h ?_
  intro x1 h
  exact rw_X3_singTogether_L2 hC hH  x1 v0 v1 v2 (0 : Int32) S h
theorem rw_X3_choir_L75 {Y : rc_Y} (hC : rc_C Y cX3_choir RX3 (Option.some Jvm.ClassFile.FieldType.int) 6) (hH : rc_H Y 4 87 yX3_choir.name) {k6 : Option Nat → Int32 → Int32 → rc_M Int32} (hk6 : ∀ (v0 : Option Nat) (v2 : Int32) (v3 : Int32) (S : rc_S), rc_Go Y rc_tI (k6 v0 v2 v3) S → rc_Z Y S 6 [some (rc_q v0), none, some (rc_i v2), some (rc_i v3), none, none] []) {k16 : Option Nat → Int32 → Int32 → Int32 → rc_M Int32} (hk16 : ∀ (v0 : Option Nat) (v2 : Int32) (v3 : Int32) (v4 : Int32) (S : rc_S), rc_Go Y rc_tI (k16 v0 v2 v3 v4) S → rc_Z Y S 16 [some (rc_q v0), none, some (rc_i v2), some (rc_i v3), some (rc_i v4), none] []) {k33 : Option Nat → Int32 → Int32 → Int32 → Int32 → rc_M Int32} (hk33 : ∀ (v0 : Option Nat) (v2 : Int32) (v3 : Int32) (v4 : Int32) (v5 : Int32) (S : rc_S), rc_Go Y rc_tI (k33 v0 v2 v3 v4 v5) S → rc_Z Y S 33 [some (rc_q v0), none, some (rc_i v2), some (rc_i v3), some (rc_i v4), some (rc_i v5)] []) (v0 : Option Nat) (v2 : Int32) (v3 : Int32) (v4 : Int32) (v5 : Int32) (S : rc_S) (h : rc_Go Y rc_tI (rp_X3_choir_L75 k6 k16 k33 v0 v2 v3 v4 v5) S) : rc_Z Y S 75 [some (rc_q v0), none, some (rc_i v2), some (rc_i v3), some (rc_i v4), some (rc_i v5)] [] := by
  unfold rp_X3_choir_L75 at h
  refine rc_iinc (pc := 75) hC (v := (v5 + (1 : Int32))) (L' := [some (rc_q v0), none, some (rc_i v2), some (rc_i v3), some (rc_i v4), some (rc_i (v5 + (1 : Int32)))]) dX3_choir_75 rfl rfl rfl rfl ?_
  refine rc_goto (pc := 78) (tgt := 33) hC dX3_choir_78 rfl ?_
  exact hk33 v0 v2 v3 v4 (v5 + (1 : Int32)) S h
theorem rw_X3_choir_L33 {Y : rc_Y} (hC : rc_C Y cX3_choir RX3 (Option.some Jvm.ClassFile.FieldType.int) 6) (hH : rc_H Y 4 87 yX3_choir.name) {k6 : Option Nat → Int32 → Int32 → rc_M Int32} (hk6 : ∀ (v0 : Option Nat) (v2 : Int32) (v3 : Int32) (S : rc_S), rc_Go Y rc_tI (k6 v0 v2 v3) S → rc_Z Y S 6 [some (rc_q v0), none, some (rc_i v2), some (rc_i v3), none, none] []) {k16 : Option Nat → Int32 → Int32 → Int32 → rc_M Int32} (hk16 : ∀ (v0 : Option Nat) (v2 : Int32) (v3 : Int32) (v4 : Int32) (S : rc_S), rc_Go Y rc_tI (k16 v0 v2 v3 v4) S → rc_Z Y S 16 [some (rc_q v0), none, some (rc_i v2), some (rc_i v3), some (rc_i v4), none] []) : ∀ (n : Nat) (v0 : Option Nat) (v2 : Int32) (v3 : Int32) (v4 : Int32) (v5 : Int32) (S : rc_S), rc_Go Y rc_tI (rp_X3_choir_L33 k6 k16 n v0 v2 v3 v4 v5) S → rc_Z Y S 33 [some (rc_q v0), none, some (rc_i v2), some (rc_i v3), some (rc_i v4), some (rc_i v5)] [] := by
  intro n
  induction n with
  | zero => intro v0 v2 v3 v4 v5 S h; exact h.fail.elim
  | succ n ih =>
    intro v0 v2 v3 v4 v5 S h
    rw [rp_X3_choir_L33] at h
    refine rc_iload (pc := 33) hC dX3_choir_33 rfl ?_
    refine rc_aload_n (pc := 35) hC dX3_choir_35 rfl rfl ?_
    refine rc_r_getq (pc := 36) hC rF_X3_21 dX3_choir_36 h ?_
    intro x1 h
    obtain ⟨⟨fs, ho⟩, h⟩ := h.is
    refine rc_callF (x0 := rc_xsize) (y := yJ7_size) (pc := 39) hC rfl ho (rw_J7_size hH.1 x1) q936 q823 q825 q128 q827 (List.mem_of_getElem? (i := 0) rfl) ⟨by decide, by decide, rd_J7_size.2.2⟩ (hH.room (Nat.le_of_ble_eq_true rfl) (Nat.le_of_ble_eq_true rfl)) rfl rfl (Nat.le_of_ble_eq_true rfl) 0 rfl h.le.2.2 h.br rfl dX3_choir_39 ?_ (fun E q S hT => rc_out hC hH.2.2.2.2 hT)
    intro x2 S h
    show rc_Z Y S 44 [some (rc_q v0), none, some (rc_i v2), some (rc_i v3), some (rc_i v4), some (rc_i v5)] [rc_i x2, rc_i v5]
    refine rc_icmp_ge (pc := 44) (tgt := 81) hC dX3_choir_44 rfl h ?_ ?_
    · intro _ h
      refine rc_iinc (pc := 81) hC (v := (v4 + (1 : Int32))) (L' := [some (rc_q v0), none, some (rc_i v2), some (rc_i v3), some (rc_i (v4 + (1 : Int32))), some (rc_i v5)]) dX3_choir_81 rfl rfl rfl rfl ?_
      refine rc_goto (pc := 84) (tgt := 16) hC dX3_choir_84 rfl ?_
      refine rc_drop [true, false, true, true, true, false] (L' := [some (rc_q v0), none, some (rc_i v2), some (rc_i v3), some (rc_i (v4 + (1 : Int32))), none]) rfl ?_
      exact hk16 v0 v2 v3 (v4 + (1 : Int32)) S h
    intro _ h
    refine rc_iload_n (pc := 47) hC dX3_choir_47 rfl rfl ?_
    refine rc_iload (pc := 48) hC dX3_choir_48 rfl ?_
    refine rc_ishr (pc := 50) hC dX3_choir_50 ?_
    refine rc_iconst (pc := 51) hC (v := (1 : Int32)) dX3_choir_51 rfl ?_
    refine rc_iand (pc := 52) hC dX3_choir_52 ?_
    refine rc_iconst (pc := 53) hC (v := (1 : Int32)) dX3_choir_53 rfl ?_
    refine rc_icmp_ne (pc := 54) (tgt := 75) hC dX3_choir_54 rfl h ?_ ?_
    · intro _ h
      exact rw_X3_choir_L75 hC hH hk6 hk16 ih v0 v2 v3 v4 v5 S h
    intro _ h
    refine rc_aload_n (pc := 57) hC dX3_choir_57 rfl rfl ?_
    refine rc_iload (pc := 58) hC dX3_choir_58 rfl ?_
    refine rc_iload (pc := 60) hC dX3_choir_60 rfl ?_
    obtain ⟨⟨fs, ho⟩, h⟩ := h.is
    refine rc_callV (pc := 62) hC rfl ho (rw_X3_singTogether hH.1 v0 v4 v5) q1152 q1153 q1154 q126 q1155 rfl rd_X3_singTogether (hH.room (Nat.le_of_ble_eq_true rfl) (Nat.le_of_ble_eq_true rfl)) rfl rfl (Nat.le_of_ble_eq_true rfl) 2 rfl h.le.2.2 h.br rfl dX3_choir_62 ?_ (fun E q S hT => rc_out hC hH.2.2.2.2 hT)
    intro x3 S h
    show rc_Z Y S 65 [some (rc_q v0), none, some (rc_i v2), some (rc_i v3), some (rc_i v4), some (rc_i v5)] [rc_i x3]
    refine rc_if_eq (pc := 65) (tgt := 75) hC dX3_choir_65 rfl h ?_ ?_
    · intro _ h
      exact rw_X3_choir_L75 hC hH hk6 hk16 ih v0 v2 v3 v4 v5 S h
    intro _ h
    refine rc_iload_n (pc := 68) hC dX3_choir_68 rfl rfl ?_
    refine rc_iconst (pc := 69) hC (v := (1 : Int32)) dX3_choir_69 rfl ?_
    refine rc_iload (pc := 70) hC dX3_choir_70 rfl ?_
    refine rc_ishl (pc := 72) hC dX3_choir_72 ?_
    refine rc_ior (pc := 73) hC dX3_choir_73 ?_
    refine rc_istore_n (pc := 74) hC (L' := [some (rc_q v0), none, some (rc_i v2), some (rc_i (v3 ||| ((1 : Int32) <<< (v5 &&& 31)))), some (rc_i v4), some (rc_i v5)]) dX3_choir_74 rfl (Nat.le_of_ble_eq_true rfl) rfl rfl ?_
    exact rw_X3_choir_L75 hC hH hk6 hk16 ih v0 v2 (v3 ||| ((1 : Int32) <<< (v5 &&& 31))) v4 v5 S h
theorem rw_X3_choir_L16 {Y : rc_Y} (hC : rc_C Y cX3_choir RX3 (Option.some Jvm.ClassFile.FieldType.int) 6) (hH : rc_H Y 4 87 yX3_choir.name) {k6 : Option Nat → Int32 → Int32 → rc_M Int32} (hk6 : ∀ (v0 : Option Nat) (v2 : Int32) (v3 : Int32) (S : rc_S), rc_Go Y rc_tI (k6 v0 v2 v3) S → rc_Z Y S 6 [some (rc_q v0), none, some (rc_i v2), some (rc_i v3), none, none] []) : ∀ (n : Nat) (v0 : Option Nat) (v2 : Int32) (v3 : Int32) (v4 : Int32) (S : rc_S), rc_Go Y rc_tI (rp_X3_choir_L16 k6 n v0 v2 v3 v4) S → rc_Z Y S 16 [some (rc_q v0), none, some (rc_i v2), some (rc_i v3), some (rc_i v4), none] [] := by
  intro n
  induction n with
  | zero => intro v0 v2 v3 v4 S h; exact h.fail.elim
  | succ n ih =>
    intro v0 v2 v3 v4 S h
    rw [rp_X3_choir_L16] at h
    refine rc_iload (pc := 16) hC dX3_choir_16 rfl ?_
    refine rc_aload_n (pc := 18) hC dX3_choir_18 rfl rfl ?_
    refine rc_r_getq (pc := 19) hC rF_X3_21 dX3_choir_19 h ?_
    intro x1 h
    obtain ⟨⟨fs, ho⟩, h⟩ := h.is
    refine rc_callF (x0 := rc_xsize) (y := yJ7_size) (pc := 22) hC rfl ho (rw_J7_size hH.1 x1) q936 q823 q825 q128 q827 (List.mem_of_getElem? (i := 0) rfl) ⟨by decide, by decide, rd_J7_size.2.2⟩ (hH.room (Nat.le_of_ble_eq_true rfl) (Nat.le_of_ble_eq_true rfl)) rfl rfl (Nat.le_of_ble_eq_true rfl) 0 rfl h.le.2.2 h.br rfl dX3_choir_22 ?_ (fun E q S hT => rc_out hC hH.2.2.2.2 hT)
    intro x2 S h
    show rc_Z Y S 27 [some (rc_q v0), none, some (rc_i v2), some (rc_i v3), some (rc_i v4), none] [rc_i x2, rc_i v4]
    refine rc_icmp_ge (pc := 27) (tgt := 87) hC dX3_choir_27 rfl h ?_ ?_
    · intro _ h
      refine rc_goto (pc := 87) (tgt := 6) hC dX3_choir_87 rfl ?_
      refine rc_drop [true, false, true, true, false, false] (L' := [some (rc_q v0), none, some (rc_i v2), some (rc_i v3), none, none]) rfl ?_
      exact hk6 v0 v2 v3 S h
    intro _ h
    refine rc_iconst (pc := 30) hC (v := (0 : Int32)) dX3_choir_30 rfl ?_
    refine rc_istore (pc := 31) hC (L' := [some (rc_q v0), none, some (rc_i v2), some (rc_i v3), some (rc_i v4), some (rc_i (0 : Int32))]) dX3_choir_31 (Nat.le_of_ble_eq_true rfl) rfl rfl ?_
    refine rc_r_fuel h ?_
    intro x3 h
    exact rw_X3_choir_L33 hC hH hk6 ih x3 v0 v2 v3 v4 (0 : Int32) S h
theorem rw_X3_choir_L6 {Y : rc_Y} (hC : rc_C Y cX3_choir RX3 (Option.some Jvm.ClassFile.FieldType.int) 6) (hH : rc_H Y 4 87 yX3_choir.name) : ∀ (n : Nat) (v0 : Option Nat) (v2 : Int32) (v3 : Int32) (S : rc_S), rc_Go Y rc_tI (rp_X3_choir_L6  n v0 v2 v3) S → rc_Z Y S 6 [some (rc_q v0), none, some (rc_i v2), some (rc_i v3), none, none] [] := by
  intro n
  induction n with
  | zero => intro v0 v2 v3 S h; exact h.fail.elim
  | succ n ih =>
    intro v0 v2 v3 S h
    rw [rp_X3_choir_L6] at h
    refine rc_iload_n (pc := 6) hC dX3_choir_6 rfl rfl ?_
    refine rc_iload_n (pc := 7) hC dX3_choir_7 rfl rfl ?_
    refine rc_icmp_eq (pc := 8) (tgt := 90) hC dX3_choir_8 rfl h ?_ ?_
    · intro _ h
      refine rc_iload_n (pc := 90) hC dX3_choir_90 rfl rfl ?_
      exact rc_iret hC rfl rfl dX3_choir_91 h rfl
    intro _ h
    refine rc_iload_n (pc := 11) hC dX3_choir_11 rfl rfl ?_
    refine rc_istore_n (pc := 12) hC (L' := [some (rc_q v0), none, some (rc_i v3), some (rc_i v3), none, none]) dX3_choir_12 rfl (Nat.le_of_ble_eq_true rfl) rfl rfl ?_
    refine rc_iconst (pc := 13) hC (v := (0 : Int32)) dX3_choir_13 rfl ?_
    refine rc_istore (pc := 14) hC (L' := [some (rc_q v0), none, some (rc_i v3), some (rc_i v3), some (rc_i (0 : Int32)), none]) dX3_choir_14 (Nat.le_of_ble_eq_true rfl) rfl rfl ?_
    refine rc_r_fuel h ?_
    intro x1 h
    exact rw_X3_choir_L16 hC hH ih x1 v0 v3 v3 (0 : Int32) S h
theorem rw_X3_choir {l : Launch} (hl : l.stackTraces = false) (v0 : Option Nat) (v1 : Int32) : rc_Ct l yX3_choir (ws_ yX3_choir cX3_choir 6 (Option.some Jvm.ClassFile.FieldType.int)) 4 87 rc_tI (rp_X3_choir v0 v1) [rc_q v0, rc_i v1] := by
  refine rc_Ct_H hl (plainFor_of_name rY_X3) rfl (Nat.le_of_ble_eq_true rfl) (L0 := [some (rc_q v0), some (rc_i v1), none, none, none, none]) rfl ?_
  intro Y S hC hH h
  have hC : rc_C Y cX3_choir RX3 (Option.some Jvm.ClassFile.FieldType.int) 6 := hC
  unfold rp_X3_choir at h
  refine rc_iconst (pc := 0) hC (v := (0 : Int32)) dX3_choir_0 rfl ?_
  refine rc_istore_n (pc := 1) hC (L' := [some (rc_q v0), some (rc_i v1), some (rc_i (0 : Int32)), none, none, none]) dX3_choir_1 rfl (Nat.le_of_ble_eq_true rfl) rfl rfl ?_
  refine rc_iconst (pc := 2) hC (v := (1 : Int32)) dX3_choir_2 rfl ?_
  refine rc_iload_n (pc := 3) hC dX3_choir_3 rfl rfl ?_
  refine rc_ishl (pc := 4) hC dX3_choir_4 ?_
  refine rc_istore_n (pc := 5) hC (L' := [some (rc_q v0), some (rc_i v1), some (rc_i (0 : Int32)), some (rc_i ((1 : Int32) <<< (v1 &&& 31))), none, none]) dX3_choir_5 rfl (Nat.le_of_ble_eq_true rfl) rfl rfl ?_
  refine rc_drop [true, false, true, true, false, false] (L' := [some (rc_q v0), none, some (rc_i (0 : Int32)), some (rc_i ((1 : Int32) <<< (v1 &&& 31))), none, none]) rfl ?_
  refine rc_r_fuel h ?_
  intro x1 h
  exact rw_X3_choir_L6 hC hH  x1 v0 (0 : Int32) ((1 : Int32) <<< (v1 &&& 31)) S h
theorem rw_X3_largestChoir_L36 {Y : rc_Y} (hC : rc_C Y cX3_largestChoir RX3 (Option.some Jvm.ClassFile.FieldType.int) 4) (hH : rc_H Y 5 112 yX3_largestChoir.name) {k4 : Option Nat → Int32 → Int32 → rc_M Int32} (hk4 : ∀ (v0 : Option Nat) (v1 : Int32) (v2 : Int32) (S : rc_S), rc_Go Y rc_tI (k4 v0 v1 v2) S → rc_Z Y S 4 [some (rc_q v0), some (rc_i v1), some (rc_i v2), none] []) (v0 : Option Nat) (v1 : Int32) (v2 : Int32) (S : rc_S) (h : rc_Go Y rc_tI (rp_X3_largestChoir_L36 k4 v0 v1 v2) S) : rc_Z Y S 36 [some (rc_q v0), some (rc_i v1), some (rc_i v2), none] [] := by
  unfold rp_X3_largestChoir_L36 at h
  refine rc_iinc (pc := 36) hC (v := (v2 + (1 : Int32))) (L' := [some (rc_q v0), some (rc_i v1), some (rc_i (v2 + (1 : Int32))), none]) dX3_largestChoir_36 rfl rfl rfl rfl ?_
  refine rc_goto (pc := 39) (tgt := 4) hC dX3_largestChoir_39 rfl ?_
  exact hk4 v0 v1 (v2 + (1 : Int32)) S h
theorem rw_X3_largestChoir_L4 {Y : rc_Y} (hC : rc_C Y cX3_largestChoir RX3 (Option.some Jvm.ClassFile.FieldType.int) 4) (hH : rc_H Y 5 112 yX3_largestChoir.name) : ∀ (n : Nat) (v0 : Option Nat) (v1 : Int32) (v2 : Int32) (S : rc_S), rc_Go Y rc_tI (rp_X3_largestChoir_L4  n v0 v1 v2) S → rc_Z Y S 4 [some (rc_q v0), some (rc_i v1), some (rc_i v2), none] [] := by
  intro n
  induction n with
  | zero => intro v0 v1 v2 S h; exact h.fail.elim
  | succ n ih =>
    intro v0 v1 v2 S h
    rw [rp_X3_largestChoir_L4] at h
    refine rc_iload_n (pc := 4) hC dX3_largestChoir_4 rfl rfl ?_
    refine rc_aload_n (pc := 5) hC dX3_largestChoir_5 rfl rfl ?_
    refine rc_r_getq (pc := 6) hC rF_X3_21 dX3_largestChoir_6 h ?_
    intro x1 h
    obtain ⟨⟨fs, ho⟩, h⟩ := h.is
    refine rc_callF (x0 := rc_xsize) (y := yJ7_size) (pc := 9) hC rfl ho (rw_J7_size hH.1 x1) q936 q823 q825 q128 q827 (List.mem_of_getElem? (i := 0) rfl) ⟨by decide, by decide, rd_J7_size.2.2⟩ (hH.room (Nat.le_of_ble_eq_true rfl) (Nat.le_of_ble_eq_true rfl)) rfl rfl (Nat.le_of_ble_eq_true rfl) 0 rfl h.le.2.2 h.br rfl dX3_largestChoir_9 ?_ (fun E q S hT => rc_out hC hH.2.2.2.2 hT)
    intro x2 S h
    show rc_Z Y S 14 [some (rc_q v0), some (rc_i v1), some (rc_i v2), none] [rc_i x2, rc_i v2]
    refine rc_icmp_ge (pc := 14) (tgt := 42) hC dX3_largestChoir_14 rfl h ?_ ?_
    · intro _ h
      refine rc_iload_n (pc := 42) hC dX3_largestChoir_42 rfl rfl ?_
      exact rc_iret hC rfl rfl dX3_largestChoir_43 h rfl
    intro _ h
    refine rc_aload_n (pc := 17) hC dX3_largestChoir_17 rfl rfl ?_
    refine rc_iload_n (pc := 18) hC dX3_largestChoir_18 rfl rfl ?_
    obtain ⟨⟨fs, ho⟩, h⟩ := h.is
    refine rc_callV (pc := 19) hC rfl ho (rw_X3_choir hH.1 v0 v2) q1148 q1149 q1150 q126 q1151 rfl rd_X3_choir (hH.room (Nat.le_of_ble_eq_true rfl) (Nat.le_of_ble_eq_true rfl)) rfl rfl (Nat.le_of_ble_eq_true rfl) 1 rfl h.le.2.2 h.br rfl dX3_largestChoir_19 ?_ (fun E q S hT => rc_out hC hH.2.2.2.2 hT)
    intro x3 S h
    show rc_Z Y S 22 [some (rc_q v0), some (rc_i v1), some (rc_i v2), none] [rc_i x3]
    refine rc_istore_n (pc := 22) hC (L' := [some (rc_q v0), some (rc_i v1), some (rc_i v2), some (rc_i x3)]) dX3_largestChoir_22 rfl (Nat.le_of_ble_eq_true rfl) rfl rfl ?_
    refine rc_iload_n (pc := 23) hC dX3_largestChoir_23 rfl rfl ?_
    refine rc_callS (pc := 24) hC (rw_J15_bitCount hH.1 x3) q1009 q1010 q137 q1011 rd_J15_bitCount (hH.room (Nat.le_of_ble_eq_true rfl) (Nat.le_of_ble_eq_true rfl)) rfl rfl (Nat.le_of_ble_eq_true rfl) 1 rfl h.le.2.2 h.br rfl dX3_largestChoir_24 ?_ (fun E q S hT => rc_out hC hH.2.2.2.2 hT)
    intro x4 S h
    show rc_Z Y S 27 [some (rc_q v0), some (rc_i v1), some (rc_i v2), some (rc_i x3)] [rc_i x4]
    refine rc_iload_n (pc := 27) hC dX3_largestChoir_27 rfl rfl ?_
    refine rc_callS (pc := 28) hC (rw_J15_bitCount hH.1 v1) q1009 q1010 q137 q1011 rd_J15_bitCount (hH.room (Nat.le_of_ble_eq_true rfl) (Nat.le_of_ble_eq_true rfl)) rfl rfl (Nat.le_of_ble_eq_true rfl) 1 rfl h.le.2.2 h.br rfl dX3_largestChoir_28 ?_ (fun E q S hT => rc_out hC hH.2.2.2.2 hT)
    intro x5 S h
    show rc_Z Y S 31 [some (rc_q v0), some (rc_i v1), some (rc_i v2), some (rc_i x3)] [rc_i x5, rc_i x4]
    refine rc_icmp_le (pc := 31) (tgt := 36) hC dX3_largestChoir_31 rfl h ?_ ?_
    · intro _ h
      refine rc_drop [true, true, true, false] (L' := [some (rc_q v0), some (rc_i v1), some (rc_i v2), none]) rfl ?_
      exact rw_X3_largestChoir_L36 hC hH ih v0 v1 v2 S h
    intro _ h
    refine rc_iload_n (pc := 34) hC dX3_largestChoir_34 rfl rfl ?_
    refine rc_istore_n (pc := 35) hC (L' := [some (rc_q v0), some (rc_i x3), some (rc_i v2), some (rc_i x3)]) dX3_largestChoir_35 rfl (Nat.le_of_ble_eq_true rfl) rfl rfl ?_
    refine rc_drop [true, true, true, false] (L' := [some (rc_q v0), some (rc_i x3), some (rc_i v2), none]) rfl ?_
    exact rw_X3_largestChoir_L36 hC hH ih v0 x3 v2 S h
theorem rw_X3_largestChoir {l : Launch} (hl : l.stackTraces = false) (v0 : Option Nat) : rc_Ct l yX3_largestChoir (ws_ yX3_largestChoir cX3_largestChoir 4 (Option.some Jvm.ClassFile.FieldType.int)) 5 112 rc_tI (rp_X3_largestChoir v0) [rc_q v0] := by
  refine rc_Ct_H hl (plainFor_of_name rY_X3) rfl (Nat.le_of_ble_eq_true rfl) (L0 := [some (rc_q v0), none, none, none]) rfl ?_
  intro Y S hC hH h
  have hC : rc_C Y cX3_largestChoir RX3 (Option.some Jvm.ClassFile.FieldType.int) 4 := hC
  unfold rp_X3_largestChoir at h
  refine rc_iconst (pc := 0) hC (v := (0 : Int32)) dX3_largestChoir_0 rfl ?_
  refine rc_istore_n (pc := 1) hC (L' := [some (rc_q v0), some (rc_i (0 : Int32)), none, none]) dX3_largestChoir_1 rfl (Nat.le_of_ble_eq_true rfl) rfl rfl ?_
  refine rc_iconst (pc := 2) hC (v := (0 : Int32)) dX3_largestChoir_2 rfl ?_
  refine rc_istore_n (pc := 3) hC (L' := [some (rc_q v0), some (rc_i (0 : Int32)), some (rc_i (0 : Int32)), none]) dX3_largestChoir_3 rfl (Nat.le_of_ble_eq_true rfl) rfl rfl ?_
  refine rc_r_fuel h ?_
  intro x1 h
  exact rw_X3_largestChoir_L4 hC hH  x1 v0 (0 : Int32) (0 : Int32) S h
theorem rw_X3_sing_L53 {Y : rc_Y} (hC : rc_C Y cX3_sing RX3 (Option.none : Option Jvm.ClassFile.FieldType) 3) (hH : rc_H Y 3 64 yX3_sing.name) {k2 : Option Nat → Int32 → Int32 → rc_M Unit} (hk2 : ∀ (v0 : Option Nat) (v1 : Int32) (v2 : Int32) (S : rc_S), rc_Go Y rc_tU (k2 v0 v1 v2) S → rc_Z Y S 2 [some (rc_q v0), some (rc_i v1), some (rc_i v2)] []) (v0 : Option Nat) (v1 : Int32) (v2 : Int32) (S : rc_S) (h : rc_Go Y rc_tU (rp_X3_sing_L53 k2 v0 v1 v2) S) : rc_Z Y S 53 [some (rc_q v0), some (rc_i v1), some (rc_i v2)] [] := by
  unfold rp_X3_sing_L53 at h
  refine rc_iinc (pc := 53) hC (v := (v2 + (1 : Int32))) (L' := [some (rc_q v0), some (rc_i v1), some (rc_i (v2 + (1 : Int32)))]) dX3_sing_53 rfl rfl rfl rfl ?_
  refine rc_goto (pc := 56) (tgt := 2) hC dX3_sing_56 rfl ?_
  exact hk2 v0 v1 (v2 + (1 : Int32)) S h
theorem rw_X3_sing_L2 {Y : rc_Y} (hC : rc_C Y cX3_sing RX3 (Option.none : Option Jvm.ClassFile.FieldType) 3) (hH : rc_H Y 3 64 yX3_sing.name) : ∀ (n : Nat) (v0 : Option Nat) (v1 : Int32) (v2 : Int32) (S : rc_S), rc_Go Y rc_tU (rp_X3_sing_L2  n v0 v1 v2) S → rc_Z Y S 2 [some (rc_q v0), some (rc_i v1), some (rc_i v2)] [] := by
  intro n
  induction n with
  | zero => intro v0 v1 v2 S h; exact h.fail.elim
  | succ n ih =>
    intro v0 v1 v2 S h
    rw [rp_X3_sing_L2] at h
    refine rc_iload_n (pc := 2) hC dX3_sing_2 rfl rfl ?_
    refine rc_aload_n (pc := 3) hC dX3_sing_3 rfl rfl ?_
    refine rc_r_getq (pc := 4) hC rF_X3_21 dX3_sing_4 h ?_
    intro x1 h
    obtain ⟨⟨fs, ho⟩, h⟩ := h.is
    refine rc_callF (x0 := rc_xsize) (y := yJ7_size) (pc := 7) hC rfl ho (rw_J7_size hH.1 x1) q936 q823 q825 q128 q827 (List.mem_of_getElem? (i := 0) rfl) ⟨by decide, by decide, rd_J7_size.2.2⟩ (hH.room (Nat.le_of_ble_eq_true rfl) (Nat.le_of_ble_eq_true rfl)) rfl rfl (Nat.le_of_ble_eq_true rfl) 0 rfl h.le.2.2 h.br rfl dX3_sing_7 ?_ (fun E q S hT => rc_out hC hH.2.2.2.2 hT)
    intro x2 S h
    show rc_Z Y S 12 [some (rc_q v0), some (rc_i v1), some (rc_i v2)] [rc_i x2, rc_i v2]
    refine rc_icmp_ge (pc := 12) (tgt := 59) hC dX3_sing_12 rfl h ?_ ?_
    · intro _ h
      exact rc_vret hC rfl dX3_sing_59 h rfl
    intro _ h
    refine rc_iload_n (pc := 15) hC dX3_sing_15 rfl rfl ?_
    refine rc_iload_n (pc := 16) hC dX3_sing_16 rfl rfl ?_
    refine rc_ishr (pc := 17) hC dX3_sing_17 ?_
    refine rc_iconst (pc := 18) hC (v := (1 : Int32)) dX3_sing_18 rfl ?_
    refine rc_iand (pc := 19) hC dX3_sing_19 ?_
    refine rc_iconst (pc := 20) hC (v := (1 : Int32)) dX3_sing_20 rfl ?_
    refine rc_icmp_ne (pc := 21) (tgt := 53) hC dX3_sing_21 rfl h ?_ ?_
    · intro _ h
      exact rw_X3_sing_L53 hC hH ih v0 v1 v2 S h
    intro _ h
    refine rc_aload_n (pc := 24) hC dX3_sing_24 rfl rfl ?_
    refine rc_dup (pc := 25) hC dX3_sing_25 rfl ?_
    refine rc_r_geti (pc := 26) hC rF_X3_76 dX3_sing_26 h ?_
    intro x3 h
    refine rc_aload_n (pc := 29) hC dX3_sing_29 rfl rfl ?_
    refine rc_r_getq (pc := 30) hC rF_X3_21 dX3_sing_30 h ?_
    intro x4 h
    refine rc_iload_n (pc := 33) hC dX3_sing_33 rfl rfl ?_
    obtain ⟨⟨fs, ho⟩, h⟩ := h.is
    refine rc_callF (x0 := rc_xget) (y := yJ7_get) (pc := 34) hC rfl ho (rw_J7_get hH.1 x4 v2) q938 q941 q943 q128 q945 (List.mem_of_getElem? (i := 2) rfl) ⟨by decide, by decide, rd_J7_get.2.2⟩ (hH.room (Nat.le_of_ble_eq_true rfl) (Nat.le_of_ble_eq_true rfl)) rfl rfl (Nat.le_of_ble_eq_true rfl) 1 rfl h.le.2.2 h.br rfl dX3_sing_34 ?_ (fun E q S hT => rc_out hC hH.2.2.2.2 hT)
    intro x5 S h
    show rc_Z Y S 39 [some (rc_q v0), some (rc_i v1), some (rc_i v2)] [rc_q x5, rc_i x3, rc_q v0]
    refine rc_r_cast (pc := 39) hC rK_X3_57 dX3_sing_39 h ?_
    intro h
    refine rc_iload_n (pc := 42) hC dX3_sing_42 rfl rfl ?_
    refine rc_callS (pc := 43) hC (rw_J15_bitCount hH.1 v1) q1009 q1010 q137 q1011 rd_J15_bitCount (hH.room (Nat.le_of_ble_eq_true rfl) (Nat.le_of_ble_eq_true rfl)) rfl rfl (Nat.le_of_ble_eq_true rfl) 1 rfl h.le.2.2 h.br rfl dX3_sing_43 ?_ (fun E q S hT => rc_out hC hH.2.2.2.2 hT)
    intro x6 S h
    show rc_Z Y S 46 [some (rc_q v0), some (rc_i v1), some (rc_i v2)] [rc_i x6, rc_q x5, rc_i x3, rc_q v0]
    obtain ⟨⟨fs, ho⟩, h⟩ := h.is
    refine rc_callV (pc := 46) hC rfl ho (rw_X7_get hH.1 x5 x6) q1083 q1084 q1085 q146 q1086 rfl rd_X7_get (hH.room (Nat.le_of_ble_eq_true rfl) (Nat.le_of_ble_eq_true rfl)) rfl rfl (Nat.le_of_ble_eq_true rfl) 1 rfl h.le.2.2 h.br rfl dX3_sing_46 ?_ (fun E q S hT => rc_out hC hH.2.2.2.2 hT)
    intro x7 S h
    show rc_Z Y S 49 [some (rc_q v0), some (rc_i v1), some (rc_i v2)] [rc_i x7, rc_i x3, rc_q v0]
    refine rc_iadd (pc := 49) hC dX3_sing_49 ?_
    refine rc_r_put (pc := 50) hC rP_X3_76 (nofun) dX3_sing_50 h ?_
    intro S h
    exact rw_X3_sing_L53 hC hH ih v0 v1 v2 S h
theorem rw_X3_sing {l : Launch} (hl : l.stackTraces = false) (v0 : Option Nat) (v1 : Int32) : rc_Ct l yX3_sing (ws_ yX3_sing cX3_sing 3 (Option.none : Option Jvm.ClassFile.FieldType)) 3 64 rc_tU (rp_X3_sing v0 v1) [rc_q v0, rc_i v1] := by
  refine rc_Ct_H hl (plainFor_of_name rY_X3) rfl (Nat.le_of_ble_eq_true rfl) (L0 := [some (rc_q v0), some (rc_i v1), none]) rfl ?_
  intro Y S hC hH h
  have hC : rc_C Y cX3_sing RX3 (Option.none : Option Jvm.ClassFile.FieldType) 3 := hC
  unfold rp_X3_sing at h
  refine rc_iconst (pc := 0) hC (v := (0 : Int32)) dX3_sing_0 rfl ?_
  refine rc_istore_n (pc := 1) hC (L' := [some (rc_q v0), some (rc_i v1), some (rc_i (0 : Int32))]) dX3_sing_1 rfl (Nat.le_of_ble_eq_true rfl) rfl rfl ?_
  refine rc_r_fuel h ?_
  intro x1 h
  exact rw_X3_sing_L2 hC hH  x1 v0 v1 (0 : Int32) S h
theorem rw_X3_passNight_L97 {Y : rc_Y} (hC : rc_C Y cX3_passNight RX3 (Option.none : Option Jvm.ClassFile.FieldType) 3) (hH : rc_H Y 6 135 yX3_passNight.name) {k12 : Option Nat → Int32 → rc_M Unit} (hk12 : ∀ (v0 : Option Nat) (v1 : Int32) (S : rc_S), rc_Go Y rc_tU (k12 v0 v1) S → rc_Z Y S 12 [some (rc_q v0), some (rc_i v1), none] []) (v0 : Option Nat) (v1 : Int32) (S : rc_S) (h : rc_Go Y rc_tU (rp_X3_passNight_L97 k12 v0 v1) S) : rc_Z Y S 97 [some (rc_q v0), some (rc_i v1), none] [] := by
  unfold rp_X3_passNight_L97 at h
  refine rc_iinc (pc := 97) hC (v := (v1 + (1 : Int32))) (L' := [some (rc_q v0), some (rc_i (v1 + (1 : Int32))), none]) dX3_passNight_97 rfl rfl rfl rfl ?_
  refine rc_goto (pc := 100) (tgt := 12) hC dX3_passNight_100 rfl ?_
  exact hk12 v0 (v1 + (1 : Int32)) S h
theorem rw_X3_passNight_L12 {Y : rc_Y} (hC : rc_C Y cX3_passNight RX3 (Option.none : Option Jvm.ClassFile.FieldType) 3) (hH : rc_H Y 6 135 yX3_passNight.name) : ∀ (n : Nat) (v0 : Option Nat) (v1 : Int32) (S : rc_S), rc_Go Y rc_tU (rp_X3_passNight_L12  n v0 v1) S → rc_Z Y S 12 [some (rc_q v0), some (rc_i v1), none] [] := by
  intro n
  induction n with
  | zero => intro v0 v1 S h; exact h.fail.elim
  | succ n ih =>
    intro v0 v1 S h
    rw [rp_X3_passNight_L12] at h
    refine rc_iload_n (pc := 12) hC dX3_passNight_12 rfl rfl ?_
    refine rc_aload_n (pc := 13) hC dX3_passNight_13 rfl rfl ?_
    refine rc_r_getq (pc := 14) hC rF_X3_21 dX3_passNight_14 h ?_
    intro x1 h
    obtain ⟨⟨fs, ho⟩, h⟩ := h.is
    refine rc_callF (x0 := rc_xsize) (y := yJ7_size) (pc := 17) hC rfl ho (rw_J7_size hH.1 x1) q936 q823 q825 q128 q827 (List.mem_of_getElem? (i := 0) rfl) ⟨by decide, by decide, rd_J7_size.2.2⟩ (hH.room (Nat.le_of_ble_eq_true rfl) (Nat.le_of_ble_eq_true rfl)) rfl rfl (Nat.le_of_ble_eq_true rfl) 0 rfl h.le.2.2 h.br rfl dX3_passNight_17 ?_ (fun E q S hT => rc_out hC hH.2.2.2.2 hT)
    intro x2 S h
    show rc_Z Y S 22 [some (rc_q v0), some (rc_i v1), none] [rc_i x2, rc_i v1]
    refine rc_icmp_ge (pc := 22) (tgt := 103) hC dX3_passNight_22 rfl h ?_ ?_
    · intro _ h
      refine rc_aload_n (pc := 103) hC dX3_passNight_103 rfl rfl ?_
      refine rc_r_geti (pc := 104) hC rF_X3_72 dX3_passNight_104 h ?_
      intro x3 h
      refine rc_bipush (pc := 107) hC (v := (8 : Int32)) dX3_passNight_107 rfl ?_
      refine rc_irem (pc := 109) hC dX3_passNight_109 (by decide) ?_
      refine rc_iconst (pc := 110) hC (v := (4 : Int32)) dX3_passNight_110 rfl ?_
      refine rc_icmp_ne (pc := 111) (tgt := 122) hC dX3_passNight_111 rfl h ?_ ?_
      · intro _ h
        exact rc_vret hC rfl dX3_passNight_122 h rfl
      intro _ h
      refine rc_aload_n (pc := 114) hC dX3_passNight_114 rfl rfl ?_
      refine rc_aload_n (pc := 115) hC dX3_passNight_115 rfl rfl ?_
      obtain ⟨⟨fs, ho⟩, h⟩ := h.is
      refine rc_callV (pc := 116) hC rfl ho (rw_X3_largestChoir hH.1 v0) q1144 q1145 q1146 q126 q1147 rfl rd_X3_largestChoir (hH.room (Nat.le_of_ble_eq_true rfl) (Nat.le_of_ble_eq_true rfl)) rfl rfl (Nat.le_of_ble_eq_true rfl) 0 rfl h.le.2.2 h.br rfl dX3_passNight_116 ?_ (fun E q S hT => rc_out hC hH.2.2.2.2 hT)
      intro x4 S h
      show rc_Z Y S 119 [some (rc_q v0), some (rc_i v1), none] [rc_i x4, rc_q v0]
      obtain ⟨⟨fs, ho⟩, h⟩ := h.is
      refine rc_callV (pc := 119) hC rfl ho (rw_X3_sing hH.1 v0 x4) q1156 q1158 qs18 q126 q1159 rfl rd_X3_sing (hH.room (Nat.le_of_ble_eq_true rfl) (Nat.le_of_ble_eq_true rfl)) rfl rfl (Nat.le_of_ble_eq_true rfl) 1 rfl h.le.2.2 h.br rfl dX3_passNight_119 ?_ (fun E q S hT => rc_out hC hH.2.2.2.2 hT)
      intro _ S h
      show rc_Z Y S 122 [some (rc_q v0), some (rc_i v1), none] []
      exact rc_vret hC rfl dX3_passNight_122 h rfl
    intro _ h
    refine rc_aload_n (pc := 25) hC dX3_passNight_25 rfl rfl ?_
    refine rc_r_getq (pc := 26) hC rF_X3_21 dX3_passNight_26 h ?_
    intro x5 h
    refine rc_iload_n (pc := 29) hC dX3_passNight_29 rfl rfl ?_
    obtain ⟨⟨fs, ho⟩, h⟩ := h.is
    refine rc_callF (x0 := rc_xget) (y := yJ7_get) (pc := 30) hC rfl ho (rw_J7_get hH.1 x5 v1) q938 q941 q943 q128 q945 (List.mem_of_getElem? (i := 2) rfl) ⟨by decide, by decide, rd_J7_get.2.2⟩ (hH.room (Nat.le_of_ble_eq_true rfl) (Nat.le_of_ble_eq_true rfl)) rfl rfl (Nat.le_of_ble_eq_true rfl) 1 rfl h.le.2.2 h.br rfl dX3_passNight_30 ?_ (fun E q S hT => rc_out hC hH.2.2.2.2 hT)
    intro x6 S h
    show rc_Z Y S 35 [some (rc_q v0), some (rc_i v1), none] [rc_q x6]
    refine rc_r_cast (pc := 35) hC rK_X3_57 dX3_passNight_35 h ?_
    intro h
    refine rc_astore_n (pc := 38) hC (L' := [some (rc_q v0), some (rc_i v1), some (rc_q x6)]) dX3_passNight_38 rfl (Nat.le_of_ble_eq_true rfl) rfl rfl ?_
    refine rc_aload_n (pc := 39) hC dX3_passNight_39 rfl rfl ?_
    refine rc_iload_n (pc := 40) hC dX3_passNight_40 rfl rfl ?_
    obtain ⟨⟨fs, ho⟩, h⟩ := h.is
    refine rc_callV (pc := 41) hC rfl ho (rw_X3_isHome hH.1 v0 v1) q1075 q1076 q1077 q126 q1078 rfl rd_X3_isHome (hH.room (Nat.le_of_ble_eq_true rfl) (Nat.le_of_ble_eq_true rfl)) rfl rfl (Nat.le_of_ble_eq_true rfl) 1 rfl h.le.2.2 h.br rfl dX3_passNight_41 ?_ (fun E q S hT => rc_out hC hH.2.2.2.2 hT)
    intro x7 S h
    show rc_Z Y S 44 [some (rc_q v0), some (rc_i v1), some (rc_q x6)] [rc_i x7]
    refine rc_if_eq (pc := 44) (tgt := 84) hC dX3_passNight_44 rfl h ?_ ?_
    · intro _ h
      refine rc_aload_n (pc := 84) hC dX3_passNight_84 rfl rfl ?_
      refine rc_dup (pc := 85) hC dX3_passNight_85 rfl ?_
      refine rc_r_geti (pc := 86) hC rF_X3_79 dX3_passNight_86 h ?_
      intro x8 h
      refine rc_aload_n (pc := 89) hC dX3_passNight_89 rfl rfl ?_
      obtain ⟨⟨fs, ho⟩, h⟩ := h.is
      refine rc_callV (pc := 90) hC rfl ho (rw_X7_eat hH.1 x6) q1140 q1141 q1142 q146 q1143 rfl rd_X7_eat (hH.room (Nat.le_of_ble_eq_true rfl) (Nat.le_of_ble_eq_true rfl)) rfl rfl (Nat.le_of_ble_eq_true rfl) 0 rfl h.le.2.2 h.br rfl dX3_passNight_90 ?_ (fun E q S hT => rc_out hC hH.2.2.2.2 hT)
      intro x9 S h
      show rc_Z Y S 93 [some (rc_q v0), some (rc_i v1), some (rc_q x6)] [rc_i x9, rc_i x8, rc_q v0]
      refine rc_iadd (pc := 93) hC dX3_passNight_93 ?_
      refine rc_r_put (pc := 94) hC rP_X3_79 (nofun) dX3_passNight_94 h ?_
      intro S h
      refine rc_drop [true, true, false] (L' := [some (rc_q v0), some (rc_i v1), none]) rfl ?_
      exact rw_X3_passNight_L97 hC hH ih v0 v1 S h
    intro _ h
    refine rc_aload_n (pc := 47) hC dX3_passNight_47 rfl rfl ?_
    refine rc_dup (pc := 48) hC dX3_passNight_48 rfl ?_
    refine rc_r_geti (pc := 49) hC rF_X3_76 dX3_passNight_49 h ?_
    intro x10 h
    refine rc_aload_n (pc := 52) hC dX3_passNight_52 rfl rfl ?_
    refine rc_aload_n (pc := 53) hC dX3_passNight_53 rfl rfl ?_
    refine rc_r_getq (pc := 54) hC rF_X3_12 dX3_passNight_54 h ?_
    intro x11 h
    refine rc_aload_n (pc := 57) hC dX3_passNight_57 rfl rfl ?_
    refine rc_r_geti (pc := 58) hC rF_X3_90 dX3_passNight_58 h ?_
    intro x12 h
    obtain ⟨⟨fs, ho⟩, h⟩ := h.is
    refine rc_callF (x0 := rc_xget) (y := yJ7_get) (pc := 61) hC rfl ho (rw_J7_get hH.1 x11 x12) q938 q941 q943 q128 q945 (List.mem_of_getElem? (i := 2) rfl) ⟨by decide, by decide, rd_J7_get.2.2⟩ (hH.room (Nat.le_of_ble_eq_true rfl) (Nat.le_of_ble_eq_true rfl)) rfl rfl (Nat.le_of_ble_eq_true rfl) 1 rfl h.le.2.2 h.br rfl dX3_passNight_61 ?_ (fun E q S hT => rc_out hC hH.2.2.2.2 hT)
    intro x13 S h
    show rc_Z Y S 66 [some (rc_q v0), some (rc_i v1), some (rc_q x6)] [rc_q x13, rc_q x6, rc_i x10, rc_q v0]
    refine rc_r_cast (pc := 66) hC rK_X3_45 dX3_passNight_66 h ?_
    intro h
    refine rc_r_geti (pc := 69) hC rF_X3_117 dX3_passNight_69 h ?_
    intro x14 h
    refine rc_iconst (pc := 72) hC (v := (3 : Int32)) dX3_passNight_72 rfl ?_
    refine rc_idiv (pc := 73) hC dX3_passNight_73 (by decide) ?_
    obtain ⟨⟨fs, ho⟩, h⟩ := h.is
    refine rc_callV (pc := 74) hC rfl ho (rw_X7_get hH.1 x6 (x14 / (3 : Int32))) q1083 q1084 q1085 q146 q1086 rfl rd_X7_get (hH.room (Nat.le_of_ble_eq_true rfl) (Nat.le_of_ble_eq_true rfl)) rfl rfl (Nat.le_of_ble_eq_true rfl) 1 rfl h.le.2.2 h.br rfl dX3_passNight_74 ?_ (fun E q S hT => rc_out hC hH.2.2.2.2 hT)
    intro x15 S h
    show rc_Z Y S 77 [some (rc_q v0), some (rc_i v1), some (rc_q x6)] [rc_i x15, rc_i x10, rc_q v0]
    refine rc_iadd (pc := 77) hC dX3_passNight_77 ?_
    refine rc_r_put (pc := 78) hC rP_X3_76 (nofun) dX3_passNight_78 h ?_
    intro S h
    refine rc_goto (pc := 81) (tgt := 97) hC dX3_passNight_81 rfl ?_
    refine rc_drop [true, true, false] (L' := [some (rc_q v0), some (rc_i v1), none]) rfl ?_
    exact rw_X3_passNight_L97 hC hH ih v0 v1 S h
theorem rw_X3_passNight {l : Launch} (hl : l.stackTraces = false) (v0 : Option Nat) : rc_Ct l yX3_passNight (ws_ yX3_passNight cX3_passNight 3 (Option.none : Option Jvm.ClassFile.FieldType)) 6 135 rc_tU (rp_X3_passNight v0) [rc_q v0] := by
  refine rc_Ct_H hl (plainFor_of_name rY_X3) rfl (Nat.le_of_ble_eq_true rfl) (L0 := [some (rc_q v0), none, none]) rfl ?_
  intro Y S hC hH h
  have hC : rc_C Y cX3_passNight RX3 (Option.none : Option Jvm.ClassFile.FieldType) 3 := hC
  unfold rp_X3_passNight at h
  refine rc_aload_n (pc := 0) hC dX3_passNight_0 rfl rfl ?_
  refine rc_dup (pc := 1) hC dX3_passNight_1 rfl ?_
  refine rc_r_geti (pc := 2) hC rF_X3_72 dX3_passNight_2 h ?_
  intro x1 h
  refine rc_iconst (pc := 5) hC (v := (1 : Int32)) dX3_passNight_5 rfl ?_
  refine rc_iadd (pc := 6) hC dX3_passNight_6 ?_
  refine rc_r_put (pc := 7) hC rP_X3_72 (nofun) dX3_passNight_7 h ?_
  intro S h
  refine rc_iconst (pc := 10) hC (v := (0 : Int32)) dX3_passNight_10 rfl ?_
  refine rc_istore_n (pc := 11) hC (L' := [some (rc_q v0), some (rc_i (0 : Int32)), none]) dX3_passNight_11 rfl (Nat.le_of_ble_eq_true rfl) rfl rfl ?_
  refine rc_r_fuel h ?_
  intro x2 h
  exact rw_X3_passNight_L12 hC hH  x2 v0 (0 : Int32) S h
theorem rw_X3_passNights_L2 {Y : rc_Y} (hC : rc_C Y cX3_passNights RX3 (Option.some Jvm.ClassFile.FieldType.int) 3) (hH : rc_H Y 7 157 yX3_passNights.name) : ∀ (n : Nat) (v0 : Option Nat) (v1 : Int32) (v2 : Int32) (S : rc_S), rc_Go Y rc_tI (rp_X3_passNights_L2  n v0 v1 v2) S → rc_Z Y S 2 [some (rc_q v0), some (rc_i v1), some (rc_i v2)] [] := by
  intro n
  induction n with
  | zero => intro v0 v1 v2 S h; exact h.fail.elim
  | succ n ih =>
    intro v0 v1 v2 S h
    rw [rp_X3_passNights_L2] at h
    refine rc_iload_n (pc := 2) hC dX3_passNights_2 rfl rfl ?_
    refine rc_iload_n (pc := 3) hC dX3_passNights_3 rfl rfl ?_
    refine rc_icmp_ge (pc := 4) (tgt := 17) hC dX3_passNights_4 rfl h ?_ ?_
    · intro _ h
      refine rc_aload_n (pc := 17) hC dX3_passNights_17 rfl rfl ?_
      refine rc_r_geti (pc := 18) hC rF_X3_72 dX3_passNights_18 h ?_
      intro x1 h
      exact rc_iret hC rfl rfl dX3_passNights_21 h rfl
    intro _ h
    refine rc_aload_n (pc := 7) hC dX3_passNights_7 rfl rfl ?_
    obtain ⟨⟨fs, ho⟩, h⟩ := h.is
    refine rc_callV (pc := 8) hC rfl ho (rw_X3_passNight hH.1 v0) q1136 q1137 q1138 q126 q1139 rfl rd_X3_passNight (hH.room (Nat.le_of_ble_eq_true rfl) (Nat.le_of_ble_eq_true rfl)) rfl rfl (Nat.le_of_ble_eq_true rfl) 0 rfl h.le.2.2 h.br rfl dX3_passNights_8 ?_ (fun E q S hT => rc_out hC hH.2.2.2.2 hT)
    intro _ S h
    show rc_Z Y S 11 [some (rc_q v0), some (rc_i v1), some (rc_i v2)] []
    refine rc_iinc (pc := 11) hC (v := (v2 + (1 : Int32))) (L' := [some (rc_q v0), some (rc_i v1), some (rc_i (v2 + (1 : Int32)))]) dX3_passNights_11 rfl rfl rfl rfl ?_
    refine rc_goto (pc := 14) (tgt := 2) hC dX3_passNights_14 rfl ?_
    exact ih v0 v1 (v2 + (1 : Int32)) S h
theorem rw_X3_passNights {l : Launch} (hl : l.stackTraces = false) (v0 : Option Nat) (v1 : Int32) : rc_Ct l yX3_passNights (ws_ yX3_passNights cX3_passNights 3 (Option.some Jvm.ClassFile.FieldType.int)) 7 157 rc_tI (rp_X3_passNights v0 v1) [rc_q v0, rc_i v1] := by
  refine rc_Ct_H hl (plainFor_of_name rY_X3) rfl (Nat.le_of_ble_eq_true rfl) (L0 := [some (rc_q v0), some (rc_i v1), none]) rfl ?_
  intro Y S hC hH h
  have hC : rc_C Y cX3_passNights RX3 (Option.some Jvm.ClassFile.FieldType.int) 3 := hC
  unfold rp_X3_passNights at h
  refine rc_iconst (pc := 0) hC (v := (0 : Int32)) dX3_passNights_0 rfl ?_
  refine rc_istore_n (pc := 1) hC (L' := [some (rc_q v0), some (rc_i v1), some (rc_i (0 : Int32))]) dX3_passNights_1 rfl (Nat.le_of_ble_eq_true rfl) rfl rfl ?_
  refine rc_r_fuel h ?_
  intro x1 h
  exact rw_X3_passNights_L2 hC hH  x1 v0 v1 (0 : Int32) S h
theorem rw_X8_hasVote {l : Launch} (hl : l.stackTraces = false) (v0 : Option Nat) (v1 : Int32) : rc_Ct l yX8_hasVote (ws_ yX8_hasVote cX8_hasVote 2 (Option.some Jvm.ClassFile.FieldType.boolean)) 0 0 rc_tI (rp_X8_hasVote v0 v1) [rc_q v0, rc_i v1] := by
  refine rc_Ct_H hl (plainFor_of_name rY_X8) rfl (Nat.le_of_ble_eq_true rfl) (L0 := [some (rc_q v0), some (rc_i v1)]) rfl ?_
  intro Y S hC hH h
  have hC : rc_C Y cX8_hasVote RX8 (Option.some Jvm.ClassFile.FieldType.boolean) 2 := hC
  unfold rp_X8_hasVote at h
  refine rc_aload_n (pc := 0) hC dX8_hasVote_0 rfl rfl ?_
  refine rc_r_geti (pc := 1) hC rF_X8_16 dX8_hasVote_1 h ?_
  intro x1 h
  refine rc_aload_n (pc := 4) hC dX8_hasVote_4 rfl rfl ?_
  refine rc_r_geti (pc := 5) hC rF_X8_19 dX8_hasVote_5 h ?_
  intro x2 h
  refine rc_ior (pc := 8) hC dX8_hasVote_8 ?_
  refine rc_iload_n (pc := 9) hC dX8_hasVote_9 rfl rfl ?_
  refine rc_ishr (pc := 10) hC dX8_hasVote_10 ?_
  refine rc_iconst (pc := 11) hC (v := (1 : Int32)) dX8_hasVote_11 rfl ?_
  refine rc_iand (pc := 12) hC dX8_hasVote_12 ?_
  refine rc_iconst (pc := 13) hC (v := (1 : Int32)) dX8_hasVote_13 rfl ?_
  refine rc_icmp_ne (pc := 14) (tgt := 21) hC dX8_hasVote_14 rfl h ?_ ?_
  · intro _ h
    refine rc_iconst (pc := 21) hC (v := (0 : Int32)) dX8_hasVote_21 rfl ?_
    exact rc_iret hC rfl rfl dX8_hasVote_22 h rfl
  intro _ h
  refine rc_iconst (pc := 17) hC (v := (1 : Int32)) dX8_hasVote_17 rfl ?_
  refine rc_goto (pc := 18) (tgt := 22) hC dX8_hasVote_18 rfl ?_
  exact rc_iret hC rfl rfl dX8_hasVote_22 h rfl
theorem rw_X3_canVote {l : Launch} (hl : l.stackTraces = false) (v0 : Option Nat) (v1 : Int32) : rc_Ct l yX3_canVote (ws_ yX3_canVote cX3_canVote 2 (Option.some Jvm.ClassFile.FieldType.boolean)) 1 21 rc_tI (rp_X3_canVote v0 v1) [rc_q v0, rc_i v1] := by
  refine rc_Ct_H hl (plainFor_of_name rY_X3) rfl (Nat.le_of_ble_eq_true rfl) (L0 := [some (rc_q v0), some (rc_i v1)]) rfl ?_
  intro Y S hC hH h
  have hC : rc_C Y cX3_canVote RX3 (Option.some Jvm.ClassFile.FieldType.boolean) 2 := hC
  unfold rp_X3_canVote at h
  refine rc_aload_n (pc := 0) hC dX3_canVote_0 rfl rfl ?_
  refine rc_r_getq (pc := 1) hC rF_X3_68 dX3_canVote_1 h ?_
  intro x1 h
  refine rc_ifnull (pc := 4) (tgt := 22) hC dX3_canVote_4 rfl h ?_ ?_
  · intro _ h
    refine rc_iconst (pc := 22) hC (v := (0 : Int32)) dX3_canVote_22 rfl ?_
    exact rc_iret hC rfl rfl dX3_canVote_23 h rfl
  intro _ h
  refine rc_aload_n (pc := 7) hC dX3_canVote_7 rfl rfl ?_
  refine rc_r_getq (pc := 8) hC rF_X3_68 dX3_canVote_8 h ?_
  intro x2 h
  refine rc_iload_n (pc := 11) hC dX3_canVote_11 rfl rfl ?_
  obtain ⟨⟨fs, ho⟩, h⟩ := h.is
  refine rc_callV (pc := 12) hC rfl ho (rw_X8_hasVote hH.1 x2 v1) q1164 q1165 q1166 q147 q1167 rfl rd_X8_hasVote (hH.room (Nat.le_of_ble_eq_true rfl) (Nat.le_of_ble_eq_true rfl)) rfl rfl (Nat.le_of_ble_eq_true rfl) 1 rfl h.le.2.2 h.br rfl dX3_canVote_12 ?_ (fun E q S hT => rc_out hC hH.2.2.2.2 hT)
  intro x3 S h
  show rc_Z Y S 15 [some (rc_q v0), some (rc_i v1)] [rc_i x3]
  refine rc_if_ne (pc := 15) (tgt := 22) hC dX3_canVote_15 rfl h ?_ ?_
  · intro _ h
    refine rc_iconst (pc := 22) hC (v := (0 : Int32)) dX3_canVote_22 rfl ?_
    exact rc_iret hC rfl rfl dX3_canVote_23 h rfl
  intro _ h
  refine rc_iconst (pc := 18) hC (v := (1 : Int32)) dX3_canVote_18 rfl ?_
  refine rc_goto (pc := 19) (tgt := 23) hC dX3_canVote_19 rfl ?_
  exact rc_iret hC rfl rfl dX3_canVote_23 h rfl
theorem rw_X8_with {l : Launch} (hl : l.stackTraces = false) (v0 : Option Nat) (v1 : Int32) (v2 : Int32) : rc_Ct l yX8_with (ws_ yX8_with cX8_with 3 (Option.some (Jvm.ClassFile.FieldType.object "RooftopCats$Kitten"))) 3 64 rc_tQ (rp_X8_with v0 v1 v2) [rc_q v0, rc_i v1, rc_i v2] := by
  refine rc_Ct_H hl (plainFor_of_name rY_X8) rfl (Nat.le_of_ble_eq_true rfl) (L0 := [some (rc_q v0), some (rc_i v1), some (rc_i v2)]) rfl ?_
  intro Y S hC hH h
  have hC : rc_C Y cX8_with RX8 (Option.some (Jvm.ClassFile.FieldType.object "RooftopCats$Kitten")) 3 := hC
  unfold rp_X8_with at h
  refine rc_iload_n (pc := 0) hC dX8_with_0 rfl rfl ?_
  refine rc_if_eq (pc := 1) (tgt := 34) hC dX8_with_1 rfl h ?_ ?_
  · intro _ h
    refine rc_r_new (pc := 34) hC rN_X8_8 dX8_with_34 h ?_
    intro x1 S h
    refine rc_dup (pc := 37) hC dX8_with_37 rfl ?_
    refine rc_aload_n (pc := 38) hC dX8_with_38 rfl rfl ?_
    refine rc_r_geti (pc := 39) hC rF_X8_7 dX8_with_39 h ?_
    intro x2 h
    refine rc_aload_n (pc := 42) hC dX8_with_42 rfl rfl ?_
    refine rc_r_geti (pc := 43) hC rF_X8_13 dX8_with_43 h ?_
    intro x3 h
    refine rc_aload_n (pc := 46) hC dX8_with_46 rfl rfl ?_
    refine rc_r_geti (pc := 47) hC rF_X8_16 dX8_with_47 h ?_
    intro x4 h
    refine rc_aload_n (pc := 50) hC dX8_with_50 rfl rfl ?_
    refine rc_r_geti (pc := 51) hC rF_X8_19 dX8_with_51 h ?_
    intro x5 h
    refine rc_iconst (pc := 54) hC (v := (1 : Int32)) dX8_with_54 rfl ?_
    refine rc_iload_n (pc := 55) hC dX8_with_55 rfl rfl ?_
    refine rc_ishl (pc := 56) hC dX8_with_56 ?_
    refine rc_ior (pc := 57) hC dX8_with_57 ?_
    obtain ⟨⟨b9, ho⟩, h⟩ := h.nn
    refine rc_callI (pc := 58) hC ho (rw_X8_init hH.1 x1 x2 x3 x4 (x5 ||| ((1 : Int32) <<< (v1 &&& 31)))) q1177 q1116 q147 q1117 rfl rfl rd_X8_init (hH.room (Nat.le_of_ble_eq_true rfl) (Nat.le_of_ble_eq_true rfl)) rfl rfl (Nat.le_of_ble_eq_true rfl) 4 rfl h.le.2.2 h.br rfl dX8_with_58 ?_ (fun E q S hT => rc_out hC hH.2.2.2.2 hT)
    intro _ S h
    show rc_Z Y S 61 [some (rc_q v0), some (rc_i v1), some (rc_i v2)] [rc_q x1]
    exact rc_aret hC rfl (by first | exact Or.inl ⟨_, rfl⟩ | exact Or.inr ⟨_, rfl⟩) dX8_with_61 h rfl
  intro _ h
  refine rc_r_new (pc := 4) hC rN_X8_8 dX8_with_4 h ?_
  intro x6 S h
  refine rc_dup (pc := 7) hC dX8_with_7 rfl ?_
  refine rc_aload_n (pc := 8) hC dX8_with_8 rfl rfl ?_
  refine rc_r_geti (pc := 9) hC rF_X8_7 dX8_with_9 h ?_
  intro x7 h
  refine rc_aload_n (pc := 12) hC dX8_with_12 rfl rfl ?_
  refine rc_r_geti (pc := 13) hC rF_X8_13 dX8_with_13 h ?_
  intro x8 h
  refine rc_aload_n (pc := 16) hC dX8_with_16 rfl rfl ?_
  refine rc_r_geti (pc := 17) hC rF_X8_16 dX8_with_17 h ?_
  intro x9 h
  refine rc_iconst (pc := 20) hC (v := (1 : Int32)) dX8_with_20 rfl ?_
  refine rc_iload_n (pc := 21) hC dX8_with_21 rfl rfl ?_
  refine rc_ishl (pc := 22) hC dX8_with_22 ?_
  refine rc_ior (pc := 23) hC dX8_with_23 ?_
  refine rc_aload_n (pc := 24) hC dX8_with_24 rfl rfl ?_
  refine rc_r_geti (pc := 25) hC rF_X8_19 dX8_with_25 h ?_
  intro x10 h
  obtain ⟨⟨b9, ho⟩, h⟩ := h.nn
  refine rc_callI (pc := 28) hC ho (rw_X8_init hH.1 x6 x7 x8 (x9 ||| ((1 : Int32) <<< (v1 &&& 31))) x10) q1177 q1116 q147 q1117 rfl rfl rd_X8_init (hH.room (Nat.le_of_ble_eq_true rfl) (Nat.le_of_ble_eq_true rfl)) rfl rfl (Nat.le_of_ble_eq_true rfl) 4 rfl h.le.2.2 h.br rfl dX8_with_28 ?_ (fun E q S hT => rc_out hC hH.2.2.2.2 hT)
  intro _ S h
  show rc_Z Y S 31 [some (rc_q v0), some (rc_i v1), some (rc_i v2)] [rc_q x6]
  refine rc_goto (pc := 31) (tgt := 61) hC dX8_with_31 rfl ?_
  exact rc_aret hC rfl (by first | exact Or.inl ⟨_, rfl⟩ | exact Or.inr ⟨_, rfl⟩) dX8_with_61 h rfl
theorem rw_X8_yes {l : Launch} (hl : l.stackTraces = false) (v0 : Option Nat) : rc_Ct l yX8_yes (ws_ yX8_yes cX8_yes 1 (Option.some Jvm.ClassFile.FieldType.int)) 0 0 rc_tI (rp_X8_yes v0) [rc_q v0] := by
  refine rc_Ct_H hl (plainFor_of_name rY_X8) rfl (Nat.le_of_ble_eq_true rfl) (L0 := [some (rc_q v0)]) rfl ?_
  intro Y S hC hH h
  have hC : rc_C Y cX8_yes RX8 (Option.some Jvm.ClassFile.FieldType.int) 1 := hC
  unfold rp_X8_yes at h
  refine rc_aload_n (pc := 0) hC dX8_yes_0 rfl rfl ?_
  refine rc_r_geti (pc := 1) hC rF_X8_16 dX8_yes_1 h ?_
  intro x1 h
  exact rc_iret hC rfl rfl dX8_yes_4 h rfl
theorem rw_X8_no {l : Launch} (hl : l.stackTraces = false) (v0 : Option Nat) : rc_Ct l yX8_no (ws_ yX8_no cX8_no 1 (Option.some Jvm.ClassFile.FieldType.int)) 0 0 rc_tI (rp_X8_no v0) [rc_q v0] := by
  refine rc_Ct_H hl (plainFor_of_name rY_X8) rfl (Nat.le_of_ble_eq_true rfl) (L0 := [some (rc_q v0)]) rfl ?_
  intro Y S hC hH h
  have hC : rc_C Y cX8_no RX8 (Option.some Jvm.ClassFile.FieldType.int) 1 := hC
  unfold rp_X8_no at h
  refine rc_aload_n (pc := 0) hC dX8_no_0 rfl rfl ?_
  refine rc_r_geti (pc := 1) hC rF_X8_19 dX8_no_1 h ?_
  intro x1 h
  exact rc_iret hC rfl rfl dX8_no_4 h rfl
theorem rw_X3_warmestFree_L68 {Y : rc_Y} (hC : rc_C Y cX3_warmestFree RX3 (Option.some Jvm.ClassFile.FieldType.int) 3) (hH : rc_H Y 4 86 yX3_warmestFree.name) {k4 : Option Nat → Int32 → Int32 → rc_M Int32} (hk4 : ∀ (v0 : Option Nat) (v1 : Int32) (v2 : Int32) (S : rc_S), rc_Go Y rc_tI (k4 v0 v1 v2) S → rc_Z Y S 4 [some (rc_q v0), some (rc_i v1), some (rc_i v2)] []) (v0 : Option Nat) (v1 : Int32) (v2 : Int32) (S : rc_S) (h : rc_Go Y rc_tI (rp_X3_warmestFree_L68 k4 v0 v1 v2) S) : rc_Z Y S 68 [some (rc_q v0), some (rc_i v1), some (rc_i v2)] [] := by
  unfold rp_X3_warmestFree_L68 at h
  refine rc_iinc (pc := 68) hC (v := (v2 + (1 : Int32))) (L' := [some (rc_q v0), some (rc_i v1), some (rc_i (v2 + (1 : Int32)))]) dX3_warmestFree_68 rfl rfl rfl rfl ?_
  refine rc_goto (pc := 71) (tgt := 4) hC dX3_warmestFree_71 rfl ?_
  exact hk4 v0 v1 (v2 + (1 : Int32)) S h
theorem rw_X3_warmestFree_L66 {Y : rc_Y} (hC : rc_C Y cX3_warmestFree RX3 (Option.some Jvm.ClassFile.FieldType.int) 3) (hH : rc_H Y 4 86 yX3_warmestFree.name) {k4 : Option Nat → Int32 → Int32 → rc_M Int32} (hk4 : ∀ (v0 : Option Nat) (v1 : Int32) (v2 : Int32) (S : rc_S), rc_Go Y rc_tI (k4 v0 v1 v2) S → rc_Z Y S 4 [some (rc_q v0), some (rc_i v1), some (rc_i v2)] []) (v0 : Option Nat) (v2 : Int32) (S : rc_S) (h : rc_Go Y rc_tI (rp_X3_warmestFree_L66 k4 v0 v2) S) : rc_Z Y S 66 [some (rc_q v0), none, some (rc_i v2)] [] := by
  unfold rp_X3_warmestFree_L66 at h
  refine rc_iload_n (pc := 66) hC dX3_warmestFree_66 rfl rfl ?_
  refine rc_istore_n (pc := 67) hC (L' := [some (rc_q v0), some (rc_i v2), some (rc_i v2)]) dX3_warmestFree_67 rfl (Nat.le_of_ble_eq_true rfl) rfl rfl ?_
  exact rw_X3_warmestFree_L68 hC hH hk4 v0 v2 v2 S h
theorem rw_X3_warmestFree_L4 {Y : rc_Y} (hC : rc_C Y cX3_warmestFree RX3 (Option.some Jvm.ClassFile.FieldType.int) 3) (hH : rc_H Y 4 86 yX3_warmestFree.name) : ∀ (n : Nat) (v0 : Option Nat) (v1 : Int32) (v2 : Int32) (S : rc_S), rc_Go Y rc_tI (rp_X3_warmestFree_L4  n v0 v1 v2) S → rc_Z Y S 4 [some (rc_q v0), some (rc_i v1), some (rc_i v2)] [] := by
  intro n
  induction n with
  | zero => intro v0 v1 v2 S h; exact h.fail.elim
  | succ n ih =>
    intro v0 v1 v2 S h
    rw [rp_X3_warmestFree_L4] at h
    refine rc_iload_n (pc := 4) hC dX3_warmestFree_4 rfl rfl ?_
    refine rc_aload_n (pc := 5) hC dX3_warmestFree_5 rfl rfl ?_
    refine rc_r_getq (pc := 6) hC rF_X3_12 dX3_warmestFree_6 h ?_
    intro x1 h
    obtain ⟨⟨fs, ho⟩, h⟩ := h.is
    refine rc_callF (x0 := rc_xsize) (y := yJ7_size) (pc := 9) hC rfl ho (rw_J7_size hH.1 x1) q936 q823 q825 q128 q827 (List.mem_of_getElem? (i := 0) rfl) ⟨by decide, by decide, rd_J7_size.2.2⟩ (hH.room (Nat.le_of_ble_eq_true rfl) (Nat.le_of_ble_eq_true rfl)) rfl rfl (Nat.le_of_ble_eq_true rfl) 0 rfl h.le.2.2 h.br rfl dX3_warmestFree_9 ?_ (fun E q S hT => rc_out hC hH.2.2.2.2 hT)
    intro x2 S h
    show rc_Z Y S 14 [some (rc_q v0), some (rc_i v1), some (rc_i v2)] [rc_i x2, rc_i v2]
    refine rc_icmp_ge (pc := 14) (tgt := 74) hC dX3_warmestFree_14 rfl h ?_ ?_
    · intro _ h
      refine rc_iload_n (pc := 74) hC dX3_warmestFree_74 rfl rfl ?_
      exact rc_iret hC rfl rfl dX3_warmestFree_75 h rfl
    intro _ h
    refine rc_aload_n (pc := 17) hC dX3_warmestFree_17 rfl rfl ?_
    refine rc_iload_n (pc := 18) hC dX3_warmestFree_18 rfl rfl ?_
    obtain ⟨⟨fs, ho⟩, h⟩ := h.is
    refine rc_callV (pc := 19) hC rfl ho (rw_X3_catOn hH.1 v0 v2) q1040 q932 q933 q126 q934 rfl rd_X3_catOn (hH.room (Nat.le_of_ble_eq_true rfl) (Nat.le_of_ble_eq_true rfl)) rfl rfl (Nat.le_of_ble_eq_true rfl) 1 rfl h.le.2.2 h.br rfl dX3_warmestFree_19 ?_ (fun E q S hT => rc_out hC hH.2.2.2.2 hT)
    intro x3 S h
    show rc_Z Y S 22 [some (rc_q v0), some (rc_i v1), some (rc_i v2)] [rc_i x3]
    refine rc_iconst (pc := 22) hC (v := (-1 : Int32)) dX3_warmestFree_22 rfl ?_
    refine rc_icmp_ne (pc := 23) (tgt := 68) hC dX3_warmestFree_23 rfl h ?_ ?_
    · intro _ h
      exact rw_X3_warmestFree_L68 hC hH ih v0 v1 v2 S h
    intro _ h
    refine rc_iload_n (pc := 26) hC dX3_warmestFree_26 rfl rfl ?_
    refine rc_iconst (pc := 27) hC (v := (-1 : Int32)) dX3_warmestFree_27 rfl ?_
    refine rc_icmp_eq (pc := 28) (tgt := 66) hC dX3_warmestFree_28 rfl h ?_ ?_
    · intro _ h
      refine rc_drop [true, false, true] (L' := [some (rc_q v0), none, some (rc_i v2)]) rfl ?_
      exact rw_X3_warmestFree_L66 hC hH ih v0 v2 S h
    intro _ h
    refine rc_aload_n (pc := 31) hC dX3_warmestFree_31 rfl rfl ?_
    refine rc_r_getq (pc := 32) hC rF_X3_12 dX3_warmestFree_32 h ?_
    intro x4 h
    refine rc_iload_n (pc := 35) hC dX3_warmestFree_35 rfl rfl ?_
    obtain ⟨⟨fs, ho⟩, h⟩ := h.is
    refine rc_callF (x0 := rc_xget) (y := yJ7_get) (pc := 36) hC rfl ho (rw_J7_get hH.1 x4 v2) q938 q941 q943 q128 q945 (List.mem_of_getElem? (i := 2) rfl) ⟨by decide, by decide, rd_J7_get.2.2⟩ (hH.room (Nat.le_of_ble_eq_true rfl) (Nat.le_of_ble_eq_true rfl)) rfl rfl (Nat.le_of_ble_eq_true rfl) 1 rfl h.le.2.2 h.br rfl dX3_warmestFree_36 ?_ (fun E q S hT => rc_out hC hH.2.2.2.2 hT)
    intro x5 S h
    show rc_Z Y S 41 [some (rc_q v0), some (rc_i v1), some (rc_i v2)] [rc_q x5]
    refine rc_r_cast (pc := 41) hC rK_X3_45 dX3_warmestFree_41 h ?_
    intro h
    refine rc_r_geti (pc := 44) hC rF_X3_117 dX3_warmestFree_44 h ?_
    intro x6 h
    refine rc_aload_n (pc := 47) hC dX3_warmestFree_47 rfl rfl ?_
    refine rc_r_getq (pc := 48) hC rF_X3_12 dX3_warmestFree_48 h ?_
    intro x7 h
    refine rc_iload_n (pc := 51) hC dX3_warmestFree_51 rfl rfl ?_
    obtain ⟨⟨fs, ho⟩, h⟩ := h.is
    refine rc_callF (x0 := rc_xget) (y := yJ7_get) (pc := 52) hC rfl ho (rw_J7_get hH.1 x7 v1) q938 q941 q943 q128 q945 (List.mem_of_getElem? (i := 2) rfl) ⟨by decide, by decide, rd_J7_get.2.2⟩ (hH.room (Nat.le_of_ble_eq_true rfl) (Nat.le_of_ble_eq_true rfl)) rfl rfl (Nat.le_of_ble_eq_true rfl) 1 rfl h.le.2.2 h.br rfl dX3_warmestFree_52 ?_ (fun E q S hT => rc_out hC hH.2.2.2.2 hT)
    intro x8 S h
    show rc_Z Y S 57 [some (rc_q v0), some (rc_i v1), some (rc_i v2)] [rc_q x8, rc_i x6]
    refine rc_r_cast (pc := 57) hC rK_X3_45 dX3_warmestFree_57 h ?_
    intro h
    refine rc_r_geti (pc := 60) hC rF_X3_117 dX3_warmestFree_60 h ?_
    intro x9 h
    refine rc_icmp_le (pc := 63) (tgt := 68) hC dX3_warmestFree_63 rfl h ?_ ?_
    · intro _ h
      exact rw_X3_warmestFree_L68 hC hH ih v0 v1 v2 S h
    intro _ h
    refine rc_drop [true, false, true] (L' := [some (rc_q v0), none, some (rc_i v2)]) rfl ?_
    exact rw_X3_warmestFree_L66 hC hH ih v0 v2 S h
theorem rw_X3_warmestFree {l : Launch} (hl : l.stackTraces = false) (v0 : Option Nat) : rc_Ct l yX3_warmestFree (ws_ yX3_warmestFree cX3_warmestFree 3 (Option.some Jvm.ClassFile.FieldType.int)) 4 86 rc_tI (rp_X3_warmestFree v0) [rc_q v0] := by
  refine rc_Ct_H hl (plainFor_of_name rY_X3) rfl (Nat.le_of_ble_eq_true rfl) (L0 := [some (rc_q v0), none, none]) rfl ?_
  intro Y S hC hH h
  have hC : rc_C Y cX3_warmestFree RX3 (Option.some Jvm.ClassFile.FieldType.int) 3 := hC
  unfold rp_X3_warmestFree at h
  refine rc_iconst (pc := 0) hC (v := (-1 : Int32)) dX3_warmestFree_0 rfl ?_
  refine rc_istore_n (pc := 1) hC (L' := [some (rc_q v0), some (rc_i (-1 : Int32)), none]) dX3_warmestFree_1 rfl (Nat.le_of_ble_eq_true rfl) rfl rfl ?_
  refine rc_iconst (pc := 2) hC (v := (0 : Int32)) dX3_warmestFree_2 rfl ?_
  refine rc_istore_n (pc := 3) hC (L' := [some (rc_q v0), some (rc_i (-1 : Int32)), some (rc_i (0 : Int32))]) dX3_warmestFree_3 rfl (Nat.le_of_ble_eq_true rfl) rfl rfl ?_
  refine rc_r_fuel h ?_
  intro x1 h
  exact rw_X3_warmestFree_L4 hC hH  x1 v0 (-1 : Int32) (0 : Int32) S h
theorem rw_X8_girth {l : Launch} (hl : l.stackTraces = false) (v0 : Option Nat) : rc_Ct l yX8_girth (ws_ yX8_girth cX8_girth 1 (Option.some Jvm.ClassFile.FieldType.int)) 0 0 rc_tI (rp_X8_girth v0) [rc_q v0] := by
  refine rc_Ct_H hl (plainFor_of_name rY_X8) rfl (Nat.le_of_ble_eq_true rfl) (L0 := [some (rc_q v0)]) rfl ?_
  intro Y S hC hH h
  have hC : rc_C Y cX8_girth RX8 (Option.some Jvm.ClassFile.FieldType.int) 1 := hC
  unfold rp_X8_girth at h
  refine rc_aload_n (pc := 0) hC dX8_girth_0 rfl rfl ?_
  refine rc_r_geti (pc := 1) hC rF_X8_7 dX8_girth_1 h ?_
  intro x1 h
  exact rc_iret hC rfl rfl dX8_girth_4 h rfl
theorem rw_X8_strength {l : Launch} (hl : l.stackTraces = false) (v0 : Option Nat) : rc_Ct l yX8_strength (ws_ yX8_strength cX8_strength 1 (Option.some Jvm.ClassFile.FieldType.int)) 0 0 rc_tI (rp_X8_strength v0) [rc_q v0] := by
  refine rc_Ct_H hl (plainFor_of_name rY_X8) rfl (Nat.le_of_ble_eq_true rfl) (L0 := [some (rc_q v0)]) rfl ?_
  intro Y S hC hH h
  have hC : rc_C Y cX8_strength RX8 (Option.some Jvm.ClassFile.FieldType.int) 1 := hC
  unfold rp_X8_strength at h
  refine rc_aload_n (pc := 0) hC dX8_strength_0 rfl rfl ?_
  refine rc_r_geti (pc := 1) hC rF_X8_13 dX8_strength_1 h ?_
  intro x1 h
  exact rc_iret hC rfl rfl dX8_strength_4 h rfl
theorem rw_X3_vote_L131 {Y : rc_Y} (hC : rc_C Y cX3_vote RX3 (Option.some Jvm.ClassFile.FieldType.boolean) 7) (hH : rc_H Y 7 171 yX3_vote.name) (v0 : Option Nat) (v6 : Int32) (S : rc_S) (h : rc_Go Y rc_tI (rp_X3_vote_L131  v0 v6) S) : rc_Z Y S 131 [some (rc_q v0), none, none, none, none, none, some (rc_i v6)] [] := by
  unfold rp_X3_vote_L131 at h
  refine rc_aload_n (pc := 131) hC dX3_vote_131 rfl rfl ?_
  refine rc_null (pc := 132) hC dX3_vote_132 ?_
  refine rc_r_put (pc := 133) hC rP_X3_68 (nofun) dX3_vote_133 h ?_
  intro S h
  refine rc_iload (pc := 136) hC dX3_vote_136 rfl ?_
  obtain ⟨hn, h⟩ := h.nar
  exact rc_iret hC rfl hn dX3_vote_138 h rfl
theorem rw_X3_vote_L91 {Y : rc_Y} (hC : rc_C Y cX3_vote RX3 (Option.some Jvm.ClassFile.FieldType.boolean) 7) (hH : rc_H Y 7 171 yX3_vote.name) (v0 : Option Nat) (v5 : Int32) (s0 : Int32) (S : rc_S) (h : rc_Go Y rc_tI (rp_X3_vote_L91  v0 v5 s0) S) : rc_Z Y S 91 [some (rc_q v0), none, none, none, none, some (rc_i v5), none] [rc_i s0] := by
  unfold rp_X3_vote_L91 at h
  refine rc_istore (pc := 91) hC (L' := [some (rc_q v0), none, none, none, none, some (rc_i v5), some (rc_i s0)]) dX3_vote_91 (Nat.le_of_ble_eq_true rfl) rfl rfl ?_
  refine rc_iload (pc := 93) hC dX3_vote_93 rfl ?_
  refine rc_if_eq (pc := 95) (tgt := 131) hC dX3_vote_95 rfl h ?_ ?_
  · intro _ h
    refine rc_drop [true, false, false, false, false, false, true] (L' := [some (rc_q v0), none, none, none, none, none, some (rc_i s0)]) rfl ?_
    exact rw_X3_vote_L131 hC hH  v0 s0 S h
  intro _ h
  refine rc_aload_n (pc := 98) hC dX3_vote_98 rfl rfl ?_
  refine rc_r_getq (pc := 99) hC rF_X3_21 dX3_vote_99 h ?_
  intro x1 h
  refine rc_r_new (pc := 102) hC rN_X3_57 dX3_vote_102 h ?_
  intro x2 S h
  refine rc_dup (pc := 105) hC dX3_vote_105 rfl ?_
  refine rc_iload (pc := 106) hC dX3_vote_106 rfl ?_
  refine rc_aload_n (pc := 108) hC dX3_vote_108 rfl rfl ?_
  refine rc_r_getq (pc := 109) hC rF_X3_68 dX3_vote_109 h ?_
  intro x3 h
  obtain ⟨⟨fs, ho⟩, h⟩ := h.is
  refine rc_callV (pc := 112) hC rfl ho (rw_X8_girth hH.1 x3) q1190 q1191 q1192 q147 q1193 rfl rd_X8_girth (hH.room (Nat.le_of_ble_eq_true rfl) (Nat.le_of_ble_eq_true rfl)) rfl rfl (Nat.le_of_ble_eq_true rfl) 0 rfl h.le.2.2 h.br rfl dX3_vote_112 ?_ (fun E q S hT => rc_out hC hH.2.2.2.2 hT)
  intro x4 S h
  show rc_Z Y S 115 [some (rc_q v0), none, none, none, none, some (rc_i v5), some (rc_i s0)] [rc_i x4, rc_i v5, rc_q x2, rc_q x2, rc_q x1]
  refine rc_aload_n (pc := 115) hC dX3_vote_115 rfl rfl ?_
  refine rc_r_getq (pc := 116) hC rF_X3_68 dX3_vote_116 h ?_
  intro x5 h
  obtain ⟨⟨fs, ho⟩, h⟩ := h.is
  refine rc_callV (pc := 119) hC rfl ho (rw_X8_strength hH.1 x5) q1194 q1195 q1196 q147 q1197 rfl rd_X8_strength (hH.room (Nat.le_of_ble_eq_true rfl) (Nat.le_of_ble_eq_true rfl)) rfl rfl (Nat.le_of_ble_eq_true rfl) 0 rfl h.le.2.2 h.br rfl dX3_vote_119 ?_ (fun E q S hT => rc_out hC hH.2.2.2.2 hT)
  intro x6 S h
  show rc_Z Y S 122 [some (rc_q v0), none, none, none, none, some (rc_i v5), some (rc_i s0)] [rc_i x6, rc_i x4, rc_i v5, rc_q x2, rc_q x2, rc_q x1]
  obtain ⟨⟨b9, ho⟩, h⟩ := h.nn
  refine rc_callI (pc := 122) hC ho (rw_X7_init hH.1 x2 v5 x4 x6) q1198 q958 q146 q959 rfl rfl rd_X7_init (hH.room (Nat.le_of_ble_eq_true rfl) (Nat.le_of_ble_eq_true rfl)) rfl rfl (Nat.le_of_ble_eq_true rfl) 3 rfl h.le.2.2 h.br rfl dX3_vote_122 ?_ (fun E q S hT => rc_out hC hH.2.2.2.2 hT)
  intro _ S h
  show rc_Z Y S 125 [some (rc_q v0), none, none, none, none, some (rc_i v5), some (rc_i s0)] [rc_q x2, rc_q x1]
  obtain ⟨⟨fs, ho⟩, h⟩ := h.is
  refine rc_callF (x0 := rc_xadd) (y := yJ7_add) (pc := 125) hC rfl ho (rw_J7_add hH.1 x1 x2) q1200 q850 q852 q128 q854 (List.mem_of_getElem? (i := 1) rfl) ⟨by decide, by decide, rd_J7_add.2.2⟩ (hH.room (Nat.le_of_ble_eq_true rfl) (Nat.le_of_ble_eq_true rfl)) rfl rfl (Nat.le_of_ble_eq_true rfl) 1 rfl h.le.2.2 h.br rfl dX3_vote_125 ?_ (fun E q S hT => rc_out hC hH.2.2.2.2 hT)
  intro x7 S h
  show rc_Z Y S 130 [some (rc_q v0), none, none, none, none, some (rc_i v5), some (rc_i s0)] [rc_i x7]
  refine rc_pop (pc := 130) hC dX3_vote_130 rfl ?_
  refine rc_drop [true, false, false, false, false, false, true] (L' := [some (rc_q v0), none, none, none, none, none, some (rc_i s0)]) rfl ?_
  exact rw_X3_vote_L131 hC hH  v0 s0 S h
theorem rw_X3_vote_L90 {Y : rc_Y} (hC : rc_C Y cX3_vote RX3 (Option.some Jvm.ClassFile.FieldType.boolean) 7) (hH : rc_H Y 7 171 yX3_vote.name) (v0 : Option Nat) (v5 : Int32) (S : rc_S) (h : rc_Go Y rc_tI (rp_X3_vote_L90  v0 v5) S) : rc_Z Y S 90 [some (rc_q v0), none, none, none, none, some (rc_i v5), none] [] := by
  unfold rp_X3_vote_L90 at h
  refine rc_iconst (pc := 90) hC (v := (0 : Int32)) dX3_vote_90 rfl ?_
  exact rw_X3_vote_L91 hC hH  v0 v5 (0 : Int32) S h
theorem rw_X3_vote {l : Launch} (hl : l.stackTraces = false) (v0 : Option Nat) (v1 : Int32) (v2 : Int32) : rc_Ct l yX3_vote (ws_ yX3_vote cX3_vote 7 (Option.some Jvm.ClassFile.FieldType.boolean)) 7 171 rc_tI (rp_X3_vote v0 v1 v2) [rc_q v0, rc_i v1, rc_i v2] := by
  refine rc_Ct_H hl (plainFor_of_name rY_X3) rfl (Nat.le_of_ble_eq_true rfl) (L0 := [some (rc_q v0), some (rc_i v1), some (rc_i v2), none, none, none, none]) rfl ?_
  intro Y S hC hH h
  have hC : rc_C Y cX3_vote RX3 (Option.some Jvm.ClassFile.FieldType.boolean) 7 := hC
  unfold rp_X3_vote at h
  refine rc_aload_n (pc := 0) hC dX3_vote_0 rfl rfl ?_
  refine rc_aload_n (pc := 1) hC dX3_vote_1 rfl rfl ?_
  refine rc_r_getq (pc := 2) hC rF_X3_68 dX3_vote_2 h ?_
  intro x1 h
  refine rc_iload_n (pc := 5) hC dX3_vote_5 rfl rfl ?_
  refine rc_iload_n (pc := 6) hC dX3_vote_6 rfl rfl ?_
  obtain ⟨⟨fs, ho⟩, h⟩ := h.is
  refine rc_callV (pc := 7) hC rfl ho (rw_X8_with hH.1 x1 v1 v2) q1172 q1173 q1174 q147 q1175 rfl rd_X8_with (hH.room (Nat.le_of_ble_eq_true rfl) (Nat.le_of_ble_eq_true rfl)) rfl rfl (Nat.le_of_ble_eq_true rfl) 2 rfl h.le.2.2 h.br rfl dX3_vote_7 ?_ (fun E q S hT => rc_out hC hH.2.2.2.2 hT)
  intro x2 S h
  show rc_Z Y S 10 [some (rc_q v0), some (rc_i v1), some (rc_i v2), none, none, none, none] [rc_q x2, rc_q v0]
  refine rc_r_put (pc := 10) hC rP_X3_68 (nofun) dX3_vote_10 h ?_
  intro S h
  refine rc_aload_n (pc := 13) hC dX3_vote_13 rfl rfl ?_
  refine rc_r_getq (pc := 14) hC rF_X3_68 dX3_vote_14 h ?_
  intro x3 h
  obtain ⟨⟨fs, ho⟩, h⟩ := h.is
  refine rc_callV (pc := 17) hC rfl ho (rw_X8_yes hH.1 x3) q1178 q1179 q1180 q147 q1181 rfl rd_X8_yes (hH.room (Nat.le_of_ble_eq_true rfl) (Nat.le_of_ble_eq_true rfl)) rfl rfl (Nat.le_of_ble_eq_true rfl) 0 rfl h.le.2.2 h.br rfl dX3_vote_17 ?_ (fun E q S hT => rc_out hC hH.2.2.2.2 hT)
  intro x4 S h
  show rc_Z Y S 20 [some (rc_q v0), some (rc_i v1), some (rc_i v2), none, none, none, none] [rc_i x4]
  refine rc_callS (pc := 20) hC (rw_J15_bitCount hH.1 x4) q1009 q1010 q137 q1011 rd_J15_bitCount (hH.room (Nat.le_of_ble_eq_true rfl) (Nat.le_of_ble_eq_true rfl)) rfl rfl (Nat.le_of_ble_eq_true rfl) 1 rfl h.le.2.2 h.br rfl dX3_vote_20 ?_ (fun E q S hT => rc_out hC hH.2.2.2.2 hT)
  intro x5 S h
  show rc_Z Y S 23 [some (rc_q v0), some (rc_i v1), some (rc_i v2), none, none, none, none] [rc_i x5]
  refine rc_istore_n (pc := 23) hC (L' := [some (rc_q v0), some (rc_i v1), some (rc_i v2), some (rc_i x5), none, none, none]) dX3_vote_23 rfl (Nat.le_of_ble_eq_true rfl) rfl rfl ?_
  refine rc_aload_n (pc := 24) hC dX3_vote_24 rfl rfl ?_
  refine rc_r_getq (pc := 25) hC rF_X3_68 dX3_vote_25 h ?_
  intro x6 h
  obtain ⟨⟨fs, ho⟩, h⟩ := h.is
  refine rc_callV (pc := 28) hC rfl ho (rw_X8_no hH.1 x6) q1182 q1183 q1184 q147 q1185 rfl rd_X8_no (hH.room (Nat.le_of_ble_eq_true rfl) (Nat.le_of_ble_eq_true rfl)) rfl rfl (Nat.le_of_ble_eq_true rfl) 0 rfl h.le.2.2 h.br rfl dX3_vote_28 ?_ (fun E q S hT => rc_out hC hH.2.2.2.2 hT)
  intro x7 S h
  show rc_Z Y S 31 [some (rc_q v0), some (rc_i v1), some (rc_i v2), some (rc_i x5), none, none, none] [rc_i x7]
  refine rc_callS (pc := 31) hC (rw_J15_bitCount hH.1 x7) q1009 q1010 q137 q1011 rd_J15_bitCount (hH.room (Nat.le_of_ble_eq_true rfl) (Nat.le_of_ble_eq_true rfl)) rfl rfl (Nat.le_of_ble_eq_true rfl) 1 rfl h.le.2.2 h.br rfl dX3_vote_31 ?_ (fun E q S hT => rc_out hC hH.2.2.2.2 hT)
  intro x8 S h
  show rc_Z Y S 34 [some (rc_q v0), some (rc_i v1), some (rc_i v2), some (rc_i x5), none, none, none] [rc_i x8]
  refine rc_istore (pc := 34) hC (L' := [some (rc_q v0), some (rc_i v1), some (rc_i v2), some (rc_i x5), some (rc_i x8), none, none]) dX3_vote_34 (Nat.le_of_ble_eq_true rfl) rfl rfl ?_
  refine rc_iload_n (pc := 36) hC dX3_vote_36 rfl rfl ?_
  refine rc_iload (pc := 37) hC dX3_vote_37 rfl ?_
  refine rc_iadd (pc := 39) hC dX3_vote_39 ?_
  refine rc_aload_n (pc := 40) hC dX3_vote_40 rfl rfl ?_
  refine rc_r_getq (pc := 41) hC rF_X3_21 dX3_vote_41 h ?_
  intro x9 h
  obtain ⟨⟨fs, ho⟩, h⟩ := h.is
  refine rc_callF (x0 := rc_xsize) (y := yJ7_size) (pc := 44) hC rfl ho (rw_J7_size hH.1 x9) q936 q823 q825 q128 q827 (List.mem_of_getElem? (i := 0) rfl) ⟨by decide, by decide, rd_J7_size.2.2⟩ (hH.room (Nat.le_of_ble_eq_true rfl) (Nat.le_of_ble_eq_true rfl)) rfl rfl (Nat.le_of_ble_eq_true rfl) 0 rfl h.le.2.2 h.br rfl dX3_vote_44 ?_ (fun E q S hT => rc_out hC hH.2.2.2.2 hT)
  intro x10 S h
  show rc_Z Y S 49 [some (rc_q v0), some (rc_i v1), some (rc_i v2), some (rc_i x5), some (rc_i x8), none, none] [rc_i x10, rc_i (x5 + x8)]
  refine rc_icmp_ge (pc := 49) (tgt := 54) hC dX3_vote_49 rfl h ?_ ?_
  · intro _ h
    refine rc_aload_n (pc := 54) hC dX3_vote_54 rfl rfl ?_
    obtain ⟨⟨fs, ho⟩, h⟩ := h.is
    refine rc_callV (pc := 55) hC rfl ho (rw_X3_warmestFree hH.1 v0) q1186 q1187 q1188 q126 q1189 rfl rd_X3_warmestFree (hH.room (Nat.le_of_ble_eq_true rfl) (Nat.le_of_ble_eq_true rfl)) rfl rfl (Nat.le_of_ble_eq_true rfl) 0 rfl h.le.2.2 h.br rfl dX3_vote_55 ?_ (fun E q S hT => rc_out hC hH.2.2.2.2 hT)
    intro x11 S h
    show rc_Z Y S 58 [some (rc_q v0), some (rc_i v1), some (rc_i v2), some (rc_i x5), some (rc_i x8), none, none] [rc_i x11]
    refine rc_istore (pc := 58) hC (L' := [some (rc_q v0), some (rc_i v1), some (rc_i v2), some (rc_i x5), some (rc_i x8), some (rc_i x11), none]) dX3_vote_58 (Nat.le_of_ble_eq_true rfl) rfl rfl ?_
    refine rc_iload_n (pc := 60) hC dX3_vote_60 rfl rfl ?_
    refine rc_iload (pc := 61) hC dX3_vote_61 rfl ?_
    refine rc_icmp_le (pc := 63) (tgt := 90) hC dX3_vote_63 rfl h ?_ ?_
    · intro _ h
      refine rc_drop [true, false, false, false, false, true, false] (L' := [some (rc_q v0), none, none, none, none, some (rc_i x11), none]) rfl ?_
      exact rw_X3_vote_L90 hC hH  v0 x11 S h
    intro _ h
    refine rc_aload_n (pc := 66) hC dX3_vote_66 rfl rfl ?_
    refine rc_r_getq (pc := 67) hC rF_X3_21 dX3_vote_67 h ?_
    intro x12 h
    obtain ⟨⟨fs, ho⟩, h⟩ := h.is
    refine rc_callF (x0 := rc_xsize) (y := yJ7_size) (pc := 70) hC rfl ho (rw_J7_size hH.1 x12) q936 q823 q825 q128 q827 (List.mem_of_getElem? (i := 0) rfl) ⟨by decide, by decide, rd_J7_size.2.2⟩ (hH.room (Nat.le_of_ble_eq_true rfl) (Nat.le_of_ble_eq_true rfl)) rfl rfl (Nat.le_of_ble_eq_true rfl) 0 rfl h.le.2.2 h.br rfl dX3_vote_70 ?_ (fun E q S hT => rc_out hC hH.2.2.2.2 hT)
    intro x13 S h
    show rc_Z Y S 75 [some (rc_q v0), some (rc_i v1), some (rc_i v2), some (rc_i x5), some (rc_i x8), some (rc_i x11), none] [rc_i x13]
    refine rc_bipush (pc := 75) hC (v := (8 : Int32)) dX3_vote_75 rfl ?_
    refine rc_icmp_ge (pc := 77) (tgt := 90) hC dX3_vote_77 rfl h ?_ ?_
    · intro _ h
      refine rc_drop [true, false, false, false, false, true, false] (L' := [some (rc_q v0), none, none, none, none, some (rc_i x11), none]) rfl ?_
      exact rw_X3_vote_L90 hC hH  v0 x11 S h
    intro _ h
    refine rc_iload (pc := 80) hC dX3_vote_80 rfl ?_
    refine rc_iconst (pc := 82) hC (v := (-1 : Int32)) dX3_vote_82 rfl ?_
    refine rc_icmp_eq (pc := 83) (tgt := 90) hC dX3_vote_83 rfl h ?_ ?_
    · intro _ h
      refine rc_drop [true, false, false, false, false, true, false] (L' := [some (rc_q v0), none, none, none, none, some (rc_i x11), none]) rfl ?_
      exact rw_X3_vote_L90 hC hH  v0 x11 S h
    intro _ h
    refine rc_iconst (pc := 86) hC (v := (1 : Int32)) dX3_vote_86 rfl ?_
    refine rc_goto (pc := 87) (tgt := 91) hC dX3_vote_87 rfl ?_
    refine rc_drop [true, false, false, false, false, true, false] (L' := [some (rc_q v0), none, none, none, none, some (rc_i x11), none]) rfl ?_
    exact rw_X3_vote_L91 hC hH  v0 x11 (1 : Int32) S h
  intro _ h
  refine rc_iconst (pc := 52) hC (v := (0 : Int32)) dX3_vote_52 rfl ?_
  exact rc_iret hC rfl rfl dX3_vote_53 h rfl
theorem rw_X5_copy {l : Launch} (hl : l.stackTraces = false) (v0 : Option Nat) : rc_Ct l yX5_copy (ws_ yX5_copy cX5_copy 2 (Option.some (Jvm.ClassFile.FieldType.object "RooftopCats$Chimney"))) 2 41 rc_tQ (rp_X5_copy v0) [rc_q v0] := by
  refine rc_Ct_H hl (plainFor_of_name rY_X5) rfl (Nat.le_of_ble_eq_true rfl) (L0 := [some (rc_q v0), none]) rfl ?_
  intro Y S hC hH h
  have hC : rc_C Y cX5_copy RX5 (Option.some (Jvm.ClassFile.FieldType.object "RooftopCats$Chimney")) 2 := hC
  unfold rp_X5_copy at h
  refine rc_r_new (pc := 0) hC rN_X5_10 dX5_copy_0 h ?_
  intro x1 S h
  refine rc_dup (pc := 3) hC dX5_copy_3 rfl ?_
  refine rc_aload_n (pc := 4) hC dX5_copy_4 rfl rfl ?_
  refine rc_r_geti (pc := 5) hC rF_X5_15 dX5_copy_5 h ?_
  intro x2 h
  obtain ⟨⟨b9, ho⟩, h⟩ := h.nn
  refine rc_callI (pc := 8) hC ho (rw_X5_init hH.1 x1 x2) q1462 q831 q142 q832 rfl rfl rd_X5_init (hH.room (Nat.le_of_ble_eq_true rfl) (Nat.le_of_ble_eq_true rfl)) rfl rfl (Nat.le_of_ble_eq_true rfl) 1 rfl h.le.2.2 h.br rfl dX5_copy_8 ?_ (fun E q S hT => rc_out hC hH.2.2.2.2 hT)
  intro _ S h
  show rc_Z Y S 11 [some (rc_q v0), none] [rc_q x1]
  refine rc_astore_n (pc := 11) hC (L' := [some (rc_q v0), some (rc_q x1)]) dX5_copy_11 rfl (Nat.le_of_ble_eq_true rfl) rfl rfl ?_
  refine rc_aload_n (pc := 12) hC dX5_copy_12 rfl rfl ?_
  refine rc_aload_n (pc := 13) hC dX5_copy_13 rfl rfl ?_
  refine rc_r_geti (pc := 14) hC rF_X5_9 dX5_copy_14 h ?_
  intro x3 h
  refine rc_r_put (pc := 17) hC rP_X5_9 (nofun) dX5_copy_17 h ?_
  intro S h
  refine rc_aload_n (pc := 20) hC dX5_copy_20 rfl rfl ?_
  exact rc_aret hC rfl (by first | exact Or.inl ⟨_, rfl⟩ | exact Or.inr ⟨_, rfl⟩) dX5_copy_21 h rfl
theorem rw_X7_copy {l : Launch} (hl : l.stackTraces = false) (v0 : Option Nat) : rc_Ct l yX7_copy (ws_ yX7_copy cX7_copy 2 (Option.some (Jvm.ClassFile.FieldType.object "RooftopCats$Cat"))) 2 43 rc_tQ (rp_X7_copy v0) [rc_q v0] := by
  refine rc_Ct_H hl (plainFor_of_name rY_X7) rfl (Nat.le_of_ble_eq_true rfl) (L0 := [some (rc_q v0), none]) rfl ?_
  intro Y S hC hH h
  have hC : rc_C Y cX7_copy RX7 (Option.some (Jvm.ClassFile.FieldType.object "RooftopCats$Cat")) 2 := hC
  unfold rp_X7_copy at h
  refine rc_r_new (pc := 0) hC rN_X7_10 dX7_copy_0 h ?_
  intro x1 S h
  refine rc_dup (pc := 3) hC dX7_copy_3 rfl ?_
  refine rc_aload_n (pc := 4) hC dX7_copy_4 rfl rfl ?_
  refine rc_r_geti (pc := 5) hC rF_X7_15 dX7_copy_5 h ?_
  intro x2 h
  refine rc_aload_n (pc := 8) hC dX7_copy_8 rfl rfl ?_
  refine rc_r_geti (pc := 9) hC rF_X7_18 dX7_copy_9 h ?_
  intro x3 h
  refine rc_aload_n (pc := 12) hC dX7_copy_12 rfl rfl ?_
  refine rc_r_geti (pc := 13) hC rF_X7_21 dX7_copy_13 h ?_
  intro x4 h
  obtain ⟨⟨b9, ho⟩, h⟩ := h.nn
  refine rc_callI (pc := 16) hC ho (rw_X7_init hH.1 x1 x2 x3 x4) q1468 q958 q146 q959 rfl rfl rd_X7_init (hH.room (Nat.le_of_ble_eq_true rfl) (Nat.le_of_ble_eq_true rfl)) rfl rfl (Nat.le_of_ble_eq_true rfl) 3 rfl h.le.2.2 h.br rfl dX7_copy_16 ?_ (fun E q S hT => rc_out hC hH.2.2.2.2 hT)
  intro _ S h
  show rc_Z Y S 19 [some (rc_q v0), none] [rc_q x1]
  refine rc_astore_n (pc := 19) hC (L' := [some (rc_q v0), some (rc_q x1)]) dX7_copy_19 rfl (Nat.le_of_ble_eq_true rfl) rfl rfl ?_
  refine rc_aload_n (pc := 20) hC dX7_copy_20 rfl rfl ?_
  refine rc_aload_n (pc := 21) hC dX7_copy_21 rfl rfl ?_
  refine rc_r_geti (pc := 22) hC rF_X7_9 dX7_copy_22 h ?_
  intro x5 h
  refine rc_r_put (pc := 25) hC rP_X7_9 (nofun) dX7_copy_25 h ?_
  intro S h
  refine rc_aload_n (pc := 28) hC dX7_copy_28 rfl rfl ?_
  exact rc_aret hC rfl (by first | exact Or.inl ⟨_, rfl⟩ | exact Or.inr ⟨_, rfl⟩) dX7_copy_29 h rfl
theorem rw_X3_copy_L107 {Y : rc_Y} (hC : rc_C Y cX3_copy RX3 (Option.some (Jvm.ClassFile.FieldType.object "RooftopCats$Roof")) 4) (hH : rc_H Y 7 171 yX3_copy.name) : ∀ (n : Nat) (v0 : Option Nat) (v1 : Option Nat) (v2 : Option Nat) (S : rc_S), rc_Go Y rc_tQ (rp_X3_copy_L107  n v0 v1 v2) S → rc_Z Y S 107 [some (rc_q v0), some (rc_q v1), some (rc_q v2), none] [] := by
  intro n
  induction n with
  | zero => intro v0 v1 v2 S h; exact h.fail.elim
  | succ n ih =>
    intro v0 v1 v2 S h
    rw [rp_X3_copy_L107] at h
    refine rc_aload_n (pc := 107) hC dX3_copy_107 rfl rfl ?_
    obtain ⟨⟨fs, ho⟩, h⟩ := h.is
    refine rc_callF (x0 := rc_xhas) (y := yJ25_hasNext) (pc := 108) hC rfl ho (rw_J25_hasNext hH.1 v2) q1433 q1437 q1439 q154 q1441 (List.mem_of_getElem? (i := 5) rfl) ⟨by decide, by decide, rd_J25_hasNext.2.2⟩ (hH.room (Nat.le_of_ble_eq_true rfl) (Nat.le_of_ble_eq_true rfl)) rfl rfl (Nat.le_of_ble_eq_true rfl) 0 rfl h.le.2.2 h.br rfl dX3_copy_108 ?_ (fun E q S hT => rc_out hC hH.2.2.2.2 hT)
    intro x1 S h
    show rc_Z Y S 113 [some (rc_q v0), some (rc_q v1), some (rc_q v2), none] [rc_i x1]
    refine rc_if_eq (pc := 113) (tgt := 143) hC dX3_copy_113 rfl h ?_ ?_
    · intro _ h
      refine rc_aload_n (pc := 143) hC dX3_copy_143 rfl rfl ?_
      refine rc_r_getq (pc := 144) hC rF_X3_24 dX3_copy_144 h ?_
      intro x2 h
      refine rc_iconst (pc := 147) hC (v := (0 : Int32)) dX3_copy_147 rfl ?_
      refine rc_aload_n (pc := 148) hC dX3_copy_148 rfl rfl ?_
      refine rc_r_getq (pc := 149) hC rF_X3_24 dX3_copy_149 h ?_
      intro x3 h
      refine rc_iconst (pc := 152) hC (v := (0 : Int32)) dX3_copy_152 rfl ?_
      refine rc_aload_n (pc := 153) hC dX3_copy_153 rfl rfl ?_
      refine rc_r_getq (pc := 154) hC rF_X3_24 dX3_copy_154 h ?_
      intro x4 h
      refine rc_r_alen (pc := 157) hC dX3_copy_157 h ?_
      intro x5 h
      refine rc_r_acopy (pc := 158) (t := 0) hC q1469 q470 q469 q140 (hH.frm (Nat.le_of_ble_eq_true rfl)) (hH.lom (Nat.le_of_ble_eq_true rfl)) rfl rfl (Nat.le_of_ble_eq_true rfl) dX3_copy_158 h ?_
      intro S h
      refine rc_aload_n (pc := 161) hC dX3_copy_161 rfl rfl ?_
      refine rc_aload_n (pc := 162) hC dX3_copy_162 rfl rfl ?_
      refine rc_r_getq (pc := 163) hC rF_X3_68 dX3_copy_163 h ?_
      intro x6 h
      refine rc_r_put (pc := 166) hC rP_X3_68 (nofun) dX3_copy_166 h ?_
      intro S h
      refine rc_aload_n (pc := 169) hC dX3_copy_169 rfl rfl ?_
      refine rc_aload_n (pc := 170) hC dX3_copy_170 rfl rfl ?_
      refine rc_r_geti (pc := 171) hC rF_X3_72 dX3_copy_171 h ?_
      intro x7 h
      refine rc_r_put (pc := 174) hC rP_X3_72 (nofun) dX3_copy_174 h ?_
      intro S h
      refine rc_aload_n (pc := 177) hC dX3_copy_177 rfl rfl ?_
      refine rc_aload_n (pc := 178) hC dX3_copy_178 rfl rfl ?_
      refine rc_r_geti (pc := 179) hC rF_X3_76 dX3_copy_179 h ?_
      intro x8 h
      refine rc_r_put (pc := 182) hC rP_X3_76 (nofun) dX3_copy_182 h ?_
      intro S h
      refine rc_aload_n (pc := 185) hC dX3_copy_185 rfl rfl ?_
      refine rc_aload_n (pc := 186) hC dX3_copy_186 rfl rfl ?_
      refine rc_r_geti (pc := 187) hC rF_X3_79 dX3_copy_187 h ?_
      intro x9 h
      refine rc_r_put (pc := 190) hC rP_X3_79 (nofun) dX3_copy_190 h ?_
      intro S h
      refine rc_aload_n (pc := 193) hC dX3_copy_193 rfl rfl ?_
      exact rc_aret hC rfl (by first | exact Or.inl ⟨_, rfl⟩ | exact Or.inr ⟨_, rfl⟩) dX3_copy_194 h rfl
    intro _ h
    refine rc_aload_n (pc := 116) hC dX3_copy_116 rfl rfl ?_
    obtain ⟨⟨fs, ho⟩, h⟩ := h.is
    refine rc_callF (x0 := rc_xnext) (y := yJ25_next) (pc := 117) hC rfl ho (rw_J25_next hH.1 v2) q1443 q1446 q1448 q154 q1450 (List.mem_of_getElem? (i := 6) rfl) ⟨by decide, by decide, rd_J25_next.2.2⟩ (hH.room (Nat.le_of_ble_eq_true rfl) (Nat.le_of_ble_eq_true rfl)) rfl rfl (Nat.le_of_ble_eq_true rfl) 0 rfl h.le.2.2 h.br rfl dX3_copy_117 ?_ (fun E q S hT => rc_out hC hH.2.2.2.2 hT)
    intro x10 S h
    show rc_Z Y S 122 [some (rc_q v0), some (rc_q v1), some (rc_q v2), none] [rc_q x10]
    refine rc_r_cast (pc := 122) hC rK_X3_57 dX3_copy_122 h ?_
    intro h
    refine rc_astore_n (pc := 125) hC (L' := [some (rc_q v0), some (rc_q v1), some (rc_q v2), some (rc_q x10)]) dX3_copy_125 rfl (Nat.le_of_ble_eq_true rfl) rfl rfl ?_
    refine rc_aload_n (pc := 126) hC dX3_copy_126 rfl rfl ?_
    refine rc_r_getq (pc := 127) hC rF_X3_21 dX3_copy_127 h ?_
    intro x11 h
    refine rc_aload_n (pc := 130) hC dX3_copy_130 rfl rfl ?_
    obtain ⟨⟨fs, ho⟩, h⟩ := h.is
    refine rc_callV (pc := 131) hC rfl ho (rw_X7_copy hH.1 x10) q1463 q1464 q1465 q146 q1466 rfl rd_X7_copy (hH.room (Nat.le_of_ble_eq_true rfl) (Nat.le_of_ble_eq_true rfl)) rfl rfl (Nat.le_of_ble_eq_true rfl) 0 rfl h.le.2.2 h.br rfl dX3_copy_131 ?_ (fun E q S hT => rc_out hC hH.2.2.2.2 hT)
    intro x12 S h
    show rc_Z Y S 134 [some (rc_q v0), some (rc_q v1), some (rc_q v2), some (rc_q x10)] [rc_q x12, rc_q x11]
    obtain ⟨⟨fs, ho⟩, h⟩ := h.is
    refine rc_callF (x0 := rc_xadd) (y := yJ7_add) (pc := 134) hC rfl ho (rw_J7_add hH.1 x11 x12) q1200 q850 q852 q128 q854 (List.mem_of_getElem? (i := 1) rfl) ⟨by decide, by decide, rd_J7_add.2.2⟩ (hH.room (Nat.le_of_ble_eq_true rfl) (Nat.le_of_ble_eq_true rfl)) rfl rfl (Nat.le_of_ble_eq_true rfl) 1 rfl h.le.2.2 h.br rfl dX3_copy_134 ?_ (fun E q S hT => rc_out hC hH.2.2.2.2 hT)
    intro x13 S h
    show rc_Z Y S 139 [some (rc_q v0), some (rc_q v1), some (rc_q v2), some (rc_q x10)] [rc_i x13]
    refine rc_pop (pc := 139) hC dX3_copy_139 rfl ?_
    refine rc_goto (pc := 140) (tgt := 107) hC dX3_copy_140 rfl ?_
    refine rc_drop [true, true, true, false] (L' := [some (rc_q v0), some (rc_q v1), some (rc_q v2), none]) rfl ?_
    exact ih v0 v1 v2 S h
theorem rw_X3_copy_L64 {Y : rc_Y} (hC : rc_C Y cX3_copy RX3 (Option.some (Jvm.ClassFile.FieldType.object "RooftopCats$Roof")) 4) (hH : rc_H Y 7 171 yX3_copy.name) : ∀ (n : Nat) (v0 : Option Nat) (v1 : Option Nat) (v2 : Option Nat) (S : rc_S), rc_Go Y rc_tQ (rp_X3_copy_L64  n v0 v1 v2) S → rc_Z Y S 64 [some (rc_q v0), some (rc_q v1), some (rc_q v2), none] [] := by
  intro n
  induction n with
  | zero => intro v0 v1 v2 S h; exact h.fail.elim
  | succ n ih =>
    intro v0 v1 v2 S h
    rw [rp_X3_copy_L64] at h
    refine rc_aload_n (pc := 64) hC dX3_copy_64 rfl rfl ?_
    obtain ⟨⟨fs, ho⟩, h⟩ := h.is
    refine rc_callF (x0 := rc_xhas) (y := yJ25_hasNext) (pc := 65) hC rfl ho (rw_J25_hasNext hH.1 v2) q1433 q1437 q1439 q154 q1441 (List.mem_of_getElem? (i := 5) rfl) ⟨by decide, by decide, rd_J25_hasNext.2.2⟩ (hH.room (Nat.le_of_ble_eq_true rfl) (Nat.le_of_ble_eq_true rfl)) rfl rfl (Nat.le_of_ble_eq_true rfl) 0 rfl h.le.2.2 h.br rfl dX3_copy_65 ?_ (fun E q S hT => rc_out hC hH.2.2.2.2 hT)
    intro x1 S h
    show rc_Z Y S 70 [some (rc_q v0), some (rc_q v1), some (rc_q v2), none] [rc_i x1]
    refine rc_if_eq (pc := 70) (tgt := 97) hC dX3_copy_70 rfl h ?_ ?_
    · intro _ h
      refine rc_aload_n (pc := 97) hC dX3_copy_97 rfl rfl ?_
      refine rc_r_getq (pc := 98) hC rF_X3_21 dX3_copy_98 h ?_
      intro x2 h
      obtain ⟨⟨fs, ho⟩, h⟩ := h.is
      refine rc_callF (x0 := rc_xiter) (y := yJ7_iterator) (pc := 101) hC rfl ho (rw_J7_iterator hH.1 x2) q1405 q1408 q1410 q128 q1412 (List.mem_of_getElem? (i := 4) rfl) ⟨by decide, by decide, rd_J7_iterator.2.2⟩ (hH.room (Nat.le_of_ble_eq_true rfl) (Nat.le_of_ble_eq_true rfl)) rfl rfl (Nat.le_of_ble_eq_true rfl) 0 rfl h.le.2.2 h.br rfl dX3_copy_101 ?_ (fun E q S hT => rc_out hC hH.2.2.2.2 hT)
      intro x3 S h
      show rc_Z Y S 106 [some (rc_q v0), some (rc_q v1), some (rc_q v2), none] [rc_q x3]
      refine rc_astore_n (pc := 106) hC (L' := [some (rc_q v0), some (rc_q v1), some (rc_q x3), none]) dX3_copy_106 rfl (Nat.le_of_ble_eq_true rfl) rfl rfl ?_
      refine rc_r_fuel h ?_
      intro x4 h
      exact rw_X3_copy_L107 hC hH  x4 v0 v1 x3 S h
    intro _ h
    refine rc_aload_n (pc := 73) hC dX3_copy_73 rfl rfl ?_
    obtain ⟨⟨fs, ho⟩, h⟩ := h.is
    refine rc_callF (x0 := rc_xnext) (y := yJ25_next) (pc := 74) hC rfl ho (rw_J25_next hH.1 v2) q1443 q1446 q1448 q154 q1450 (List.mem_of_getElem? (i := 6) rfl) ⟨by decide, by decide, rd_J25_next.2.2⟩ (hH.room (Nat.le_of_ble_eq_true rfl) (Nat.le_of_ble_eq_true rfl)) rfl rfl (Nat.le_of_ble_eq_true rfl) 0 rfl h.le.2.2 h.br rfl dX3_copy_74 ?_ (fun E q S hT => rc_out hC hH.2.2.2.2 hT)
    intro x5 S h
    show rc_Z Y S 79 [some (rc_q v0), some (rc_q v1), some (rc_q v2), none] [rc_q x5]
    refine rc_r_cast (pc := 79) hC rK_X3_55 dX3_copy_79 h ?_
    intro h
    refine rc_astore_n (pc := 82) hC (L' := [some (rc_q v0), some (rc_q v1), some (rc_q v2), some (rc_q x5)]) dX3_copy_82 rfl (Nat.le_of_ble_eq_true rfl) rfl rfl ?_
    refine rc_aload_n (pc := 83) hC dX3_copy_83 rfl rfl ?_
    refine rc_r_getq (pc := 84) hC rF_X3_18 dX3_copy_84 h ?_
    intro x6 h
    refine rc_aload_n (pc := 87) hC dX3_copy_87 rfl rfl ?_
    obtain ⟨⟨fs, ho⟩, h⟩ := h.is
    refine rc_callF (x0 := rc_xadd) (y := yJ7_add) (pc := 88) hC rfl ho (rw_J7_add hH.1 x6 x5) q1200 q850 q852 q128 q854 (List.mem_of_getElem? (i := 1) rfl) ⟨by decide, by decide, rd_J7_add.2.2⟩ (hH.room (Nat.le_of_ble_eq_true rfl) (Nat.le_of_ble_eq_true rfl)) rfl rfl (Nat.le_of_ble_eq_true rfl) 1 rfl h.le.2.2 h.br rfl dX3_copy_88 ?_ (fun E q S hT => rc_out hC hH.2.2.2.2 hT)
    intro x7 S h
    show rc_Z Y S 93 [some (rc_q v0), some (rc_q v1), some (rc_q v2), some (rc_q x5)] [rc_i x7]
    refine rc_pop (pc := 93) hC dX3_copy_93 rfl ?_
    refine rc_goto (pc := 94) (tgt := 64) hC dX3_copy_94 rfl ?_
    refine rc_drop [true, true, true, false] (L' := [some (rc_q v0), some (rc_q v1), some (rc_q v2), none]) rfl ?_
    exact ih v0 v1 v2 S h
theorem rw_X3_copy_L18 {Y : rc_Y} (hC : rc_C Y cX3_copy RX3 (Option.some (Jvm.ClassFile.FieldType.object "RooftopCats$Roof")) 4) (hH : rc_H Y 7 171 yX3_copy.name) : ∀ (n : Nat) (v0 : Option Nat) (v1 : Option Nat) (v2 : Option Nat) (S : rc_S), rc_Go Y rc_tQ (rp_X3_copy_L18  n v0 v1 v2) S → rc_Z Y S 18 [some (rc_q v0), some (rc_q v1), some (rc_q v2), none] [] := by
  intro n
  induction n with
  | zero => intro v0 v1 v2 S h; exact h.fail.elim
  | succ n ih =>
    intro v0 v1 v2 S h
    rw [rp_X3_copy_L18] at h
    refine rc_aload_n (pc := 18) hC dX3_copy_18 rfl rfl ?_
    obtain ⟨⟨fs, ho⟩, h⟩ := h.is
    refine rc_callF (x0 := rc_xhas) (y := yJ25_hasNext) (pc := 19) hC rfl ho (rw_J25_hasNext hH.1 v2) q1433 q1437 q1439 q154 q1441 (List.mem_of_getElem? (i := 5) rfl) ⟨by decide, by decide, rd_J25_hasNext.2.2⟩ (hH.room (Nat.le_of_ble_eq_true rfl) (Nat.le_of_ble_eq_true rfl)) rfl rfl (Nat.le_of_ble_eq_true rfl) 0 rfl h.le.2.2 h.br rfl dX3_copy_19 ?_ (fun E q S hT => rc_out hC hH.2.2.2.2 hT)
    intro x1 S h
    show rc_Z Y S 24 [some (rc_q v0), some (rc_q v1), some (rc_q v2), none] [rc_i x1]
    refine rc_if_eq (pc := 24) (tgt := 54) hC dX3_copy_24 rfl h ?_ ?_
    · intro _ h
      refine rc_aload_n (pc := 54) hC dX3_copy_54 rfl rfl ?_
      refine rc_r_getq (pc := 55) hC rF_X3_18 dX3_copy_55 h ?_
      intro x2 h
      obtain ⟨⟨fs, ho⟩, h⟩ := h.is
      refine rc_callF (x0 := rc_xiter) (y := yJ7_iterator) (pc := 58) hC rfl ho (rw_J7_iterator hH.1 x2) q1405 q1408 q1410 q128 q1412 (List.mem_of_getElem? (i := 4) rfl) ⟨by decide, by decide, rd_J7_iterator.2.2⟩ (hH.room (Nat.le_of_ble_eq_true rfl) (Nat.le_of_ble_eq_true rfl)) rfl rfl (Nat.le_of_ble_eq_true rfl) 0 rfl h.le.2.2 h.br rfl dX3_copy_58 ?_ (fun E q S hT => rc_out hC hH.2.2.2.2 hT)
      intro x3 S h
      show rc_Z Y S 63 [some (rc_q v0), some (rc_q v1), some (rc_q v2), none] [rc_q x3]
      refine rc_astore_n (pc := 63) hC (L' := [some (rc_q v0), some (rc_q v1), some (rc_q x3), none]) dX3_copy_63 rfl (Nat.le_of_ble_eq_true rfl) rfl rfl ?_
      refine rc_r_fuel h ?_
      intro x4 h
      exact rw_X3_copy_L64 hC hH  x4 v0 v1 x3 S h
    intro _ h
    refine rc_aload_n (pc := 27) hC dX3_copy_27 rfl rfl ?_
    obtain ⟨⟨fs, ho⟩, h⟩ := h.is
    refine rc_callF (x0 := rc_xnext) (y := yJ25_next) (pc := 28) hC rfl ho (rw_J25_next hH.1 v2) q1443 q1446 q1448 q154 q1450 (List.mem_of_getElem? (i := 6) rfl) ⟨by decide, by decide, rd_J25_next.2.2⟩ (hH.room (Nat.le_of_ble_eq_true rfl) (Nat.le_of_ble_eq_true rfl)) rfl rfl (Nat.le_of_ble_eq_true rfl) 0 rfl h.le.2.2 h.br rfl dX3_copy_28 ?_ (fun E q S hT => rc_out hC hH.2.2.2.2 hT)
    intro x5 S h
    show rc_Z Y S 33 [some (rc_q v0), some (rc_q v1), some (rc_q v2), none] [rc_q x5]
    refine rc_r_cast (pc := 33) hC rK_X3_45 dX3_copy_33 h ?_
    intro h
    refine rc_astore_n (pc := 36) hC (L' := [some (rc_q v0), some (rc_q v1), some (rc_q v2), some (rc_q x5)]) dX3_copy_36 rfl (Nat.le_of_ble_eq_true rfl) rfl rfl ?_
    refine rc_aload_n (pc := 37) hC dX3_copy_37 rfl rfl ?_
    refine rc_r_getq (pc := 38) hC rF_X3_12 dX3_copy_38 h ?_
    intro x6 h
    refine rc_aload_n (pc := 41) hC dX3_copy_41 rfl rfl ?_
    obtain ⟨⟨fs, ho⟩, h⟩ := h.is
    refine rc_callV (pc := 42) hC rfl ho (rw_X5_copy hH.1 x5) q1457 q1458 q1459 q142 q1460 rfl rd_X5_copy (hH.room (Nat.le_of_ble_eq_true rfl) (Nat.le_of_ble_eq_true rfl)) rfl rfl (Nat.le_of_ble_eq_true rfl) 0 rfl h.le.2.2 h.br rfl dX3_copy_42 ?_ (fun E q S hT => rc_out hC hH.2.2.2.2 hT)
    intro x7 S h
    show rc_Z Y S 45 [some (rc_q v0), some (rc_q v1), some (rc_q v2), some (rc_q x5)] [rc_q x7, rc_q x6]
    obtain ⟨⟨fs, ho⟩, h⟩ := h.is
    refine rc_callF (x0 := rc_xadd) (y := yJ7_add) (pc := 45) hC rfl ho (rw_J7_add hH.1 x6 x7) q1200 q850 q852 q128 q854 (List.mem_of_getElem? (i := 1) rfl) ⟨by decide, by decide, rd_J7_add.2.2⟩ (hH.room (Nat.le_of_ble_eq_true rfl) (Nat.le_of_ble_eq_true rfl)) rfl rfl (Nat.le_of_ble_eq_true rfl) 1 rfl h.le.2.2 h.br rfl dX3_copy_45 ?_ (fun E q S hT => rc_out hC hH.2.2.2.2 hT)
    intro x8 S h
    show rc_Z Y S 50 [some (rc_q v0), some (rc_q v1), some (rc_q v2), some (rc_q x5)] [rc_i x8]
    refine rc_pop (pc := 50) hC dX3_copy_50 rfl ?_
    refine rc_goto (pc := 51) (tgt := 18) hC dX3_copy_51 rfl ?_
    refine rc_drop [true, true, true, false] (L' := [some (rc_q v0), some (rc_q v1), some (rc_q v2), none]) rfl ?_
    exact ih v0 v1 v2 S h
theorem rw_X3_copy {l : Launch} (hl : l.stackTraces = false) (v0 : Option Nat) : rc_Ct l yX3_copy (ws_ yX3_copy cX3_copy 4 (Option.some (Jvm.ClassFile.FieldType.object "RooftopCats$Roof"))) 7 171 rc_tQ (rp_X3_copy v0) [rc_q v0] := by
  refine rc_Ct_H hl (plainFor_of_name rY_X3) rfl (Nat.le_of_ble_eq_true rfl) (L0 := [some (rc_q v0), none, none, none]) rfl ?_
  intro Y S hC hH h
  have hC : rc_C Y cX3_copy RX3 (Option.some (Jvm.ClassFile.FieldType.object "RooftopCats$Roof")) 4 := hC
  unfold rp_X3_copy at h
  refine rc_r_new (pc := 0) hC rN_X3_13 dX3_copy_0 h ?_
  intro x1 S h
  refine rc_dup (pc := 3) hC dX3_copy_3 rfl ?_
  obtain ⟨⟨b9, ho⟩, h⟩ := h.nn
  refine rc_callI (pc := 4) hC ho (rw_X3_init hH.1 x1) q1403 q232 q126 q233 rfl rfl rd_X3_init (hH.room (Nat.le_of_ble_eq_true rfl) (Nat.le_of_ble_eq_true rfl)) rfl rfl (Nat.le_of_ble_eq_true rfl) 0 rfl h.le.2.2 h.br rfl dX3_copy_4 ?_ (fun E q S hT => rc_out hC hH.2.2.2.2 hT)
  intro _ S h
  show rc_Z Y S 7 [some (rc_q v0), none, none, none] [rc_q x1]
  refine rc_astore_n (pc := 7) hC (L' := [some (rc_q v0), some (rc_q x1), none, none]) dX3_copy_7 rfl (Nat.le_of_ble_eq_true rfl) rfl rfl ?_
  refine rc_aload_n (pc := 8) hC dX3_copy_8 rfl rfl ?_
  refine rc_r_getq (pc := 9) hC rF_X3_12 dX3_copy_9 h ?_
  intro x2 h
  obtain ⟨⟨fs, ho⟩, h⟩ := h.is
  refine rc_callF (x0 := rc_xiter) (y := yJ7_iterator) (pc := 12) hC rfl ho (rw_J7_iterator hH.1 x2) q1405 q1408 q1410 q128 q1412 (List.mem_of_getElem? (i := 4) rfl) ⟨by decide, by decide, rd_J7_iterator.2.2⟩ (hH.room (Nat.le_of_ble_eq_true rfl) (Nat.le_of_ble_eq_true rfl)) rfl rfl (Nat.le_of_ble_eq_true rfl) 0 rfl h.le.2.2 h.br rfl dX3_copy_12 ?_ (fun E q S hT => rc_out hC hH.2.2.2.2 hT)
  intro x3 S h
  show rc_Z Y S 17 [some (rc_q v0), some (rc_q x1), none, none] [rc_q x3]
  refine rc_astore_n (pc := 17) hC (L' := [some (rc_q v0), some (rc_q x1), some (rc_q x3), none]) dX3_copy_17 rfl (Nat.le_of_ble_eq_true rfl) rfl rfl ?_
  refine rc_r_fuel h ?_
  intro x4 h
  exact rw_X3_copy_L18 hC hH  x4 v0 x1 x3 S h
theorem rw_X3_choirCount_L35 {Y : rc_Y} (hC : rc_C Y cX3_choirCount RX3 (Option.some Jvm.ClassFile.FieldType.int) 3) (hH : rc_H Y 5 112 yX3_choirCount.name) {k4 : Option Nat → Int32 → Int32 → rc_M Int32} (hk4 : ∀ (v0 : Option Nat) (v1 : Int32) (v2 : Int32) (S : rc_S), rc_Go Y rc_tI (k4 v0 v1 v2) S → rc_Z Y S 4 [some (rc_q v0), some (rc_i v1), some (rc_i v2)] []) (v0 : Option Nat) (v2 : Int32) (s0 : Int32) (s1 : Int32) (S : rc_S) (h : rc_Go Y rc_tI (rp_X3_choirCount_L35 k4 v0 v2 s0 s1) S) : rc_Z Y S 35 [some (rc_q v0), none, some (rc_i v2)] [rc_i s0, rc_i s1] := by
  unfold rp_X3_choirCount_L35 at h
  refine rc_iadd (pc := 35) hC dX3_choirCount_35 ?_
  refine rc_istore_n (pc := 36) hC (L' := [some (rc_q v0), some (rc_i (s1 + s0)), some (rc_i v2)]) dX3_choirCount_36 rfl (Nat.le_of_ble_eq_true rfl) rfl rfl ?_
  refine rc_iinc (pc := 37) hC (v := (v2 + (1 : Int32))) (L' := [some (rc_q v0), some (rc_i (s1 + s0)), some (rc_i (v2 + (1 : Int32)))]) dX3_choirCount_37 rfl rfl rfl rfl ?_
  refine rc_goto (pc := 40) (tgt := 4) hC dX3_choirCount_40 rfl ?_
  exact hk4 v0 (s1 + s0) (v2 + (1 : Int32)) S h
theorem rw_X3_choirCount_L4 {Y : rc_Y} (hC : rc_C Y cX3_choirCount RX3 (Option.some Jvm.ClassFile.FieldType.int) 3) (hH : rc_H Y 5 112 yX3_choirCount.name) : ∀ (n : Nat) (v0 : Option Nat) (v1 : Int32) (v2 : Int32) (S : rc_S), rc_Go Y rc_tI (rp_X3_choirCount_L4  n v0 v1 v2) S → rc_Z Y S 4 [some (rc_q v0), some (rc_i v1), some (rc_i v2)] [] := by
  intro n
  induction n with
  | zero => intro v0 v1 v2 S h; exact h.fail.elim
  | succ n ih =>
    intro v0 v1 v2 S h
    rw [rp_X3_choirCount_L4] at h
    refine rc_iload_n (pc := 4) hC dX3_choirCount_4 rfl rfl ?_
    refine rc_aload_n (pc := 5) hC dX3_choirCount_5 rfl rfl ?_
    refine rc_r_getq (pc := 6) hC rF_X3_21 dX3_choirCount_6 h ?_
    intro x1 h
    obtain ⟨⟨fs, ho⟩, h⟩ := h.is
    refine rc_callF (x0 := rc_xsize) (y := yJ7_size) (pc := 9) hC rfl ho (rw_J7_size hH.1 x1) q936 q823 q825 q128 q827 (List.mem_of_getElem? (i := 0) rfl) ⟨by decide, by decide, rd_J7_size.2.2⟩ (hH.room (Nat.le_of_ble_eq_true rfl) (Nat.le_of_ble_eq_true rfl)) rfl rfl (Nat.le_of_ble_eq_true rfl) 0 rfl h.le.2.2 h.br rfl dX3_choirCount_9 ?_ (fun E q S hT => rc_out hC hH.2.2.2.2 hT)
    intro x2 S h
    show rc_Z Y S 14 [some (rc_q v0), some (rc_i v1), some (rc_i v2)] [rc_i x2, rc_i v2]
    refine rc_icmp_ge (pc := 14) (tgt := 43) hC dX3_choirCount_14 rfl h ?_ ?_
    · intro _ h
      refine rc_iload_n (pc := 43) hC dX3_choirCount_43 rfl rfl ?_
      exact rc_iret hC rfl rfl dX3_choirCount_44 h rfl
    intro _ h
    refine rc_iload_n (pc := 17) hC dX3_choirCount_17 rfl rfl ?_
    refine rc_aload_n (pc := 18) hC dX3_choirCount_18 rfl rfl ?_
    refine rc_iload_n (pc := 19) hC dX3_choirCount_19 rfl rfl ?_
    obtain ⟨⟨fs, ho⟩, h⟩ := h.is
    refine rc_callV (pc := 20) hC rfl ho (rw_X3_choir hH.1 v0 v2) q1148 q1149 q1150 q126 q1151 rfl rd_X3_choir (hH.room (Nat.le_of_ble_eq_true rfl) (Nat.le_of_ble_eq_true rfl)) rfl rfl (Nat.le_of_ble_eq_true rfl) 1 rfl h.le.2.2 h.br rfl dX3_choirCount_20 ?_ (fun E q S hT => rc_out hC hH.2.2.2.2 hT)
    intro x3 S h
    show rc_Z Y S 23 [some (rc_q v0), some (rc_i v1), some (rc_i v2)] [rc_i x3, rc_i v1]
    refine rc_callS (pc := 23) hC (rw_J15_numberOfTrailingZeros hH.1 x3) q1556 q1557 q137 q1558 rd_J15_numberOfTrailingZeros (hH.room (Nat.le_of_ble_eq_true rfl) (Nat.le_of_ble_eq_true rfl)) rfl rfl (Nat.le_of_ble_eq_true rfl) 1 rfl h.le.2.2 h.br rfl dX3_choirCount_23 ?_ (fun E q S hT => rc_out hC hH.2.2.2.2 hT)
    intro x4 S h
    show rc_Z Y S 26 [some (rc_q v0), some (rc_i v1), some (rc_i v2)] [rc_i x4, rc_i v1]
    refine rc_iload_n (pc := 26) hC dX3_choirCount_26 rfl rfl ?_
    refine rc_icmp_ne (pc := 27) (tgt := 34) hC dX3_choirCount_27 rfl h ?_ ?_
    · intro _ h
      refine rc_iconst (pc := 34) hC (v := (0 : Int32)) dX3_choirCount_34 rfl ?_
      refine rc_drop [true, false, true] (L' := [some (rc_q v0), none, some (rc_i v2)]) rfl ?_
      exact rw_X3_choirCount_L35 hC hH ih v0 v2 (0 : Int32) v1 S h
    intro _ h
    refine rc_iconst (pc := 30) hC (v := (1 : Int32)) dX3_choirCount_30 rfl ?_
    refine rc_goto (pc := 31) (tgt := 35) hC dX3_choirCount_31 rfl ?_
    refine rc_drop [true, false, true] (L' := [some (rc_q v0), none, some (rc_i v2)]) rfl ?_
    exact rw_X3_choirCount_L35 hC hH ih v0 v2 (1 : Int32) v1 S h
theorem rw_X3_choirCount {l : Launch} (hl : l.stackTraces = false) (v0 : Option Nat) : rc_Ct l yX3_choirCount (ws_ yX3_choirCount cX3_choirCount 3 (Option.some Jvm.ClassFile.FieldType.int)) 5 112 rc_tI (rp_X3_choirCount v0) [rc_q v0] := by
  refine rc_Ct_H hl (plainFor_of_name rY_X3) rfl (Nat.le_of_ble_eq_true rfl) (L0 := [some (rc_q v0), none, none]) rfl ?_
  intro Y S hC hH h
  have hC : rc_C Y cX3_choirCount RX3 (Option.some Jvm.ClassFile.FieldType.int) 3 := hC
  unfold rp_X3_choirCount at h
  refine rc_iconst (pc := 0) hC (v := (0 : Int32)) dX3_choirCount_0 rfl ?_
  refine rc_istore_n (pc := 1) hC (L' := [some (rc_q v0), some (rc_i (0 : Int32)), none]) dX3_choirCount_1 rfl (Nat.le_of_ble_eq_true rfl) rfl rfl ?_
  refine rc_iconst (pc := 2) hC (v := (0 : Int32)) dX3_choirCount_2 rfl ?_
  refine rc_istore_n (pc := 3) hC (L' := [some (rc_q v0), some (rc_i (0 : Int32)), some (rc_i (0 : Int32))]) dX3_choirCount_3 rfl (Nat.le_of_ble_eq_true rfl) rfl rfl ?_
  refine rc_r_fuel h ?_
  intro x1 h
  exact rw_X3_choirCount_L4 hC hH  x1 v0 (0 : Int32) (0 : Int32) S h
theorem rw_X3_totalFish_L12 {Y : rc_Y} (hC : rc_C Y cX3_totalFish RX3 (Option.some Jvm.ClassFile.FieldType.int) 4) (hH : rc_H Y 7 111 yX3_totalFish.name) : ∀ (n : Nat) (v1 : Int32) (v2 : Option Nat) (S : rc_S), rc_Go Y rc_tI (rp_X3_totalFish_L12  n v1 v2) S → rc_Z Y S 12 [none, some (rc_i v1), some (rc_q v2), none] [] := by
  intro n
  induction n with
  | zero => intro v1 v2 S h; exact h.fail.elim
  | succ n ih =>
    intro v1 v2 S h
    rw [rp_X3_totalFish_L12] at h
    refine rc_aload_n (pc := 12) hC dX3_totalFish_12 rfl rfl ?_
    obtain ⟨⟨fs, ho⟩, h⟩ := h.is
    refine rc_callF (x0 := rc_xhas) (y := yJ25_hasNext) (pc := 13) hC rfl ho (rw_J25_hasNext hH.1 v2) q1433 q1437 q1439 q154 q1441 (List.mem_of_getElem? (i := 5) rfl) ⟨by decide, by decide, rd_J25_hasNext.2.2⟩ (hH.room (Nat.le_of_ble_eq_true rfl) (Nat.le_of_ble_eq_true rfl)) rfl rfl (Nat.le_of_ble_eq_true rfl) 0 rfl h.le.2.2 h.br rfl dX3_totalFish_13 ?_ (fun E q S hT => rc_out hC hH.2.2.2.2 hT)
    intro x1 S h
    show rc_Z Y S 18 [none, some (rc_i v1), some (rc_q v2), none] [rc_i x1]
    refine rc_if_eq (pc := 18) (tgt := 41) hC dX3_totalFish_18 rfl h ?_ ?_
    · intro _ h
      refine rc_iload_n (pc := 41) hC dX3_totalFish_41 rfl rfl ?_
      exact rc_iret hC rfl rfl dX3_totalFish_42 h rfl
    intro _ h
    refine rc_aload_n (pc := 21) hC dX3_totalFish_21 rfl rfl ?_
    obtain ⟨⟨fs, ho⟩, h⟩ := h.is
    refine rc_callF (x0 := rc_xnext) (y := yJ25_next) (pc := 22) hC rfl ho (rw_J25_next hH.1 v2) q1443 q1446 q1448 q154 q1450 (List.mem_of_getElem? (i := 6) rfl) ⟨by decide, by decide, rd_J25_next.2.2⟩ (hH.room (Nat.le_of_ble_eq_true rfl) (Nat.le_of_ble_eq_true rfl)) rfl rfl (Nat.le_of_ble_eq_true rfl) 0 rfl h.le.2.2 h.br rfl dX3_totalFish_22 ?_ (fun E q S hT => rc_out hC hH.2.2.2.2 hT)
    intro x2 S h
    show rc_Z Y S 27 [none, some (rc_i v1), some (rc_q v2), none] [rc_q x2]
    refine rc_r_cast (pc := 27) hC rK_X3_57 dX3_totalFish_27 h ?_
    intro h
    refine rc_astore_n (pc := 30) hC (L' := [none, some (rc_i v1), some (rc_q v2), some (rc_q x2)]) dX3_totalFish_30 rfl (Nat.le_of_ble_eq_true rfl) rfl rfl ?_
    refine rc_iload_n (pc := 31) hC dX3_totalFish_31 rfl rfl ?_
    refine rc_aload_n (pc := 32) hC dX3_totalFish_32 rfl rfl ?_
    refine rc_r_geti (pc := 33) hC rF_X3_133 dX3_totalFish_33 h ?_
    intro x3 h
    refine rc_iadd (pc := 36) hC dX3_totalFish_36 ?_
    refine rc_istore_n (pc := 37) hC (L' := [none, some (rc_i (v1 + x3)), some (rc_q v2), some (rc_q x2)]) dX3_totalFish_37 rfl (Nat.le_of_ble_eq_true rfl) rfl rfl ?_
    refine rc_goto (pc := 38) (tgt := 12) hC dX3_totalFish_38 rfl ?_
    refine rc_drop [false, true, true, false] (L' := [none, some (rc_i (v1 + x3)), some (rc_q v2), none]) rfl ?_
    exact ih (v1 + x3) v2 S h
theorem rw_X3_totalFish {l : Launch} (hl : l.stackTraces = false) (v0 : Option Nat) : rc_Ct l yX3_totalFish (ws_ yX3_totalFish cX3_totalFish 4 (Option.some Jvm.ClassFile.FieldType.int)) 7 111 rc_tI (rp_X3_totalFish v0) [rc_q v0] := by
  refine rc_Ct_H hl (plainFor_of_name rY_X3) rfl (Nat.le_of_ble_eq_true rfl) (L0 := [some (rc_q v0), none, none, none]) rfl ?_
  intro Y S hC hH h
  have hC : rc_C Y cX3_totalFish RX3 (Option.some Jvm.ClassFile.FieldType.int) 4 := hC
  unfold rp_X3_totalFish at h
  refine rc_iconst (pc := 0) hC (v := (0 : Int32)) dX3_totalFish_0 rfl ?_
  refine rc_istore_n (pc := 1) hC (L' := [some (rc_q v0), some (rc_i (0 : Int32)), none, none]) dX3_totalFish_1 rfl (Nat.le_of_ble_eq_true rfl) rfl rfl ?_
  refine rc_aload_n (pc := 2) hC dX3_totalFish_2 rfl rfl ?_
  refine rc_r_getq (pc := 3) hC rF_X3_21 dX3_totalFish_3 h ?_
  intro x1 h
  obtain ⟨⟨fs, ho⟩, h⟩ := h.is
  refine rc_callF (x0 := rc_xiter) (y := yJ7_iterator) (pc := 6) hC rfl ho (rw_J7_iterator hH.1 x1) q1405 q1408 q1410 q128 q1412 (List.mem_of_getElem? (i := 4) rfl) ⟨by decide, by decide, rd_J7_iterator.2.2⟩ (hH.room (Nat.le_of_ble_eq_true rfl) (Nat.le_of_ble_eq_true rfl)) rfl rfl (Nat.le_of_ble_eq_true rfl) 0 rfl h.le.2.2 h.br rfl dX3_totalFish_6 ?_ (fun E q S hT => rc_out hC hH.2.2.2.2 hT)
  intro x2 S h
  show rc_Z Y S 11 [some (rc_q v0), some (rc_i (0 : Int32)), none, none] [rc_q x2]
  refine rc_astore_n (pc := 11) hC (L' := [some (rc_q v0), some (rc_i (0 : Int32)), some (rc_q x2), none]) dX3_totalFish_11 rfl (Nat.le_of_ble_eq_true rfl) rfl rfl ?_
  refine rc_drop [false, true, true, false] (L' := [none, some (rc_i (0 : Int32)), some (rc_q x2), none]) rfl ?_
  refine rc_r_fuel h ?_
  intro x3 h
  exact rw_X3_totalFish_L12 hC hH  x3 (0 : Int32) x2 S h
theorem rw_X6_one {l : Launch} (hl : l.stackTraces = false) (v0 : Option Nat) : rc_Ct l yX6_one (ws_ yX6_one cX6_one 1 (Option.some Jvm.ClassFile.FieldType.int)) 0 0 rc_tI (rp_X6_one v0) [rc_q v0] := by
  refine rc_Ct_H hl (plainFor_of_name rY_X6) rfl (Nat.le_of_ble_eq_true rfl) (L0 := [some (rc_q v0)]) rfl ?_
  intro Y S hC hH h
  have hC : rc_C Y cX6_one RX6 (Option.some Jvm.ClassFile.FieldType.int) 1 := hC
  unfold rp_X6_one at h
  refine rc_aload_n (pc := 0) hC dX6_one_0 rfl rfl ?_
  refine rc_r_geti (pc := 1) hC rF_X6_7 dX6_one_1 h ?_
  intro x1 h
  exact rc_iret hC rfl rfl dX6_one_4 h rfl
theorem rw_X6_other {l : Launch} (hl : l.stackTraces = false) (v0 : Option Nat) : rc_Ct l yX6_other (ws_ yX6_other cX6_other 1 (Option.some Jvm.ClassFile.FieldType.int)) 0 0 rc_tI (rp_X6_other v0) [rc_q v0] := by
  refine rc_Ct_H hl (plainFor_of_name rY_X6) rfl (Nat.le_of_ble_eq_true rfl) (L0 := [some (rc_q v0)]) rfl ?_
  intro Y S hC hH h
  have hC : rc_C Y cX6_other RX6 (Option.some Jvm.ClassFile.FieldType.int) 1 := hC
  unfold rp_X6_other at h
  refine rc_aload_n (pc := 0) hC dX6_other_0 rfl rfl ?_
  refine rc_r_geti (pc := 1) hC rF_X6_13 dX6_other_1 h ?_
  intro x1 h
  exact rc_iret hC rfl rfl dX6_other_4 h rfl
theorem rw_X3_connected_L89 {Y : rc_Y} (hC : rc_C Y cX3_connected RX3 (Option.some Jvm.ClassFile.FieldType.int) 8) (hH : rc_H Y 3 64 yX3_connected.name) {k7 : Option Nat → Int32 → Int32 → Int32 → rc_M Int32} (hk7 : ∀ (v0 : Option Nat) (v2 : Int32) (v3 : Int32) (v4 : Int32) (S : rc_S), rc_Go Y rc_tI (k7 v0 v2 v3 v4) S → rc_Z Y S 7 [some (rc_q v0), none, some (rc_i v2), some (rc_i v3), some (rc_i v4), none, none, none] []) {k19 : Option Nat → Int32 → Int32 → Int32 → Int32 → rc_M Int32} (hk19 : ∀ (v0 : Option Nat) (v2 : Int32) (v3 : Int32) (v4 : Int32) (v5 : Int32) (S : rc_S), rc_Go Y rc_tI (k19 v0 v2 v3 v4 v5) S → rc_Z Y S 19 [some (rc_q v0), none, some (rc_i v2), some (rc_i v3), some (rc_i v4), some (rc_i v5), none, none] []) (v0 : Option Nat) (v2 : Int32) (v3 : Int32) (v4 : Int32) (v5 : Int32) (S : rc_S) (h : rc_Go Y rc_tI (rp_X3_connected_L89 k7 k19 v0 v2 v3 v4 v5) S) : rc_Z Y S 89 [some (rc_q v0), none, some (rc_i v2), some (rc_i v3), some (rc_i v4), some (rc_i v5), none, none] [] := by
  unfold rp_X3_connected_L89 at h
  refine rc_iinc (pc := 89) hC (v := (v5 + (1 : Int32))) (L' := [some (rc_q v0), none, some (rc_i v2), some (rc_i v3), some (rc_i v4), some (rc_i (v5 + (1 : Int32))), none, none]) dX3_connected_89 rfl rfl rfl rfl ?_
  refine rc_goto (pc := 92) (tgt := 19) hC dX3_connected_92 rfl ?_
  exact hk19 v0 v2 v3 v4 (v5 + (1 : Int32)) S h
theorem rw_X3_connected_L19 {Y : rc_Y} (hC : rc_C Y cX3_connected RX3 (Option.some Jvm.ClassFile.FieldType.int) 8) (hH : rc_H Y 3 64 yX3_connected.name) {k7 : Option Nat → Int32 → Int32 → Int32 → rc_M Int32} (hk7 : ∀ (v0 : Option Nat) (v2 : Int32) (v3 : Int32) (v4 : Int32) (S : rc_S), rc_Go Y rc_tI (k7 v0 v2 v3 v4) S → rc_Z Y S 7 [some (rc_q v0), none, some (rc_i v2), some (rc_i v3), some (rc_i v4), none, none, none] []) : ∀ (n : Nat) (v0 : Option Nat) (v2 : Int32) (v3 : Int32) (v4 : Int32) (v5 : Int32) (S : rc_S), rc_Go Y rc_tI (rp_X3_connected_L19 k7 n v0 v2 v3 v4 v5) S → rc_Z Y S 19 [some (rc_q v0), none, some (rc_i v2), some (rc_i v3), some (rc_i v4), some (rc_i v5), none, none] [] := by
  intro n
  induction n with
  | zero => intro v0 v2 v3 v4 v5 S h; exact h.fail.elim
  | succ n ih =>
    intro v0 v2 v3 v4 v5 S h
    rw [rp_X3_connected_L19] at h
    refine rc_iload (pc := 19) hC dX3_connected_19 rfl ?_
    refine rc_aload_n (pc := 21) hC dX3_connected_21 rfl rfl ?_
    refine rc_r_getq (pc := 22) hC rF_X3_18 dX3_connected_22 h ?_
    intro x1 h
    obtain ⟨⟨fs, ho⟩, h⟩ := h.is
    refine rc_callF (x0 := rc_xsize) (y := yJ7_size) (pc := 25) hC rfl ho (rw_J7_size hH.1 x1) q936 q823 q825 q128 q827 (List.mem_of_getElem? (i := 0) rfl) ⟨by decide, by decide, rd_J7_size.2.2⟩ (hH.room (Nat.le_of_ble_eq_true rfl) (Nat.le_of_ble_eq_true rfl)) rfl rfl (Nat.le_of_ble_eq_true rfl) 0 rfl h.le.2.2 h.br rfl dX3_connected_25 ?_ (fun E q S hT => rc_out hC hH.2.2.2.2 hT)
    intro x2 S h
    show rc_Z Y S 30 [some (rc_q v0), none, some (rc_i v2), some (rc_i v3), some (rc_i v4), some (rc_i v5), none, none] [rc_i x2, rc_i v5]
    refine rc_icmp_ge (pc := 30) (tgt := 95) hC dX3_connected_30 rfl h ?_ ?_
    · intro _ h
      refine rc_goto (pc := 95) (tgt := 7) hC dX3_connected_95 rfl ?_
      refine rc_drop [true, false, true, true, true, false, false, false] (L' := [some (rc_q v0), none, some (rc_i v2), some (rc_i v3), some (rc_i v4), none, none, none]) rfl ?_
      exact hk7 v0 v2 v3 v4 S h
    intro _ h
    refine rc_aload_n (pc := 33) hC dX3_connected_33 rfl rfl ?_
    refine rc_r_getq (pc := 34) hC rF_X3_18 dX3_connected_34 h ?_
    intro x3 h
    refine rc_iload (pc := 37) hC dX3_connected_37 rfl ?_
    obtain ⟨⟨fs, ho⟩, h⟩ := h.is
    refine rc_callF (x0 := rc_xget) (y := yJ7_get) (pc := 39) hC rfl ho (rw_J7_get hH.1 x3 v5) q938 q941 q943 q128 q945 (List.mem_of_getElem? (i := 2) rfl) ⟨by decide, by decide, rd_J7_get.2.2⟩ (hH.room (Nat.le_of_ble_eq_true rfl) (Nat.le_of_ble_eq_true rfl)) rfl rfl (Nat.le_of_ble_eq_true rfl) 1 rfl h.le.2.2 h.br rfl dX3_connected_39 ?_ (fun E q S hT => rc_out hC hH.2.2.2.2 hT)
    intro x4 S h
    show rc_Z Y S 44 [some (rc_q v0), none, some (rc_i v2), some (rc_i v3), some (rc_i v4), some (rc_i v5), none, none] [rc_q x4]
    refine rc_r_cast (pc := 44) hC rK_X3_55 dX3_connected_44 h ?_
    intro h
    refine rc_astore (pc := 47) hC (L' := [some (rc_q v0), none, some (rc_i v2), some (rc_i v3), some (rc_i v4), some (rc_i v5), some (rc_q x4), none]) dX3_connected_47 (Nat.le_of_ble_eq_true rfl) rfl rfl ?_
    refine rc_iconst (pc := 49) hC (v := (1 : Int32)) dX3_connected_49 rfl ?_
    refine rc_aload (pc := 50) hC dX3_connected_50 rfl ?_
    obtain ⟨⟨fs, ho⟩, h⟩ := h.is
    refine rc_callV (pc := 52) hC rfl ho (rw_X6_one hH.1 x4) q1876 q1846 q1847 q144 q1848 rfl rd_X6_one (hH.room (Nat.le_of_ble_eq_true rfl) (Nat.le_of_ble_eq_true rfl)) rfl rfl (Nat.le_of_ble_eq_true rfl) 0 rfl h.le.2.2 h.br rfl dX3_connected_52 ?_ (fun E q S hT => rc_out hC hH.2.2.2.2 hT)
    intro x5 S h
    show rc_Z Y S 55 [some (rc_q v0), none, some (rc_i v2), some (rc_i v3), some (rc_i v4), some (rc_i v5), some (rc_q x4), none] [rc_i x5, rc_i (1 : Int32)]
    refine rc_ishl (pc := 55) hC dX3_connected_55 ?_
    refine rc_iconst (pc := 56) hC (v := (1 : Int32)) dX3_connected_56 rfl ?_
    refine rc_aload (pc := 57) hC dX3_connected_57 rfl ?_
    obtain ⟨⟨fs, ho⟩, h⟩ := h.is
    refine rc_callV (pc := 59) hC rfl ho (rw_X6_other hH.1 x4) q1877 q1850 q1851 q144 q1852 rfl rd_X6_other (hH.room (Nat.le_of_ble_eq_true rfl) (Nat.le_of_ble_eq_true rfl)) rfl rfl (Nat.le_of_ble_eq_true rfl) 0 rfl h.le.2.2 h.br rfl dX3_connected_59 ?_ (fun E q S hT => rc_out hC hH.2.2.2.2 hT)
    intro x6 S h
    show rc_Z Y S 62 [some (rc_q v0), none, some (rc_i v2), some (rc_i v3), some (rc_i v4), some (rc_i v5), some (rc_q x4), none] [rc_i x6, rc_i (1 : Int32), rc_i ((1 : Int32) <<< (x5 &&& 31))]
    refine rc_ishl (pc := 62) hC dX3_connected_62 ?_
    refine rc_ior (pc := 63) hC dX3_connected_63 ?_
    refine rc_istore (pc := 64) hC (L' := [some (rc_q v0), none, some (rc_i v2), some (rc_i v3), some (rc_i v4), some (rc_i v5), some (rc_q x4), some (rc_i (((1 : Int32) <<< (x5 &&& 31)) ||| ((1 : Int32) <<< (x6 &&& 31))))]) dX3_connected_64 (Nat.le_of_ble_eq_true rfl) rfl rfl ?_
    refine rc_aload (pc := 66) hC dX3_connected_66 rfl ?_
    obtain ⟨⟨fs, ho⟩, h⟩ := h.is
    refine rc_callV (pc := 68) hC rfl ho (rw_X6_width hH.1 x4) q1032 q1033 q1034 q144 q1035 rfl rd_X6_width (hH.room (Nat.le_of_ble_eq_true rfl) (Nat.le_of_ble_eq_true rfl)) rfl rfl (Nat.le_of_ble_eq_true rfl) 0 rfl h.le.2.2 h.br rfl dX3_connected_68 ?_ (fun E q S hT => rc_out hC hH.2.2.2.2 hT)
    intro x7 S h
    show rc_Z Y S 71 [some (rc_q v0), none, some (rc_i v2), some (rc_i v3), some (rc_i v4), some (rc_i v5), some (rc_q x4), some (rc_i (((1 : Int32) <<< (x5 &&& 31)) ||| ((1 : Int32) <<< (x6 &&& 31))))] [rc_i x7]
    refine rc_iload_n (pc := 71) hC dX3_connected_71 rfl rfl ?_
    refine rc_icmp_lt (pc := 72) (tgt := 89) hC dX3_connected_72 rfl h ?_ ?_
    · intro _ h
      refine rc_drop [true, false, true, true, true, true, false, false] (L' := [some (rc_q v0), none, some (rc_i v2), some (rc_i v3), some (rc_i v4), some (rc_i v5), none, none]) rfl ?_
      exact rw_X3_connected_L89 hC hH hk7 ih v0 v2 v3 v4 v5 S h
    intro _ h
    refine rc_iload_n (pc := 75) hC dX3_connected_75 rfl rfl ?_
    refine rc_iload (pc := 76) hC dX3_connected_76 rfl ?_
    refine rc_iand (pc := 78) hC dX3_connected_78 ?_
    refine rc_if_eq (pc := 79) (tgt := 89) hC dX3_connected_79 rfl h ?_ ?_
    · intro _ h
      refine rc_drop [true, false, true, true, true, true, false, false] (L' := [some (rc_q v0), none, some (rc_i v2), some (rc_i v3), some (rc_i v4), some (rc_i v5), none, none]) rfl ?_
      exact rw_X3_connected_L89 hC hH hk7 ih v0 v2 v3 v4 v5 S h
    intro _ h
    refine rc_iload (pc := 82) hC dX3_connected_82 rfl ?_
    refine rc_iload (pc := 84) hC dX3_connected_84 rfl ?_
    refine rc_ior (pc := 86) hC dX3_connected_86 ?_
    refine rc_istore (pc := 87) hC (L' := [some (rc_q v0), none, some (rc_i v2), some (rc_i v3), some (rc_i (v4 ||| (((1 : Int32) <<< (x5 &&& 31)) ||| ((1 : Int32) <<< (x6 &&& 31))))), some (rc_i v5), some (rc_q x4), some (rc_i (((1 : Int32) <<< (x5 &&& 31)) ||| ((1 : Int32) <<< (x6 &&& 31))))]) dX3_connected_87 (Nat.le_of_ble_eq_true rfl) rfl rfl ?_
    refine rc_drop [true, false, true, true, true, true, false, false] (L' := [some (rc_q v0), none, some (rc_i v2), some (rc_i v3), some (rc_i (v4 ||| (((1 : Int32) <<< (x5 &&& 31)) ||| ((1 : Int32) <<< (x6 &&& 31))))), some (rc_i v5), none, none]) rfl ?_
    exact rw_X3_connected_L89 hC hH hk7 ih v0 v2 v3 (v4 ||| (((1 : Int32) <<< (x5 &&& 31)) ||| ((1 : Int32) <<< (x6 &&& 31)))) v5 S h
theorem rw_X3_connected_L7 {Y : rc_Y} (hC : rc_C Y cX3_connected RX3 (Option.some Jvm.ClassFile.FieldType.int) 8) (hH : rc_H Y 3 64 yX3_connected.name) : ∀ (n : Nat) (v0 : Option Nat) (v2 : Int32) (v3 : Int32) (v4 : Int32) (S : rc_S), rc_Go Y rc_tI (rp_X3_connected_L7  n v0 v2 v3 v4) S → rc_Z Y S 7 [some (rc_q v0), none, some (rc_i v2), some (rc_i v3), some (rc_i v4), none, none, none] [] := by
  intro n
  induction n with
  | zero => intro v0 v2 v3 v4 S h; exact h.fail.elim
  | succ n ih =>
    intro v0 v2 v3 v4 S h
    rw [rp_X3_connected_L7] at h
    refine rc_iload (pc := 7) hC dX3_connected_7 rfl ?_
    refine rc_iload_n (pc := 9) hC dX3_connected_9 rfl rfl ?_
    refine rc_icmp_eq (pc := 10) (tgt := 98) hC dX3_connected_10 rfl h ?_ ?_
    · intro _ h
      refine rc_iload_n (pc := 98) hC dX3_connected_98 rfl rfl ?_
      exact rc_iret hC rfl rfl dX3_connected_99 h rfl
    intro _ h
    refine rc_iload (pc := 13) hC dX3_connected_13 rfl ?_
    refine rc_istore_n (pc := 15) hC (L' := [some (rc_q v0), none, some (rc_i v2), some (rc_i v4), some (rc_i v4), none, none, none]) dX3_connected_15 rfl (Nat.le_of_ble_eq_true rfl) rfl rfl ?_
    refine rc_iconst (pc := 16) hC (v := (0 : Int32)) dX3_connected_16 rfl ?_
    refine rc_istore (pc := 17) hC (L' := [some (rc_q v0), none, some (rc_i v2), some (rc_i v4), some (rc_i v4), some (rc_i (0 : Int32)), none, none]) dX3_connected_17 (Nat.le_of_ble_eq_true rfl) rfl rfl ?_
    refine rc_r_fuel h ?_
    intro x1 h
    exact rw_X3_connected_L19 hC hH ih x1 v0 v2 v4 v4 (0 : Int32) S h
theorem rw_X3_connected {l : Launch} (hl : l.stackTraces = false) (v0 : Option Nat) (v1 : Int32) (v2 : Int32) : rc_Ct l yX3_connected (ws_ yX3_connected cX3_connected 8 (Option.some Jvm.ClassFile.FieldType.int)) 3 64 rc_tI (rp_X3_connected v0 v1 v2) [rc_q v0, rc_i v1, rc_i v2] := by
  refine rc_Ct_H hl (plainFor_of_name rY_X3) rfl (Nat.le_of_ble_eq_true rfl) (L0 := [some (rc_q v0), some (rc_i v1), some (rc_i v2), none, none, none, none, none]) rfl ?_
  intro Y S hC hH h
  have hC : rc_C Y cX3_connected RX3 (Option.some Jvm.ClassFile.FieldType.int) 8 := hC
  unfold rp_X3_connected at h
  refine rc_iconst (pc := 0) hC (v := (0 : Int32)) dX3_connected_0 rfl ?_
  refine rc_istore_n (pc := 1) hC (L' := [some (rc_q v0), some (rc_i v1), some (rc_i v2), some (rc_i (0 : Int32)), none, none, none, none]) dX3_connected_1 rfl (Nat.le_of_ble_eq_true rfl) rfl rfl ?_
  refine rc_iconst (pc := 2) hC (v := (1 : Int32)) dX3_connected_2 rfl ?_
  refine rc_iload_n (pc := 3) hC dX3_connected_3 rfl rfl ?_
  refine rc_ishl (pc := 4) hC dX3_connected_4 ?_
  refine rc_istore (pc := 5) hC (L' := [some (rc_q v0), some (rc_i v1), some (rc_i v2), some (rc_i (0 : Int32)), some (rc_i ((1 : Int32) <<< (v1 &&& 31))), none, none, none]) dX3_connected_5 (Nat.le_of_ble_eq_true rfl) rfl rfl ?_
  refine rc_drop [true, false, true, true, true, false, false, false] (L' := [some (rc_q v0), none, some (rc_i v2), some (rc_i (0 : Int32)), some (rc_i ((1 : Int32) <<< (v1 &&& 31))), none, none, none]) rfl ?_
  refine rc_r_fuel h ?_
  intro x1 h
  exact rw_X3_connected_L7 hC hH  x1 v0 v2 (0 : Int32) ((1 : Int32) <<< (v1 &&& 31)) S h
theorem rw_X3_widestWay_L3 {Y : rc_Y} (hC : rc_C Y cX3_widestWay RX3 (Option.some Jvm.ClassFile.FieldType.int) 4) (hH : rc_H Y 4 91 yX3_widestWay.name) : ∀ (n : Nat) (v0 : Option Nat) (v1 : Int32) (v2 : Int32) (v3 : Int32) (S : rc_S), rc_Go Y rc_tI (rp_X3_widestWay_L3  n v0 v1 v2 v3) S → rc_Z Y S 3 [some (rc_q v0), some (rc_i v1), some (rc_i v2), some (rc_i v3)] [] := by
  intro n
  induction n with
  | zero => intro v0 v1 v2 v3 S h; exact h.fail.elim
  | succ n ih =>
    intro v0 v1 v2 v3 S h
    rw [rp_X3_widestWay_L3] at h
    refine rc_iload_n (pc := 3) hC dX3_widestWay_3 rfl rfl ?_
    refine rc_if_le (pc := 4) (tgt := 29) hC dX3_widestWay_4 rfl h ?_ ?_
    · intro _ h
      refine rc_iconst (pc := 29) hC (v := (-1 : Int32)) dX3_widestWay_29 rfl ?_
      exact rc_iret hC rfl rfl dX3_widestWay_30 h rfl
    intro _ h
    refine rc_aload_n (pc := 7) hC dX3_widestWay_7 rfl rfl ?_
    refine rc_iload_n (pc := 8) hC dX3_widestWay_8 rfl rfl ?_
    refine rc_iload_n (pc := 9) hC dX3_widestWay_9 rfl rfl ?_
    obtain ⟨⟨fs, ho⟩, h⟩ := h.is
    refine rc_callV (pc := 10) hC rfl ho (rw_X3_connected hH.1 v0 v1 v3) q1872 q1873 q1874 q126 q1875 rfl rd_X3_connected (hH.room (Nat.le_of_ble_eq_true rfl) (Nat.le_of_ble_eq_true rfl)) rfl rfl (Nat.le_of_ble_eq_true rfl) 2 rfl h.le.2.2 h.br rfl dX3_widestWay_10 ?_ (fun E q S hT => rc_out hC hH.2.2.2.2 hT)
    intro x1 S h
    show rc_Z Y S 13 [some (rc_q v0), some (rc_i v1), some (rc_i v2), some (rc_i v3)] [rc_i x1]
    refine rc_iload_n (pc := 13) hC dX3_widestWay_13 rfl rfl ?_
    refine rc_ishr (pc := 14) hC dX3_widestWay_14 ?_
    refine rc_iconst (pc := 15) hC (v := (1 : Int32)) dX3_widestWay_15 rfl ?_
    refine rc_iand (pc := 16) hC dX3_widestWay_16 ?_
    refine rc_iconst (pc := 17) hC (v := (1 : Int32)) dX3_widestWay_17 rfl ?_
    refine rc_icmp_ne (pc := 18) (tgt := 23) hC dX3_widestWay_18 rfl h ?_ ?_
    · intro _ h
      refine rc_iinc (pc := 23) hC (v := (v3 + (-1 : Int32))) (L' := [some (rc_q v0), some (rc_i v1), some (rc_i v2), some (rc_i (v3 + (-1 : Int32)))]) dX3_widestWay_23 rfl rfl rfl rfl ?_
      refine rc_goto (pc := 26) (tgt := 3) hC dX3_widestWay_26 rfl ?_
      exact ih v0 v1 v2 (v3 + (-1 : Int32)) S h
    intro _ h
    refine rc_iload_n (pc := 21) hC dX3_widestWay_21 rfl rfl ?_
    exact rc_iret hC rfl rfl dX3_widestWay_22 h rfl
theorem rw_X3_widestWay {l : Launch} (hl : l.stackTraces = false) (v0 : Option Nat) (v1 : Int32) (v2 : Int32) : rc_Ct l yX3_widestWay (ws_ yX3_widestWay cX3_widestWay 4 (Option.some Jvm.ClassFile.FieldType.int)) 4 91 rc_tI (rp_X3_widestWay v0 v1 v2) [rc_q v0, rc_i v1, rc_i v2] := by
  refine rc_Ct_H hl (plainFor_of_name rY_X3) rfl (Nat.le_of_ble_eq_true rfl) (L0 := [some (rc_q v0), some (rc_i v1), some (rc_i v2), none]) rfl ?_
  intro Y S hC hH h
  have hC : rc_C Y cX3_widestWay RX3 (Option.some Jvm.ClassFile.FieldType.int) 4 := hC
  unfold rp_X3_widestWay at h
  refine rc_bipush (pc := 0) hC (v := (9 : Int32)) dX3_widestWay_0 rfl ?_
  refine rc_istore_n (pc := 2) hC (L' := [some (rc_q v0), some (rc_i v1), some (rc_i v2), some (rc_i (9 : Int32))]) dX3_widestWay_2 rfl (Nat.le_of_ble_eq_true rfl) rfl rfl ?_
  refine rc_r_fuel h ?_
  intro x1 h
  exact rw_X3_widestWay_L3 hC hH  x1 v0 v1 v2 (9 : Int32) S h
theorem rw_X3_extended_L96 {Y : rc_Y} (hC : rc_C Y cX3_extended RX3 (Option.some Jvm.ClassFile.FieldType.int) 6) (hH : rc_H Y 5 112 yX3_extended.name) {k5 : Option Nat → Int32 → Int32 → Int32 → Int32 → rc_M Int32} (hk5 : ∀ (v0 : Option Nat) (v1 : Int32) (v2 : Int32) (v3 : Int32) (v4 : Int32) (S : rc_S), rc_Go Y rc_tI (k5 v0 v1 v2 v3 v4) S → rc_Z Y S 5 [some (rc_q v0), some (rc_i v1), some (rc_i v2), some (rc_i v3), some (rc_i v4), none] []) {k34 : Option Nat → Int32 → Int32 → Int32 → Int32 → Int32 → rc_M Int32} (hk34 : ∀ (v0 : Option Nat) (v1 : Int32) (v2 : Int32) (v3 : Int32) (v4 : Int32) (v5 : Int32) (S : rc_S), rc_Go Y rc_tI (k34 v0 v1 v2 v3 v4 v5) S → rc_Z Y S 34 [some (rc_q v0), some (rc_i v1), some (rc_i v2), some (rc_i v3), some (rc_i v4), some (rc_i v5)] []) (v0 : Option Nat) (v1 : Int32) (v2 : Int32) (v3 : Int32) (v4 : Int32) (v5 : Int32) (S : rc_S) (h : rc_Go Y rc_tI (rp_X3_extended_L96 k5 k34 v0 v1 v2 v3 v4 v5) S) : rc_Z Y S 96 [some (rc_q v0), some (rc_i v1), some (rc_i v2), some (rc_i v3), some (rc_i v4), some (rc_i v5)] [] := by
  unfold rp_X3_extended_L96 at h
  refine rc_iinc (pc := 96) hC (v := (v5 + (1 : Int32))) (L' := [some (rc_q v0), some (rc_i v1), some (rc_i v2), some (rc_i v3), some (rc_i v4), some (rc_i (v5 + (1 : Int32)))]) dX3_extended_96 rfl rfl rfl rfl ?_
  refine rc_goto (pc := 99) (tgt := 34) hC dX3_extended_99 rfl ?_
  exact hk34 v0 v1 v2 v3 v4 (v5 + (1 : Int32)) S h
theorem rw_X3_extended_L102 {Y : rc_Y} (hC : rc_C Y cX3_extended RX3 (Option.some Jvm.ClassFile.FieldType.int) 6) (hH : rc_H Y 5 112 yX3_extended.name) {k5 : Option Nat → Int32 → Int32 → Int32 → Int32 → rc_M Int32} (hk5 : ∀ (v0 : Option Nat) (v1 : Int32) (v2 : Int32) (v3 : Int32) (v4 : Int32) (S : rc_S), rc_Go Y rc_tI (k5 v0 v1 v2 v3 v4) S → rc_Z Y S 5 [some (rc_q v0), some (rc_i v1), some (rc_i v2), some (rc_i v3), some (rc_i v4), none] []) (v0 : Option Nat) (v1 : Int32) (v2 : Int32) (v3 : Int32) (v4 : Int32) (S : rc_S) (h : rc_Go Y rc_tI (rp_X3_extended_L102 k5 v0 v1 v2 v3 v4) S) : rc_Z Y S 102 [some (rc_q v0), some (rc_i v1), some (rc_i v2), some (rc_i v3), some (rc_i v4), none] [] := by
  unfold rp_X3_extended_L102 at h
  refine rc_iinc (pc := 102) hC (v := (v4 + (1 : Int32))) (L' := [some (rc_q v0), some (rc_i v1), some (rc_i v2), some (rc_i v3), some (rc_i (v4 + (1 : Int32))), none]) dX3_extended_102 rfl rfl rfl rfl ?_
  refine rc_goto (pc := 105) (tgt := 5) hC dX3_extended_105 rfl ?_
  exact hk5 v0 v1 v2 v3 (v4 + (1 : Int32)) S h
theorem rw_X3_extended_L34 {Y : rc_Y} (hC : rc_C Y cX3_extended RX3 (Option.some Jvm.ClassFile.FieldType.int) 6) (hH : rc_H Y 5 112 yX3_extended.name) {k5 : Option Nat → Int32 → Int32 → Int32 → Int32 → rc_M Int32} (hk5 : ∀ (v0 : Option Nat) (v1 : Int32) (v2 : Int32) (v3 : Int32) (v4 : Int32) (S : rc_S), rc_Go Y rc_tI (k5 v0 v1 v2 v3 v4) S → rc_Z Y S 5 [some (rc_q v0), some (rc_i v1), some (rc_i v2), some (rc_i v3), some (rc_i v4), none] []) : ∀ (n : Nat) (v0 : Option Nat) (v1 : Int32) (v2 : Int32) (v3 : Int32) (v4 : Int32) (v5 : Int32) (S : rc_S), rc_Go Y rc_tI (rp_X3_extended_L34 k5 n v0 v1 v2 v3 v4 v5) S → rc_Z Y S 34 [some (rc_q v0), some (rc_i v1), some (rc_i v2), some (rc_i v3), some (rc_i v4), some (rc_i v5)] [] := by
  intro n
  induction n with
  | zero => intro v0 v1 v2 v3 v4 v5 S h; exact h.fail.elim
  | succ n ih =>
    intro v0 v1 v2 v3 v4 v5 S h
    rw [rp_X3_extended_L34] at h
    refine rc_iload (pc := 34) hC dX3_extended_34 rfl ?_
    refine rc_aload_n (pc := 36) hC dX3_extended_36 rfl rfl ?_
    refine rc_r_getq (pc := 37) hC rF_X3_18 dX3_extended_37 h ?_
    intro x1 h
    obtain ⟨⟨fs, ho⟩, h⟩ := h.is
    refine rc_callF (x0 := rc_xsize) (y := yJ7_size) (pc := 40) hC rfl ho (rw_J7_size hH.1 x1) q936 q823 q825 q128 q827 (List.mem_of_getElem? (i := 0) rfl) ⟨by decide, by decide, rd_J7_size.2.2⟩ (hH.room (Nat.le_of_ble_eq_true rfl) (Nat.le_of_ble_eq_true rfl)) rfl rfl (Nat.le_of_ble_eq_true rfl) 0 rfl h.le.2.2 h.br rfl dX3_extended_40 ?_ (fun E q S hT => rc_out hC hH.2.2.2.2 hT)
    intro x2 S h
    show rc_Z Y S 45 [some (rc_q v0), some (rc_i v1), some (rc_i v2), some (rc_i v3), some (rc_i v4), some (rc_i v5)] [rc_i x2, rc_i v5]
    refine rc_icmp_ge (pc := 45) (tgt := 102) hC dX3_extended_45 rfl h ?_ ?_
    · intro _ h
      refine rc_drop [true, true, true, true, true, false] (L' := [some (rc_q v0), some (rc_i v1), some (rc_i v2), some (rc_i v3), some (rc_i v4), none]) rfl ?_
      exact rw_X3_extended_L102 hC hH hk5 v0 v1 v2 v3 v4 S h
    intro _ h
    refine rc_aload_n (pc := 48) hC dX3_extended_48 rfl rfl ?_
    refine rc_iload_n (pc := 49) hC dX3_extended_49 rfl rfl ?_
    refine rc_iload (pc := 50) hC dX3_extended_50 rfl ?_
    refine rc_aload_n (pc := 52) hC dX3_extended_52 rfl rfl ?_
    refine rc_r_getq (pc := 53) hC rF_X3_18 dX3_extended_53 h ?_
    intro x3 h
    refine rc_iload (pc := 56) hC dX3_extended_56 rfl ?_
    obtain ⟨⟨fs, ho⟩, h⟩ := h.is
    refine rc_callF (x0 := rc_xget) (y := yJ7_get) (pc := 58) hC rfl ho (rw_J7_get hH.1 x3 v5) q938 q941 q943 q128 q945 (List.mem_of_getElem? (i := 2) rfl) ⟨by decide, by decide, rd_J7_get.2.2⟩ (hH.room (Nat.le_of_ble_eq_true rfl) (Nat.le_of_ble_eq_true rfl)) rfl rfl (Nat.le_of_ble_eq_true rfl) 1 rfl h.le.2.2 h.br rfl dX3_extended_58 ?_ (fun E q S hT => rc_out hC hH.2.2.2.2 hT)
    intro x4 S h
    show rc_Z Y S 63 [some (rc_q v0), some (rc_i v1), some (rc_i v2), some (rc_i v3), some (rc_i v4), some (rc_i v5)] [rc_q x4, rc_i v4, rc_i v1, rc_q v0]
    refine rc_r_cast (pc := 63) hC rK_X3_55 dX3_extended_63 h ?_
    intro h
    obtain ⟨⟨fs, ho⟩, h⟩ := h.is
    refine rc_callV (pc := 66) hC rfl ho (rw_X3_judgeWalk hH.1 v0 v1 v4 x4) q1024 q1025 q1026 q126 q1027 rfl rd_X3_judgeWalk (hH.room (Nat.le_of_ble_eq_true rfl) (Nat.le_of_ble_eq_true rfl)) rfl rfl (Nat.le_of_ble_eq_true rfl) 3 rfl h.le.2.2 h.br rfl dX3_extended_66 ?_ (fun E q S hT => rc_out hC hH.2.2.2.2 hT)
    intro x5 S h
    show rc_Z Y S 69 [some (rc_q v0), some (rc_i v1), some (rc_i v2), some (rc_i v3), some (rc_i v4), some (rc_i v5)] [rc_i x5]
    refine rc_if_ne (pc := 69) (tgt := 96) hC dX3_extended_69 rfl h ?_ ?_
    · intro _ h
      exact rw_X3_extended_L96 hC hH hk5 ih v0 v1 v2 v3 v4 v5 S h
    intro _ h
    refine rc_iload_n (pc := 72) hC dX3_extended_72 rfl rfl ?_
    refine rc_iconst (pc := 73) hC (v := (1 : Int32)) dX3_extended_73 rfl ?_
    refine rc_aload_n (pc := 74) hC dX3_extended_74 rfl rfl ?_
    refine rc_r_getq (pc := 75) hC rF_X3_18 dX3_extended_75 h ?_
    intro x6 h
    refine rc_iload (pc := 78) hC dX3_extended_78 rfl ?_
    obtain ⟨⟨fs, ho⟩, h⟩ := h.is
    refine rc_callF (x0 := rc_xget) (y := yJ7_get) (pc := 80) hC rfl ho (rw_J7_get hH.1 x6 v5) q938 q941 q943 q128 q945 (List.mem_of_getElem? (i := 2) rfl) ⟨by decide, by decide, rd_J7_get.2.2⟩ (hH.room (Nat.le_of_ble_eq_true rfl) (Nat.le_of_ble_eq_true rfl)) rfl rfl (Nat.le_of_ble_eq_true rfl) 1 rfl h.le.2.2 h.br rfl dX3_extended_80 ?_ (fun E q S hT => rc_out hC hH.2.2.2.2 hT)
    intro x7 S h
    show rc_Z Y S 85 [some (rc_q v0), some (rc_i v1), some (rc_i v2), some (rc_i v3), some (rc_i v4), some (rc_i v5)] [rc_q x7, rc_i (1 : Int32), rc_i v3]
    refine rc_r_cast (pc := 85) hC rK_X3_55 dX3_extended_85 h ?_
    intro h
    refine rc_iload (pc := 88) hC dX3_extended_88 rfl ?_
    obtain ⟨⟨fs, ho⟩, h⟩ := h.is
    refine rc_callV (pc := 90) hC rfl ho (rw_X6_from hH.1 x7 v4) q1036 q1037 q1038 q144 q1039 rfl rd_X6_from (hH.room (Nat.le_of_ble_eq_true rfl) (Nat.le_of_ble_eq_true rfl)) rfl rfl (Nat.le_of_ble_eq_true rfl) 1 rfl h.le.2.2 h.br rfl dX3_extended_90 ?_ (fun E q S hT => rc_out hC hH.2.2.2.2 hT)
    intro x8 S h
    show rc_Z Y S 93 [some (rc_q v0), some (rc_i v1), some (rc_i v2), some (rc_i v3), some (rc_i v4), some (rc_i v5)] [rc_i x8, rc_i (1 : Int32), rc_i v3]
    refine rc_ishl (pc := 93) hC dX3_extended_93 ?_
    refine rc_ior (pc := 94) hC dX3_extended_94 ?_
    refine rc_istore_n (pc := 95) hC (L' := [some (rc_q v0), some (rc_i v1), some (rc_i v2), some (rc_i (v3 ||| ((1 : Int32) <<< (x8 &&& 31)))), some (rc_i v4), some (rc_i v5)]) dX3_extended_95 rfl (Nat.le_of_ble_eq_true rfl) rfl rfl ?_
    exact rw_X3_extended_L96 hC hH hk5 ih v0 v1 v2 (v3 ||| ((1 : Int32) <<< (x8 &&& 31))) v4 v5 S h
theorem rw_X3_extended_L5 {Y : rc_Y} (hC : rc_C Y cX3_extended RX3 (Option.some Jvm.ClassFile.FieldType.int) 6) (hH : rc_H Y 5 112 yX3_extended.name) : ∀ (n : Nat) (v0 : Option Nat) (v1 : Int32) (v2 : Int32) (v3 : Int32) (v4 : Int32) (S : rc_S), rc_Go Y rc_tI (rp_X3_extended_L5  n v0 v1 v2 v3 v4) S → rc_Z Y S 5 [some (rc_q v0), some (rc_i v1), some (rc_i v2), some (rc_i v3), some (rc_i v4), none] [] := by
  intro n
  induction n with
  | zero => intro v0 v1 v2 v3 v4 S h; exact h.fail.elim
  | succ n ih =>
    intro v0 v1 v2 v3 v4 S h
    rw [rp_X3_extended_L5] at h
    refine rc_iload (pc := 5) hC dX3_extended_5 rfl ?_
    refine rc_aload_n (pc := 7) hC dX3_extended_7 rfl rfl ?_
    refine rc_r_getq (pc := 8) hC rF_X3_12 dX3_extended_8 h ?_
    intro x1 h
    obtain ⟨⟨fs, ho⟩, h⟩ := h.is
    refine rc_callF (x0 := rc_xsize) (y := yJ7_size) (pc := 11) hC rfl ho (rw_J7_size hH.1 x1) q936 q823 q825 q128 q827 (List.mem_of_getElem? (i := 0) rfl) ⟨by decide, by decide, rd_J7_size.2.2⟩ (hH.room (Nat.le_of_ble_eq_true rfl) (Nat.le_of_ble_eq_true rfl)) rfl rfl (Nat.le_of_ble_eq_true rfl) 0 rfl h.le.2.2 h.br rfl dX3_extended_11 ?_ (fun E q S hT => rc_out hC hH.2.2.2.2 hT)
    intro x2 S h
    show rc_Z Y S 16 [some (rc_q v0), some (rc_i v1), some (rc_i v2), some (rc_i v3), some (rc_i v4), none] [rc_i x2, rc_i v4]
    refine rc_icmp_ge (pc := 16) (tgt := 108) hC dX3_extended_16 rfl h ?_ ?_
    · intro _ h
      refine rc_iload_n (pc := 108) hC dX3_extended_108 rfl rfl ?_
      exact rc_iret hC rfl rfl dX3_extended_109 h rfl
    intro _ h
    refine rc_iload_n (pc := 19) hC dX3_extended_19 rfl rfl ?_
    refine rc_iload (pc := 20) hC dX3_extended_20 rfl ?_
    refine rc_ishr (pc := 22) hC dX3_extended_22 ?_
    refine rc_iconst (pc := 23) hC (v := (1 : Int32)) dX3_extended_23 rfl ?_
    refine rc_iand (pc := 24) hC dX3_extended_24 ?_
    refine rc_if_ne (pc := 25) (tgt := 31) hC dX3_extended_25 rfl h ?_ ?_
    · intro _ h
      refine rc_iconst (pc := 31) hC (v := (0 : Int32)) dX3_extended_31 rfl ?_
      refine rc_istore (pc := 32) hC (L' := [some (rc_q v0), some (rc_i v1), some (rc_i v2), some (rc_i v3), some (rc_i v4), some (rc_i (0 : Int32))]) dX3_extended_32 (Nat.le_of_ble_eq_true rfl) rfl rfl ?_
      refine rc_r_fuel h ?_
      intro x3 h
      exact rw_X3_extended_L34 hC hH ih x3 v0 v1 v2 v3 v4 (0 : Int32) S h
    intro _ h
    refine rc_goto (pc := 28) (tgt := 102) hC dX3_extended_28 rfl ?_
    exact rw_X3_extended_L102 hC hH ih v0 v1 v2 v3 v4 S h
theorem rw_X3_extended {l : Launch} (hl : l.stackTraces = false) (v0 : Option Nat) (v1 : Int32) (v2 : Int32) : rc_Ct l yX3_extended (ws_ yX3_extended cX3_extended 6 (Option.some Jvm.ClassFile.FieldType.int)) 5 112 rc_tI (rp_X3_extended v0 v1 v2) [rc_q v0, rc_i v1, rc_i v2] := by
  refine rc_Ct_H hl (plainFor_of_name rY_X3) rfl (Nat.le_of_ble_eq_true rfl) (L0 := [some (rc_q v0), some (rc_i v1), some (rc_i v2), none, none, none]) rfl ?_
  intro Y S hC hH h
  have hC : rc_C Y cX3_extended RX3 (Option.some Jvm.ClassFile.FieldType.int) 6 := hC
  unfold rp_X3_extended at h
  refine rc_iload_n (pc := 0) hC dX3_extended_0 rfl rfl ?_
  refine rc_istore_n (pc := 1) hC (L' := [some (rc_q v0), some (rc_i v1), some (rc_i v2), some (rc_i v2), none, none]) dX3_extended_1 rfl (Nat.le_of_ble_eq_true rfl) rfl rfl ?_
  refine rc_iconst (pc := 2) hC (v := (0 : Int32)) dX3_extended_2 rfl ?_
  refine rc_istore (pc := 3) hC (L' := [some (rc_q v0), some (rc_i v1), some (rc_i v2), some (rc_i v2), some (rc_i (0 : Int32)), none]) dX3_extended_3 (Nat.le_of_ble_eq_true rfl) rfl rfl ?_
  refine rc_r_fuel h ?_
  intro x1 h
  exact rw_X3_extended_L5 hC hH  x1 v0 v1 v2 v2 (0 : Int32) S h
theorem rw_X3_reachable_L21 {Y : rc_Y} (hC : rc_C Y cX3_reachable RX3 (Option.some Jvm.ClassFile.FieldType.int) 4) (hH : rc_H Y 6 137 yX3_reachable.name) : ∀ (n : Nat) (v0 : Option Nat) (v1 : Int32) (v2 : Int32) (v3 : Int32) (S : rc_S), rc_Go Y rc_tI (rp_X3_reachable_L21  n v0 v1 v2 v3) S → rc_Z Y S 21 [some (rc_q v0), some (rc_i v1), some (rc_i v2), some (rc_i v3)] [] := by
  intro n
  induction n with
  | zero => intro v0 v1 v2 v3 S h; exact h.fail.elim
  | succ n ih =>
    intro v0 v1 v2 v3 S h
    rw [rp_X3_reachable_L21] at h
    refine rc_iload_n (pc := 21) hC dX3_reachable_21 rfl rfl ?_
    refine rc_iload_n (pc := 22) hC dX3_reachable_22 rfl rfl ?_
    refine rc_icmp_eq (pc := 23) (tgt := 38) hC dX3_reachable_23 rfl h ?_ ?_
    · intro _ h
      refine rc_iload_n (pc := 38) hC dX3_reachable_38 rfl rfl ?_
      exact rc_iret hC rfl rfl dX3_reachable_39 h rfl
    intro _ h
    refine rc_iload_n (pc := 26) hC dX3_reachable_26 rfl rfl ?_
    refine rc_istore_n (pc := 27) hC (L' := [some (rc_q v0), some (rc_i v1), some (rc_i v3), some (rc_i v3)]) dX3_reachable_27 rfl (Nat.le_of_ble_eq_true rfl) rfl rfl ?_
    refine rc_aload_n (pc := 28) hC dX3_reachable_28 rfl rfl ?_
    refine rc_iload_n (pc := 29) hC dX3_reachable_29 rfl rfl ?_
    refine rc_iload_n (pc := 30) hC dX3_reachable_30 rfl rfl ?_
    obtain ⟨⟨fs, ho⟩, h⟩ := h.is
    refine rc_callV (pc := 31) hC rfl ho (rw_X3_extended hH.1 v0 v1 v3) q1933 q1934 q1935 q126 q1936 rfl rd_X3_extended (hH.room (Nat.le_of_ble_eq_true rfl) (Nat.le_of_ble_eq_true rfl)) rfl rfl (Nat.le_of_ble_eq_true rfl) 2 rfl h.le.2.2 h.br rfl dX3_reachable_31 ?_ (fun E q S hT => rc_out hC hH.2.2.2.2 hT)
    intro x1 S h
    show rc_Z Y S 34 [some (rc_q v0), some (rc_i v1), some (rc_i v3), some (rc_i v3)] [rc_i x1]
    refine rc_istore_n (pc := 34) hC (L' := [some (rc_q v0), some (rc_i v1), some (rc_i v3), some (rc_i x1)]) dX3_reachable_34 rfl (Nat.le_of_ble_eq_true rfl) rfl rfl ?_
    refine rc_goto (pc := 35) (tgt := 21) hC dX3_reachable_35 rfl ?_
    exact ih v0 v1 v3 x1 S h
theorem rw_X3_reachable {l : Launch} (hl : l.stackTraces = false) (v0 : Option Nat) (v1 : Int32) : rc_Ct l yX3_reachable (ws_ yX3_reachable cX3_reachable 4 (Option.some Jvm.ClassFile.FieldType.int)) 6 137 rc_tI (rp_X3_reachable v0 v1) [rc_q v0, rc_i v1] := by
  refine rc_Ct_H hl (plainFor_of_name rY_X3) rfl (Nat.le_of_ble_eq_true rfl) (L0 := [some (rc_q v0), some (rc_i v1), none, none]) rfl ?_
  intro Y S hC hH h
  have hC : rc_C Y cX3_reachable RX3 (Option.some Jvm.ClassFile.FieldType.int) 4 := hC
  unfold rp_X3_reachable at h
  refine rc_iconst (pc := 0) hC (v := (0 : Int32)) dX3_reachable_0 rfl ?_
  refine rc_istore_n (pc := 1) hC (L' := [some (rc_q v0), some (rc_i v1), some (rc_i (0 : Int32)), none]) dX3_reachable_1 rfl (Nat.le_of_ble_eq_true rfl) rfl rfl ?_
  refine rc_iconst (pc := 2) hC (v := (1 : Int32)) dX3_reachable_2 rfl ?_
  refine rc_aload_n (pc := 3) hC dX3_reachable_3 rfl rfl ?_
  refine rc_r_getq (pc := 4) hC rF_X3_21 dX3_reachable_4 h ?_
  intro x1 h
  refine rc_iload_n (pc := 7) hC dX3_reachable_7 rfl rfl ?_
  obtain ⟨⟨fs, ho⟩, h⟩ := h.is
  refine rc_callF (x0 := rc_xget) (y := yJ7_get) (pc := 8) hC rfl ho (rw_J7_get hH.1 x1 v1) q938 q941 q943 q128 q945 (List.mem_of_getElem? (i := 2) rfl) ⟨by decide, by decide, rd_J7_get.2.2⟩ (hH.room (Nat.le_of_ble_eq_true rfl) (Nat.le_of_ble_eq_true rfl)) rfl rfl (Nat.le_of_ble_eq_true rfl) 1 rfl h.le.2.2 h.br rfl dX3_reachable_8 ?_ (fun E q S hT => rc_out hC hH.2.2.2.2 hT)
  intro x2 S h
  show rc_Z Y S 13 [some (rc_q v0), some (rc_i v1), some (rc_i (0 : Int32)), none] [rc_q x2, rc_i (1 : Int32)]
  refine rc_r_cast (pc := 13) hC rK_X3_57 dX3_reachable_13 h ?_
  intro h
  refine rc_r_geti (pc := 16) hC rF_X3_90 dX3_reachable_16 h ?_
  intro x3 h
  refine rc_ishl (pc := 19) hC dX3_reachable_19 ?_
  refine rc_istore_n (pc := 20) hC (L' := [some (rc_q v0), some (rc_i v1), some (rc_i (0 : Int32)), some (rc_i ((1 : Int32) <<< (x3 &&& 31)))]) dX3_reachable_20 rfl (Nat.le_of_ble_eq_true rfl) rfl rfl ?_
  refine rc_r_fuel h ?_
  intro x4 h
  exact rw_X3_reachable_L21 hC hH  x4 v0 v1 (0 : Int32) ((1 : Int32) <<< (x3 &&& 31)) S h
theorem rw_X3_stepsTo_L22 {Y : rc_Y} (hC : rc_C Y cX3_stepsTo RX3 (Option.some Jvm.ClassFile.FieldType.int) 5) (hH : rc_H Y 6 137 yX3_stepsTo.name) : ∀ (n : Nat) (v0 : Option Nat) (v1 : Int32) (v2 : Int32) (v3 : Int32) (v4 : Int32) (S : rc_S), rc_Go Y rc_tI (rp_X3_stepsTo_L22  n v0 v1 v2 v3 v4) S → rc_Z Y S 22 [some (rc_q v0), some (rc_i v1), some (rc_i v2), some (rc_i v3), some (rc_i v4)] [] := by
  intro n
  induction n with
  | zero => intro v0 v1 v2 v3 v4 S h; exact h.fail.elim
  | succ n ih =>
    intro v0 v1 v2 v3 v4 S h
    rw [rp_X3_stepsTo_L22] at h
    refine rc_iload (pc := 22) hC dX3_stepsTo_22 rfl ?_
    refine rc_bipush (pc := 24) hC (v := (10 : Int32)) dX3_stepsTo_24 rfl ?_
    refine rc_icmp_ge (pc := 26) (tgt := 54) hC dX3_stepsTo_26 rfl h ?_ ?_
    · intro _ h
      refine rc_iconst (pc := 54) hC (v := (-1 : Int32)) dX3_stepsTo_54 rfl ?_
      exact rc_iret hC rfl rfl dX3_stepsTo_55 h rfl
    intro _ h
    refine rc_iload_n (pc := 29) hC dX3_stepsTo_29 rfl rfl ?_
    refine rc_iload_n (pc := 30) hC dX3_stepsTo_30 rfl rfl ?_
    refine rc_ishr (pc := 31) hC dX3_stepsTo_31 ?_
    refine rc_iconst (pc := 32) hC (v := (1 : Int32)) dX3_stepsTo_32 rfl ?_
    refine rc_iand (pc := 33) hC dX3_stepsTo_33 ?_
    refine rc_iconst (pc := 34) hC (v := (1 : Int32)) dX3_stepsTo_34 rfl ?_
    refine rc_icmp_ne (pc := 35) (tgt := 41) hC dX3_stepsTo_35 rfl h ?_ ?_
    · intro _ h
      refine rc_aload_n (pc := 41) hC dX3_stepsTo_41 rfl rfl ?_
      refine rc_iload_n (pc := 42) hC dX3_stepsTo_42 rfl rfl ?_
      refine rc_iload_n (pc := 43) hC dX3_stepsTo_43 rfl rfl ?_
      obtain ⟨⟨fs, ho⟩, h⟩ := h.is
      refine rc_callV (pc := 44) hC rfl ho (rw_X3_extended hH.1 v0 v1 v3) q1933 q1934 q1935 q126 q1936 rfl rd_X3_extended (hH.room (Nat.le_of_ble_eq_true rfl) (Nat.le_of_ble_eq_true rfl)) rfl rfl (Nat.le_of_ble_eq_true rfl) 2 rfl h.le.2.2 h.br rfl dX3_stepsTo_44 ?_ (fun E q S hT => rc_out hC hH.2.2.2.2 hT)
      intro x1 S h
      show rc_Z Y S 47 [some (rc_q v0), some (rc_i v1), some (rc_i v2), some (rc_i v3), some (rc_i v4)] [rc_i x1]
      refine rc_istore_n (pc := 47) hC (L' := [some (rc_q v0), some (rc_i v1), some (rc_i v2), some (rc_i x1), some (rc_i v4)]) dX3_stepsTo_47 rfl (Nat.le_of_ble_eq_true rfl) rfl rfl ?_
      refine rc_iinc (pc := 48) hC (v := (v4 + (1 : Int32))) (L' := [some (rc_q v0), some (rc_i v1), some (rc_i v2), some (rc_i x1), some (rc_i (v4 + (1 : Int32)))]) dX3_stepsTo_48 rfl rfl rfl rfl ?_
      refine rc_goto (pc := 51) (tgt := 22) hC dX3_stepsTo_51 rfl ?_
      exact ih v0 v1 v2 x1 (v4 + (1 : Int32)) S h
    intro _ h
    refine rc_iload (pc := 38) hC dX3_stepsTo_38 rfl ?_
    exact rc_iret hC rfl rfl dX3_stepsTo_40 h rfl
theorem rw_X3_stepsTo {l : Launch} (hl : l.stackTraces = false) (v0 : Option Nat) (v1 : Int32) (v2 : Int32) : rc_Ct l yX3_stepsTo (ws_ yX3_stepsTo cX3_stepsTo 5 (Option.some Jvm.ClassFile.FieldType.int)) 6 137 rc_tI (rp_X3_stepsTo v0 v1 v2) [rc_q v0, rc_i v1, rc_i v2] := by
  refine rc_Ct_H hl (plainFor_of_name rY_X3) rfl (Nat.le_of_ble_eq_true rfl) (L0 := [some (rc_q v0), some (rc_i v1), some (rc_i v2), none, none]) rfl ?_
  intro Y S hC hH h
  have hC : rc_C Y cX3_stepsTo RX3 (Option.some Jvm.ClassFile.FieldType.int) 5 := hC
  unfold rp_X3_stepsTo at h
  refine rc_iconst (pc := 0) hC (v := (1 : Int32)) dX3_stepsTo_0 rfl ?_
  refine rc_aload_n (pc := 1) hC dX3_stepsTo_1 rfl rfl ?_
  refine rc_r_getq (pc := 2) hC rF_X3_21 dX3_stepsTo_2 h ?_
  intro x1 h
  refine rc_iload_n (pc := 5) hC dX3_stepsTo_5 rfl rfl ?_
  obtain ⟨⟨fs, ho⟩, h⟩ := h.is
  refine rc_callF (x0 := rc_xget) (y := yJ7_get) (pc := 6) hC rfl ho (rw_J7_get hH.1 x1 v1) q938 q941 q943 q128 q945 (List.mem_of_getElem? (i := 2) rfl) ⟨by decide, by decide, rd_J7_get.2.2⟩ (hH.room (Nat.le_of_ble_eq_true rfl) (Nat.le_of_ble_eq_true rfl)) rfl rfl (Nat.le_of_ble_eq_true rfl) 1 rfl h.le.2.2 h.br rfl dX3_stepsTo_6 ?_ (fun E q S hT => rc_out hC hH.2.2.2.2 hT)
  intro x2 S h
  show rc_Z Y S 11 [some (rc_q v0), some (rc_i v1), some (rc_i v2), none, none] [rc_q x2, rc_i (1 : Int32)]
  refine rc_r_cast (pc := 11) hC rK_X3_57 dX3_stepsTo_11 h ?_
  intro h
  refine rc_r_geti (pc := 14) hC rF_X3_90 dX3_stepsTo_14 h ?_
  intro x3 h
  refine rc_ishl (pc := 17) hC dX3_stepsTo_17 ?_
  refine rc_istore_n (pc := 18) hC (L' := [some (rc_q v0), some (rc_i v1), some (rc_i v2), some (rc_i ((1 : Int32) <<< (x3 &&& 31))), none]) dX3_stepsTo_18 rfl (Nat.le_of_ble_eq_true rfl) rfl rfl ?_
  refine rc_iconst (pc := 19) hC (v := (0 : Int32)) dX3_stepsTo_19 rfl ?_
  refine rc_istore (pc := 20) hC (L' := [some (rc_q v0), some (rc_i v1), some (rc_i v2), some (rc_i ((1 : Int32) <<< (x3 &&& 31))), some (rc_i (0 : Int32))]) dX3_stepsTo_20 (Nat.le_of_ble_eq_true rfl) rfl rfl ?_
  refine rc_r_fuel h ?_
  intro x4 h
  exact rw_X3_stepsTo_L22 hC hH  x4 v0 v1 v2 ((1 : Int32) <<< (x3 &&& 31)) (0 : Int32) S h
