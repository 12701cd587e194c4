set_option maxRecDepth 100000
/-! WALKS (printed by gen.py) -/
theorem rw_X2_isAt {l : Launch} (hl : l.stackTraces = false) (v0 : Option Nat) (v1 : Int32) (v2 : Int32) : rc_Ct l yX2_isAt (ws_ yX2_isAt cX2_isAt 3 (Option.some Jvm.ClassFile.FieldType.boolean)) 5 106 rc_tI (rp_X2_isAt v0 v1 v2) [rc_q v0, rc_i v1, rc_i v2] := by
  refine rc_Ct_H hl (plainFor_of_name rY_X2) rfl (Nat.le_of_ble_eq_true rfl) (L0 := [some (rc_q v0), some (rc_i v1), some (rc_i v2)]) rfl ?_
  intro Y S hC hH h
  have hC : rc_C Y cX2_isAt RX2 (Option.some Jvm.ClassFile.FieldType.boolean) 3 := hC
  unfold rp_X2_isAt at h
  refine rc_aload_n (pc := 0) hC dX2_isAt_0 rfl rfl ?_
  refine rc_r_geti (pc := 1) hC rF_X2_39 dX2_isAt_1 h ?_
  intro x1 h
  refine rc_aload_n (pc := 4) hC dX2_isAt_4 rfl rfl ?_
  refine rc_r_getq (pc := 5) hC rF_X2_33 dX2_isAt_5 h ?_
  intro x2 h
  obtain ⟨⟨fs, ho⟩, h⟩ := h.is
  refine rc_callV (pc := 8) hC rfl ho (rw_J4_length hH.1 x2) q306 q307 q308 q121 q309 rfl rd_J4_length (hH.room (Nat.le_of_ble_eq_true rfl) (Nat.le_of_ble_eq_true rfl)) rfl rfl (Nat.le_of_ble_eq_true rfl) 0 rfl h.le.2.2 h.br rfl dX2_isAt_8 ?_ (fun E q S hT => rc_out hC hH.2.2.2.2 hT)
  intro x3 S h
  show rc_Z Y S 11 [some (rc_q v0), some (rc_i v1), some (rc_i v2)] [rc_i x3, rc_i x1]
  refine rc_icmp_ge (pc := 11) (tgt := 48) hC dX2_isAt_11 rfl h ?_ ?_
  · intro _ h
    refine rc_iconst (pc := 48) hC (v := (0 : Int32)) dX2_isAt_48 rfl ?_
    exact rc_iret hC rfl rfl dX2_isAt_49 h rfl
  intro _ h
  refine rc_aload_n (pc := 14) hC dX2_isAt_14 rfl rfl ?_
  refine rc_r_getq (pc := 15) hC rF_X2_33 dX2_isAt_15 h ?_
  intro x4 h
  refine rc_aload_n (pc := 18) hC dX2_isAt_18 rfl rfl ?_
  refine rc_r_geti (pc := 19) hC rF_X2_39 dX2_isAt_19 h ?_
  intro x5 h
  obtain ⟨⟨fs, ho⟩, h⟩ := h.is
  refine rc_callV (pc := 22) hC rfl ho (rw_J4_charAt hH.1 x4 x5) q315 q316 q317 q121 q318 rfl rd_J4_charAt (hH.room (Nat.le_of_ble_eq_true rfl) (Nat.le_of_ble_eq_true rfl)) rfl rfl (Nat.le_of_ble_eq_true rfl) 1 rfl h.le.2.2 h.br rfl dX2_isAt_22 ?_ (fun E q S hT => rc_out hC hH.2.2.2.2 hT)
  intro x6 S h
  show rc_Z Y S 25 [some (rc_q v0), some (rc_i v1), some (rc_i v2)] [rc_i x6]
  refine rc_iload_n (pc := 25) hC dX2_isAt_25 rfl rfl ?_
  refine rc_icmp_lt (pc := 26) (tgt := 48) hC dX2_isAt_26 rfl h ?_ ?_
  · intro _ h
    refine rc_iconst (pc := 48) hC (v := (0 : Int32)) dX2_isAt_48 rfl ?_
    exact rc_iret hC rfl rfl dX2_isAt_49 h rfl
  intro _ h
  refine rc_aload_n (pc := 29) hC dX2_isAt_29 rfl rfl ?_
  refine rc_r_getq (pc := 30) hC rF_X2_33 dX2_isAt_30 h ?_
  intro x7 h
  refine rc_aload_n (pc := 33) hC dX2_isAt_33 rfl rfl ?_
  refine rc_r_geti (pc := 34) hC rF_X2_39 dX2_isAt_34 h ?_
  intro x8 h
  obtain ⟨⟨fs, ho⟩, h⟩ := h.is
  refine rc_callV (pc := 37) hC rfl ho (rw_J4_charAt hH.1 x7 x8) q315 q316 q317 q121 q318 rfl rd_J4_charAt (hH.room (Nat.le_of_ble_eq_true rfl) (Nat.le_of_ble_eq_true rfl)) rfl rfl (Nat.le_of_ble_eq_true rfl) 1 rfl h.le.2.2 h.br rfl dX2_isAt_37 ?_ (fun E q S hT => rc_out hC hH.2.2.2.2 hT)
  intro x9 S h
  show rc_Z Y S 40 [some (rc_q v0), some (rc_i v1), some (rc_i v2)] [rc_i x9]
  refine rc_iload_n (pc := 40) hC dX2_isAt_40 rfl rfl ?_
  refine rc_icmp_gt (pc := 41) (tgt := 48) hC dX2_isAt_41 rfl h ?_ ?_
  · intro _ h
    refine rc_iconst (pc := 48) hC (v := (0 : Int32)) dX2_isAt_48 rfl ?_
    exact rc_iret hC rfl rfl dX2_isAt_49 h rfl
  intro _ h
  refine rc_iconst (pc := 44) hC (v := (1 : Int32)) dX2_isAt_44 rfl ?_
  refine rc_goto (pc := 45) (tgt := 49) hC dX2_isAt_45 rfl ?_
  exact rc_iret hC rfl rfl dX2_isAt_49 h rfl
theorem rw_X2_readDigits_L55 {Y : rc_Y} (hC : rc_C Y cX2_readDigits RX2 (Option.none : Option Jvm.ClassFile.FieldType) 1) (hH : rc_H Y 6 128 yX2_readDigits.name) {k5 : Option Nat → rc_M Unit} (hk5 : ∀ (v0 : Option Nat) (S : rc_S), rc_Go Y rc_tU (k5 v0) S → rc_Z Y S 5 [some (rc_q v0)] []) (v0 : Option Nat) (S : rc_S) (h : rc_Go Y rc_tU (rp_X2_readDigits_L55 k5 v0) S) : rc_Z Y S 55 [some (rc_q v0)] [] := by
  unfold rp_X2_readDigits_L55 at h
  refine rc_aload_n (pc := 55) hC dX2_readDigits_55 rfl rfl ?_
  refine rc_dup (pc := 56) hC dX2_readDigits_56 rfl ?_
  refine rc_r_geti (pc := 57) hC rF_X2_39 dX2_readDigits_57 h ?_
  intro x1 h
  refine rc_iconst (pc := 60) hC (v := (1 : Int32)) dX2_readDigits_60 rfl ?_
  refine rc_iadd (pc := 61) hC dX2_readDigits_61 ?_
  refine rc_r_put (pc := 62) hC rP_X2_39 (nofun) dX2_readDigits_62 h ?_
  intro S h
  refine rc_goto (pc := 65) (tgt := 5) hC dX2_readDigits_65 rfl ?_
  exact hk5 v0 S h
theorem rw_X2_readDigits_L91 {Y : rc_Y} (hC : rc_C Y cX2_readDigits RX2 (Option.none : Option Jvm.ClassFile.FieldType) 1) (hH : rc_H Y 6 128 yX2_readDigits.name) (s0 : Option Nat) (s1 : Option Nat) (S : rc_S) (h : rc_Go Y rc_tU (rp_X2_readDigits_L91  s0 s1) S) : rc_Z Y S 91 [none] [rc_q s0, rc_q s1] := by
  unfold rp_X2_readDigits_L91 at h
  refine rc_r_put (pc := 91) hC rP_X2_15 (nofun) dX2_readDigits_91 h ?_
  intro S h
  exact rc_vret hC rfl dX2_readDigits_94 h rfl
theorem rw_X2_readDigits_L5 {Y : rc_Y} (hC : rc_C Y cX2_readDigits RX2 (Option.none : Option Jvm.ClassFile.FieldType) 1) (hH : rc_H Y 6 128 yX2_readDigits.name) : ∀ (n : Nat) (v0 : Option Nat) (S : rc_S), rc_Go Y rc_tU (rp_X2_readDigits_L5  n v0) S → rc_Z Y S 5 [some (rc_q v0)] [] := by
  intro n
  induction n with
  | zero => intro v0 S h; exact h.fail.elim
  | succ n ih =>
    intro v0 S h
    rw [rp_X2_readDigits_L5] at h
    refine rc_aload_n (pc := 5) hC dX2_readDigits_5 rfl rfl ?_
    refine rc_bipush (pc := 6) hC (v := (48 : Int32)) dX2_readDigits_6 rfl ?_
    refine rc_bipush (pc := 8) hC (v := (57 : Int32)) dX2_readDigits_8 rfl ?_
    obtain ⟨⟨fs, ho⟩, h⟩ := h.is
    refine rc_callV (pc := 10) hC rfl ho (rw_X2_isAt hH.1 v0 (48 : Int32) (57 : Int32)) q302 q304 qs1 q123 q305 rfl rd_X2_isAt (hH.room (Nat.le_of_ble_eq_true rfl) (Nat.le_of_ble_eq_true rfl)) rfl rfl (Nat.le_of_ble_eq_true rfl) 2 rfl h.le.2.2 h.br rfl dX2_readDigits_10 ?_ (fun E q S hT => rc_out hC hH.2.2.2.2 hT)
    intro x1 S h
    show rc_Z Y S 13 [some (rc_q v0)] [rc_i x1]
    refine rc_if_eq (pc := 13) (tgt := 68) hC dX2_readDigits_13 rfl h ?_ ?_
    · intro _ h
      refine rc_aload_n (pc := 68) hC dX2_readDigits_68 rfl rfl ?_
      refine rc_aload_n (pc := 69) hC dX2_readDigits_69 rfl rfl ?_
      refine rc_r_geti (pc := 70) hC rF_X2_39 dX2_readDigits_70 h ?_
      intro x2 h
      refine rc_aload_n (pc := 73) hC dX2_readDigits_73 rfl rfl ?_
      refine rc_r_geti (pc := 74) hC rF_X2_57 dX2_readDigits_74 h ?_
      intro x3 h
      refine rc_isub (pc := 77) hC dX2_readDigits_77 ?_
      refine rc_iconst (pc := 78) hC (v := (3 : Int32)) dX2_readDigits_78 rfl ?_
      refine rc_icmp_le (pc := 79) (tgt := 88) hC dX2_readDigits_79 rfl h ?_ ?_
      · intro _ h
        refine rc_r_stat (pc := 88) hC rS_X2_89 dX2_readDigits_88 h ?_
        intro x4 h
        refine rc_drop [false] (L' := [none]) rfl ?_
        exact rw_X2_readDigits_L91 hC hH  x4 v0 S h
      intro _ h
      refine rc_r_stat (pc := 82) hC rS_X2_83 dX2_readDigits_82 h ?_
      intro x5 h
      refine rc_goto (pc := 85) (tgt := 91) hC dX2_readDigits_85 rfl ?_
      refine rc_drop [false] (L' := [none]) rfl ?_
      exact rw_X2_readDigits_L91 hC hH  x5 v0 S h
    intro _ h
    refine rc_aload_n (pc := 16) hC dX2_readDigits_16 rfl rfl ?_
    refine rc_r_geti (pc := 17) hC rF_X2_39 dX2_readDigits_17 h ?_
    intro x6 h
    refine rc_aload_n (pc := 20) hC dX2_readDigits_20 rfl rfl ?_
    refine rc_r_geti (pc := 21) hC rF_X2_57 dX2_readDigits_21 h ?_
    intro x7 h
    refine rc_isub (pc := 24) hC dX2_readDigits_24 ?_
    refine rc_iconst (pc := 25) hC (v := (3 : Int32)) dX2_readDigits_25 rfl ?_
    refine rc_icmp_ge (pc := 26) (tgt := 55) hC dX2_readDigits_26 rfl h ?_ ?_
    · intro _ h
      exact rw_X2_readDigits_L55 hC hH ih v0 S h
    intro _ h
    refine rc_aload_n (pc := 29) hC dX2_readDigits_29 rfl rfl ?_
    refine rc_bipush (pc := 30) hC (v := (10 : Int32)) dX2_readDigits_30 rfl ?_
    refine rc_aload_n (pc := 32) hC dX2_readDigits_32 rfl rfl ?_
    refine rc_r_geti (pc := 33) hC rF_X2_86 dX2_readDigits_33 h ?_
    intro x8 h
    refine rc_imul (pc := 36) hC dX2_readDigits_36 ?_
    refine rc_aload_n (pc := 37) hC dX2_readDigits_37 rfl rfl ?_
    refine rc_r_getq (pc := 38) hC rF_X2_33 dX2_readDigits_38 h ?_
    intro x9 h
    refine rc_aload_n (pc := 41) hC dX2_readDigits_41 rfl rfl ?_
    refine rc_r_geti (pc := 42) hC rF_X2_39 dX2_readDigits_42 h ?_
    intro x10 h
    obtain ⟨⟨fs, ho⟩, h⟩ := h.is
    refine rc_callV (pc := 45) hC rfl ho (rw_J4_charAt hH.1 x9 x10) q315 q316 q317 q121 q318 rfl rd_J4_charAt (hH.room (Nat.le_of_ble_eq_true rfl) (Nat.le_of_ble_eq_true rfl)) rfl rfl (Nat.le_of_ble_eq_true rfl) 1 rfl h.le.2.2 h.br rfl dX2_readDigits_45 ?_ (fun E q S hT => rc_out hC hH.2.2.2.2 hT)
    intro x11 S h
    show rc_Z Y S 48 [some (rc_q v0)] [rc_i x11, rc_i ((10 : Int32) * x8), rc_q v0]
    refine rc_iadd (pc := 48) hC dX2_readDigits_48 ?_
    refine rc_bipush (pc := 49) hC (v := (48 : Int32)) dX2_readDigits_49 rfl ?_
    refine rc_isub (pc := 51) hC dX2_readDigits_51 ?_
    refine rc_r_put (pc := 52) hC rP_X2_86 (nofun) dX2_readDigits_52 h ?_
    intro S h
    exact rw_X2_readDigits_L55 hC hH ih v0 S h
theorem rw_X2_readDigits {l : Launch} (hl : l.stackTraces = false) (v0 : Option Nat) : rc_Ct l yX2_readDigits (ws_ yX2_readDigits cX2_readDigits 1 (Option.none : Option Jvm.ClassFile.FieldType)) 6 128 rc_tU (rp_X2_readDigits v0) [rc_q v0] := by
  refine rc_Ct_H hl (plainFor_of_name rY_X2) rfl (Nat.le_of_ble_eq_true rfl) (L0 := [some (rc_q v0)]) rfl ?_
  intro Y S hC hH h
  have hC : rc_C Y cX2_readDigits RX2 (Option.none : Option Jvm.ClassFile.FieldType) 1 := hC
  unfold rp_X2_readDigits at h
  refine rc_aload_n (pc := 0) hC dX2_readDigits_0 rfl rfl ?_
  refine rc_iconst (pc := 1) hC (v := (0 : Int32)) dX2_readDigits_1 rfl ?_
  refine rc_r_put (pc := 2) hC rP_X2_86 (nofun) dX2_readDigits_2 h ?_
  intro S h
  refine rc_r_fuel h ?_
  intro x1 h
  exact rw_X2_readDigits_L5 hC hH  x1 v0 S h
theorem rw_X2_sign {l : Launch} (hl : l.stackTraces = false) (v0 : Int32) : rc_Ct l yX2_sign (ws_ yX2_sign cX2_sign 1 (Option.some (Jvm.ClassFile.FieldType.object "RooftopCats$Token"))) 0 0 rc_tQ (rp_X2_sign v0) [rc_i v0] := by
  refine rc_Ct_H hl (plainFor_of_name rY_X2) rfl (Nat.le_of_ble_eq_true rfl) (L0 := [some (rc_i v0)]) rfl ?_
  intro Y S hC hH h
  have hC : rc_C Y cX2_sign RX2 (Option.some (Jvm.ClassFile.FieldType.object "RooftopCats$Token")) 1 := hC
  unfold rp_X2_sign at h
  refine rc_iload_n (pc := 0) hC dX2_sign_0 rfl rfl ?_
  rcases h.ite with ⟨hc, h⟩ | ⟨hc0, h⟩
  · refine rc_lookup (pc := 1) (tgt := 42) hC (off := 41) dX2_sign_1 rfl (by rw [hc]; rfl) rfl ?_
    refine rc_r_stat (pc := 42) hC rS_X2_77 dX2_sign_42 h ?_
    intro x2 h
    refine rc_goto (pc := 45) (tgt := 57) hC dX2_sign_45 rfl ?_
    exact rc_aret hC rfl (by first | exact Or.inl ⟨_, rfl⟩ | exact Or.inr ⟨_, rfl⟩) dX2_sign_57 h rfl
  rcases h.ite with ⟨hc, h⟩ | ⟨hc1, h⟩
  · refine rc_lookup (pc := 1) (tgt := 48) hC (off := 47) dX2_sign_1 rfl (by rw [hc]; rfl) rfl ?_
    refine rc_r_stat (pc := 48) hC rS_X2_80 dX2_sign_48 h ?_
    intro x3 h
    refine rc_goto (pc := 51) (tgt := 57) hC dX2_sign_51 rfl ?_
    exact rc_aret hC rfl (by first | exact Or.inl ⟨_, rfl⟩ | exact Or.inr ⟨_, rfl⟩) dX2_sign_57 h rfl
  rcases h.ite with ⟨hc, h⟩ | ⟨hc2, h⟩
  · refine rc_lookup (pc := 1) (tgt := 36) hC (off := 35) dX2_sign_1 rfl (by rw [hc]; rfl) rfl ?_
    refine rc_r_stat (pc := 36) hC rS_X2_74 dX2_sign_36 h ?_
    intro x4 h
    refine rc_goto (pc := 39) (tgt := 57) hC dX2_sign_39 rfl ?_
    exact rc_aret hC rfl (by first | exact Or.inl ⟨_, rfl⟩ | exact Or.inr ⟨_, rfl⟩) dX2_sign_57 h rfl
  refine rc_lookup (pc := 1) (tgt := 54) hC (off := 53) dX2_sign_1 rfl (rc_offC hc0 rfl (rc_offC hc1 rfl (rc_offC hc2 rfl rc_offZ))) rfl ?_
  refine rc_r_stat (pc := 54) hC rS_X2_83 dX2_sign_54 h ?_
  intro x1 h
  exact rc_aret hC rfl (by first | exact Or.inl ⟨_, rfl⟩ | exact Or.inr ⟨_, rfl⟩) dX2_sign_57 h rfl
theorem rw_X2_advance_L22 {Y : rc_Y} (hC : rc_C Y cX2_advance RX2 (Option.none : Option Jvm.ClassFile.FieldType) 1) (hH : rc_H Y 7 166 yX2_advance.name) {k0 : Option Nat → rc_M Unit} (hk0 : ∀ (v0 : Option Nat) (S : rc_S), rc_Go Y rc_tU (k0 v0) S → rc_Z Y S 0 [some (rc_q v0)] []) (v0 : Option Nat) (S : rc_S) (h : rc_Go Y rc_tU (rp_X2_advance_L22 k0 v0) S) : rc_Z Y S 22 [some (rc_q v0)] [] := by
  unfold rp_X2_advance_L22 at h
  refine rc_aload_n (pc := 22) hC dX2_advance_22 rfl rfl ?_
  refine rc_dup (pc := 23) hC dX2_advance_23 rfl ?_
  refine rc_r_geti (pc := 24) hC rF_X2_39 dX2_advance_24 h ?_
  intro x1 h
  refine rc_iconst (pc := 27) hC (v := (1 : Int32)) dX2_advance_27 rfl ?_
  refine rc_iadd (pc := 28) hC dX2_advance_28 ?_
  refine rc_r_put (pc := 29) hC rP_X2_39 (nofun) dX2_advance_29 h ?_
  intro S h
  refine rc_goto (pc := 32) (tgt := 0) hC dX2_advance_32 rfl ?_
  exact hk0 v0 S h
theorem rw_X2_advance_L78 {Y : rc_Y} (hC : rc_C Y cX2_advance RX2 (Option.none : Option Jvm.ClassFile.FieldType) 1) (hH : rc_H Y 7 166 yX2_advance.name) : ∀ (n : Nat) (v0 : Option Nat) (S : rc_S), rc_Go Y rc_tU (rp_X2_advance_L78  n v0) S → rc_Z Y S 78 [some (rc_q v0)] [] := by
  intro n
  induction n with
  | zero => intro v0 S h; exact h.fail.elim
  | succ n ih =>
    intro v0 S h
    rw [rp_X2_advance_L78] at h
    refine rc_aload_n (pc := 78) hC dX2_advance_78 rfl rfl ?_
    refine rc_bipush (pc := 79) hC (v := (97 : Int32)) dX2_advance_79 rfl ?_
    refine rc_bipush (pc := 81) hC (v := (122 : Int32)) dX2_advance_81 rfl ?_
    obtain ⟨⟨fs, ho⟩, h⟩ := h.is
    refine rc_callV (pc := 83) hC rfl ho (rw_X2_isAt hH.1 v0 (97 : Int32) (122 : Int32)) q302 q304 qs1 q123 q305 rfl rd_X2_isAt (hH.room (Nat.le_of_ble_eq_true rfl) (Nat.le_of_ble_eq_true rfl)) rfl rfl (Nat.le_of_ble_eq_true rfl) 2 rfl h.le.2.2 h.br rfl dX2_advance_83 ?_ (fun E q S hT => rc_out hC hH.2.2.2.2 hT)
    intro x1 S h
    show rc_Z Y S 86 [some (rc_q v0)] [rc_i x1]
    refine rc_if_eq (pc := 86) (tgt := 102) hC dX2_advance_86 rfl h ?_ ?_
    · intro _ h
      refine rc_aload_n (pc := 102) hC dX2_advance_102 rfl rfl ?_
      refine rc_aload_n (pc := 103) hC dX2_advance_103 rfl rfl ?_
      refine rc_r_getq (pc := 104) hC rF_X2_33 dX2_advance_104 h ?_
      intro x2 h
      refine rc_aload_n (pc := 107) hC dX2_advance_107 rfl rfl ?_
      refine rc_r_geti (pc := 108) hC rF_X2_57 dX2_advance_108 h ?_
      intro x3 h
      refine rc_aload_n (pc := 111) hC dX2_advance_111 rfl rfl ?_
      refine rc_r_geti (pc := 112) hC rF_X2_39 dX2_advance_112 h ?_
      intro x4 h
      obtain ⟨⟨fs, ho⟩, h⟩ := h.is
      refine rc_callV (pc := 115) hC rfl ho (rw_J4_substring hH.1 x2 x3 x4) q353 q354 q355 q121 q356 rfl rd_J4_substring (hH.room (Nat.le_of_ble_eq_true rfl) (Nat.le_of_ble_eq_true rfl)) rfl rfl (Nat.le_of_ble_eq_true rfl) 2 rfl h.le.2.2 h.br rfl dX2_advance_115 ?_ (fun E q S hT => rc_out hC hH.2.2.2.2 hT)
      intro x5 S h
      show rc_Z Y S 118 [some (rc_q v0)] [rc_q x5, rc_q v0]
      refine rc_r_put (pc := 118) hC rP_X2_22 (nofun) dX2_advance_118 h ?_
      intro S h
      refine rc_aload_n (pc := 121) hC dX2_advance_121 rfl rfl ?_
      refine rc_r_stat (pc := 122) hC rS_X2_64 dX2_advance_122 h ?_
      intro x6 h
      refine rc_r_put (pc := 125) hC rP_X2_15 (nofun) dX2_advance_125 h ?_
      intro S h
      refine rc_goto (pc := 128) (tgt := 177) hC dX2_advance_128 rfl ?_
      exact rc_vret hC rfl dX2_advance_177 h rfl
    intro _ h
    refine rc_aload_n (pc := 89) hC dX2_advance_89 rfl rfl ?_
    refine rc_dup (pc := 90) hC dX2_advance_90 rfl ?_
    refine rc_r_geti (pc := 91) hC rF_X2_39 dX2_advance_91 h ?_
    intro x7 h
    refine rc_iconst (pc := 94) hC (v := (1 : Int32)) dX2_advance_94 rfl ?_
    refine rc_iadd (pc := 95) hC dX2_advance_95 ?_
    refine rc_r_put (pc := 96) hC rP_X2_39 (nofun) dX2_advance_96 h ?_
    intro S h
    refine rc_goto (pc := 99) (tgt := 78) hC dX2_advance_99 rfl ?_
    exact ih v0 S h
theorem rw_X2_advance_L0 {Y : rc_Y} (hC : rc_C Y cX2_advance RX2 (Option.none : Option Jvm.ClassFile.FieldType) 1) (hH : rc_H Y 7 166 yX2_advance.name) : ∀ (n : Nat) (v0 : Option Nat) (S : rc_S), rc_Go Y rc_tU (rp_X2_advance_L0  n v0) S → rc_Z Y S 0 [some (rc_q v0)] [] := by
  intro n
  induction n with
  | zero => intro v0 S h; exact h.fail.elim
  | succ n ih =>
    intro v0 S h
    rw [rp_X2_advance_L0] at h
    refine rc_aload_n (pc := 0) hC dX2_advance_0 rfl rfl ?_
    refine rc_bipush (pc := 1) hC (v := (32 : Int32)) dX2_advance_1 rfl ?_
    refine rc_bipush (pc := 3) hC (v := (32 : Int32)) dX2_advance_3 rfl ?_
    obtain ⟨⟨fs, ho⟩, h⟩ := h.is
    refine rc_callV (pc := 5) hC rfl ho (rw_X2_isAt hH.1 v0 (32 : Int32) (32 : Int32)) q302 q304 qs1 q123 q305 rfl rd_X2_isAt (hH.room (Nat.le_of_ble_eq_true rfl) (Nat.le_of_ble_eq_true rfl)) rfl rfl (Nat.le_of_ble_eq_true rfl) 2 rfl h.le.2.2 h.br rfl dX2_advance_5 ?_ (fun E q S hT => rc_out hC hH.2.2.2.2 hT)
    intro x1 S h
    show rc_Z Y S 8 [some (rc_q v0)] [rc_i x1]
    refine rc_if_ne (pc := 8) (tgt := 22) hC dX2_advance_8 rfl h ?_ ?_
    · intro _ h
      exact rw_X2_advance_L22 hC hH ih v0 S h
    intro _ h
    refine rc_aload_n (pc := 11) hC dX2_advance_11 rfl rfl ?_
    refine rc_bipush (pc := 12) hC (v := (10 : Int32)) dX2_advance_12 rfl ?_
    refine rc_bipush (pc := 14) hC (v := (10 : Int32)) dX2_advance_14 rfl ?_
    obtain ⟨⟨fs, ho⟩, h⟩ := h.is
    refine rc_callV (pc := 16) hC rfl ho (rw_X2_isAt hH.1 v0 (10 : Int32) (10 : Int32)) q302 q304 qs1 q123 q305 rfl rd_X2_isAt (hH.room (Nat.le_of_ble_eq_true rfl) (Nat.le_of_ble_eq_true rfl)) rfl rfl (Nat.le_of_ble_eq_true rfl) 2 rfl h.le.2.2 h.br rfl dX2_advance_16 ?_ (fun E q S hT => rc_out hC hH.2.2.2.2 hT)
    intro x2 S h
    show rc_Z Y S 19 [some (rc_q v0)] [rc_i x2]
    refine rc_if_eq (pc := 19) (tgt := 35) hC dX2_advance_19 rfl h ?_ ?_
    · intro _ h
      refine rc_aload_n (pc := 35) hC dX2_advance_35 rfl rfl ?_
      refine rc_aload_n (pc := 36) hC dX2_advance_36 rfl rfl ?_
      refine rc_r_geti (pc := 37) hC rF_X2_39 dX2_advance_37 h ?_
      intro x3 h
      refine rc_r_put (pc := 40) hC rP_X2_57 (nofun) dX2_advance_40 h ?_
      intro S h
      refine rc_aload_n (pc := 43) hC dX2_advance_43 rfl rfl ?_
      refine rc_r_geti (pc := 44) hC rF_X2_39 dX2_advance_44 h ?_
      intro x4 h
      refine rc_aload_n (pc := 47) hC dX2_advance_47 rfl rfl ?_
      refine rc_r_getq (pc := 48) hC rF_X2_33 dX2_advance_48 h ?_
      intro x5 h
      obtain ⟨⟨fs, ho⟩, h⟩ := h.is
      refine rc_callV (pc := 51) hC rfl ho (rw_J4_length hH.1 x5) q306 q307 q308 q121 q309 rfl rd_J4_length (hH.room (Nat.le_of_ble_eq_true rfl) (Nat.le_of_ble_eq_true rfl)) rfl rfl (Nat.le_of_ble_eq_true rfl) 0 rfl h.le.2.2 h.br rfl dX2_advance_51 ?_ (fun E q S hT => rc_out hC hH.2.2.2.2 hT)
      intro x6 S h
      show rc_Z Y S 54 [some (rc_q v0)] [rc_i x6, rc_i x4]
      refine rc_icmp_ne (pc := 54) (tgt := 67) hC dX2_advance_54 rfl h ?_ ?_
      · intro _ h
        refine rc_aload_n (pc := 67) hC dX2_advance_67 rfl rfl ?_
        refine rc_bipush (pc := 68) hC (v := (97 : Int32)) dX2_advance_68 rfl ?_
        refine rc_bipush (pc := 70) hC (v := (122 : Int32)) dX2_advance_70 rfl ?_
        obtain ⟨⟨fs, ho⟩, h⟩ := h.is
        refine rc_callV (pc := 72) hC rfl ho (rw_X2_isAt hH.1 v0 (97 : Int32) (122 : Int32)) q302 q304 qs1 q123 q305 rfl rd_X2_isAt (hH.room (Nat.le_of_ble_eq_true rfl) (Nat.le_of_ble_eq_true rfl)) rfl rfl (Nat.le_of_ble_eq_true rfl) 2 rfl h.le.2.2 h.br rfl dX2_advance_72 ?_ (fun E q S hT => rc_out hC hH.2.2.2.2 hT)
        intro x7 S h
        show rc_Z Y S 75 [some (rc_q v0)] [rc_i x7]
        refine rc_if_eq (pc := 75) (tgt := 131) hC dX2_advance_75 rfl h ?_ ?_
        · intro _ h
          refine rc_aload_n (pc := 131) hC dX2_advance_131 rfl rfl ?_
          refine rc_bipush (pc := 132) hC (v := (48 : Int32)) dX2_advance_132 rfl ?_
          refine rc_bipush (pc := 134) hC (v := (57 : Int32)) dX2_advance_134 rfl ?_
          obtain ⟨⟨fs, ho⟩, h⟩ := h.is
          refine rc_callV (pc := 136) hC rfl ho (rw_X2_isAt hH.1 v0 (48 : Int32) (57 : Int32)) q302 q304 qs1 q123 q305 rfl rd_X2_isAt (hH.room (Nat.le_of_ble_eq_true rfl) (Nat.le_of_ble_eq_true rfl)) rfl rfl (Nat.le_of_ble_eq_true rfl) 2 rfl h.le.2.2 h.br rfl dX2_advance_136 ?_ (fun E q S hT => rc_out hC hH.2.2.2.2 hT)
          intro x8 S h
          show rc_Z Y S 139 [some (rc_q v0)] [rc_i x8]
          refine rc_if_eq (pc := 139) (tgt := 149) hC dX2_advance_139 rfl h ?_ ?_
          · intro _ h
            refine rc_aload_n (pc := 149) hC dX2_advance_149 rfl rfl ?_
            refine rc_aload_n (pc := 150) hC dX2_advance_150 rfl rfl ?_
            refine rc_r_getq (pc := 151) hC rF_X2_33 dX2_advance_151 h ?_
            intro x9 h
            refine rc_aload_n (pc := 154) hC dX2_advance_154 rfl rfl ?_
            refine rc_r_geti (pc := 155) hC rF_X2_39 dX2_advance_155 h ?_
            intro x10 h
            obtain ⟨⟨fs, ho⟩, h⟩ := h.is
            refine rc_callV (pc := 158) hC rfl ho (rw_J4_charAt hH.1 x9 x10) q315 q316 q317 q121 q318 rfl rd_J4_charAt (hH.room (Nat.le_of_ble_eq_true rfl) (Nat.le_of_ble_eq_true rfl)) rfl rfl (Nat.le_of_ble_eq_true rfl) 1 rfl h.le.2.2 h.br rfl dX2_advance_158 ?_ (fun E q S hT => rc_out hC hH.2.2.2.2 hT)
            intro x11 S h
            show rc_Z Y S 161 [some (rc_q v0)] [rc_i x11, rc_q v0]
            refine rc_callS (pc := 161) hC (rw_X2_sign hH.1 x11) q645 q646 q123 q647 rd_X2_sign (hH.room (Nat.le_of_ble_eq_true rfl) (Nat.le_of_ble_eq_true rfl)) rfl rfl (Nat.le_of_ble_eq_true rfl) 1 rfl h.le.2.2 h.br rfl dX2_advance_161 ?_ (fun E q S hT => rc_out hC hH.2.2.2.2 hT)
            intro x12 S h
            show rc_Z Y S 164 [some (rc_q v0)] [rc_q x12, rc_q v0]
            refine rc_r_put (pc := 164) hC rP_X2_15 (nofun) dX2_advance_164 h ?_
            intro S h
            refine rc_aload_n (pc := 167) hC dX2_advance_167 rfl rfl ?_
            refine rc_dup (pc := 168) hC dX2_advance_168 rfl ?_
            refine rc_r_geti (pc := 169) hC rF_X2_39 dX2_advance_169 h ?_
            intro x13 h
            refine rc_iconst (pc := 172) hC (v := (1 : Int32)) dX2_advance_172 rfl ?_
            refine rc_iadd (pc := 173) hC dX2_advance_173 ?_
            refine rc_r_put (pc := 174) hC rP_X2_39 (nofun) dX2_advance_174 h ?_
            intro S h
            exact rc_vret hC rfl dX2_advance_177 h rfl
          intro _ h
          refine rc_aload_n (pc := 142) hC dX2_advance_142 rfl rfl ?_
          obtain ⟨⟨fs, ho⟩, h⟩ := h.is
          refine rc_callV (pc := 143) hC rfl ho (rw_X2_readDigits hH.1 v0) q637 q639 qs3 q123 q640 rfl rd_X2_readDigits (hH.room (Nat.le_of_ble_eq_true rfl) (Nat.le_of_ble_eq_true rfl)) rfl rfl (Nat.le_of_ble_eq_true rfl) 0 rfl h.le.2.2 h.br rfl dX2_advance_143 ?_ (fun E q S hT => rc_out hC hH.2.2.2.2 hT)
          intro _ S h
          show rc_Z Y S 146 [some (rc_q v0)] []
          refine rc_goto (pc := 146) (tgt := 177) hC dX2_advance_146 rfl ?_
          exact rc_vret hC rfl dX2_advance_177 h rfl
        intro _ h
        refine rc_r_fuel h ?_
        intro x14 h
        exact rw_X2_advance_L78 hC hH  x14 v0 S h
      intro _ h
      refine rc_aload_n (pc := 57) hC dX2_advance_57 rfl rfl ?_
      refine rc_r_stat (pc := 58) hC rS_X2_9 dX2_advance_58 h ?_
      intro x15 h
      refine rc_r_put (pc := 61) hC rP_X2_15 (nofun) dX2_advance_61 h ?_
      intro S h
      refine rc_goto (pc := 64) (tgt := 177) hC dX2_advance_64 rfl ?_
      exact rc_vret hC rfl dX2_advance_177 h rfl
    intro _ h
    exact rw_X2_advance_L22 hC hH ih v0 S h
theorem rw_X2_advance {l : Launch} (hl : l.stackTraces = false) (v0 : Option Nat) : rc_Ct l yX2_advance (ws_ yX2_advance cX2_advance 1 (Option.none : Option Jvm.ClassFile.FieldType)) 7 166 rc_tU (rp_X2_advance v0) [rc_q v0] := by
  refine rc_Ct_H hl (plainFor_of_name rY_X2) rfl (Nat.le_of_ble_eq_true rfl) (L0 := [some (rc_q v0)]) rfl ?_
  intro Y S hC hH h
  have hC : rc_C Y cX2_advance RX2 (Option.none : Option Jvm.ClassFile.FieldType) 1 := hC
  unfold rp_X2_advance at h
  refine rc_r_fuel h ?_
  intro x1 h
  exact rw_X2_advance_L0 hC hH  x1 v0 S h
theorem rw_X2_init {l : Launch} (hl : l.stackTraces = false) (v0 : Option Nat) (v1 : Option Nat) : rc_Ct l yX2_init (ws_ yX2_init cX2_init 2 (Option.none : Option Jvm.ClassFile.FieldType)) 8 186 rc_tU (rp_X2_init v0 v1) [rc_q v0, rc_q v1] := by
  refine rc_Ct_H hl (plainFor_of_name rY_X2) rfl (Nat.le_of_ble_eq_true rfl) (L0 := [some (rc_q v0), some (rc_q v1)]) rfl ?_
  intro Y S hC hH h
  have hC : rc_C Y cX2_init RX2 (Option.none : Option Jvm.ClassFile.FieldType) 2 := hC
  unfold rp_X2_init at h
  refine rc_aload_n (pc := 0) hC dX2_init_0 rfl rfl ?_
  refine rc_objInit (pc := 1) hC q225 q162 q163 rfl dX2_init_1 (hH.frm (Nat.le_of_ble_eq_true rfl)) (hH.lom (Nat.le_of_ble_eq_true rfl)) (Nat.zero_le _) h ?_
  intro h
  refine rc_aload_n (pc := 4) hC dX2_init_4 rfl rfl ?_
  refine rc_r_stat (pc := 5) hC rS_X2_9 dX2_init_5 h ?_
  intro x1 h
  refine rc_r_put (pc := 8) hC rP_X2_15 (nofun) dX2_init_8 h ?_
  intro S h
  refine rc_aload_n (pc := 11) hC dX2_init_11 rfl rfl ?_
  refine rc_r_text (pc := 12) hC (i := 2) rfl dX2_init_12 h ?_
  intro x2 h
  refine rc_r_put (pc := 14) hC rP_X2_22 (nofun) dX2_init_14 h ?_
  intro S h
  refine rc_aload_n (pc := 17) hC dX2_init_17 rfl rfl ?_
  refine rc_r_new (pc := 18) hC rN_X2_26 dX2_init_18 h ?_
  intro x3 S h
  refine rc_dup (pc := 21) hC dX2_init_21 rfl ?_
  obtain ⟨⟨b9, ho⟩, h⟩ := h.nn
  refine rc_callIN (pc := 22) hC ho (rw_X3_init hH.1 x3) (lw_o q231 rfl) q232 q126 q233 rfl rfl rd_X3_init (hH.room (Nat.le_of_ble_eq_true rfl) (Nat.le_of_ble_eq_true rfl)) rfl rfl (Nat.le_of_ble_eq_true rfl) 0 rfl h.le.2.2 h.br rfl dX2_init_22 ?_ (fun E q S hT => rc_out hC hH.2.2.2.2 hT)
  intro _ S h
  show rc_Z Y S 25 [some (rc_q v0), some (rc_q v1)] [rc_q x3, rc_q v0]
  refine rc_r_put (pc := 25) hC rP_X2_29 (fun _ => hH.2.1) dX2_init_25 h ?_
  intro S h
  refine rc_aload_n (pc := 28) hC dX2_init_28 rfl rfl ?_
  refine rc_aload_n (pc := 29) hC dX2_init_29 rfl rfl ?_
  refine rc_r_put (pc := 30) hC rP_X2_33 (fun _ => hH.2.1) dX2_init_30 h ?_
  intro S h
  refine rc_aload_n (pc := 33) hC dX2_init_33 rfl rfl ?_
  obtain ⟨⟨fs, ho⟩, h⟩ := h.is
  refine rc_callV (pc := 34) hC rfl ho (rw_X2_advance hH.1 v0) q298 q300 qs0 q123 q301 rfl rd_X2_advance (hH.room (Nat.le_of_ble_eq_true rfl) (Nat.le_of_ble_eq_true rfl)) rfl rfl (Nat.le_of_ble_eq_true rfl) 0 rfl h.le.2.2 h.br rfl dX2_init_34 ?_ (fun E q S hT => rc_out hC hH.2.2.2.2 hT)
  intro _ S h
  show rc_Z Y S 37 [some (rc_q v0), some (rc_q v1)] []
  exact rc_vret hC rfl dX2_init_37 h rfl
theorem rw_X4_init {l : Launch} (hl : l.stackTraces = false) (v0 : Option Nat) (v1 : Int32) (v2 : Int32) : rc_Ct l yX4_init (ws_ yX4_init cX4_init 3 (Option.none : Option Jvm.ClassFile.FieldType)) 8 100 rc_tU (rp_X4_init v0 v1 v2) [rc_q v0, rc_i v1, rc_i v2] := by
  refine rc_Ct_H hl (plainFor_of_name rY_X4) rfl (Nat.le_of_ble_eq_true rfl) (L0 := [some (rc_q v0), some (rc_i v1), some (rc_i v2)]) rfl ?_
  intro Y S hC hH h
  have hC : rc_C Y cX4_init RX4 (Option.none : Option Jvm.ClassFile.FieldType) 3 := hC
  unfold rp_X4_init at h
  refine rc_aload_n (pc := 0) hC dX4_init_0 rfl rfl ?_
  refine rc_r_sxi (pc := 1) hC hH.1 rfl (hH.frm (Nat.le_of_ble_eq_true rfl)) (hH.lom (Nat.le_of_ble_eq_true rfl)) dX4_init_1 h ?_
  intro S h
  refine rc_aload_n (pc := 4) hC dX4_init_4 rfl rfl ?_
  refine rc_iload_n (pc := 5) hC dX4_init_5 rfl rfl ?_
  refine rc_r_put (pc := 6) hC rP_X4_7 (fun _ => hH.2.1) dX4_init_6 h ?_
  intro S h
  refine rc_aload_n (pc := 9) hC dX4_init_9 rfl rfl ?_
  refine rc_iload_n (pc := 10) hC dX4_init_10 rfl rfl ?_
  refine rc_r_put (pc := 11) hC rP_X4_13 (fun _ => hH.2.1) dX4_init_11 h ?_
  intro S h
  exact rc_vret hC rfl dX4_init_14 h rfl
theorem rw_X2_check {l : Launch} (hl : l.stackTraces = false) (v0 : Option Nat) (v1 : Int32) (v2 : Int32) : rc_Ct l yX2_check (ws_ yX2_check cX2_check 3 (Option.none : Option Jvm.ClassFile.FieldType)) 9 122 rc_tU (rp_X2_check v0 v1 v2) [rc_q v0, rc_i v1, rc_i v2] := by
  refine rc_Ct_H hl (plainFor_of_name rY_X2) rfl (Nat.le_of_ble_eq_true rfl) (L0 := [some (rc_q v0), some (rc_i v1), some (rc_i v2)]) rfl ?_
  intro Y S hC hH h
  have hC : rc_C Y cX2_check RX2 (Option.none : Option Jvm.ClassFile.FieldType) 3 := hC
  unfold rp_X2_check at h
  refine rc_iload_n (pc := 0) hC dX2_check_0 rfl rfl ?_
  refine rc_if_ne (pc := 1) (tgt := 17) hC dX2_check_1 rfl h ?_ ?_
  · intro _ h
    exact rc_vret hC rfl dX2_check_17 h rfl
  intro _ h
  refine rc_r_new (pc := 4) hC rN_X2_92 dX2_check_4 h ?_
  intro x1 S h
  refine rc_dup (pc := 7) hC dX2_check_7 rfl ?_
  refine rc_iload_n (pc := 8) hC dX2_check_8 rfl rfl ?_
  refine rc_aload_n (pc := 9) hC dX2_check_9 rfl rfl ?_
  refine rc_r_geti (pc := 10) hC rF_X2_57 dX2_check_10 h ?_
  intro x2 h
  obtain ⟨⟨b9, ho⟩, h⟩ := h.nn
  refine rc_callI (pc := 13) hC ho (rw_X4_init hH.1 x1 v2 x2) q708 q709 q141 q710 rfl rfl rd_X4_init (hH.room (Nat.le_of_ble_eq_true rfl) (Nat.le_of_ble_eq_true rfl)) rfl rfl (Nat.le_of_ble_eq_true rfl) 2 rfl h.le.2.2 h.br rfl dX2_check_13 ?_ (fun E q S hT => rc_out hC hH.2.2.2.2 hT)
  intro _ S h
  show rc_Z Y S 16 [some (rc_q v0), some (rc_i v1), some (rc_i v2)] [rc_q x1]
  exact rc_r_athrow hC hH.2.2.2.2 dX2_check_16 h
theorem rw_X2_end_L16 {Y : rc_Y} (hC : rc_C Y cX2_end RX2 (Option.none : Option Jvm.ClassFile.FieldType) 2) (hH : rc_H Y 10 144 yX2_end.name) (v0 : Option Nat) (v1 : Int32) (s0 : Int32) (s1 : Option Nat) (S : rc_S) (h : rc_Go Y rc_tU (rp_X2_end_L16  v0 v1 s0 s1) S) : rc_Z Y S 16 [some (rc_q v0), some (rc_i v1)] [rc_i s0, rc_q s1] := by
  unfold rp_X2_end_L16 at h
  refine rc_iconst (pc := 16) hC (v := (1 : Int32)) dX2_end_16 rfl ?_
  obtain ⟨⟨fs, ho⟩, h⟩ := h.is
  refine rc_callV (pc := 17) hC rfl ho (rw_X2_check hH.1 s1 s0 (1 : Int32)) q695 q697 qs4 q123 q698 rfl rd_X2_check (hH.room (Nat.le_of_ble_eq_true rfl) (Nat.le_of_ble_eq_true rfl)) rfl rfl (Nat.le_of_ble_eq_true rfl) 2 rfl h.le.2.2 h.br rfl dX2_end_17 ?_ (fun E q S hT => rc_out hC hH.2.2.2.2 hT)
  intro _ S h
  show rc_Z Y S 20 [some (rc_q v0), some (rc_i v1)] []
  refine rc_aload_n (pc := 20) hC dX2_end_20 rfl rfl ?_
  refine rc_iload_n (pc := 21) hC dX2_end_21 rfl rfl ?_
  refine rc_iconst (pc := 22) hC (v := (3 : Int32)) dX2_end_22 rfl ?_
  obtain ⟨⟨fs, ho⟩, h⟩ := h.is
  refine rc_callV (pc := 23) hC rfl ho (rw_X2_check hH.1 v0 v1 (3 : Int32)) q695 q697 qs4 q123 q698 rfl rd_X2_check (hH.room (Nat.le_of_ble_eq_true rfl) (Nat.le_of_ble_eq_true rfl)) rfl rfl (Nat.le_of_ble_eq_true rfl) 2 rfl h.le.2.2 h.br rfl dX2_end_23 ?_ (fun E q S hT => rc_out hC hH.2.2.2.2 hT)
  intro _ S h
  show rc_Z Y S 26 [some (rc_q v0), some (rc_i v1)] []
  exact rc_vret hC rfl dX2_end_26 h rfl
theorem rw_X2_end {l : Launch} (hl : l.stackTraces = false) (v0 : Option Nat) (v1 : Int32) : rc_Ct l yX2_end (ws_ yX2_end cX2_end 2 (Option.none : Option Jvm.ClassFile.FieldType)) 10 144 rc_tU (rp_X2_end v0 v1) [rc_q v0, rc_i v1] := by
  refine rc_Ct_H hl (plainFor_of_name rY_X2) rfl (Nat.le_of_ble_eq_true rfl) (L0 := [some (rc_q v0), some (rc_i v1)]) rfl ?_
  intro Y S hC hH h
  have hC : rc_C Y cX2_end RX2 (Option.none : Option Jvm.ClassFile.FieldType) 2 := hC
  unfold rp_X2_end at h
  refine rc_aload_n (pc := 0) hC dX2_end_0 rfl rfl ?_
  refine rc_aload_n (pc := 1) hC dX2_end_1 rfl rfl ?_
  refine rc_r_getq (pc := 2) hC rF_X2_15 dX2_end_2 h ?_
  intro x1 h
  refine rc_r_stat (pc := 5) hC rS_X2_74 dX2_end_5 h ?_
  intro x2 h
  refine rc_acmp_ne (pc := 8) (tgt := 15) hC dX2_end_8 rfl h ?_ ?_
  · intro _ h
    refine rc_iconst (pc := 15) hC (v := (0 : Int32)) dX2_end_15 rfl ?_
    exact rw_X2_end_L16 hC hH  v0 v1 (0 : Int32) v0 S h
  intro _ h
  refine rc_iconst (pc := 11) hC (v := (1 : Int32)) dX2_end_11 rfl ?_
  refine rc_goto (pc := 12) (tgt := 16) hC dX2_end_12 rfl ?_
  exact rw_X2_end_L16 hC hH  v0 v1 (1 : Int32) v0 S h
theorem rw_X2_number_L42 {Y : rc_Y} (hC : rc_C Y cX2_number RX2 (Option.some Jvm.ClassFile.FieldType.int) 4) (hH : rc_H Y 10 186 yX2_number.name) (v0 : Option Nat) (s0 : Int32) (s1 : Option Nat) (S : rc_S) (h : rc_Go Y rc_tI (rp_X2_number_L42  v0 s0 s1) S) : rc_Z Y S 42 [some (rc_q v0), none, none, none] [rc_i s0, rc_q s1] := by
  unfold rp_X2_number_L42 at h
  refine rc_iconst (pc := 42) hC (v := (2 : Int32)) dX2_number_42 rfl ?_
  obtain ⟨⟨fs, ho⟩, h⟩ := h.is
  refine rc_callV (pc := 43) hC rfl ho (rw_X2_check hH.1 s1 s0 (2 : Int32)) q695 q697 qs4 q123 q698 rfl rd_X2_check (hH.room (Nat.le_of_ble_eq_true rfl) (Nat.le_of_ble_eq_true rfl)) rfl rfl (Nat.le_of_ble_eq_true rfl) 2 rfl h.le.2.2 h.br rfl dX2_number_43 ?_ (fun E q S hT => rc_out hC hH.2.2.2.2 hT)
  intro _ S h
  show rc_Z Y S 46 [some (rc_q v0), none, none, none] []
  refine rc_aload_n (pc := 46) hC dX2_number_46 rfl rfl ?_
  refine rc_r_geti (pc := 47) hC rF_X2_86 dX2_number_47 h ?_
  intro x1 h
  refine rc_istore_n (pc := 50) hC (L' := [some (rc_q v0), none, none, some (rc_i x1)]) dX2_number_50 rfl (Nat.le_of_ble_eq_true rfl) rfl rfl ?_
  refine rc_aload_n (pc := 51) hC dX2_number_51 rfl rfl ?_
  obtain ⟨⟨fs, ho⟩, h⟩ := h.is
  refine rc_callV (pc := 52) hC rfl ho (rw_X2_advance hH.1 v0) q298 q300 qs0 q123 q301 rfl rd_X2_advance (hH.room (Nat.le_of_ble_eq_true rfl) (Nat.le_of_ble_eq_true rfl)) rfl rfl (Nat.le_of_ble_eq_true rfl) 0 rfl h.le.2.2 h.br rfl dX2_number_52 ?_ (fun E q S hT => rc_out hC hH.2.2.2.2 hT)
  intro _ S h
  show rc_Z Y S 55 [some (rc_q v0), none, none, some (rc_i x1)] []
  refine rc_iload_n (pc := 55) hC dX2_number_55 rfl rfl ?_
  exact rc_iret hC rfl rfl dX2_number_56 h rfl
theorem rw_X2_number_L41 {Y : rc_Y} (hC : rc_C Y cX2_number RX2 (Option.some Jvm.ClassFile.FieldType.int) 4) (hH : rc_H Y 10 186 yX2_number.name) (v0 : Option Nat) (s0 : Option Nat) (S : rc_S) (h : rc_Go Y rc_tI (rp_X2_number_L41  v0 s0) S) : rc_Z Y S 41 [some (rc_q v0), none, none, none] [rc_q s0] := by
  unfold rp_X2_number_L41 at h
  refine rc_iconst (pc := 41) hC (v := (0 : Int32)) dX2_number_41 rfl ?_
  exact rw_X2_number_L42 hC hH  v0 (0 : Int32) s0 S h
theorem rw_X2_number_L16 {Y : rc_Y} (hC : rc_C Y cX2_number RX2 (Option.some Jvm.ClassFile.FieldType.int) 4) (hH : rc_H Y 10 186 yX2_number.name) (v0 : Option Nat) (v1 : Int32) (v2 : Int32) (s0 : Int32) (s1 : Option Nat) (S : rc_S) (h : rc_Go Y rc_tI (rp_X2_number_L16  v0 v1 v2 s0 s1) S) : rc_Z Y S 16 [some (rc_q v0), some (rc_i v1), some (rc_i v2), none] [rc_i s0, rc_q s1] := by
  unfold rp_X2_number_L16 at h
  refine rc_iconst (pc := 16) hC (v := (1 : Int32)) dX2_number_16 rfl ?_
  obtain ⟨⟨fs, ho⟩, h⟩ := h.is
  refine rc_callV (pc := 17) hC rfl ho (rw_X2_check hH.1 s1 s0 (1 : Int32)) q695 q697 qs4 q123 q698 rfl rd_X2_check (hH.room (Nat.le_of_ble_eq_true rfl) (Nat.le_of_ble_eq_true rfl)) rfl rfl (Nat.le_of_ble_eq_true rfl) 2 rfl h.le.2.2 h.br rfl dX2_number_17 ?_ (fun E q S hT => rc_out hC hH.2.2.2.2 hT)
  intro _ S h
  show rc_Z Y S 20 [some (rc_q v0), some (rc_i v1), some (rc_i v2), none] []
  refine rc_aload_n (pc := 20) hC dX2_number_20 rfl rfl ?_
  refine rc_aload_n (pc := 21) hC dX2_number_21 rfl rfl ?_
  refine rc_r_geti (pc := 22) hC rF_X2_86 dX2_number_22 h ?_
  intro x1 h
  refine rc_iload_n (pc := 25) hC dX2_number_25 rfl rfl ?_
  refine rc_icmp_lt (pc := 26) (tgt := 41) hC dX2_number_26 rfl h ?_ ?_
  · intro _ h
    refine rc_drop [true, false, false, false] (L' := [some (rc_q v0), none, none, none]) rfl ?_
    exact rw_X2_number_L41 hC hH  v0 v0 S h
  intro _ h
  refine rc_aload_n (pc := 29) hC dX2_number_29 rfl rfl ?_
  refine rc_r_geti (pc := 30) hC rF_X2_86 dX2_number_30 h ?_
  intro x2 h
  refine rc_iload_n (pc := 33) hC dX2_number_33 rfl rfl ?_
  refine rc_icmp_gt (pc := 34) (tgt := 41) hC dX2_number_34 rfl h ?_ ?_
  · intro _ h
    refine rc_drop [true, false, false, false] (L' := [some (rc_q v0), none, none, none]) rfl ?_
    exact rw_X2_number_L41 hC hH  v0 v0 S h
  intro _ h
  refine rc_iconst (pc := 37) hC (v := (1 : Int32)) dX2_number_37 rfl ?_
  refine rc_goto (pc := 38) (tgt := 42) hC dX2_number_38 rfl ?_
  refine rc_drop [true, false, false, false] (L' := [some (rc_q v0), none, none, none]) rfl ?_
  exact rw_X2_number_L42 hC hH  v0 (1 : Int32) v0 S h
theorem rw_X2_number {l : Launch} (hl : l.stackTraces = false) (v0 : Option Nat) (v1 : Int32) (v2 : Int32) : rc_Ct l yX2_number (ws_ yX2_number cX2_number 4 (Option.some Jvm.ClassFile.FieldType.int)) 10 186 rc_tI (rp_X2_number v0 v1 v2) [rc_q v0, rc_i v1, rc_i v2] := by
  refine rc_Ct_H hl (plainFor_of_name rY_X2) rfl (Nat.le_of_ble_eq_true rfl) (L0 := [some (rc_q v0), some (rc_i v1), some (rc_i v2), none]) rfl ?_
  intro Y S hC hH h
  have hC : rc_C Y cX2_number RX2 (Option.some Jvm.ClassFile.FieldType.int) 4 := hC
  unfold rp_X2_number at h
  refine rc_aload_n (pc := 0) hC dX2_number_0 rfl rfl ?_
  refine rc_aload_n (pc := 1) hC dX2_number_1 rfl rfl ?_
  refine rc_r_getq (pc := 2) hC rF_X2_15 dX2_number_2 h ?_
  intro x1 h
  refine rc_r_stat (pc := 5) hC rS_X2_89 dX2_number_5 h ?_
  intro x2 h
  refine rc_acmp_ne (pc := 8) (tgt := 15) hC dX2_number_8 rfl h ?_ ?_
  · intro _ h
    refine rc_iconst (pc := 15) hC (v := (0 : Int32)) dX2_number_15 rfl ?_
    exact rw_X2_number_L16 hC hH  v0 v1 v2 (0 : Int32) v0 S h
  intro _ h
  refine rc_iconst (pc := 11) hC (v := (1 : Int32)) dX2_number_11 rfl ?_
  refine rc_goto (pc := 12) (tgt := 16) hC dX2_number_12 rfl ?_
  exact rw_X2_number_L16 hC hH  v0 v1 v2 (1 : Int32) v0 S h
theorem rw_X2_isCommand_L352 {Y : rc_Y} (hC : rc_C Y cX2_isCommand RX2 (Option.some Jvm.ClassFile.FieldType.boolean) 3) (hH : rc_H Y 4 90 yX2_isCommand.name) (S : rc_S) (h : rc_Go Y rc_tI (rp_X2_isCommand_L352  ) S) : rc_Z Y S 352 [none, none, none] [] := by
  unfold rp_X2_isCommand_L352 at h
  refine rc_iconst (pc := 352) hC (v := (1 : Int32)) dX2_isCommand_352 rfl ?_
  refine rc_goto (pc := 353) (tgt := 357) hC dX2_isCommand_353 rfl ?_
  exact rc_iret hC rfl rfl dX2_isCommand_357 h rfl
theorem rw_X2_isCommand_L287 {Y : rc_Y} (hC : rc_C Y cX2_isCommand RX2 (Option.some Jvm.ClassFile.FieldType.boolean) 3) (hH : rc_H Y 4 90 yX2_isCommand.name) (v2 : Int32) (S : rc_S) (h : rc_Go Y rc_tI (rp_X2_isCommand_L287  v2) S) : rc_Z Y S 287 [none, none, some (rc_i v2)] [] := by
  unfold rp_X2_isCommand_L287 at h
  refine rc_iload_n (pc := 287) hC dX2_isCommand_287 rfl rfl ?_
  rcases h.ite with ⟨hc, h⟩ | ⟨hc0, h⟩
  · refine rc_tableIn (pc := 288) (tgt := 352) hC (off := 64) dX2_isCommand_288 (by rw [hc]; decide) (by rw [hc]; decide) (by rw [hc]; rfl) rfl ?_
    refine rc_drop [false, false, false] (L' := [none, none, none]) rfl ?_
    exact rw_X2_isCommand_L352 hC hH   S h
  rcases h.ite with ⟨hc, h⟩ | ⟨hc1, h⟩
  · refine rc_tableIn (pc := 288) (tgt := 352) hC (off := 64) dX2_isCommand_288 (by rw [hc]; decide) (by rw [hc]; decide) (by rw [hc]; rfl) rfl ?_
    refine rc_drop [false, false, false] (L' := [none, none, none]) rfl ?_
    exact rw_X2_isCommand_L352 hC hH   S h
  rcases h.ite with ⟨hc, h⟩ | ⟨hc2, h⟩
  · refine rc_tableIn (pc := 288) (tgt := 352) hC (off := 64) dX2_isCommand_288 (by rw [hc]; decide) (by rw [hc]; decide) (by rw [hc]; rfl) rfl ?_
    refine rc_drop [false, false, false] (L' := [none, none, none]) rfl ?_
    exact rw_X2_isCommand_L352 hC hH   S h
  rcases h.ite with ⟨hc, h⟩ | ⟨hc3, h⟩
  · refine rc_tableIn (pc := 288) (tgt := 352) hC (off := 64) dX2_isCommand_288 (by rw [hc]; decide) (by rw [hc]; decide) (by rw [hc]; rfl) rfl ?_
    refine rc_drop [false, false, false] (L' := [none, none, none]) rfl ?_
    exact rw_X2_isCommand_L352 hC hH   S h
  rcases h.ite with ⟨hc, h⟩ | ⟨hc4, h⟩
  · refine rc_tableIn (pc := 288) (tgt := 352) hC (off := 64) dX2_isCommand_288 (by rw [hc]; decide) (by rw [hc]; decide) (by rw [hc]; rfl) rfl ?_
    refine rc_drop [false, false, false] (L' := [none, none, none]) rfl ?_
    exact rw_X2_isCommand_L352 hC hH   S h
  rcases h.ite with ⟨hc, h⟩ | ⟨hc5, h⟩
  · refine rc_tableIn (pc := 288) (tgt := 352) hC (off := 64) dX2_isCommand_288 (by rw [hc]; decide) (by rw [hc]; decide) (by rw [hc]; rfl) rfl ?_
    refine rc_drop [false, false, false] (L' := [none, none, none]) rfl ?_
    exact rw_X2_isCommand_L352 hC hH   S h
  rcases h.ite with ⟨hc, h⟩ | ⟨hc6, h⟩
  · refine rc_tableIn (pc := 288) (tgt := 352) hC (off := 64) dX2_isCommand_288 (by rw [hc]; decide) (by rw [hc]; decide) (by rw [hc]; rfl) rfl ?_
    refine rc_drop [false, false, false] (L' := [none, none, none]) rfl ?_
    exact rw_X2_isCommand_L352 hC hH   S h
  rcases h.ite with ⟨hc, h⟩ | ⟨hc7, h⟩
  · refine rc_tableIn (pc := 288) (tgt := 352) hC (off := 64) dX2_isCommand_288 (by rw [hc]; decide) (by rw [hc]; decide) (by rw [hc]; rfl) rfl ?_
    refine rc_drop [false, false, false] (L' := [none, none, none]) rfl ?_
    exact rw_X2_isCommand_L352 hC hH   S h
  rcases h.ite with ⟨hc, h⟩ | ⟨hc8, h⟩
  · refine rc_tableIn (pc := 288) (tgt := 352) hC (off := 64) dX2_isCommand_288 (by rw [hc]; decide) (by rw [hc]; decide) (by rw [hc]; rfl) rfl ?_
    refine rc_drop [false, false, false] (L' := [none, none, none]) rfl ?_
    exact rw_X2_isCommand_L352 hC hH   S h
  rcases h.ite with ⟨hc, h⟩ | ⟨hc9, h⟩
  · refine rc_tableIn (pc := 288) (tgt := 352) hC (off := 64) dX2_isCommand_288 (by rw [hc]; decide) (by rw [hc]; decide) (by rw [hc]; rfl) rfl ?_
    refine rc_drop [false, false, false] (L' := [none, none, none]) rfl ?_
    exact rw_X2_isCommand_L352 hC hH   S h
  rcases h.ite with ⟨hc, h⟩ | ⟨hc10, h⟩
  · refine rc_tableIn (pc := 288) (tgt := 352) hC (off := 64) dX2_isCommand_288 (by rw [hc]; decide) (by rw [hc]; decide) (by rw [hc]; rfl) rfl ?_
    refine rc_drop [false, false, false] (L' := [none, none, none]) rfl ?_
    exact rw_X2_isCommand_L352 hC hH   S h
  rcases h.ite with ⟨hc, h⟩ | ⟨hc11, h⟩
  · refine rc_tableIn (pc := 288) (tgt := 352) hC (off := 64) dX2_isCommand_288 (by rw [hc]; decide) (by rw [hc]; decide) (by rw [hc]; rfl) rfl ?_
    refine rc_drop [false, false, false] (L' := [none, none, none]) rfl ?_
    exact rw_X2_isCommand_L352 hC hH   S h
  have hout : (v2).toInt < 0 ∨ 11 < (v2).toInt := by
    have hq0 : (v2).toInt ≠ 0 := fun e => hc0 (Int32.toInt_inj.mp (e.trans rfl))
    have hq1 : (v2).toInt ≠ 1 := fun e => hc1 (Int32.toInt_inj.mp (e.trans rfl))
    have hq2 : (v2).toInt ≠ 2 := fun e => hc2 (Int32.toInt_inj.mp (e.trans rfl))
    have hq3 : (v2).toInt ≠ 3 := fun e => hc3 (Int32.toInt_inj.mp (e.trans rfl))
    have hq4 : (v2).toInt ≠ 4 := fun e => hc4 (Int32.toInt_inj.mp (e.trans rfl))
    have hq5 : (v2).toInt ≠ 5 := fun e => hc5 (Int32.toInt_inj.mp (e.trans rfl))
    have hq6 : (v2).toInt ≠ 6 := fun e => hc6 (Int32.toInt_inj.mp (e.trans rfl))
    have hq7 : (v2).toInt ≠ 7 := fun e => hc7 (Int32.toInt_inj.mp (e.trans rfl))
    have hq8 : (v2).toInt ≠ 8 := fun e => hc8 (Int32.toInt_inj.mp (e.trans rfl))
    have hq9 : (v2).toInt ≠ 9 := fun e => hc9 (Int32.toInt_inj.mp (e.trans rfl))
    have hq10 : (v2).toInt ≠ 10 := fun e => hc10 (Int32.toInt_inj.mp (e.trans rfl))
    have hq11 : (v2).toInt ≠ 11 := fun e => hc11 (Int32.toInt_inj.mp (e.trans rfl))
    omega
  refine rc_tableOut (pc := 288) (tgt := 356) hC dX2_isCommand_288 hout rfl ?_
  refine rc_iconst (pc := 356) hC (v := (0 : Int32)) dX2_isCommand_356 rfl ?_
  exact rc_iret hC rfl rfl dX2_isCommand_357 h rfl
theorem rw_X2_isCommand {l : Launch} (hl : l.stackTraces = false) (v0 : Option Nat) : rc_Ct l yX2_isCommand (ws_ yX2_isCommand cX2_isCommand 3 (Option.some Jvm.ClassFile.FieldType.boolean)) 4 90 rc_tI (rp_X2_isCommand v0) [rc_q v0] := by
  refine rc_Ct_H hl (plainFor_of_name rY_X2) rfl (Nat.le_of_ble_eq_true rfl) (L0 := [some (rc_q v0), none, none]) rfl ?_
  intro Y S hC hH h
  have hC : rc_C Y cX2_isCommand RX2 (Option.some Jvm.ClassFile.FieldType.boolean) 3 := hC
  unfold rp_X2_isCommand at h
  refine rc_aload_n (pc := 0) hC dX2_isCommand_0 rfl rfl ?_
  refine rc_astore_n (pc := 1) hC (L' := [some (rc_q v0), some (rc_q v0), none]) dX2_isCommand_1 rfl (Nat.le_of_ble_eq_true rfl) rfl rfl ?_
  refine rc_iconst (pc := 2) hC (v := (-1 : Int32)) dX2_isCommand_2 rfl ?_
  refine rc_istore_n (pc := 3) hC (L' := [some (rc_q v0), some (rc_q v0), some (rc_i (-1 : Int32))]) dX2_isCommand_3 rfl (Nat.le_of_ble_eq_true rfl) rfl rfl ?_
  refine rc_aload_n (pc := 4) hC dX2_isCommand_4 rfl rfl ?_
  obtain ⟨⟨fs, ho⟩, h⟩ := h.is
  refine rc_callV (pc := 5) hC rfl ho (rw_J4_hashCode hH.1 v0) q745 q746 q747 q121 q748 rfl rd_J4_hashCode (hH.room (Nat.le_of_ble_eq_true rfl) (Nat.le_of_ble_eq_true rfl)) rfl rfl (Nat.le_of_ble_eq_true rfl) 0 rfl h.le.2.2 h.br rfl dX2_isCommand_5 ?_ (fun E q S hT => rc_out hC hH.2.2.2.2 hT)
  intro x1 S h
  show rc_Z Y S 8 [some (rc_q v0), some (rc_q v0), some (rc_i (-1 : Int32))] [rc_i x1]
  rcases h.ite with ⟨hc, h⟩ | ⟨hc0, h⟩
  · refine rc_lookup (pc := 8) (tgt := 130) hC (off := 122) dX2_isCommand_8 rfl (by rw [hc]; rfl) rfl ?_
    refine rc_aload_n (pc := 130) hC dX2_isCommand_130 rfl rfl ?_
    refine rc_r_text (pc := 131) hC (i := 10) rfl dX2_isCommand_131 h ?_
    intro x2 h
    obtain ⟨⟨fs, ho⟩, h⟩ := h.is
    refine rc_callV (pc := 133) hC rfl ho (rw_J4_equals hH.1 v0 x2) q687 q688 q689 q121 q690 rfl rd_J4_equals (hH.room (Nat.le_of_ble_eq_true rfl) (Nat.le_of_ble_eq_true rfl)) rfl rfl (Nat.le_of_ble_eq_true rfl) 1 rfl h.le.2.2 h.br rfl dX2_isCommand_133 ?_ (fun E q S hT => rc_out hC hH.2.2.2.2 hT)
    intro x3 S h
    show rc_Z Y S 136 [some (rc_q v0), some (rc_q v0), some (rc_i (-1 : Int32))] [rc_i x3]
    refine rc_if_eq (pc := 136) (tgt := 287) hC dX2_isCommand_136 rfl h ?_ ?_
    · intro _ h
      refine rc_drop [false, false, true] (L' := [none, none, some (rc_i (-1 : Int32))]) rfl ?_
      exact rw_X2_isCommand_L287 hC hH  (-1 : Int32) S h
    intro _ h
    refine rc_iconst (pc := 139) hC (v := (1 : Int32)) dX2_isCommand_139 rfl ?_
    refine rc_istore_n (pc := 140) hC (L' := [some (rc_q v0), some (rc_q v0), some (rc_i (1 : Int32))]) dX2_isCommand_140 rfl (Nat.le_of_ble_eq_true rfl) rfl rfl ?_
    refine rc_goto (pc := 141) (tgt := 287) hC dX2_isCommand_141 rfl ?_
    refine rc_drop [false, false, true] (L' := [none, none, some (rc_i (1 : Int32))]) rfl ?_
    exact rw_X2_isCommand_L287 hC hH  (1 : Int32) S h
  rcases h.ite with ⟨hc, h⟩ | ⟨hc1, h⟩
  · refine rc_lookup (pc := 8) (tgt := 186) hC (off := 178) dX2_isCommand_8 rfl (by rw [hc]; rfl) rfl ?_
    refine rc_aload_n (pc := 186) hC dX2_isCommand_186 rfl rfl ?_
    refine rc_r_text (pc := 187) hC (i := 14) rfl dX2_isCommand_187 h ?_
    intro x4 h
    obtain ⟨⟨fs, ho⟩, h⟩ := h.is
    refine rc_callV (pc := 189) hC rfl ho (rw_J4_equals hH.1 v0 x4) q687 q688 q689 q121 q690 rfl rd_J4_equals (hH.room (Nat.le_of_ble_eq_true rfl) (Nat.le_of_ble_eq_true rfl)) rfl rfl (Nat.le_of_ble_eq_true rfl) 1 rfl h.le.2.2 h.br rfl dX2_isCommand_189 ?_ (fun E q S hT => rc_out hC hH.2.2.2.2 hT)
    intro x5 S h
    show rc_Z Y S 192 [some (rc_q v0), some (rc_q v0), some (rc_i (-1 : Int32))] [rc_i x5]
    refine rc_if_eq (pc := 192) (tgt := 287) hC dX2_isCommand_192 rfl h ?_ ?_
    · intro _ h
      refine rc_drop [false, false, true] (L' := [none, none, some (rc_i (-1 : Int32))]) rfl ?_
      exact rw_X2_isCommand_L287 hC hH  (-1 : Int32) S h
    intro _ h
    refine rc_iconst (pc := 195) hC (v := (5 : Int32)) dX2_isCommand_195 rfl ?_
    refine rc_istore_n (pc := 196) hC (L' := [some (rc_q v0), some (rc_q v0), some (rc_i (5 : Int32))]) dX2_isCommand_196 rfl (Nat.le_of_ble_eq_true rfl) rfl rfl ?_
    refine rc_goto (pc := 197) (tgt := 287) hC dX2_isCommand_197 rfl ?_
    refine rc_drop [false, false, true] (L' := [none, none, some (rc_i (5 : Int32))]) rfl ?_
    exact rw_X2_isCommand_L287 hC hH  (5 : Int32) S h
  rcases h.ite with ⟨hc, h⟩ | ⟨hc2, h⟩
  · refine rc_lookup (pc := 8) (tgt := 230) hC (off := 222) dX2_isCommand_8 rfl (by rw [hc]; rfl) rfl ?_
    refine rc_aload_n (pc := 230) hC dX2_isCommand_230 rfl rfl ?_
    refine rc_r_text (pc := 231) hC (i := 17) rfl dX2_isCommand_231 h ?_
    intro x6 h
    obtain ⟨⟨fs, ho⟩, h⟩ := h.is
    refine rc_callV (pc := 233) hC rfl ho (rw_J4_equals hH.1 v0 x6) q687 q688 q689 q121 q690 rfl rd_J4_equals (hH.room (Nat.le_of_ble_eq_true rfl) (Nat.le_of_ble_eq_true rfl)) rfl rfl (Nat.le_of_ble_eq_true rfl) 1 rfl h.le.2.2 h.br rfl dX2_isCommand_233 ?_ (fun E q S hT => rc_out hC hH.2.2.2.2 hT)
    intro x7 S h
    show rc_Z Y S 236 [some (rc_q v0), some (rc_q v0), some (rc_i (-1 : Int32))] [rc_i x7]
    refine rc_if_eq (pc := 236) (tgt := 287) hC dX2_isCommand_236 rfl h ?_ ?_
    · intro _ h
      refine rc_drop [false, false, true] (L' := [none, none, some (rc_i (-1 : Int32))]) rfl ?_
      exact rw_X2_isCommand_L287 hC hH  (-1 : Int32) S h
    intro _ h
    refine rc_bipush (pc := 239) hC (v := (8 : Int32)) dX2_isCommand_239 rfl ?_
    refine rc_istore_n (pc := 241) hC (L' := [some (rc_q v0), some (rc_q v0), some (rc_i (8 : Int32))]) dX2_isCommand_241 rfl (Nat.le_of_ble_eq_true rfl) rfl rfl ?_
    refine rc_goto (pc := 242) (tgt := 287) hC dX2_isCommand_242 rfl ?_
    refine rc_drop [false, false, true] (L' := [none, none, some (rc_i (8 : Int32))]) rfl ?_
    exact rw_X2_isCommand_L287 hC hH  (8 : Int32) S h
  rcases h.ite with ⟨hc, h⟩ | ⟨hc3, h⟩
  · refine rc_lookup (pc := 8) (tgt := 275) hC (off := 267) dX2_isCommand_8 rfl (by rw [hc]; rfl) rfl ?_
    refine rc_aload_n (pc := 275) hC dX2_isCommand_275 rfl rfl ?_
    refine rc_r_text (pc := 276) hC (i := 20) rfl dX2_isCommand_276 h ?_
    intro x8 h
    obtain ⟨⟨fs, ho⟩, h⟩ := h.is
    refine rc_callV (pc := 278) hC rfl ho (rw_J4_equals hH.1 v0 x8) q687 q688 q689 q121 q690 rfl rd_J4_equals (hH.room (Nat.le_of_ble_eq_true rfl) (Nat.le_of_ble_eq_true rfl)) rfl rfl (Nat.le_of_ble_eq_true rfl) 1 rfl h.le.2.2 h.br rfl dX2_isCommand_278 ?_ (fun E q S hT => rc_out hC hH.2.2.2.2 hT)
    intro x9 S h
    show rc_Z Y S 281 [some (rc_q v0), some (rc_q v0), some (rc_i (-1 : Int32))] [rc_i x9]
    refine rc_if_eq (pc := 281) (tgt := 287) hC dX2_isCommand_281 rfl h ?_ ?_
    · intro _ h
      refine rc_drop [false, false, true] (L' := [none, none, some (rc_i (-1 : Int32))]) rfl ?_
      exact rw_X2_isCommand_L287 hC hH  (-1 : Int32) S h
    intro _ h
    refine rc_bipush (pc := 284) hC (v := (11 : Int32)) dX2_isCommand_284 rfl ?_
    refine rc_istore_n (pc := 286) hC (L' := [some (rc_q v0), some (rc_q v0), some (rc_i (11 : Int32))]) dX2_isCommand_286 rfl (Nat.le_of_ble_eq_true rfl) rfl rfl ?_
    refine rc_drop [false, false, true] (L' := [none, none, some (rc_i (11 : Int32))]) rfl ?_
    exact rw_X2_isCommand_L287 hC hH  (11 : Int32) S h
  rcases h.ite with ⟨hc, h⟩ | ⟨hc4, h⟩
  · refine rc_lookup (pc := 8) (tgt := 260) hC (off := 252) dX2_isCommand_8 rfl (by rw [hc]; rfl) rfl ?_
    refine rc_aload_n (pc := 260) hC dX2_isCommand_260 rfl rfl ?_
    refine rc_r_text (pc := 261) hC (i := 19) rfl dX2_isCommand_261 h ?_
    intro x10 h
    obtain ⟨⟨fs, ho⟩, h⟩ := h.is
    refine rc_callV (pc := 263) hC rfl ho (rw_J4_equals hH.1 v0 x10) q687 q688 q689 q121 q690 rfl rd_J4_equals (hH.room (Nat.le_of_ble_eq_true rfl) (Nat.le_of_ble_eq_true rfl)) rfl rfl (Nat.le_of_ble_eq_true rfl) 1 rfl h.le.2.2 h.br rfl dX2_isCommand_263 ?_ (fun E q S hT => rc_out hC hH.2.2.2.2 hT)
    intro x11 S h
    show rc_Z Y S 266 [some (rc_q v0), some (rc_q v0), some (rc_i (-1 : Int32))] [rc_i x11]
    refine rc_if_eq (pc := 266) (tgt := 287) hC dX2_isCommand_266 rfl h ?_ ?_
    · intro _ h
      refine rc_drop [false, false, true] (L' := [none, none, some (rc_i (-1 : Int32))]) rfl ?_
      exact rw_X2_isCommand_L287 hC hH  (-1 : Int32) S h
    intro _ h
    refine rc_bipush (pc := 269) hC (v := (10 : Int32)) dX2_isCommand_269 rfl ?_
    refine rc_istore_n (pc := 271) hC (L' := [some (rc_q v0), some (rc_q v0), some (rc_i (10 : Int32))]) dX2_isCommand_271 rfl (Nat.le_of_ble_eq_true rfl) rfl rfl ?_
    refine rc_goto (pc := 272) (tgt := 287) hC dX2_isCommand_272 rfl ?_
    refine rc_drop [false, false, true] (L' := [none, none, some (rc_i (10 : Int32))]) rfl ?_
    exact rw_X2_isCommand_L287 hC hH  (10 : Int32) S h
  rcases h.ite with ⟨hc, h⟩ | ⟨hc5, h⟩
  · refine rc_lookup (pc := 8) (tgt := 144) hC (off := 136) dX2_isCommand_8 rfl (by rw [hc]; rfl) rfl ?_
    refine rc_aload_n (pc := 144) hC dX2_isCommand_144 rfl rfl ?_
    refine rc_r_text (pc := 145) hC (i := 11) rfl dX2_isCommand_145 h ?_
    intro x12 h
    obtain ⟨⟨fs, ho⟩, h⟩ := h.is
    refine rc_callV (pc := 147) hC rfl ho (rw_J4_equals hH.1 v0 x12) q687 q688 q689 q121 q690 rfl rd_J4_equals (hH.room (Nat.le_of_ble_eq_true rfl) (Nat.le_of_ble_eq_true rfl)) rfl rfl (Nat.le_of_ble_eq_true rfl) 1 rfl h.le.2.2 h.br rfl dX2_isCommand_147 ?_ (fun E q S hT => rc_out hC hH.2.2.2.2 hT)
    intro x13 S h
    show rc_Z Y S 150 [some (rc_q v0), some (rc_q v0), some (rc_i (-1 : Int32))] [rc_i x13]
    refine rc_if_eq (pc := 150) (tgt := 287) hC dX2_isCommand_150 rfl h ?_ ?_
    · intro _ h
      refine rc_drop [false, false, true] (L' := [none, none, some (rc_i (-1 : Int32))]) rfl ?_
      exact rw_X2_isCommand_L287 hC hH  (-1 : Int32) S h
    intro _ h
    refine rc_iconst (pc := 153) hC (v := (2 : Int32)) dX2_isCommand_153 rfl ?_
    refine rc_istore_n (pc := 154) hC (L' := [some (rc_q v0), some (rc_q v0), some (rc_i (2 : Int32))]) dX2_isCommand_154 rfl (Nat.le_of_ble_eq_true rfl) rfl rfl ?_
    refine rc_goto (pc := 155) (tgt := 287) hC dX2_isCommand_155 rfl ?_
    refine rc_drop [false, false, true] (L' := [none, none, some (rc_i (2 : Int32))]) rfl ?_
    exact rw_X2_isCommand_L287 hC hH  (2 : Int32) S h
  rcases h.ite with ⟨hc, h⟩ | ⟨hc6, h⟩
  · refine rc_lookup (pc := 8) (tgt := 245) hC (off := 237) dX2_isCommand_8 rfl (by rw [hc]; rfl) rfl ?_
    refine rc_aload_n (pc := 245) hC dX2_isCommand_245 rfl rfl ?_
    refine rc_r_text (pc := 246) hC (i := 18) rfl dX2_isCommand_246 h ?_
    intro x14 h
    obtain ⟨⟨fs, ho⟩, h⟩ := h.is
    refine rc_callV (pc := 248) hC rfl ho (rw_J4_equals hH.1 v0 x14) q687 q688 q689 q121 q690 rfl rd_J4_equals (hH.room (Nat.le_of_ble_eq_true rfl) (Nat.le_of_ble_eq_true rfl)) rfl rfl (Nat.le_of_ble_eq_true rfl) 1 rfl h.le.2.2 h.br rfl dX2_isCommand_248 ?_ (fun E q S hT => rc_out hC hH.2.2.2.2 hT)
    intro x15 S h
    show rc_Z Y S 251 [some (rc_q v0), some (rc_q v0), some (rc_i (-1 : Int32))] [rc_i x15]
    refine rc_if_eq (pc := 251) (tgt := 287) hC dX2_isCommand_251 rfl h ?_ ?_
    · intro _ h
      refine rc_drop [false, false, true] (L' := [none, none, some (rc_i (-1 : Int32))]) rfl ?_
      exact rw_X2_isCommand_L287 hC hH  (-1 : Int32) S h
    intro _ h
    refine rc_bipush (pc := 254) hC (v := (9 : Int32)) dX2_isCommand_254 rfl ?_
    refine rc_istore_n (pc := 256) hC (L' := [some (rc_q v0), some (rc_q v0), some (rc_i (9 : Int32))]) dX2_isCommand_256 rfl (Nat.le_of_ble_eq_true rfl) rfl rfl ?_
    refine rc_goto (pc := 257) (tgt := 287) hC dX2_isCommand_257 rfl ?_
    refine rc_drop [false, false, true] (L' := [none, none, some (rc_i (9 : Int32))]) rfl ?_
    exact rw_X2_isCommand_L287 hC hH  (9 : Int32) S h
  rcases h.ite with ⟨hc, h⟩ | ⟨hc7, h⟩
  · refine rc_lookup (pc := 8) (tgt := 158) hC (off := 150) dX2_isCommand_8 rfl (by rw [hc]; rfl) rfl ?_
    refine rc_aload_n (pc := 158) hC dX2_isCommand_158 rfl rfl ?_
    refine rc_r_text (pc := 159) hC (i := 12) rfl dX2_isCommand_159 h ?_
    intro x16 h
    obtain ⟨⟨fs, ho⟩, h⟩ := h.is
    refine rc_callV (pc := 161) hC rfl ho (rw_J4_equals hH.1 v0 x16) q687 q688 q689 q121 q690 rfl rd_J4_equals (hH.room (Nat.le_of_ble_eq_true rfl) (Nat.le_of_ble_eq_true rfl)) rfl rfl (Nat.le_of_ble_eq_true rfl) 1 rfl h.le.2.2 h.br rfl dX2_isCommand_161 ?_ (fun E q S hT => rc_out hC hH.2.2.2.2 hT)
    intro x17 S h
    show rc_Z Y S 164 [some (rc_q v0), some (rc_q v0), some (rc_i (-1 : Int32))] [rc_i x17]
    refine rc_if_eq (pc := 164) (tgt := 287) hC dX2_isCommand_164 rfl h ?_ ?_
    · intro _ h
      refine rc_drop [false, false, true] (L' := [none, none, some (rc_i (-1 : Int32))]) rfl ?_
      exact rw_X2_isCommand_L287 hC hH  (-1 : Int32) S h
    intro _ h
    refine rc_iconst (pc := 167) hC (v := (3 : Int32)) dX2_isCommand_167 rfl ?_
    refine rc_istore_n (pc := 168) hC (L' := [some (rc_q v0), some (rc_q v0), some (rc_i (3 : Int32))]) dX2_isCommand_168 rfl (Nat.le_of_ble_eq_true rfl) rfl rfl ?_
    refine rc_goto (pc := 169) (tgt := 287) hC dX2_isCommand_169 rfl ?_
    refine rc_drop [false, false, true] (L' := [none, none, some (rc_i (3 : Int32))]) rfl ?_
    exact rw_X2_isCommand_L287 hC hH  (3 : Int32) S h
  rcases h.ite with ⟨hc, h⟩ | ⟨hc8, h⟩
  · refine rc_lookup (pc := 8) (tgt := 200) hC (off := 192) dX2_isCommand_8 rfl (by rw [hc]; rfl) rfl ?_
    refine rc_aload_n (pc := 200) hC dX2_isCommand_200 rfl rfl ?_
    refine rc_r_text (pc := 201) hC (i := 15) rfl dX2_isCommand_201 h ?_
    intro x18 h
    obtain ⟨⟨fs, ho⟩, h⟩ := h.is
    refine rc_callV (pc := 203) hC rfl ho (rw_J4_equals hH.1 v0 x18) q687 q688 q689 q121 q690 rfl rd_J4_equals (hH.room (Nat.le_of_ble_eq_true rfl) (Nat.le_of_ble_eq_true rfl)) rfl rfl (Nat.le_of_ble_eq_true rfl) 1 rfl h.le.2.2 h.br rfl dX2_isCommand_203 ?_ (fun E q S hT => rc_out hC hH.2.2.2.2 hT)
    intro x19 S h
    show rc_Z Y S 206 [some (rc_q v0), some (rc_q v0), some (rc_i (-1 : Int32))] [rc_i x19]
    refine rc_if_eq (pc := 206) (tgt := 287) hC dX2_isCommand_206 rfl h ?_ ?_
    · intro _ h
      refine rc_drop [false, false, true] (L' := [none, none, some (rc_i (-1 : Int32))]) rfl ?_
      exact rw_X2_isCommand_L287 hC hH  (-1 : Int32) S h
    intro _ h
    refine rc_bipush (pc := 209) hC (v := (6 : Int32)) dX2_isCommand_209 rfl ?_
    refine rc_istore_n (pc := 211) hC (L' := [some (rc_q v0), some (rc_q v0), some (rc_i (6 : Int32))]) dX2_isCommand_211 rfl (Nat.le_of_ble_eq_true rfl) rfl rfl ?_
    refine rc_goto (pc := 212) (tgt := 287) hC dX2_isCommand_212 rfl ?_
    refine rc_drop [false, false, true] (L' := [none, none, some (rc_i (6 : Int32))]) rfl ?_
    exact rw_X2_isCommand_L287 hC hH  (6 : Int32) S h
  rcases h.ite with ⟨hc, h⟩ | ⟨hc9, h⟩
  · refine rc_lookup (pc := 8) (tgt := 172) hC (off := 164) dX2_isCommand_8 rfl (by rw [hc]; rfl) rfl ?_
    refine rc_aload_n (pc := 172) hC dX2_isCommand_172 rfl rfl ?_
    refine rc_r_text (pc := 173) hC (i := 13) rfl dX2_isCommand_173 h ?_
    intro x20 h
    obtain ⟨⟨fs, ho⟩, h⟩ := h.is
    refine rc_callV (pc := 175) hC rfl ho (rw_J4_equals hH.1 v0 x20) q687 q688 q689 q121 q690 rfl rd_J4_equals (hH.room (Nat.le_of_ble_eq_true rfl) (Nat.le_of_ble_eq_true rfl)) rfl rfl (Nat.le_of_ble_eq_true rfl) 1 rfl h.le.2.2 h.br rfl dX2_isCommand_175 ?_ (fun E q S hT => rc_out hC hH.2.2.2.2 hT)
    intro x21 S h
    show rc_Z Y S 178 [some (rc_q v0), some (rc_q v0), some (rc_i (-1 : Int32))] [rc_i x21]
    refine rc_if_eq (pc := 178) (tgt := 287) hC dX2_isCommand_178 rfl h ?_ ?_
    · intro _ h
      refine rc_drop [false, false, true] (L' := [none, none, some (rc_i (-1 : Int32))]) rfl ?_
      exact rw_X2_isCommand_L287 hC hH  (-1 : Int32) S h
    intro _ h
    refine rc_iconst (pc := 181) hC (v := (4 : Int32)) dX2_isCommand_181 rfl ?_
    refine rc_istore_n (pc := 182) hC (L' := [some (rc_q v0), some (rc_q v0), some (rc_i (4 : Int32))]) dX2_isCommand_182 rfl (Nat.le_of_ble_eq_true rfl) rfl rfl ?_
    refine rc_goto (pc := 183) (tgt := 287) hC dX2_isCommand_183 rfl ?_
    refine rc_drop [false, false, true] (L' := [none, none, some (rc_i (4 : Int32))]) rfl ?_
    exact rw_X2_isCommand_L287 hC hH  (4 : Int32) S h
  rcases h.ite with ⟨hc, h⟩ | ⟨hc10, h⟩
  · refine rc_lookup (pc := 8) (tgt := 215) hC (off := 207) dX2_isCommand_8 rfl (by rw [hc]; rfl) rfl ?_
    refine rc_aload_n (pc := 215) hC dX2_isCommand_215 rfl rfl ?_
    refine rc_r_text (pc := 216) hC (i := 16) rfl dX2_isCommand_216 h ?_
    intro x22 h
    obtain ⟨⟨fs, ho⟩, h⟩ := h.is
    refine rc_callV (pc := 218) hC rfl ho (rw_J4_equals hH.1 v0 x22) q687 q688 q689 q121 q690 rfl rd_J4_equals (hH.room (Nat.le_of_ble_eq_true rfl) (Nat.le_of_ble_eq_true rfl)) rfl rfl (Nat.le_of_ble_eq_true rfl) 1 rfl h.le.2.2 h.br rfl dX2_isCommand_218 ?_ (fun E q S hT => rc_out hC hH.2.2.2.2 hT)
    intro x23 S h
    show rc_Z Y S 221 [some (rc_q v0), some (rc_q v0), some (rc_i (-1 : Int32))] [rc_i x23]
    refine rc_if_eq (pc := 221) (tgt := 287) hC dX2_isCommand_221 rfl h ?_ ?_
    · intro _ h
      refine rc_drop [false, false, true] (L' := [none, none, some (rc_i (-1 : Int32))]) rfl ?_
      exact rw_X2_isCommand_L287 hC hH  (-1 : Int32) S h
    intro _ h
    refine rc_bipush (pc := 224) hC (v := (7 : Int32)) dX2_isCommand_224 rfl ?_
    refine rc_istore_n (pc := 226) hC (L' := [some (rc_q v0), some (rc_q v0), some (rc_i (7 : Int32))]) dX2_isCommand_226 rfl (Nat.le_of_ble_eq_true rfl) rfl rfl ?_
    refine rc_goto (pc := 227) (tgt := 287) hC dX2_isCommand_227 rfl ?_
    refine rc_drop [false, false, true] (L' := [none, none, some (rc_i (7 : Int32))]) rfl ?_
    exact rw_X2_isCommand_L287 hC hH  (7 : Int32) S h
  rcases h.ite with ⟨hc, h⟩ | ⟨hc11, h⟩
  · refine rc_lookup (pc := 8) (tgt := 116) hC (off := 108) dX2_isCommand_8 rfl (by rw [hc]; rfl) rfl ?_
    refine rc_aload_n (pc := 116) hC dX2_isCommand_116 rfl rfl ?_
    refine rc_r_text (pc := 117) hC (i := 9) rfl dX2_isCommand_117 h ?_
    intro x24 h
    obtain ⟨⟨fs, ho⟩, h⟩ := h.is
    refine rc_callV (pc := 119) hC rfl ho (rw_J4_equals hH.1 v0 x24) q687 q688 q689 q121 q690 rfl rd_J4_equals (hH.room (Nat.le_of_ble_eq_true rfl) (Nat.le_of_ble_eq_true rfl)) rfl rfl (Nat.le_of_ble_eq_true rfl) 1 rfl h.le.2.2 h.br rfl dX2_isCommand_119 ?_ (fun E q S hT => rc_out hC hH.2.2.2.2 hT)
    intro x25 S h
    show rc_Z Y S 122 [some (rc_q v0), some (rc_q v0), some (rc_i (-1 : Int32))] [rc_i x25]
    refine rc_if_eq (pc := 122) (tgt := 287) hC dX2_isCommand_122 rfl h ?_ ?_
    · intro _ h
      refine rc_drop [false, false, true] (L' := [none, none, some (rc_i (-1 : Int32))]) rfl ?_
      exact rw_X2_isCommand_L287 hC hH  (-1 : Int32) S h
    intro _ h
    refine rc_iconst (pc := 125) hC (v := (0 : Int32)) dX2_isCommand_125 rfl ?_
    refine rc_istore_n (pc := 126) hC (L' := [some (rc_q v0), some (rc_q v0), some (rc_i (0 : Int32))]) dX2_isCommand_126 rfl (Nat.le_of_ble_eq_true rfl) rfl rfl ?_
    refine rc_goto (pc := 127) (tgt := 287) hC dX2_isCommand_127 rfl ?_
    refine rc_drop [false, false, true] (L' := [none, none, some (rc_i (0 : Int32))]) rfl ?_
    exact rw_X2_isCommand_L287 hC hH  (0 : Int32) S h
  refine rc_lookup (pc := 8) (tgt := 287) hC (off := 279) dX2_isCommand_8 rfl (rc_offC hc0 rfl (rc_offC hc1 rfl (rc_offC hc2 rfl (rc_offC hc3 rfl (rc_offC hc4 rfl (rc_offC hc5 rfl (rc_offC hc6 rfl (rc_offC hc7 rfl (rc_offC hc8 rfl (rc_offC hc9 rfl (rc_offC hc10 rfl (rc_offC hc11 rfl rc_offZ)))))))))))) rfl ?_
  refine rc_drop [false, false, true] (L' := [none, none, some (rc_i (-1 : Int32))]) rfl ?_
  exact rw_X2_isCommand_L287 hC hH  (-1 : Int32) S h
theorem rw_X2_chimney {l : Launch} (hl : l.stackTraces = false) (v0 : Option Nat) : rc_Ct l yX2_chimney (ws_ yX2_chimney cX2_chimney 1 (Option.some Jvm.ClassFile.FieldType.int)) 11 209 rc_tI (rp_X2_chimney v0) [rc_q v0] := by
  refine rc_Ct_H hl (plainFor_of_name rY_X2) rfl (Nat.le_of_ble_eq_true rfl) (L0 := [some (rc_q v0)]) rfl ?_
  intro Y S hC hH h
  have hC : rc_C Y cX2_chimney RX2 (Option.some Jvm.ClassFile.FieldType.int) 1 := hC
  unfold rp_X2_chimney at h
  refine rc_aload_n (pc := 0) hC dX2_chimney_0 rfl rfl ?_
  refine rc_iconst (pc := 1) hC (v := (0 : Int32)) dX2_chimney_1 rfl ?_
  refine rc_aload_n (pc := 2) hC dX2_chimney_2 rfl rfl ?_
  refine rc_r_getq (pc := 3) hC rF_X2_29 dX2_chimney_3 h ?_
  intro x1 h
  refine rc_r_getq (pc := 6) hC rF_X2_101 dX2_chimney_6 h ?_
  intro x2 h
  obtain ⟨⟨fs, ho⟩, h⟩ := h.is
  refine rc_callF (x0 := rc_xsize) (y := yJ7_size) (pc := 9) hC rfl ho (rw_J7_size hH.1 x2) q819 q823 q825 q128 q827 (List.mem_of_getElem? (i := 0) rfl) ⟨by decide, by decide, rd_J7_size.2.2⟩ (hH.room (Nat.le_of_ble_eq_true rfl) (Nat.le_of_ble_eq_true rfl)) rfl rfl (Nat.le_of_ble_eq_true rfl) 0 rfl h.le.2.2 h.br rfl dX2_chimney_9 ?_ (fun E q S hT => rc_out hC hH.2.2.2.2 hT)
  intro x3 S h
  show rc_Z Y S 14 [some (rc_q v0)] [rc_i x3, rc_i (0 : Int32), rc_q v0]
  refine rc_iconst (pc := 14) hC (v := (1 : Int32)) dX2_chimney_14 rfl ?_
  refine rc_isub (pc := 15) hC dX2_chimney_15 ?_
  obtain ⟨⟨fs, ho⟩, h⟩ := h.is
  refine rc_callV (pc := 16) hC rfl ho (rw_X2_number hH.1 v0 (0 : Int32) (x3 - (1 : Int32))) q738 q740 qs8 q123 q741 rfl rd_X2_number (hH.room (Nat.le_of_ble_eq_true rfl) (Nat.le_of_ble_eq_true rfl)) rfl rfl (Nat.le_of_ble_eq_true rfl) 2 rfl h.le.2.2 h.br rfl dX2_chimney_16 ?_ (fun E q S hT => rc_out hC hH.2.2.2.2 hT)
  intro x4 S h
  show rc_Z Y S 19 [some (rc_q v0)] [rc_i x4]
  exact rc_iret hC rfl rfl dX2_chimney_19 h rfl
theorem rw_X2_numberBut_L34 {Y : rc_Y} (hC : rc_C Y cX2_numberBut RX2 (Option.some Jvm.ClassFile.FieldType.int) 3) (hH : rc_H Y 11 209 yX2_numberBut.name) (v0 : Option Nat) (v2 : Int32) (s0 : Int32) (s1 : Option Nat) (S : rc_S) (h : rc_Go Y rc_tI (rp_X2_numberBut_L34  v0 v2 s0 s1) S) : rc_Z Y S 34 [some (rc_q v0), none, some (rc_i v2)] [rc_i s0, rc_q s1] := by
  unfold rp_X2_numberBut_L34 at h
  refine rc_iconst (pc := 34) hC (v := (2 : Int32)) dX2_numberBut_34 rfl ?_
  obtain ⟨⟨fs, ho⟩, h⟩ := h.is
  refine rc_callV (pc := 35) hC rfl ho (rw_X2_check hH.1 s1 s0 (2 : Int32)) q695 q697 qs4 q123 q698 rfl rd_X2_check (hH.room (Nat.le_of_ble_eq_true rfl) (Nat.le_of_ble_eq_true rfl)) rfl rfl (Nat.le_of_ble_eq_true rfl) 2 rfl h.le.2.2 h.br rfl dX2_numberBut_35 ?_ (fun E q S hT => rc_out hC hH.2.2.2.2 hT)
  intro _ S h
  show rc_Z Y S 38 [some (rc_q v0), none, some (rc_i v2)] []
  refine rc_aload_n (pc := 38) hC dX2_numberBut_38 rfl rfl ?_
  refine rc_iconst (pc := 39) hC (v := (0 : Int32)) dX2_numberBut_39 rfl ?_
  refine rc_iload_n (pc := 40) hC dX2_numberBut_40 rfl rfl ?_
  refine rc_iconst (pc := 41) hC (v := (1 : Int32)) dX2_numberBut_41 rfl ?_
  refine rc_isub (pc := 42) hC dX2_numberBut_42 ?_
  obtain ⟨⟨fs, ho⟩, h⟩ := h.is
  refine rc_callV (pc := 43) hC rfl ho (rw_X2_number hH.1 v0 (0 : Int32) (v2 - (1 : Int32))) q738 q740 qs8 q123 q741 rfl rd_X2_number (hH.room (Nat.le_of_ble_eq_true rfl) (Nat.le_of_ble_eq_true rfl)) rfl rfl (Nat.le_of_ble_eq_true rfl) 2 rfl h.le.2.2 h.br rfl dX2_numberBut_43 ?_ (fun E q S hT => rc_out hC hH.2.2.2.2 hT)
  intro x1 S h
  show rc_Z Y S 46 [some (rc_q v0), none, some (rc_i v2)] [rc_i x1]
  exact rc_iret hC rfl rfl dX2_numberBut_46 h rfl
theorem rw_X2_numberBut_L16 {Y : rc_Y} (hC : rc_C Y cX2_numberBut RX2 (Option.some Jvm.ClassFile.FieldType.int) 3) (hH : rc_H Y 11 209 yX2_numberBut.name) (v0 : Option Nat) (v1 : Int32) (v2 : Int32) (s0 : Int32) (s1 : Option Nat) (S : rc_S) (h : rc_Go Y rc_tI (rp_X2_numberBut_L16  v0 v1 v2 s0 s1) S) : rc_Z Y S 16 [some (rc_q v0), some (rc_i v1), some (rc_i v2)] [rc_i s0, rc_q s1] := by
  unfold rp_X2_numberBut_L16 at h
  refine rc_iconst (pc := 16) hC (v := (1 : Int32)) dX2_numberBut_16 rfl ?_
  obtain ⟨⟨fs, ho⟩, h⟩ := h.is
  refine rc_callV (pc := 17) hC rfl ho (rw_X2_check hH.1 s1 s0 (1 : Int32)) q695 q697 qs4 q123 q698 rfl rd_X2_check (hH.room (Nat.le_of_ble_eq_true rfl) (Nat.le_of_ble_eq_true rfl)) rfl rfl (Nat.le_of_ble_eq_true rfl) 2 rfl h.le.2.2 h.br rfl dX2_numberBut_17 ?_ (fun E q S hT => rc_out hC hH.2.2.2.2 hT)
  intro _ S h
  show rc_Z Y S 20 [some (rc_q v0), some (rc_i v1), some (rc_i v2)] []
  refine rc_aload_n (pc := 20) hC dX2_numberBut_20 rfl rfl ?_
  refine rc_aload_n (pc := 21) hC dX2_numberBut_21 rfl rfl ?_
  refine rc_r_geti (pc := 22) hC rF_X2_86 dX2_numberBut_22 h ?_
  intro x1 h
  refine rc_iload_n (pc := 25) hC dX2_numberBut_25 rfl rfl ?_
  refine rc_icmp_eq (pc := 26) (tgt := 33) hC dX2_numberBut_26 rfl h ?_ ?_
  · intro _ h
    refine rc_iconst (pc := 33) hC (v := (0 : Int32)) dX2_numberBut_33 rfl ?_
    refine rc_drop [true, false, true] (L' := [some (rc_q v0), none, some (rc_i v2)]) rfl ?_
    exact rw_X2_numberBut_L34 hC hH  v0 v2 (0 : Int32) v0 S h
  intro _ h
  refine rc_iconst (pc := 29) hC (v := (1 : Int32)) dX2_numberBut_29 rfl ?_
  refine rc_goto (pc := 30) (tgt := 34) hC dX2_numberBut_30 rfl ?_
  refine rc_drop [true, false, true] (L' := [some (rc_q v0), none, some (rc_i v2)]) rfl ?_
  exact rw_X2_numberBut_L34 hC hH  v0 v2 (1 : Int32) v0 S h
theorem rw_X2_numberBut {l : Launch} (hl : l.stackTraces = false) (v0 : Option Nat) (v1 : Int32) (v2 : Int32) : rc_Ct l yX2_numberBut (ws_ yX2_numberBut cX2_numberBut 3 (Option.some Jvm.ClassFile.FieldType.int)) 11 209 rc_tI (rp_X2_numberBut v0 v1 v2) [rc_q v0, rc_i v1, rc_i v2] := by
  refine rc_Ct_H hl (plainFor_of_name rY_X2) rfl (Nat.le_of_ble_eq_true rfl) (L0 := [some (rc_q v0), some (rc_i v1), some (rc_i v2)]) rfl ?_
  intro Y S hC hH h
  have hC : rc_C Y cX2_numberBut RX2 (Option.some Jvm.ClassFile.FieldType.int) 3 := hC
  unfold rp_X2_numberBut at h
  refine rc_aload_n (pc := 0) hC dX2_numberBut_0 rfl rfl ?_
  refine rc_aload_n (pc := 1) hC dX2_numberBut_1 rfl rfl ?_
  refine rc_r_getq (pc := 2) hC rF_X2_15 dX2_numberBut_2 h ?_
  intro x1 h
  refine rc_r_stat (pc := 5) hC rS_X2_89 dX2_numberBut_5 h ?_
  intro x2 h
  refine rc_acmp_ne (pc := 8) (tgt := 15) hC dX2_numberBut_8 rfl h ?_ ?_
  · intro _ h
    refine rc_iconst (pc := 15) hC (v := (0 : Int32)) dX2_numberBut_15 rfl ?_
    exact rw_X2_numberBut_L16 hC hH  v0 v1 v2 (0 : Int32) v0 S h
  intro _ h
  refine rc_iconst (pc := 11) hC (v := (1 : Int32)) dX2_numberBut_11 rfl ?_
  refine rc_goto (pc := 12) (tgt := 16) hC dX2_numberBut_12 rfl ?_
  exact rw_X2_numberBut_L16 hC hH  v0 v1 v2 (1 : Int32) v0 S h
theorem rw_X2_build_L40 {Y : rc_Y} (hC : rc_C Y cX2_build RX2 (Option.none : Option Jvm.ClassFile.FieldType) 5) (hH : rc_H Y 12 231 yX2_build.name) (v0 : Option Nat) (v2 : Int32) (s0 : Int32) (s1 : Option Nat) (S : rc_S) (h : rc_Go Y rc_tU (rp_X2_build_L40  v0 v2 s0 s1) S) : rc_Z Y S 40 [some (rc_q v0), none, some (rc_i v2), none, none] [rc_i s0, rc_q s1] := by
  unfold rp_X2_build_L40 at h
  obtain ⟨⟨fs, ho⟩, h⟩ := h.is
  refine rc_callV (pc := 40) hC rfl ho (rw_X2_end hH.1 s1 s0) q725 q727 qs5 q123 q728 rfl rd_X2_end (hH.room (Nat.le_of_ble_eq_true rfl) (Nat.le_of_ble_eq_true rfl)) rfl rfl (Nat.le_of_ble_eq_true rfl) 1 rfl h.le.2.2 h.br rfl dX2_build_40 ?_ (fun E q S hT => rc_out hC hH.2.2.2.2 hT)
  intro _ S h
  show rc_Z Y S 43 [some (rc_q v0), none, some (rc_i v2), none, none] []
  refine rc_aload_n (pc := 43) hC dX2_build_43 rfl rfl ?_
  refine rc_r_getq (pc := 44) hC rF_X2_29 dX2_build_44 h ?_
  intro x1 h
  refine rc_r_getq (pc := 47) hC rF_X2_101 dX2_build_47 h ?_
  intro x2 h
  refine rc_r_new (pc := 50) hC rN_X2_201 dX2_build_50 h ?_
  intro x3 S h
  refine rc_dup (pc := 53) hC dX2_build_53 rfl ?_
  refine rc_iload_n (pc := 54) hC dX2_build_54 rfl rfl ?_
  obtain ⟨⟨b9, ho⟩, h⟩ := h.nn
  refine rc_callI (pc := 55) hC ho (rw_X5_init hH.1 x3 v2) q830 q831 q142 q832 rfl rfl rd_X5_init (hH.room (Nat.le_of_ble_eq_true rfl) (Nat.le_of_ble_eq_true rfl)) rfl rfl (Nat.le_of_ble_eq_true rfl) 1 rfl h.le.2.2 h.br rfl dX2_build_55 ?_ (fun E q S hT => rc_out hC hH.2.2.2.2 hT)
  intro _ S h
  show rc_Z Y S 58 [some (rc_q v0), none, some (rc_i v2), none, none] [rc_q x3, rc_q x2]
  obtain ⟨⟨fs, ho⟩, h⟩ := h.is
  refine rc_callF (x0 := rc_xadd) (y := yJ7_add) (pc := 58) hC rfl ho (rw_J7_add hH.1 x2 x3) q847 q850 q852 q128 q854 (List.mem_of_getElem? (i := 1) rfl) ⟨by decide, by decide, rd_J7_add.2.2⟩ (hH.room (Nat.le_of_ble_eq_true rfl) (Nat.le_of_ble_eq_true rfl)) rfl rfl (Nat.le_of_ble_eq_true rfl) 1 rfl h.le.2.2 h.br rfl dX2_build_58 ?_ (fun E q S hT => rc_out hC hH.2.2.2.2 hT)
  intro x4 S h
  show rc_Z Y S 63 [some (rc_q v0), none, some (rc_i v2), none, none] [rc_i x4]
  refine rc_pop (pc := 63) hC dX2_build_63 rfl ?_
  refine rc_goto (pc := 64) (tgt := 245) hC dX2_build_64 rfl ?_
  exact rc_vret hC rfl dX2_build_245 h rfl
theorem rw_X2_build_L131 {Y : rc_Y} (hC : rc_C Y cX2_build RX2 (Option.none : Option Jvm.ClassFile.FieldType) 5) (hH : rc_H Y 12 231 yX2_build.name) (v0 : Option Nat) (v2 : Int32) (v3 : Int32) (v4 : Int32) (s0 : Int32) (s1 : Option Nat) (S : rc_S) (h : rc_Go Y rc_tU (rp_X2_build_L131  v0 v2 v3 v4 s0 s1) S) : rc_Z Y S 131 [some (rc_q v0), none, some (rc_i v2), some (rc_i v3), some (rc_i v4)] [rc_i s0, rc_q s1] := by
  unfold rp_X2_build_L131 at h
  obtain ⟨⟨fs, ho⟩, h⟩ := h.is
  refine rc_callV (pc := 131) hC rfl ho (rw_X2_end hH.1 s1 s0) q725 q727 qs5 q123 q728 rfl rd_X2_end (hH.room (Nat.le_of_ble_eq_true rfl) (Nat.le_of_ble_eq_true rfl)) rfl rfl (Nat.le_of_ble_eq_true rfl) 1 rfl h.le.2.2 h.br rfl dX2_build_131 ?_ (fun E q S hT => rc_out hC hH.2.2.2.2 hT)
  intro _ S h
  show rc_Z Y S 134 [some (rc_q v0), none, some (rc_i v2), some (rc_i v3), some (rc_i v4)] []
  refine rc_aload_n (pc := 134) hC dX2_build_134 rfl rfl ?_
  refine rc_r_getq (pc := 135) hC rF_X2_29 dX2_build_135 h ?_
  intro x1 h
  refine rc_r_getq (pc := 138) hC rF_X2_214 dX2_build_138 h ?_
  intro x2 h
  refine rc_r_new (pc := 141) hC rN_X2_217 dX2_build_141 h ?_
  intro x3 S h
  refine rc_dup (pc := 144) hC dX2_build_144 rfl ?_
  refine rc_iload_n (pc := 145) hC dX2_build_145 rfl rfl ?_
  refine rc_iload_n (pc := 146) hC dX2_build_146 rfl rfl ?_
  refine rc_iload (pc := 147) hC dX2_build_147 rfl ?_
  obtain ⟨⟨b9, ho⟩, h⟩ := h.nn
  refine rc_callIN (pc := 149) hC ho (rw_X6_init hH.1 x3 v2 v3 v4) (lw_o q914 rfl) q915 q144 q916 rfl rfl rd_X6_init (hH.room (Nat.le_of_ble_eq_true rfl) (Nat.le_of_ble_eq_true rfl)) rfl rfl (Nat.le_of_ble_eq_true rfl) 3 rfl h.le.2.2 h.br rfl dX2_build_149 ?_ (fun E q S hT => rc_out hC hH.2.2.2.2 hT)
  intro _ S h
  show rc_Z Y S 152 [some (rc_q v0), none, some (rc_i v2), some (rc_i v3), some (rc_i v4)] [rc_q x3, rc_q x2]
  obtain ⟨⟨fs, ho⟩, h⟩ := h.is
  refine rc_callF (x0 := rc_xadd) (y := yJ7_add) (pc := 152) hC rfl ho (rw_J7_add hH.1 x2 x3) q847 q850 q852 q128 q854 (List.mem_of_getElem? (i := 1) rfl) ⟨by decide, by decide, rd_J7_add.2.2⟩ (hH.room (Nat.le_of_ble_eq_true rfl) (Nat.le_of_ble_eq_true rfl)) rfl rfl (Nat.le_of_ble_eq_true rfl) 1 rfl h.le.2.2 h.br rfl dX2_build_152 ?_ (fun E q S hT => rc_out hC hH.2.2.2.2 hT)
  intro x4 S h
  show rc_Z Y S 157 [some (rc_q v0), none, some (rc_i v2), some (rc_i v3), some (rc_i v4)] [rc_i x4]
  refine rc_pop (pc := 157) hC dX2_build_157 rfl ?_
  refine rc_goto (pc := 158) (tgt := 245) hC dX2_build_158 rfl ?_
  exact rc_vret hC rfl dX2_build_245 h rfl
theorem rw_X2_build_L218 {Y : rc_Y} (hC : rc_C Y cX2_build RX2 (Option.none : Option Jvm.ClassFile.FieldType) 5) (hH : rc_H Y 12 231 yX2_build.name) (v0 : Option Nat) (v2 : Int32) (v3 : Int32) (v4 : Int32) (s0 : Int32) (s1 : Option Nat) (S : rc_S) (h : rc_Go Y rc_tU (rp_X2_build_L218  v0 v2 v3 v4 s0 s1) S) : rc_Z Y S 218 [some (rc_q v0), none, some (rc_i v2), some (rc_i v3), some (rc_i v4)] [rc_i s0, rc_q s1] := by
  unfold rp_X2_build_L218 at h
  obtain ⟨⟨fs, ho⟩, h⟩ := h.is
  refine rc_callV (pc := 218) hC rfl ho (rw_X2_end hH.1 s1 s0) q725 q727 qs5 q123 q728 rfl rd_X2_end (hH.room (Nat.le_of_ble_eq_true rfl) (Nat.le_of_ble_eq_true rfl)) rfl rfl (Nat.le_of_ble_eq_true rfl) 1 rfl h.le.2.2 h.br rfl dX2_build_218 ?_ (fun E q S hT => rc_out hC hH.2.2.2.2 hT)
  intro _ S h
  show rc_Z Y S 221 [some (rc_q v0), none, some (rc_i v2), some (rc_i v3), some (rc_i v4)] []
  refine rc_aload_n (pc := 221) hC dX2_build_221 rfl rfl ?_
  refine rc_r_getq (pc := 222) hC rF_X2_29 dX2_build_222 h ?_
  intro x1 h
  refine rc_r_getq (pc := 225) hC rF_X2_114 dX2_build_225 h ?_
  intro x2 h
  refine rc_r_new (pc := 228) hC rN_X2_225 dX2_build_228 h ?_
  intro x3 S h
  refine rc_dup (pc := 231) hC dX2_build_231 rfl ?_
  refine rc_iload_n (pc := 232) hC dX2_build_232 rfl rfl ?_
  refine rc_iload_n (pc := 233) hC dX2_build_233 rfl rfl ?_
  refine rc_iload (pc := 234) hC dX2_build_234 rfl ?_
  obtain ⟨⟨b9, ho⟩, h⟩ := h.nn
  refine rc_callI (pc := 236) hC ho (rw_X7_init hH.1 x3 v2 v3 v4) q957 q958 q146 q959 rfl rfl rd_X7_init (hH.room (Nat.le_of_ble_eq_true rfl) (Nat.le_of_ble_eq_true rfl)) rfl rfl (Nat.le_of_ble_eq_true rfl) 3 rfl h.le.2.2 h.br rfl dX2_build_236 ?_ (fun E q S hT => rc_out hC hH.2.2.2.2 hT)
  intro _ S h
  show rc_Z Y S 239 [some (rc_q v0), none, some (rc_i v2), some (rc_i v3), some (rc_i v4)] [rc_q x3, rc_q x2]
  obtain ⟨⟨fs, ho⟩, h⟩ := h.is
  refine rc_callF (x0 := rc_xadd) (y := yJ7_add) (pc := 239) hC rfl ho (rw_J7_add hH.1 x2 x3) q847 q850 q852 q128 q854 (List.mem_of_getElem? (i := 1) rfl) ⟨by decide, by decide, rd_J7_add.2.2⟩ (hH.room (Nat.le_of_ble_eq_true rfl) (Nat.le_of_ble_eq_true rfl)) rfl rfl (Nat.le_of_ble_eq_true rfl) 1 rfl h.le.2.2 h.br rfl dX2_build_239 ?_ (fun E q S hT => rc_out hC hH.2.2.2.2 hT)
  intro x4 S h
  show rc_Z Y S 244 [some (rc_q v0), none, some (rc_i v2), some (rc_i v3), some (rc_i v4)] [rc_i x4]
  refine rc_pop (pc := 244) hC dX2_build_244 rfl ?_
  exact rc_vret hC rfl dX2_build_245 h rfl
theorem rw_X2_build_L217 {Y : rc_Y} (hC : rc_C Y cX2_build RX2 (Option.none : Option Jvm.ClassFile.FieldType) 5) (hH : rc_H Y 12 231 yX2_build.name) (v0 : Option Nat) (v2 : Int32) (v3 : Int32) (v4 : Int32) (s0 : Option Nat) (S : rc_S) (h : rc_Go Y rc_tU (rp_X2_build_L217  v0 v2 v3 v4 s0) S) : rc_Z Y S 217 [some (rc_q v0), none, some (rc_i v2), some (rc_i v3), some (rc_i v4)] [rc_q s0] := by
  unfold rp_X2_build_L217 at h
  refine rc_iconst (pc := 217) hC (v := (0 : Int32)) dX2_build_217 rfl ?_
  exact rw_X2_build_L218 hC hH  v0 v2 v3 v4 (0 : Int32) s0 S h
theorem rw_X2_build {l : Launch} (hl : l.stackTraces = false) (v0 : Option Nat) (v1 : Option Nat) : rc_Ct l yX2_build (ws_ yX2_build cX2_build 5 (Option.none : Option Jvm.ClassFile.FieldType)) 12 231 rc_tU (rp_X2_build v0 v1) [rc_q v0, rc_q v1] := by
  refine rc_Ct_H hl (plainFor_of_name rY_X2) rfl (Nat.le_of_ble_eq_true rfl) (L0 := [some (rc_q v0), some (rc_q v1), none, none, none]) rfl ?_
  intro Y S hC hH h
  have hC : rc_C Y cX2_build RX2 (Option.none : Option Jvm.ClassFile.FieldType) 5 := hC
  unfold rp_X2_build at h
  refine rc_aload_n (pc := 0) hC dX2_build_0 rfl rfl ?_
  refine rc_r_text (pc := 1) hC (i := 9) rfl dX2_build_1 h ?_
  intro x1 h
  obtain ⟨⟨fs, ho⟩, h⟩ := h.is
  refine rc_callV (pc := 3) hC rfl ho (rw_J4_equals hH.1 v1 x1) q687 q688 q689 q121 q690 rfl rd_J4_equals (hH.room (Nat.le_of_ble_eq_true rfl) (Nat.le_of_ble_eq_true rfl)) rfl rfl (Nat.le_of_ble_eq_true rfl) 1 rfl h.le.2.2 h.br rfl dX2_build_3 ?_ (fun E q S hT => rc_out hC hH.2.2.2.2 hT)
  intro x2 S h
  show rc_Z Y S 6 [some (rc_q v0), some (rc_q v1), none, none, none] [rc_i x2]
  refine rc_if_eq (pc := 6) (tgt := 67) hC dX2_build_6 rfl h ?_ ?_
  · intro _ h
    refine rc_aload_n (pc := 67) hC dX2_build_67 rfl rfl ?_
    refine rc_r_text (pc := 68) hC (i := 10) rfl dX2_build_68 h ?_
    intro x3 h
    obtain ⟨⟨fs, ho⟩, h⟩ := h.is
    refine rc_callV (pc := 70) hC rfl ho (rw_J4_equals hH.1 v1 x3) q687 q688 q689 q121 q690 rfl rd_J4_equals (hH.room (Nat.le_of_ble_eq_true rfl) (Nat.le_of_ble_eq_true rfl)) rfl rfl (Nat.le_of_ble_eq_true rfl) 1 rfl h.le.2.2 h.br rfl dX2_build_70 ?_ (fun E q S hT => rc_out hC hH.2.2.2.2 hT)
    intro x4 S h
    show rc_Z Y S 73 [some (rc_q v0), some (rc_q v1), none, none, none] [rc_i x4]
    refine rc_if_eq (pc := 73) (tgt := 161) hC dX2_build_73 rfl h ?_ ?_
    · intro _ h
      refine rc_aload_n (pc := 161) hC dX2_build_161 rfl rfl ?_
      obtain ⟨⟨fs, ho⟩, h⟩ := h.is
      refine rc_callV (pc := 162) hC rfl ho (rw_X2_chimney hH.1 v0) q904 q906 qs13 q123 q907 rfl rd_X2_chimney (hH.room (Nat.le_of_ble_eq_true rfl) (Nat.le_of_ble_eq_true rfl)) rfl rfl (Nat.le_of_ble_eq_true rfl) 0 rfl h.le.2.2 h.br rfl dX2_build_162 ?_ (fun E q S hT => rc_out hC hH.2.2.2.2 hT)
      intro x5 S h
      show rc_Z Y S 165 [some (rc_q v0), some (rc_q v1), none, none, none] [rc_i x5]
      refine rc_istore_n (pc := 165) hC (L' := [some (rc_q v0), some (rc_q v1), some (rc_i x5), none, none]) dX2_build_165 rfl (Nat.le_of_ble_eq_true rfl) rfl rfl ?_
      refine rc_aload_n (pc := 166) hC dX2_build_166 rfl rfl ?_
      refine rc_iconst (pc := 167) hC (v := (1 : Int32)) dX2_build_167 rfl ?_
      refine rc_bipush (pc := 168) hC (v := (9 : Int32)) dX2_build_168 rfl ?_
      obtain ⟨⟨fs, ho⟩, h⟩ := h.is
      refine rc_callV (pc := 170) hC rfl ho (rw_X2_number hH.1 v0 (1 : Int32) (9 : Int32)) q738 q740 qs8 q123 q741 rfl rd_X2_number (hH.room (Nat.le_of_ble_eq_true rfl) (Nat.le_of_ble_eq_true rfl)) rfl rfl (Nat.le_of_ble_eq_true rfl) 2 rfl h.le.2.2 h.br rfl dX2_build_170 ?_ (fun E q S hT => rc_out hC hH.2.2.2.2 hT)
      intro x6 S h
      show rc_Z Y S 173 [some (rc_q v0), some (rc_q v1), some (rc_i x5), none, none] [rc_i x6]
      refine rc_istore_n (pc := 173) hC (L' := [some (rc_q v0), some (rc_q v1), some (rc_i x5), some (rc_i x6), none]) dX2_build_173 rfl (Nat.le_of_ble_eq_true rfl) rfl rfl ?_
      refine rc_aload_n (pc := 174) hC dX2_build_174 rfl rfl ?_
      refine rc_iconst (pc := 175) hC (v := (1 : Int32)) dX2_build_175 rfl ?_
      refine rc_bipush (pc := 176) hC (v := (9 : Int32)) dX2_build_176 rfl ?_
      obtain ⟨⟨fs, ho⟩, h⟩ := h.is
      refine rc_callV (pc := 178) hC rfl ho (rw_X2_number hH.1 v0 (1 : Int32) (9 : Int32)) q738 q740 qs8 q123 q741 rfl rd_X2_number (hH.room (Nat.le_of_ble_eq_true rfl) (Nat.le_of_ble_eq_true rfl)) rfl rfl (Nat.le_of_ble_eq_true rfl) 2 rfl h.le.2.2 h.br rfl dX2_build_178 ?_ (fun E q S hT => rc_out hC hH.2.2.2.2 hT)
      intro x7 S h
      show rc_Z Y S 181 [some (rc_q v0), some (rc_q v1), some (rc_i x5), some (rc_i x6), none] [rc_i x7]
      refine rc_istore (pc := 181) hC (L' := [some (rc_q v0), some (rc_q v1), some (rc_i x5), some (rc_i x6), some (rc_i x7)]) dX2_build_181 (Nat.le_of_ble_eq_true rfl) rfl rfl ?_
      refine rc_aload_n (pc := 183) hC dX2_build_183 rfl rfl ?_
      refine rc_aload_n (pc := 184) hC dX2_build_184 rfl rfl ?_
      refine rc_r_getq (pc := 185) hC rF_X2_29 dX2_build_185 h ?_
      intro x8 h
      refine rc_r_getq (pc := 188) hC rF_X2_114 dX2_build_188 h ?_
      intro x9 h
      obtain ⟨⟨fs, ho⟩, h⟩ := h.is
      refine rc_callF (x0 := rc_xsize) (y := yJ7_size) (pc := 191) hC rfl ho (rw_J7_size hH.1 x9) q819 q823 q825 q128 q827 (List.mem_of_getElem? (i := 0) rfl) ⟨by decide, by decide, rd_J7_size.2.2⟩ (hH.room (Nat.le_of_ble_eq_true rfl) (Nat.le_of_ble_eq_true rfl)) rfl rfl (Nat.le_of_ble_eq_true rfl) 0 rfl h.le.2.2 h.br rfl dX2_build_191 ?_ (fun E q S hT => rc_out hC hH.2.2.2.2 hT)
      intro x10 S h
      show rc_Z Y S 196 [some (rc_q v0), some (rc_q v1), some (rc_i x5), some (rc_i x6), some (rc_i x7)] [rc_i x10, rc_q v0]
      refine rc_bipush (pc := 196) hC (v := (8 : Int32)) dX2_build_196 rfl ?_
      refine rc_icmp_ge (pc := 198) (tgt := 217) hC dX2_build_198 rfl h ?_ ?_
      · intro _ h
        refine rc_drop [true, false, true, true, true] (L' := [some (rc_q v0), none, some (rc_i x5), some (rc_i x6), some (rc_i x7)]) rfl ?_
        exact rw_X2_build_L217 hC hH  v0 x5 x6 x7 v0 S h
      intro _ h
      refine rc_aload_n (pc := 201) hC dX2_build_201 rfl rfl ?_
      refine rc_r_getq (pc := 202) hC rF_X2_29 dX2_build_202 h ?_
      intro x11 h
      refine rc_iload_n (pc := 205) hC dX2_build_205 rfl rfl ?_
      obtain ⟨⟨fs, ho⟩, h⟩ := h.is
      refine rc_callV (pc := 206) hC rfl ho (rw_X3_catOn hH.1 x11 x5) q931 q932 q933 q126 q934 rfl rd_X3_catOn (hH.room (Nat.le_of_ble_eq_true rfl) (Nat.le_of_ble_eq_true rfl)) rfl rfl (Nat.le_of_ble_eq_true rfl) 1 rfl h.le.2.2 h.br rfl dX2_build_206 ?_ (fun E q S hT => rc_out hC hH.2.2.2.2 hT)
      intro x12 S h
      show rc_Z Y S 209 [some (rc_q v0), some (rc_q v1), some (rc_i x5), some (rc_i x6), some (rc_i x7)] [rc_i x12, rc_q v0]
      refine rc_iconst (pc := 209) hC (v := (-1 : Int32)) dX2_build_209 rfl ?_
      refine rc_icmp_ne (pc := 210) (tgt := 217) hC dX2_build_210 rfl h ?_ ?_
      · intro _ h
        refine rc_drop [true, false, true, true, true] (L' := [some (rc_q v0), none, some (rc_i x5), some (rc_i x6), some (rc_i x7)]) rfl ?_
        exact rw_X2_build_L217 hC hH  v0 x5 x6 x7 v0 S h
      intro _ h
      refine rc_iconst (pc := 213) hC (v := (1 : Int32)) dX2_build_213 rfl ?_
      refine rc_goto (pc := 214) (tgt := 218) hC dX2_build_214 rfl ?_
      refine rc_drop [true, false, true, true, true] (L' := [some (rc_q v0), none, some (rc_i x5), some (rc_i x6), some (rc_i x7)]) rfl ?_
      exact rw_X2_build_L218 hC hH  v0 x5 x6 x7 (1 : Int32) v0 S h
    intro _ h
    refine rc_aload_n (pc := 76) hC dX2_build_76 rfl rfl ?_
    obtain ⟨⟨fs, ho⟩, h⟩ := h.is
    refine rc_callV (pc := 77) hC rfl ho (rw_X2_chimney hH.1 v0) q904 q906 qs13 q123 q907 rfl rd_X2_chimney (hH.room (Nat.le_of_ble_eq_true rfl) (Nat.le_of_ble_eq_true rfl)) rfl rfl (Nat.le_of_ble_eq_true rfl) 0 rfl h.le.2.2 h.br rfl dX2_build_77 ?_ (fun E q S hT => rc_out hC hH.2.2.2.2 hT)
    intro x13 S h
    show rc_Z Y S 80 [some (rc_q v0), some (rc_q v1), none, none, none] [rc_i x13]
    refine rc_istore_n (pc := 80) hC (L' := [some (rc_q v0), some (rc_q v1), some (rc_i x13), none, none]) dX2_build_80 rfl (Nat.le_of_ble_eq_true rfl) rfl rfl ?_
    refine rc_aload_n (pc := 81) hC dX2_build_81 rfl rfl ?_
    refine rc_iload_n (pc := 82) hC dX2_build_82 rfl rfl ?_
    refine rc_aload_n (pc := 83) hC dX2_build_83 rfl rfl ?_
    refine rc_r_getq (pc := 84) hC rF_X2_29 dX2_build_84 h ?_
    intro x14 h
    refine rc_r_getq (pc := 87) hC rF_X2_101 dX2_build_87 h ?_
    intro x15 h
    obtain ⟨⟨fs, ho⟩, h⟩ := h.is
    refine rc_callF (x0 := rc_xsize) (y := yJ7_size) (pc := 90) hC rfl ho (rw_J7_size hH.1 x15) q819 q823 q825 q128 q827 (List.mem_of_getElem? (i := 0) rfl) ⟨by decide, by decide, rd_J7_size.2.2⟩ (hH.room (Nat.le_of_ble_eq_true rfl) (Nat.le_of_ble_eq_true rfl)) rfl rfl (Nat.le_of_ble_eq_true rfl) 0 rfl h.le.2.2 h.br rfl dX2_build_90 ?_ (fun E q S hT => rc_out hC hH.2.2.2.2 hT)
    intro x16 S h
    show rc_Z Y S 95 [some (rc_q v0), some (rc_q v1), some (rc_i x13), none, none] [rc_i x16, rc_i x13, rc_q v0]
    obtain ⟨⟨fs, ho⟩, h⟩ := h.is
    refine rc_callV (pc := 95) hC rfl ho (rw_X2_numberBut hH.1 v0 x13 x16) q908 q910 qs14 q123 q911 rfl rd_X2_numberBut (hH.room (Nat.le_of_ble_eq_true rfl) (Nat.le_of_ble_eq_true rfl)) rfl rfl (Nat.le_of_ble_eq_true rfl) 2 rfl h.le.2.2 h.br rfl dX2_build_95 ?_ (fun E q S hT => rc_out hC hH.2.2.2.2 hT)
    intro x17 S h
    show rc_Z Y S 98 [some (rc_q v0), some (rc_q v1), some (rc_i x13), none, none] [rc_i x17]
    refine rc_istore_n (pc := 98) hC (L' := [some (rc_q v0), some (rc_q v1), some (rc_i x13), some (rc_i x17), none]) dX2_build_98 rfl (Nat.le_of_ble_eq_true rfl) rfl rfl ?_
    refine rc_aload_n (pc := 99) hC dX2_build_99 rfl rfl ?_
    refine rc_iconst (pc := 100) hC (v := (1 : Int32)) dX2_build_100 rfl ?_
    refine rc_bipush (pc := 101) hC (v := (9 : Int32)) dX2_build_101 rfl ?_
    obtain ⟨⟨fs, ho⟩, h⟩ := h.is
    refine rc_callV (pc := 103) hC rfl ho (rw_X2_number hH.1 v0 (1 : Int32) (9 : Int32)) q738 q740 qs8 q123 q741 rfl rd_X2_number (hH.room (Nat.le_of_ble_eq_true rfl) (Nat.le_of_ble_eq_true rfl)) rfl rfl (Nat.le_of_ble_eq_true rfl) 2 rfl h.le.2.2 h.br rfl dX2_build_103 ?_ (fun E q S hT => rc_out hC hH.2.2.2.2 hT)
    intro x18 S h
    show rc_Z Y S 106 [some (rc_q v0), some (rc_q v1), some (rc_i x13), some (rc_i x17), none] [rc_i x18]
    refine rc_istore (pc := 106) hC (L' := [some (rc_q v0), some (rc_q v1), some (rc_i x13), some (rc_i x17), some (rc_i x18)]) dX2_build_106 (Nat.le_of_ble_eq_true rfl) rfl rfl ?_
    refine rc_aload_n (pc := 108) hC dX2_build_108 rfl rfl ?_
    refine rc_aload_n (pc := 109) hC dX2_build_109 rfl rfl ?_
    refine rc_r_getq (pc := 110) hC rF_X2_29 dX2_build_110 h ?_
    intro x19 h
    refine rc_r_getq (pc := 113) hC rF_X2_214 dX2_build_113 h ?_
    intro x20 h
    obtain ⟨⟨fs, ho⟩, h⟩ := h.is
    refine rc_callF (x0 := rc_xsize) (y := yJ7_size) (pc := 116) hC rfl ho (rw_J7_size hH.1 x20) q819 q823 q825 q128 q827 (List.mem_of_getElem? (i := 0) rfl) ⟨by decide, by decide, rd_J7_size.2.2⟩ (hH.room (Nat.le_of_ble_eq_true rfl) (Nat.le_of_ble_eq_true rfl)) rfl rfl (Nat.le_of_ble_eq_true rfl) 0 rfl h.le.2.2 h.br rfl dX2_build_116 ?_ (fun E q S hT => rc_out hC hH.2.2.2.2 hT)
    intro x21 S h
    show rc_Z Y S 121 [some (rc_q v0), some (rc_q v1), some (rc_i x13), some (rc_i x17), some (rc_i x18)] [rc_i x21, rc_q v0]
    refine rc_bipush (pc := 121) hC (v := (20 : Int32)) dX2_build_121 rfl ?_
    refine rc_icmp_ge (pc := 123) (tgt := 130) hC dX2_build_123 rfl h ?_ ?_
    · intro _ h
      refine rc_iconst (pc := 130) hC (v := (0 : Int32)) dX2_build_130 rfl ?_
      refine rc_drop [true, false, true, true, true] (L' := [some (rc_q v0), none, some (rc_i x13), some (rc_i x17), some (rc_i x18)]) rfl ?_
      exact rw_X2_build_L131 hC hH  v0 x13 x17 x18 (0 : Int32) v0 S h
    intro _ h
    refine rc_iconst (pc := 126) hC (v := (1 : Int32)) dX2_build_126 rfl ?_
    refine rc_goto (pc := 127) (tgt := 131) hC dX2_build_127 rfl ?_
    refine rc_drop [true, false, true, true, true] (L' := [some (rc_q v0), none, some (rc_i x13), some (rc_i x17), some (rc_i x18)]) rfl ?_
    exact rw_X2_build_L131 hC hH  v0 x13 x17 x18 (1 : Int32) v0 S h
  intro _ h
  refine rc_aload_n (pc := 9) hC dX2_build_9 rfl rfl ?_
  refine rc_iconst (pc := 10) hC (v := (0 : Int32)) dX2_build_10 rfl ?_
  refine rc_bipush (pc := 11) hC (v := (9 : Int32)) dX2_build_11 rfl ?_
  obtain ⟨⟨fs, ho⟩, h⟩ := h.is
  refine rc_callV (pc := 13) hC rfl ho (rw_X2_number hH.1 v0 (0 : Int32) (9 : Int32)) q738 q740 qs8 q123 q741 rfl rd_X2_number (hH.room (Nat.le_of_ble_eq_true rfl) (Nat.le_of_ble_eq_true rfl)) rfl rfl (Nat.le_of_ble_eq_true rfl) 2 rfl h.le.2.2 h.br rfl dX2_build_13 ?_ (fun E q S hT => rc_out hC hH.2.2.2.2 hT)
  intro x22 S h
  show rc_Z Y S 16 [some (rc_q v0), some (rc_q v1), none, none, none] [rc_i x22]
  refine rc_istore_n (pc := 16) hC (L' := [some (rc_q v0), some (rc_q v1), some (rc_i x22), none, none]) dX2_build_16 rfl (Nat.le_of_ble_eq_true rfl) rfl rfl ?_
  refine rc_aload_n (pc := 17) hC dX2_build_17 rfl rfl ?_
  refine rc_aload_n (pc := 18) hC dX2_build_18 rfl rfl ?_
  refine rc_r_getq (pc := 19) hC rF_X2_29 dX2_build_19 h ?_
  intro x23 h
  refine rc_r_getq (pc := 22) hC rF_X2_101 dX2_build_22 h ?_
  intro x24 h
  obtain ⟨⟨fs, ho⟩, h⟩ := h.is
  refine rc_callF (x0 := rc_xsize) (y := yJ7_size) (pc := 25) hC rfl ho (rw_J7_size hH.1 x24) q819 q823 q825 q128 q827 (List.mem_of_getElem? (i := 0) rfl) ⟨by decide, by decide, rd_J7_size.2.2⟩ (hH.room (Nat.le_of_ble_eq_true rfl) (Nat.le_of_ble_eq_true rfl)) rfl rfl (Nat.le_of_ble_eq_true rfl) 0 rfl h.le.2.2 h.br rfl dX2_build_25 ?_ (fun E q S hT => rc_out hC hH.2.2.2.2 hT)
  intro x25 S h
  show rc_Z Y S 30 [some (rc_q v0), some (rc_q v1), some (rc_i x22), none, none] [rc_i x25, rc_q v0]
  refine rc_bipush (pc := 30) hC (v := (10 : Int32)) dX2_build_30 rfl ?_
  refine rc_icmp_ge (pc := 32) (tgt := 39) hC dX2_build_32 rfl h ?_ ?_
  · intro _ h
    refine rc_iconst (pc := 39) hC (v := (0 : Int32)) dX2_build_39 rfl ?_
    refine rc_drop [true, false, true, false, false] (L' := [some (rc_q v0), none, some (rc_i x22), none, none]) rfl ?_
    exact rw_X2_build_L40 hC hH  v0 x22 (0 : Int32) v0 S h
  intro _ h
  refine rc_iconst (pc := 35) hC (v := (1 : Int32)) dX2_build_35 rfl ?_
  refine rc_goto (pc := 36) (tgt := 40) hC dX2_build_36 rfl ?_
  refine rc_drop [true, false, true, false, false] (L' := [some (rc_q v0), none, some (rc_i x22), none, none]) rfl ?_
  exact rw_X2_build_L40 hC hH  v0 x22 (1 : Int32) v0 S h
theorem rw_X2_cat {l : Launch} (hl : l.stackTraces = false) (v0 : Option Nat) : rc_Ct l yX2_cat (ws_ yX2_cat cX2_cat 1 (Option.some Jvm.ClassFile.FieldType.int)) 11 209 rc_tI (rp_X2_cat v0) [rc_q v0] := by
  refine rc_Ct_H hl (plainFor_of_name rY_X2) rfl (Nat.le_of_ble_eq_true rfl) (L0 := [some (rc_q v0)]) rfl ?_
  intro Y S hC hH h
  have hC : rc_C Y cX2_cat RX2 (Option.some Jvm.ClassFile.FieldType.int) 1 := hC
  unfold rp_X2_cat at h
  refine rc_aload_n (pc := 0) hC dX2_cat_0 rfl rfl ?_
  refine rc_iconst (pc := 1) hC (v := (0 : Int32)) dX2_cat_1 rfl ?_
  refine rc_aload_n (pc := 2) hC dX2_cat_2 rfl rfl ?_
  refine rc_r_getq (pc := 3) hC rF_X2_29 dX2_cat_3 h ?_
  intro x1 h
  refine rc_r_getq (pc := 6) hC rF_X2_114 dX2_cat_6 h ?_
  intro x2 h
  obtain ⟨⟨fs, ho⟩, h⟩ := h.is
  refine rc_callF (x0 := rc_xsize) (y := yJ7_size) (pc := 9) hC rfl ho (rw_J7_size hH.1 x2) q819 q823 q825 q128 q827 (List.mem_of_getElem? (i := 0) rfl) ⟨by decide, by decide, rd_J7_size.2.2⟩ (hH.room (Nat.le_of_ble_eq_true rfl) (Nat.le_of_ble_eq_true rfl)) rfl rfl (Nat.le_of_ble_eq_true rfl) 0 rfl h.le.2.2 h.br rfl dX2_cat_9 ?_ (fun E q S hT => rc_out hC hH.2.2.2.2 hT)
  intro x3 S h
  show rc_Z Y S 14 [some (rc_q v0)] [rc_i x3, rc_i (0 : Int32), rc_q v0]
  refine rc_iconst (pc := 14) hC (v := (1 : Int32)) dX2_cat_14 rfl ?_
  refine rc_isub (pc := 15) hC dX2_cat_15 ?_
  obtain ⟨⟨fs, ho⟩, h⟩ := h.is
  refine rc_callV (pc := 16) hC rfl ho (rw_X2_number hH.1 v0 (0 : Int32) (x3 - (1 : Int32))) q738 q740 qs8 q123 q741 rfl rd_X2_number (hH.room (Nat.le_of_ble_eq_true rfl) (Nat.le_of_ble_eq_true rfl)) rfl rfl (Nat.le_of_ble_eq_true rfl) 2 rfl h.le.2.2 h.br rfl dX2_cat_16 ?_ (fun E q S hT => rc_out hC hH.2.2.2.2 hT)
  intro x4 S h
  show rc_Z Y S 19 [some (rc_q v0)] [rc_i x4]
  exact rc_iret hC rfl rfl dX2_cat_19 h rfl
theorem rw_X2_walk_L32 {Y : rc_Y} (hC : rc_C Y cX2_walk RX2 (Option.none : Option Jvm.ClassFile.FieldType) 4) (hH : rc_H Y 12 229 yX2_walk.name) (v0 : Option Nat) (v2 : Int32) (s0 : Int32) (s1 : Option Nat) (S : rc_S) (h : rc_Go Y rc_tU (rp_X2_walk_L32  v0 v2 s0 s1) S) : rc_Z Y S 32 [some (rc_q v0), none, some (rc_i v2), none] [rc_i s0, rc_q s1] := by
  unfold rp_X2_walk_L32 at h
  obtain ⟨⟨fs, ho⟩, h⟩ := h.is
  refine rc_callV (pc := 32) hC rfl ho (rw_X2_end hH.1 s1 s0) q725 q727 qs5 q123 q728 rfl rd_X2_end (hH.room (Nat.le_of_ble_eq_true rfl) (Nat.le_of_ble_eq_true rfl)) rfl rfl (Nat.le_of_ble_eq_true rfl) 1 rfl h.le.2.2 h.br rfl dX2_walk_32 ?_ (fun E q S hT => rc_out hC hH.2.2.2.2 hT)
  intro _ S h
  show rc_Z Y S 35 [some (rc_q v0), none, some (rc_i v2), none] []
  refine rc_aload_n (pc := 35) hC dX2_walk_35 rfl rfl ?_
  refine rc_r_getq (pc := 36) hC rF_X2_29 dX2_walk_36 h ?_
  intro x1 h
  refine rc_r_getq (pc := 39) hC rF_X2_101 dX2_walk_39 h ?_
  intro x2 h
  refine rc_iload_n (pc := 42) hC dX2_walk_42 rfl rfl ?_
  obtain ⟨⟨fs, ho⟩, h⟩ := h.is
  refine rc_callF (x0 := rc_xget) (y := yJ7_get) (pc := 43) hC rfl ho (rw_J7_get hH.1 x2 v2) q991 q941 q943 q128 q945 (List.mem_of_getElem? (i := 2) rfl) ⟨by decide, by decide, rd_J7_get.2.2⟩ (hH.room (Nat.le_of_ble_eq_true rfl) (Nat.le_of_ble_eq_true rfl)) rfl rfl (Nat.le_of_ble_eq_true rfl) 1 rfl h.le.2.2 h.br rfl dX2_walk_43 ?_ (fun E q S hT => rc_out hC hH.2.2.2.2 hT)
  intro x3 S h
  show rc_Z Y S 48 [some (rc_q v0), none, some (rc_i v2), none] [rc_q x3]
  refine rc_r_cast (pc := 48) hC rK_X2_201 dX2_walk_48 h ?_
  intro h
  refine rc_iconst (pc := 51) hC (v := (-1 : Int32)) dX2_walk_51 rfl ?_
  refine rc_r_put (pc := 52) hC rP_X2_235 (nofun) dX2_walk_52 h ?_
  intro S h
  exact rc_vret hC rfl dX2_walk_55 h rfl
theorem rw_X2_walk_L87 {Y : rc_Y} (hC : rc_C Y cX2_walk RX2 (Option.none : Option Jvm.ClassFile.FieldType) 4) (hH : rc_H Y 12 229 yX2_walk.name) (v0 : Option Nat) (v2 : Int32) (s0 : Int32) (s1 : Option Nat) (S : rc_S) (h : rc_Go Y rc_tU (rp_X2_walk_L87  v0 v2 s0 s1) S) : rc_Z Y S 87 [some (rc_q v0), none, some (rc_i v2), none] [rc_i s0, rc_q s1] := by
  unfold rp_X2_walk_L87 at h
  obtain ⟨⟨fs, ho⟩, h⟩ := h.is
  refine rc_callV (pc := 87) hC rfl ho (rw_X2_end hH.1 s1 s0) q725 q727 qs5 q123 q728 rfl rd_X2_end (hH.room (Nat.le_of_ble_eq_true rfl) (Nat.le_of_ble_eq_true rfl)) rfl rfl (Nat.le_of_ble_eq_true rfl) 1 rfl h.le.2.2 h.br rfl dX2_walk_87 ?_ (fun E q S hT => rc_out hC hH.2.2.2.2 hT)
  intro _ S h
  show rc_Z Y S 90 [some (rc_q v0), none, some (rc_i v2), none] []
  refine rc_aload_n (pc := 90) hC dX2_walk_90 rfl rfl ?_
  refine rc_r_getq (pc := 91) hC rF_X2_29 dX2_walk_91 h ?_
  intro x1 h
  refine rc_iload_n (pc := 94) hC dX2_walk_94 rfl rfl ?_
  obtain ⟨⟨fs, ho⟩, h⟩ := h.is
  refine rc_callV (pc := 95) hC rfl ho (rw_X3_claim hH.1 x1 v2) q1015 q1016 q1017 q126 q1018 rfl rd_X3_claim (hH.room (Nat.le_of_ble_eq_true rfl) (Nat.le_of_ble_eq_true rfl)) rfl rfl (Nat.le_of_ble_eq_true rfl) 1 rfl h.le.2.2 h.br rfl dX2_walk_95 ?_ (fun E q S hT => rc_out hC hH.2.2.2.2 hT)
  intro x2 S h
  show rc_Z Y S 98 [some (rc_q v0), none, some (rc_i v2), none] [rc_i x2]
  refine rc_pop (pc := 98) hC dX2_walk_98 rfl ?_
  refine rc_goto (pc := 99) (tgt := 153) hC dX2_walk_99 rfl ?_
  exact rc_vret hC rfl dX2_walk_153 h rfl
theorem rw_X2_walk_L140 {Y : rc_Y} (hC : rc_C Y cX2_walk RX2 (Option.none : Option Jvm.ClassFile.FieldType) 4) (hH : rc_H Y 12 229 yX2_walk.name) (v0 : Option Nat) (v2 : Int32) (v3 : Int32) (s0 : Int32) (s1 : Option Nat) (S : rc_S) (h : rc_Go Y rc_tU (rp_X2_walk_L140  v0 v2 v3 s0 s1) S) : rc_Z Y S 140 [some (rc_q v0), none, some (rc_i v2), some (rc_i v3)] [rc_i s0, rc_q s1] := by
  unfold rp_X2_walk_L140 at h
  obtain ⟨⟨fs, ho⟩, h⟩ := h.is
  refine rc_callV (pc := 140) hC rfl ho (rw_X2_end hH.1 s1 s0) q725 q727 qs5 q123 q728 rfl rd_X2_end (hH.room (Nat.le_of_ble_eq_true rfl) (Nat.le_of_ble_eq_true rfl)) rfl rfl (Nat.le_of_ble_eq_true rfl) 1 rfl h.le.2.2 h.br rfl dX2_walk_140 ?_ (fun E q S hT => rc_out hC hH.2.2.2.2 hT)
  intro _ S h
  show rc_Z Y S 143 [some (rc_q v0), none, some (rc_i v2), some (rc_i v3)] []
  refine rc_aload_n (pc := 143) hC dX2_walk_143 rfl rfl ?_
  refine rc_r_getq (pc := 144) hC rF_X2_29 dX2_walk_144 h ?_
  intro x1 h
  refine rc_iload_n (pc := 147) hC dX2_walk_147 rfl rfl ?_
  refine rc_iload_n (pc := 148) hC dX2_walk_148 rfl rfl ?_
  obtain ⟨⟨fs, ho⟩, h⟩ := h.is
  refine rc_callV (pc := 149) hC rfl ho (rw_X3_step hH.1 x1 v2 v3) q1050 q1051 q1052 q126 q1053 rfl rd_X3_step (hH.room (Nat.le_of_ble_eq_true rfl) (Nat.le_of_ble_eq_true rfl)) rfl rfl (Nat.le_of_ble_eq_true rfl) 2 rfl h.le.2.2 h.br rfl dX2_walk_149 ?_ (fun E q S hT => rc_out hC hH.2.2.2.2 hT)
  intro x2 S h
  show rc_Z Y S 152 [some (rc_q v0), none, some (rc_i v2), some (rc_i v3)] [rc_i x2]
  refine rc_pop (pc := 152) hC dX2_walk_152 rfl ?_
  exact rc_vret hC rfl dX2_walk_153 h rfl
theorem rw_X2_walk {l : Launch} (hl : l.stackTraces = false) (v0 : Option Nat) (v1 : Option Nat) : rc_Ct l yX2_walk (ws_ yX2_walk cX2_walk 4 (Option.none : Option Jvm.ClassFile.FieldType)) 12 229 rc_tU (rp_X2_walk v0 v1) [rc_q v0, rc_q v1] := by
  refine rc_Ct_H hl (plainFor_of_name rY_X2) rfl (Nat.le_of_ble_eq_true rfl) (L0 := [some (rc_q v0), some (rc_q v1), none, none]) rfl ?_
  intro Y S hC hH h
  have hC : rc_C Y cX2_walk RX2 (Option.none : Option Jvm.ClassFile.FieldType) 4 := hC
  unfold rp_X2_walk at h
  refine rc_aload_n (pc := 0) hC dX2_walk_0 rfl rfl ?_
  refine rc_r_text (pc := 1) hC (i := 14) rfl dX2_walk_1 h ?_
  intro x1 h
  obtain ⟨⟨fs, ho⟩, h⟩ := h.is
  refine rc_callV (pc := 3) hC rfl ho (rw_J4_equals hH.1 v1 x1) q687 q688 q689 q121 q690 rfl rd_J4_equals (hH.room (Nat.le_of_ble_eq_true rfl) (Nat.le_of_ble_eq_true rfl)) rfl rfl (Nat.le_of_ble_eq_true rfl) 1 rfl h.le.2.2 h.br rfl dX2_walk_3 ?_ (fun E q S hT => rc_out hC hH.2.2.2.2 hT)
  intro x2 S h
  show rc_Z Y S 6 [some (rc_q v0), some (rc_q v1), none, none] [rc_i x2]
  refine rc_if_eq (pc := 6) (tgt := 56) hC dX2_walk_6 rfl h ?_ ?_
  · intro _ h
    refine rc_aload_n (pc := 56) hC dX2_walk_56 rfl rfl ?_
    obtain ⟨⟨fs, ho⟩, h⟩ := h.is
    refine rc_callV (pc := 57) hC rfl ho (rw_X2_cat hH.1 v0) q992 q994 qs16 q123 q995 rfl rd_X2_cat (hH.room (Nat.le_of_ble_eq_true rfl) (Nat.le_of_ble_eq_true rfl)) rfl rfl (Nat.le_of_ble_eq_true rfl) 0 rfl h.le.2.2 h.br rfl dX2_walk_57 ?_ (fun E q S hT => rc_out hC hH.2.2.2.2 hT)
    intro x3 S h
    show rc_Z Y S 60 [some (rc_q v0), some (rc_q v1), none, none] [rc_i x3]
    refine rc_istore_n (pc := 60) hC (L' := [some (rc_q v0), some (rc_q v1), some (rc_i x3), none]) dX2_walk_60 rfl (Nat.le_of_ble_eq_true rfl) rfl rfl ?_
    refine rc_aload_n (pc := 61) hC dX2_walk_61 rfl rfl ?_
    refine rc_r_text (pc := 62) hC (i := 13) rfl dX2_walk_62 h ?_
    intro x4 h
    obtain ⟨⟨fs, ho⟩, h⟩ := h.is
    refine rc_callV (pc := 64) hC rfl ho (rw_J4_equals hH.1 v1 x4) q687 q688 q689 q121 q690 rfl rd_J4_equals (hH.room (Nat.le_of_ble_eq_true rfl) (Nat.le_of_ble_eq_true rfl)) rfl rfl (Nat.le_of_ble_eq_true rfl) 1 rfl h.le.2.2 h.br rfl dX2_walk_64 ?_ (fun E q S hT => rc_out hC hH.2.2.2.2 hT)
    intro x5 S h
    show rc_Z Y S 67 [some (rc_q v0), some (rc_q v1), some (rc_i x3), none] [rc_i x5]
    refine rc_if_eq (pc := 67) (tgt := 102) hC dX2_walk_67 rfl h ?_ ?_
    · intro _ h
      refine rc_aload_n (pc := 102) hC dX2_walk_102 rfl rfl ?_
      refine rc_iconst (pc := 103) hC (v := (0 : Int32)) dX2_walk_103 rfl ?_
      refine rc_aload_n (pc := 104) hC dX2_walk_104 rfl rfl ?_
      refine rc_r_getq (pc := 105) hC rF_X2_29 dX2_walk_105 h ?_
      intro x6 h
      refine rc_r_getq (pc := 108) hC rF_X2_214 dX2_walk_108 h ?_
      intro x7 h
      obtain ⟨⟨fs, ho⟩, h⟩ := h.is
      refine rc_callF (x0 := rc_xsize) (y := yJ7_size) (pc := 111) hC rfl ho (rw_J7_size hH.1 x7) q819 q823 q825 q128 q827 (List.mem_of_getElem? (i := 0) rfl) ⟨by decide, by decide, rd_J7_size.2.2⟩ (hH.room (Nat.le_of_ble_eq_true rfl) (Nat.le_of_ble_eq_true rfl)) rfl rfl (Nat.le_of_ble_eq_true rfl) 0 rfl h.le.2.2 h.br rfl dX2_walk_111 ?_ (fun E q S hT => rc_out hC hH.2.2.2.2 hT)
      intro x8 S h
      show rc_Z Y S 116 [some (rc_q v0), some (rc_q v1), some (rc_i x3), none] [rc_i x8, rc_i (0 : Int32), rc_q v0]
      refine rc_iconst (pc := 116) hC (v := (1 : Int32)) dX2_walk_116 rfl ?_
      refine rc_isub (pc := 117) hC dX2_walk_117 ?_
      obtain ⟨⟨fs, ho⟩, h⟩ := h.is
      refine rc_callV (pc := 118) hC rfl ho (rw_X2_number hH.1 v0 (0 : Int32) (x8 - (1 : Int32))) q738 q740 qs8 q123 q741 rfl rd_X2_number (hH.room (Nat.le_of_ble_eq_true rfl) (Nat.le_of_ble_eq_true rfl)) rfl rfl (Nat.le_of_ble_eq_true rfl) 2 rfl h.le.2.2 h.br rfl dX2_walk_118 ?_ (fun E q S hT => rc_out hC hH.2.2.2.2 hT)
      intro x9 S h
      show rc_Z Y S 121 [some (rc_q v0), some (rc_q v1), some (rc_i x3), none] [rc_i x9]
      refine rc_istore_n (pc := 121) hC (L' := [some (rc_q v0), some (rc_q v1), some (rc_i x3), some (rc_i x9)]) dX2_walk_121 rfl (Nat.le_of_ble_eq_true rfl) rfl rfl ?_
      refine rc_aload_n (pc := 122) hC dX2_walk_122 rfl rfl ?_
      refine rc_aload_n (pc := 123) hC dX2_walk_123 rfl rfl ?_
      refine rc_r_getq (pc := 124) hC rF_X2_29 dX2_walk_124 h ?_
      intro x10 h
      refine rc_iload_n (pc := 127) hC dX2_walk_127 rfl rfl ?_
      refine rc_iload_n (pc := 128) hC dX2_walk_128 rfl rfl ?_
      obtain ⟨⟨fs, ho⟩, h⟩ := h.is
      refine rc_callV (pc := 129) hC rfl ho (rw_X3_judgeStep hH.1 x10 x3 x9) q1019 q1020 q1021 q126 q1022 rfl rd_X3_judgeStep (hH.room (Nat.le_of_ble_eq_true rfl) (Nat.le_of_ble_eq_true rfl)) rfl rfl (Nat.le_of_ble_eq_true rfl) 2 rfl h.le.2.2 h.br rfl dX2_walk_129 ?_ (fun E q S hT => rc_out hC hH.2.2.2.2 hT)
      intro x11 S h
      show rc_Z Y S 132 [some (rc_q v0), some (rc_q v1), some (rc_i x3), some (rc_i x9)] [rc_i x11, rc_q v0]
      refine rc_if_ne (pc := 132) (tgt := 139) hC dX2_walk_132 rfl h ?_ ?_
      · intro _ h
        refine rc_iconst (pc := 139) hC (v := (0 : Int32)) dX2_walk_139 rfl ?_
        refine rc_drop [true, false, true, true] (L' := [some (rc_q v0), none, some (rc_i x3), some (rc_i x9)]) rfl ?_
        exact rw_X2_walk_L140 hC hH  v0 x3 x9 (0 : Int32) v0 S h
      intro _ h
      refine rc_iconst (pc := 135) hC (v := (1 : Int32)) dX2_walk_135 rfl ?_
      refine rc_goto (pc := 136) (tgt := 140) hC dX2_walk_136 rfl ?_
      refine rc_drop [true, false, true, true] (L' := [some (rc_q v0), none, some (rc_i x3), some (rc_i x9)]) rfl ?_
      exact rw_X2_walk_L140 hC hH  v0 x3 x9 (1 : Int32) v0 S h
    intro _ h
    refine rc_aload_n (pc := 70) hC dX2_walk_70 rfl rfl ?_
    refine rc_aload_n (pc := 71) hC dX2_walk_71 rfl rfl ?_
    refine rc_r_getq (pc := 72) hC rF_X2_29 dX2_walk_72 h ?_
    intro x12 h
    refine rc_iload_n (pc := 75) hC dX2_walk_75 rfl rfl ?_
    obtain ⟨⟨fs, ho⟩, h⟩ := h.is
    refine rc_callV (pc := 76) hC rfl ho (rw_X3_judgeClaim hH.1 x12 x3) q996 q997 q998 q126 q999 rfl rd_X3_judgeClaim (hH.room (Nat.le_of_ble_eq_true rfl) (Nat.le_of_ble_eq_true rfl)) rfl rfl (Nat.le_of_ble_eq_true rfl) 1 rfl h.le.2.2 h.br rfl dX2_walk_76 ?_ (fun E q S hT => rc_out hC hH.2.2.2.2 hT)
    intro x13 S h
    show rc_Z Y S 79 [some (rc_q v0), some (rc_q v1), some (rc_i x3), none] [rc_i x13, rc_q v0]
    refine rc_if_ne (pc := 79) (tgt := 86) hC dX2_walk_79 rfl h ?_ ?_
    · intro _ h
      refine rc_iconst (pc := 86) hC (v := (0 : Int32)) dX2_walk_86 rfl ?_
      refine rc_drop [true, false, true, false] (L' := [some (rc_q v0), none, some (rc_i x3), none]) rfl ?_
      exact rw_X2_walk_L87 hC hH  v0 x3 (0 : Int32) v0 S h
    intro _ h
    refine rc_iconst (pc := 82) hC (v := (1 : Int32)) dX2_walk_82 rfl ?_
    refine rc_goto (pc := 83) (tgt := 87) hC dX2_walk_83 rfl ?_
    refine rc_drop [true, false, true, false] (L' := [some (rc_q v0), none, some (rc_i x3), none]) rfl ?_
    exact rw_X2_walk_L87 hC hH  v0 x3 (1 : Int32) v0 S h
  intro _ h
  refine rc_aload_n (pc := 9) hC dX2_walk_9 rfl rfl ?_
  obtain ⟨⟨fs, ho⟩, h⟩ := h.is
  refine rc_callV (pc := 10) hC rfl ho (rw_X2_chimney hH.1 v0) q904 q906 qs13 q123 q907 rfl rd_X2_chimney (hH.room (Nat.le_of_ble_eq_true rfl) (Nat.le_of_ble_eq_true rfl)) rfl rfl (Nat.le_of_ble_eq_true rfl) 0 rfl h.le.2.2 h.br rfl dX2_walk_10 ?_ (fun E q S hT => rc_out hC hH.2.2.2.2 hT)
  intro x14 S h
  show rc_Z Y S 13 [some (rc_q v0), some (rc_q v1), none, none] [rc_i x14]
  refine rc_istore_n (pc := 13) hC (L' := [some (rc_q v0), some (rc_q v1), some (rc_i x14), none]) dX2_walk_13 rfl (Nat.le_of_ble_eq_true rfl) rfl rfl ?_
  refine rc_aload_n (pc := 14) hC dX2_walk_14 rfl rfl ?_
  refine rc_aload_n (pc := 15) hC dX2_walk_15 rfl rfl ?_
  refine rc_r_getq (pc := 16) hC rF_X2_29 dX2_walk_16 h ?_
  intro x15 h
  refine rc_iload_n (pc := 19) hC dX2_walk_19 rfl rfl ?_
  obtain ⟨⟨fs, ho⟩, h⟩ := h.is
  refine rc_callV (pc := 20) hC rfl ho (rw_X3_owner hH.1 x15 x14) q985 q986 q987 q126 q988 rfl rd_X3_owner (hH.room (Nat.le_of_ble_eq_true rfl) (Nat.le_of_ble_eq_true rfl)) rfl rfl (Nat.le_of_ble_eq_true rfl) 1 rfl h.le.2.2 h.br rfl dX2_walk_20 ?_ (fun E q S hT => rc_out hC hH.2.2.2.2 hT)
  intro x16 S h
  show rc_Z Y S 23 [some (rc_q v0), some (rc_q v1), some (rc_i x14), none] [rc_i x16, rc_q v0]
  refine rc_iconst (pc := 23) hC (v := (-1 : Int32)) dX2_walk_23 rfl ?_
  refine rc_icmp_eq (pc := 24) (tgt := 31) hC dX2_walk_24 rfl h ?_ ?_
  · intro _ h
    refine rc_iconst (pc := 31) hC (v := (0 : Int32)) dX2_walk_31 rfl ?_
    refine rc_drop [true, false, true, false] (L' := [some (rc_q v0), none, some (rc_i x14), none]) rfl ?_
    exact rw_X2_walk_L32 hC hH  v0 x14 (0 : Int32) v0 S h
  intro _ h
  refine rc_iconst (pc := 27) hC (v := (1 : Int32)) dX2_walk_27 rfl ?_
  refine rc_goto (pc := 28) (tgt := 32) hC dX2_walk_28 rfl ?_
  refine rc_drop [true, false, true, false] (L' := [some (rc_q v0), none, some (rc_i x14), none]) rfl ?_
  exact rw_X2_walk_L32 hC hH  v0 x14 (1 : Int32) v0 S h
theorem rw_X2_meet_L50 {Y : rc_Y} (hC : rc_C Y cX2_meet RX2 (Option.none : Option Jvm.ClassFile.FieldType) 6) (hH : rc_H Y 12 231 yX2_meet.name) (v0 : Option Nat) (v2 : Int32) (v3 : Int32) (s0 : Int32) (s1 : Option Nat) (S : rc_S) (h : rc_Go Y rc_tU (rp_X2_meet_L50  v0 v2 v3 s0 s1) S) : rc_Z Y S 50 [some (rc_q v0), none, some (rc_i v2), some (rc_i v3), none, none] [rc_i s0, rc_q s1] := by
  unfold rp_X2_meet_L50 at h
  obtain ⟨⟨fs, ho⟩, h⟩ := h.is
  refine rc_callV (pc := 50) hC rfl ho (rw_X2_end hH.1 s1 s0) q725 q727 qs5 q123 q728 rfl rd_X2_end (hH.room (Nat.le_of_ble_eq_true rfl) (Nat.le_of_ble_eq_true rfl)) rfl rfl (Nat.le_of_ble_eq_true rfl) 1 rfl h.le.2.2 h.br rfl dX2_meet_50 ?_ (fun E q S hT => rc_out hC hH.2.2.2.2 hT)
  intro _ S h
  show rc_Z Y S 53 [some (rc_q v0), none, some (rc_i v2), some (rc_i v3), none, none] []
  refine rc_aload_n (pc := 53) hC dX2_meet_53 rfl rfl ?_
  refine rc_r_getq (pc := 54) hC rF_X2_29 dX2_meet_54 h ?_
  intro x1 h
  refine rc_iload_n (pc := 57) hC dX2_meet_57 rfl rfl ?_
  refine rc_iload_n (pc := 58) hC dX2_meet_58 rfl rfl ?_
  obtain ⟨⟨fs, ho⟩, h⟩ := h.is
  refine rc_callV (pc := 59) hC rfl ho (rw_X3_chase hH.1 x1 v2 v3) q1079 q1080 q1081 q126 q1082 rfl rd_X3_chase (hH.room (Nat.le_of_ble_eq_true rfl) (Nat.le_of_ble_eq_true rfl)) rfl rfl (Nat.le_of_ble_eq_true rfl) 2 rfl h.le.2.2 h.br rfl dX2_meet_59 ?_ (fun E q S hT => rc_out hC hH.2.2.2.2 hT)
  intro x2 S h
  show rc_Z Y S 62 [some (rc_q v0), none, some (rc_i v2), some (rc_i v3), none, none] [rc_i x2]
  refine rc_pop (pc := 62) hC dX2_meet_62 rfl ?_
  refine rc_goto (pc := 63) (tgt := 113) hC dX2_meet_63 rfl ?_
  exact rc_vret hC rfl dX2_meet_113 h rfl
theorem rw_X2_meet {l : Launch} (hl : l.stackTraces = false) (v0 : Option Nat) (v1 : Option Nat) : rc_Ct l yX2_meet (ws_ yX2_meet cX2_meet 6 (Option.none : Option Jvm.ClassFile.FieldType)) 12 231 rc_tU (rp_X2_meet v0 v1) [rc_q v0, rc_q v1] := by
  refine rc_Ct_H hl (plainFor_of_name rY_X2) rfl (Nat.le_of_ble_eq_true rfl) (L0 := [some (rc_q v0), some (rc_q v1), none, none, none, none]) rfl ?_
  intro Y S hC hH h
  have hC : rc_C Y cX2_meet RX2 (Option.none : Option Jvm.ClassFile.FieldType) 6 := hC
  unfold rp_X2_meet at h
  refine rc_aload_n (pc := 0) hC dX2_meet_0 rfl rfl ?_
  obtain ⟨⟨fs, ho⟩, h⟩ := h.is
  refine rc_callV (pc := 1) hC rfl ho (rw_X2_cat hH.1 v0) q992 q994 qs16 q123 q995 rfl rd_X2_cat (hH.room (Nat.le_of_ble_eq_true rfl) (Nat.le_of_ble_eq_true rfl)) rfl rfl (Nat.le_of_ble_eq_true rfl) 0 rfl h.le.2.2 h.br rfl dX2_meet_1 ?_ (fun E q S hT => rc_out hC hH.2.2.2.2 hT)
  intro x1 S h
  show rc_Z Y S 4 [some (rc_q v0), some (rc_q v1), none, none, none, none] [rc_i x1]
  refine rc_istore_n (pc := 4) hC (L' := [some (rc_q v0), some (rc_q v1), some (rc_i x1), none, none, none]) dX2_meet_4 rfl (Nat.le_of_ble_eq_true rfl) rfl rfl ?_
  refine rc_aload_n (pc := 5) hC dX2_meet_5 rfl rfl ?_
  refine rc_iload_n (pc := 6) hC dX2_meet_6 rfl rfl ?_
  refine rc_aload_n (pc := 7) hC dX2_meet_7 rfl rfl ?_
  refine rc_r_getq (pc := 8) hC rF_X2_29 dX2_meet_8 h ?_
  intro x2 h
  refine rc_r_getq (pc := 11) hC rF_X2_114 dX2_meet_11 h ?_
  intro x3 h
  obtain ⟨⟨fs, ho⟩, h⟩ := h.is
  refine rc_callF (x0 := rc_xsize) (y := yJ7_size) (pc := 14) hC rfl ho (rw_J7_size hH.1 x3) q819 q823 q825 q128 q827 (List.mem_of_getElem? (i := 0) rfl) ⟨by decide, by decide, rd_J7_size.2.2⟩ (hH.room (Nat.le_of_ble_eq_true rfl) (Nat.le_of_ble_eq_true rfl)) rfl rfl (Nat.le_of_ble_eq_true rfl) 0 rfl h.le.2.2 h.br rfl dX2_meet_14 ?_ (fun E q S hT => rc_out hC hH.2.2.2.2 hT)
  intro x4 S h
  show rc_Z Y S 19 [some (rc_q v0), some (rc_q v1), some (rc_i x1), none, none, none] [rc_i x4, rc_i x1, rc_q v0]
  obtain ⟨⟨fs, ho⟩, h⟩ := h.is
  refine rc_callV (pc := 19) hC rfl ho (rw_X2_numberBut hH.1 v0 x1 x4) q908 q910 qs14 q123 q911 rfl rd_X2_numberBut (hH.room (Nat.le_of_ble_eq_true rfl) (Nat.le_of_ble_eq_true rfl)) rfl rfl (Nat.le_of_ble_eq_true rfl) 2 rfl h.le.2.2 h.br rfl dX2_meet_19 ?_ (fun E q S hT => rc_out hC hH.2.2.2.2 hT)
  intro x5 S h
  show rc_Z Y S 22 [some (rc_q v0), some (rc_q v1), some (rc_i x1), none, none, none] [rc_i x5]
  refine rc_istore_n (pc := 22) hC (L' := [some (rc_q v0), some (rc_q v1), some (rc_i x1), some (rc_i x5), none, none]) dX2_meet_22 rfl (Nat.le_of_ble_eq_true rfl) rfl rfl ?_
  refine rc_aload_n (pc := 23) hC dX2_meet_23 rfl rfl ?_
  refine rc_r_text (pc := 24) hC (i := 15) rfl dX2_meet_24 h ?_
  intro x6 h
  obtain ⟨⟨fs, ho⟩, h⟩ := h.is
  refine rc_callV (pc := 26) hC rfl ho (rw_J4_equals hH.1 v1 x6) q687 q688 q689 q121 q690 rfl rd_J4_equals (hH.room (Nat.le_of_ble_eq_true rfl) (Nat.le_of_ble_eq_true rfl)) rfl rfl (Nat.le_of_ble_eq_true rfl) 1 rfl h.le.2.2 h.br rfl dX2_meet_26 ?_ (fun E q S hT => rc_out hC hH.2.2.2.2 hT)
  intro x7 S h
  show rc_Z Y S 29 [some (rc_q v0), some (rc_q v1), some (rc_i x1), some (rc_i x5), none, none] [rc_i x7]
  refine rc_if_eq (pc := 29) (tgt := 66) hC dX2_meet_29 rfl h ?_ ?_
  · intro _ h
    refine rc_aload_n (pc := 66) hC dX2_meet_66 rfl rfl ?_
    refine rc_iconst (pc := 67) hC (v := (1 : Int32)) dX2_meet_67 rfl ?_
    refine rc_bipush (pc := 68) hC (v := (9 : Int32)) dX2_meet_68 rfl ?_
    obtain ⟨⟨fs, ho⟩, h⟩ := h.is
    refine rc_callV (pc := 70) hC rfl ho (rw_X2_number hH.1 v0 (1 : Int32) (9 : Int32)) q738 q740 qs8 q123 q741 rfl rd_X2_number (hH.room (Nat.le_of_ble_eq_true rfl) (Nat.le_of_ble_eq_true rfl)) rfl rfl (Nat.le_of_ble_eq_true rfl) 2 rfl h.le.2.2 h.br rfl dX2_meet_70 ?_ (fun E q S hT => rc_out hC hH.2.2.2.2 hT)
    intro x8 S h
    show rc_Z Y S 73 [some (rc_q v0), some (rc_q v1), some (rc_i x1), some (rc_i x5), none, none] [rc_i x8]
    refine rc_istore (pc := 73) hC (L' := [some (rc_q v0), some (rc_q v1), some (rc_i x1), some (rc_i x5), some (rc_i x8), none]) dX2_meet_73 (Nat.le_of_ble_eq_true rfl) rfl rfl ?_
    refine rc_aload_n (pc := 75) hC dX2_meet_75 rfl rfl ?_
    refine rc_iconst (pc := 76) hC (v := (1 : Int32)) dX2_meet_76 rfl ?_
    refine rc_bipush (pc := 77) hC (v := (20 : Int32)) dX2_meet_77 rfl ?_
    obtain ⟨⟨fs, ho⟩, h⟩ := h.is
    refine rc_callV (pc := 79) hC rfl ho (rw_X2_number hH.1 v0 (1 : Int32) (20 : Int32)) q738 q740 qs8 q123 q741 rfl rd_X2_number (hH.room (Nat.le_of_ble_eq_true rfl) (Nat.le_of_ble_eq_true rfl)) rfl rfl (Nat.le_of_ble_eq_true rfl) 2 rfl h.le.2.2 h.br rfl dX2_meet_79 ?_ (fun E q S hT => rc_out hC hH.2.2.2.2 hT)
    intro x9 S h
    show rc_Z Y S 82 [some (rc_q v0), some (rc_q v1), some (rc_i x1), some (rc_i x5), some (rc_i x8), none] [rc_i x9]
    refine rc_istore (pc := 82) hC (L' := [some (rc_q v0), some (rc_q v1), some (rc_i x1), some (rc_i x5), some (rc_i x8), some (rc_i x9)]) dX2_meet_82 (Nat.le_of_ble_eq_true rfl) rfl rfl ?_
    refine rc_aload_n (pc := 84) hC dX2_meet_84 rfl rfl ?_
    refine rc_aload_n (pc := 85) hC dX2_meet_85 rfl rfl ?_
    refine rc_r_getq (pc := 86) hC rF_X2_29 dX2_meet_86 h ?_
    intro x10 h
    refine rc_iload_n (pc := 89) hC dX2_meet_89 rfl rfl ?_
    refine rc_iload_n (pc := 90) hC dX2_meet_90 rfl rfl ?_
    refine rc_iload (pc := 91) hC dX2_meet_91 rfl ?_
    obtain ⟨⟨fs, ho⟩, h⟩ := h.is
    refine rc_callV (pc := 93) hC rfl ho (rw_X3_canBuy hH.1 x10 x1 x5 x8) q1088 q1089 q1090 q126 q1091 rfl rd_X3_canBuy (hH.room (Nat.le_of_ble_eq_true rfl) (Nat.le_of_ble_eq_true rfl)) rfl rfl (Nat.le_of_ble_eq_true rfl) 3 rfl h.le.2.2 h.br rfl dX2_meet_93 ?_ (fun E q S hT => rc_out hC hH.2.2.2.2 hT)
    intro x11 S h
    show rc_Z Y S 96 [some (rc_q v0), some (rc_q v1), some (rc_i x1), some (rc_i x5), some (rc_i x8), some (rc_i x9)] [rc_i x11, rc_q v0]
    obtain ⟨⟨fs, ho⟩, h⟩ := h.is
    refine rc_callV (pc := 96) hC rfl ho (rw_X2_end hH.1 v0 x11) q725 q727 qs5 q123 q728 rfl rd_X2_end (hH.room (Nat.le_of_ble_eq_true rfl) (Nat.le_of_ble_eq_true rfl)) rfl rfl (Nat.le_of_ble_eq_true rfl) 1 rfl h.le.2.2 h.br rfl dX2_meet_96 ?_ (fun E q S hT => rc_out hC hH.2.2.2.2 hT)
    intro _ S h
    show rc_Z Y S 99 [some (rc_q v0), some (rc_q v1), some (rc_i x1), some (rc_i x5), some (rc_i x8), some (rc_i x9)] []
    refine rc_aload_n (pc := 99) hC dX2_meet_99 rfl rfl ?_
    refine rc_r_getq (pc := 100) hC rF_X2_29 dX2_meet_100 h ?_
    intro x12 h
    refine rc_iload_n (pc := 103) hC dX2_meet_103 rfl rfl ?_
    refine rc_iload_n (pc := 104) hC dX2_meet_104 rfl rfl ?_
    refine rc_iload (pc := 105) hC dX2_meet_105 rfl ?_
    refine rc_iload (pc := 107) hC dX2_meet_107 rfl ?_
    obtain ⟨⟨fs, ho⟩, h⟩ := h.is
    refine rc_callV (pc := 109) hC rfl ho (rw_X3_buyTruce hH.1 x12 x1 x5 x8 x9) q1092 q1093 q1094 q126 q1095 rfl rd_X3_buyTruce (hH.room (Nat.le_of_ble_eq_true rfl) (Nat.le_of_ble_eq_true rfl)) rfl rfl (Nat.le_of_ble_eq_true rfl) 4 rfl h.le.2.2 h.br rfl dX2_meet_109 ?_ (fun E q S hT => rc_out hC hH.2.2.2.2 hT)
    intro x13 S h
    show rc_Z Y S 112 [some (rc_q v0), some (rc_q v1), some (rc_i x1), some (rc_i x5), some (rc_i x8), some (rc_i x9)] [rc_i x13]
    refine rc_pop (pc := 112) hC dX2_meet_112 rfl ?_
    exact rc_vret hC rfl dX2_meet_113 h rfl
  intro _ h
  refine rc_aload_n (pc := 32) hC dX2_meet_32 rfl rfl ?_
  refine rc_aload_n (pc := 33) hC dX2_meet_33 rfl rfl ?_
  refine rc_r_getq (pc := 34) hC rF_X2_29 dX2_meet_34 h ?_
  intro x14 h
  refine rc_iload_n (pc := 37) hC dX2_meet_37 rfl rfl ?_
  refine rc_iload_n (pc := 38) hC dX2_meet_38 rfl rfl ?_
  obtain ⟨⟨fs, ho⟩, h⟩ := h.is
  refine rc_callV (pc := 39) hC rfl ho (rw_X3_judgeChase hH.1 x14 x1 x5) q1058 q1059 q1060 q126 q1061 rfl rd_X3_judgeChase (hH.room (Nat.le_of_ble_eq_true rfl) (Nat.le_of_ble_eq_true rfl)) rfl rfl (Nat.le_of_ble_eq_true rfl) 2 rfl h.le.2.2 h.br rfl dX2_meet_39 ?_ (fun E q S hT => rc_out hC hH.2.2.2.2 hT)
  intro x15 S h
  show rc_Z Y S 42 [some (rc_q v0), some (rc_q v1), some (rc_i x1), some (rc_i x5), none, none] [rc_i x15, rc_q v0]
  refine rc_if_ne (pc := 42) (tgt := 49) hC dX2_meet_42 rfl h ?_ ?_
  · intro _ h
    refine rc_iconst (pc := 49) hC (v := (0 : Int32)) dX2_meet_49 rfl ?_
    refine rc_drop [true, false, true, true, false, false] (L' := [some (rc_q v0), none, some (rc_i x1), some (rc_i x5), none, none]) rfl ?_
    exact rw_X2_meet_L50 hC hH  v0 x1 x5 (0 : Int32) v0 S h
  intro _ h
  refine rc_iconst (pc := 45) hC (v := (1 : Int32)) dX2_meet_45 rfl ?_
  refine rc_goto (pc := 46) (tgt := 50) hC dX2_meet_46 rfl ?_
  refine rc_drop [true, false, true, true, false, false] (L' := [some (rc_q v0), none, some (rc_i x1), some (rc_i x5), none, none]) rfl ?_
  exact rw_X2_meet_L50 hC hH  v0 x1 x5 (1 : Int32) v0 S h
theorem rw_X2_repeat_q0_L81 {Y : rc_Y} (hC : rc_C Y cX2_repeat RX2 (Option.none : Option Jvm.ClassFile.FieldType) 4) (hH : rc_H Y 11 209 yX2_repeat.name) {k67 : Option Nat → Int32 → Int32 → Int32 → rc_M Unit} (hk67 : ∀ (v0 : Option Nat) (v1 : Int32) (v2 : Int32) (v3 : Int32) (S : rc_S), rc_Go Y rc_tU (k67 v0 v1 v2 v3) S → rc_Z Y S 67 [some (rc_q v0), some (rc_i v1), some (rc_i v2), some (rc_i v3)] []) : ∀ (n : Nat) (v0 : Option Nat) (v1 : Int32) (v2 : Int32) (v3 : Int32) (S : rc_S), rc_Go Y rc_tU (rp_X2_repeat_L81 (fun _ => rc_fail) k67 n v0 v1 v2 v3) S → rc_Z Y S 81 [some (rc_q v0), some (rc_i v1), some (rc_i v2), some (rc_i v3)] [] := by
  intro n
  induction n with
  | zero => intro v0 v1 v2 v3 S h; exact h.fail.elim
  | succ n ih =>
    intro v0 v1 v2 v3 S h
    rw [rp_X2_repeat_L81] at h
    refine rc_aload_n (pc := 81) hC dX2_repeat_81 rfl rfl ?_
    refine rc_r_getq (pc := 82) hC rF_X2_15 dX2_repeat_82 h ?_
    intro x1 h
    refine rc_r_stat (pc := 85) hC rS_X2_80 dX2_repeat_85 h ?_
    intro x2 h
    refine rc_acmp_eq (pc := 88) (tgt := 98) hC dX2_repeat_88 rfl h ?_ ?_
    · intro _ h
      refine rc_iinc (pc := 98) hC (v := (v3 + (1 : Int32))) (L' := [some (rc_q v0), some (rc_i v1), some (rc_i v2), some (rc_i (v3 + (1 : Int32)))]) dX2_repeat_98 rfl rfl rfl rfl ?_
      refine rc_goto (pc := 101) (tgt := 67) hC dX2_repeat_101 rfl ?_
      exact hk67 v0 v1 v2 (v3 + (1 : Int32)) S h
    intro _ h
    refine rc_aload_n (pc := 91) hC dX2_repeat_91 rfl rfl ?_
    obtain ⟨⟨fs, ho⟩, h⟩ := h.is
    exact (rc_Go.bfail h).elim
theorem rw_X2_repeat_q0_L67 {Y : rc_Y} (hC : rc_C Y cX2_repeat RX2 (Option.none : Option Jvm.ClassFile.FieldType) 4) (hH : rc_H Y 11 209 yX2_repeat.name) : ∀ (n : Nat) (v0 : Option Nat) (v1 : Int32) (v2 : Int32) (v3 : Int32) (S : rc_S), rc_Go Y rc_tU (rp_X2_repeat_L67 (fun _ => rc_fail)  n v0 v1 v2 v3) S → rc_Z Y S 67 [some (rc_q v0), some (rc_i v1), some (rc_i v2), some (rc_i v3)] [] := by
  intro n
  induction n with
  | zero => intro v0 v1 v2 v3 S h; exact h.fail.elim
  | succ n ih =>
    intro v0 v1 v2 v3 S h
    rw [rp_X2_repeat_L67] at h
    refine rc_iload_n (pc := 67) hC dX2_repeat_67 rfl rfl ?_
    refine rc_iload_n (pc := 68) hC dX2_repeat_68 rfl rfl ?_
    refine rc_icmp_ge (pc := 69) (tgt := 104) hC dX2_repeat_69 rfl h ?_ ?_
    · intro _ h
      refine rc_aload_n (pc := 104) hC dX2_repeat_104 rfl rfl ?_
      refine rc_dup (pc := 105) hC dX2_repeat_105 rfl ?_
      refine rc_r_geti (pc := 106) hC rF_X2_261 dX2_repeat_106 h ?_
      intro x1 h
      refine rc_iconst (pc := 109) hC (v := (1 : Int32)) dX2_repeat_109 rfl ?_
      refine rc_isub (pc := 110) hC dX2_repeat_110 ?_
      refine rc_r_put (pc := 111) hC rP_X2_261 (nofun) dX2_repeat_111 h ?_
      intro S h
      refine rc_aload_n (pc := 114) hC dX2_repeat_114 rfl rfl ?_
      obtain ⟨⟨fs, ho⟩, h⟩ := h.is
      refine rc_callV (pc := 115) hC rfl ho (rw_X2_advance hH.1 v0) q298 q300 qs0 q123 q301 rfl rd_X2_advance (hH.room (Nat.le_of_ble_eq_true rfl) (Nat.le_of_ble_eq_true rfl)) rfl rfl (Nat.le_of_ble_eq_true rfl) 0 rfl h.le.2.2 h.br rfl dX2_repeat_115 ?_ (fun E q S hT => rc_out hC hH.2.2.2.2 hT)
      intro _ S h
      show rc_Z Y S 118 [some (rc_q v0), some (rc_i v1), some (rc_i v2), some (rc_i v3)] []
      refine rc_aload_n (pc := 118) hC dX2_repeat_118 rfl rfl ?_
      refine rc_iconst (pc := 119) hC (v := (1 : Int32)) dX2_repeat_119 rfl ?_
      obtain ⟨⟨fs, ho⟩, h⟩ := h.is
      refine rc_callV (pc := 120) hC rfl ho (rw_X2_end hH.1 v0 (1 : Int32)) q725 q727 qs5 q123 q728 rfl rd_X2_end (hH.room (Nat.le_of_ble_eq_true rfl) (Nat.le_of_ble_eq_true rfl)) rfl rfl (Nat.le_of_ble_eq_true rfl) 1 rfl h.le.2.2 h.br rfl dX2_repeat_120 ?_ (fun E q S hT => rc_out hC hH.2.2.2.2 hT)
      intro _ S h
      show rc_Z Y S 123 [some (rc_q v0), some (rc_i v1), some (rc_i v2), some (rc_i v3)] []
      refine rc_aload_n (pc := 123) hC dX2_repeat_123 rfl rfl ?_
      obtain ⟨⟨fs, ho⟩, h⟩ := h.is
      refine rc_callV (pc := 124) hC rfl ho (rw_X2_advance hH.1 v0) q298 q300 qs0 q123 q301 rfl rd_X2_advance (hH.room (Nat.le_of_ble_eq_true rfl) (Nat.le_of_ble_eq_true rfl)) rfl rfl (Nat.le_of_ble_eq_true rfl) 0 rfl h.le.2.2 h.br rfl dX2_repeat_124 ?_ (fun E q S hT => rc_out hC hH.2.2.2.2 hT)
      intro _ S h
      show rc_Z Y S 127 [some (rc_q v0), some (rc_i v1), some (rc_i v2), some (rc_i v3)] []
      exact rc_vret hC rfl dX2_repeat_127 h rfl
    intro _ h
    refine rc_aload_n (pc := 72) hC dX2_repeat_72 rfl rfl ?_
    refine rc_iload_n (pc := 73) hC dX2_repeat_73 rfl rfl ?_
    refine rc_r_put (pc := 74) hC rP_X2_39 (nofun) dX2_repeat_74 h ?_
    intro S h
    refine rc_aload_n (pc := 77) hC dX2_repeat_77 rfl rfl ?_
    obtain ⟨⟨fs, ho⟩, h⟩ := h.is
    refine rc_callV (pc := 78) hC rfl ho (rw_X2_advance hH.1 v0) q298 q300 qs0 q123 q301 rfl rd_X2_advance (hH.room (Nat.le_of_ble_eq_true rfl) (Nat.le_of_ble_eq_true rfl)) rfl rfl (Nat.le_of_ble_eq_true rfl) 0 rfl h.le.2.2 h.br rfl dX2_repeat_78 ?_ (fun E q S hT => rc_out hC hH.2.2.2.2 hT)
    intro _ S h
    show rc_Z Y S 81 [some (rc_q v0), some (rc_i v1), some (rc_i v2), some (rc_i v3)] []
    refine rc_r_fuel h ?_
    intro x2 h
    exact rw_X2_repeat_q0_L81 hC hH ih x2 v0 v1 v2 v3 S h
theorem rw_X2_repeat_q0_L46 {Y : rc_Y} (hC : rc_C Y cX2_repeat RX2 (Option.none : Option Jvm.ClassFile.FieldType) 4) (hH : rc_H Y 11 209 yX2_repeat.name) (v0 : Option Nat) (v1 : Int32) (s0 : Int32) (s1 : Option Nat) (S : rc_S) (h : rc_Go Y rc_tU (rp_X2_repeat_L46 (fun _ => rc_fail)  v0 v1 s0 s1) S) : rc_Z Y S 46 [some (rc_q v0), some (rc_i v1), none, none] [rc_i s0, rc_q s1] := by
  unfold rp_X2_repeat_L46 at h
  refine rc_iconst (pc := 46) hC (v := (1 : Int32)) dX2_repeat_46 rfl ?_
  obtain ⟨⟨fs, ho⟩, h⟩ := h.is
  refine rc_callV (pc := 47) hC rfl ho (rw_X2_check hH.1 s1 s0 (1 : Int32)) q695 q697 qs4 q123 q698 rfl rd_X2_check (hH.room (Nat.le_of_ble_eq_true rfl) (Nat.le_of_ble_eq_true rfl)) rfl rfl (Nat.le_of_ble_eq_true rfl) 2 rfl h.le.2.2 h.br rfl dX2_repeat_47 ?_ (fun E q S hT => rc_out hC hH.2.2.2.2 hT)
  intro _ S h
  show rc_Z Y S 50 [some (rc_q v0), some (rc_i v1), none, none] []
  refine rc_aload_n (pc := 50) hC dX2_repeat_50 rfl rfl ?_
  refine rc_r_geti (pc := 51) hC rF_X2_39 dX2_repeat_51 h ?_
  intro x1 h
  refine rc_istore_n (pc := 54) hC (L' := [some (rc_q v0), some (rc_i v1), some (rc_i x1), none]) dX2_repeat_54 rfl (Nat.le_of_ble_eq_true rfl) rfl rfl ?_
  refine rc_aload_n (pc := 55) hC dX2_repeat_55 rfl rfl ?_
  refine rc_dup (pc := 56) hC dX2_repeat_56 rfl ?_
  refine rc_r_geti (pc := 57) hC rF_X2_261 dX2_repeat_57 h ?_
  intro x2 h
  refine rc_iconst (pc := 60) hC (v := (1 : Int32)) dX2_repeat_60 rfl ?_
  refine rc_iadd (pc := 61) hC dX2_repeat_61 ?_
  refine rc_r_put (pc := 62) hC rP_X2_261 (nofun) dX2_repeat_62 h ?_
  intro S h
  refine rc_iconst (pc := 65) hC (v := (0 : Int32)) dX2_repeat_65 rfl ?_
  refine rc_istore_n (pc := 66) hC (L' := [some (rc_q v0), some (rc_i v1), some (rc_i x1), some (rc_i (0 : Int32))]) dX2_repeat_66 rfl (Nat.le_of_ble_eq_true rfl) rfl rfl ?_
  refine rc_r_fuel h ?_
  intro x3 h
  exact rw_X2_repeat_q0_L67 hC hH  x3 v0 v1 x1 (0 : Int32) S h
theorem rw_X2_repeat_q0_L14 {Y : rc_Y} (hC : rc_C Y cX2_repeat RX2 (Option.none : Option Jvm.ClassFile.FieldType) 4) (hH : rc_H Y 11 209 yX2_repeat.name) (v0 : Option Nat) (s0 : Int32) (s1 : Option Nat) (S : rc_S) (h : rc_Go Y rc_tU (rp_X2_repeat_L14 (fun _ => rc_fail)  v0 s0 s1) S) : rc_Z Y S 14 [some (rc_q v0), none, none, none] [rc_i s0, rc_q s1] := by
  unfold rp_X2_repeat_L14 at h
  refine rc_iconst (pc := 14) hC (v := (4 : Int32)) dX2_repeat_14 rfl ?_
  obtain ⟨⟨fs, ho⟩, h⟩ := h.is
  refine rc_callV (pc := 15) hC rfl ho (rw_X2_check hH.1 s1 s0 (4 : Int32)) q695 q697 qs4 q123 q698 rfl rd_X2_check (hH.room (Nat.le_of_ble_eq_true rfl) (Nat.le_of_ble_eq_true rfl)) rfl rfl (Nat.le_of_ble_eq_true rfl) 2 rfl h.le.2.2 h.br rfl dX2_repeat_15 ?_ (fun E q S hT => rc_out hC hH.2.2.2.2 hT)
  intro _ S h
  show rc_Z Y S 18 [some (rc_q v0), none, none, none] []
  refine rc_aload_n (pc := 18) hC dX2_repeat_18 rfl rfl ?_
  obtain ⟨⟨fs, ho⟩, h⟩ := h.is
  refine rc_callV (pc := 19) hC rfl ho (rw_X2_advance hH.1 v0) q298 q300 qs0 q123 q301 rfl rd_X2_advance (hH.room (Nat.le_of_ble_eq_true rfl) (Nat.le_of_ble_eq_true rfl)) rfl rfl (Nat.le_of_ble_eq_true rfl) 0 rfl h.le.2.2 h.br rfl dX2_repeat_19 ?_ (fun E q S hT => rc_out hC hH.2.2.2.2 hT)
  intro _ S h
  show rc_Z Y S 22 [some (rc_q v0), none, none, none] []
  refine rc_aload_n (pc := 22) hC dX2_repeat_22 rfl rfl ?_
  refine rc_iconst (pc := 23) hC (v := (1 : Int32)) dX2_repeat_23 rfl ?_
  refine rc_bipush (pc := 24) hC (v := (20 : Int32)) dX2_repeat_24 rfl ?_
  obtain ⟨⟨fs, ho⟩, h⟩ := h.is
  refine rc_callV (pc := 26) hC rfl ho (rw_X2_number hH.1 v0 (1 : Int32) (20 : Int32)) q738 q740 qs8 q123 q741 rfl rd_X2_number (hH.room (Nat.le_of_ble_eq_true rfl) (Nat.le_of_ble_eq_true rfl)) rfl rfl (Nat.le_of_ble_eq_true rfl) 2 rfl h.le.2.2 h.br rfl dX2_repeat_26 ?_ (fun E q S hT => rc_out hC hH.2.2.2.2 hT)
  intro x1 S h
  show rc_Z Y S 29 [some (rc_q v0), none, none, none] [rc_i x1]
  refine rc_istore_n (pc := 29) hC (L' := [some (rc_q v0), some (rc_i x1), none, none]) dX2_repeat_29 rfl (Nat.le_of_ble_eq_true rfl) rfl rfl ?_
  refine rc_aload_n (pc := 30) hC dX2_repeat_30 rfl rfl ?_
  refine rc_aload_n (pc := 31) hC dX2_repeat_31 rfl rfl ?_
  refine rc_r_getq (pc := 32) hC rF_X2_15 dX2_repeat_32 h ?_
  intro x2 h
  refine rc_r_stat (pc := 35) hC rS_X2_77 dX2_repeat_35 h ?_
  intro x3 h
  refine rc_acmp_ne (pc := 38) (tgt := 45) hC dX2_repeat_38 rfl h ?_ ?_
  · intro _ h
    refine rc_iconst (pc := 45) hC (v := (0 : Int32)) dX2_repeat_45 rfl ?_
    exact rw_X2_repeat_q0_L46 hC hH  v0 x1 (0 : Int32) v0 S h
  intro _ h
  refine rc_iconst (pc := 41) hC (v := (1 : Int32)) dX2_repeat_41 rfl ?_
  refine rc_goto (pc := 42) (tgt := 46) hC dX2_repeat_42 rfl ?_
  exact rw_X2_repeat_q0_L46 hC hH  v0 x1 (1 : Int32) v0 S h
theorem rw_X2_repeat_q0 {l : Launch} (hl : l.stackTraces = false) (v0 : Option Nat) : rc_Ct l yX2_repeat (ws_ yX2_repeat cX2_repeat 4 (Option.none : Option Jvm.ClassFile.FieldType)) 11 209 rc_tU (rp_X2_repeat (fun _ => rc_fail) v0) [rc_q v0] := by
  refine rc_Ct_H hl (plainFor_of_name rY_X2) rfl (Nat.le_of_ble_eq_true rfl) (L0 := [some (rc_q v0), none, none, none]) rfl ?_
  intro Y S hC hH h
  have hC : rc_C Y cX2_repeat RX2 (Option.none : Option Jvm.ClassFile.FieldType) 4 := hC
  unfold rp_X2_repeat at h
  refine rc_aload_n (pc := 0) hC dX2_repeat_0 rfl rfl ?_
  refine rc_aload_n (pc := 1) hC dX2_repeat_1 rfl rfl ?_
  refine rc_r_geti (pc := 2) hC rF_X2_261 dX2_repeat_2 h ?_
  intro x1 h
  refine rc_iconst (pc := 5) hC (v := (2 : Int32)) dX2_repeat_5 rfl ?_
  refine rc_icmp_ge (pc := 6) (tgt := 13) hC dX2_repeat_6 rfl h ?_ ?_
  · intro _ h
    refine rc_iconst (pc := 13) hC (v := (0 : Int32)) dX2_repeat_13 rfl ?_
    exact rw_X2_repeat_q0_L14 hC hH  v0 (0 : Int32) v0 S h
  intro _ h
  refine rc_iconst (pc := 9) hC (v := (1 : Int32)) dX2_repeat_9 rfl ?_
  refine rc_goto (pc := 10) (tgt := 14) hC dX2_repeat_10 rfl ?_
  exact rw_X2_repeat_q0_L14 hC hH  v0 (1 : Int32) v0 S h
theorem rw_X2_command_q0_L534 {Y : rc_Y} (hC : rc_C Y cX2_command RX2 (Option.none : Option Jvm.ClassFile.FieldType) 6) (hH : rc_H Y 13 256 yX2_command.name) (v0 : Option Nat) (S : rc_S) (h : rc_Go Y rc_tU (rp_X2_command_L534 rp_X2_repeat_q0  v0) S) : rc_Z Y S 534 [some (rc_q v0), none, none, none, none, none] [] := by
  unfold rp_X2_command_L534 at h
  refine rc_aload_n (pc := 534) hC dX2_command_534 rfl rfl ?_
  obtain ⟨⟨fs, ho⟩, h⟩ := h.is
  refine rc_callV (pc := 535) hC rfl ho (rw_X2_advance hH.1 v0) q298 q300 qs0 q123 q301 rfl rd_X2_advance (hH.room (Nat.le_of_ble_eq_true rfl) (Nat.le_of_ble_eq_true rfl)) rfl rfl (Nat.le_of_ble_eq_true rfl) 0 rfl h.le.2.2 h.br rfl dX2_command_535 ?_ (fun E q S hT => rc_out hC hH.2.2.2.2 hT)
  intro _ S h
  show rc_Z Y S 538 [some (rc_q v0), none, none, none, none, none] []
  exact rc_vret hC rfl dX2_command_538 h rfl
theorem rw_X2_command_q0_L384 {Y : rc_Y} (hC : rc_C Y cX2_command RX2 (Option.none : Option Jvm.ClassFile.FieldType) 6) (hH : rc_H Y 13 256 yX2_command.name) (v0 : Option Nat) (v1 : Option Nat) (S : rc_S) (h : rc_Go Y rc_tU (rp_X2_command_L384 rp_X2_repeat_q0  v0 v1) S) : rc_Z Y S 384 [some (rc_q v0), some (rc_q v1), none, none, none, none] [] := by
  unfold rp_X2_command_L384 at h
  refine rc_aload_n (pc := 384) hC dX2_command_384 rfl rfl ?_
  refine rc_aload_n (pc := 385) hC dX2_command_385 rfl rfl ?_
  obtain ⟨⟨fs, ho⟩, h⟩ := h.is
  refine rc_callV (pc := 386) hC rfl ho (rw_X2_build hH.1 v0 v1) q814 q816 qs9 q123 q817 rfl rd_X2_build (hH.room (Nat.le_of_ble_eq_true rfl) (Nat.le_of_ble_eq_true rfl)) rfl rfl (Nat.le_of_ble_eq_true rfl) 1 rfl h.le.2.2 h.br rfl dX2_command_386 ?_ (fun E q S hT => rc_out hC hH.2.2.2.2 hT)
  intro _ S h
  show rc_Z Y S 389 [some (rc_q v0), some (rc_q v1), none, none, none, none] []
  refine rc_goto (pc := 389) (tgt := 534) hC dX2_command_389 rfl ?_
  refine rc_drop [true, false, false, false, false, false] (L' := [some (rc_q v0), none, none, none, none, none]) rfl ?_
  exact rw_X2_command_q0_L534 hC hH  v0 S h
theorem rw_X2_command_q0_L392 {Y : rc_Y} (hC : rc_C Y cX2_command RX2 (Option.none : Option Jvm.ClassFile.FieldType) 6) (hH : rc_H Y 13 256 yX2_command.name) (v0 : Option Nat) (v1 : Option Nat) (S : rc_S) (h : rc_Go Y rc_tU (rp_X2_command_L392 rp_X2_repeat_q0  v0 v1) S) : rc_Z Y S 392 [some (rc_q v0), some (rc_q v1), none, none, none, none] [] := by
  unfold rp_X2_command_L392 at h
  refine rc_aload_n (pc := 392) hC dX2_command_392 rfl rfl ?_
  refine rc_aload_n (pc := 393) hC dX2_command_393 rfl rfl ?_
  obtain ⟨⟨fs, ho⟩, h⟩ := h.is
  refine rc_callV (pc := 394) hC rfl ho (rw_X2_walk hH.1 v0 v1) q981 q983 qs15 q123 q984 rfl rd_X2_walk (hH.room (Nat.le_of_ble_eq_true rfl) (Nat.le_of_ble_eq_true rfl)) rfl rfl (Nat.le_of_ble_eq_true rfl) 1 rfl h.le.2.2 h.br rfl dX2_command_394 ?_ (fun E q S hT => rc_out hC hH.2.2.2.2 hT)
  intro _ S h
  show rc_Z Y S 397 [some (rc_q v0), some (rc_q v1), none, none, none, none] []
  refine rc_goto (pc := 397) (tgt := 534) hC dX2_command_397 rfl ?_
  refine rc_drop [true, false, false, false, false, false] (L' := [some (rc_q v0), none, none, none, none, none]) rfl ?_
  exact rw_X2_command_q0_L534 hC hH  v0 S h
theorem rw_X2_command_q0_L400 {Y : rc_Y} (hC : rc_C Y cX2_command RX2 (Option.none : Option Jvm.ClassFile.FieldType) 6) (hH : rc_H Y 13 256 yX2_command.name) (v0 : Option Nat) (v1 : Option Nat) (S : rc_S) (h : rc_Go Y rc_tU (rp_X2_command_L400 rp_X2_repeat_q0  v0 v1) S) : rc_Z Y S 400 [some (rc_q v0), some (rc_q v1), none, none, none, none] [] := by
  unfold rp_X2_command_L400 at h
  refine rc_aload_n (pc := 400) hC dX2_command_400 rfl rfl ?_
  refine rc_aload_n (pc := 401) hC dX2_command_401 rfl rfl ?_
  obtain ⟨⟨fs, ho⟩, h⟩ := h.is
  refine rc_callV (pc := 402) hC rfl ho (rw_X2_meet hH.1 v0 v1) q1054 q1056 qs17 q123 q1057 rfl rd_X2_meet (hH.room (Nat.le_of_ble_eq_true rfl) (Nat.le_of_ble_eq_true rfl)) rfl rfl (Nat.le_of_ble_eq_true rfl) 1 rfl h.le.2.2 h.br rfl dX2_command_402 ?_ (fun E q S hT => rc_out hC hH.2.2.2.2 hT)
  intro _ S h
  show rc_Z Y S 405 [some (rc_q v0), some (rc_q v1), none, none, none, none] []
  refine rc_goto (pc := 405) (tgt := 534) hC dX2_command_405 rfl ?_
  refine rc_drop [true, false, false, false, false, false] (L' := [some (rc_q v0), none, none, none, none, none]) rfl ?_
  exact rw_X2_command_q0_L534 hC hH  v0 S h
theorem rw_X2_command_q0_L483 {Y : rc_Y} (hC : rc_C Y cX2_command RX2 (Option.none : Option Jvm.ClassFile.FieldType) 6) (hH : rc_H Y 13 256 yX2_command.name) (v0 : Option Nat) (v4 : Int32) (s0 : Int32) (s1 : Option Nat) (S : rc_S) (h : rc_Go Y rc_tU (rp_X2_command_L483 rp_X2_repeat_q0  v0 v4 s0 s1) S) : rc_Z Y S 483 [some (rc_q v0), none, none, none, some (rc_i v4), none] [rc_i s0, rc_q s1] := by
  unfold rp_X2_command_L483 at h
  obtain ⟨⟨fs, ho⟩, h⟩ := h.is
  refine rc_callV (pc := 483) hC rfl ho (rw_X2_end hH.1 s1 s0) q725 q727 qs5 q123 q728 rfl rd_X2_end (hH.room (Nat.le_of_ble_eq_true rfl) (Nat.le_of_ble_eq_true rfl)) rfl rfl (Nat.le_of_ble_eq_true rfl) 1 rfl h.le.2.2 h.br rfl dX2_command_483 ?_ (fun E q S hT => rc_out hC hH.2.2.2.2 hT)
  intro _ S h
  show rc_Z Y S 486 [some (rc_q v0), none, none, none, some (rc_i v4), none] []
  refine rc_aload_n (pc := 486) hC dX2_command_486 rfl rfl ?_
  refine rc_r_getq (pc := 487) hC rF_X2_29 dX2_command_487 h ?_
  intro x1 h
  refine rc_iload (pc := 490) hC dX2_command_490 rfl ?_
  obtain ⟨⟨fs, ho⟩, h⟩ := h.is
  refine rc_callV (pc := 492) hC rfl ho (rw_X3_passNights hH.1 x1 v4) q1132 q1133 q1134 q126 q1135 rfl rd_X3_passNights (hH.room (Nat.le_of_ble_eq_true rfl) (Nat.le_of_ble_eq_true rfl)) rfl rfl (Nat.le_of_ble_eq_true rfl) 1 rfl h.le.2.2 h.br rfl dX2_command_492 ?_ (fun E q S hT => rc_out hC hH.2.2.2.2 hT)
  intro x2 S h
  show rc_Z Y S 495 [some (rc_q v0), none, none, none, some (rc_i v4), none] [rc_i x2]
  refine rc_pop (pc := 495) hC dX2_command_495 rfl ?_
  refine rc_goto (pc := 496) (tgt := 534) hC dX2_command_496 rfl ?_
  refine rc_drop [true, false, false, false, false, false] (L' := [some (rc_q v0), none, none, none, none, none]) rfl ?_
  exact rw_X2_command_q0_L534 hC hH  v0 S h
theorem rw_X2_command_q0_L329 {Y : rc_Y} (hC : rc_C Y cX2_command RX2 (Option.none : Option Jvm.ClassFile.FieldType) 6) (hH : rc_H Y 13 256 yX2_command.name) (v0 : Option Nat) (v1 : Option Nat) (v3 : Int32) (S : rc_S) (h : rc_Go Y rc_tU (rp_X2_command_L329 rp_X2_repeat_q0  v0 v1 v3) S) : rc_Z Y S 329 [some (rc_q v0), some (rc_q v1), none, some (rc_i v3), none, none] [] := by
  unfold rp_X2_command_L329 at h
  refine rc_iload_n (pc := 329) hC dX2_command_329 rfl rfl ?_
  rcases h.ite with ⟨hc, h⟩ | ⟨hc0, h⟩
  · refine rc_tableIn (pc := 330) (tgt := 384) hC (off := 54) dX2_command_330 (by rw [hc]; decide) (by rw [hc]; decide) (by rw [hc]; rfl) rfl ?_
    refine rc_drop [true, true, false, false, false, false] (L' := [some (rc_q v0), some (rc_q v1), none, none, none, none]) rfl ?_
    exact rw_X2_command_q0_L384 hC hH  v0 v1 S h
  rcases h.ite with ⟨hc, h⟩ | ⟨hc1, h⟩
  · refine rc_tableIn (pc := 330) (tgt := 384) hC (off := 54) dX2_command_330 (by rw [hc]; decide) (by rw [hc]; decide) (by rw [hc]; rfl) rfl ?_
    refine rc_drop [true, true, false, false, false, false] (L' := [some (rc_q v0), some (rc_q v1), none, none, none, none]) rfl ?_
    exact rw_X2_command_q0_L384 hC hH  v0 v1 S h
  rcases h.ite with ⟨hc, h⟩ | ⟨hc2, h⟩
  · refine rc_tableIn (pc := 330) (tgt := 384) hC (off := 54) dX2_command_330 (by rw [hc]; decide) (by rw [hc]; decide) (by rw [hc]; rfl) rfl ?_
    refine rc_drop [true, true, false, false, false, false] (L' := [some (rc_q v0), some (rc_q v1), none, none, none, none]) rfl ?_
    exact rw_X2_command_q0_L384 hC hH  v0 v1 S h
  rcases h.ite with ⟨hc, h⟩ | ⟨hc3, h⟩
  · refine rc_tableIn (pc := 330) (tgt := 392) hC (off := 62) dX2_command_330 (by rw [hc]; decide) (by rw [hc]; decide) (by rw [hc]; rfl) rfl ?_
    refine rc_drop [true, true, false, false, false, false] (L' := [some (rc_q v0), some (rc_q v1), none, none, none, none]) rfl ?_
    exact rw_X2_command_q0_L392 hC hH  v0 v1 S h
  rcases h.ite with ⟨hc, h⟩ | ⟨hc4, h⟩
  · refine rc_tableIn (pc := 330) (tgt := 392) hC (off := 62) dX2_command_330 (by rw [hc]; decide) (by rw [hc]; decide) (by rw [hc]; rfl) rfl ?_
    refine rc_drop [true, true, false, false, false, false] (L' := [some (rc_q v0), some (rc_q v1), none, none, none, none]) rfl ?_
    exact rw_X2_command_q0_L392 hC hH  v0 v1 S h
  rcases h.ite with ⟨hc, h⟩ | ⟨hc5, h⟩
  · refine rc_tableIn (pc := 330) (tgt := 392) hC (off := 62) dX2_command_330 (by rw [hc]; decide) (by rw [hc]; decide) (by rw [hc]; rfl) rfl ?_
    refine rc_drop [true, true, false, false, false, false] (L' := [some (rc_q v0), some (rc_q v1), none, none, none, none]) rfl ?_
    exact rw_X2_command_q0_L392 hC hH  v0 v1 S h
  rcases h.ite with ⟨hc, h⟩ | ⟨hc6, h⟩
  · refine rc_tableIn (pc := 330) (tgt := 400) hC (off := 70) dX2_command_330 (by rw [hc]; decide) (by rw [hc]; decide) (by rw [hc]; rfl) rfl ?_
    refine rc_drop [true, true, false, false, false, false] (L' := [some (rc_q v0), some (rc_q v1), none, none, none, none]) rfl ?_
    exact rw_X2_command_q0_L400 hC hH  v0 v1 S h
  rcases h.ite with ⟨hc, h⟩ | ⟨hc7, h⟩
  · refine rc_tableIn (pc := 330) (tgt := 400) hC (off := 70) dX2_command_330 (by rw [hc]; decide) (by rw [hc]; decide) (by rw [hc]; rfl) rfl ?_
    refine rc_drop [true, true, false, false, false, false] (L' := [some (rc_q v0), some (rc_q v1), none, none, none, none]) rfl ?_
    exact rw_X2_command_q0_L400 hC hH  v0 v1 S h
  rcases h.ite with ⟨hc, h⟩ | ⟨hc8, h⟩
  · refine rc_tableIn (pc := 330) (tgt := 408) hC (off := 78) dX2_command_330 (by rw [hc]; decide) (by rw [hc]; decide) (by rw [hc]; rfl) rfl ?_
    refine rc_aload_n (pc := 408) hC dX2_command_408 rfl rfl ?_
    refine rc_iconst (pc := 409) hC (v := (1 : Int32)) dX2_command_409 rfl ?_
    refine rc_bipush (pc := 410) hC (v := (9 : Int32)) dX2_command_410 rfl ?_
    obtain ⟨⟨fs, ho⟩, h⟩ := h.is
    refine rc_callV (pc := 412) hC rfl ho (rw_X2_number hH.1 v0 (1 : Int32) (9 : Int32)) q738 q740 qs8 q123 q741 rfl rd_X2_number (hH.room (Nat.le_of_ble_eq_true rfl) (Nat.le_of_ble_eq_true rfl)) rfl rfl (Nat.le_of_ble_eq_true rfl) 2 rfl h.le.2.2 h.br rfl dX2_command_412 ?_ (fun E q S hT => rc_out hC hH.2.2.2.2 hT)
    intro x8 S h
    show rc_Z Y S 415 [some (rc_q v0), some (rc_q v1), none, some (rc_i v3), none, none] [rc_i x8]
    refine rc_istore (pc := 415) hC (L' := [some (rc_q v0), some (rc_q v1), none, some (rc_i v3), some (rc_i x8), none]) dX2_command_415 (Nat.le_of_ble_eq_true rfl) rfl rfl ?_
    refine rc_aload_n (pc := 417) hC dX2_command_417 rfl rfl ?_
    refine rc_iconst (pc := 418) hC (v := (1 : Int32)) dX2_command_418 rfl ?_
    refine rc_bipush (pc := 419) hC (v := (9 : Int32)) dX2_command_419 rfl ?_
    obtain ⟨⟨fs, ho⟩, h⟩ := h.is
    refine rc_callV (pc := 421) hC rfl ho (rw_X2_number hH.1 v0 (1 : Int32) (9 : Int32)) q738 q740 qs8 q123 q741 rfl rd_X2_number (hH.room (Nat.le_of_ble_eq_true rfl) (Nat.le_of_ble_eq_true rfl)) rfl rfl (Nat.le_of_ble_eq_true rfl) 2 rfl h.le.2.2 h.br rfl dX2_command_421 ?_ (fun E q S hT => rc_out hC hH.2.2.2.2 hT)
    intro x9 S h
    show rc_Z Y S 424 [some (rc_q v0), some (rc_q v1), none, some (rc_i v3), some (rc_i x8), none] [rc_i x9]
    refine rc_istore (pc := 424) hC (L' := [some (rc_q v0), some (rc_q v1), none, some (rc_i v3), some (rc_i x8), some (rc_i x9)]) dX2_command_424 (Nat.le_of_ble_eq_true rfl) rfl rfl ?_
    refine rc_aload_n (pc := 426) hC dX2_command_426 rfl rfl ?_
    refine rc_aload_n (pc := 427) hC dX2_command_427 rfl rfl ?_
    refine rc_r_getq (pc := 428) hC rF_X2_29 dX2_command_428 h ?_
    intro x10 h
    obtain ⟨⟨fs, ho⟩, h⟩ := h.is
    refine rc_callV (pc := 431) hC rfl ho (rw_X3_canNominate hH.1 x10) q1096 q1097 q1098 q126 q1099 rfl rd_X3_canNominate (hH.room (Nat.le_of_ble_eq_true rfl) (Nat.le_of_ble_eq_true rfl)) rfl rfl (Nat.le_of_ble_eq_true rfl) 0 rfl h.le.2.2 h.br rfl dX2_command_431 ?_ (fun E q S hT => rc_out hC hH.2.2.2.2 hT)
    intro x11 S h
    show rc_Z Y S 434 [some (rc_q v0), some (rc_q v1), none, some (rc_i v3), some (rc_i x8), some (rc_i x9)] [rc_i x11, rc_q v0]
    obtain ⟨⟨fs, ho⟩, h⟩ := h.is
    refine rc_callV (pc := 434) hC rfl ho (rw_X2_end hH.1 v0 x11) q725 q727 qs5 q123 q728 rfl rd_X2_end (hH.room (Nat.le_of_ble_eq_true rfl) (Nat.le_of_ble_eq_true rfl)) rfl rfl (Nat.le_of_ble_eq_true rfl) 1 rfl h.le.2.2 h.br rfl dX2_command_434 ?_ (fun E q S hT => rc_out hC hH.2.2.2.2 hT)
    intro _ S h
    show rc_Z Y S 437 [some (rc_q v0), some (rc_q v1), none, some (rc_i v3), some (rc_i x8), some (rc_i x9)] []
    refine rc_aload_n (pc := 437) hC dX2_command_437 rfl rfl ?_
    refine rc_r_getq (pc := 438) hC rF_X2_29 dX2_command_438 h ?_
    intro x12 h
    refine rc_iload (pc := 441) hC dX2_command_441 rfl ?_
    refine rc_iload (pc := 443) hC dX2_command_443 rfl ?_
    obtain ⟨⟨fs, ho⟩, h⟩ := h.is
    refine rc_callV (pc := 445) hC rfl ho (rw_X3_nominate hH.1 x12 x8 x9) q1109 q1110 q1111 q126 q1112 rfl rd_X3_nominate (hH.room (Nat.le_of_ble_eq_true rfl) (Nat.le_of_ble_eq_true rfl)) rfl rfl (Nat.le_of_ble_eq_true rfl) 2 rfl h.le.2.2 h.br rfl dX2_command_445 ?_ (fun E q S hT => rc_out hC hH.2.2.2.2 hT)
    intro x13 S h
    show rc_Z Y S 448 [some (rc_q v0), some (rc_q v1), none, some (rc_i v3), some (rc_i x8), some (rc_i x9)] [rc_i x13]
    refine rc_pop (pc := 448) hC dX2_command_448 rfl ?_
    refine rc_goto (pc := 449) (tgt := 534) hC dX2_command_449 rfl ?_
    refine rc_drop [true, false, false, false, false, false] (L' := [some (rc_q v0), none, none, none, none, none]) rfl ?_
    exact rw_X2_command_q0_L534 hC hH  v0 S h
  rcases h.ite with ⟨hc, h⟩ | ⟨hc9, h⟩
  · refine rc_tableIn (pc := 330) (tgt := 452) hC (off := 122) dX2_command_330 (by rw [hc]; decide) (by rw [hc]; decide) (by rw [hc]; rfl) rfl ?_
    refine rc_aload_n (pc := 452) hC dX2_command_452 rfl rfl ?_
    refine rc_iconst (pc := 453) hC (v := (1 : Int32)) dX2_command_453 rfl ?_
    refine rc_bipush (pc := 454) hC (v := (30 : Int32)) dX2_command_454 rfl ?_
    obtain ⟨⟨fs, ho⟩, h⟩ := h.is
    refine rc_callV (pc := 456) hC rfl ho (rw_X2_number hH.1 v0 (1 : Int32) (30 : Int32)) q738 q740 qs8 q123 q741 rfl rd_X2_number (hH.room (Nat.le_of_ble_eq_true rfl) (Nat.le_of_ble_eq_true rfl)) rfl rfl (Nat.le_of_ble_eq_true rfl) 2 rfl h.le.2.2 h.br rfl dX2_command_456 ?_ (fun E q S hT => rc_out hC hH.2.2.2.2 hT)
    intro x14 S h
    show rc_Z Y S 459 [some (rc_q v0), some (rc_q v1), none, some (rc_i v3), none, none] [rc_i x14]
    refine rc_istore (pc := 459) hC (L' := [some (rc_q v0), some (rc_q v1), none, some (rc_i v3), some (rc_i x14), none]) dX2_command_459 (Nat.le_of_ble_eq_true rfl) rfl rfl ?_
    refine rc_aload_n (pc := 461) hC dX2_command_461 rfl rfl ?_
    refine rc_aload_n (pc := 462) hC dX2_command_462 rfl rfl ?_
    refine rc_r_getq (pc := 463) hC rF_X2_29 dX2_command_463 h ?_
    intro x15 h
    refine rc_r_geti (pc := 466) hC rF_X2_184 dX2_command_466 h ?_
    intro x16 h
    refine rc_iload (pc := 469) hC dX2_command_469 rfl ?_
    refine rc_iadd (pc := 471) hC dX2_command_471 ?_
    refine rc_sipush (pc := 472) hC (v := (999 : Int32)) dX2_command_472 rfl ?_
    refine rc_icmp_gt (pc := 475) (tgt := 482) hC dX2_command_475 rfl h ?_ ?_
    · intro _ h
      refine rc_iconst (pc := 482) hC (v := (0 : Int32)) dX2_command_482 rfl ?_
      refine rc_drop [true, false, false, false, true, false] (L' := [some (rc_q v0), none, none, none, some (rc_i x14), none]) rfl ?_
      exact rw_X2_command_q0_L483 hC hH  v0 x14 (0 : Int32) v0 S h
    intro _ h
    refine rc_iconst (pc := 478) hC (v := (1 : Int32)) dX2_command_478 rfl ?_
    refine rc_goto (pc := 479) (tgt := 483) hC dX2_command_479 rfl ?_
    refine rc_drop [true, false, false, false, true, false] (L' := [some (rc_q v0), none, none, none, some (rc_i x14), none]) rfl ?_
    exact rw_X2_command_q0_L483 hC hH  v0 x14 (1 : Int32) v0 S h
  have hout : (v3).toInt < 0 ∨ 9 < (v3).toInt := by
    have hq0 : (v3).toInt ≠ 0 := fun e => hc0 (Int32.toInt_inj.mp (e.trans rfl))
    have hq1 : (v3).toInt ≠ 1 := fun e => hc1 (Int32.toInt_inj.mp (e.trans rfl))
    have hq2 : (v3).toInt ≠ 2 := fun e => hc2 (Int32.toInt_inj.mp (e.trans rfl))
    have hq3 : (v3).toInt ≠ 3 := fun e => hc3 (Int32.toInt_inj.mp (e.trans rfl))
    have hq4 : (v3).toInt ≠ 4 := fun e => hc4 (Int32.toInt_inj.mp (e.trans rfl))
    have hq5 : (v3).toInt ≠ 5 := fun e => hc5 (Int32.toInt_inj.mp (e.trans rfl))
    have hq6 : (v3).toInt ≠ 6 := fun e => hc6 (Int32.toInt_inj.mp (e.trans rfl))
    have hq7 : (v3).toInt ≠ 7 := fun e => hc7 (Int32.toInt_inj.mp (e.trans rfl))
    have hq8 : (v3).toInt ≠ 8 := fun e => hc8 (Int32.toInt_inj.mp (e.trans rfl))
    have hq9 : (v3).toInt ≠ 9 := fun e => hc9 (Int32.toInt_inj.mp (e.trans rfl))
    omega
  refine rc_tableOut (pc := 330) (tgt := 499) hC dX2_command_330 hout rfl ?_
  refine rc_aload_n (pc := 499) hC dX2_command_499 rfl rfl ?_
  obtain ⟨⟨fs, ho⟩, h⟩ := h.is
  refine rc_callV (pc := 500) hC rfl ho (rw_X2_cat hH.1 v0) q992 q994 qs16 q123 q995 rfl rd_X2_cat (hH.room (Nat.le_of_ble_eq_true rfl) (Nat.le_of_ble_eq_true rfl)) rfl rfl (Nat.le_of_ble_eq_true rfl) 0 rfl h.le.2.2 h.br rfl dX2_command_500 ?_ (fun E q S hT => rc_out hC hH.2.2.2.2 hT)
  intro x1 S h
  show rc_Z Y S 503 [some (rc_q v0), some (rc_q v1), none, some (rc_i v3), none, none] [rc_i x1]
  refine rc_istore (pc := 503) hC (L' := [some (rc_q v0), some (rc_q v1), none, some (rc_i v3), some (rc_i x1), none]) dX2_command_503 (Nat.le_of_ble_eq_true rfl) rfl rfl ?_
  refine rc_aload_n (pc := 505) hC dX2_command_505 rfl rfl ?_
  refine rc_aload_n (pc := 506) hC dX2_command_506 rfl rfl ?_
  refine rc_r_getq (pc := 507) hC rF_X2_29 dX2_command_507 h ?_
  intro x2 h
  refine rc_iload (pc := 510) hC dX2_command_510 rfl ?_
  obtain ⟨⟨fs, ho⟩, h⟩ := h.is
  refine rc_callV (pc := 512) hC rfl ho (rw_X3_canVote hH.1 x2 x1) q1160 q1161 q1162 q126 q1163 rfl rd_X3_canVote (hH.room (Nat.le_of_ble_eq_true rfl) (Nat.le_of_ble_eq_true rfl)) rfl rfl (Nat.le_of_ble_eq_true rfl) 1 rfl h.le.2.2 h.br rfl dX2_command_512 ?_ (fun E q S hT => rc_out hC hH.2.2.2.2 hT)
  intro x3 S h
  show rc_Z Y S 515 [some (rc_q v0), some (rc_q v1), none, some (rc_i v3), some (rc_i x1), none] [rc_i x3, rc_q v0]
  obtain ⟨⟨fs, ho⟩, h⟩ := h.is
  refine rc_callV (pc := 515) hC rfl ho (rw_X2_end hH.1 v0 x3) q725 q727 qs5 q123 q728 rfl rd_X2_end (hH.room (Nat.le_of_ble_eq_true rfl) (Nat.le_of_ble_eq_true rfl)) rfl rfl (Nat.le_of_ble_eq_true rfl) 1 rfl h.le.2.2 h.br rfl dX2_command_515 ?_ (fun E q S hT => rc_out hC hH.2.2.2.2 hT)
  intro _ S h
  show rc_Z Y S 518 [some (rc_q v0), some (rc_q v1), none, some (rc_i v3), some (rc_i x1), none] []
  refine rc_aload_n (pc := 518) hC dX2_command_518 rfl rfl ?_
  refine rc_r_getq (pc := 519) hC rF_X2_29 dX2_command_519 h ?_
  intro x4 h
  refine rc_iload (pc := 522) hC dX2_command_522 rfl ?_
  refine rc_aload_n (pc := 524) hC dX2_command_524 rfl rfl ?_
  refine rc_r_text (pc := 525) hC (i := 18) rfl dX2_command_525 h ?_
  intro x5 h
  obtain ⟨⟨fs, ho⟩, h⟩ := h.is
  refine rc_callV (pc := 527) hC rfl ho (rw_J4_equals hH.1 v1 x5) q687 q688 q689 q121 q690 rfl rd_J4_equals (hH.room (Nat.le_of_ble_eq_true rfl) (Nat.le_of_ble_eq_true rfl)) rfl rfl (Nat.le_of_ble_eq_true rfl) 1 rfl h.le.2.2 h.br rfl dX2_command_527 ?_ (fun E q S hT => rc_out hC hH.2.2.2.2 hT)
  intro x6 S h
  show rc_Z Y S 530 [some (rc_q v0), some (rc_q v1), none, some (rc_i v3), some (rc_i x1), none] [rc_i x6, rc_i x1, rc_q x4]
  obtain ⟨⟨fs, ho⟩, h⟩ := h.is
  refine rc_callV (pc := 530) hC rfl ho (rw_X3_vote hH.1 x4 x1 x6) q1168 q1169 q1170 q126 q1171 rfl rd_X3_vote (hH.room (Nat.le_of_ble_eq_true rfl) (Nat.le_of_ble_eq_true rfl)) rfl rfl (Nat.le_of_ble_eq_true rfl) 2 rfl h.le.2.2 h.br rfl dX2_command_530 ?_ (fun E q S hT => rc_out hC hH.2.2.2.2 hT)
  intro x7 S h
  show rc_Z Y S 533 [some (rc_q v0), some (rc_q v1), none, some (rc_i v3), some (rc_i x1), none] [rc_i x7]
  refine rc_pop (pc := 533) hC dX2_command_533 rfl ?_
  refine rc_drop [true, false, false, false, false, false] (L' := [some (rc_q v0), none, none, none, none, none]) rfl ?_
  exact rw_X2_command_q0_L534 hC hH  v0 S h
theorem rw_X2_command_q0_L65 {Y : rc_Y} (hC : rc_C Y cX2_command RX2 (Option.none : Option Jvm.ClassFile.FieldType) 6) (hH : rc_H Y 13 256 yX2_command.name) (v0 : Option Nat) (s0 : Int32) (s1 : Option Nat) (S : rc_S) (h : rc_Go Y rc_tU (rp_X2_command_L65 rp_X2_repeat_q0  v0 s0 s1) S) : rc_Z Y S 65 [some (rc_q v0), none, none, none, none, none] [rc_i s0, rc_q s1] := by
  unfold rp_X2_command_L65 at h
  refine rc_iconst (pc := 65) hC (v := (5 : Int32)) dX2_command_65 rfl ?_
  obtain ⟨⟨fs, ho⟩, h⟩ := h.is
  refine rc_callV (pc := 66) hC rfl ho (rw_X2_check hH.1 s1 s0 (5 : Int32)) q695 q697 qs4 q123 q698 rfl rd_X2_check (hH.room (Nat.le_of_ble_eq_true rfl) (Nat.le_of_ble_eq_true rfl)) rfl rfl (Nat.le_of_ble_eq_true rfl) 2 rfl h.le.2.2 h.br rfl dX2_command_66 ?_ (fun E q S hT => rc_out hC hH.2.2.2.2 hT)
  intro _ S h
  show rc_Z Y S 69 [some (rc_q v0), none, none, none, none, none] []
  refine rc_aload_n (pc := 69) hC dX2_command_69 rfl rfl ?_
  refine rc_dup (pc := 70) hC dX2_command_70 rfl ?_
  refine rc_r_geti (pc := 71) hC rF_X2_164 dX2_command_71 h ?_
  intro x1 h
  refine rc_iconst (pc := 74) hC (v := (1 : Int32)) dX2_command_74 rfl ?_
  refine rc_iadd (pc := 75) hC dX2_command_75 ?_
  refine rc_r_put (pc := 76) hC rP_X2_164 (nofun) dX2_command_76 h ?_
  intro S h
  refine rc_aload_n (pc := 79) hC dX2_command_79 rfl rfl ?_
  refine rc_r_getq (pc := 80) hC rF_X2_22 dX2_command_80 h ?_
  intro x2 h
  refine rc_astore_n (pc := 83) hC (L' := [some (rc_q v0), some (rc_q x2), none, none, none, none]) dX2_command_83 rfl (Nat.le_of_ble_eq_true rfl) rfl rfl ?_
  refine rc_aload_n (pc := 84) hC dX2_command_84 rfl rfl ?_
  obtain ⟨⟨fs, ho⟩, h⟩ := h.is
  refine rc_callV (pc := 85) hC rfl ho (rw_X2_advance hH.1 v0) q298 q300 qs0 q123 q301 rfl rd_X2_advance (hH.room (Nat.le_of_ble_eq_true rfl) (Nat.le_of_ble_eq_true rfl)) rfl rfl (Nat.le_of_ble_eq_true rfl) 0 rfl h.le.2.2 h.br rfl dX2_command_85 ?_ (fun E q S hT => rc_out hC hH.2.2.2.2 hT)
  intro _ S h
  show rc_Z Y S 88 [some (rc_q v0), some (rc_q x2), none, none, none, none] []
  refine rc_aload_n (pc := 88) hC dX2_command_88 rfl rfl ?_
  refine rc_astore_n (pc := 89) hC (L' := [some (rc_q v0), some (rc_q x2), some (rc_q x2), none, none, none]) dX2_command_89 rfl (Nat.le_of_ble_eq_true rfl) rfl rfl ?_
  refine rc_iconst (pc := 90) hC (v := (-1 : Int32)) dX2_command_90 rfl ?_
  refine rc_istore_n (pc := 91) hC (L' := [some (rc_q v0), some (rc_q x2), some (rc_q x2), some (rc_i (-1 : Int32)), none, none]) dX2_command_91 rfl (Nat.le_of_ble_eq_true rfl) rfl rfl ?_
  refine rc_aload_n (pc := 92) hC dX2_command_92 rfl rfl ?_
  obtain ⟨⟨fs, ho⟩, h⟩ := h.is
  refine rc_callV (pc := 93) hC rfl ho (rw_J4_hashCode hH.1 x2) q745 q746 q747 q121 q748 rfl rd_J4_hashCode (hH.room (Nat.le_of_ble_eq_true rfl) (Nat.le_of_ble_eq_true rfl)) rfl rfl (Nat.le_of_ble_eq_true rfl) 0 rfl h.le.2.2 h.br rfl dX2_command_93 ?_ (fun E q S hT => rc_out hC hH.2.2.2.2 hT)
  intro x3 S h
  show rc_Z Y S 96 [some (rc_q v0), some (rc_q x2), some (rc_q x2), some (rc_i (-1 : Int32)), none, none] [rc_i x3]
  rcases h.ite with ⟨hc, h⟩ | ⟨hc0, h⟩
  · refine rc_lookup (pc := 96) (tgt := 202) hC (off := 106) dX2_command_96 rfl (by rw [hc]; rfl) rfl ?_
    refine rc_aload_n (pc := 202) hC dX2_command_202 rfl rfl ?_
    refine rc_r_text (pc := 203) hC (i := 10) rfl dX2_command_203 h ?_
    intro x4 h
    obtain ⟨⟨fs, ho⟩, h⟩ := h.is
    refine rc_callV (pc := 205) hC rfl ho (rw_J4_equals hH.1 x2 x4) q687 q688 q689 q121 q690 rfl rd_J4_equals (hH.room (Nat.le_of_ble_eq_true rfl) (Nat.le_of_ble_eq_true rfl)) rfl rfl (Nat.le_of_ble_eq_true rfl) 1 rfl h.le.2.2 h.br rfl dX2_command_205 ?_ (fun E q S hT => rc_out hC hH.2.2.2.2 hT)
    intro x5 S h
    show rc_Z Y S 208 [some (rc_q v0), some (rc_q x2), some (rc_q x2), some (rc_i (-1 : Int32)), none, none] [rc_i x5]
    refine rc_if_eq (pc := 208) (tgt := 329) hC dX2_command_208 rfl h ?_ ?_
    · intro _ h
      refine rc_drop [true, true, false, true, false, false] (L' := [some (rc_q v0), some (rc_q x2), none, some (rc_i (-1 : Int32)), none, none]) rfl ?_
      exact rw_X2_command_q0_L329 hC hH  v0 x2 (-1 : Int32) S h
    intro _ h
    refine rc_iconst (pc := 211) hC (v := (1 : Int32)) dX2_command_211 rfl ?_
    refine rc_istore_n (pc := 212) hC (L' := [some (rc_q v0), some (rc_q x2), some (rc_q x2), some (rc_i (1 : Int32)), none, none]) dX2_command_212 rfl (Nat.le_of_ble_eq_true rfl) rfl rfl ?_
    refine rc_goto (pc := 213) (tgt := 329) hC dX2_command_213 rfl ?_
    refine rc_drop [true, true, false, true, false, false] (L' := [some (rc_q v0), some (rc_q x2), none, some (rc_i (1 : Int32)), none, none]) rfl ?_
    exact rw_X2_command_q0_L329 hC hH  v0 x2 (1 : Int32) S h
  rcases h.ite with ⟨hc, h⟩ | ⟨hc1, h⟩
  · refine rc_lookup (pc := 96) (tgt := 258) hC (off := 162) dX2_command_96 rfl (by rw [hc]; rfl) rfl ?_
    refine rc_aload_n (pc := 258) hC dX2_command_258 rfl rfl ?_
    refine rc_r_text (pc := 259) hC (i := 14) rfl dX2_command_259 h ?_
    intro x6 h
    obtain ⟨⟨fs, ho⟩, h⟩ := h.is
    refine rc_callV (pc := 261) hC rfl ho (rw_J4_equals hH.1 x2 x6) q687 q688 q689 q121 q690 rfl rd_J4_equals (hH.room (Nat.le_of_ble_eq_true rfl) (Nat.le_of_ble_eq_true rfl)) rfl rfl (Nat.le_of_ble_eq_true rfl) 1 rfl h.le.2.2 h.br rfl dX2_command_261 ?_ (fun E q S hT => rc_out hC hH.2.2.2.2 hT)
    intro x7 S h
    show rc_Z Y S 264 [some (rc_q v0), some (rc_q x2), some (rc_q x2), some (rc_i (-1 : Int32)), none, none] [rc_i x7]
    refine rc_if_eq (pc := 264) (tgt := 329) hC dX2_command_264 rfl h ?_ ?_
    · intro _ h
      refine rc_drop [true, true, false, true, false, false] (L' := [some (rc_q v0), some (rc_q x2), none, some (rc_i (-1 : Int32)), none, none]) rfl ?_
      exact rw_X2_command_q0_L329 hC hH  v0 x2 (-1 : Int32) S h
    intro _ h
    refine rc_iconst (pc := 267) hC (v := (5 : Int32)) dX2_command_267 rfl ?_
    refine rc_istore_n (pc := 268) hC (L' := [some (rc_q v0), some (rc_q x2), some (rc_q x2), some (rc_i (5 : Int32)), none, none]) dX2_command_268 rfl (Nat.le_of_ble_eq_true rfl) rfl rfl ?_
    refine rc_goto (pc := 269) (tgt := 329) hC dX2_command_269 rfl ?_
    refine rc_drop [true, true, false, true, false, false] (L' := [some (rc_q v0), some (rc_q x2), none, some (rc_i (5 : Int32)), none, none]) rfl ?_
    exact rw_X2_command_q0_L329 hC hH  v0 x2 (5 : Int32) S h
  rcases h.ite with ⟨hc, h⟩ | ⟨hc2, h⟩
  · refine rc_lookup (pc := 96) (tgt := 302) hC (off := 206) dX2_command_96 rfl (by rw [hc]; rfl) rfl ?_
    refine rc_aload_n (pc := 302) hC dX2_command_302 rfl rfl ?_
    refine rc_r_text (pc := 303) hC (i := 17) rfl dX2_command_303 h ?_
    intro x8 h
    obtain ⟨⟨fs, ho⟩, h⟩ := h.is
    refine rc_callV (pc := 305) hC rfl ho (rw_J4_equals hH.1 x2 x8) q687 q688 q689 q121 q690 rfl rd_J4_equals (hH.room (Nat.le_of_ble_eq_true rfl) (Nat.le_of_ble_eq_true rfl)) rfl rfl (Nat.le_of_ble_eq_true rfl) 1 rfl h.le.2.2 h.br rfl dX2_command_305 ?_ (fun E q S hT => rc_out hC hH.2.2.2.2 hT)
    intro x9 S h
    show rc_Z Y S 308 [some (rc_q v0), some (rc_q x2), some (rc_q x2), some (rc_i (-1 : Int32)), none, none] [rc_i x9]
    refine rc_if_eq (pc := 308) (tgt := 329) hC dX2_command_308 rfl h ?_ ?_
    · intro _ h
      refine rc_drop [true, true, false, true, false, false] (L' := [some (rc_q v0), some (rc_q x2), none, some (rc_i (-1 : Int32)), none, none]) rfl ?_
      exact rw_X2_command_q0_L329 hC hH  v0 x2 (-1 : Int32) S h
    intro _ h
    refine rc_bipush (pc := 311) hC (v := (8 : Int32)) dX2_command_311 rfl ?_
    refine rc_istore_n (pc := 313) hC (L' := [some (rc_q v0), some (rc_q x2), some (rc_q x2), some (rc_i (8 : Int32)), none, none]) dX2_command_313 rfl (Nat.le_of_ble_eq_true rfl) rfl rfl ?_
    refine rc_goto (pc := 314) (tgt := 329) hC dX2_command_314 rfl ?_
    refine rc_drop [true, true, false, true, false, false] (L' := [some (rc_q v0), some (rc_q x2), none, some (rc_i (8 : Int32)), none, none]) rfl ?_
    exact rw_X2_command_q0_L329 hC hH  v0 x2 (8 : Int32) S h
  rcases h.ite with ⟨hc, h⟩ | ⟨hc3, h⟩
  · refine rc_lookup (pc := 96) (tgt := 317) hC (off := 221) dX2_command_96 rfl (by rw [hc]; rfl) rfl ?_
    refine rc_aload_n (pc := 317) hC dX2_command_317 rfl rfl ?_
    refine rc_r_text (pc := 318) hC (i := 20) rfl dX2_command_318 h ?_
    intro x10 h
    obtain ⟨⟨fs, ho⟩, h⟩ := h.is
    refine rc_callV (pc := 320) hC rfl ho (rw_J4_equals hH.1 x2 x10) q687 q688 q689 q121 q690 rfl rd_J4_equals (hH.room (Nat.le_of_ble_eq_true rfl) (Nat.le_of_ble_eq_true rfl)) rfl rfl (Nat.le_of_ble_eq_true rfl) 1 rfl h.le.2.2 h.br rfl dX2_command_320 ?_ (fun E q S hT => rc_out hC hH.2.2.2.2 hT)
    intro x11 S h
    show rc_Z Y S 323 [some (rc_q v0), some (rc_q x2), some (rc_q x2), some (rc_i (-1 : Int32)), none, none] [rc_i x11]
    refine rc_if_eq (pc := 323) (tgt := 329) hC dX2_command_323 rfl h ?_ ?_
    · intro _ h
      refine rc_drop [true, true, false, true, false, false] (L' := [some (rc_q v0), some (rc_q x2), none, some (rc_i (-1 : Int32)), none, none]) rfl ?_
      exact rw_X2_command_q0_L329 hC hH  v0 x2 (-1 : Int32) S h
    intro _ h
    refine rc_bipush (pc := 326) hC (v := (9 : Int32)) dX2_command_326 rfl ?_
    refine rc_istore_n (pc := 328) hC (L' := [some (rc_q v0), some (rc_q x2), some (rc_q x2), some (rc_i (9 : Int32)), none, none]) dX2_command_328 rfl (Nat.le_of_ble_eq_true rfl) rfl rfl ?_
    refine rc_drop [true, true, false, true, false, false] (L' := [some (rc_q v0), some (rc_q x2), none, some (rc_i (9 : Int32)), none, none]) rfl ?_
    exact rw_X2_command_q0_L329 hC hH  v0 x2 (9 : Int32) S h
  rcases h.ite with ⟨hc, h⟩ | ⟨hc4, h⟩
  · refine rc_lookup (pc := 96) (tgt := 216) hC (off := 120) dX2_command_96 rfl (by rw [hc]; rfl) rfl ?_
    refine rc_aload_n (pc := 216) hC dX2_command_216 rfl rfl ?_
    refine rc_r_text (pc := 217) hC (i := 11) rfl dX2_command_217 h ?_
    intro x12 h
    obtain ⟨⟨fs, ho⟩, h⟩ := h.is
    refine rc_callV (pc := 219) hC rfl ho (rw_J4_equals hH.1 x2 x12) q687 q688 q689 q121 q690 rfl rd_J4_equals (hH.room (Nat.le_of_ble_eq_true rfl) (Nat.le_of_ble_eq_true rfl)) rfl rfl (Nat.le_of_ble_eq_true rfl) 1 rfl h.le.2.2 h.br rfl dX2_command_219 ?_ (fun E q S hT => rc_out hC hH.2.2.2.2 hT)
    intro x13 S h
    show rc_Z Y S 222 [some (rc_q v0), some (rc_q x2), some (rc_q x2), some (rc_i (-1 : Int32)), none, none] [rc_i x13]
    refine rc_if_eq (pc := 222) (tgt := 329) hC dX2_command_222 rfl h ?_ ?_
    · intro _ h
      refine rc_drop [true, true, false, true, false, false] (L' := [some (rc_q v0), some (rc_q x2), none, some (rc_i (-1 : Int32)), none, none]) rfl ?_
      exact rw_X2_command_q0_L329 hC hH  v0 x2 (-1 : Int32) S h
    intro _ h
    refine rc_iconst (pc := 225) hC (v := (2 : Int32)) dX2_command_225 rfl ?_
    refine rc_istore_n (pc := 226) hC (L' := [some (rc_q v0), some (rc_q x2), some (rc_q x2), some (rc_i (2 : Int32)), none, none]) dX2_command_226 rfl (Nat.le_of_ble_eq_true rfl) rfl rfl ?_
    refine rc_goto (pc := 227) (tgt := 329) hC dX2_command_227 rfl ?_
    refine rc_drop [true, true, false, true, false, false] (L' := [some (rc_q v0), some (rc_q x2), none, some (rc_i (2 : Int32)), none, none]) rfl ?_
    exact rw_X2_command_q0_L329 hC hH  v0 x2 (2 : Int32) S h
  rcases h.ite with ⟨hc, h⟩ | ⟨hc5, h⟩
  · refine rc_lookup (pc := 96) (tgt := 230) hC (off := 134) dX2_command_96 rfl (by rw [hc]; rfl) rfl ?_
    refine rc_aload_n (pc := 230) hC dX2_command_230 rfl rfl ?_
    refine rc_r_text (pc := 231) hC (i := 12) rfl dX2_command_231 h ?_
    intro x14 h
    obtain ⟨⟨fs, ho⟩, h⟩ := h.is
    refine rc_callV (pc := 233) hC rfl ho (rw_J4_equals hH.1 x2 x14) q687 q688 q689 q121 q690 rfl rd_J4_equals (hH.room (Nat.le_of_ble_eq_true rfl) (Nat.le_of_ble_eq_true rfl)) rfl rfl (Nat.le_of_ble_eq_true rfl) 1 rfl h.le.2.2 h.br rfl dX2_command_233 ?_ (fun E q S hT => rc_out hC hH.2.2.2.2 hT)
    intro x15 S h
    show rc_Z Y S 236 [some (rc_q v0), some (rc_q x2), some (rc_q x2), some (rc_i (-1 : Int32)), none, none] [rc_i x15]
    refine rc_if_eq (pc := 236) (tgt := 329) hC dX2_command_236 rfl h ?_ ?_
    · intro _ h
      refine rc_drop [true, true, false, true, false, false] (L' := [some (rc_q v0), some (rc_q x2), none, some (rc_i (-1 : Int32)), none, none]) rfl ?_
      exact rw_X2_command_q0_L329 hC hH  v0 x2 (-1 : Int32) S h
    intro _ h
    refine rc_iconst (pc := 239) hC (v := (3 : Int32)) dX2_command_239 rfl ?_
    refine rc_istore_n (pc := 240) hC (L' := [some (rc_q v0), some (rc_q x2), some (rc_q x2), some (rc_i (3 : Int32)), none, none]) dX2_command_240 rfl (Nat.le_of_ble_eq_true rfl) rfl rfl ?_
    refine rc_goto (pc := 241) (tgt := 329) hC dX2_command_241 rfl ?_
    refine rc_drop [true, true, false, true, false, false] (L' := [some (rc_q v0), some (rc_q x2), none, some (rc_i (3 : Int32)), none, none]) rfl ?_
    exact rw_X2_command_q0_L329 hC hH  v0 x2 (3 : Int32) S h
  rcases h.ite with ⟨hc, h⟩ | ⟨hc6, h⟩
  · refine rc_lookup (pc := 96) (tgt := 272) hC (off := 176) dX2_command_96 rfl (by rw [hc]; rfl) rfl ?_
    refine rc_aload_n (pc := 272) hC dX2_command_272 rfl rfl ?_
    refine rc_r_text (pc := 273) hC (i := 15) rfl dX2_command_273 h ?_
    intro x16 h
    obtain ⟨⟨fs, ho⟩, h⟩ := h.is
    refine rc_callV (pc := 275) hC rfl ho (rw_J4_equals hH.1 x2 x16) q687 q688 q689 q121 q690 rfl rd_J4_equals (hH.room (Nat.le_of_ble_eq_true rfl) (Nat.le_of_ble_eq_true rfl)) rfl rfl (Nat.le_of_ble_eq_true rfl) 1 rfl h.le.2.2 h.br rfl dX2_command_275 ?_ (fun E q S hT => rc_out hC hH.2.2.2.2 hT)
    intro x17 S h
    show rc_Z Y S 278 [some (rc_q v0), some (rc_q x2), some (rc_q x2), some (rc_i (-1 : Int32)), none, none] [rc_i x17]
    refine rc_if_eq (pc := 278) (tgt := 329) hC dX2_command_278 rfl h ?_ ?_
    · intro _ h
      refine rc_drop [true, true, false, true, false, false] (L' := [some (rc_q v0), some (rc_q x2), none, some (rc_i (-1 : Int32)), none, none]) rfl ?_
      exact rw_X2_command_q0_L329 hC hH  v0 x2 (-1 : Int32) S h
    intro _ h
    refine rc_bipush (pc := 281) hC (v := (6 : Int32)) dX2_command_281 rfl ?_
    refine rc_istore_n (pc := 283) hC (L' := [some (rc_q v0), some (rc_q x2), some (rc_q x2), some (rc_i (6 : Int32)), none, none]) dX2_command_283 rfl (Nat.le_of_ble_eq_true rfl) rfl rfl ?_
    refine rc_goto (pc := 284) (tgt := 329) hC dX2_command_284 rfl ?_
    refine rc_drop [true, true, false, true, false, false] (L' := [some (rc_q v0), some (rc_q x2), none, some (rc_i (6 : Int32)), none, none]) rfl ?_
    exact rw_X2_command_q0_L329 hC hH  v0 x2 (6 : Int32) S h
  rcases h.ite with ⟨hc, h⟩ | ⟨hc7, h⟩
  · refine rc_lookup (pc := 96) (tgt := 244) hC (off := 148) dX2_command_96 rfl (by rw [hc]; rfl) rfl ?_
    refine rc_aload_n (pc := 244) hC dX2_command_244 rfl rfl ?_
    refine rc_r_text (pc := 245) hC (i := 13) rfl dX2_command_245 h ?_
    intro x18 h
    obtain ⟨⟨fs, ho⟩, h⟩ := h.is
    refine rc_callV (pc := 247) hC rfl ho (rw_J4_equals hH.1 x2 x18) q687 q688 q689 q121 q690 rfl rd_J4_equals (hH.room (Nat.le_of_ble_eq_true rfl) (Nat.le_of_ble_eq_true rfl)) rfl rfl (Nat.le_of_ble_eq_true rfl) 1 rfl h.le.2.2 h.br rfl dX2_command_247 ?_ (fun E q S hT => rc_out hC hH.2.2.2.2 hT)
    intro x19 S h
    show rc_Z Y S 250 [some (rc_q v0), some (rc_q x2), some (rc_q x2), some (rc_i (-1 : Int32)), none, none] [rc_i x19]
    refine rc_if_eq (pc := 250) (tgt := 329) hC dX2_command_250 rfl h ?_ ?_
    · intro _ h
      refine rc_drop [true, true, false, true, false, false] (L' := [some (rc_q v0), some (rc_q x2), none, some (rc_i (-1 : Int32)), none, none]) rfl ?_
      exact rw_X2_command_q0_L329 hC hH  v0 x2 (-1 : Int32) S h
    intro _ h
    refine rc_iconst (pc := 253) hC (v := (4 : Int32)) dX2_command_253 rfl ?_
    refine rc_istore_n (pc := 254) hC (L' := [some (rc_q v0), some (rc_q x2), some (rc_q x2), some (rc_i (4 : Int32)), none, none]) dX2_command_254 rfl (Nat.le_of_ble_eq_true rfl) rfl rfl ?_
    refine rc_goto (pc := 255) (tgt := 329) hC dX2_command_255 rfl ?_
    refine rc_drop [true, true, false, true, false, false] (L' := [some (rc_q v0), some (rc_q x2), none, some (rc_i (4 : Int32)), none, none]) rfl ?_
    exact rw_X2_command_q0_L329 hC hH  v0 x2 (4 : Int32) S h
  rcases h.ite with ⟨hc, h⟩ | ⟨hc8, h⟩
  · refine rc_lookup (pc := 96) (tgt := 287) hC (off := 191) dX2_command_96 rfl (by rw [hc]; rfl) rfl ?_
    refine rc_aload_n (pc := 287) hC dX2_command_287 rfl rfl ?_
    refine rc_r_text (pc := 288) hC (i := 16) rfl dX2_command_288 h ?_
    intro x20 h
    obtain ⟨⟨fs, ho⟩, h⟩ := h.is
    refine rc_callV (pc := 290) hC rfl ho (rw_J4_equals hH.1 x2 x20) q687 q688 q689 q121 q690 rfl rd_J4_equals (hH.room (Nat.le_of_ble_eq_true rfl) (Nat.le_of_ble_eq_true rfl)) rfl rfl (Nat.le_of_ble_eq_true rfl) 1 rfl h.le.2.2 h.br rfl dX2_command_290 ?_ (fun E q S hT => rc_out hC hH.2.2.2.2 hT)
    intro x21 S h
    show rc_Z Y S 293 [some (rc_q v0), some (rc_q x2), some (rc_q x2), some (rc_i (-1 : Int32)), none, none] [rc_i x21]
    refine rc_if_eq (pc := 293) (tgt := 329) hC dX2_command_293 rfl h ?_ ?_
    · intro _ h
      refine rc_drop [true, true, false, true, false, false] (L' := [some (rc_q v0), some (rc_q x2), none, some (rc_i (-1 : Int32)), none, none]) rfl ?_
      exact rw_X2_command_q0_L329 hC hH  v0 x2 (-1 : Int32) S h
    intro _ h
    refine rc_bipush (pc := 296) hC (v := (7 : Int32)) dX2_command_296 rfl ?_
    refine rc_istore_n (pc := 298) hC (L' := [some (rc_q v0), some (rc_q x2), some (rc_q x2), some (rc_i (7 : Int32)), none, none]) dX2_command_298 rfl (Nat.le_of_ble_eq_true rfl) rfl rfl ?_
    refine rc_goto (pc := 299) (tgt := 329) hC dX2_command_299 rfl ?_
    refine rc_drop [true, true, false, true, false, false] (L' := [some (rc_q v0), some (rc_q x2), none, some (rc_i (7 : Int32)), none, none]) rfl ?_
    exact rw_X2_command_q0_L329 hC hH  v0 x2 (7 : Int32) S h
  rcases h.ite with ⟨hc, h⟩ | ⟨hc9, h⟩
  · refine rc_lookup (pc := 96) (tgt := 188) hC (off := 92) dX2_command_96 rfl (by rw [hc]; rfl) rfl ?_
    refine rc_aload_n (pc := 188) hC dX2_command_188 rfl rfl ?_
    refine rc_r_text (pc := 189) hC (i := 9) rfl dX2_command_189 h ?_
    intro x22 h
    obtain ⟨⟨fs, ho⟩, h⟩ := h.is
    refine rc_callV (pc := 191) hC rfl ho (rw_J4_equals hH.1 x2 x22) q687 q688 q689 q121 q690 rfl rd_J4_equals (hH.room (Nat.le_of_ble_eq_true rfl) (Nat.le_of_ble_eq_true rfl)) rfl rfl (Nat.le_of_ble_eq_true rfl) 1 rfl h.le.2.2 h.br rfl dX2_command_191 ?_ (fun E q S hT => rc_out hC hH.2.2.2.2 hT)
    intro x23 S h
    show rc_Z Y S 194 [some (rc_q v0), some (rc_q x2), some (rc_q x2), some (rc_i (-1 : Int32)), none, none] [rc_i x23]
    refine rc_if_eq (pc := 194) (tgt := 329) hC dX2_command_194 rfl h ?_ ?_
    · intro _ h
      refine rc_drop [true, true, false, true, false, false] (L' := [some (rc_q v0), some (rc_q x2), none, some (rc_i (-1 : Int32)), none, none]) rfl ?_
      exact rw_X2_command_q0_L329 hC hH  v0 x2 (-1 : Int32) S h
    intro _ h
    refine rc_iconst (pc := 197) hC (v := (0 : Int32)) dX2_command_197 rfl ?_
    refine rc_istore_n (pc := 198) hC (L' := [some (rc_q v0), some (rc_q x2), some (rc_q x2), some (rc_i (0 : Int32)), none, none]) dX2_command_198 rfl (Nat.le_of_ble_eq_true rfl) rfl rfl ?_
    refine rc_goto (pc := 199) (tgt := 329) hC dX2_command_199 rfl ?_
    refine rc_drop [true, true, false, true, false, false] (L' := [some (rc_q v0), some (rc_q x2), none, some (rc_i (0 : Int32)), none, none]) rfl ?_
    exact rw_X2_command_q0_L329 hC hH  v0 x2 (0 : Int32) S h
  refine rc_lookup (pc := 96) (tgt := 329) hC (off := 233) dX2_command_96 rfl (rc_offC hc0 rfl (rc_offC hc1 rfl (rc_offC hc2 rfl (rc_offC hc3 rfl (rc_offC hc4 rfl (rc_offC hc5 rfl (rc_offC hc6 rfl (rc_offC hc7 rfl (rc_offC hc8 rfl (rc_offC hc9 rfl rc_offZ)))))))))) rfl ?_
  refine rc_drop [true, true, false, true, false, false] (L' := [some (rc_q v0), some (rc_q x2), none, some (rc_i (-1 : Int32)), none, none]) rfl ?_
  exact rw_X2_command_q0_L329 hC hH  v0 x2 (-1 : Int32) S h
theorem rw_X2_command_q0_L16 {Y : rc_Y} (hC : rc_C Y cX2_command RX2 (Option.none : Option Jvm.ClassFile.FieldType) 6) (hH : rc_H Y 13 256 yX2_command.name) (v0 : Option Nat) (s0 : Int32) (s1 : Option Nat) (S : rc_S) (h : rc_Go Y rc_tU (rp_X2_command_L16 rp_X2_repeat_q0  v0 s0 s1) S) : rc_Z Y S 16 [some (rc_q v0), none, none, none, none, none] [rc_i s0, rc_q s1] := by
  unfold rp_X2_command_L16 at h
  refine rc_iconst (pc := 16) hC (v := (1 : Int32)) dX2_command_16 rfl ?_
  obtain ⟨⟨fs, ho⟩, h⟩ := h.is
  refine rc_callV (pc := 17) hC rfl ho (rw_X2_check hH.1 s1 s0 (1 : Int32)) q695 q697 qs4 q123 q698 rfl rd_X2_check (hH.room (Nat.le_of_ble_eq_true rfl) (Nat.le_of_ble_eq_true rfl)) rfl rfl (Nat.le_of_ble_eq_true rfl) 2 rfl h.le.2.2 h.br rfl dX2_command_17 ?_ (fun E q S hT => rc_out hC hH.2.2.2.2 hT)
  intro _ S h
  show rc_Z Y S 20 [some (rc_q v0), none, none, none, none, none] []
  refine rc_aload_n (pc := 20) hC dX2_command_20 rfl rfl ?_
  refine rc_r_getq (pc := 21) hC rF_X2_22 dX2_command_21 h ?_
  intro x1 h
  refine rc_r_text (pc := 24) hC (i := 7) rfl dX2_command_24 h ?_
  intro x2 h
  obtain ⟨⟨fs, ho⟩, h⟩ := h.is
  refine rc_callV (pc := 26) hC rfl ho (rw_J4_equals hH.1 x1 x2) q687 q688 q689 q121 q690 rfl rd_J4_equals (hH.room (Nat.le_of_ble_eq_true rfl) (Nat.le_of_ble_eq_true rfl)) rfl rfl (Nat.le_of_ble_eq_true rfl) 1 rfl h.le.2.2 h.br rfl dX2_command_26 ?_ (fun E q S hT => rc_out hC hH.2.2.2.2 hT)
  intro x3 S h
  show rc_Z Y S 29 [some (rc_q v0), none, none, none, none, none] [rc_i x3]
  refine rc_if_eq (pc := 29) (tgt := 37) hC dX2_command_29 rfl h ?_ ?_
  · intro _ h
    refine rc_aload_n (pc := 37) hC dX2_command_37 rfl rfl ?_
    refine rc_aload_n (pc := 38) hC dX2_command_38 rfl rfl ?_
    refine rc_r_getq (pc := 39) hC rF_X2_22 dX2_command_39 h ?_
    intro x4 h
    refine rc_callS (pc := 42) hC (rw_X2_isCommand hH.1 x4) q742 q743 q123 q744 rd_X2_isCommand (hH.room (Nat.le_of_ble_eq_true rfl) (Nat.le_of_ble_eq_true rfl)) rfl rfl (Nat.le_of_ble_eq_true rfl) 1 rfl h.le.2.2 h.br rfl dX2_command_42 ?_ (fun E q S hT => rc_out hC hH.2.2.2.2 hT)
    intro x5 S h
    show rc_Z Y S 45 [some (rc_q v0), none, none, none, none, none] [rc_i x5, rc_q v0]
    refine rc_iconst (pc := 45) hC (v := (1 : Int32)) dX2_command_45 rfl ?_
    obtain ⟨⟨fs, ho⟩, h⟩ := h.is
    refine rc_callV (pc := 46) hC rfl ho (rw_X2_check hH.1 v0 x5 (1 : Int32)) q695 q697 qs4 q123 q698 rfl rd_X2_check (hH.room (Nat.le_of_ble_eq_true rfl) (Nat.le_of_ble_eq_true rfl)) rfl rfl (Nat.le_of_ble_eq_true rfl) 2 rfl h.le.2.2 h.br rfl dX2_command_46 ?_ (fun E q S hT => rc_out hC hH.2.2.2.2 hT)
    intro _ S h
    show rc_Z Y S 49 [some (rc_q v0), none, none, none, none, none] []
    refine rc_aload_n (pc := 49) hC dX2_command_49 rfl rfl ?_
    refine rc_aload_n (pc := 50) hC dX2_command_50 rfl rfl ?_
    refine rc_r_geti (pc := 51) hC rF_X2_164 dX2_command_51 h ?_
    intro x6 h
    refine rc_sipush (pc := 54) hC (v := (200 : Int32)) dX2_command_54 rfl ?_
    refine rc_icmp_ge (pc := 57) (tgt := 64) hC dX2_command_57 rfl h ?_ ?_
    · intro _ h
      refine rc_iconst (pc := 64) hC (v := (0 : Int32)) dX2_command_64 rfl ?_
      exact rw_X2_command_q0_L65 hC hH  v0 (0 : Int32) v0 S h
    intro _ h
    refine rc_iconst (pc := 60) hC (v := (1 : Int32)) dX2_command_60 rfl ?_
    refine rc_goto (pc := 61) (tgt := 65) hC dX2_command_61 rfl ?_
    exact rw_X2_command_q0_L65 hC hH  v0 (1 : Int32) v0 S h
  intro _ h
  refine rc_aload_n (pc := 32) hC dX2_command_32 rfl rfl ?_
  obtain ⟨⟨fs, ho⟩, h⟩ := h.is
  refine rc_callV (pc := 33) hC rfl ho (rw_X2_repeat_q0 hH.1 v0) q734 q736 qs7 q123 q737 rfl rd_X2_repeat (hH.room (Nat.le_of_ble_eq_true rfl) (Nat.le_of_ble_eq_true rfl)) rfl rfl (Nat.le_of_ble_eq_true rfl) 0 rfl h.le.2.2 h.br rfl dX2_command_33 ?_ (fun E q S hT => rc_out hC hH.2.2.2.2 hT)
  intro _ S h
  show rc_Z Y S 36 [some (rc_q v0), none, none, none, none, none] []
  exact rc_vret hC rfl dX2_command_36 h rfl
theorem rw_X2_command_q0 {l : Launch} (hl : l.stackTraces = false) (v0 : Option Nat) : rc_Ct l yX2_command (ws_ yX2_command cX2_command 6 (Option.none : Option Jvm.ClassFile.FieldType)) 13 256 rc_tU (rp_X2_command rp_X2_repeat_q0 v0) [rc_q v0] := by
  refine rc_Ct_H hl (plainFor_of_name rY_X2) rfl (Nat.le_of_ble_eq_true rfl) (L0 := [some (rc_q v0), none, none, none, none, none]) rfl ?_
  intro Y S hC hH h
  have hC : rc_C Y cX2_command RX2 (Option.none : Option Jvm.ClassFile.FieldType) 6 := hC
  unfold rp_X2_command at h
  refine rc_aload_n (pc := 0) hC dX2_command_0 rfl rfl ?_
  refine rc_aload_n (pc := 1) hC dX2_command_1 rfl rfl ?_
  refine rc_r_getq (pc := 2) hC rF_X2_15 dX2_command_2 h ?_
  intro x1 h
  refine rc_r_stat (pc := 5) hC rS_X2_64 dX2_command_5 h ?_
  intro x2 h
  refine rc_acmp_ne (pc := 8) (tgt := 15) hC dX2_command_8 rfl h ?_ ?_
  · intro _ h
    refine rc_iconst (pc := 15) hC (v := (0 : Int32)) dX2_command_15 rfl ?_
    exact rw_X2_command_q0_L16 hC hH  v0 (0 : Int32) v0 S h
  intro _ h
  refine rc_iconst (pc := 11) hC (v := (1 : Int32)) dX2_command_11 rfl ?_
  refine rc_goto (pc := 12) (tgt := 16) hC dX2_command_12 rfl ?_
  exact rw_X2_command_q0_L16 hC hH  v0 (1 : Int32) v0 S h
theorem rw_X2_repeat_q1_L81 {Y : rc_Y} (hC : rc_C Y cX2_repeat RX2 (Option.none : Option Jvm.ClassFile.FieldType) 4) (hH : rc_H Y 14 281 yX2_repeat.name) {k67 : Option Nat → Int32 → Int32 → Int32 → rc_M Unit} (hk67 : ∀ (v0 : Option Nat) (v1 : Int32) (v2 : Int32) (v3 : Int32) (S : rc_S), rc_Go Y rc_tU (k67 v0 v1 v2 v3) S → rc_Z Y S 67 [some (rc_q v0), some (rc_i v1), some (rc_i v2), some (rc_i v3)] []) : ∀ (n : Nat) (v0 : Option Nat) (v1 : Int32) (v2 : Int32) (v3 : Int32) (S : rc_S), rc_Go Y rc_tU (rp_X2_repeat_L81 rp_X2_command_q0 k67 n v0 v1 v2 v3) S → rc_Z Y S 81 [some (rc_q v0), some (rc_i v1), some (rc_i v2), some (rc_i v3)] [] := by
  intro n
  induction n with
  | zero => intro v0 v1 v2 v3 S h; exact h.fail.elim
  | succ n ih =>
    intro v0 v1 v2 v3 S h
    rw [rp_X2_repeat_L81] at h
    refine rc_aload_n (pc := 81) hC dX2_repeat_81 rfl rfl ?_
    refine rc_r_getq (pc := 82) hC rF_X2_15 dX2_repeat_82 h ?_
    intro x1 h
    refine rc_r_stat (pc := 85) hC rS_X2_80 dX2_repeat_85 h ?_
    intro x2 h
    refine rc_acmp_eq (pc := 88) (tgt := 98) hC dX2_repeat_88 rfl h ?_ ?_
    · intro _ h
      refine rc_iinc (pc := 98) hC (v := (v3 + (1 : Int32))) (L' := [some (rc_q v0), some (rc_i v1), some (rc_i v2), some (rc_i (v3 + (1 : Int32)))]) dX2_repeat_98 rfl rfl rfl rfl ?_
      refine rc_goto (pc := 101) (tgt := 67) hC dX2_repeat_101 rfl ?_
      exact hk67 v0 v1 v2 (v3 + (1 : Int32)) S h
    intro _ h
    refine rc_aload_n (pc := 91) hC dX2_repeat_91 rfl rfl ?_
    obtain ⟨⟨fs, ho⟩, h⟩ := h.is
    refine rc_callV (pc := 92) hC rfl ho (rw_X2_command_q0 hH.1 v0) q729 q731 qs6 q123 q732 rfl rd_X2_command (hH.room (Nat.le_of_ble_eq_true rfl) (Nat.le_of_ble_eq_true rfl)) rfl rfl (Nat.le_of_ble_eq_true rfl) 0 rfl h.le.2.2 h.br rfl dX2_repeat_92 ?_ (fun E q S hT => rc_out hC hH.2.2.2.2 hT)
    intro _ S h
    show rc_Z Y S 95 [some (rc_q v0), some (rc_i v1), some (rc_i v2), some (rc_i v3)] []
    refine rc_goto (pc := 95) (tgt := 81) hC dX2_repeat_95 rfl ?_
    exact ih v0 v1 v2 v3 S h
theorem rw_X2_repeat_q1_L67 {Y : rc_Y} (hC : rc_C Y cX2_repeat RX2 (Option.none : Option Jvm.ClassFile.FieldType) 4) (hH : rc_H Y 14 281 yX2_repeat.name) : ∀ (n : Nat) (v0 : Option Nat) (v1 : Int32) (v2 : Int32) (v3 : Int32) (S : rc_S), rc_Go Y rc_tU (rp_X2_repeat_L67 rp_X2_command_q0  n v0 v1 v2 v3) S → rc_Z Y S 67 [some (rc_q v0), some (rc_i v1), some (rc_i v2), some (rc_i v3)] [] := by
  intro n
  induction n with
  | zero => intro v0 v1 v2 v3 S h; exact h.fail.elim
  | succ n ih =>
    intro v0 v1 v2 v3 S h
    rw [rp_X2_repeat_L67] at h
    refine rc_iload_n (pc := 67) hC dX2_repeat_67 rfl rfl ?_
    refine rc_iload_n (pc := 68) hC dX2_repeat_68 rfl rfl ?_
    refine rc_icmp_ge (pc := 69) (tgt := 104) hC dX2_repeat_69 rfl h ?_ ?_
    · intro _ h
      refine rc_aload_n (pc := 104) hC dX2_repeat_104 rfl rfl ?_
      refine rc_dup (pc := 105) hC dX2_repeat_105 rfl ?_
      refine rc_r_geti (pc := 106) hC rF_X2_261 dX2_repeat_106 h ?_
      intro x1 h
      refine rc_iconst (pc := 109) hC (v := (1 : Int32)) dX2_repeat_109 rfl ?_
      refine rc_isub (pc := 110) hC dX2_repeat_110 ?_
      refine rc_r_put (pc := 111) hC rP_X2_261 (nofun) dX2_repeat_111 h ?_
      intro S h
      refine rc_aload_n (pc := 114) hC dX2_repeat_114 rfl rfl ?_
      obtain ⟨⟨fs, ho⟩, h⟩ := h.is
      refine rc_callV (pc := 115) hC rfl ho (rw_X2_advance hH.1 v0) q298 q300 qs0 q123 q301 rfl rd_X2_advance (hH.room (Nat.le_of_ble_eq_true rfl) (Nat.le_of_ble_eq_true rfl)) rfl rfl (Nat.le_of_ble_eq_true rfl) 0 rfl h.le.2.2 h.br rfl dX2_repeat_115 ?_ (fun E q S hT => rc_out hC hH.2.2.2.2 hT)
      intro _ S h
      show rc_Z Y S 118 [some (rc_q v0), some (rc_i v1), some (rc_i v2), some (rc_i v3)] []
      refine rc_aload_n (pc := 118) hC dX2_repeat_118 rfl rfl ?_
      refine rc_iconst (pc := 119) hC (v := (1 : Int32)) dX2_repeat_119 rfl ?_
      obtain ⟨⟨fs, ho⟩, h⟩ := h.is
      refine rc_callV (pc := 120) hC rfl ho (rw_X2_end hH.1 v0 (1 : Int32)) q725 q727 qs5 q123 q728 rfl rd_X2_end (hH.room (Nat.le_of_ble_eq_true rfl) (Nat.le_of_ble_eq_true rfl)) rfl rfl (Nat.le_of_ble_eq_true rfl) 1 rfl h.le.2.2 h.br rfl dX2_repeat_120 ?_ (fun E q S hT => rc_out hC hH.2.2.2.2 hT)
      intro _ S h
      show rc_Z Y S 123 [some (rc_q v0), some (rc_i v1), some (rc_i v2), some (rc_i v3)] []
      refine rc_aload_n (pc := 123) hC dX2_repeat_123 rfl rfl ?_
      obtain ⟨⟨fs, ho⟩, h⟩ := h.is
      refine rc_callV (pc := 124) hC rfl ho (rw_X2_advance hH.1 v0) q298 q300 qs0 q123 q301 rfl rd_X2_advance (hH.room (Nat.le_of_ble_eq_true rfl) (Nat.le_of_ble_eq_true rfl)) rfl rfl (Nat.le_of_ble_eq_true rfl) 0 rfl h.le.2.2 h.br rfl dX2_repeat_124 ?_ (fun E q S hT => rc_out hC hH.2.2.2.2 hT)
      intro _ S h
      show rc_Z Y S 127 [some (rc_q v0), some (rc_i v1), some (rc_i v2), some (rc_i v3)] []
      exact rc_vret hC rfl dX2_repeat_127 h rfl
    intro _ h
    refine rc_aload_n (pc := 72) hC dX2_repeat_72 rfl rfl ?_
    refine rc_iload_n (pc := 73) hC dX2_repeat_73 rfl rfl ?_
    refine rc_r_put (pc := 74) hC rP_X2_39 (nofun) dX2_repeat_74 h ?_
    intro S h
    refine rc_aload_n (pc := 77) hC dX2_repeat_77 rfl rfl ?_
    obtain ⟨⟨fs, ho⟩, h⟩ := h.is
    refine rc_callV (pc := 78) hC rfl ho (rw_X2_advance hH.1 v0) q298 q300 qs0 q123 q301 rfl rd_X2_advance (hH.room (Nat.le_of_ble_eq_true rfl) (Nat.le_of_ble_eq_true rfl)) rfl rfl (Nat.le_of_ble_eq_true rfl) 0 rfl h.le.2.2 h.br rfl dX2_repeat_78 ?_ (fun E q S hT => rc_out hC hH.2.2.2.2 hT)
    intro _ S h
    show rc_Z Y S 81 [some (rc_q v0), some (rc_i v1), some (rc_i v2), some (rc_i v3)] []
    refine rc_r_fuel h ?_
    intro x2 h
    exact rw_X2_repeat_q1_L81 hC hH ih x2 v0 v1 v2 v3 S h
theorem rw_X2_repeat_q1_L46 {Y : rc_Y} (hC : rc_C Y cX2_repeat RX2 (Option.none : Option Jvm.ClassFile.FieldType) 4) (hH : rc_H Y 14 281 yX2_repeat.name) (v0 : Option Nat) (v1 : Int32) (s0 : Int32) (s1 : Option Nat) (S : rc_S) (h : rc_Go Y rc_tU (rp_X2_repeat_L46 rp_X2_command_q0  v0 v1 s0 s1) S) : rc_Z Y S 46 [some (rc_q v0), some (rc_i v1), none, none] [rc_i s0, rc_q s1] := by
  unfold rp_X2_repeat_L46 at h
  refine rc_iconst (pc := 46) hC (v := (1 : Int32)) dX2_repeat_46 rfl ?_
  obtain ⟨⟨fs, ho⟩, h⟩ := h.is
  refine rc_callV (pc := 47) hC rfl ho (rw_X2_check hH.1 s1 s0 (1 : Int32)) q695 q697 qs4 q123 q698 rfl rd_X2_check (hH.room (Nat.le_of_ble_eq_true rfl) (Nat.le_of_ble_eq_true rfl)) rfl rfl (Nat.le_of_ble_eq_true rfl) 2 rfl h.le.2.2 h.br rfl dX2_repeat_47 ?_ (fun E q S hT => rc_out hC hH.2.2.2.2 hT)
  intro _ S h
  show rc_Z Y S 50 [some (rc_q v0), some (rc_i v1), none, none] []
  refine rc_aload_n (pc := 50) hC dX2_repeat_50 rfl rfl ?_
  refine rc_r_geti (pc := 51) hC rF_X2_39 dX2_repeat_51 h ?_
  intro x1 h
  refine rc_istore_n (pc := 54) hC (L' := [some (rc_q v0), some (rc_i v1), some (rc_i x1), none]) dX2_repeat_54 rfl (Nat.le_of_ble_eq_true rfl) rfl rfl ?_
  refine rc_aload_n (pc := 55) hC dX2_repeat_55 rfl rfl ?_
  refine rc_dup (pc := 56) hC dX2_repeat_56 rfl ?_
  refine rc_r_geti (pc := 57) hC rF_X2_261 dX2_repeat_57 h ?_
  intro x2 h
  refine rc_iconst (pc := 60) hC (v := (1 : Int32)) dX2_repeat_60 rfl ?_
  refine rc_iadd (pc := 61) hC dX2_repeat_61 ?_
  refine rc_r_put (pc := 62) hC rP_X2_261 (nofun) dX2_repeat_62 h ?_
  intro S h
  refine rc_iconst (pc := 65) hC (v := (0 : Int32)) dX2_repeat_65 rfl ?_
  refine rc_istore_n (pc := 66) hC (L' := [some (rc_q v0), some (rc_i v1), some (rc_i x1), some (rc_i (0 : Int32))]) dX2_repeat_66 rfl (Nat.le_of_ble_eq_true rfl) rfl rfl ?_
  refine rc_r_fuel h ?_
  intro x3 h
  exact rw_X2_repeat_q1_L67 hC hH  x3 v0 v1 x1 (0 : Int32) S h
theorem rw_X2_repeat_q1_L14 {Y : rc_Y} (hC : rc_C Y cX2_repeat RX2 (Option.none : Option Jvm.ClassFile.FieldType) 4) (hH : rc_H Y 14 281 yX2_repeat.name) (v0 : Option Nat) (s0 : Int32) (s1 : Option Nat) (S : rc_S) (h : rc_Go Y rc_tU (rp_X2_repeat_L14 rp_X2_command_q0  v0 s0 s1) S) : rc_Z Y S 14 [some (rc_q v0), none, none, none] [rc_i s0, rc_q s1] := by
  unfold rp_X2_repeat_L14 at h
  refine rc_iconst (pc := 14) hC (v := (4 : Int32)) dX2_repeat_14 rfl ?_
  obtain ⟨⟨fs, ho⟩, h⟩ := h.is
  refine rc_callV (pc := 15) hC rfl ho (rw_X2_check hH.1 s1 s0 (4 : Int32)) q695 q697 qs4 q123 q698 rfl rd_X2_check (hH.room (Nat.le_of_ble_eq_true rfl) (Nat.le_of_ble_eq_true rfl)) rfl rfl (Nat.le_of_ble_eq_true rfl) 2 rfl h.le.2.2 h.br rfl dX2_repeat_15 ?_ (fun E q S hT => rc_out hC hH.2.2.2.2 hT)
  intro _ S h
  show rc_Z Y S 18 [some (rc_q v0), none, none, none] []
  refine rc_aload_n (pc := 18) hC dX2_repeat_18 rfl rfl ?_
  obtain ⟨⟨fs, ho⟩, h⟩ := h.is
  refine rc_callV (pc := 19) hC rfl ho (rw_X2_advance hH.1 v0) q298 q300 qs0 q123 q301 rfl rd_X2_advance (hH.room (Nat.le_of_ble_eq_true rfl) (Nat.le_of_ble_eq_true rfl)) rfl rfl (Nat.le_of_ble_eq_true rfl) 0 rfl h.le.2.2 h.br rfl dX2_repeat_19 ?_ (fun E q S hT => rc_out hC hH.2.2.2.2 hT)
  intro _ S h
  show rc_Z Y S 22 [some (rc_q v0), none, none, none] []
  refine rc_aload_n (pc := 22) hC dX2_repeat_22 rfl rfl ?_
  refine rc_iconst (pc := 23) hC (v := (1 : Int32)) dX2_repeat_23 rfl ?_
  refine rc_bipush (pc := 24) hC (v := (20 : Int32)) dX2_repeat_24 rfl ?_
  obtain ⟨⟨fs, ho⟩, h⟩ := h.is
  refine rc_callV (pc := 26) hC rfl ho (rw_X2_number hH.1 v0 (1 : Int32) (20 : Int32)) q738 q740 qs8 q123 q741 rfl rd_X2_number (hH.room (Nat.le_of_ble_eq_true rfl) (Nat.le_of_ble_eq_true rfl)) rfl rfl (Nat.le_of_ble_eq_true rfl) 2 rfl h.le.2.2 h.br rfl dX2_repeat_26 ?_ (fun E q S hT => rc_out hC hH.2.2.2.2 hT)
  intro x1 S h
  show rc_Z Y S 29 [some (rc_q v0), none, none, none] [rc_i x1]
  refine rc_istore_n (pc := 29) hC (L' := [some (rc_q v0), some (rc_i x1), none, none]) dX2_repeat_29 rfl (Nat.le_of_ble_eq_true rfl) rfl rfl ?_
  refine rc_aload_n (pc := 30) hC dX2_repeat_30 rfl rfl ?_
  refine rc_aload_n (pc := 31) hC dX2_repeat_31 rfl rfl ?_
  refine rc_r_getq (pc := 32) hC rF_X2_15 dX2_repeat_32 h ?_
  intro x2 h
  refine rc_r_stat (pc := 35) hC rS_X2_77 dX2_repeat_35 h ?_
  intro x3 h
  refine rc_acmp_ne (pc := 38) (tgt := 45) hC dX2_repeat_38 rfl h ?_ ?_
  · intro _ h
    refine rc_iconst (pc := 45) hC (v := (0 : Int32)) dX2_repeat_45 rfl ?_
    exact rw_X2_repeat_q1_L46 hC hH  v0 x1 (0 : Int32) v0 S h
  intro _ h
  refine rc_iconst (pc := 41) hC (v := (1 : Int32)) dX2_repeat_41 rfl ?_
  refine rc_goto (pc := 42) (tgt := 46) hC dX2_repeat_42 rfl ?_
  exact rw_X2_repeat_q1_L46 hC hH  v0 x1 (1 : Int32) v0 S h
theorem rw_X2_repeat_q1 {l : Launch} (hl : l.stackTraces = false) (v0 : Option Nat) : rc_Ct l yX2_repeat (ws_ yX2_repeat cX2_repeat 4 (Option.none : Option Jvm.ClassFile.FieldType)) 14 281 rc_tU (rp_X2_repeat rp_X2_command_q0 v0) [rc_q v0] := by
  refine rc_Ct_H hl (plainFor_of_name rY_X2) rfl (Nat.le_of_ble_eq_true rfl) (L0 := [some (rc_q v0), none, none, none]) rfl ?_
  intro Y S hC hH h
  have hC : rc_C Y cX2_repeat RX2 (Option.none : Option Jvm.ClassFile.FieldType) 4 := hC
  unfold rp_X2_repeat at h
  refine rc_aload_n (pc := 0) hC dX2_repeat_0 rfl rfl ?_
  refine rc_aload_n (pc := 1) hC dX2_repeat_1 rfl rfl ?_
  refine rc_r_geti (pc := 2) hC rF_X2_261 dX2_repeat_2 h ?_
  intro x1 h
  refine rc_iconst (pc := 5) hC (v := (2 : Int32)) dX2_repeat_5 rfl ?_
  refine rc_icmp_ge (pc := 6) (tgt := 13) hC dX2_repeat_6 rfl h ?_ ?_
  · intro _ h
    refine rc_iconst (pc := 13) hC (v := (0 : Int32)) dX2_repeat_13 rfl ?_
    exact rw_X2_repeat_q1_L14 hC hH  v0 (0 : Int32) v0 S h
  intro _ h
  refine rc_iconst (pc := 9) hC (v := (1 : Int32)) dX2_repeat_9 rfl ?_
  refine rc_goto (pc := 10) (tgt := 14) hC dX2_repeat_10 rfl ?_
  exact rw_X2_repeat_q1_L14 hC hH  v0 (1 : Int32) v0 S h
theorem rw_X2_command_q1_L534 {Y : rc_Y} (hC : rc_C Y cX2_command RX2 (Option.none : Option Jvm.ClassFile.FieldType) 6) (hH : rc_H Y 15 304 yX2_command.name) (v0 : Option Nat) (S : rc_S) (h : rc_Go Y rc_tU (rp_X2_command_L534 rp_X2_repeat_q1  v0) S) : rc_Z Y S 534 [some (rc_q v0), none, none, none, none, none] [] := by
  unfold rp_X2_command_L534 at h
  refine rc_aload_n (pc := 534) hC dX2_command_534 rfl rfl ?_
  obtain ⟨⟨fs, ho⟩, h⟩ := h.is
  refine rc_callV (pc := 535) hC rfl ho (rw_X2_advance hH.1 v0) q298 q300 qs0 q123 q301 rfl rd_X2_advance (hH.room (Nat.le_of_ble_eq_true rfl) (Nat.le_of_ble_eq_true rfl)) rfl rfl (Nat.le_of_ble_eq_true rfl) 0 rfl h.le.2.2 h.br rfl dX2_command_535 ?_ (fun E q S hT => rc_out hC hH.2.2.2.2 hT)
  intro _ S h
  show rc_Z Y S 538 [some (rc_q v0), none, none, none, none, none] []
  exact rc_vret hC rfl dX2_command_538 h rfl
theorem rw_X2_command_q1_L384 {Y : rc_Y} (hC : rc_C Y cX2_command RX2 (Option.none : Option Jvm.ClassFile.FieldType) 6) (hH : rc_H Y 15 304 yX2_command.name) (v0 : Option Nat) (v1 : Option Nat) (S : rc_S) (h : rc_Go Y rc_tU (rp_X2_command_L384 rp_X2_repeat_q1  v0 v1) S) : rc_Z Y S 384 [some (rc_q v0), some (rc_q v1), none, none, none, none] [] := by
  unfold rp_X2_command_L384 at h
  refine rc_aload_n (pc := 384) hC dX2_command_384 rfl rfl ?_
  refine rc_aload_n (pc := 385) hC dX2_command_385 rfl rfl ?_
  obtain ⟨⟨fs, ho⟩, h⟩ := h.is
  refine rc_callV (pc := 386) hC rfl ho (rw_X2_build hH.1 v0 v1) q814 q816 qs9 q123 q817 rfl rd_X2_build (hH.room (Nat.le_of_ble_eq_true rfl) (Nat.le_of_ble_eq_true rfl)) rfl rfl (Nat.le_of_ble_eq_true rfl) 1 rfl h.le.2.2 h.br rfl dX2_command_386 ?_ (fun E q S hT => rc_out hC hH.2.2.2.2 hT)
  intro _ S h
  show rc_Z Y S 389 [some (rc_q v0), some (rc_q v1), none, none, none, none] []
  refine rc_goto (pc := 389) (tgt := 534) hC dX2_command_389 rfl ?_
  refine rc_drop [true, false, false, false, false, false] (L' := [some (rc_q v0), none, none, none, none, none]) rfl ?_
  exact rw_X2_command_q1_L534 hC hH  v0 S h
theorem rw_X2_command_q1_L392 {Y : rc_Y} (hC : rc_C Y cX2_command RX2 (Option.none : Option Jvm.ClassFile.FieldType) 6) (hH : rc_H Y 15 304 yX2_command.name) (v0 : Option Nat) (v1 : Option Nat) (S : rc_S) (h : rc_Go Y rc_tU (rp_X2_command_L392 rp_X2_repeat_q1  v0 v1) S) : rc_Z Y S 392 [some (rc_q v0), some (rc_q v1), none, none, none, none] [] := by
  unfold rp_X2_command_L392 at h
  refine rc_aload_n (pc := 392) hC dX2_command_392 rfl rfl ?_
  refine rc_aload_n (pc := 393) hC dX2_command_393 rfl rfl ?_
  obtain ⟨⟨fs, ho⟩, h⟩ := h.is
  refine rc_callV (pc := 394) hC rfl ho (rw_X2_walk hH.1 v0 v1) q981 q983 qs15 q123 q984 rfl rd_X2_walk (hH.room (Nat.le_of_ble_eq_true rfl) (Nat.le_of_ble_eq_true rfl)) rfl rfl (Nat.le_of_ble_eq_true rfl) 1 rfl h.le.2.2 h.br rfl dX2_command_394 ?_ (fun E q S hT => rc_out hC hH.2.2.2.2 hT)
  intro _ S h
  show rc_Z Y S 397 [some (rc_q v0), some (rc_q v1), none, none, none, none] []
  refine rc_goto (pc := 397) (tgt := 534) hC dX2_command_397 rfl ?_
  refine rc_drop [true, false, false, false, false, false] (L' := [some (rc_q v0), none, none, none, none, none]) rfl ?_
  exact rw_X2_command_q1_L534 hC hH  v0 S h
theorem rw_X2_command_q1_L400 {Y : rc_Y} (hC : rc_C Y cX2_command RX2 (Option.none : Option Jvm.ClassFile.FieldType) 6) (hH : rc_H Y 15 304 yX2_command.name) (v0 : Option Nat) (v1 : Option Nat) (S : rc_S) (h : rc_Go Y rc_tU (rp_X2_command_L400 rp_X2_repeat_q1  v0 v1) S) : rc_Z Y S 400 [some (rc_q v0), some (rc_q v1), none, none, none, none] [] := by
  unfold rp_X2_command_L400 at h
  refine rc_aload_n (pc := 400) hC dX2_command_400 rfl rfl ?_
  refine rc_aload_n (pc := 401) hC dX2_command_401 rfl rfl ?_
  obtain ⟨⟨fs, ho⟩, h⟩ := h.is
  refine rc_callV (pc := 402) hC rfl ho (rw_X2_meet hH.1 v0 v1) q1054 q1056 qs17 q123 q1057 rfl rd_X2_meet (hH.room (Nat.le_of_ble_eq_true rfl) (Nat.le_of_ble_eq_true rfl)) rfl rfl (Nat.le_of_ble_eq_true rfl) 1 rfl h.le.2.2 h.br rfl dX2_command_402 ?_ (fun E q S hT => rc_out hC hH.2.2.2.2 hT)
  intro _ S h
  show rc_Z Y S 405 [some (rc_q v0), some (rc_q v1), none, none, none, none] []
  refine rc_goto (pc := 405) (tgt := 534) hC dX2_command_405 rfl ?_
  refine rc_drop [true, false, false, false, false, false] (L' := [some (rc_q v0), none, none, none, none, none]) rfl ?_
  exact rw_X2_command_q1_L534 hC hH  v0 S h
theorem rw_X2_command_q1_L483 {Y : rc_Y} (hC : rc_C Y cX2_command RX2 (Option.none : Option Jvm.ClassFile.FieldType) 6) (hH : rc_H Y 15 304 yX2_command.name) (v0 : Option Nat) (v4 : Int32) (s0 : Int32) (s1 : Option Nat) (S : rc_S) (h : rc_Go Y rc_tU (rp_X2_command_L483 rp_X2_repeat_q1  v0 v4 s0 s1) S) : rc_Z Y S 483 [some (rc_q v0), none, none, none, some (rc_i v4), none] [rc_i s0, rc_q s1] := by
  unfold rp_X2_command_L483 at h
  obtain ⟨⟨fs, ho⟩, h⟩ := h.is
  refine rc_callV (pc := 483) hC rfl ho (rw_X2_end hH.1 s1 s0) q725 q727 qs5 q123 q728 rfl rd_X2_end (hH.room (Nat.le_of_ble_eq_true rfl) (Nat.le_of_ble_eq_true rfl)) rfl rfl (Nat.le_of_ble_eq_true rfl) 1 rfl h.le.2.2 h.br rfl dX2_command_483 ?_ (fun E q S hT => rc_out hC hH.2.2.2.2 hT)
  intro _ S h
  show rc_Z Y S 486 [some (rc_q v0), none, none, none, some (rc_i v4), none] []
  refine rc_aload_n (pc := 486) hC dX2_command_486 rfl rfl ?_
  refine rc_r_getq (pc := 487) hC rF_X2_29 dX2_command_487 h ?_
  intro x1 h
  refine rc_iload (pc := 490) hC dX2_command_490 rfl ?_
  obtain ⟨⟨fs, ho⟩, h⟩ := h.is
  refine rc_callV (pc := 492) hC rfl ho (rw_X3_passNights hH.1 x1 v4) q1132 q1133 q1134 q126 q1135 rfl rd_X3_passNights (hH.room (Nat.le_of_ble_eq_true rfl) (Nat.le_of_ble_eq_true rfl)) rfl rfl (Nat.le_of_ble_eq_true rfl) 1 rfl h.le.2.2 h.br rfl dX2_command_492 ?_ (fun E q S hT => rc_out hC hH.2.2.2.2 hT)
  intro x2 S h
  show rc_Z Y S 495 [some (rc_q v0), none, none, none, some (rc_i v4), none] [rc_i x2]
  refine rc_pop (pc := 495) hC dX2_command_495 rfl ?_
  refine rc_goto (pc := 496) (tgt := 534) hC dX2_command_496 rfl ?_
  refine rc_drop [true, false, false, false, false, false] (L' := [some (rc_q v0), none, none, none, none, none]) rfl ?_
  exact rw_X2_command_q1_L534 hC hH  v0 S h
theorem rw_X2_command_q1_L329 {Y : rc_Y} (hC : rc_C Y cX2_command RX2 (Option.none : Option Jvm.ClassFile.FieldType) 6) (hH : rc_H Y 15 304 yX2_command.name) (v0 : Option Nat) (v1 : Option Nat) (v3 : Int32) (S : rc_S) (h : rc_Go Y rc_tU (rp_X2_command_L329 rp_X2_repeat_q1  v0 v1 v3) S) : rc_Z Y S 329 [some (rc_q v0), some (rc_q v1), none, some (rc_i v3), none, none] [] := by
  unfold rp_X2_command_L329 at h
  refine rc_iload_n (pc := 329) hC dX2_command_329 rfl rfl ?_
  rcases h.ite with ⟨hc, h⟩ | ⟨hc0, h⟩
  · refine rc_tableIn (pc := 330) (tgt := 384) hC (off := 54) dX2_command_330 (by rw [hc]; decide) (by rw [hc]; decide) (by rw [hc]; rfl) rfl ?_
    refine rc_drop [true, true, false, false, false, false] (L' := [some (rc_q v0), some (rc_q v1), none, none, none, none]) rfl ?_
    exact rw_X2_command_q1_L384 hC hH  v0 v1 S h
  rcases h.ite with ⟨hc, h⟩ | ⟨hc1, h⟩
  · refine rc_tableIn (pc := 330) (tgt := 384) hC (off := 54) dX2_command_330 (by rw [hc]; decide) (by rw [hc]; decide) (by rw [hc]; rfl) rfl ?_
    refine rc_drop [true, true, false, false, false, false] (L' := [some (rc_q v0), some (rc_q v1), none, none, none, none]) rfl ?_
    exact rw_X2_command_q1_L384 hC hH  v0 v1 S h
  rcases h.ite with ⟨hc, h⟩ | ⟨hc2, h⟩
  · refine rc_tableIn (pc := 330) (tgt := 384) hC (off := 54) dX2_command_330 (by rw [hc]; decide) (by rw [hc]; decide) (by rw [hc]; rfl) rfl ?_
    refine rc_drop [true, true, false, false, false, false] (L' := [some (rc_q v0), some (rc_q v1), none, none, none, none]) rfl ?_
    exact rw_X2_command_q1_L384 hC hH  v0 v1 S h
  rcases h.ite with ⟨hc, h⟩ | ⟨hc3, h⟩
  · refine rc_tableIn (pc := 330) (tgt := 392) hC (off := 62) dX2_command_330 (by rw [hc]; decide) (by rw [hc]; decide) (by rw [hc]; rfl) rfl ?_
    refine rc_drop [true, true, false, false, false, false] (L' := [some (rc_q v0), some (rc_q v1), none, none, none, none]) rfl ?_
    exact rw_X2_command_q1_L392 hC hH  v0 v1 S h
  rcases h.ite with ⟨hc, h⟩ | ⟨hc4, h⟩
  · refine rc_tableIn (pc := 330) (tgt := 392) hC (off := 62) dX2_command_330 (by rw [hc]; decide) (by rw [hc]; decide) (by rw [hc]; rfl) rfl ?_
    refine rc_drop [true, true, false, false, false, false] (L' := [some (rc_q v0), some (rc_q v1), none, none, none, none]) rfl ?_
    exact rw_X2_command_q1_L392 hC hH  v0 v1 S h
  rcases h.ite with ⟨hc, h⟩ | ⟨hc5, h⟩
  · refine rc_tableIn (pc := 330) (tgt := 392) hC (off := 62) dX2_command_330 (by rw [hc]; decide) (by rw [hc]; decide) (by rw [hc]; rfl) rfl ?_
    refine rc_drop [true, true, false, false, false, false] (L' := [some (rc_q v0), some (rc_q v1), none, none, none, none]) rfl ?_
    exact rw_X2_command_q1_L392 hC hH  v0 v1 S h
  rcases h.ite with ⟨hc, h⟩ | ⟨hc6, h⟩
  · refine rc_tableIn (pc := 330) (tgt := 400) hC (off := 70) dX2_command_330 (by rw [hc]; decide) (by rw [hc]; decide) (by rw [hc]; rfl) rfl ?_
    refine rc_drop [true, true, false, false, false, false] (L' := [some (rc_q v0), some (rc_q v1), none, none, none, none]) rfl ?_
    exact rw_X2_command_q1_L400 hC hH  v0 v1 S h
  rcases h.ite with ⟨hc, h⟩ | ⟨hc7, h⟩
  · refine rc_tableIn (pc := 330) (tgt := 400) hC (off := 70) dX2_command_330 (by rw [hc]; decide) (by rw [hc]; decide) (by rw [hc]; rfl) rfl ?_
    refine rc_drop [true, true, false, false, false, false] (L' := [some (rc_q v0), some (rc_q v1), none, none, none, none]) rfl ?_
    exact rw_X2_command_q1_L400 hC hH  v0 v1 S h
  rcases h.ite with ⟨hc, h⟩ | ⟨hc8, h⟩
  · refine rc_tableIn (pc := 330) (tgt := 408) hC (off := 78) dX2_command_330 (by rw [hc]; decide) (by rw [hc]; decide) (by rw [hc]; rfl) rfl ?_
    refine rc_aload_n (pc := 408) hC dX2_command_408 rfl rfl ?_
    refine rc_iconst (pc := 409) hC (v := (1 : Int32)) dX2_command_409 rfl ?_
    refine rc_bipush (pc := 410) hC (v := (9 : Int32)) dX2_command_410 rfl ?_
    obtain ⟨⟨fs, ho⟩, h⟩ := h.is
    refine rc_callV (pc := 412) hC rfl ho (rw_X2_number hH.1 v0 (1 : Int32) (9 : Int32)) q738 q740 qs8 q123 q741 rfl rd_X2_number (hH.room (Nat.le_of_ble_eq_true rfl) (Nat.le_of_ble_eq_true rfl)) rfl rfl (Nat.le_of_ble_eq_true rfl) 2 rfl h.le.2.2 h.br rfl dX2_command_412 ?_ (fun E q S hT => rc_out hC hH.2.2.2.2 hT)
    intro x8 S h
    show rc_Z Y S 415 [some (rc_q v0), some (rc_q v1), none, some (rc_i v3), none, none] [rc_i x8]
    refine rc_istore (pc := 415) hC (L' := [some (rc_q v0), some (rc_q v1), none, some (rc_i v3), some (rc_i x8), none]) dX2_command_415 (Nat.le_of_ble_eq_true rfl) rfl rfl ?_
    refine rc_aload_n (pc := 417) hC dX2_command_417 rfl rfl ?_
    refine rc_iconst (pc := 418) hC (v := (1 : Int32)) dX2_command_418 rfl ?_
    refine rc_bipush (pc := 419) hC (v := (9 : Int32)) dX2_command_419 rfl ?_
    obtain ⟨⟨fs, ho⟩, h⟩ := h.is
    refine rc_callV (pc := 421) hC rfl ho (rw_X2_number hH.1 v0 (1 : Int32) (9 : Int32)) q738 q740 qs8 q123 q741 rfl rd_X2_number (hH.room (Nat.le_of_ble_eq_true rfl) (Nat.le_of_ble_eq_true rfl)) rfl rfl (Nat.le_of_ble_eq_true rfl) 2 rfl h.le.2.2 h.br rfl dX2_command_421 ?_ (fun E q S hT => rc_out hC hH.2.2.2.2 hT)
    intro x9 S h
    show rc_Z Y S 424 [some (rc_q v0), some (rc_q v1), none, some (rc_i v3), some (rc_i x8), none] [rc_i x9]
    refine rc_istore (pc := 424) hC (L' := [some (rc_q v0), some (rc_q v1), none, some (rc_i v3), some (rc_i x8), some (rc_i x9)]) dX2_command_424 (Nat.le_of_ble_eq_true rfl) rfl rfl ?_
    refine rc_aload_n (pc := 426) hC dX2_command_426 rfl rfl ?_
    refine rc_aload_n (pc := 427) hC dX2_command_427 rfl rfl ?_
    refine rc_r_getq (pc := 428) hC rF_X2_29 dX2_command_428 h ?_
    intro x10 h
    obtain ⟨⟨fs, ho⟩, h⟩ := h.is
    refine rc_callV (pc := 431) hC rfl ho (rw_X3_canNominate hH.1 x10) q1096 q1097 q1098 q126 q1099 rfl rd_X3_canNominate (hH.room (Nat.le_of_ble_eq_true rfl) (Nat.le_of_ble_eq_true rfl)) rfl rfl (Nat.le_of_ble_eq_true rfl) 0 rfl h.le.2.2 h.br rfl dX2_command_431 ?_ (fun E q S hT => rc_out hC hH.2.2.2.2 hT)
    intro x11 S h
    show rc_Z Y S 434 [some (rc_q v0), some (rc_q v1), none, some (rc_i v3), some (rc_i x8), some (rc_i x9)] [rc_i x11, rc_q v0]
    obtain ⟨⟨fs, ho⟩, h⟩ := h.is
    refine rc_callV (pc := 434) hC rfl ho (rw_X2_end hH.1 v0 x11) q725 q727 qs5 q123 q728 rfl rd_X2_end (hH.room (Nat.le_of_ble_eq_true rfl) (Nat.le_of_ble_eq_true rfl)) rfl rfl (Nat.le_of_ble_eq_true rfl) 1 rfl h.le.2.2 h.br rfl dX2_command_434 ?_ (fun E q S hT => rc_out hC hH.2.2.2.2 hT)
    intro _ S h
    show rc_Z Y S 437 [some (rc_q v0), some (rc_q v1), none, some (rc_i v3), some (rc_i x8), some (rc_i x9)] []
    refine rc_aload_n (pc := 437) hC dX2_command_437 rfl rfl ?_
    refine rc_r_getq (pc := 438) hC rF_X2_29 dX2_command_438 h ?_
    intro x12 h
    refine rc_iload (pc := 441) hC dX2_command_441 rfl ?_
    refine rc_iload (pc := 443) hC dX2_command_443 rfl ?_
    obtain ⟨⟨fs, ho⟩, h⟩ := h.is
    refine rc_callV (pc := 445) hC rfl ho (rw_X3_nominate hH.1 x12 x8 x9) q1109 q1110 q1111 q126 q1112 rfl rd_X3_nominate (hH.room (Nat.le_of_ble_eq_true rfl) (Nat.le_of_ble_eq_true rfl)) rfl rfl (Nat.le_of_ble_eq_true rfl) 2 rfl h.le.2.2 h.br rfl dX2_command_445 ?_ (fun E q S hT => rc_out hC hH.2.2.2.2 hT)
    intro x13 S h
    show rc_Z Y S 448 [some (rc_q v0), some (rc_q v1), none, some (rc_i v3), some (rc_i x8), some (rc_i x9)] [rc_i x13]
    refine rc_pop (pc := 448) hC dX2_command_448 rfl ?_
    refine rc_goto (pc := 449) (tgt := 534) hC dX2_command_449 rfl ?_
    refine rc_drop [true, false, false, false, false, false] (L' := [some (rc_q v0), none, none, none, none, none]) rfl ?_
    exact rw_X2_command_q1_L534 hC hH  v0 S h
  rcases h.ite with ⟨hc, h⟩ | ⟨hc9, h⟩
  · refine rc_tableIn (pc := 330) (tgt := 452) hC (off := 122) dX2_command_330 (by rw [hc]; decide) (by rw [hc]; decide) (by rw [hc]; rfl) rfl ?_
    refine rc_aload_n (pc := 452) hC dX2_command_452 rfl rfl ?_
    refine rc_iconst (pc := 453) hC (v := (1 : Int32)) dX2_command_453 rfl ?_
    refine rc_bipush (pc := 454) hC (v := (30 : Int32)) dX2_command_454 rfl ?_
    obtain ⟨⟨fs, ho⟩, h⟩ := h.is
    refine rc_callV (pc := 456) hC rfl ho (rw_X2_number hH.1 v0 (1 : Int32) (30 : Int32)) q738 q740 qs8 q123 q741 rfl rd_X2_number (hH.room (Nat.le_of_ble_eq_true rfl) (Nat.le_of_ble_eq_true rfl)) rfl rfl (Nat.le_of_ble_eq_true rfl) 2 rfl h.le.2.2 h.br rfl dX2_command_456 ?_ (fun E q S hT => rc_out hC hH.2.2.2.2 hT)
    intro x14 S h
    show rc_Z Y S 459 [some (rc_q v0), some (rc_q v1), none, some (rc_i v3), none, none] [rc_i x14]
    refine rc_istore (pc := 459) hC (L' := [some (rc_q v0), some (rc_q v1), none, some (rc_i v3), some (rc_i x14), none]) dX2_command_459 (Nat.le_of_ble_eq_true rfl) rfl rfl ?_
    refine rc_aload_n (pc := 461) hC dX2_command_461 rfl rfl ?_
    refine rc_aload_n (pc := 462) hC dX2_command_462 rfl rfl ?_
    refine rc_r_getq (pc := 463) hC rF_X2_29 dX2_command_463 h ?_
    intro x15 h
    refine rc_r_geti (pc := 466) hC rF_X2_184 dX2_command_466 h ?_
    intro x16 h
    refine rc_iload (pc := 469) hC dX2_command_469 rfl ?_
    refine rc_iadd (pc := 471) hC dX2_command_471 ?_
    refine rc_sipush (pc := 472) hC (v := (999 : Int32)) dX2_command_472 rfl ?_
    refine rc_icmp_gt (pc := 475) (tgt := 482) hC dX2_command_475 rfl h ?_ ?_
    · intro _ h
      refine rc_iconst (pc := 482) hC (v := (0 : Int32)) dX2_command_482 rfl ?_
      refine rc_drop [true, false, false, false, true, false] (L' := [some (rc_q v0), none, none, none, some (rc_i x14), none]) rfl ?_
      exact rw_X2_command_q1_L483 hC hH  v0 x14 (0 : Int32) v0 S h
    intro _ h
    refine rc_iconst (pc := 478) hC (v := (1 : Int32)) dX2_command_478 rfl ?_
    refine rc_goto (pc := 479) (tgt := 483) hC dX2_command_479 rfl ?_
    refine rc_drop [true, false, false, false, true, false] (L' := [some (rc_q v0), none, none, none, some (rc_i x14), none]) rfl ?_
    exact rw_X2_command_q1_L483 hC hH  v0 x14 (1 : Int32) v0 S h
  have hout : (v3).toInt < 0 ∨ 9 < (v3).toInt := by
    have hq0 : (v3).toInt ≠ 0 := fun e => hc0 (Int32.toInt_inj.mp (e.trans rfl))
    have hq1 : (v3).toInt ≠ 1 := fun e => hc1 (Int32.toInt_inj.mp (e.trans rfl))
    have hq2 : (v3).toInt ≠ 2 := fun e => hc2 (Int32.toInt_inj.mp (e.trans rfl))
    have hq3 : (v3).toInt ≠ 3 := fun e => hc3 (Int32.toInt_inj.mp (e.trans rfl))
    have hq4 : (v3).toInt ≠ 4 := fun e => hc4 (Int32.toInt_inj.mp (e.trans rfl))
    have hq5 : (v3).toInt ≠ 5 := fun e => hc5 (Int32.toInt_inj.mp (e.trans rfl))
    have hq6 : (v3).toInt ≠ 6 := fun e => hc6 (Int32.toInt_inj.mp (e.trans rfl))
    have hq7 : (v3).toInt ≠ 7 := fun e => hc7 (Int32.toInt_inj.mp (e.trans rfl))
    have hq8 : (v3).toInt ≠ 8 := fun e => hc8 (Int32.toInt_inj.mp (e.trans rfl))
    have hq9 : (v3).toInt ≠ 9 := fun e => hc9 (Int32.toInt_inj.mp (e.trans rfl))
    omega
  refine rc_tableOut (pc := 330) (tgt := 499) hC dX2_command_330 hout rfl ?_
  refine rc_aload_n (pc := 499) hC dX2_command_499 rfl rfl ?_
  obtain ⟨⟨fs, ho⟩, h⟩ := h.is
  refine rc_callV (pc := 500) hC rfl ho (rw_X2_cat hH.1 v0) q992 q994 qs16 q123 q995 rfl rd_X2_cat (hH.room (Nat.le_of_ble_eq_true rfl) (Nat.le_of_ble_eq_true rfl)) rfl rfl (Nat.le_of_ble_eq_true rfl) 0 rfl h.le.2.2 h.br rfl dX2_command_500 ?_ (fun E q S hT => rc_out hC hH.2.2.2.2 hT)
  intro x1 S h
  show rc_Z Y S 503 [some (rc_q v0), some (rc_q v1), none, some (rc_i v3), none, none] [rc_i x1]
  refine rc_istore (pc := 503) hC (L' := [some (rc_q v0), some (rc_q v1), none, some (rc_i v3), some (rc_i x1), none]) dX2_command_503 (Nat.le_of_ble_eq_true rfl) rfl rfl ?_
  refine rc_aload_n (pc := 505) hC dX2_command_505 rfl rfl ?_
  refine rc_aload_n (pc := 506) hC dX2_command_506 rfl rfl ?_
  refine rc_r_getq (pc := 507) hC rF_X2_29 dX2_command_507 h ?_
  intro x2 h
  refine rc_iload (pc := 510) hC dX2_command_510 rfl ?_
  obtain ⟨⟨fs, ho⟩, h⟩ := h.is
  refine rc_callV (pc := 512) hC rfl ho (rw_X3_canVote hH.1 x2 x1) q1160 q1161 q1162 q126 q1163 rfl rd_X3_canVote (hH.room (Nat.le_of_ble_eq_true rfl) (Nat.le_of_ble_eq_true rfl)) rfl rfl (Nat.le_of_ble_eq_true rfl) 1 rfl h.le.2.2 h.br rfl dX2_command_512 ?_ (fun E q S hT => rc_out hC hH.2.2.2.2 hT)
  intro x3 S h
  show rc_Z Y S 515 [some (rc_q v0), some (rc_q v1), none, some (rc_i v3), some (rc_i x1), none] [rc_i x3, rc_q v0]
  obtain ⟨⟨fs, ho⟩, h⟩ := h.is
  refine rc_callV (pc := 515) hC rfl ho (rw_X2_end hH.1 v0 x3) q725 q727 qs5 q123 q728 rfl rd_X2_end (hH.room (Nat.le_of_ble_eq_true rfl) (Nat.le_of_ble_eq_true rfl)) rfl rfl (Nat.le_of_ble_eq_true rfl) 1 rfl h.le.2.2 h.br rfl dX2_command_515 ?_ (fun E q S hT => rc_out hC hH.2.2.2.2 hT)
  intro _ S h
  show rc_Z Y S 518 [some (rc_q v0), some (rc_q v1), none, some (rc_i v3), some (rc_i x1), none] []
  refine rc_aload_n (pc := 518) hC dX2_command_518 rfl rfl ?_
  refine rc_r_getq (pc := 519) hC rF_X2_29 dX2_command_519 h ?_
  intro x4 h
  refine rc_iload (pc := 522) hC dX2_command_522 rfl ?_
  refine rc_aload_n (pc := 524) hC dX2_command_524 rfl rfl ?_
  refine rc_r_text (pc := 525) hC (i := 18) rfl dX2_command_525 h ?_
  intro x5 h
  obtain ⟨⟨fs, ho⟩, h⟩ := h.is
  refine rc_callV (pc := 527) hC rfl ho (rw_J4_equals hH.1 v1 x5) q687 q688 q689 q121 q690 rfl rd_J4_equals (hH.room (Nat.le_of_ble_eq_true rfl) (Nat.le_of_ble_eq_true rfl)) rfl rfl (Nat.le_of_ble_eq_true rfl) 1 rfl h.le.2.2 h.br rfl dX2_command_527 ?_ (fun E q S hT => rc_out hC hH.2.2.2.2 hT)
  intro x6 S h
  show rc_Z Y S 530 [some (rc_q v0), some (rc_q v1), none, some (rc_i v3), some (rc_i x1), none] [rc_i x6, rc_i x1, rc_q x4]
  obtain ⟨⟨fs, ho⟩, h⟩ := h.is
  refine rc_callV (pc := 530) hC rfl ho (rw_X3_vote hH.1 x4 x1 x6) q1168 q1169 q1170 q126 q1171 rfl rd_X3_vote (hH.room (Nat.le_of_ble_eq_true rfl) (Nat.le_of_ble_eq_true rfl)) rfl rfl (Nat.le_of_ble_eq_true rfl) 2 rfl h.le.2.2 h.br rfl dX2_command_530 ?_ (fun E q S hT => rc_out hC hH.2.2.2.2 hT)
  intro x7 S h
  show rc_Z Y S 533 [some (rc_q v0), some (rc_q v1), none, some (rc_i v3), some (rc_i x1), none] [rc_i x7]
  refine rc_pop (pc := 533) hC dX2_command_533 rfl ?_
  refine rc_drop [true, false, false, false, false, false] (L' := [some (rc_q v0), none, none, none, none, none]) rfl ?_
  exact rw_X2_command_q1_L534 hC hH  v0 S h
theorem rw_X2_command_q1_L65 {Y : rc_Y} (hC : rc_C Y cX2_command RX2 (Option.none : Option Jvm.ClassFile.FieldType) 6) (hH : rc_H Y 15 304 yX2_command.name) (v0 : Option Nat) (s0 : Int32) (s1 : Option Nat) (S : rc_S) (h : rc_Go Y rc_tU (rp_X2_command_L65 rp_X2_repeat_q1  v0 s0 s1) S) : rc_Z Y S 65 [some (rc_q v0), none, none, none, none, none] [rc_i s0, rc_q s1] := by
  unfold rp_X2_command_L65 at h
  refine rc_iconst (pc := 65) hC (v := (5 : Int32)) dX2_command_65 rfl ?_
  obtain ⟨⟨fs, ho⟩, h⟩ := h.is
  refine rc_callV (pc := 66) hC rfl ho (rw_X2_check hH.1 s1 s0 (5 : Int32)) q695 q697 qs4 q123 q698 rfl rd_X2_check (hH.room (Nat.le_of_ble_eq_true rfl) (Nat.le_of_ble_eq_true rfl)) rfl rfl (Nat.le_of_ble_eq_true rfl) 2 rfl h.le.2.2 h.br rfl dX2_command_66 ?_ (fun E q S hT => rc_out hC hH.2.2.2.2 hT)
  intro _ S h
  show rc_Z Y S 69 [some (rc_q v0), none, none, none, none, none] []
  refine rc_aload_n (pc := 69) hC dX2_command_69 rfl rfl ?_
  refine rc_dup (pc := 70) hC dX2_command_70 rfl ?_
  refine rc_r_geti (pc := 71) hC rF_X2_164 dX2_command_71 h ?_
  intro x1 h
  refine rc_iconst (pc := 74) hC (v := (1 : Int32)) dX2_command_74 rfl ?_
  refine rc_iadd (pc := 75) hC dX2_command_75 ?_
  refine rc_r_put (pc := 76) hC rP_X2_164 (nofun) dX2_command_76 h ?_
  intro S h
  refine rc_aload_n (pc := 79) hC dX2_command_79 rfl rfl ?_
  refine rc_r_getq (pc := 80) hC rF_X2_22 dX2_command_80 h ?_
  intro x2 h
  refine rc_astore_n (pc := 83) hC (L' := [some (rc_q v0), some (rc_q x2), none, none, none, none]) dX2_command_83 rfl (Nat.le_of_ble_eq_true rfl) rfl rfl ?_
  refine rc_aload_n (pc := 84) hC dX2_command_84 rfl rfl ?_
  obtain ⟨⟨fs, ho⟩, h⟩ := h.is
  refine rc_callV (pc := 85) hC rfl ho (rw_X2_advance hH.1 v0) q298 q300 qs0 q123 q301 rfl rd_X2_advance (hH.room (Nat.le_of_ble_eq_true rfl) (Nat.le_of_ble_eq_true rfl)) rfl rfl (Nat.le_of_ble_eq_true rfl) 0 rfl h.le.2.2 h.br rfl dX2_command_85 ?_ (fun E q S hT => rc_out hC hH.2.2.2.2 hT)
  intro _ S h
  show rc_Z Y S 88 [some (rc_q v0), some (rc_q x2), none, none, none, none] []
  refine rc_aload_n (pc := 88) hC dX2_command_88 rfl rfl ?_
  refine rc_astore_n (pc := 89) hC (L' := [some (rc_q v0), some (rc_q x2), some (rc_q x2), none, none, none]) dX2_command_89 rfl (Nat.le_of_ble_eq_true rfl) rfl rfl ?_
  refine rc_iconst (pc := 90) hC (v := (-1 : Int32)) dX2_command_90 rfl ?_
  refine rc_istore_n (pc := 91) hC (L' := [some (rc_q v0), some (rc_q x2), some (rc_q x2), some (rc_i (-1 : Int32)), none, none]) dX2_command_91 rfl (Nat.le_of_ble_eq_true rfl) rfl rfl ?_
  refine rc_aload_n (pc := 92) hC dX2_command_92 rfl rfl ?_
  obtain ⟨⟨fs, ho⟩, h⟩ := h.is
  refine rc_callV (pc := 93) hC rfl ho (rw_J4_hashCode hH.1 x2) q745 q746 q747 q121 q748 rfl rd_J4_hashCode (hH.room (Nat.le_of_ble_eq_true rfl) (Nat.le_of_ble_eq_true rfl)) rfl rfl (Nat.le_of_ble_eq_true rfl) 0 rfl h.le.2.2 h.br rfl dX2_command_93 ?_ (fun E q S hT => rc_out hC hH.2.2.2.2 hT)
  intro x3 S h
  show rc_Z Y S 96 [some (rc_q v0), some (rc_q x2), some (rc_q x2), some (rc_i (-1 : Int32)), none, none] [rc_i x3]
  rcases h.ite with ⟨hc, h⟩ | ⟨hc0, h⟩
  · refine rc_lookup (pc := 96) (tgt := 202) hC (off := 106) dX2_command_96 rfl (by rw [hc]; rfl) rfl ?_
    refine rc_aload_n (pc := 202) hC dX2_command_202 rfl rfl ?_
    refine rc_r_text (pc := 203) hC (i := 10) rfl dX2_command_203 h ?_
    intro x4 h
    obtain ⟨⟨fs, ho⟩, h⟩ := h.is
    refine rc_callV (pc := 205) hC rfl ho (rw_J4_equals hH.1 x2 x4) q687 q688 q689 q121 q690 rfl rd_J4_equals (hH.room (Nat.le_of_ble_eq_true rfl) (Nat.le_of_ble_eq_true rfl)) rfl rfl (Nat.le_of_ble_eq_true rfl) 1 rfl h.le.2.2 h.br rfl dX2_command_205 ?_ (fun E q S hT => rc_out hC hH.2.2.2.2 hT)
    intro x5 S h
    show rc_Z Y S 208 [some (rc_q v0), some (rc_q x2), some (rc_q x2), some (rc_i (-1 : Int32)), none, none] [rc_i x5]
    refine rc_if_eq (pc := 208) (tgt := 329) hC dX2_command_208 rfl h ?_ ?_
    · intro _ h
      refine rc_drop [true, true, false, true, false, false] (L' := [some (rc_q v0), some (rc_q x2), none, some (rc_i (-1 : Int32)), none, none]) rfl ?_
      exact rw_X2_command_q1_L329 hC hH  v0 x2 (-1 : Int32) S h
    intro _ h
    refine rc_iconst (pc := 211) hC (v := (1 : Int32)) dX2_command_211 rfl ?_
    refine rc_istore_n (pc := 212) hC (L' := [some (rc_q v0), some (rc_q x2), some (rc_q x2), some (rc_i (1 : Int32)), none, none]) dX2_command_212 rfl (Nat.le_of_ble_eq_true rfl) rfl rfl ?_
    refine rc_goto (pc := 213) (tgt := 329) hC dX2_command_213 rfl ?_
    refine rc_drop [true, true, false, true, false, false] (L' := [some (rc_q v0), some (rc_q x2), none, some (rc_i (1 : Int32)), none, none]) rfl ?_
    exact rw_X2_command_q1_L329 hC hH  v0 x2 (1 : Int32) S h
  rcases h.ite with ⟨hc, h⟩ | ⟨hc1, h⟩
  · refine rc_lookup (pc := 96) (tgt := 258) hC (off := 162) dX2_command_96 rfl (by rw [hc]; rfl) rfl ?_
    refine rc_aload_n (pc := 258) hC dX2_command_258 rfl rfl ?_
    refine rc_r_text (pc := 259) hC (i := 14) rfl dX2_command_259 h ?_
    intro x6 h
    obtain ⟨⟨fs, ho⟩, h⟩ := h.is
    refine rc_callV (pc := 261) hC rfl ho (rw_J4_equals hH.1 x2 x6) q687 q688 q689 q121 q690 rfl rd_J4_equals (hH.room (Nat.le_of_ble_eq_true rfl) (Nat.le_of_ble_eq_true rfl)) rfl rfl (Nat.le_of_ble_eq_true rfl) 1 rfl h.le.2.2 h.br rfl dX2_command_261 ?_ (fun E q S hT => rc_out hC hH.2.2.2.2 hT)
    intro x7 S h
    show rc_Z Y S 264 [some (rc_q v0), some (rc_q x2), some (rc_q x2), some (rc_i (-1 : Int32)), none, none] [rc_i x7]
    refine rc_if_eq (pc := 264) (tgt := 329) hC dX2_command_264 rfl h ?_ ?_
    · intro _ h
      refine rc_drop [true, true, false, true, false, false] (L' := [some (rc_q v0), some (rc_q x2), none, some (rc_i (-1 : Int32)), none, none]) rfl ?_
      exact rw_X2_command_q1_L329 hC hH  v0 x2 (-1 : Int32) S h
    intro _ h
    refine rc_iconst (pc := 267) hC (v := (5 : Int32)) dX2_command_267 rfl ?_
    refine rc_istore_n (pc := 268) hC (L' := [some (rc_q v0), some (rc_q x2), some (rc_q x2), some (rc_i (5 : Int32)), none, none]) dX2_command_268 rfl (Nat.le_of_ble_eq_true rfl) rfl rfl ?_
    refine rc_goto (pc := 269) (tgt := 329) hC dX2_command_269 rfl ?_
    refine rc_drop [true, true, false, true, false, false] (L' := [some (rc_q v0), some (rc_q x2), none, some (rc_i (5 : Int32)), none, none]) rfl ?_
    exact rw_X2_command_q1_L329 hC hH  v0 x2 (5 : Int32) S h
  rcases h.ite with ⟨hc, h⟩ | ⟨hc2, h⟩
  · refine rc_lookup (pc := 96) (tgt := 302) hC (off := 206) dX2_command_96 rfl (by rw [hc]; rfl) rfl ?_
    refine rc_aload_n (pc := 302) hC dX2_command_302 rfl rfl ?_
    refine rc_r_text (pc := 303) hC (i := 17) rfl dX2_command_303 h ?_
    intro x8 h
    obtain ⟨⟨fs, ho⟩, h⟩ := h.is
    refine rc_callV (pc := 305) hC rfl ho (rw_J4_equals hH.1 x2 x8) q687 q688 q689 q121 q690 rfl rd_J4_equals (hH.room (Nat.le_of_ble_eq_true rfl) (Nat.le_of_ble_eq_true rfl)) rfl rfl (Nat.le_of_ble_eq_true rfl) 1 rfl h.le.2.2 h.br rfl dX2_command_305 ?_ (fun E q S hT => rc_out hC hH.2.2.2.2 hT)
    intro x9 S h
    show rc_Z Y S 308 [some (rc_q v0), some (rc_q x2), some (rc_q x2), some (rc_i (-1 : Int32)), none, none] [rc_i x9]
    refine rc_if_eq (pc := 308) (tgt := 329) hC dX2_command_308 rfl h ?_ ?_
    · intro _ h
      refine rc_drop [true, true, false, true, false, false] (L' := [some (rc_q v0), some (rc_q x2), none, some (rc_i (-1 : Int32)), none, none]) rfl ?_
      exact rw_X2_command_q1_L329 hC hH  v0 x2 (-1 : Int32) S h
    intro _ h
    refine rc_bipush (pc := 311) hC (v := (8 : Int32)) dX2_command_311 rfl ?_
    refine rc_istore_n (pc := 313) hC (L' := [some (rc_q v0), some (rc_q x2), some (rc_q x2), some (rc_i (8 : Int32)), none, none]) dX2_command_313 rfl (Nat.le_of_ble_eq_true rfl) rfl rfl ?_
    refine rc_goto (pc := 314) (tgt := 329) hC dX2_command_314 rfl ?_
    refine rc_drop [true, true, false, true, false, false] (L' := [some (rc_q v0), some (rc_q x2), none, some (rc_i (8 : Int32)), none, none]) rfl ?_
    exact rw_X2_command_q1_L329 hC hH  v0 x2 (8 : Int32) S h
  rcases h.ite with ⟨hc, h⟩ | ⟨hc3, h⟩
  · refine rc_lookup (pc := 96) (tgt := 317) hC (off := 221) dX2_command_96 rfl (by rw [hc]; rfl) rfl ?_
    refine rc_aload_n (pc := 317) hC dX2_command_317 rfl rfl ?_
    refine rc_r_text (pc := 318) hC (i := 20) rfl dX2_command_318 h ?_
    intro x10 h
    obtain ⟨⟨fs, ho⟩, h⟩ := h.is
    refine rc_callV (pc := 320) hC rfl ho (rw_J4_equals hH.1 x2 x10) q687 q688 q689 q121 q690 rfl rd_J4_equals (hH.room (Nat.le_of_ble_eq_true rfl) (Nat.le_of_ble_eq_true rfl)) rfl rfl (Nat.le_of_ble_eq_true rfl) 1 rfl h.le.2.2 h.br rfl dX2_command_320 ?_ (fun E q S hT => rc_out hC hH.2.2.2.2 hT)
    intro x11 S h
    show rc_Z Y S 323 [some (rc_q v0), some (rc_q x2), some (rc_q x2), some (rc_i (-1 : Int32)), none, none] [rc_i x11]
    refine rc_if_eq (pc := 323) (tgt := 329) hC dX2_command_323 rfl h ?_ ?_
    · intro _ h
      refine rc_drop [true, true, false, true, false, false] (L' := [some (rc_q v0), some (rc_q x2), none, some (rc_i (-1 : Int32)), none, none]) rfl ?_
      exact rw_X2_command_q1_L329 hC hH  v0 x2 (-1 : Int32) S h
    intro _ h
    refine rc_bipush (pc := 326) hC (v := (9 : Int32)) dX2_command_326 rfl ?_
    refine rc_istore_n (pc := 328) hC (L' := [some (rc_q v0), some (rc_q x2), some (rc_q x2), some (rc_i (9 : Int32)), none, none]) dX2_command_328 rfl (Nat.le_of_ble_eq_true rfl) rfl rfl ?_
    refine rc_drop [true, true, false, true, false, false] (L' := [some (rc_q v0), some (rc_q x2), none, some (rc_i (9 : Int32)), none, none]) rfl ?_
    exact rw_X2_command_q1_L329 hC hH  v0 x2 (9 : Int32) S h
  rcases h.ite with ⟨hc, h⟩ | ⟨hc4, h⟩
  · refine rc_lookup (pc := 96) (tgt := 216) hC (off := 120) dX2_command_96 rfl (by rw [hc]; rfl) rfl ?_
    refine rc_aload_n (pc := 216) hC dX2_command_216 rfl rfl ?_
    refine rc_r_text (pc := 217) hC (i := 11) rfl dX2_command_217 h ?_
    intro x12 h
    obtain ⟨⟨fs, ho⟩, h⟩ := h.is
    refine rc_callV (pc := 219) hC rfl ho (rw_J4_equals hH.1 x2 x12) q687 q688 q689 q121 q690 rfl rd_J4_equals (hH.room (Nat.le_of_ble_eq_true rfl) (Nat.le_of_ble_eq_true rfl)) rfl rfl (Nat.le_of_ble_eq_true rfl) 1 rfl h.le.2.2 h.br rfl dX2_command_219 ?_ (fun E q S hT => rc_out hC hH.2.2.2.2 hT)
    intro x13 S h
    show rc_Z Y S 222 [some (rc_q v0), some (rc_q x2), some (rc_q x2), some (rc_i (-1 : Int32)), none, none] [rc_i x13]
    refine rc_if_eq (pc := 222) (tgt := 329) hC dX2_command_222 rfl h ?_ ?_
    · intro _ h
      refine rc_drop [true, true, false, true, false, false] (L' := [some (rc_q v0), some (rc_q x2), none, some (rc_i (-1 : Int32)), none, none]) rfl ?_
      exact rw_X2_command_q1_L329 hC hH  v0 x2 (-1 : Int32) S h
    intro _ h
    refine rc_iconst (pc := 225) hC (v := (2 : Int32)) dX2_command_225 rfl ?_
    refine rc_istore_n (pc := 226) hC (L' := [some (rc_q v0), some (rc_q x2), some (rc_q x2), some (rc_i (2 : Int32)), none, none]) dX2_command_226 rfl (Nat.le_of_ble_eq_true rfl) rfl rfl ?_
    refine rc_goto (pc := 227) (tgt := 329) hC dX2_command_227 rfl ?_
    refine rc_drop [true, true, false, true, false, false] (L' := [some (rc_q v0), some (rc_q x2), none, some (rc_i (2 : Int32)), none, none]) rfl ?_
    exact rw_X2_command_q1_L329 hC hH  v0 x2 (2 : Int32) S h
  rcases h.ite with ⟨hc, h⟩ | ⟨hc5, h⟩
  · refine rc_lookup (pc := 96) (tgt := 230) hC (off := 134) dX2_command_96 rfl (by rw [hc]; rfl) rfl ?_
    refine rc_aload_n (pc := 230) hC dX2_command_230 rfl rfl ?_
    refine rc_r_text (pc := 231) hC (i := 12) rfl dX2_command_231 h ?_
    intro x14 h
    obtain ⟨⟨fs, ho⟩, h⟩ := h.is
    refine rc_callV (pc := 233) hC rfl ho (rw_J4_equals hH.1 x2 x14) q687 q688 q689 q121 q690 rfl rd_J4_equals (hH.room (Nat.le_of_ble_eq_true rfl) (Nat.le_of_ble_eq_true rfl)) rfl rfl (Nat.le_of_ble_eq_true rfl) 1 rfl h.le.2.2 h.br rfl dX2_command_233 ?_ (fun E q S hT => rc_out hC hH.2.2.2.2 hT)
    intro x15 S h
    show rc_Z Y S 236 [some (rc_q v0), some (rc_q x2), some (rc_q x2), some (rc_i (-1 : Int32)), none, none] [rc_i x15]
    refine rc_if_eq (pc := 236) (tgt := 329) hC dX2_command_236 rfl h ?_ ?_
    · intro _ h
      refine rc_drop [true, true, false, true, false, false] (L' := [some (rc_q v0), some (rc_q x2), none, some (rc_i (-1 : Int32)), none, none]) rfl ?_
      exact rw_X2_command_q1_L329 hC hH  v0 x2 (-1 : Int32) S h
    intro _ h
    refine rc_iconst (pc := 239) hC (v := (3 : Int32)) dX2_command_239 rfl ?_
    refine rc_istore_n (pc := 240) hC (L' := [some (rc_q v0), some (rc_q x2), some (rc_q x2), some (rc_i (3 : Int32)), none, none]) dX2_command_240 rfl (Nat.le_of_ble_eq_true rfl) rfl rfl ?_
    refine rc_goto (pc := 241) (tgt := 329) hC dX2_command_241 rfl ?_
    refine rc_drop [true, true, false, true, false, false] (L' := [some (rc_q v0), some (rc_q x2), none, some (rc_i (3 : Int32)), none, none]) rfl ?_
    exact rw_X2_command_q1_L329 hC hH  v0 x2 (3 : Int32) S h
  rcases h.ite with ⟨hc, h⟩ | ⟨hc6, h⟩
  · refine rc_lookup (pc := 96) (tgt := 272) hC (off := 176) dX2_command_96 rfl (by rw [hc]; rfl) rfl ?_
    refine rc_aload_n (pc := 272) hC dX2_command_272 rfl rfl ?_
    refine rc_r_text (pc := 273) hC (i := 15) rfl dX2_command_273 h ?_
    intro x16 h
    obtain ⟨⟨fs, ho⟩, h⟩ := h.is
    refine rc_callV (pc := 275) hC rfl ho (rw_J4_equals hH.1 x2 x16) q687 q688 q689 q121 q690 rfl rd_J4_equals (hH.room (Nat.le_of_ble_eq_true rfl) (Nat.le_of_ble_eq_true rfl)) rfl rfl (Nat.le_of_ble_eq_true rfl) 1 rfl h.le.2.2 h.br rfl dX2_command_275 ?_ (fun E q S hT => rc_out hC hH.2.2.2.2 hT)
    intro x17 S h
    show rc_Z Y S 278 [some (rc_q v0), some (rc_q x2), some (rc_q x2), some (rc_i (-1 : Int32)), none, none] [rc_i x17]
    refine rc_if_eq (pc := 278) (tgt := 329) hC dX2_command_278 rfl h ?_ ?_
    · intro _ h
      refine rc_drop [true, true, false, true, false, false] (L' := [some (rc_q v0), some (rc_q x2), none, some (rc_i (-1 : Int32)), none, none]) rfl ?_
      exact rw_X2_command_q1_L329 hC hH  v0 x2 (-1 : Int32) S h
    intro _ h
    refine rc_bipush (pc := 281) hC (v := (6 : Int32)) dX2_command_281 rfl ?_
    refine rc_istore_n (pc := 283) hC (L' := [some (rc_q v0), some (rc_q x2), some (rc_q x2), some (rc_i (6 : Int32)), none, none]) dX2_command_283 rfl (Nat.le_of_ble_eq_true rfl) rfl rfl ?_
    refine rc_goto (pc := 284) (tgt := 329) hC dX2_command_284 rfl ?_
    refine rc_drop [true, true, false, true, false, false] (L' := [some (rc_q v0), some (rc_q x2), none, some (rc_i (6 : Int32)), none, none]) rfl ?_
    exact rw_X2_command_q1_L329 hC hH  v0 x2 (6 : Int32) S h
  rcases h.ite with ⟨hc, h⟩ | ⟨hc7, h⟩
  · refine rc_lookup (pc := 96) (tgt := 244) hC (off := 148) dX2_command_96 rfl (by rw [hc]; rfl) rfl ?_
    refine rc_aload_n (pc := 244) hC dX2_command_244 rfl rfl ?_
    refine rc_r_text (pc := 245) hC (i := 13) rfl dX2_command_245 h ?_
    intro x18 h
    obtain ⟨⟨fs, ho⟩, h⟩ := h.is
    refine rc_callV (pc := 247) hC rfl ho (rw_J4_equals hH.1 x2 x18) q687 q688 q689 q121 q690 rfl rd_J4_equals (hH.room (Nat.le_of_ble_eq_true rfl) (Nat.le_of_ble_eq_true rfl)) rfl rfl (Nat.le_of_ble_eq_true rfl) 1 rfl h.le.2.2 h.br rfl dX2_command_247 ?_ (fun E q S hT => rc_out hC hH.2.2.2.2 hT)
    intro x19 S h
    show rc_Z Y S 250 [some (rc_q v0), some (rc_q x2), some (rc_q x2), some (rc_i (-1 : Int32)), none, none] [rc_i x19]
    refine rc_if_eq (pc := 250) (tgt := 329) hC dX2_command_250 rfl h ?_ ?_
    · intro _ h
      refine rc_drop [true, true, false, true, false, false] (L' := [some (rc_q v0), some (rc_q x2), none, some (rc_i (-1 : Int32)), none, none]) rfl ?_
      exact rw_X2_command_q1_L329 hC hH  v0 x2 (-1 : Int32) S h
    intro _ h
    refine rc_iconst (pc := 253) hC (v := (4 : Int32)) dX2_command_253 rfl ?_
    refine rc_istore_n (pc := 254) hC (L' := [some (rc_q v0), some (rc_q x2), some (rc_q x2), some (rc_i (4 : Int32)), none, none]) dX2_command_254 rfl (Nat.le_of_ble_eq_true rfl) rfl rfl ?_
    refine rc_goto (pc := 255) (tgt := 329) hC dX2_command_255 rfl ?_
    refine rc_drop [true, true, false, true, false, false] (L' := [some (rc_q v0), some (rc_q x2), none, some (rc_i (4 : Int32)), none, none]) rfl ?_
    exact rw_X2_command_q1_L329 hC hH  v0 x2 (4 : Int32) S h
  rcases h.ite with ⟨hc, h⟩ | ⟨hc8, h⟩
  · refine rc_lookup (pc := 96) (tgt := 287) hC (off := 191) dX2_command_96 rfl (by rw [hc]; rfl) rfl ?_
    refine rc_aload_n (pc := 287) hC dX2_command_287 rfl rfl ?_
    refine rc_r_text (pc := 288) hC (i := 16) rfl dX2_command_288 h ?_
    intro x20 h
    obtain ⟨⟨fs, ho⟩, h⟩ := h.is
    refine rc_callV (pc := 290) hC rfl ho (rw_J4_equals hH.1 x2 x20) q687 q688 q689 q121 q690 rfl rd_J4_equals (hH.room (Nat.le_of_ble_eq_true rfl) (Nat.le_of_ble_eq_true rfl)) rfl rfl (Nat.le_of_ble_eq_true rfl) 1 rfl h.le.2.2 h.br rfl dX2_command_290 ?_ (fun E q S hT => rc_out hC hH.2.2.2.2 hT)
    intro x21 S h
    show rc_Z Y S 293 [some (rc_q v0), some (rc_q x2), some (rc_q x2), some (rc_i (-1 : Int32)), none, none] [rc_i x21]
    refine rc_if_eq (pc := 293) (tgt := 329) hC dX2_command_293 rfl h ?_ ?_
    · intro _ h
      refine rc_drop [true, true, false, true, false, false] (L' := [some (rc_q v0), some (rc_q x2), none, some (rc_i (-1 : Int32)), none, none]) rfl ?_
      exact rw_X2_command_q1_L329 hC hH  v0 x2 (-1 : Int32) S h
    intro _ h
    refine rc_bipush (pc := 296) hC (v := (7 : Int32)) dX2_command_296 rfl ?_
    refine rc_istore_n (pc := 298) hC (L' := [some (rc_q v0), some (rc_q x2), some (rc_q x2), some (rc_i (7 : Int32)), none, none]) dX2_command_298 rfl (Nat.le_of_ble_eq_true rfl) rfl rfl ?_
    refine rc_goto (pc := 299) (tgt := 329) hC dX2_command_299 rfl ?_
    refine rc_drop [true, true, false, true, false, false] (L' := [some (rc_q v0), some (rc_q x2), none, some (rc_i (7 : Int32)), none, none]) rfl ?_
    exact rw_X2_command_q1_L329 hC hH  v0 x2 (7 : Int32) S h
  rcases h.ite with ⟨hc, h⟩ | ⟨hc9, h⟩
  · refine rc_lookup (pc := 96) (tgt := 188) hC (off := 92) dX2_command_96 rfl (by rw [hc]; rfl) rfl ?_
    refine rc_aload_n (pc := 188) hC dX2_command_188 rfl rfl ?_
    refine rc_r_text (pc := 189) hC (i := 9) rfl dX2_command_189 h ?_
    intro x22 h
    obtain ⟨⟨fs, ho⟩, h⟩ := h.is
    refine rc_callV (pc := 191) hC rfl ho (rw_J4_equals hH.1 x2 x22) q687 q688 q689 q121 q690 rfl rd_J4_equals (hH.room (Nat.le_of_ble_eq_true rfl) (Nat.le_of_ble_eq_true rfl)) rfl rfl (Nat.le_of_ble_eq_true rfl) 1 rfl h.le.2.2 h.br rfl dX2_command_191 ?_ (fun E q S hT => rc_out hC hH.2.2.2.2 hT)
    intro x23 S h
    show rc_Z Y S 194 [some (rc_q v0), some (rc_q x2), some (rc_q x2), some (rc_i (-1 : Int32)), none, none] [rc_i x23]
    refine rc_if_eq (pc := 194) (tgt := 329) hC dX2_command_194 rfl h ?_ ?_
    · intro _ h
      refine rc_drop [true, true, false, true, false, false] (L' := [some (rc_q v0), some (rc_q x2), none, some (rc_i (-1 : Int32)), none, none]) rfl ?_
      exact rw_X2_command_q1_L329 hC hH  v0 x2 (-1 : Int32) S h
    intro _ h
    refine rc_iconst (pc := 197) hC (v := (0 : Int32)) dX2_command_197 rfl ?_
    refine rc_istore_n (pc := 198) hC (L' := [some (rc_q v0), some (rc_q x2), some (rc_q x2), some (rc_i (0 : Int32)), none, none]) dX2_command_198 rfl (Nat.le_of_ble_eq_true rfl) rfl rfl ?_
    refine rc_goto (pc := 199) (tgt := 329) hC dX2_command_199 rfl ?_
    refine rc_drop [true, true, false, true, false, false] (L' := [some (rc_q v0), some (rc_q x2), none, some (rc_i (0 : Int32)), none, none]) rfl ?_
    exact rw_X2_command_q1_L329 hC hH  v0 x2 (0 : Int32) S h
  refine rc_lookup (pc := 96) (tgt := 329) hC (off := 233) dX2_command_96 rfl (rc_offC hc0 rfl (rc_offC hc1 rfl (rc_offC hc2 rfl (rc_offC hc3 rfl (rc_offC hc4 rfl (rc_offC hc5 rfl (rc_offC hc6 rfl (rc_offC hc7 rfl (rc_offC hc8 rfl (rc_offC hc9 rfl rc_offZ)))))))))) rfl ?_
  refine rc_drop [true, true, false, true, false, false] (L' := [some (rc_q v0), some (rc_q x2), none, some (rc_i (-1 : Int32)), none, none]) rfl ?_
  exact rw_X2_command_q1_L329 hC hH  v0 x2 (-1 : Int32) S h
theorem rw_X2_command_q1_L16 {Y : rc_Y} (hC : rc_C Y cX2_command RX2 (Option.none : Option Jvm.ClassFile.FieldType) 6) (hH : rc_H Y 15 304 yX2_command.name) (v0 : Option Nat) (s0 : Int32) (s1 : Option Nat) (S : rc_S) (h : rc_Go Y rc_tU (rp_X2_command_L16 rp_X2_repeat_q1  v0 s0 s1) S) : rc_Z Y S 16 [some (rc_q v0), none, none, none, none, none] [rc_i s0, rc_q s1] := by
  unfold rp_X2_command_L16 at h
  refine rc_iconst (pc := 16) hC (v := (1 : Int32)) dX2_command_16 rfl ?_
  obtain ⟨⟨fs, ho⟩, h⟩ := h.is
  refine rc_callV (pc := 17) hC rfl ho (rw_X2_check hH.1 s1 s0 (1 : Int32)) q695 q697 qs4 q123 q698 rfl rd_X2_check (hH.room (Nat.le_of_ble_eq_true rfl) (Nat.le_of_ble_eq_true rfl)) rfl rfl (Nat.le_of_ble_eq_true rfl) 2 rfl h.le.2.2 h.br rfl dX2_command_17 ?_ (fun E q S hT => rc_out hC hH.2.2.2.2 hT)
  intro _ S h
  show rc_Z Y S 20 [some (rc_q v0), none, none, none, none, none] []
  refine rc_aload_n (pc := 20) hC dX2_command_20 rfl rfl ?_
  refine rc_r_getq (pc := 21) hC rF_X2_22 dX2_command_21 h ?_
  intro x1 h
  refine rc_r_text (pc := 24) hC (i := 7) rfl dX2_command_24 h ?_
  intro x2 h
  obtain ⟨⟨fs, ho⟩, h⟩ := h.is
  refine rc_callV (pc := 26) hC rfl ho (rw_J4_equals hH.1 x1 x2) q687 q688 q689 q121 q690 rfl rd_J4_equals (hH.room (Nat.le_of_ble_eq_true rfl) (Nat.le_of_ble_eq_true rfl)) rfl rfl (Nat.le_of_ble_eq_true rfl) 1 rfl h.le.2.2 h.br rfl dX2_command_26 ?_ (fun E q S hT => rc_out hC hH.2.2.2.2 hT)
  intro x3 S h
  show rc_Z Y S 29 [some (rc_q v0), none, none, none, none, none] [rc_i x3]
  refine rc_if_eq (pc := 29) (tgt := 37) hC dX2_command_29 rfl h ?_ ?_
  · intro _ h
    refine rc_aload_n (pc := 37) hC dX2_command_37 rfl rfl ?_
    refine rc_aload_n (pc := 38) hC dX2_command_38 rfl rfl ?_
    refine rc_r_getq (pc := 39) hC rF_X2_22 dX2_command_39 h ?_
    intro x4 h
    refine rc_callS (pc := 42) hC (rw_X2_isCommand hH.1 x4) q742 q743 q123 q744 rd_X2_isCommand (hH.room (Nat.le_of_ble_eq_true rfl) (Nat.le_of_ble_eq_true rfl)) rfl rfl (Nat.le_of_ble_eq_true rfl) 1 rfl h.le.2.2 h.br rfl dX2_command_42 ?_ (fun E q S hT => rc_out hC hH.2.2.2.2 hT)
    intro x5 S h
    show rc_Z Y S 45 [some (rc_q v0), none, none, none, none, none] [rc_i x5, rc_q v0]
    refine rc_iconst (pc := 45) hC (v := (1 : Int32)) dX2_command_45 rfl ?_
    obtain ⟨⟨fs, ho⟩, h⟩ := h.is
    refine rc_callV (pc := 46) hC rfl ho (rw_X2_check hH.1 v0 x5 (1 : Int32)) q695 q697 qs4 q123 q698 rfl rd_X2_check (hH.room (Nat.le_of_ble_eq_true rfl) (Nat.le_of_ble_eq_true rfl)) rfl rfl (Nat.le_of_ble_eq_true rfl) 2 rfl h.le.2.2 h.br rfl dX2_command_46 ?_ (fun E q S hT => rc_out hC hH.2.2.2.2 hT)
    intro _ S h
    show rc_Z Y S 49 [some (rc_q v0), none, none, none, none, none] []
    refine rc_aload_n (pc := 49) hC dX2_command_49 rfl rfl ?_
    refine rc_aload_n (pc := 50) hC dX2_command_50 rfl rfl ?_
    refine rc_r_geti (pc := 51) hC rF_X2_164 dX2_command_51 h ?_
    intro x6 h
    refine rc_sipush (pc := 54) hC (v := (200 : Int32)) dX2_command_54 rfl ?_
    refine rc_icmp_ge (pc := 57) (tgt := 64) hC dX2_command_57 rfl h ?_ ?_
    · intro _ h
      refine rc_iconst (pc := 64) hC (v := (0 : Int32)) dX2_command_64 rfl ?_
      exact rw_X2_command_q1_L65 hC hH  v0 (0 : Int32) v0 S h
    intro _ h
    refine rc_iconst (pc := 60) hC (v := (1 : Int32)) dX2_command_60 rfl ?_
    refine rc_goto (pc := 61) (tgt := 65) hC dX2_command_61 rfl ?_
    exact rw_X2_command_q1_L65 hC hH  v0 (1 : Int32) v0 S h
  intro _ h
  refine rc_aload_n (pc := 32) hC dX2_command_32 rfl rfl ?_
  obtain ⟨⟨fs, ho⟩, h⟩ := h.is
  refine rc_callV (pc := 33) hC rfl ho (rw_X2_repeat_q1 hH.1 v0) q734 q736 qs7 q123 q737 rfl rd_X2_repeat (hH.room (Nat.le_of_ble_eq_true rfl) (Nat.le_of_ble_eq_true rfl)) rfl rfl (Nat.le_of_ble_eq_true rfl) 0 rfl h.le.2.2 h.br rfl dX2_command_33 ?_ (fun E q S hT => rc_out hC hH.2.2.2.2 hT)
  intro _ S h
  show rc_Z Y S 36 [some (rc_q v0), none, none, none, none, none] []
  exact rc_vret hC rfl dX2_command_36 h rfl
theorem rw_X2_command_q1 {l : Launch} (hl : l.stackTraces = false) (v0 : Option Nat) : rc_Ct l yX2_command (ws_ yX2_command cX2_command 6 (Option.none : Option Jvm.ClassFile.FieldType)) 15 304 rc_tU (rp_X2_command rp_X2_repeat_q1 v0) [rc_q v0] := by
  refine rc_Ct_H hl (plainFor_of_name rY_X2) rfl (Nat.le_of_ble_eq_true rfl) (L0 := [some (rc_q v0), none, none, none, none, none]) rfl ?_
  intro Y S hC hH h
  have hC : rc_C Y cX2_command RX2 (Option.none : Option Jvm.ClassFile.FieldType) 6 := hC
  unfold rp_X2_command at h
  refine rc_aload_n (pc := 0) hC dX2_command_0 rfl rfl ?_
  refine rc_aload_n (pc := 1) hC dX2_command_1 rfl rfl ?_
  refine rc_r_getq (pc := 2) hC rF_X2_15 dX2_command_2 h ?_
  intro x1 h
  refine rc_r_stat (pc := 5) hC rS_X2_64 dX2_command_5 h ?_
  intro x2 h
  refine rc_acmp_ne (pc := 8) (tgt := 15) hC dX2_command_8 rfl h ?_ ?_
  · intro _ h
    refine rc_iconst (pc := 15) hC (v := (0 : Int32)) dX2_command_15 rfl ?_
    exact rw_X2_command_q1_L16 hC hH  v0 (0 : Int32) v0 S h
  intro _ h
  refine rc_iconst (pc := 11) hC (v := (1 : Int32)) dX2_command_11 rfl ?_
  refine rc_goto (pc := 12) (tgt := 16) hC dX2_command_12 rfl ?_
  exact rw_X2_command_q1_L16 hC hH  v0 (1 : Int32) v0 S h
theorem rw_X2_repeat_q2_L81 {Y : rc_Y} (hC : rc_C Y cX2_repeat RX2 (Option.none : Option Jvm.ClassFile.FieldType) 4) (hH : rc_H Y 16 329 yX2_repeat.name) {k67 : Option Nat → Int32 → Int32 → Int32 → rc_M Unit} (hk67 : ∀ (v0 : Option Nat) (v1 : Int32) (v2 : Int32) (v3 : Int32) (S : rc_S), rc_Go Y rc_tU (k67 v0 v1 v2 v3) S → rc_Z Y S 67 [some (rc_q v0), some (rc_i v1), some (rc_i v2), some (rc_i v3)] []) : ∀ (n : Nat) (v0 : Option Nat) (v1 : Int32) (v2 : Int32) (v3 : Int32) (S : rc_S), rc_Go Y rc_tU (rp_X2_repeat_L81 rp_X2_command_q1 k67 n v0 v1 v2 v3) S → rc_Z Y S 81 [some (rc_q v0), some (rc_i v1), some (rc_i v2), some (rc_i v3)] [] := by
  intro n
  induction n with
  | zero => intro v0 v1 v2 v3 S h; exact h.fail.elim
  | succ n ih =>
    intro v0 v1 v2 v3 S h
    rw [rp_X2_repeat_L81] at h
    refine rc_aload_n (pc := 81) hC dX2_repeat_81 rfl rfl ?_
    refine rc_r_getq (pc := 82) hC rF_X2_15 dX2_repeat_82 h ?_
    intro x1 h
    refine rc_r_stat (pc := 85) hC rS_X2_80 dX2_repeat_85 h ?_
    intro x2 h
    refine rc_acmp_eq (pc := 88) (tgt := 98) hC dX2_repeat_88 rfl h ?_ ?_
    · intro _ h
      refine rc_iinc (pc := 98) hC (v := (v3 + (1 : Int32))) (L' := [some (rc_q v0), some (rc_i v1), some (rc_i v2), some (rc_i (v3 + (1 : Int32)))]) dX2_repeat_98 rfl rfl rfl rfl ?_
      refine rc_goto (pc := 101) (tgt := 67) hC dX2_repeat_101 rfl ?_
      exact hk67 v0 v1 v2 (v3 + (1 : Int32)) S h
    intro _ h
    refine rc_aload_n (pc := 91) hC dX2_repeat_91 rfl rfl ?_
    obtain ⟨⟨fs, ho⟩, h⟩ := h.is
    refine rc_callV (pc := 92) hC rfl ho (rw_X2_command_q1 hH.1 v0) q729 q731 qs6 q123 q732 rfl rd_X2_command (hH.room (Nat.le_of_ble_eq_true rfl) (Nat.le_of_ble_eq_true rfl)) rfl rfl (Nat.le_of_ble_eq_true rfl) 0 rfl h.le.2.2 h.br rfl dX2_repeat_92 ?_ (fun E q S hT => rc_out hC hH.2.2.2.2 hT)
    intro _ S h
    show rc_Z Y S 95 [some (rc_q v0), some (rc_i v1), some (rc_i v2), some (rc_i v3)] []
    refine rc_goto (pc := 95) (tgt := 81) hC dX2_repeat_95 rfl ?_
    exact ih v0 v1 v2 v3 S h
theorem rw_X2_repeat_q2_L67 {Y : rc_Y} (hC : rc_C Y cX2_repeat RX2 (Option.none : Option Jvm.ClassFile.FieldType) 4) (hH : rc_H Y 16 329 yX2_repeat.name) : ∀ (n : Nat) (v0 : Option Nat) (v1 : Int32) (v2 : Int32) (v3 : Int32) (S : rc_S), rc_Go Y rc_tU (rp_X2_repeat_L67 rp_X2_command_q1  n v0 v1 v2 v3) S → rc_Z Y S 67 [some (rc_q v0), some (rc_i v1), some (rc_i v2), some (rc_i v3)] [] := by
  intro n
  induction n with
  | zero => intro v0 v1 v2 v3 S h; exact h.fail.elim
  | succ n ih =>
    intro v0 v1 v2 v3 S h
    rw [rp_X2_repeat_L67] at h
    refine rc_iload_n (pc := 67) hC dX2_repeat_67 rfl rfl ?_
    refine rc_iload_n (pc := 68) hC dX2_repeat_68 rfl rfl ?_
    refine rc_icmp_ge (pc := 69) (tgt := 104) hC dX2_repeat_69 rfl h ?_ ?_
    · intro _ h
      refine rc_aload_n (pc := 104) hC dX2_repeat_104 rfl rfl ?_
      refine rc_dup (pc := 105) hC dX2_repeat_105 rfl ?_
      refine rc_r_geti (pc := 106) hC rF_X2_261 dX2_repeat_106 h ?_
      intro x1 h
      refine rc_iconst (pc := 109) hC (v := (1 : Int32)) dX2_repeat_109 rfl ?_
      refine rc_isub (pc := 110) hC dX2_repeat_110 ?_
      refine rc_r_put (pc := 111) hC rP_X2_261 (nofun) dX2_repeat_111 h ?_
      intro S h
      refine rc_aload_n (pc := 114) hC dX2_repeat_114 rfl rfl ?_
      obtain ⟨⟨fs, ho⟩, h⟩ := h.is
      refine rc_callV (pc := 115) hC rfl ho (rw_X2_advance hH.1 v0) q298 q300 qs0 q123 q301 rfl rd_X2_advance (hH.room (Nat.le_of_ble_eq_true rfl) (Nat.le_of_ble_eq_true rfl)) rfl rfl (Nat.le_of_ble_eq_true rfl) 0 rfl h.le.2.2 h.br rfl dX2_repeat_115 ?_ (fun E q S hT => rc_out hC hH.2.2.2.2 hT)
      intro _ S h
      show rc_Z Y S 118 [some (rc_q v0), some (rc_i v1), some (rc_i v2), some (rc_i v3)] []
      refine rc_aload_n (pc := 118) hC dX2_repeat_118 rfl rfl ?_
      refine rc_iconst (pc := 119) hC (v := (1 : Int32)) dX2_repeat_119 rfl ?_
      obtain ⟨⟨fs, ho⟩, h⟩ := h.is
      refine rc_callV (pc := 120) hC rfl ho (rw_X2_end hH.1 v0 (1 : Int32)) q725 q727 qs5 q123 q728 rfl rd_X2_end (hH.room (Nat.le_of_ble_eq_true rfl) (Nat.le_of_ble_eq_true rfl)) rfl rfl (Nat.le_of_ble_eq_true rfl) 1 rfl h.le.2.2 h.br rfl dX2_repeat_120 ?_ (fun E q S hT => rc_out hC hH.2.2.2.2 hT)
      intro _ S h
      show rc_Z Y S 123 [some (rc_q v0), some (rc_i v1), some (rc_i v2), some (rc_i v3)] []
      refine rc_aload_n (pc := 123) hC dX2_repeat_123 rfl rfl ?_
      obtain ⟨⟨fs, ho⟩, h⟩ := h.is
      refine rc_callV (pc := 124) hC rfl ho (rw_X2_advance hH.1 v0) q298 q300 qs0 q123 q301 rfl rd_X2_advance (hH.room (Nat.le_of_ble_eq_true rfl) (Nat.le_of_ble_eq_true rfl)) rfl rfl (Nat.le_of_ble_eq_true rfl) 0 rfl h.le.2.2 h.br rfl dX2_repeat_124 ?_ (fun E q S hT => rc_out hC hH.2.2.2.2 hT)
      intro _ S h
      show rc_Z Y S 127 [some (rc_q v0), some (rc_i v1), some (rc_i v2), some (rc_i v3)] []
      exact rc_vret hC rfl dX2_repeat_127 h rfl
    intro _ h
    refine rc_aload_n (pc := 72) hC dX2_repeat_72 rfl rfl ?_
    refine rc_iload_n (pc := 73) hC dX2_repeat_73 rfl rfl ?_
    refine rc_r_put (pc := 74) hC rP_X2_39 (nofun) dX2_repeat_74 h ?_
    intro S h
    refine rc_aload_n (pc := 77) hC dX2_repeat_77 rfl rfl ?_
    obtain ⟨⟨fs, ho⟩, h⟩ := h.is
    refine rc_callV (pc := 78) hC rfl ho (rw_X2_advance hH.1 v0) q298 q300 qs0 q123 q301 rfl rd_X2_advance (hH.room (Nat.le_of_ble_eq_true rfl) (Nat.le_of_ble_eq_true rfl)) rfl rfl (Nat.le_of_ble_eq_true rfl) 0 rfl h.le.2.2 h.br rfl dX2_repeat_78 ?_ (fun E q S hT => rc_out hC hH.2.2.2.2 hT)
    intro _ S h
    show rc_Z Y S 81 [some (rc_q v0), some (rc_i v1), some (rc_i v2), some (rc_i v3)] []
    refine rc_r_fuel h ?_
    intro x2 h
    exact rw_X2_repeat_q2_L81 hC hH ih x2 v0 v1 v2 v3 S h
theorem rw_X2_repeat_q2_L46 {Y : rc_Y} (hC : rc_C Y cX2_repeat RX2 (Option.none : Option Jvm.ClassFile.FieldType) 4) (hH : rc_H Y 16 329 yX2_repeat.name) (v0 : Option Nat) (v1 : Int32) (s0 : Int32) (s1 : Option Nat) (S : rc_S) (h : rc_Go Y rc_tU (rp_X2_repeat_L46 rp_X2_command_q1  v0 v1 s0 s1) S) : rc_Z Y S 46 [some (rc_q v0), some (rc_i v1), none, none] [rc_i s0, rc_q s1] := by
  unfold rp_X2_repeat_L46 at h
  refine rc_iconst (pc := 46) hC (v := (1 : Int32)) dX2_repeat_46 rfl ?_
  obtain ⟨⟨fs, ho⟩, h⟩ := h.is
  refine rc_callV (pc := 47) hC rfl ho (rw_X2_check hH.1 s1 s0 (1 : Int32)) q695 q697 qs4 q123 q698 rfl rd_X2_check (hH.room (Nat.le_of_ble_eq_true rfl) (Nat.le_of_ble_eq_true rfl)) rfl rfl (Nat.le_of_ble_eq_true rfl) 2 rfl h.le.2.2 h.br rfl dX2_repeat_47 ?_ (fun E q S hT => rc_out hC hH.2.2.2.2 hT)
  intro _ S h
  show rc_Z Y S 50 [some (rc_q v0), some (rc_i v1), none, none] []
  refine rc_aload_n (pc := 50) hC dX2_repeat_50 rfl rfl ?_
  refine rc_r_geti (pc := 51) hC rF_X2_39 dX2_repeat_51 h ?_
  intro x1 h
  refine rc_istore_n (pc := 54) hC (L' := [some (rc_q v0), some (rc_i v1), some (rc_i x1), none]) dX2_repeat_54 rfl (Nat.le_of_ble_eq_true rfl) rfl rfl ?_
  refine rc_aload_n (pc := 55) hC dX2_repeat_55 rfl rfl ?_
  refine rc_dup (pc := 56) hC dX2_repeat_56 rfl ?_
  refine rc_r_geti (pc := 57) hC rF_X2_261 dX2_repeat_57 h ?_
  intro x2 h
  refine rc_iconst (pc := 60) hC (v := (1 : Int32)) dX2_repeat_60 rfl ?_
  refine rc_iadd (pc := 61) hC dX2_repeat_61 ?_
  refine rc_r_put (pc := 62) hC rP_X2_261 (nofun) dX2_repeat_62 h ?_
  intro S h
  refine rc_iconst (pc := 65) hC (v := (0 : Int32)) dX2_repeat_65 rfl ?_
  refine rc_istore_n (pc := 66) hC (L' := [some (rc_q v0), some (rc_i v1), some (rc_i x1), some (rc_i (0 : Int32))]) dX2_repeat_66 rfl (Nat.le_of_ble_eq_true rfl) rfl rfl ?_
  refine rc_r_fuel h ?_
  intro x3 h
  exact rw_X2_repeat_q2_L67 hC hH  x3 v0 v1 x1 (0 : Int32) S h
theorem rw_X2_repeat_q2_L14 {Y : rc_Y} (hC : rc_C Y cX2_repeat RX2 (Option.none : Option Jvm.ClassFile.FieldType) 4) (hH : rc_H Y 16 329 yX2_repeat.name) (v0 : Option Nat) (s0 : Int32) (s1 : Option Nat) (S : rc_S) (h : rc_Go Y rc_tU (rp_X2_repeat_L14 rp_X2_command_q1  v0 s0 s1) S) : rc_Z Y S 14 [some (rc_q v0), none, none, none] [rc_i s0, rc_q s1] := by
  unfold rp_X2_repeat_L14 at h
  refine rc_iconst (pc := 14) hC (v := (4 : Int32)) dX2_repeat_14 rfl ?_
  obtain ⟨⟨fs, ho⟩, h⟩ := h.is
  refine rc_callV (pc := 15) hC rfl ho (rw_X2_check hH.1 s1 s0 (4 : Int32)) q695 q697 qs4 q123 q698 rfl rd_X2_check (hH.room (Nat.le_of_ble_eq_true rfl) (Nat.le_of_ble_eq_true rfl)) rfl rfl (Nat.le_of_ble_eq_true rfl) 2 rfl h.le.2.2 h.br rfl dX2_repeat_15 ?_ (fun E q S hT => rc_out hC hH.2.2.2.2 hT)
  intro _ S h
  show rc_Z Y S 18 [some (rc_q v0), none, none, none] []
  refine rc_aload_n (pc := 18) hC dX2_repeat_18 rfl rfl ?_
  obtain ⟨⟨fs, ho⟩, h⟩ := h.is
  refine rc_callV (pc := 19) hC rfl ho (rw_X2_advance hH.1 v0) q298 q300 qs0 q123 q301 rfl rd_X2_advance (hH.room (Nat.le_of_ble_eq_true rfl) (Nat.le_of_ble_eq_true rfl)) rfl rfl (Nat.le_of_ble_eq_true rfl) 0 rfl h.le.2.2 h.br rfl dX2_repeat_19 ?_ (fun E q S hT => rc_out hC hH.2.2.2.2 hT)
  intro _ S h
  show rc_Z Y S 22 [some (rc_q v0), none, none, none] []
  refine rc_aload_n (pc := 22) hC dX2_repeat_22 rfl rfl ?_
  refine rc_iconst (pc := 23) hC (v := (1 : Int32)) dX2_repeat_23 rfl ?_
  refine rc_bipush (pc := 24) hC (v := (20 : Int32)) dX2_repeat_24 rfl ?_
  obtain ⟨⟨fs, ho⟩, h⟩ := h.is
  refine rc_callV (pc := 26) hC rfl ho (rw_X2_number hH.1 v0 (1 : Int32) (20 : Int32)) q738 q740 qs8 q123 q741 rfl rd_X2_number (hH.room (Nat.le_of_ble_eq_true rfl) (Nat.le_of_ble_eq_true rfl)) rfl rfl (Nat.le_of_ble_eq_true rfl) 2 rfl h.le.2.2 h.br rfl dX2_repeat_26 ?_ (fun E q S hT => rc_out hC hH.2.2.2.2 hT)
  intro x1 S h
  show rc_Z Y S 29 [some (rc_q v0), none, none, none] [rc_i x1]
  refine rc_istore_n (pc := 29) hC (L' := [some (rc_q v0), some (rc_i x1), none, none]) dX2_repeat_29 rfl (Nat.le_of_ble_eq_true rfl) rfl rfl ?_
  refine rc_aload_n (pc := 30) hC dX2_repeat_30 rfl rfl ?_
  refine rc_aload_n (pc := 31) hC dX2_repeat_31 rfl rfl ?_
  refine rc_r_getq (pc := 32) hC rF_X2_15 dX2_repeat_32 h ?_
  intro x2 h
  refine rc_r_stat (pc := 35) hC rS_X2_77 dX2_repeat_35 h ?_
  intro x3 h
  refine rc_acmp_ne (pc := 38) (tgt := 45) hC dX2_repeat_38 rfl h ?_ ?_
  · intro _ h
    refine rc_iconst (pc := 45) hC (v := (0 : Int32)) dX2_repeat_45 rfl ?_
    exact rw_X2_repeat_q2_L46 hC hH  v0 x1 (0 : Int32) v0 S h
  intro _ h
  refine rc_iconst (pc := 41) hC (v := (1 : Int32)) dX2_repeat_41 rfl ?_
  refine rc_goto (pc := 42) (tgt := 46) hC dX2_repeat_42 rfl ?_
  exact rw_X2_repeat_q2_L46 hC hH  v0 x1 (1 : Int32) v0 S h
theorem rw_X2_repeat_q2 {l : Launch} (hl : l.stackTraces = false) (v0 : Option Nat) : rc_Ct l yX2_repeat (ws_ yX2_repeat cX2_repeat 4 (Option.none : Option Jvm.ClassFile.FieldType)) 16 329 rc_tU (rp_X2_repeat rp_X2_command_q1 v0) [rc_q v0] := by
  refine rc_Ct_H hl (plainFor_of_name rY_X2) rfl (Nat.le_of_ble_eq_true rfl) (L0 := [some (rc_q v0), none, none, none]) rfl ?_
  intro Y S hC hH h
  have hC : rc_C Y cX2_repeat RX2 (Option.none : Option Jvm.ClassFile.FieldType) 4 := hC
  unfold rp_X2_repeat at h
  refine rc_aload_n (pc := 0) hC dX2_repeat_0 rfl rfl ?_
  refine rc_aload_n (pc := 1) hC dX2_repeat_1 rfl rfl ?_
  refine rc_r_geti (pc := 2) hC rF_X2_261 dX2_repeat_2 h ?_
  intro x1 h
  refine rc_iconst (pc := 5) hC (v := (2 : Int32)) dX2_repeat_5 rfl ?_
  refine rc_icmp_ge (pc := 6) (tgt := 13) hC dX2_repeat_6 rfl h ?_ ?_
  · intro _ h
    refine rc_iconst (pc := 13) hC (v := (0 : Int32)) dX2_repeat_13 rfl ?_
    exact rw_X2_repeat_q2_L14 hC hH  v0 (0 : Int32) v0 S h
  intro _ h
  refine rc_iconst (pc := 9) hC (v := (1 : Int32)) dX2_repeat_9 rfl ?_
  refine rc_goto (pc := 10) (tgt := 14) hC dX2_repeat_10 rfl ?_
  exact rw_X2_repeat_q2_L14 hC hH  v0 (1 : Int32) v0 S h
theorem rw_X2_command_q2_L534 {Y : rc_Y} (hC : rc_C Y cX2_command RX2 (Option.none : Option Jvm.ClassFile.FieldType) 6) (hH : rc_H Y 17 352 yX2_command.name) (v0 : Option Nat) (S : rc_S) (h : rc_Go Y rc_tU (rp_X2_command_L534 rp_X2_repeat_q2  v0) S) : rc_Z Y S 534 [some (rc_q v0), none, none, none, none, none] [] := by
  unfold rp_X2_command_L534 at h
  refine rc_aload_n (pc := 534) hC dX2_command_534 rfl rfl ?_
  obtain ⟨⟨fs, ho⟩, h⟩ := h.is
  refine rc_callV (pc := 535) hC rfl ho (rw_X2_advance hH.1 v0) q298 q300 qs0 q123 q301 rfl rd_X2_advance (hH.room (Nat.le_of_ble_eq_true rfl) (Nat.le_of_ble_eq_true rfl)) rfl rfl (Nat.le_of_ble_eq_true rfl) 0 rfl h.le.2.2 h.br rfl dX2_command_535 ?_ (fun E q S hT => rc_out hC hH.2.2.2.2 hT)
  intro _ S h
  show rc_Z Y S 538 [some (rc_q v0), none, none, none, none, none] []
  exact rc_vret hC rfl dX2_command_538 h rfl
theorem rw_X2_command_q2_L384 {Y : rc_Y} (hC : rc_C Y cX2_command RX2 (Option.none : Option Jvm.ClassFile.FieldType) 6) (hH : rc_H Y 17 352 yX2_command.name) (v0 : Option Nat) (v1 : Option Nat) (S : rc_S) (h : rc_Go Y rc_tU (rp_X2_command_L384 rp_X2_repeat_q2  v0 v1) S) : rc_Z Y S 384 [some (rc_q v0), some (rc_q v1), none, none, none, none] [] := by
  unfold rp_X2_command_L384 at h
  refine rc_aload_n (pc := 384) hC dX2_command_384 rfl rfl ?_
  refine rc_aload_n (pc := 385) hC dX2_command_385 rfl rfl ?_
  obtain ⟨⟨fs, ho⟩, h⟩ := h.is
  refine rc_callV (pc := 386) hC rfl ho (rw_X2_build hH.1 v0 v1) q814 q816 qs9 q123 q817 rfl rd_X2_build (hH.room (Nat.le_of_ble_eq_true rfl) (Nat.le_of_ble_eq_true rfl)) rfl rfl (Nat.le_of_ble_eq_true rfl) 1 rfl h.le.2.2 h.br rfl dX2_command_386 ?_ (fun E q S hT => rc_out hC hH.2.2.2.2 hT)
  intro _ S h
  show rc_Z Y S 389 [some (rc_q v0), some (rc_q v1), none, none, none, none] []
  refine rc_goto (pc := 389) (tgt := 534) hC dX2_command_389 rfl ?_
  refine rc_drop [true, false, false, false, false, false] (L' := [some (rc_q v0), none, none, none, none, none]) rfl ?_
  exact rw_X2_command_q2_L534 hC hH  v0 S h
theorem rw_X2_command_q2_L392 {Y : rc_Y} (hC : rc_C Y cX2_command RX2 (Option.none : Option Jvm.ClassFile.FieldType) 6) (hH : rc_H Y 17 352 yX2_command.name) (v0 : Option Nat) (v1 : Option Nat) (S : rc_S) (h : rc_Go Y rc_tU (rp_X2_command_L392 rp_X2_repeat_q2  v0 v1) S) : rc_Z Y S 392 [some (rc_q v0), some (rc_q v1), none, none, none, none] [] := by
  unfold rp_X2_command_L392 at h
  refine rc_aload_n (pc := 392) hC dX2_command_392 rfl rfl ?_
  refine rc_aload_n (pc := 393) hC dX2_command_393 rfl rfl ?_
  obtain ⟨⟨fs, ho⟩, h⟩ := h.is
  refine rc_callV (pc := 394) hC rfl ho (rw_X2_walk hH.1 v0 v1) q981 q983 qs15 q123 q984 rfl rd_X2_walk (hH.room (Nat.le_of_ble_eq_true rfl) (Nat.le_of_ble_eq_true rfl)) rfl rfl (Nat.le_of_ble_eq_true rfl) 1 rfl h.le.2.2 h.br rfl dX2_command_394 ?_ (fun E q S hT => rc_out hC hH.2.2.2.2 hT)
  intro _ S h
  show rc_Z Y S 397 [some (rc_q v0), some (rc_q v1), none, none, none, none] []
  refine rc_goto (pc := 397) (tgt := 534) hC dX2_command_397 rfl ?_
  refine rc_drop [true, false, false, false, false, false] (L' := [some (rc_q v0), none, none, none, none, none]) rfl ?_
  exact rw_X2_command_q2_L534 hC hH  v0 S h
theorem rw_X2_command_q2_L400 {Y : rc_Y} (hC : rc_C Y cX2_command RX2 (Option.none : Option Jvm.ClassFile.FieldType) 6) (hH : rc_H Y 17 352 yX2_command.name) (v0 : Option Nat) (v1 : Option Nat) (S : rc_S) (h : rc_Go Y rc_tU (rp_X2_command_L400 rp_X2_repeat_q2  v0 v1) S) : rc_Z Y S 400 [some (rc_q v0), some (rc_q v1), none, none, none, none] [] := by
  unfold rp_X2_command_L400 at h
  refine rc_aload_n (pc := 400) hC dX2_command_400 rfl rfl ?_
  refine rc_aload_n (pc := 401) hC dX2_command_401 rfl rfl ?_
  obtain ⟨⟨fs, ho⟩, h⟩ := h.is
  refine rc_callV (pc := 402) hC rfl ho (rw_X2_meet hH.1 v0 v1) q1054 q1056 qs17 q123 q1057 rfl rd_X2_meet (hH.room (Nat.le_of_ble_eq_true rfl) (Nat.le_of_ble_eq_true rfl)) rfl rfl (Nat.le_of_ble_eq_true rfl) 1 rfl h.le.2.2 h.br rfl dX2_command_402 ?_ (fun E q S hT => rc_out hC hH.2.2.2.2 hT)
  intro _ S h
  show rc_Z Y S 405 [some (rc_q v0), some (rc_q v1), none, none, none, none] []
  refine rc_goto (pc := 405) (tgt := 534) hC dX2_command_405 rfl ?_
  refine rc_drop [true, false, false, false, false, false] (L' := [some (rc_q v0), none, none, none, none, none]) rfl ?_
  exact rw_X2_command_q2_L534 hC hH  v0 S h
theorem rw_X2_command_q2_L483 {Y : rc_Y} (hC : rc_C Y cX2_command RX2 (Option.none : Option Jvm.ClassFile.FieldType) 6) (hH : rc_H Y 17 352 yX2_command.name) (v0 : Option Nat) (v4 : Int32) (s0 : Int32) (s1 : Option Nat) (S : rc_S) (h : rc_Go Y rc_tU (rp_X2_command_L483 rp_X2_repeat_q2  v0 v4 s0 s1) S) : rc_Z Y S 483 [some (rc_q v0), none, none, none, some (rc_i v4), none] [rc_i s0, rc_q s1] := by
  unfold rp_X2_command_L483 at h
  obtain ⟨⟨fs, ho⟩, h⟩ := h.is
  refine rc_callV (pc := 483) hC rfl ho (rw_X2_end hH.1 s1 s0) q725 q727 qs5 q123 q728 rfl rd_X2_end (hH.room (Nat.le_of_ble_eq_true rfl) (Nat.le_of_ble_eq_true rfl)) rfl rfl (Nat.le_of_ble_eq_true rfl) 1 rfl h.le.2.2 h.br rfl dX2_command_483 ?_ (fun E q S hT => rc_out hC hH.2.2.2.2 hT)
  intro _ S h
  show rc_Z Y S 486 [some (rc_q v0), none, none, none, some (rc_i v4), none] []
  refine rc_aload_n (pc := 486) hC dX2_command_486 rfl rfl ?_
  refine rc_r_getq (pc := 487) hC rF_X2_29 dX2_command_487 h ?_
  intro x1 h
  refine rc_iload (pc := 490) hC dX2_command_490 rfl ?_
  obtain ⟨⟨fs, ho⟩, h⟩ := h.is
  refine rc_callV (pc := 492) hC rfl ho (rw_X3_passNights hH.1 x1 v4) q1132 q1133 q1134 q126 q1135 rfl rd_X3_passNights (hH.room (Nat.le_of_ble_eq_true rfl) (Nat.le_of_ble_eq_true rfl)) rfl rfl (Nat.le_of_ble_eq_true rfl) 1 rfl h.le.2.2 h.br rfl dX2_command_492 ?_ (fun E q S hT => rc_out hC hH.2.2.2.2 hT)
  intro x2 S h
  show rc_Z Y S 495 [some (rc_q v0), none, none, none, some (rc_i v4), none] [rc_i x2]
  refine rc_pop (pc := 495) hC dX2_command_495 rfl ?_
  refine rc_goto (pc := 496) (tgt := 534) hC dX2_command_496 rfl ?_
  refine rc_drop [true, false, false, false, false, false] (L' := [some (rc_q v0), none, none, none, none, none]) rfl ?_
  exact rw_X2_command_q2_L534 hC hH  v0 S h
theorem rw_X2_command_q2_L329 {Y : rc_Y} (hC : rc_C Y cX2_command RX2 (Option.none : Option Jvm.ClassFile.FieldType) 6) (hH : rc_H Y 17 352 yX2_command.name) (v0 : Option Nat) (v1 : Option Nat) (v3 : Int32) (S : rc_S) (h : rc_Go Y rc_tU (rp_X2_command_L329 rp_X2_repeat_q2  v0 v1 v3) S) : rc_Z Y S 329 [some (rc_q v0), some (rc_q v1), none, some (rc_i v3), none, none] [] := by
  unfold rp_X2_command_L329 at h
  refine rc_iload_n (pc := 329) hC dX2_command_329 rfl rfl ?_
  rcases h.ite with ⟨hc, h⟩ | ⟨hc0, h⟩
  · refine rc_tableIn (pc := 330) (tgt := 384) hC (off := 54) dX2_command_330 (by rw [hc]; decide) (by rw [hc]; decide) (by rw [hc]; rfl) rfl ?_
    refine rc_drop [true, true, false, false, false, false] (L' := [some (rc_q v0), some (rc_q v1), none, none, none, none]) rfl ?_
    exact rw_X2_command_q2_L384 hC hH  v0 v1 S h
  rcases h.ite with ⟨hc, h⟩ | ⟨hc1, h⟩
  · refine rc_tableIn (pc := 330) (tgt := 384) hC (off := 54) dX2_command_330 (by rw [hc]; decide) (by rw [hc]; decide) (by rw [hc]; rfl) rfl ?_
    refine rc_drop [true, true, false, false, false, false] (L' := [some (rc_q v0), some (rc_q v1), none, none, none, none]) rfl ?_
    exact rw_X2_command_q2_L384 hC hH  v0 v1 S h
  rcases h.ite with ⟨hc, h⟩ | ⟨hc2, h⟩
  · refine rc_tableIn (pc := 330) (tgt := 384) hC (off := 54) dX2_command_330 (by rw [hc]; decide) (by rw [hc]; decide) (by rw [hc]; rfl) rfl ?_
    refine rc_drop [true, true, false, false, false, false] (L' := [some (rc_q v0), some (rc_q v1), none, none, none, none]) rfl ?_
    exact rw_X2_command_q2_L384 hC hH  v0 v1 S h
  rcases h.ite with ⟨hc, h⟩ | ⟨hc3, h⟩
  · refine rc_tableIn (pc := 330) (tgt := 392) hC (off := 62) dX2_command_330 (by rw [hc]; decide) (by rw [hc]; decide) (by rw [hc]; rfl) rfl ?_
    refine rc_drop [true, true, false, false, false, false] (L' := [some (rc_q v0), some (rc_q v1), none, none, none, none]) rfl ?_
    exact rw_X2_command_q2_L392 hC hH  v0 v1 S h
  rcases h.ite with ⟨hc, h⟩ | ⟨hc4, h⟩
  · refine rc_tableIn (pc := 330) (tgt := 392) hC (off := 62) dX2_command_330 (by rw [hc]; decide) (by rw [hc]; decide) (by rw [hc]; rfl) rfl ?_
    refine rc_drop [true, true, false, false, false, false] (L' := [some (rc_q v0), some (rc_q v1), none, none, none, none]) rfl ?_
    exact rw_X2_command_q2_L392 hC hH  v0 v1 S h
  rcases h.ite with ⟨hc, h⟩ | ⟨hc5, h⟩
  · refine rc_tableIn (pc := 330) (tgt := 392) hC (off := 62) dX2_command_330 (by rw [hc]; decide) (by rw [hc]; decide) (by rw [hc]; rfl) rfl ?_
    refine rc_drop [true, true, false, false, false, false] (L' := [some (rc_q v0), some (rc_q v1), none, none, none, none]) rfl ?_
    exact rw_X2_command_q2_L392 hC hH  v0 v1 S h
  rcases h.ite with ⟨hc, h⟩ | ⟨hc6, h⟩
  · refine rc_tableIn (pc := 330) (tgt := 400) hC (off := 70) dX2_command_330 (by rw [hc]; decide) (by rw [hc]; decide) (by rw [hc]; rfl) rfl ?_
    refine rc_drop [true, true, false, false, false, false] (L' := [some (rc_q v0), some (rc_q v1), none, none, none, none]) rfl ?_
    exact rw_X2_command_q2_L400 hC hH  v0 v1 S h
  rcases h.ite with ⟨hc, h⟩ | ⟨hc7, h⟩
  · refine rc_tableIn (pc := 330) (tgt := 400) hC (off := 70) dX2_command_330 (by rw [hc]; decide) (by rw [hc]; decide) (by rw [hc]; rfl) rfl ?_
    refine rc_drop [true, true, false, false, false, false] (L' := [some (rc_q v0), some (rc_q v1), none, none, none, none]) rfl ?_
    exact rw_X2_command_q2_L400 hC hH  v0 v1 S h
  rcases h.ite with ⟨hc, h⟩ | ⟨hc8, h⟩
  · refine rc_tableIn (pc := 330) (tgt := 408) hC (off := 78) dX2_command_330 (by rw [hc]; decide) (by rw [hc]; decide) (by rw [hc]; rfl) rfl ?_
    refine rc_aload_n (pc := 408) hC dX2_command_408 rfl rfl ?_
    refine rc_iconst (pc := 409) hC (v := (1 : Int32)) dX2_command_409 rfl ?_
    refine rc_bipush (pc := 410) hC (v := (9 : Int32)) dX2_command_410 rfl ?_
    obtain ⟨⟨fs, ho⟩, h⟩ := h.is
    refine rc_callV (pc := 412) hC rfl ho (rw_X2_number hH.1 v0 (1 : Int32) (9 : Int32)) q738 q740 qs8 q123 q741 rfl rd_X2_number (hH.room (Nat.le_of_ble_eq_true rfl) (Nat.le_of_ble_eq_true rfl)) rfl rfl (Nat.le_of_ble_eq_true rfl) 2 rfl h.le.2.2 h.br rfl dX2_command_412 ?_ (fun E q S hT => rc_out hC hH.2.2.2.2 hT)
    intro x8 S h
    show rc_Z Y S 415 [some (rc_q v0), some (rc_q v1), none, some (rc_i v3), none, none] [rc_i x8]
    refine rc_istore (pc := 415) hC (L' := [some (rc_q v0), some (rc_q v1), none, some (rc_i v3), some (rc_i x8), none]) dX2_command_415 (Nat.le_of_ble_eq_true rfl) rfl rfl ?_
    refine rc_aload_n (pc := 417) hC dX2_command_417 rfl rfl ?_
    refine rc_iconst (pc := 418) hC (v := (1 : Int32)) dX2_command_418 rfl ?_
    refine rc_bipush (pc := 419) hC (v := (9 : Int32)) dX2_command_419 rfl ?_
    obtain ⟨⟨fs, ho⟩, h⟩ := h.is
    refine rc_callV (pc := 421) hC rfl ho (rw_X2_number hH.1 v0 (1 : Int32) (9 : Int32)) q738 q740 qs8 q123 q741 rfl rd_X2_number (hH.room (Nat.le_of_ble_eq_true rfl) (Nat.le_of_ble_eq_true rfl)) rfl rfl (Nat.le_of_ble_eq_true rfl) 2 rfl h.le.2.2 h.br rfl dX2_command_421 ?_ (fun E q S hT => rc_out hC hH.2.2.2.2 hT)
    intro x9 S h
    show rc_Z Y S 424 [some (rc_q v0), some (rc_q v1), none, some (rc_i v3), some (rc_i x8), none] [rc_i x9]
    refine rc_istore (pc := 424) hC (L' := [some (rc_q v0), some (rc_q v1), none, some (rc_i v3), some (rc_i x8), some (rc_i x9)]) dX2_command_424 (Nat.le_of_ble_eq_true rfl) rfl rfl ?_
    refine rc_aload_n (pc := 426) hC dX2_command_426 rfl rfl ?_
    refine rc_aload_n (pc := 427) hC dX2_command_427 rfl rfl ?_
    refine rc_r_getq (pc := 428) hC rF_X2_29 dX2_command_428 h ?_
    intro x10 h
    obtain ⟨⟨fs, ho⟩, h⟩ := h.is
    refine rc_callV (pc := 431) hC rfl ho (rw_X3_canNominate hH.1 x10) q1096 q1097 q1098 q126 q1099 rfl rd_X3_canNominate (hH.room (Nat.le_of_ble_eq_true rfl) (Nat.le_of_ble_eq_true rfl)) rfl rfl (Nat.le_of_ble_eq_true rfl) 0 rfl h.le.2.2 h.br rfl dX2_command_431 ?_ (fun E q S hT => rc_out hC hH.2.2.2.2 hT)
    intro x11 S h
    show rc_Z Y S 434 [some (rc_q v0), some (rc_q v1), none, some (rc_i v3), some (rc_i x8), some (rc_i x9)] [rc_i x11, rc_q v0]
    obtain ⟨⟨fs, ho⟩, h⟩ := h.is
    refine rc_callV (pc := 434) hC rfl ho (rw_X2_end hH.1 v0 x11) q725 q727 qs5 q123 q728 rfl rd_X2_end (hH.room (Nat.le_of_ble_eq_true rfl) (Nat.le_of_ble_eq_true rfl)) rfl rfl (Nat.le_of_ble_eq_true rfl) 1 rfl h.le.2.2 h.br rfl dX2_command_434 ?_ (fun E q S hT => rc_out hC hH.2.2.2.2 hT)
    intro _ S h
    show rc_Z Y S 437 [some (rc_q v0), some (rc_q v1), none, some (rc_i v3), some (rc_i x8), some (rc_i x9)] []
    refine rc_aload_n (pc := 437) hC dX2_command_437 rfl rfl ?_
    refine rc_r_getq (pc := 438) hC rF_X2_29 dX2_command_438 h ?_
    intro x12 h
    refine rc_iload (pc := 441) hC dX2_command_441 rfl ?_
    refine rc_iload (pc := 443) hC dX2_command_443 rfl ?_
    obtain ⟨⟨fs, ho⟩, h⟩ := h.is
    refine rc_callV (pc := 445) hC rfl ho (rw_X3_nominate hH.1 x12 x8 x9) q1109 q1110 q1111 q126 q1112 rfl rd_X3_nominate (hH.room (Nat.le_of_ble_eq_true rfl) (Nat.le_of_ble_eq_true rfl)) rfl rfl (Nat.le_of_ble_eq_true rfl) 2 rfl h.le.2.2 h.br rfl dX2_command_445 ?_ (fun E q S hT => rc_out hC hH.2.2.2.2 hT)
    intro x13 S h
    show rc_Z Y S 448 [some (rc_q v0), some (rc_q v1), none, some (rc_i v3), some (rc_i x8), some (rc_i x9)] [rc_i x13]
    refine rc_pop (pc := 448) hC dX2_command_448 rfl ?_
    refine rc_goto (pc := 449) (tgt := 534) hC dX2_command_449 rfl ?_
    refine rc_drop [true, false, false, false, false, false] (L' := [some (rc_q v0), none, none, none, none, none]) rfl ?_
    exact rw_X2_command_q2_L534 hC hH  v0 S h
  rcases h.ite with ⟨hc, h⟩ | ⟨hc9, h⟩
  · refine rc_tableIn (pc := 330) (tgt := 452) hC (off := 122) dX2_command_330 (by rw [hc]; decide) (by rw [hc]; decide) (by rw [hc]; rfl) rfl ?_
    refine rc_aload_n (pc := 452) hC dX2_command_452 rfl rfl ?_
    refine rc_iconst (pc := 453) hC (v := (1 : Int32)) dX2_command_453 rfl ?_
    refine rc_bipush (pc := 454) hC (v := (30 : Int32)) dX2_command_454 rfl ?_
    obtain ⟨⟨fs, ho⟩, h⟩ := h.is
    refine rc_callV (pc := 456) hC rfl ho (rw_X2_number hH.1 v0 (1 : Int32) (30 : Int32)) q738 q740 qs8 q123 q741 rfl rd_X2_number (hH.room (Nat.le_of_ble_eq_true rfl) (Nat.le_of_ble_eq_true rfl)) rfl rfl (Nat.le_of_ble_eq_true rfl) 2 rfl h.le.2.2 h.br rfl dX2_command_456 ?_ (fun E q S hT => rc_out hC hH.2.2.2.2 hT)
    intro x14 S h
    show rc_Z Y S 459 [some (rc_q v0), some (rc_q v1), none, some (rc_i v3), none, none] [rc_i x14]
    refine rc_istore (pc := 459) hC (L' := [some (rc_q v0), some (rc_q v1), none, some (rc_i v3), some (rc_i x14), none]) dX2_command_459 (Nat.le_of_ble_eq_true rfl) rfl rfl ?_
    refine rc_aload_n (pc := 461) hC dX2_command_461 rfl rfl ?_
    refine rc_aload_n (pc := 462) hC dX2_command_462 rfl rfl ?_
    refine rc_r_getq (pc := 463) hC rF_X2_29 dX2_command_463 h ?_
    intro x15 h
    refine rc_r_geti (pc := 466) hC rF_X2_184 dX2_command_466 h ?_
    intro x16 h
    refine rc_iload (pc := 469) hC dX2_command_469 rfl ?_
    refine rc_iadd (pc := 471) hC dX2_command_471 ?_
    refine rc_sipush (pc := 472) hC (v := (999 : Int32)) dX2_command_472 rfl ?_
    refine rc_icmp_gt (pc := 475) (tgt := 482) hC dX2_command_475 rfl h ?_ ?_
    · intro _ h
      refine rc_iconst (pc := 482) hC (v := (0 : Int32)) dX2_command_482 rfl ?_
      refine rc_drop [true, false, false, false, true, false] (L' := [some (rc_q v0), none, none, none, some (rc_i x14), none]) rfl ?_
      exact rw_X2_command_q2_L483 hC hH  v0 x14 (0 : Int32) v0 S h
    intro _ h
    refine rc_iconst (pc := 478) hC (v := (1 : Int32)) dX2_command_478 rfl ?_
    refine rc_goto (pc := 479) (tgt := 483) hC dX2_command_479 rfl ?_
    refine rc_drop [true, false, false, false, true, false] (L' := [some (rc_q v0), none, none, none, some (rc_i x14), none]) rfl ?_
    exact rw_X2_command_q2_L483 hC hH  v0 x14 (1 : Int32) v0 S h
  have hout : (v3).toInt < 0 ∨ 9 < (v3).toInt := by
    have hq0 : (v3).toInt ≠ 0 := fun e => hc0 (Int32.toInt_inj.mp (e.trans rfl))
    have hq1 : (v3).toInt ≠ 1 := fun e => hc1 (Int32.toInt_inj.mp (e.trans rfl))
    have hq2 : (v3).toInt ≠ 2 := fun e => hc2 (Int32.toInt_inj.mp (e.trans rfl))
    have hq3 : (v3).toInt ≠ 3 := fun e => hc3 (Int32.toInt_inj.mp (e.trans rfl))
    have hq4 : (v3).toInt ≠ 4 := fun e => hc4 (Int32.toInt_inj.mp (e.trans rfl))
    have hq5 : (v3).toInt ≠ 5 := fun e => hc5 (Int32.toInt_inj.mp (e.trans rfl))
    have hq6 : (v3).toInt ≠ 6 := fun e => hc6 (Int32.toInt_inj.mp (e.trans rfl))
    have hq7 : (v3).toInt ≠ 7 := fun e => hc7 (Int32.toInt_inj.mp (e.trans rfl))
    have hq8 : (v3).toInt ≠ 8 := fun e => hc8 (Int32.toInt_inj.mp (e.trans rfl))
    have hq9 : (v3).toInt ≠ 9 := fun e => hc9 (Int32.toInt_inj.mp (e.trans rfl))
    omega
  refine rc_tableOut (pc := 330) (tgt := 499) hC dX2_command_330 hout rfl ?_
  refine rc_aload_n (pc := 499) hC dX2_command_499 rfl rfl ?_
  obtain ⟨⟨fs, ho⟩, h⟩ := h.is
  refine rc_callV (pc := 500) hC rfl ho (rw_X2_cat hH.1 v0) q992 q994 qs16 q123 q995 rfl rd_X2_cat (hH.room (Nat.le_of_ble_eq_true rfl) (Nat.le_of_ble_eq_true rfl)) rfl rfl (Nat.le_of_ble_eq_true rfl) 0 rfl h.le.2.2 h.br rfl dX2_command_500 ?_ (fun E q S hT => rc_out hC hH.2.2.2.2 hT)
  intro x1 S h
  show rc_Z Y S 503 [some (rc_q v0), some (rc_q v1), none, some (rc_i v3), none, none] [rc_i x1]
  refine rc_istore (pc := 503) hC (L' := [some (rc_q v0), some (rc_q v1), none, some (rc_i v3), some (rc_i x1), none]) dX2_command_503 (Nat.le_of_ble_eq_true rfl) rfl rfl ?_
  refine rc_aload_n (pc := 505) hC dX2_command_505 rfl rfl ?_
  refine rc_aload_n (pc := 506) hC dX2_command_506 rfl rfl ?_
  refine rc_r_getq (pc := 507) hC rF_X2_29 dX2_command_507 h ?_
  intro x2 h
  refine rc_iload (pc := 510) hC dX2_command_510 rfl ?_
  obtain ⟨⟨fs, ho⟩, h⟩ := h.is
  refine rc_callV (pc := 512) hC rfl ho (rw_X3_canVote hH.1 x2 x1) q1160 q1161 q1162 q126 q1163 rfl rd_X3_canVote (hH.room (Nat.le_of_ble_eq_true rfl) (Nat.le_of_ble_eq_true rfl)) rfl rfl (Nat.le_of_ble_eq_true rfl) 1 rfl h.le.2.2 h.br rfl dX2_command_512 ?_ (fun E q S hT => rc_out hC hH.2.2.2.2 hT)
  intro x3 S h
  show rc_Z Y S 515 [some (rc_q v0), some (rc_q v1), none, some (rc_i v3), some (rc_i x1), none] [rc_i x3, rc_q v0]
  obtain ⟨⟨fs, ho⟩, h⟩ := h.is
  refine rc_callV (pc := 515) hC rfl ho (rw_X2_end hH.1 v0 x3) q725 q727 qs5 q123 q728 rfl rd_X2_end (hH.room (Nat.le_of_ble_eq_true rfl) (Nat.le_of_ble_eq_true rfl)) rfl rfl (Nat.le_of_ble_eq_true rfl) 1 rfl h.le.2.2 h.br rfl dX2_command_515 ?_ (fun E q S hT => rc_out hC hH.2.2.2.2 hT)
  intro _ S h
  show rc_Z Y S 518 [some (rc_q v0), some (rc_q v1), none, some (rc_i v3), some (rc_i x1), none] []
  refine rc_aload_n (pc := 518) hC dX2_command_518 rfl rfl ?_
  refine rc_r_getq (pc := 519) hC rF_X2_29 dX2_command_519 h ?_
  intro x4 h
  refine rc_iload (pc := 522) hC dX2_command_522 rfl ?_
  refine rc_aload_n (pc := 524) hC dX2_command_524 rfl rfl ?_
  refine rc_r_text (pc := 525) hC (i := 18) rfl dX2_command_525 h ?_
  intro x5 h
  obtain ⟨⟨fs, ho⟩, h⟩ := h.is
  refine rc_callV (pc := 527) hC rfl ho (rw_J4_equals hH.1 v1 x5) q687 q688 q689 q121 q690 rfl rd_J4_equals (hH.room (Nat.le_of_ble_eq_true rfl) (Nat.le_of_ble_eq_true rfl)) rfl rfl (Nat.le_of_ble_eq_true rfl) 1 rfl h.le.2.2 h.br rfl dX2_command_527 ?_ (fun E q S hT => rc_out hC hH.2.2.2.2 hT)
  intro x6 S h
  show rc_Z Y S 530 [some (rc_q v0), some (rc_q v1), none, some (rc_i v3), some (rc_i x1), none] [rc_i x6, rc_i x1, rc_q x4]
  obtain ⟨⟨fs, ho⟩, h⟩ := h.is
  refine rc_callV (pc := 530) hC rfl ho (rw_X3_vote hH.1 x4 x1 x6) q1168 q1169 q1170 q126 q1171 rfl rd_X3_vote (hH.room (Nat.le_of_ble_eq_true rfl) (Nat.le_of_ble_eq_true rfl)) rfl rfl (Nat.le_of_ble_eq_true rfl) 2 rfl h.le.2.2 h.br rfl dX2_command_530 ?_ (fun E q S hT => rc_out hC hH.2.2.2.2 hT)
  intro x7 S h
  show rc_Z Y S 533 [some (rc_q v0), some (rc_q v1), none, some (rc_i v3), some (rc_i x1), none] [rc_i x7]
  refine rc_pop (pc := 533) hC dX2_command_533 rfl ?_
  refine rc_drop [true, false, false, false, false, false] (L' := [some (rc_q v0), none, none, none, none, none]) rfl ?_
  exact rw_X2_command_q2_L534 hC hH  v0 S h
theorem rw_X2_command_q2_L65 {Y : rc_Y} (hC : rc_C Y cX2_command RX2 (Option.none : Option Jvm.ClassFile.FieldType) 6) (hH : rc_H Y 17 352 yX2_command.name) (v0 : Option Nat) (s0 : Int32) (s1 : Option Nat) (S : rc_S) (h : rc_Go Y rc_tU (rp_X2_command_L65 rp_X2_repeat_q2  v0 s0 s1) S) : rc_Z Y S 65 [some (rc_q v0), none, none, none, none, none] [rc_i s0, rc_q s1] := by
  unfold rp_X2_command_L65 at h
  refine rc_iconst (pc := 65) hC (v := (5 : Int32)) dX2_command_65 rfl ?_
  obtain ⟨⟨fs, ho⟩, h⟩ := h.is
  refine rc_callV (pc := 66) hC rfl ho (rw_X2_check hH.1 s1 s0 (5 : Int32)) q695 q697 qs4 q123 q698 rfl rd_X2_check (hH.room (Nat.le_of_ble_eq_true rfl) (Nat.le_of_ble_eq_true rfl)) rfl rfl (Nat.le_of_ble_eq_true rfl) 2 rfl h.le.2.2 h.br rfl dX2_command_66 ?_ (fun E q S hT => rc_out hC hH.2.2.2.2 hT)
  intro _ S h
  show rc_Z Y S 69 [some (rc_q v0), none, none, none, none, none] []
  refine rc_aload_n (pc := 69) hC dX2_command_69 rfl rfl ?_
  refine rc_dup (pc := 70) hC dX2_command_70 rfl ?_
  refine rc_r_geti (pc := 71) hC rF_X2_164 dX2_command_71 h ?_
  intro x1 h
  refine rc_iconst (pc := 74) hC (v := (1 : Int32)) dX2_command_74 rfl ?_
  refine rc_iadd (pc := 75) hC dX2_command_75 ?_
  refine rc_r_put (pc := 76) hC rP_X2_164 (nofun) dX2_command_76 h ?_
  intro S h
  refine rc_aload_n (pc := 79) hC dX2_command_79 rfl rfl ?_
  refine rc_r_getq (pc := 80) hC rF_X2_22 dX2_command_80 h ?_
  intro x2 h
  refine rc_astore_n (pc := 83) hC (L' := [some (rc_q v0), some (rc_q x2), none, none, none, none]) dX2_command_83 rfl (Nat.le_of_ble_eq_true rfl) rfl rfl ?_
  refine rc_aload_n (pc := 84) hC dX2_command_84 rfl rfl ?_
  obtain ⟨⟨fs, ho⟩, h⟩ := h.is
  refine rc_callV (pc := 85) hC rfl ho (rw_X2_advance hH.1 v0) q298 q300 qs0 q123 q301 rfl rd_X2_advance (hH.room (Nat.le_of_ble_eq_true rfl) (Nat.le_of_ble_eq_true rfl)) rfl rfl (Nat.le_of_ble_eq_true rfl) 0 rfl h.le.2.2 h.br rfl dX2_command_85 ?_ (fun E q S hT => rc_out hC hH.2.2.2.2 hT)
  intro _ S h
  show rc_Z Y S 88 [some (rc_q v0), some (rc_q x2), none, none, none, none] []
  refine rc_aload_n (pc := 88) hC dX2_command_88 rfl rfl ?_
  refine rc_astore_n (pc := 89) hC (L' := [some (rc_q v0), some (rc_q x2), some (rc_q x2), none, none, none]) dX2_command_89 rfl (Nat.le_of_ble_eq_true rfl) rfl rfl ?_
  refine rc_iconst (pc := 90) hC (v := (-1 : Int32)) dX2_command_90 rfl ?_
  refine rc_istore_n (pc := 91) hC (L' := [some (rc_q v0), some (rc_q x2), some (rc_q x2), some (rc_i (-1 : Int32)), none, none]) dX2_command_91 rfl (Nat.le_of_ble_eq_true rfl) rfl rfl ?_
  refine rc_aload_n (pc := 92) hC dX2_command_92 rfl rfl ?_
  obtain ⟨⟨fs, ho⟩, h⟩ := h.is
  refine rc_callV (pc := 93) hC rfl ho (rw_J4_hashCode hH.1 x2) q745 q746 q747 q121 q748 rfl rd_J4_hashCode (hH.room (Nat.le_of_ble_eq_true rfl) (Nat.le_of_ble_eq_true rfl)) rfl rfl (Nat.le_of_ble_eq_true rfl) 0 rfl h.le.2.2 h.br rfl dX2_command_93 ?_ (fun E q S hT => rc_out hC hH.2.2.2.2 hT)
  intro x3 S h
  show rc_Z Y S 96 [some (rc_q v0), some (rc_q x2), some (rc_q x2), some (rc_i (-1 : Int32)), none, none] [rc_i x3]
  rcases h.ite with ⟨hc, h⟩ | ⟨hc0, h⟩
  · refine rc_lookup (pc := 96) (tgt := 202) hC (off := 106) dX2_command_96 rfl (by rw [hc]; rfl) rfl ?_
    refine rc_aload_n (pc := 202) hC dX2_command_202 rfl rfl ?_
    refine rc_r_text (pc := 203) hC (i := 10) rfl dX2_command_203 h ?_
    intro x4 h
    obtain ⟨⟨fs, ho⟩, h⟩ := h.is
    refine rc_callV (pc := 205) hC rfl ho (rw_J4_equals hH.1 x2 x4) q687 q688 q689 q121 q690 rfl rd_J4_equals (hH.room (Nat.le_of_ble_eq_true rfl) (Nat.le_of_ble_eq_true rfl)) rfl rfl (Nat.le_of_ble_eq_true rfl) 1 rfl h.le.2.2 h.br rfl dX2_command_205 ?_ (fun E q S hT => rc_out hC hH.2.2.2.2 hT)
    intro x5 S h
    show rc_Z Y S 208 [some (rc_q v0), some (rc_q x2), some (rc_q x2), some (rc_i (-1 : Int32)), none, none] [rc_i x5]
    refine rc_if_eq (pc := 208) (tgt := 329) hC dX2_command_208 rfl h ?_ ?_
    · intro _ h
      refine rc_drop [true, true, false, true, false, false] (L' := [some (rc_q v0), some (rc_q x2), none, some (rc_i (-1 : Int32)), none, none]) rfl ?_
      exact rw_X2_command_q2_L329 hC hH  v0 x2 (-1 : Int32) S h
    intro _ h
    refine rc_iconst (pc := 211) hC (v := (1 : Int32)) dX2_command_211 rfl ?_
    refine rc_istore_n (pc := 212) hC (L' := [some (rc_q v0), some (rc_q x2), some (rc_q x2), some (rc_i (1 : Int32)), none, none]) dX2_command_212 rfl (Nat.le_of_ble_eq_true rfl) rfl rfl ?_
    refine rc_goto (pc := 213) (tgt := 329) hC dX2_command_213 rfl ?_
    refine rc_drop [true, true, false, true, false, false] (L' := [some (rc_q v0), some (rc_q x2), none, some (rc_i (1 : Int32)), none, none]) rfl ?_
    exact rw_X2_command_q2_L329 hC hH  v0 x2 (1 : Int32) S h
  rcases h.ite with ⟨hc, h⟩ | ⟨hc1, h⟩
  · refine rc_lookup (pc := 96) (tgt := 258) hC (off := 162) dX2_command_96 rfl (by rw [hc]; rfl) rfl ?_
    refine rc_aload_n (pc := 258) hC dX2_command_258 rfl rfl ?_
    refine rc_r_text (pc := 259) hC (i := 14) rfl dX2_command_259 h ?_
    intro x6 h
    obtain ⟨⟨fs, ho⟩, h⟩ := h.is
    refine rc_callV (pc := 261) hC rfl ho (rw_J4_equals hH.1 x2 x6) q687 q688 q689 q121 q690 rfl rd_J4_equals (hH.room (Nat.le_of_ble_eq_true rfl) (Nat.le_of_ble_eq_true rfl)) rfl rfl (Nat.le_of_ble_eq_true rfl) 1 rfl h.le.2.2 h.br rfl dX2_command_261 ?_ (fun E q S hT => rc_out hC hH.2.2.2.2 hT)
    intro x7 S h
    show rc_Z Y S 264 [some (rc_q v0), some (rc_q x2), some (rc_q x2), some (rc_i (-1 : Int32)), none, none] [rc_i x7]
    refine rc_if_eq (pc := 264) (tgt := 329) hC dX2_command_264 rfl h ?_ ?_
    · intro _ h
      refine rc_drop [true, true, false, true, false, false] (L' := [some (rc_q v0), some (rc_q x2), none, some (rc_i (-1 : Int32)), none, none]) rfl ?_
      exact rw_X2_command_q2_L329 hC hH  v0 x2 (-1 : Int32) S h
    intro _ h
    refine rc_iconst (pc := 267) hC (v := (5 : Int32)) dX2_command_267 rfl ?_
    refine rc_istore_n (pc := 268) hC (L' := [some (rc_q v0), some (rc_q x2), some (rc_q x2), some (rc_i (5 : Int32)), none, none]) dX2_command_268 rfl (Nat.le_of_ble_eq_true rfl) rfl rfl ?_
    refine rc_goto (pc := 269) (tgt := 329) hC dX2_command_269 rfl ?_
    refine rc_drop [true, true, false, true, false, false] (L' := [some (rc_q v0), some (rc_q x2), none, some (rc_i (5 : Int32)), none, none]) rfl ?_
    exact rw_X2_command_q2_L329 hC hH  v0 x2 (5 : Int32) S h
  rcases h.ite with ⟨hc, h⟩ | ⟨hc2, h⟩
  · refine rc_lookup (pc := 96) (tgt := 302) hC (off := 206) dX2_command_96 rfl (by rw [hc]; rfl) rfl ?_
    refine rc_aload_n (pc := 302) hC dX2_command_302 rfl rfl ?_
    refine rc_r_text (pc := 303) hC (i := 17) rfl dX2_command_303 h ?_
    intro x8 h
    obtain ⟨⟨fs, ho⟩, h⟩ := h.is
    refine rc_callV (pc := 305) hC rfl ho (rw_J4_equals hH.1 x2 x8) q687 q688 q689 q121 q690 rfl rd_J4_equals (hH.room (Nat.le_of_ble_eq_true rfl) (Nat.le_of_ble_eq_true rfl)) rfl rfl (Nat.le_of_ble_eq_true rfl) 1 rfl h.le.2.2 h.br rfl dX2_command_305 ?_ (fun E q S hT => rc_out hC hH.2.2.2.2 hT)
    intro x9 S h
    show rc_Z Y S 308 [some (rc_q v0), some (rc_q x2), some (rc_q x2), some (rc_i (-1 : Int32)), none, none] [rc_i x9]
    refine rc_if_eq (pc := 308) (tgt := 329) hC dX2_command_308 rfl h ?_ ?_
    · intro _ h
      refine rc_drop [true, true, false, true, false, false] (L' := [some (rc_q v0), some (rc_q x2), none, some (rc_i (-1 : Int32)), none, none]) rfl ?_
      exact rw_X2_command_q2_L329 hC hH  v0 x2 (-1 : Int32) S h
    intro _ h
    refine rc_bipush (pc := 311) hC (v := (8 : Int32)) dX2_command_311 rfl ?_
    refine rc_istore_n (pc := 313) hC (L' := [some (rc_q v0), some (rc_q x2), some (rc_q x2), some (rc_i (8 : Int32)), none, none]) dX2_command_313 rfl (Nat.le_of_ble_eq_true rfl) rfl rfl ?_
    refine rc_goto (pc := 314) (tgt := 329) hC dX2_command_314 rfl ?_
    refine rc_drop [true, true, false, true, false, false] (L' := [some (rc_q v0), some (rc_q x2), none, some (rc_i (8 : Int32)), none, none]) rfl ?_
    exact rw_X2_command_q2_L329 hC hH  v0 x2 (8 : Int32) S h
  rcases h.ite with ⟨hc, h⟩ | ⟨hc3, h⟩
  · refine rc_lookup (pc := 96) (tgt := 317) hC (off := 221) dX2_command_96 rfl (by rw [hc]; rfl) rfl ?_
    refine rc_aload_n (pc := 317) hC dX2_command_317 rfl rfl ?_
    refine rc_r_text (pc := 318) hC (i := 20) rfl dX2_command_318 h ?_
    intro x10 h
    obtain ⟨⟨fs, ho⟩, h⟩ := h.is
    refine rc_callV (pc := 320) hC rfl ho (rw_J4_equals hH.1 x2 x10) q687 q688 q689 q121 q690 rfl rd_J4_equals (hH.room (Nat.le_of_ble_eq_true rfl) (Nat.le_of_ble_eq_true rfl)) rfl rfl (Nat.le_of_ble_eq_true rfl) 1 rfl h.le.2.2 h.br rfl dX2_command_320 ?_ (fun E q S hT => rc_out hC hH.2.2.2.2 hT)
    intro x11 S h
    show rc_Z Y S 323 [some (rc_q v0), some (rc_q x2), some (rc_q x2), some (rc_i (-1 : Int32)), none, none] [rc_i x11]
    refine rc_if_eq (pc := 323) (tgt := 329) hC dX2_command_323 rfl h ?_ ?_
    · intro _ h
      refine rc_drop [true, true, false, true, false, false] (L' := [some (rc_q v0), some (rc_q x2), none, some (rc_i (-1 : Int32)), none, none]) rfl ?_
      exact rw_X2_command_q2_L329 hC hH  v0 x2 (-1 : Int32) S h
    intro _ h
    refine rc_bipush (pc := 326) hC (v := (9 : Int32)) dX2_command_326 rfl ?_
    refine rc_istore_n (pc := 328) hC (L' := [some (rc_q v0), some (rc_q x2), some (rc_q x2), some (rc_i (9 : Int32)), none, none]) dX2_command_328 rfl (Nat.le_of_ble_eq_true rfl) rfl rfl ?_
    refine rc_drop [true, true, false, true, false, false] (L' := [some (rc_q v0), some (rc_q x2), none, some (rc_i (9 : Int32)), none, none]) rfl ?_
    exact rw_X2_command_q2_L329 hC hH  v0 x2 (9 : Int32) S h
  rcases h.ite with ⟨hc, h⟩ | ⟨hc4, h⟩
  · refine rc_lookup (pc := 96) (tgt := 216) hC (off := 120) dX2_command_96 rfl (by rw [hc]; rfl) rfl ?_
    refine rc_aload_n (pc := 216) hC dX2_command_216 rfl rfl ?_
    refine rc_r_text (pc := 217) hC (i := 11) rfl dX2_command_217 h ?_
    intro x12 h
    obtain ⟨⟨fs, ho⟩, h⟩ := h.is
    refine rc_callV (pc := 219) hC rfl ho (rw_J4_equals hH.1 x2 x12) q687 q688 q689 q121 q690 rfl rd_J4_equals (hH.room (Nat.le_of_ble_eq_true rfl) (Nat.le_of_ble_eq_true rfl)) rfl rfl (Nat.le_of_ble_eq_true rfl) 1 rfl h.le.2.2 h.br rfl dX2_command_219 ?_ (fun E q S hT => rc_out hC hH.2.2.2.2 hT)
    intro x13 S h
    show rc_Z Y S 222 [some (rc_q v0), some (rc_q x2), some (rc_q x2), some (rc_i (-1 : Int32)), none, none] [rc_i x13]
    refine rc_if_eq (pc := 222) (tgt := 329) hC dX2_command_222 rfl h ?_ ?_
    · intro _ h
      refine rc_drop [true, true, false, true, false, false] (L' := [some (rc_q v0), some (rc_q x2), none, some (rc_i (-1 : Int32)), none, none]) rfl ?_
      exact rw_X2_command_q2_L329 hC hH  v0 x2 (-1 : Int32) S h
    intro _ h
    refine rc_iconst (pc := 225) hC (v := (2 : Int32)) dX2_command_225 rfl ?_
    refine rc_istore_n (pc := 226) hC (L' := [some (rc_q v0), some (rc_q x2), some (rc_q x2), some (rc_i (2 : Int32)), none, none]) dX2_command_226 rfl (Nat.le_of_ble_eq_true rfl) rfl rfl ?_
    refine rc_goto (pc := 227) (tgt := 329) hC dX2_command_227 rfl ?_
    refine rc_drop [true, true, false, true, false, false] (L' := [some (rc_q v0), some (rc_q x2), none, some (rc_i (2 : Int32)), none, none]) rfl ?_
    exact rw_X2_command_q2_L329 hC hH  v0 x2 (2 : Int32) S h
  rcases h.ite with ⟨hc, h⟩ | ⟨hc5, h⟩
  · refine rc_lookup (pc := 96) (tgt := 230) hC (off := 134) dX2_command_96 rfl (by rw [hc]; rfl) rfl ?_
    refine rc_aload_n (pc := 230) hC dX2_command_230 rfl rfl ?_
    refine rc_r_text (pc := 231) hC (i := 12) rfl dX2_command_231 h ?_
    intro x14 h
    obtain ⟨⟨fs, ho⟩, h⟩ := h.is
    refine rc_callV (pc := 233) hC rfl ho (rw_J4_equals hH.1 x2 x14) q687 q688 q689 q121 q690 rfl rd_J4_equals (hH.room (Nat.le_of_ble_eq_true rfl) (Nat.le_of_ble_eq_true rfl)) rfl rfl (Nat.le_of_ble_eq_true rfl) 1 rfl h.le.2.2 h.br rfl dX2_command_233 ?_ (fun E q S hT => rc_out hC hH.2.2.2.2 hT)
    intro x15 S h
    show rc_Z Y S 236 [some (rc_q v0), some (rc_q x2), some (rc_q x2), some (rc_i (-1 : Int32)), none, none] [rc_i x15]
    refine rc_if_eq (pc := 236) (tgt := 329) hC dX2_command_236 rfl h ?_ ?_
    · intro _ h
      refine rc_drop [true, true, false, true, false, false] (L' := [some (rc_q v0), some (rc_q x2), none, some (rc_i (-1 : Int32)), none, none]) rfl ?_
      exact rw_X2_command_q2_L329 hC hH  v0 x2 (-1 : Int32) S h
    intro _ h
    refine rc_iconst (pc := 239) hC (v := (3 : Int32)) dX2_command_239 rfl ?_
    refine rc_istore_n (pc := 240) hC (L' := [some (rc_q v0), some (rc_q x2), some (rc_q x2), some (rc_i (3 : Int32)), none, none]) dX2_command_240 rfl (Nat.le_of_ble_eq_true rfl) rfl rfl ?_
    refine rc_goto (pc := 241) (tgt := 329) hC dX2_command_241 rfl ?_
    refine rc_drop [true, true, false, true, false, false] (L' := [some (rc_q v0), some (rc_q x2), none, some (rc_i (3 : Int32)), none, none]) rfl ?_
    exact rw_X2_command_q2_L329 hC hH  v0 x2 (3 : Int32) S h
  rcases h.ite with ⟨hc, h⟩ | ⟨hc6, h⟩
  · refine rc_lookup (pc := 96) (tgt := 272) hC (off := 176) dX2_command_96 rfl (by rw [hc]; rfl) rfl ?_
    refine rc_aload_n (pc := 272) hC dX2_command_272 rfl rfl ?_
    refine rc_r_text (pc := 273) hC (i := 15) rfl dX2_command_273 h ?_
    intro x16 h
    obtain ⟨⟨fs, ho⟩, h⟩ := h.is
    refine rc_callV (pc := 275) hC rfl ho (rw_J4_equals hH.1 x2 x16) q687 q688 q689 q121 q690 rfl rd_J4_equals (hH.room (Nat.le_of_ble_eq_true rfl) (Nat.le_of_ble_eq_true rfl)) rfl rfl (Nat.le_of_ble_eq_true rfl) 1 rfl h.le.2.2 h.br rfl dX2_command_275 ?_ (fun E q S hT => rc_out hC hH.2.2.2.2 hT)
    intro x17 S h
    show rc_Z Y S 278 [some (rc_q v0), some (rc_q x2), some (rc_q x2), some (rc_i (-1 : Int32)), none, none] [rc_i x17]
    refine rc_if_eq (pc := 278) (tgt := 329) hC dX2_command_278 rfl h ?_ ?_
    · intro _ h
      refine rc_drop [true, true, false, true, false, false] (L' := [some (rc_q v0), some (rc_q x2), none, some (rc_i (-1 : Int32)), none, none]) rfl ?_
      exact rw_X2_command_q2_L329 hC hH  v0 x2 (-1 : Int32) S h
    intro _ h
    refine rc_bipush (pc := 281) hC (v := (6 : Int32)) dX2_command_281 rfl ?_
    refine rc_istore_n (pc := 283) hC (L' := [some (rc_q v0), some (rc_q x2), some (rc_q x2), some (rc_i (6 : Int32)), none, none]) dX2_command_283 rfl (Nat.le_of_ble_eq_true rfl) rfl rfl ?_
    refine rc_goto (pc := 284) (tgt := 329) hC dX2_command_284 rfl ?_
    refine rc_drop [true, true, false, true, false, false] (L' := [some (rc_q v0), some (rc_q x2), none, some (rc_i (6 : Int32)), none, none]) rfl ?_
    exact rw_X2_command_q2_L329 hC hH  v0 x2 (6 : Int32) S h
  rcases h.ite with ⟨hc, h⟩ | ⟨hc7, h⟩
  · refine rc_lookup (pc := 96) (tgt := 244) hC (off := 148) dX2_command_96 rfl (by rw [hc]; rfl) rfl ?_
    refine rc_aload_n (pc := 244) hC dX2_command_244 rfl rfl ?_
    refine rc_r_text (pc := 245) hC (i := 13) rfl dX2_command_245 h ?_
    intro x18 h
    obtain ⟨⟨fs, ho⟩, h⟩ := h.is
    refine rc_callV (pc := 247) hC rfl ho (rw_J4_equals hH.1 x2 x18) q687 q688 q689 q121 q690 rfl rd_J4_equals (hH.room (Nat.le_of_ble_eq_true rfl) (Nat.le_of_ble_eq_true rfl)) rfl rfl (Nat.le_of_ble_eq_true rfl) 1 rfl h.le.2.2 h.br rfl dX2_command_247 ?_ (fun E q S hT => rc_out hC hH.2.2.2.2 hT)
    intro x19 S h
    show rc_Z Y S 250 [some (rc_q v0), some (rc_q x2), some (rc_q x2), some (rc_i (-1 : Int32)), none, none] [rc_i x19]
    refine rc_if_eq (pc := 250) (tgt := 329) hC dX2_command_250 rfl h ?_ ?_
    · intro _ h
      refine rc_drop [true, true, false, true, false, false] (L' := [some (rc_q v0), some (rc_q x2), none, some (rc_i (-1 : Int32)), none, none]) rfl ?_
      exact rw_X2_command_q2_L329 hC hH  v0 x2 (-1 : Int32) S h
    intro _ h
    refine rc_iconst (pc := 253) hC (v := (4 : Int32)) dX2_command_253 rfl ?_
    refine rc_istore_n (pc := 254) hC (L' := [some (rc_q v0), some (rc_q x2), some (rc_q x2), some (rc_i (4 : Int32)), none, none]) dX2_command_254 rfl (Nat.le_of_ble_eq_true rfl) rfl rfl ?_
    refine rc_goto (pc := 255) (tgt := 329) hC dX2_command_255 rfl ?_
    refine rc_drop [true, true, false, true, false, false] (L' := [some (rc_q v0), some (rc_q x2), none, some (rc_i (4 : Int32)), none, none]) rfl ?_
    exact rw_X2_command_q2_L329 hC hH  v0 x2 (4 : Int32) S h
  rcases h.ite with ⟨hc, h⟩ | ⟨hc8, h⟩
  · refine rc_lookup (pc := 96) (tgt := 287) hC (off := 191) dX2_command_96 rfl (by rw [hc]; rfl) rfl ?_
    refine rc_aload_n (pc := 287) hC dX2_command_287 rfl rfl ?_
    refine rc_r_text (pc := 288) hC (i := 16) rfl dX2_command_288 h ?_
    intro x20 h
    obtain ⟨⟨fs, ho⟩, h⟩ := h.is
    refine rc_callV (pc := 290) hC rfl ho (rw_J4_equals hH.1 x2 x20) q687 q688 q689 q121 q690 rfl rd_J4_equals (hH.room (Nat.le_of_ble_eq_true rfl) (Nat.le_of_ble_eq_true rfl)) rfl rfl (Nat.le_of_ble_eq_true rfl) 1 rfl h.le.2.2 h.br rfl dX2_command_290 ?_ (fun E q S hT => rc_out hC hH.2.2.2.2 hT)
    intro x21 S h
    show rc_Z Y S 293 [some (rc_q v0), some (rc_q x2), some (rc_q x2), some (rc_i (-1 : Int32)), none, none] [rc_i x21]
    refine rc_if_eq (pc := 293) (tgt := 329) hC dX2_command_293 rfl h ?_ ?_
    · intro _ h
      refine rc_drop [true, true, false, true, false, false] (L' := [some (rc_q v0), some (rc_q x2), none, some (rc_i (-1 : Int32)), none, none]) rfl ?_
      exact rw_X2_command_q2_L329 hC hH  v0 x2 (-1 : Int32) S h
    intro _ h
    refine rc_bipush (pc := 296) hC (v := (7 : Int32)) dX2_command_296 rfl ?_
    refine rc_istore_n (pc := 298) hC (L' := [some (rc_q v0), some (rc_q x2), some (rc_q x2), some (rc_i (7 : Int32)), none, none]) dX2_command_298 rfl (Nat.le_of_ble_eq_true rfl) rfl rfl ?_
    refine rc_goto (pc := 299) (tgt := 329) hC dX2_command_299 rfl ?_
    refine rc_drop [true, true, false, true, false, false] (L' := [some (rc_q v0), some (rc_q x2), none, some (rc_i (7 : Int32)), none, none]) rfl ?_
    exact rw_X2_command_q2_L329 hC hH  v0 x2 (7 : Int32) S h
  rcases h.ite with ⟨hc, h⟩ | ⟨hc9, h⟩
  · refine rc_lookup (pc := 96) (tgt := 188) hC (off := 92) dX2_command_96 rfl (by rw [hc]; rfl) rfl ?_
    refine rc_aload_n (pc := 188) hC dX2_command_188 rfl rfl ?_
    refine rc_r_text (pc := 189) hC (i := 9) rfl dX2_command_189 h ?_
    intro x22 h
    obtain ⟨⟨fs, ho⟩, h⟩ := h.is
    refine rc_callV (pc := 191) hC rfl ho (rw_J4_equals hH.1 x2 x22) q687 q688 q689 q121 q690 rfl rd_J4_equals (hH.room (Nat.le_of_ble_eq_true rfl) (Nat.le_of_ble_eq_true rfl)) rfl rfl (Nat.le_of_ble_eq_true rfl) 1 rfl h.le.2.2 h.br rfl dX2_command_191 ?_ (fun E q S hT => rc_out hC hH.2.2.2.2 hT)
    intro x23 S h
    show rc_Z Y S 194 [some (rc_q v0), some (rc_q x2), some (rc_q x2), some (rc_i (-1 : Int32)), none, none] [rc_i x23]
    refine rc_if_eq (pc := 194) (tgt := 329) hC dX2_command_194 rfl h ?_ ?_
    · intro _ h
      refine rc_drop [true, true, false, true, false, false] (L' := [some (rc_q v0), some (rc_q x2), none, some (rc_i (-1 : Int32)), none, none]) rfl ?_
      exact rw_X2_command_q2_L329 hC hH  v0 x2 (-1 : Int32) S h
    intro _ h
    refine rc_iconst (pc := 197) hC (v := (0 : Int32)) dX2_command_197 rfl ?_
    refine rc_istore_n (pc := 198) hC (L' := [some (rc_q v0), some (rc_q x2), some (rc_q x2), some (rc_i (0 : Int32)), none, none]) dX2_command_198 rfl (Nat.le_of_ble_eq_true rfl) rfl rfl ?_
    refine rc_goto (pc := 199) (tgt := 329) hC dX2_command_199 rfl ?_
    refine rc_drop [true, true, false, true, false, false] (L' := [some (rc_q v0), some (rc_q x2), none, some (rc_i (0 : Int32)), none, none]) rfl ?_
    exact rw_X2_command_q2_L329 hC hH  v0 x2 (0 : Int32) S h
  refine rc_lookup (pc := 96) (tgt := 329) hC (off := 233) dX2_command_96 rfl (rc_offC hc0 rfl (rc_offC hc1 rfl (rc_offC hc2 rfl (rc_offC hc3 rfl (rc_offC hc4 rfl (rc_offC hc5 rfl (rc_offC hc6 rfl (rc_offC hc7 rfl (rc_offC hc8 rfl (rc_offC hc9 rfl rc_offZ)))))))))) rfl ?_
  refine rc_drop [true, true, false, true, false, false] (L' := [some (rc_q v0), some (rc_q x2), none, some (rc_i (-1 : Int32)), none, none]) rfl ?_
  exact rw_X2_command_q2_L329 hC hH  v0 x2 (-1 : Int32) S h
theorem rw_X2_command_q2_L16 {Y : rc_Y} (hC : rc_C Y cX2_command RX2 (Option.none : Option Jvm.ClassFile.FieldType) 6) (hH : rc_H Y 17 352 yX2_command.name) (v0 : Option Nat) (s0 : Int32) (s1 : Option Nat) (S : rc_S) (h : rc_Go Y rc_tU (rp_X2_command_L16 rp_X2_repeat_q2  v0 s0 s1) S) : rc_Z Y S 16 [some (rc_q v0), none, none, none, none, none] [rc_i s0, rc_q s1] := by
  unfold rp_X2_command_L16 at h
  refine rc_iconst (pc := 16) hC (v := (1 : Int32)) dX2_command_16 rfl ?_
  obtain ⟨⟨fs, ho⟩, h⟩ := h.is
  refine rc_callV (pc := 17) hC rfl ho (rw_X2_check hH.1 s1 s0 (1 : Int32)) q695 q697 qs4 q123 q698 rfl rd_X2_check (hH.room (Nat.le_of_ble_eq_true rfl) (Nat.le_of_ble_eq_true rfl)) rfl rfl (Nat.le_of_ble_eq_true rfl) 2 rfl h.le.2.2 h.br rfl dX2_command_17 ?_ (fun E q S hT => rc_out hC hH.2.2.2.2 hT)
  intro _ S h
  show rc_Z Y S 20 [some (rc_q v0), none, none, none, none, none] []
  refine rc_aload_n (pc := 20) hC dX2_command_20 rfl rfl ?_
  refine rc_r_getq (pc := 21) hC rF_X2_22 dX2_command_21 h ?_
  intro x1 h
  refine rc_r_text (pc := 24) hC (i := 7) rfl dX2_command_24 h ?_
  intro x2 h
  obtain ⟨⟨fs, ho⟩, h⟩ := h.is
  refine rc_callV (pc := 26) hC rfl ho (rw_J4_equals hH.1 x1 x2) q687 q688 q689 q121 q690 rfl rd_J4_equals (hH.room (Nat.le_of_ble_eq_true rfl) (Nat.le_of_ble_eq_true rfl)) rfl rfl (Nat.le_of_ble_eq_true rfl) 1 rfl h.le.2.2 h.br rfl dX2_command_26 ?_ (fun E q S hT => rc_out hC hH.2.2.2.2 hT)
  intro x3 S h
  show rc_Z Y S 29 [some (rc_q v0), none, none, none, none, none] [rc_i x3]
  refine rc_if_eq (pc := 29) (tgt := 37) hC dX2_command_29 rfl h ?_ ?_
  · intro _ h
    refine rc_aload_n (pc := 37) hC dX2_command_37 rfl rfl ?_
    refine rc_aload_n (pc := 38) hC dX2_command_38 rfl rfl ?_
    refine rc_r_getq (pc := 39) hC rF_X2_22 dX2_command_39 h ?_
    intro x4 h
    refine rc_callS (pc := 42) hC (rw_X2_isCommand hH.1 x4) q742 q743 q123 q744 rd_X2_isCommand (hH.room (Nat.le_of_ble_eq_true rfl) (Nat.le_of_ble_eq_true rfl)) rfl rfl (Nat.le_of_ble_eq_true rfl) 1 rfl h.le.2.2 h.br rfl dX2_command_42 ?_ (fun E q S hT => rc_out hC hH.2.2.2.2 hT)
    intro x5 S h
    show rc_Z Y S 45 [some (rc_q v0), none, none, none, none, none] [rc_i x5, rc_q v0]
    refine rc_iconst (pc := 45) hC (v := (1 : Int32)) dX2_command_45 rfl ?_
    obtain ⟨⟨fs, ho⟩, h⟩ := h.is
    refine rc_callV (pc := 46) hC rfl ho (rw_X2_check hH.1 v0 x5 (1 : Int32)) q695 q697 qs4 q123 q698 rfl rd_X2_check (hH.room (Nat.le_of_ble_eq_true rfl) (Nat.le_of_ble_eq_true rfl)) rfl rfl (Nat.le_of_ble_eq_true rfl) 2 rfl h.le.2.2 h.br rfl dX2_command_46 ?_ (fun E q S hT => rc_out hC hH.2.2.2.2 hT)
    intro _ S h
    show rc_Z Y S 49 [some (rc_q v0), none, none, none, none, none] []
    refine rc_aload_n (pc := 49) hC dX2_command_49 rfl rfl ?_
    refine rc_aload_n (pc := 50) hC dX2_command_50 rfl rfl ?_
    refine rc_r_geti (pc := 51) hC rF_X2_164 dX2_command_51 h ?_
    intro x6 h
    refine rc_sipush (pc := 54) hC (v := (200 : Int32)) dX2_command_54 rfl ?_
    refine rc_icmp_ge (pc := 57) (tgt := 64) hC dX2_command_57 rfl h ?_ ?_
    · intro _ h
      refine rc_iconst (pc := 64) hC (v := (0 : Int32)) dX2_command_64 rfl ?_
      exact rw_X2_command_q2_L65 hC hH  v0 (0 : Int32) v0 S h
    intro _ h
    refine rc_iconst (pc := 60) hC (v := (1 : Int32)) dX2_command_60 rfl ?_
    refine rc_goto (pc := 61) (tgt := 65) hC dX2_command_61 rfl ?_
    exact rw_X2_command_q2_L65 hC hH  v0 (1 : Int32) v0 S h
  intro _ h
  refine rc_aload_n (pc := 32) hC dX2_command_32 rfl rfl ?_
  obtain ⟨⟨fs, ho⟩, h⟩ := h.is
  refine rc_callV (pc := 33) hC rfl ho (rw_X2_repeat_q2 hH.1 v0) q734 q736 qs7 q123 q737 rfl rd_X2_repeat (hH.room (Nat.le_of_ble_eq_true rfl) (Nat.le_of_ble_eq_true rfl)) rfl rfl (Nat.le_of_ble_eq_true rfl) 0 rfl h.le.2.2 h.br rfl dX2_command_33 ?_ (fun E q S hT => rc_out hC hH.2.2.2.2 hT)
  intro _ S h
  show rc_Z Y S 36 [some (rc_q v0), none, none, none, none, none] []
  exact rc_vret hC rfl dX2_command_36 h rfl
theorem rw_X2_command_q2 {l : Launch} (hl : l.stackTraces = false) (v0 : Option Nat) : rc_Ct l yX2_command (ws_ yX2_command cX2_command 6 (Option.none : Option Jvm.ClassFile.FieldType)) 17 352 rc_tU (rp_X2_command rp_X2_repeat_q2 v0) [rc_q v0] := by
  refine rc_Ct_H hl (plainFor_of_name rY_X2) rfl (Nat.le_of_ble_eq_true rfl) (L0 := [some (rc_q v0), none, none, none, none, none]) rfl ?_
  intro Y S hC hH h
  have hC : rc_C Y cX2_command RX2 (Option.none : Option Jvm.ClassFile.FieldType) 6 := hC
  unfold rp_X2_command at h
  refine rc_aload_n (pc := 0) hC dX2_command_0 rfl rfl ?_
  refine rc_aload_n (pc := 1) hC dX2_command_1 rfl rfl ?_
  refine rc_r_getq (pc := 2) hC rF_X2_15 dX2_command_2 h ?_
  intro x1 h
  refine rc_r_stat (pc := 5) hC rS_X2_64 dX2_command_5 h ?_
  intro x2 h
  refine rc_acmp_ne (pc := 8) (tgt := 15) hC dX2_command_8 rfl h ?_ ?_
  · intro _ h
    refine rc_iconst (pc := 15) hC (v := (0 : Int32)) dX2_command_15 rfl ?_
    exact rw_X2_command_q2_L16 hC hH  v0 (0 : Int32) v0 S h
  intro _ h
  refine rc_iconst (pc := 11) hC (v := (1 : Int32)) dX2_command_11 rfl ?_
  refine rc_goto (pc := 12) (tgt := 16) hC dX2_command_12 rfl ?_
  exact rw_X2_command_q2_L16 hC hH  v0 (1 : Int32) v0 S h
theorem rw_X2_parse_L45 {Y : rc_Y} (hC : rc_C Y cX2_parse RX2 (Option.some (Jvm.ClassFile.FieldType.object "RooftopCats$Roof")) 1) (hH : rc_H Y 18 377 yX2_parse.name) : ∀ (n : Nat) (v0 : Option Nat) (S : rc_S), rc_Go Y rc_tQ (rp_X2_parse_L45  n v0) S → rc_Z Y S 45 [some (rc_q v0)] [] := by
  intro n
  induction n with
  | zero => intro v0 S h; exact h.fail.elim
  | succ n ih =>
    intro v0 S h
    rw [rp_X2_parse_L45] at h
    refine rc_aload_n (pc := 45) hC dX2_parse_45 rfl rfl ?_
    refine rc_r_getq (pc := 46) hC rF_X2_15 dX2_parse_46 h ?_
    intro x1 h
    refine rc_r_stat (pc := 49) hC rS_X2_9 dX2_parse_49 h ?_
    intro x2 h
    refine rc_acmp_eq (pc := 52) (tgt := 62) hC dX2_parse_52 rfl h ?_ ?_
    · intro _ h
      refine rc_aload_n (pc := 62) hC dX2_parse_62 rfl rfl ?_
      refine rc_r_getq (pc := 63) hC rF_X2_29 dX2_parse_63 h ?_
      intro x3 h
      exact rc_aret hC rfl (by first | exact Or.inl ⟨_, rfl⟩ | exact Or.inr ⟨_, rfl⟩) dX2_parse_66 h rfl
    intro _ h
    refine rc_aload_n (pc := 55) hC dX2_parse_55 rfl rfl ?_
    obtain ⟨⟨fs, ho⟩, h⟩ := h.is
    refine rc_callV (pc := 56) hC rfl ho (rw_X2_command_q2 hH.1 v0) q729 q731 qs6 q123 q732 rfl rd_X2_command (hH.room (Nat.le_of_ble_eq_true rfl) (Nat.le_of_ble_eq_true rfl)) rfl rfl (Nat.le_of_ble_eq_true rfl) 0 rfl h.le.2.2 h.br rfl dX2_parse_56 ?_ (fun E q S hT => rc_out hC hH.2.2.2.2 hT)
    intro _ S h
    show rc_Z Y S 59 [some (rc_q v0)] []
    refine rc_goto (pc := 59) (tgt := 45) hC dX2_parse_59 rfl ?_
    exact ih v0 S h
theorem rw_X2_parse_L28 {Y : rc_Y} (hC : rc_C Y cX2_parse RX2 (Option.some (Jvm.ClassFile.FieldType.object "RooftopCats$Roof")) 1) (hH : rc_H Y 18 377 yX2_parse.name) (v0 : Option Nat) (s0 : Int32) (s1 : Option Nat) (S : rc_S) (h : rc_Go Y rc_tQ (rp_X2_parse_L28  v0 s0 s1) S) : rc_Z Y S 28 [some (rc_q v0)] [rc_i s0, rc_q s1] := by
  unfold rp_X2_parse_L28 at h
  refine rc_iconst (pc := 28) hC (v := (1 : Int32)) dX2_parse_28 rfl ?_
  obtain ⟨⟨fs, ho⟩, h⟩ := h.is
  refine rc_callV (pc := 29) hC rfl ho (rw_X2_check hH.1 s1 s0 (1 : Int32)) q695 q697 qs4 q123 q698 rfl rd_X2_check (hH.room (Nat.le_of_ble_eq_true rfl) (Nat.le_of_ble_eq_true rfl)) rfl rfl (Nat.le_of_ble_eq_true rfl) 2 rfl h.le.2.2 h.br rfl dX2_parse_29 ?_ (fun E q S hT => rc_out hC hH.2.2.2.2 hT)
  intro _ S h
  show rc_Z Y S 32 [some (rc_q v0)] []
  refine rc_aload_n (pc := 32) hC dX2_parse_32 rfl rfl ?_
  obtain ⟨⟨fs, ho⟩, h⟩ := h.is
  refine rc_callV (pc := 33) hC rfl ho (rw_X2_advance hH.1 v0) q298 q300 qs0 q123 q301 rfl rd_X2_advance (hH.room (Nat.le_of_ble_eq_true rfl) (Nat.le_of_ble_eq_true rfl)) rfl rfl (Nat.le_of_ble_eq_true rfl) 0 rfl h.le.2.2 h.br rfl dX2_parse_33 ?_ (fun E q S hT => rc_out hC hH.2.2.2.2 hT)
  intro _ S h
  show rc_Z Y S 36 [some (rc_q v0)] []
  refine rc_aload_n (pc := 36) hC dX2_parse_36 rfl rfl ?_
  refine rc_iconst (pc := 37) hC (v := (1 : Int32)) dX2_parse_37 rfl ?_
  obtain ⟨⟨fs, ho⟩, h⟩ := h.is
  refine rc_callV (pc := 38) hC rfl ho (rw_X2_end hH.1 v0 (1 : Int32)) q725 q727 qs5 q123 q728 rfl rd_X2_end (hH.room (Nat.le_of_ble_eq_true rfl) (Nat.le_of_ble_eq_true rfl)) rfl rfl (Nat.le_of_ble_eq_true rfl) 1 rfl h.le.2.2 h.br rfl dX2_parse_38 ?_ (fun E q S hT => rc_out hC hH.2.2.2.2 hT)
  intro _ S h
  show rc_Z Y S 41 [some (rc_q v0)] []
  refine rc_aload_n (pc := 41) hC dX2_parse_41 rfl rfl ?_
  obtain ⟨⟨fs, ho⟩, h⟩ := h.is
  refine rc_callV (pc := 42) hC rfl ho (rw_X2_advance hH.1 v0) q298 q300 qs0 q123 q301 rfl rd_X2_advance (hH.room (Nat.le_of_ble_eq_true rfl) (Nat.le_of_ble_eq_true rfl)) rfl rfl (Nat.le_of_ble_eq_true rfl) 0 rfl h.le.2.2 h.br rfl dX2_parse_42 ?_ (fun E q S hT => rc_out hC hH.2.2.2.2 hT)
  intro _ S h
  show rc_Z Y S 45 [some (rc_q v0)] []
  refine rc_r_fuel h ?_
  intro x1 h
  exact rw_X2_parse_L45 hC hH  x1 v0 S h
theorem rw_X2_parse_L27 {Y : rc_Y} (hC : rc_C Y cX2_parse RX2 (Option.some (Jvm.ClassFile.FieldType.object "RooftopCats$Roof")) 1) (hH : rc_H Y 18 377 yX2_parse.name) (v0 : Option Nat) (s0 : Option Nat) (S : rc_S) (h : rc_Go Y rc_tQ (rp_X2_parse_L27  v0 s0) S) : rc_Z Y S 27 [some (rc_q v0)] [rc_q s0] := by
  unfold rp_X2_parse_L27 at h
  refine rc_iconst (pc := 27) hC (v := (0 : Int32)) dX2_parse_27 rfl ?_
  exact rw_X2_parse_L28 hC hH  v0 (0 : Int32) s0 S h
theorem rw_X2_parse {l : Launch} (hl : l.stackTraces = false) (v0 : Option Nat) : rc_Ct l yX2_parse (ws_ yX2_parse cX2_parse 1 (Option.some (Jvm.ClassFile.FieldType.object "RooftopCats$Roof"))) 18 377 rc_tQ (rp_X2_parse v0) [rc_q v0] := by
  refine rc_Ct_H hl (plainFor_of_name rY_X2) rfl (Nat.le_of_ble_eq_true rfl) (L0 := [some (rc_q v0)]) rfl ?_
  intro Y S hC hH h
  have hC : rc_C Y cX2_parse RX2 (Option.some (Jvm.ClassFile.FieldType.object "RooftopCats$Roof")) 1 := hC
  unfold rp_X2_parse at h
  refine rc_aload_n (pc := 0) hC dX2_parse_0 rfl rfl ?_
  refine rc_aload_n (pc := 1) hC dX2_parse_1 rfl rfl ?_
  refine rc_r_getq (pc := 2) hC rF_X2_15 dX2_parse_2 h ?_
  intro x1 h
  refine rc_r_stat (pc := 5) hC rS_X2_64 dX2_parse_5 h ?_
  intro x2 h
  refine rc_acmp_ne (pc := 8) (tgt := 27) hC dX2_parse_8 rfl h ?_ ?_
  · intro _ h
    exact rw_X2_parse_L27 hC hH  v0 v0 S h
  intro _ h
  refine rc_aload_n (pc := 11) hC dX2_parse_11 rfl rfl ?_
  refine rc_r_getq (pc := 12) hC rF_X2_22 dX2_parse_12 h ?_
  intro x3 h
  refine rc_r_text (pc := 15) hC (i := 6) rfl dX2_parse_15 h ?_
  intro x4 h
  obtain ⟨⟨fs, ho⟩, h⟩ := h.is
  refine rc_callV (pc := 17) hC rfl ho (rw_J4_equals hH.1 x3 x4) q687 q688 q689 q121 q690 rfl rd_J4_equals (hH.room (Nat.le_of_ble_eq_true rfl) (Nat.le_of_ble_eq_true rfl)) rfl rfl (Nat.le_of_ble_eq_true rfl) 1 rfl h.le.2.2 h.br rfl dX2_parse_17 ?_ (fun E q S hT => rc_out hC hH.2.2.2.2 hT)
  intro x5 S h
  show rc_Z Y S 20 [some (rc_q v0)] [rc_i x5, rc_q v0]
  refine rc_if_eq (pc := 20) (tgt := 27) hC dX2_parse_20 rfl h ?_ ?_
  · intro _ h
    exact rw_X2_parse_L27 hC hH  v0 v0 S h
  intro _ h
  refine rc_iconst (pc := 23) hC (v := (1 : Int32)) dX2_parse_23 rfl ?_
  refine rc_goto (pc := 24) (tgt := 28) hC dX2_parse_24 rfl ?_
  exact rw_X2_parse_L28 hC hH  v0 (1 : Int32) v0 S h
