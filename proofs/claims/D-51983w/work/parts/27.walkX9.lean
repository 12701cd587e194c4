set_option maxRecDepth 100000
/-! WALKS (printed by gen.py) -/
theorem rw_X9_tell_L2 {Y : rc_Y} (hC : rc_C Y cX9_tell RX9 (Option.none : Option Jvm.ClassFile.FieldType) 3) (hH : rc_H Y 5 106 yX9_tell.name) (hF : yr_F Y = true) : ∀ (n : Nat) (v1 : Option Nat) (v2 : Int32) (S : rc_S), rc_Go Y rc_tU (rp_X9_tell_L2  n v1 v2) S → rc_Z Y S 2 [some (rc_q (some (rc_km (yr_K Y) 100))), some (rc_q v1), some (rc_i v2)] [] := by
  intro n
  induction n with
  | zero => intro v1 v2 S h; exact h.fail.elim
  | succ n ih =>
    intro v1 v2 S h
    rw [rp_X9_tell_L2] at h
    refine rc_iload_n (pc := 2) hC dX9_tell_2 rfl rfl ?_
    refine rc_aload_n (pc := 3) hC dX9_tell_3 rfl rfl ?_
    obtain ⟨⟨fs, ho⟩, h⟩ := h.is
    refine rc_callV (pc := 4) hC rfl ho (rw_J4_length hH.1 v1) q2009 q307 q308 q121 q309 rfl rd_J4_length (hH.room (Nat.le_of_ble_eq_true rfl) (Nat.le_of_ble_eq_true rfl)) rfl rfl (Nat.le_of_ble_eq_true rfl) 0 rfl h.le.2.2 h.br rfl dX9_tell_4 ?_ (fun E q S hT => rc_out hC hH.2.2.2.2 hT)
    intro x1 S h
    show rc_Z Y S 7 [some (rc_q (some (rc_km (yr_K Y) 100))), some (rc_q v1), some (rc_i v2)] [rc_i x1, rc_i v2]
    refine rc_icmp_ge (pc := 7) (tgt := 40) hC dX9_tell_7 rfl h ?_ ?_
    · intro _ h
      exact rc_vret hC rfl dX9_tell_40 h rfl
    intro _ h
    refine rc_aload_n (pc := 10) hC dX9_tell_10 rfl rfl ?_
    refine rc_r_mref (pc := 11) hC hF rF_X9_28 (by decide) dX9_tell_11 h ?_
    refine rc_aload_n (pc := 14) hC dX9_tell_14 rfl rfl ?_
    refine rc_r_mget (pc := 15) hC hF rF_X9_157 rfl dX9_tell_15 h ?_
    intro x3 h
    refine rc_aload_n (pc := 18) hC dX9_tell_18 rfl rfl ?_
    refine rc_iload_n (pc := 19) hC dX9_tell_19 rfl rfl ?_
    obtain ⟨⟨fs, ho⟩, h⟩ := h.is
    refine rc_callV (pc := 20) hC rfl ho (rw_J4_charAt hH.1 v1 v2) q2010 q316 q317 q121 q318 rfl rd_J4_charAt (hH.room (Nat.le_of_ble_eq_true rfl) (Nat.le_of_ble_eq_true rfl)) rfl rfl (Nat.le_of_ble_eq_true rfl) 1 rfl h.le.2.2 h.br rfl dX9_tell_20 ?_ (fun E q S hT => rc_out hC hH.2.2.2.2 hT)
    intro x4 S h
    show rc_Z Y S 23 [some (rc_q (some (rc_km (yr_K Y) 100))), some (rc_q v1), some (rc_i v2)] [rc_i x4, rc_i x3, rc_q (some (rc_km (yr_K Y) 8))]
    refine rc_r_mast (pc := 23) hC hF (j := 8) (by decide) rfl dX9_tell_23 h ?_
    intro S h
    refine rc_aload_n (pc := 24) hC dX9_tell_24 rfl rfl ?_
    refine rc_dup (pc := 25) hC dX9_tell_25 rfl ?_
    refine rc_r_mget (pc := 26) hC hF rF_X9_157 rfl dX9_tell_26 h ?_
    intro x5 h
    refine rc_iconst (pc := 29) hC (v := (1 : Int32)) dX9_tell_29 rfl ?_
    refine rc_iadd (pc := 30) hC dX9_tell_30 ?_
    refine rc_r_mput (pc := 31) hC (Or.inl hF) rP_X9_157 rfl dX9_tell_31 h ?_
    intro S h
    refine rc_iinc (pc := 34) hC (v := (v2 + (1 : Int32))) (L' := [some (rc_q (some (rc_km (yr_K Y) 100))), some (rc_q v1), some (rc_i (v2 + (1 : Int32)))]) dX9_tell_34 rfl rfl rfl rfl ?_
    refine rc_goto (pc := 37) (tgt := 2) hC dX9_tell_37 rfl ?_
    exact ih v1 (v2 + (1 : Int32)) S h
theorem rw_X9_tell {l : Launch} (hl : l.stackTraces = false) (v1 : Option Nat) : rc_Cm l yX9_tell (ws_ yX9_tell cX9_tell 3 (Option.none : Option Jvm.ClassFile.FieldType)) 5 106 rc_tU (rp_X9_tell v1) [rc_q v1] := by
  refine rc_Cm_H hl (plainFor_of_name rY_X9) rfl (Nat.le_of_ble_eq_true rfl) ?_
  intro Y S hC hH hF h
  have hC : rc_C Y cX9_tell RX9 (Option.none : Option Jvm.ClassFile.FieldType) 3 := hC
  show rc_Z Y S 0 [some (rc_q (some (rc_km (yr_K Y) 100))), some (rc_q v1), none] []
  unfold rp_X9_tell at h
  refine rc_iconst (pc := 0) hC (v := (0 : Int32)) dX9_tell_0 rfl ?_
  refine rc_istore_n (pc := 1) hC (L' := [some (rc_q (some (rc_km (yr_K Y) 100))), some (rc_q v1), some (rc_i (0 : Int32))]) dX9_tell_1 rfl (Nat.le_of_ble_eq_true rfl) rfl rfl ?_
  refine rc_r_fuel h ?_
  intro x1 h
  exact rw_X9_tell_L2 hC hH hF  x1 v1 (0 : Int32) S h
theorem rw_X9_sortOf_L42 {Y : rc_Y} (hC : rc_C Y cX9_sortOf RX9 (Option.some Jvm.ClassFile.FieldType.int) 1) (hH : rc_H Y 0 0 yX9_sortOf.name) (v0 : Int32) (S : rc_S) (h : rc_Go Y rc_tI (rp_X9_sortOf_L42  v0) S) : rc_Z Y S 42 [some (rc_i v0)] [] := by
  unfold rp_X9_sortOf_L42 at h
  refine rc_iload_n (pc := 42) hC dX9_sortOf_42 rfl rfl ?_
  refine rc_bipush (pc := 43) hC (v := (40 : Int32)) dX9_sortOf_43 rfl ?_
  refine rc_icmp_ne (pc := 45) (tgt := 52) hC dX9_sortOf_45 rfl h ?_ ?_
  · intro _ h
    refine rc_iload_n (pc := 52) hC dX9_sortOf_52 rfl rfl ?_
    refine rc_bipush (pc := 53) hC (v := (41 : Int32)) dX9_sortOf_53 rfl ?_
    refine rc_icmp_ne (pc := 55) (tgt := 62) hC dX9_sortOf_55 rfl h ?_ ?_
    · intro _ h
      refine rc_bipush (pc := 62) hC (v := (6 : Int32)) dX9_sortOf_62 rfl ?_
      exact rc_iret hC rfl rfl dX9_sortOf_64 h rfl
    intro _ h
    refine rc_iconst (pc := 58) hC (v := (5 : Int32)) dX9_sortOf_58 rfl ?_
    refine rc_goto (pc := 59) (tgt := 64) hC dX9_sortOf_59 rfl ?_
    exact rc_iret hC rfl rfl dX9_sortOf_64 h rfl
  intro _ h
  refine rc_iconst (pc := 48) hC (v := (4 : Int32)) dX9_sortOf_48 rfl ?_
  refine rc_goto (pc := 49) (tgt := 64) hC dX9_sortOf_49 rfl ?_
  exact rc_iret hC rfl rfl dX9_sortOf_64 h rfl
theorem rw_X9_sortOf_L26 {Y : rc_Y} (hC : rc_C Y cX9_sortOf RX9 (Option.some Jvm.ClassFile.FieldType.int) 1) (hH : rc_H Y 0 0 yX9_sortOf.name) (v0 : Int32) (S : rc_S) (h : rc_Go Y rc_tI (rp_X9_sortOf_L26  v0) S) : rc_Z Y S 26 [some (rc_i v0)] [] := by
  unfold rp_X9_sortOf_L26 at h
  refine rc_iload_n (pc := 26) hC dX9_sortOf_26 rfl rfl ?_
  refine rc_bipush (pc := 27) hC (v := (48 : Int32)) dX9_sortOf_27 rfl ?_
  refine rc_icmp_lt (pc := 29) (tgt := 42) hC dX9_sortOf_29 rfl h ?_ ?_
  · intro _ h
    exact rw_X9_sortOf_L42 hC hH  v0 S h
  intro _ h
  refine rc_iload_n (pc := 32) hC dX9_sortOf_32 rfl rfl ?_
  refine rc_bipush (pc := 33) hC (v := (57 : Int32)) dX9_sortOf_33 rfl ?_
  refine rc_icmp_gt (pc := 35) (tgt := 42) hC dX9_sortOf_35 rfl h ?_ ?_
  · intro _ h
    exact rw_X9_sortOf_L42 hC hH  v0 S h
  intro _ h
  refine rc_iconst (pc := 38) hC (v := (3 : Int32)) dX9_sortOf_38 rfl ?_
  refine rc_goto (pc := 39) (tgt := 64) hC dX9_sortOf_39 rfl ?_
  exact rc_iret hC rfl rfl dX9_sortOf_64 h rfl
theorem rw_X9_sortOf {l : Launch} (hl : l.stackTraces = false) (v0 : Int32) : rc_Ct l yX9_sortOf (ws_ yX9_sortOf cX9_sortOf 1 (Option.some Jvm.ClassFile.FieldType.int)) 0 0 rc_tI (rp_X9_sortOf v0) [rc_i v0] := by
  refine rc_Ct_H hl (plainFor_of_name rY_X9) rfl (Nat.le_of_ble_eq_true rfl) (L0 := [some (rc_i v0)]) rfl ?_
  intro Y S hC hH h
  have hC : rc_C Y cX9_sortOf RX9 (Option.some Jvm.ClassFile.FieldType.int) 1 := hC
  unfold rp_X9_sortOf at h
  refine rc_iload_n (pc := 0) hC dX9_sortOf_0 rfl rfl ?_
  refine rc_bipush (pc := 1) hC (v := (59 : Int32)) dX9_sortOf_1 rfl ?_
  refine rc_icmp_ne (pc := 3) (tgt := 10) hC dX9_sortOf_3 rfl h ?_ ?_
  · intro _ h
    refine rc_iload_n (pc := 10) hC dX9_sortOf_10 rfl rfl ?_
    refine rc_bipush (pc := 11) hC (v := (97 : Int32)) dX9_sortOf_11 rfl ?_
    refine rc_icmp_lt (pc := 13) (tgt := 26) hC dX9_sortOf_13 rfl h ?_ ?_
    · intro _ h
      exact rw_X9_sortOf_L26 hC hH  v0 S h
    intro _ h
    refine rc_iload_n (pc := 16) hC dX9_sortOf_16 rfl rfl ?_
    refine rc_bipush (pc := 17) hC (v := (122 : Int32)) dX9_sortOf_17 rfl ?_
    refine rc_icmp_gt (pc := 19) (tgt := 26) hC dX9_sortOf_19 rfl h ?_ ?_
    · intro _ h
      exact rw_X9_sortOf_L26 hC hH  v0 S h
    intro _ h
    refine rc_iconst (pc := 22) hC (v := (2 : Int32)) dX9_sortOf_22 rfl ?_
    refine rc_goto (pc := 23) (tgt := 64) hC dX9_sortOf_23 rfl ?_
    exact rc_iret hC rfl rfl dX9_sortOf_64 h rfl
  intro _ h
  refine rc_iconst (pc := 6) hC (v := (1 : Int32)) dX9_sortOf_6 rfl ?_
  refine rc_goto (pc := 7) (tgt := 64) hC dX9_sortOf_7 rfl ?_
  exact rc_iret hC rfl rfl dX9_sortOf_64 h rfl
theorem rw_X9_next_L47 {Y : rc_Y} (hC : rc_C Y cX9_next RX9 (Option.none : Option Jvm.ClassFile.FieldType) 2) (hH : rc_H Y 1 20 yX9_next.name) (hF : yr_F Y = true) {k8 : rc_M Unit} (hk8 : ∀ (S : rc_S), rc_Go Y rc_tU (k8 ) S → rc_Z Y S 8 [some (rc_q (some (rc_km (yr_K Y) 100))), none] []) (S : rc_S) (h : rc_Go Y rc_tU (rp_X9_next_L47 k8 ) S) : rc_Z Y S 47 [some (rc_q (some (rc_km (yr_K Y) 100))), none] [] := by
  unfold rp_X9_next_L47 at h
  refine rc_aload_n (pc := 47) hC dX9_next_47 rfl rfl ?_
  refine rc_dup (pc := 48) hC dX9_next_48 rfl ?_
  refine rc_r_mget (pc := 49) hC hF rF_X9_167 rfl dX9_next_49 h ?_
  intro x1 h
  refine rc_iconst (pc := 52) hC (v := (1 : Int32)) dX9_next_52 rfl ?_
  refine rc_iadd (pc := 53) hC dX9_next_53 ?_
  refine rc_r_mput (pc := 54) hC (Or.inl hF) rP_X9_167 rfl dX9_next_54 h ?_
  intro S h
  refine rc_goto (pc := 57) (tgt := 8) hC dX9_next_57 rfl ?_
  exact hk8  S h
theorem rw_X9_next_L207 {Y : rc_Y} (hC : rc_C Y cX9_next RX9 (Option.none : Option Jvm.ClassFile.FieldType) 2) (hH : rc_H Y 1 20 yX9_next.name) (hF : yr_F Y = true) : ∀ (n : Nat) (v1 : Int32) (S : rc_S), rc_Go Y rc_tU (rp_X9_next_L207  n v1) S → rc_Z Y S 207 [some (rc_q (some (rc_km (yr_K Y) 100))), some (rc_i v1)] [] := by
  intro n
  induction n with
  | zero => intro v1 S h; exact h.fail.elim
  | succ n ih =>
    intro v1 S h
    rw [rp_X9_next_L207] at h
    refine rc_iload_n (pc := 207) hC dX9_next_207 rfl rfl ?_
    refine rc_aload_n (pc := 208) hC dX9_next_208 rfl rfl ?_
    refine rc_r_mget (pc := 209) hC hF rF_X9_164 rfl dX9_next_209 h ?_
    intro x1 h
    refine rc_icmp_ge (pc := 212) (tgt := 250) hC dX9_next_212 rfl h ?_ ?_
    · intro _ h
      exact rc_vret hC rfl dX9_next_250 h rfl
    intro _ h
    refine rc_aload_n (pc := 215) hC dX9_next_215 rfl rfl ?_
    refine rc_r_mget (pc := 216) hC hF rF_X9_170 rfl dX9_next_216 h ?_
    intro x2 h
    refine rc_iconst (pc := 219) hC (v := (3 : Int32)) dX9_next_219 rfl ?_
    refine rc_icmp_ne (pc := 220) (tgt := 250) hC dX9_next_220 rfl h ?_ ?_
    · intro _ h
      exact rc_vret hC rfl dX9_next_250 h rfl
    intro _ h
    refine rc_aload_n (pc := 223) hC dX9_next_223 rfl rfl ?_
    refine rc_bipush (pc := 224) hC (v := (10 : Int32)) dX9_next_224 rfl ?_
    refine rc_aload_n (pc := 226) hC dX9_next_226 rfl rfl ?_
    refine rc_r_mget (pc := 227) hC hF rF_X9_176 rfl dX9_next_227 h ?_
    intro x3 h
    refine rc_imul (pc := 230) hC dX9_next_230 ?_
    refine rc_aload_n (pc := 231) hC dX9_next_231 rfl rfl ?_
    refine rc_r_mref (pc := 232) hC hF rF_X9_28 (by decide) dX9_next_232 h ?_
    refine rc_iload_n (pc := 235) hC dX9_next_235 rfl rfl ?_
    refine rc_r_mald (pc := 236) hC hF (j := 8) (by decide) rfl dX9_next_236 h ?_
    intro x5 h
    refine rc_iadd (pc := 237) hC dX9_next_237 ?_
    refine rc_bipush (pc := 238) hC (v := (48 : Int32)) dX9_next_238 rfl ?_
    refine rc_isub (pc := 240) hC dX9_next_240 ?_
    refine rc_r_mput (pc := 241) hC (Or.inl hF) rP_X9_176 rfl dX9_next_241 h ?_
    intro S h
    refine rc_iinc (pc := 244) hC (v := (v1 + (1 : Int32))) (L' := [some (rc_q (some (rc_km (yr_K Y) 100))), some (rc_i (v1 + (1 : Int32)))]) dX9_next_244 rfl rfl rfl rfl ?_
    refine rc_goto (pc := 247) (tgt := 207) hC dX9_next_247 rfl ?_
    exact ih (v1 + (1 : Int32)) S h
theorem rw_X9_next_L197 {Y : rc_Y} (hC : rc_C Y cX9_next RX9 (Option.none : Option Jvm.ClassFile.FieldType) 2) (hH : rc_H Y 1 20 yX9_next.name) (hF : yr_F Y = true) (S : rc_S) (h : rc_Go Y rc_tU (rp_X9_next_L197  ) S) : rc_Z Y S 197 [some (rc_q (some (rc_km (yr_K Y) 100))), none] [] := by
  unfold rp_X9_next_L197 at h
  refine rc_aload_n (pc := 197) hC dX9_next_197 rfl rfl ?_
  refine rc_iconst (pc := 198) hC (v := (0 : Int32)) dX9_next_198 rfl ?_
  refine rc_r_mput (pc := 199) hC (Or.inl hF) rP_X9_176 rfl dX9_next_199 h ?_
  intro S h
  refine rc_aload_n (pc := 202) hC dX9_next_202 rfl rfl ?_
  refine rc_r_mget (pc := 203) hC hF rF_X9_167 rfl dX9_next_203 h ?_
  intro x1 h
  refine rc_istore_n (pc := 206) hC (L' := [some (rc_q (some (rc_km (yr_K Y) 100))), some (rc_i x1)]) dX9_next_206 rfl (Nat.le_of_ble_eq_true rfl) rfl rfl ?_
  refine rc_r_fuel h ?_
  intro x2 h
  exact rw_X9_next_L207 hC hH hF  x2 x1 S h
theorem rw_X9_next_L170 {Y : rc_Y} (hC : rc_C Y cX9_next RX9 (Option.none : Option Jvm.ClassFile.FieldType) 2) (hH : rc_H Y 1 20 yX9_next.name) (hF : yr_F Y = true) (S : rc_S) (h : rc_Go Y rc_tU (rp_X9_next_L170  ) S) : rc_Z Y S 170 [some (rc_q (some (rc_km (yr_K Y) 100))), none] [] := by
  unfold rp_X9_next_L170 at h
  refine rc_aload_n (pc := 170) hC dX9_next_170 rfl rfl ?_
  refine rc_r_mget (pc := 171) hC hF rF_X9_170 rfl dX9_next_171 h ?_
  intro x1 h
  refine rc_iconst (pc := 174) hC (v := (3 : Int32)) dX9_next_174 rfl ?_
  refine rc_icmp_ne (pc := 175) (tgt := 197) hC dX9_next_175 rfl h ?_ ?_
  · intro _ h
    exact rw_X9_next_L197 hC hH hF   S h
  intro _ h
  refine rc_aload_n (pc := 178) hC dX9_next_178 rfl rfl ?_
  refine rc_r_mget (pc := 179) hC hF rF_X9_164 rfl dX9_next_179 h ?_
  intro x2 h
  refine rc_aload_n (pc := 182) hC dX9_next_182 rfl rfl ?_
  refine rc_r_mget (pc := 183) hC hF rF_X9_167 rfl dX9_next_183 h ?_
  intro x3 h
  refine rc_isub (pc := 186) hC dX9_next_186 ?_
  refine rc_iconst (pc := 187) hC (v := (3 : Int32)) dX9_next_187 rfl ?_
  refine rc_icmp_le (pc := 188) (tgt := 197) hC dX9_next_188 rfl h ?_ ?_
  · intro _ h
    exact rw_X9_next_L197 hC hH hF   S h
  intro _ h
  refine rc_aload_n (pc := 191) hC dX9_next_191 rfl rfl ?_
  refine rc_bipush (pc := 192) hC (v := (6 : Int32)) dX9_next_192 rfl ?_
  refine rc_r_mput (pc := 194) hC (Or.inl hF) rP_X9_170 rfl dX9_next_194 h ?_
  intro S h
  exact rw_X9_next_L197 hC hH hF   S h
theorem rw_X9_next_L127 {Y : rc_Y} (hC : rc_C Y cX9_next RX9 (Option.none : Option Jvm.ClassFile.FieldType) 2) (hH : rc_H Y 1 20 yX9_next.name) (hF : yr_F Y = true) {k111 : rc_M Unit} (hk111 : ∀ (S : rc_S), rc_Go Y rc_tU (k111 ) S → rc_Z Y S 111 [some (rc_q (some (rc_km (yr_K Y) 100))), none] []) (S : rc_S) (h : rc_Go Y rc_tU (rp_X9_next_L127 k111 ) S) : rc_Z Y S 127 [some (rc_q (some (rc_km (yr_K Y) 100))), none] [] := by
  unfold rp_X9_next_L127 at h
  refine rc_aload_n (pc := 127) hC dX9_next_127 rfl rfl ?_
  refine rc_r_mget (pc := 128) hC hF rF_X9_164 rfl dX9_next_128 h ?_
  intro x1 h
  refine rc_aload_n (pc := 131) hC dX9_next_131 rfl rfl ?_
  refine rc_r_mget (pc := 132) hC hF rF_X9_157 rfl dX9_next_132 h ?_
  intro x2 h
  refine rc_icmp_ge (pc := 135) (tgt := 170) hC dX9_next_135 rfl h ?_ ?_
  · intro _ h
    exact rw_X9_next_L170 hC hH hF   S h
  intro _ h
  refine rc_aload_n (pc := 138) hC dX9_next_138 rfl rfl ?_
  refine rc_r_mref (pc := 139) hC hF rF_X9_28 (by decide) dX9_next_139 h ?_
  refine rc_aload_n (pc := 142) hC dX9_next_142 rfl rfl ?_
  refine rc_r_mget (pc := 143) hC hF rF_X9_164 rfl dX9_next_143 h ?_
  intro x4 h
  refine rc_r_mald (pc := 146) hC hF (j := 8) (by decide) rfl dX9_next_146 h ?_
  intro x5 h
  refine rc_callS (pc := 147) hC (rw_X9_sortOf hH.1 x5) q2020 q2021 q149 q2022 rd_X9_sortOf (hH.room (Nat.le_of_ble_eq_true rfl) (Nat.le_of_ble_eq_true rfl)) rfl rfl (Nat.le_of_ble_eq_true rfl) 1 rfl h.le.2.2 h.br rfl dX9_next_147 ?_ (fun E q S hT => rc_out hC hH.2.2.2.2 hT)
  intro x6 S h
  show rc_Z Y S 150 [some (rc_q (some (rc_km (yr_K Y) 100))), none] [rc_i x6]
  refine rc_aload_n (pc := 150) hC dX9_next_150 rfl rfl ?_
  refine rc_r_mget (pc := 151) hC hF rF_X9_170 rfl dX9_next_151 h ?_
  intro x7 h
  refine rc_icmp_ne (pc := 154) (tgt := 170) hC dX9_next_154 rfl h ?_ ?_
  · intro _ h
    exact rw_X9_next_L170 hC hH hF   S h
  intro _ h
  refine rc_aload_n (pc := 157) hC dX9_next_157 rfl rfl ?_
  refine rc_dup (pc := 158) hC dX9_next_158 rfl ?_
  refine rc_r_mget (pc := 159) hC hF rF_X9_164 rfl dX9_next_159 h ?_
  intro x8 h
  refine rc_iconst (pc := 162) hC (v := (1 : Int32)) dX9_next_162 rfl ?_
  refine rc_iadd (pc := 163) hC dX9_next_163 ?_
  refine rc_r_mput (pc := 164) hC (Or.inl hF) rP_X9_164 rfl dX9_next_164 h ?_
  intro S h
  refine rc_goto (pc := 167) (tgt := 111) hC dX9_next_167 rfl ?_
  exact hk111  S h
theorem rw_X9_next_L111 {Y : rc_Y} (hC : rc_C Y cX9_next RX9 (Option.none : Option Jvm.ClassFile.FieldType) 2) (hH : rc_H Y 1 20 yX9_next.name) (hF : yr_F Y = true) : ∀ (n : Nat) (S : rc_S), rc_Go Y rc_tU (rp_X9_next_L111  n ) S → rc_Z Y S 111 [some (rc_q (some (rc_km (yr_K Y) 100))), none] [] := by
  intro n
  induction n with
  | zero => intro  S h; exact h.fail.elim
  | succ n ih =>
    intro  S h
    rw [rp_X9_next_L111] at h
    refine rc_aload_n (pc := 111) hC dX9_next_111 rfl rfl ?_
    refine rc_r_mget (pc := 112) hC hF rF_X9_170 rfl dX9_next_112 h ?_
    intro x1 h
    refine rc_iconst (pc := 115) hC (v := (2 : Int32)) dX9_next_115 rfl ?_
    refine rc_icmp_eq (pc := 116) (tgt := 127) hC dX9_next_116 rfl h ?_ ?_
    · intro _ h
      exact rw_X9_next_L127 hC hH hF ih  S h
    intro _ h
    refine rc_aload_n (pc := 119) hC dX9_next_119 rfl rfl ?_
    refine rc_r_mget (pc := 120) hC hF rF_X9_170 rfl dX9_next_120 h ?_
    intro x2 h
    refine rc_iconst (pc := 123) hC (v := (3 : Int32)) dX9_next_123 rfl ?_
    refine rc_icmp_ne (pc := 124) (tgt := 170) hC dX9_next_124 rfl h ?_ ?_
    · intro _ h
      exact rw_X9_next_L170 hC hH hF   S h
    intro _ h
    exact rw_X9_next_L127 hC hH hF ih  S h
theorem rw_X9_next_L60 {Y : rc_Y} (hC : rc_C Y cX9_next RX9 (Option.none : Option Jvm.ClassFile.FieldType) 2) (hH : rc_H Y 1 20 yX9_next.name) (hF : yr_F Y = true) (S : rc_S) (h : rc_Go Y rc_tU (rp_X9_next_L60  ) S) : rc_Z Y S 60 [some (rc_q (some (rc_km (yr_K Y) 100))), none] [] := by
  unfold rp_X9_next_L60 at h
  refine rc_aload_n (pc := 60) hC dX9_next_60 rfl rfl ?_
  refine rc_aload_n (pc := 61) hC dX9_next_61 rfl rfl ?_
  refine rc_r_mget (pc := 62) hC hF rF_X9_167 rfl dX9_next_62 h ?_
  intro x1 h
  refine rc_r_mput (pc := 65) hC (Or.inl hF) rP_X9_164 rfl dX9_next_65 h ?_
  intro S h
  refine rc_aload_n (pc := 68) hC dX9_next_68 rfl rfl ?_
  refine rc_r_mget (pc := 69) hC hF rF_X9_167 rfl dX9_next_69 h ?_
  intro x2 h
  refine rc_aload_n (pc := 72) hC dX9_next_72 rfl rfl ?_
  refine rc_r_mget (pc := 73) hC hF rF_X9_157 rfl dX9_next_73 h ?_
  intro x3 h
  refine rc_icmp_ne (pc := 76) (tgt := 85) hC dX9_next_76 rfl h ?_ ?_
  · intro _ h
    refine rc_aload_n (pc := 85) hC dX9_next_85 rfl rfl ?_
    refine rc_aload_n (pc := 86) hC dX9_next_86 rfl rfl ?_
    refine rc_r_mref (pc := 87) hC hF rF_X9_28 (by decide) dX9_next_87 h ?_
    refine rc_aload_n (pc := 90) hC dX9_next_90 rfl rfl ?_
    refine rc_r_mget (pc := 91) hC hF rF_X9_167 rfl dX9_next_91 h ?_
    intro x5 h
    refine rc_r_mald (pc := 94) hC hF (j := 8) (by decide) rfl dX9_next_94 h ?_
    intro x6 h
    refine rc_callS (pc := 95) hC (rw_X9_sortOf hH.1 x6) q2020 q2021 q149 q2022 rd_X9_sortOf (hH.room (Nat.le_of_ble_eq_true rfl) (Nat.le_of_ble_eq_true rfl)) rfl rfl (Nat.le_of_ble_eq_true rfl) 1 rfl h.le.2.2 h.br rfl dX9_next_95 ?_ (fun E q S hT => rc_out hC hH.2.2.2.2 hT)
    intro x7 S h
    show rc_Z Y S 98 [some (rc_q (some (rc_km (yr_K Y) 100))), none] [rc_i x7, rc_q (some (rc_km (yr_K Y) 100))]
    refine rc_r_mput (pc := 98) hC (Or.inl hF) rP_X9_170 rfl dX9_next_98 h ?_
    intro S h
    refine rc_aload_n (pc := 101) hC dX9_next_101 rfl rfl ?_
    refine rc_dup (pc := 102) hC dX9_next_102 rfl ?_
    refine rc_r_mget (pc := 103) hC hF rF_X9_164 rfl dX9_next_103 h ?_
    intro x8 h
    refine rc_iconst (pc := 106) hC (v := (1 : Int32)) dX9_next_106 rfl ?_
    refine rc_iadd (pc := 107) hC dX9_next_107 ?_
    refine rc_r_mput (pc := 108) hC (Or.inl hF) rP_X9_164 rfl dX9_next_108 h ?_
    intro S h
    refine rc_r_fuel h ?_
    intro x9 h
    exact rw_X9_next_L111 hC hH hF  x9  S h
  intro _ h
  refine rc_aload_n (pc := 79) hC dX9_next_79 rfl rfl ?_
  refine rc_iconst (pc := 80) hC (v := (0 : Int32)) dX9_next_80 rfl ?_
  refine rc_r_mput (pc := 81) hC (Or.inl hF) rP_X9_170 rfl dX9_next_81 h ?_
  intro S h
  exact rc_vret hC rfl dX9_next_84 h rfl
theorem rw_X9_next_L8 {Y : rc_Y} (hC : rc_C Y cX9_next RX9 (Option.none : Option Jvm.ClassFile.FieldType) 2) (hH : rc_H Y 1 20 yX9_next.name) (hF : yr_F Y = true) : ∀ (n : Nat) (S : rc_S), rc_Go Y rc_tU (rp_X9_next_L8  n ) S → rc_Z Y S 8 [some (rc_q (some (rc_km (yr_K Y) 100))), none] [] := by
  intro n
  induction n with
  | zero => intro  S h; exact h.fail.elim
  | succ n ih =>
    intro  S h
    rw [rp_X9_next_L8] at h
    refine rc_aload_n (pc := 8) hC dX9_next_8 rfl rfl ?_
    refine rc_r_mget (pc := 9) hC hF rF_X9_167 rfl dX9_next_9 h ?_
    intro x1 h
    refine rc_aload_n (pc := 12) hC dX9_next_12 rfl rfl ?_
    refine rc_r_mget (pc := 13) hC hF rF_X9_157 rfl dX9_next_13 h ?_
    intro x2 h
    refine rc_icmp_ge (pc := 16) (tgt := 60) hC dX9_next_16 rfl h ?_ ?_
    · intro _ h
      exact rw_X9_next_L60 hC hH hF   S h
    intro _ h
    refine rc_aload_n (pc := 19) hC dX9_next_19 rfl rfl ?_
    refine rc_r_mref (pc := 20) hC hF rF_X9_28 (by decide) dX9_next_20 h ?_
    refine rc_aload_n (pc := 23) hC dX9_next_23 rfl rfl ?_
    refine rc_r_mget (pc := 24) hC hF rF_X9_167 rfl dX9_next_24 h ?_
    intro x4 h
    refine rc_r_mald (pc := 27) hC hF (j := 8) (by decide) rfl dX9_next_27 h ?_
    intro x5 h
    refine rc_bipush (pc := 28) hC (v := (32 : Int32)) dX9_next_28 rfl ?_
    refine rc_icmp_eq (pc := 30) (tgt := 47) hC dX9_next_30 rfl h ?_ ?_
    · intro _ h
      exact rw_X9_next_L47 hC hH hF ih  S h
    intro _ h
    refine rc_aload_n (pc := 33) hC dX9_next_33 rfl rfl ?_
    refine rc_r_mref (pc := 34) hC hF rF_X9_28 (by decide) dX9_next_34 h ?_
    refine rc_aload_n (pc := 37) hC dX9_next_37 rfl rfl ?_
    refine rc_r_mget (pc := 38) hC hF rF_X9_167 rfl dX9_next_38 h ?_
    intro x7 h
    refine rc_r_mald (pc := 41) hC hF (j := 8) (by decide) rfl dX9_next_41 h ?_
    intro x8 h
    refine rc_bipush (pc := 42) hC (v := (10 : Int32)) dX9_next_42 rfl ?_
    refine rc_icmp_ne (pc := 44) (tgt := 60) hC dX9_next_44 rfl h ?_ ?_
    · intro _ h
      exact rw_X9_next_L60 hC hH hF   S h
    intro _ h
    exact rw_X9_next_L47 hC hH hF ih  S h
theorem rw_X9_next {l : Launch} (hl : l.stackTraces = false) : rc_Cm l yX9_next (ws_ yX9_next cX9_next 2 (Option.none : Option Jvm.ClassFile.FieldType)) 1 20 rc_tU (rp_X9_next ) [] := by
  refine rc_Cm_H hl (plainFor_of_name rY_X9) rfl (Nat.le_of_ble_eq_true rfl) ?_
  intro Y S hC hH hF h
  have hC : rc_C Y cX9_next RX9 (Option.none : Option Jvm.ClassFile.FieldType) 2 := hC
  show rc_Z Y S 0 [some (rc_q (some (rc_km (yr_K Y) 100))), none] []
  unfold rp_X9_next at h
  refine rc_aload_n (pc := 0) hC dX9_next_0 rfl rfl ?_
  refine rc_aload_n (pc := 1) hC dX9_next_1 rfl rfl ?_
  refine rc_r_mget (pc := 2) hC hF rF_X9_164 rfl dX9_next_2 h ?_
  intro x1 h
  refine rc_r_mput (pc := 5) hC (Or.inl hF) rP_X9_167 rfl dX9_next_5 h ?_
  intro S h
  refine rc_r_fuel h ?_
  intro x2 h
  exact rw_X9_next_L8 hC hH hF  x2  S h
theorem rw_X9_says_L28 {Y : rc_Y} (hC : rc_C Y cX9_says RX9 (Option.some Jvm.ClassFile.FieldType.boolean) 3) (hH : rc_H Y 5 106 yX9_says.name) (hF : yr_F Y = true) : ∀ (n : Nat) (v1 : Option Nat) (v2 : Int32) (S : rc_S), rc_Go Y rc_tI (rp_X9_says_L28  n v1 v2) S → rc_Z Y S 28 [some (rc_q (some (rc_km (yr_K Y) 100))), some (rc_q v1), some (rc_i v2)] [] := by
  intro n
  induction n with
  | zero => intro v1 v2 S h; exact h.fail.elim
  | succ n ih =>
    intro v1 v2 S h
    rw [rp_X9_says_L28] at h
    refine rc_iload_n (pc := 28) hC dX9_says_28 rfl rfl ?_
    refine rc_aload_n (pc := 29) hC dX9_says_29 rfl rfl ?_
    obtain ⟨⟨fs, ho⟩, h⟩ := h.is
    refine rc_callV (pc := 30) hC rfl ho (rw_J4_length hH.1 v1) q2009 q307 q308 q121 q309 rfl rd_J4_length (hH.room (Nat.le_of_ble_eq_true rfl) (Nat.le_of_ble_eq_true rfl)) rfl rfl (Nat.le_of_ble_eq_true rfl) 0 rfl h.le.2.2 h.br rfl dX9_says_30 ?_ (fun E q S hT => rc_out hC hH.2.2.2.2 hT)
    intro x1 S h
    show rc_Z Y S 33 [some (rc_q (some (rc_km (yr_K Y) 100))), some (rc_q v1), some (rc_i v2)] [rc_i x1, rc_i v2]
    refine rc_icmp_ge (pc := 33) (tgt := 63) hC dX9_says_33 rfl h ?_ ?_
    · intro _ h
      refine rc_iconst (pc := 63) hC (v := (1 : Int32)) dX9_says_63 rfl ?_
      exact rc_iret hC rfl rfl dX9_says_64 h rfl
    intro _ h
    refine rc_aload_n (pc := 36) hC dX9_says_36 rfl rfl ?_
    refine rc_r_mref (pc := 37) hC hF rF_X9_28 (by decide) dX9_says_37 h ?_
    refine rc_aload_n (pc := 40) hC dX9_says_40 rfl rfl ?_
    refine rc_r_mget (pc := 41) hC hF rF_X9_167 rfl dX9_says_41 h ?_
    intro x3 h
    refine rc_iload_n (pc := 44) hC dX9_says_44 rfl rfl ?_
    refine rc_iadd (pc := 45) hC dX9_says_45 ?_
    refine rc_r_mald (pc := 46) hC hF (j := 8) (by decide) rfl dX9_says_46 h ?_
    intro x4 h
    refine rc_aload_n (pc := 47) hC dX9_says_47 rfl rfl ?_
    refine rc_iload_n (pc := 48) hC dX9_says_48 rfl rfl ?_
    obtain ⟨⟨fs, ho⟩, h⟩ := h.is
    refine rc_callV (pc := 49) hC rfl ho (rw_J4_charAt hH.1 v1 v2) q2010 q316 q317 q121 q318 rfl rd_J4_charAt (hH.room (Nat.le_of_ble_eq_true rfl) (Nat.le_of_ble_eq_true rfl)) rfl rfl (Nat.le_of_ble_eq_true rfl) 1 rfl h.le.2.2 h.br rfl dX9_says_49 ?_ (fun E q S hT => rc_out hC hH.2.2.2.2 hT)
    intro x5 S h
    show rc_Z Y S 52 [some (rc_q (some (rc_km (yr_K Y) 100))), some (rc_q v1), some (rc_i v2)] [rc_i x5, rc_i x4]
    refine rc_icmp_eq (pc := 52) (tgt := 57) hC dX9_says_52 rfl h ?_ ?_
    · intro _ h
      refine rc_iinc (pc := 57) hC (v := (v2 + (1 : Int32))) (L' := [some (rc_q (some (rc_km (yr_K Y) 100))), some (rc_q v1), some (rc_i (v2 + (1 : Int32)))]) dX9_says_57 rfl rfl rfl rfl ?_
      refine rc_goto (pc := 60) (tgt := 28) hC dX9_says_60 rfl ?_
      exact ih v1 (v2 + (1 : Int32)) S h
    intro _ h
    refine rc_iconst (pc := 55) hC (v := (0 : Int32)) dX9_says_55 rfl ?_
    exact rc_iret hC rfl rfl dX9_says_56 h rfl
theorem rw_X9_says {l : Launch} (hl : l.stackTraces = false) (v1 : Option Nat) : rc_Cm l yX9_says (ws_ yX9_says cX9_says 3 (Option.some Jvm.ClassFile.FieldType.boolean)) 5 106 rc_tI (rp_X9_says v1) [rc_q v1] := by
  refine rc_Cm_H hl (plainFor_of_name rY_X9) rfl (Nat.le_of_ble_eq_true rfl) ?_
  intro Y S hC hH hF h
  have hC : rc_C Y cX9_says RX9 (Option.some Jvm.ClassFile.FieldType.boolean) 3 := hC
  show rc_Z Y S 0 [some (rc_q (some (rc_km (yr_K Y) 100))), some (rc_q v1), none] []
  unfold rp_X9_says at h
  refine rc_aload_n (pc := 0) hC dX9_says_0 rfl rfl ?_
  refine rc_r_mget (pc := 1) hC hF rF_X9_170 rfl dX9_says_1 h ?_
  intro x1 h
  refine rc_iconst (pc := 4) hC (v := (2 : Int32)) dX9_says_4 rfl ?_
  refine rc_icmp_ne (pc := 5) (tgt := 24) hC dX9_says_5 rfl h ?_ ?_
  · intro _ h
    refine rc_iconst (pc := 24) hC (v := (0 : Int32)) dX9_says_24 rfl ?_
    exact rc_iret hC rfl rfl dX9_says_25 h rfl
  intro _ h
  refine rc_aload_n (pc := 8) hC dX9_says_8 rfl rfl ?_
  refine rc_r_mget (pc := 9) hC hF rF_X9_164 rfl dX9_says_9 h ?_
  intro x2 h
  refine rc_aload_n (pc := 12) hC dX9_says_12 rfl rfl ?_
  refine rc_r_mget (pc := 13) hC hF rF_X9_167 rfl dX9_says_13 h ?_
  intro x3 h
  refine rc_isub (pc := 16) hC dX9_says_16 ?_
  refine rc_aload_n (pc := 17) hC dX9_says_17 rfl rfl ?_
  obtain ⟨⟨fs, ho⟩, h⟩ := h.is
  refine rc_callV (pc := 18) hC rfl ho (rw_J4_length hH.1 v1) q2009 q307 q308 q121 q309 rfl rd_J4_length (hH.room (Nat.le_of_ble_eq_true rfl) (Nat.le_of_ble_eq_true rfl)) rfl rfl (Nat.le_of_ble_eq_true rfl) 0 rfl h.le.2.2 h.br rfl dX9_says_18 ?_ (fun E q S hT => rc_out hC hH.2.2.2.2 hT)
  intro x4 S h
  show rc_Z Y S 21 [some (rc_q (some (rc_km (yr_K Y) 100))), some (rc_q v1), none] [rc_i x4, rc_i (x2 - x3)]
  refine rc_icmp_eq (pc := 21) (tgt := 26) hC dX9_says_21 rfl h ?_ ?_
  · intro _ h
    refine rc_iconst (pc := 26) hC (v := (0 : Int32)) dX9_says_26 rfl ?_
    refine rc_istore_n (pc := 27) hC (L' := [some (rc_q (some (rc_km (yr_K Y) 100))), some (rc_q v1), some (rc_i (0 : Int32))]) dX9_says_27 rfl (Nat.le_of_ble_eq_true rfl) rfl rfl ?_
    refine rc_r_fuel h ?_
    intro x5 h
    exact rw_X9_says_L28 hC hH hF  x5 v1 (0 : Int32) S h
  intro _ h
  refine rc_iconst (pc := 24) hC (v := (0 : Int32)) dX9_says_24 rfl ?_
  exact rc_iret hC rfl rfl dX9_says_25 h rfl
theorem rw_X9_fail {l : Launch} (hl : l.stackTraces = false) (v1 : Int32) : rc_Cm l yX9_fail (ws_ yX9_fail cX9_fail 2 (Option.some Jvm.ClassFile.FieldType.boolean)) 0 0 rc_tI (rp_X9_fail v1) [rc_i v1] := by
  refine rc_Cm_H hl (plainFor_of_name rY_X9) rfl (Nat.le_of_ble_eq_true rfl) ?_
  intro Y S hC hH hF h
  have hC : rc_C Y cX9_fail RX9 (Option.some Jvm.ClassFile.FieldType.boolean) 2 := hC
  show rc_Z Y S 0 [some (rc_q (some (rc_km (yr_K Y) 100))), some (rc_i v1)] []
  unfold rp_X9_fail at h
  refine rc_aload_n (pc := 0) hC dX9_fail_0 rfl rfl ?_
  refine rc_r_mget (pc := 1) hC hF rF_X9_179 rfl dX9_fail_1 h ?_
  intro x1 h
  refine rc_if_ne (pc := 4) (tgt := 20) hC dX9_fail_4 rfl h ?_ ?_
  · intro _ h
    refine rc_iconst (pc := 20) hC (v := (0 : Int32)) dX9_fail_20 rfl ?_
    exact rc_iret hC rfl rfl dX9_fail_21 h rfl
  intro _ h
  refine rc_aload_n (pc := 7) hC dX9_fail_7 rfl rfl ?_
  refine rc_iload_n (pc := 8) hC dX9_fail_8 rfl rfl ?_
  refine rc_r_mput (pc := 9) hC (Or.inl hF) rP_X9_179 rfl dX9_fail_9 h ?_
  intro S h
  refine rc_aload_n (pc := 12) hC dX9_fail_12 rfl rfl ?_
  refine rc_aload_n (pc := 13) hC dX9_fail_13 rfl rfl ?_
  refine rc_r_mget (pc := 14) hC hF rF_X9_167 rfl dX9_fail_14 h ?_
  intro x2 h
  refine rc_r_mput (pc := 17) hC (Or.inl hF) rP_X9_34 rfl dX9_fail_17 h ?_
  intro S h
  refine rc_iconst (pc := 20) hC (v := (0 : Int32)) dX9_fail_20 rfl ?_
  exact rc_iret hC rfl rfl dX9_fail_21 h rfl
theorem rw_X9_is_L16 {Y : rc_Y} (hC : rc_C Y cX9_is RX9 (Option.some Jvm.ClassFile.FieldType.boolean) 2) (hH : rc_H Y 1 21 yX9_is.name) (hF : yr_F Y = true) (S : rc_S) (h : rc_Go Y rc_tI (rp_X9_is_L16  ) S) : rc_Z Y S 16 [none, none] [] := by
  unfold rp_X9_is_L16 at h
  refine rc_iconst (pc := 16) hC (v := (1 : Int32)) dX9_is_16 rfl ?_
  refine rc_goto (pc := 17) (tgt := 21) hC dX9_is_17 rfl ?_
  exact rc_iret hC rfl rfl dX9_is_21 h rfl
theorem rw_X9_is {l : Launch} (hl : l.stackTraces = false) (v1 : Int32) : rc_Cm l yX9_is (ws_ yX9_is cX9_is 2 (Option.some Jvm.ClassFile.FieldType.boolean)) 1 21 rc_tI (rp_X9_is v1) [rc_i v1] := by
  refine rc_Cm_H hl (plainFor_of_name rY_X9) rfl (Nat.le_of_ble_eq_true rfl) ?_
  intro Y S hC hH hF h
  have hC : rc_C Y cX9_is RX9 (Option.some Jvm.ClassFile.FieldType.boolean) 2 := hC
  show rc_Z Y S 0 [some (rc_q (some (rc_km (yr_K Y) 100))), some (rc_i v1)] []
  unfold rp_X9_is at h
  refine rc_aload_n (pc := 0) hC dX9_is_0 rfl rfl ?_
  refine rc_r_mget (pc := 1) hC hF rF_X9_170 rfl dX9_is_1 h ?_
  intro x1 h
  refine rc_iload_n (pc := 4) hC dX9_is_4 rfl rfl ?_
  refine rc_icmp_eq (pc := 5) (tgt := 16) hC dX9_is_5 rfl h ?_ ?_
  · intro _ h
    refine rc_drop [false, false] (L' := [none, none]) rfl ?_
    exact rw_X9_is_L16 hC hH hF   S h
  intro _ h
  refine rc_aload_n (pc := 8) hC dX9_is_8 rfl rfl ?_
  refine rc_iconst (pc := 9) hC (v := (1 : Int32)) dX9_is_9 rfl ?_
  refine rc_callM (pc := 10) hC (rw_X9_fail hH.1 (1 : Int32)) q2032 q2034 qs33 q149 q2035 rfl rd_X9_fail (hH.room (Nat.le_of_ble_eq_true rfl) (Nat.le_of_ble_eq_true rfl)) rfl rfl (Nat.le_of_ble_eq_true rfl) 1 rfl h.le.2.2 (Or.inl hF) h.br rfl dX9_is_10 ?_ (fun E q S hT => rc_out hC hH.2.2.2.2 hT)
  intro x2 S h
  show rc_Z Y S 13 [some (rc_q (some (rc_km (yr_K Y) 100))), some (rc_i v1)] [rc_i x2]
  refine rc_if_eq (pc := 13) (tgt := 20) hC dX9_is_13 rfl h ?_ ?_
  · intro _ h
    refine rc_iconst (pc := 20) hC (v := (0 : Int32)) dX9_is_20 rfl ?_
    exact rc_iret hC rfl rfl dX9_is_21 h rfl
  intro _ h
  refine rc_drop [false, false] (L' := [none, none]) rfl ?_
  exact rw_X9_is_L16 hC hH hF   S h
theorem rw_X9_laterWord {l : Launch} (hl : l.stackTraces = false) : rc_Cm l yX9_laterWord (ws_ yX9_laterWord cX9_laterWord 1 (Option.some Jvm.ClassFile.FieldType.int)) 6 128 rc_tI (rp_X9_laterWord ) [] := by
  refine rc_Cm_H hl (plainFor_of_name rY_X9) rfl (Nat.le_of_ble_eq_true rfl) ?_
  intro Y S hC hH hF h
  have hC : rc_C Y cX9_laterWord RX9 (Option.some Jvm.ClassFile.FieldType.int) 1 := hC
  show rc_Z Y S 0 [some (rc_q (some (rc_km (yr_K Y) 100)))] []
  unfold rp_X9_laterWord at h
  refine rc_aload_n (pc := 0) hC dX9_laterWord_0 rfl rfl ?_
  refine rc_r_textw (pc := 1) hC (i := 37) rfl dX9_laterWord_1 h ?_
  intro x1 h
  refine rc_callM (pc := 4) hC (rw_X9_says hH.1 x1) q2028 q2030 qs32 q149 q2031 rfl rd_X9_says (hH.room (Nat.le_of_ble_eq_true rfl) (Nat.le_of_ble_eq_true rfl)) rfl rfl (Nat.le_of_ble_eq_true rfl) 1 rfl h.le.2.2 (Or.inl hF) h.br rfl dX9_laterWord_4 ?_ (fun E q S hT => rc_out hC hH.2.2.2.2 hT)
  intro x2 S h
  show rc_Z Y S 7 [some (rc_q (some (rc_km (yr_K Y) 100)))] [rc_i x2]
  refine rc_if_eq (pc := 7) (tgt := 15) hC dX9_laterWord_7 rfl h ?_ ?_
  · intro _ h
    refine rc_aload_n (pc := 15) hC dX9_laterWord_15 rfl rfl ?_
    refine rc_r_textw (pc := 16) hC (i := 38) rfl dX9_laterWord_16 h ?_
    intro x3 h
    refine rc_callM (pc := 19) hC (rw_X9_says hH.1 x3) q2028 q2030 qs32 q149 q2031 rfl rd_X9_says (hH.room (Nat.le_of_ble_eq_true rfl) (Nat.le_of_ble_eq_true rfl)) rfl rfl (Nat.le_of_ble_eq_true rfl) 1 rfl h.le.2.2 (Or.inl hF) h.br rfl dX9_laterWord_19 ?_ (fun E q S hT => rc_out hC hH.2.2.2.2 hT)
    intro x4 S h
    show rc_Z Y S 22 [some (rc_q (some (rc_km (yr_K Y) 100)))] [rc_i x4]
    refine rc_if_eq (pc := 22) (tgt := 30) hC dX9_laterWord_22 rfl h ?_ ?_
    · intro _ h
      refine rc_aload_n (pc := 30) hC dX9_laterWord_30 rfl rfl ?_
      refine rc_r_textw (pc := 31) hC (i := 39) rfl dX9_laterWord_31 h ?_
      intro x5 h
      refine rc_callM (pc := 34) hC (rw_X9_says hH.1 x5) q2028 q2030 qs32 q149 q2031 rfl rd_X9_says (hH.room (Nat.le_of_ble_eq_true rfl) (Nat.le_of_ble_eq_true rfl)) rfl rfl (Nat.le_of_ble_eq_true rfl) 1 rfl h.le.2.2 (Or.inl hF) h.br rfl dX9_laterWord_34 ?_ (fun E q S hT => rc_out hC hH.2.2.2.2 hT)
      intro x6 S h
      show rc_Z Y S 37 [some (rc_q (some (rc_km (yr_K Y) 100)))] [rc_i x6]
      refine rc_if_eq (pc := 37) (tgt := 45) hC dX9_laterWord_37 rfl h ?_ ?_
      · intro _ h
        refine rc_aload_n (pc := 45) hC dX9_laterWord_45 rfl rfl ?_
        refine rc_r_textw (pc := 46) hC (i := 40) rfl dX9_laterWord_46 h ?_
        intro x7 h
        refine rc_callM (pc := 49) hC (rw_X9_says hH.1 x7) q2028 q2030 qs32 q149 q2031 rfl rd_X9_says (hH.room (Nat.le_of_ble_eq_true rfl) (Nat.le_of_ble_eq_true rfl)) rfl rfl (Nat.le_of_ble_eq_true rfl) 1 rfl h.le.2.2 (Or.inl hF) h.br rfl dX9_laterWord_49 ?_ (fun E q S hT => rc_out hC hH.2.2.2.2 hT)
        intro x8 S h
        show rc_Z Y S 52 [some (rc_q (some (rc_km (yr_K Y) 100)))] [rc_i x8]
        refine rc_if_eq (pc := 52) (tgt := 60) hC dX9_laterWord_52 rfl h ?_ ?_
        · intro _ h
          refine rc_aload_n (pc := 60) hC dX9_laterWord_60 rfl rfl ?_
          refine rc_r_textw (pc := 61) hC (i := 41) rfl dX9_laterWord_61 h ?_
          intro x9 h
          refine rc_callM (pc := 64) hC (rw_X9_says hH.1 x9) q2028 q2030 qs32 q149 q2031 rfl rd_X9_says (hH.room (Nat.le_of_ble_eq_true rfl) (Nat.le_of_ble_eq_true rfl)) rfl rfl (Nat.le_of_ble_eq_true rfl) 1 rfl h.le.2.2 (Or.inl hF) h.br rfl dX9_laterWord_64 ?_ (fun E q S hT => rc_out hC hH.2.2.2.2 hT)
          intro x10 S h
          show rc_Z Y S 67 [some (rc_q (some (rc_km (yr_K Y) 100)))] [rc_i x10]
          refine rc_if_eq (pc := 67) (tgt := 75) hC dX9_laterWord_67 rfl h ?_ ?_
          · intro _ h
            refine rc_aload_n (pc := 75) hC dX9_laterWord_75 rfl rfl ?_
            refine rc_r_textw (pc := 76) hC (i := 42) rfl dX9_laterWord_76 h ?_
            intro x11 h
            refine rc_callM (pc := 79) hC (rw_X9_says hH.1 x11) q2028 q2030 qs32 q149 q2031 rfl rd_X9_says (hH.room (Nat.le_of_ble_eq_true rfl) (Nat.le_of_ble_eq_true rfl)) rfl rfl (Nat.le_of_ble_eq_true rfl) 1 rfl h.le.2.2 (Or.inl hF) h.br rfl dX9_laterWord_79 ?_ (fun E q S hT => rc_out hC hH.2.2.2.2 hT)
            intro x12 S h
            show rc_Z Y S 82 [some (rc_q (some (rc_km (yr_K Y) 100)))] [rc_i x12]
            refine rc_if_eq (pc := 82) (tgt := 90) hC dX9_laterWord_82 rfl h ?_ ?_
            · intro _ h
              refine rc_aload_n (pc := 90) hC dX9_laterWord_90 rfl rfl ?_
              refine rc_r_textw (pc := 91) hC (i := 43) rfl dX9_laterWord_91 h ?_
              intro x13 h
              refine rc_callM (pc := 94) hC (rw_X9_says hH.1 x13) q2028 q2030 qs32 q149 q2031 rfl rd_X9_says (hH.room (Nat.le_of_ble_eq_true rfl) (Nat.le_of_ble_eq_true rfl)) rfl rfl (Nat.le_of_ble_eq_true rfl) 1 rfl h.le.2.2 (Or.inl hF) h.br rfl dX9_laterWord_94 ?_ (fun E q S hT => rc_out hC hH.2.2.2.2 hT)
              intro x14 S h
              show rc_Z Y S 97 [some (rc_q (some (rc_km (yr_K Y) 100)))] [rc_i x14]
              refine rc_if_eq (pc := 97) (tgt := 105) hC dX9_laterWord_97 rfl h ?_ ?_
              · intro _ h
                refine rc_iconst (pc := 105) hC (v := (-1 : Int32)) dX9_laterWord_105 rfl ?_
                exact rc_iret hC rfl rfl dX9_laterWord_106 h rfl
              intro _ h
              refine rc_bipush (pc := 100) hC (v := (12 : Int32)) dX9_laterWord_100 rfl ?_
              refine rc_goto (pc := 102) (tgt := 106) hC dX9_laterWord_102 rfl ?_
              exact rc_iret hC rfl rfl dX9_laterWord_106 h rfl
            intro _ h
            refine rc_bipush (pc := 85) hC (v := (11 : Int32)) dX9_laterWord_85 rfl ?_
            refine rc_goto (pc := 87) (tgt := 106) hC dX9_laterWord_87 rfl ?_
            exact rc_iret hC rfl rfl dX9_laterWord_106 h rfl
          intro _ h
          refine rc_bipush (pc := 70) hC (v := (10 : Int32)) dX9_laterWord_70 rfl ?_
          refine rc_goto (pc := 72) (tgt := 106) hC dX9_laterWord_72 rfl ?_
          exact rc_iret hC rfl rfl dX9_laterWord_106 h rfl
        intro _ h
        refine rc_bipush (pc := 55) hC (v := (9 : Int32)) dX9_laterWord_55 rfl ?_
        refine rc_goto (pc := 57) (tgt := 106) hC dX9_laterWord_57 rfl ?_
        exact rc_iret hC rfl rfl dX9_laterWord_106 h rfl
      intro _ h
      refine rc_bipush (pc := 40) hC (v := (8 : Int32)) dX9_laterWord_40 rfl ?_
      refine rc_goto (pc := 42) (tgt := 106) hC dX9_laterWord_42 rfl ?_
      exact rc_iret hC rfl rfl dX9_laterWord_106 h rfl
    intro _ h
    refine rc_bipush (pc := 25) hC (v := (7 : Int32)) dX9_laterWord_25 rfl ?_
    refine rc_goto (pc := 27) (tgt := 106) hC dX9_laterWord_27 rfl ?_
    exact rc_iret hC rfl rfl dX9_laterWord_106 h rfl
  intro _ h
  refine rc_bipush (pc := 10) hC (v := (6 : Int32)) dX9_laterWord_10 rfl ?_
  refine rc_goto (pc := 12) (tgt := 106) hC dX9_laterWord_12 rfl ?_
  exact rc_iret hC rfl rfl dX9_laterWord_106 h rfl
theorem rw_X9_wordAhead {l : Launch} (hl : l.stackTraces = false) : rc_Cm l yX9_wordAhead (ws_ yX9_wordAhead cX9_wordAhead 1 (Option.some Jvm.ClassFile.FieldType.int)) 7 148 rc_tI (rp_X9_wordAhead ) [] := by
  refine rc_Cm_H hl (plainFor_of_name rY_X9) rfl (Nat.le_of_ble_eq_true rfl) ?_
  intro Y S hC hH hF h
  have hC : rc_C Y cX9_wordAhead RX9 (Option.some Jvm.ClassFile.FieldType.int) 1 := hC
  show rc_Z Y S 0 [some (rc_q (some (rc_km (yr_K Y) 100)))] []
  unfold rp_X9_wordAhead at h
  refine rc_aload_n (pc := 0) hC dX9_wordAhead_0 rfl rfl ?_
  refine rc_r_textw (pc := 1) hC (i := 31) rfl dX9_wordAhead_1 h ?_
  intro x1 h
  refine rc_callM (pc := 4) hC (rw_X9_says hH.1 x1) q2028 q2030 qs32 q149 q2031 rfl rd_X9_says (hH.room (Nat.le_of_ble_eq_true rfl) (Nat.le_of_ble_eq_true rfl)) rfl rfl (Nat.le_of_ble_eq_true rfl) 1 rfl h.le.2.2 (Or.inl hF) h.br rfl dX9_wordAhead_4 ?_ (fun E q S hT => rc_out hC hH.2.2.2.2 hT)
  intro x2 S h
  show rc_Z Y S 7 [some (rc_q (some (rc_km (yr_K Y) 100)))] [rc_i x2]
  refine rc_if_eq (pc := 7) (tgt := 14) hC dX9_wordAhead_7 rfl h ?_ ?_
  · intro _ h
    refine rc_aload_n (pc := 14) hC dX9_wordAhead_14 rfl rfl ?_
    refine rc_r_textw (pc := 15) hC (i := 32) rfl dX9_wordAhead_15 h ?_
    intro x3 h
    refine rc_callM (pc := 18) hC (rw_X9_says hH.1 x3) q2028 q2030 qs32 q149 q2031 rfl rd_X9_says (hH.room (Nat.le_of_ble_eq_true rfl) (Nat.le_of_ble_eq_true rfl)) rfl rfl (Nat.le_of_ble_eq_true rfl) 1 rfl h.le.2.2 (Or.inl hF) h.br rfl dX9_wordAhead_18 ?_ (fun E q S hT => rc_out hC hH.2.2.2.2 hT)
    intro x4 S h
    show rc_Z Y S 21 [some (rc_q (some (rc_km (yr_K Y) 100)))] [rc_i x4]
    refine rc_if_eq (pc := 21) (tgt := 28) hC dX9_wordAhead_21 rfl h ?_ ?_
    · intro _ h
      refine rc_aload_n (pc := 28) hC dX9_wordAhead_28 rfl rfl ?_
      refine rc_r_textw (pc := 29) hC (i := 33) rfl dX9_wordAhead_29 h ?_
      intro x5 h
      refine rc_callM (pc := 32) hC (rw_X9_says hH.1 x5) q2028 q2030 qs32 q149 q2031 rfl rd_X9_says (hH.room (Nat.le_of_ble_eq_true rfl) (Nat.le_of_ble_eq_true rfl)) rfl rfl (Nat.le_of_ble_eq_true rfl) 1 rfl h.le.2.2 (Or.inl hF) h.br rfl dX9_wordAhead_32 ?_ (fun E q S hT => rc_out hC hH.2.2.2.2 hT)
      intro x6 S h
      show rc_Z Y S 35 [some (rc_q (some (rc_km (yr_K Y) 100)))] [rc_i x6]
      refine rc_if_eq (pc := 35) (tgt := 42) hC dX9_wordAhead_35 rfl h ?_ ?_
      · intro _ h
        refine rc_aload_n (pc := 42) hC dX9_wordAhead_42 rfl rfl ?_
        refine rc_r_textw (pc := 43) hC (i := 34) rfl dX9_wordAhead_43 h ?_
        intro x7 h
        refine rc_callM (pc := 46) hC (rw_X9_says hH.1 x7) q2028 q2030 qs32 q149 q2031 rfl rd_X9_says (hH.room (Nat.le_of_ble_eq_true rfl) (Nat.le_of_ble_eq_true rfl)) rfl rfl (Nat.le_of_ble_eq_true rfl) 1 rfl h.le.2.2 (Or.inl hF) h.br rfl dX9_wordAhead_46 ?_ (fun E q S hT => rc_out hC hH.2.2.2.2 hT)
        intro x8 S h
        show rc_Z Y S 49 [some (rc_q (some (rc_km (yr_K Y) 100)))] [rc_i x8]
        refine rc_if_eq (pc := 49) (tgt := 56) hC dX9_wordAhead_49 rfl h ?_ ?_
        · intro _ h
          refine rc_aload_n (pc := 56) hC dX9_wordAhead_56 rfl rfl ?_
          refine rc_r_textw (pc := 57) hC (i := 35) rfl dX9_wordAhead_57 h ?_
          intro x9 h
          refine rc_callM (pc := 60) hC (rw_X9_says hH.1 x9) q2028 q2030 qs32 q149 q2031 rfl rd_X9_says (hH.room (Nat.le_of_ble_eq_true rfl) (Nat.le_of_ble_eq_true rfl)) rfl rfl (Nat.le_of_ble_eq_true rfl) 1 rfl h.le.2.2 (Or.inl hF) h.br rfl dX9_wordAhead_60 ?_ (fun E q S hT => rc_out hC hH.2.2.2.2 hT)
          intro x10 S h
          show rc_Z Y S 63 [some (rc_q (some (rc_km (yr_K Y) 100)))] [rc_i x10]
          refine rc_if_eq (pc := 63) (tgt := 70) hC dX9_wordAhead_63 rfl h ?_ ?_
          · intro _ h
            refine rc_aload_n (pc := 70) hC dX9_wordAhead_70 rfl rfl ?_
            refine rc_r_textw (pc := 71) hC (i := 36) rfl dX9_wordAhead_71 h ?_
            intro x11 h
            refine rc_callM (pc := 74) hC (rw_X9_says hH.1 x11) q2028 q2030 qs32 q149 q2031 rfl rd_X9_says (hH.room (Nat.le_of_ble_eq_true rfl) (Nat.le_of_ble_eq_true rfl)) rfl rfl (Nat.le_of_ble_eq_true rfl) 1 rfl h.le.2.2 (Or.inl hF) h.br rfl dX9_wordAhead_74 ?_ (fun E q S hT => rc_out hC hH.2.2.2.2 hT)
            intro x12 S h
            show rc_Z Y S 77 [some (rc_q (some (rc_km (yr_K Y) 100)))] [rc_i x12]
            refine rc_if_eq (pc := 77) (tgt := 84) hC dX9_wordAhead_77 rfl h ?_ ?_
            · intro _ h
              refine rc_aload_n (pc := 84) hC dX9_wordAhead_84 rfl rfl ?_
              refine rc_callM (pc := 85) hC (rw_X9_laterWord hH.1) q2054 q2056 qs37 q149 q2057 rfl rd_X9_laterWord (hH.room (Nat.le_of_ble_eq_true rfl) (Nat.le_of_ble_eq_true rfl)) rfl rfl (Nat.le_of_ble_eq_true rfl) 0 rfl h.le.2.2 (Or.inl hF) h.br rfl dX9_wordAhead_85 ?_ (fun E q S hT => rc_out hC hH.2.2.2.2 hT)
              intro x13 S h
              show rc_Z Y S 88 [some (rc_q (some (rc_km (yr_K Y) 100)))] [rc_i x13]
              exact rc_iret hC rfl rfl dX9_wordAhead_88 h rfl
            intro _ h
            refine rc_iconst (pc := 80) hC (v := (5 : Int32)) dX9_wordAhead_80 rfl ?_
            refine rc_goto (pc := 81) (tgt := 88) hC dX9_wordAhead_81 rfl ?_
            exact rc_iret hC rfl rfl dX9_wordAhead_88 h rfl
          intro _ h
          refine rc_iconst (pc := 66) hC (v := (4 : Int32)) dX9_wordAhead_66 rfl ?_
          refine rc_goto (pc := 67) (tgt := 88) hC dX9_wordAhead_67 rfl ?_
          exact rc_iret hC rfl rfl dX9_wordAhead_88 h rfl
        intro _ h
        refine rc_iconst (pc := 52) hC (v := (3 : Int32)) dX9_wordAhead_52 rfl ?_
        refine rc_goto (pc := 53) (tgt := 88) hC dX9_wordAhead_53 rfl ?_
        exact rc_iret hC rfl rfl dX9_wordAhead_88 h rfl
      intro _ h
      refine rc_iconst (pc := 38) hC (v := (2 : Int32)) dX9_wordAhead_38 rfl ?_
      refine rc_goto (pc := 39) (tgt := 88) hC dX9_wordAhead_39 rfl ?_
      exact rc_iret hC rfl rfl dX9_wordAhead_88 h rfl
    intro _ h
    refine rc_iconst (pc := 24) hC (v := (1 : Int32)) dX9_wordAhead_24 rfl ?_
    refine rc_goto (pc := 25) (tgt := 88) hC dX9_wordAhead_25 rfl ?_
    exact rc_iret hC rfl rfl dX9_wordAhead_88 h rfl
  intro _ h
  refine rc_iconst (pc := 10) hC (v := (0 : Int32)) dX9_wordAhead_10 rfl ?_
  refine rc_goto (pc := 11) (tgt := 88) hC dX9_wordAhead_11 rfl ?_
  exact rc_iret hC rfl rfl dX9_wordAhead_88 h rfl
theorem rw_X9_in {l : Launch} (hl : l.stackTraces = false) (v0 : Int32) (v1 : Int32) (v2 : Int32) : rc_Ct l yX9_in (ws_ yX9_in cX9_in 3 (Option.some Jvm.ClassFile.FieldType.boolean)) 0 0 rc_tI (rp_X9_in v0 v1 v2) [rc_i v0, rc_i v1, rc_i v2] := by
  refine rc_Ct_H hl (plainFor_of_name rY_X9) rfl (Nat.le_of_ble_eq_true rfl) (L0 := [some (rc_i v0), some (rc_i v1), some (rc_i v2)]) rfl ?_
  intro Y S hC hH h
  have hC : rc_C Y cX9_in RX9 (Option.some Jvm.ClassFile.FieldType.boolean) 3 := hC
  unfold rp_X9_in at h
  refine rc_iload_n (pc := 0) hC dX9_in_0 rfl rfl ?_
  refine rc_iload_n (pc := 1) hC dX9_in_1 rfl rfl ?_
  refine rc_icmp_lt (pc := 2) (tgt := 14) hC dX9_in_2 rfl h ?_ ?_
  · intro _ h
    refine rc_iconst (pc := 14) hC (v := (0 : Int32)) dX9_in_14 rfl ?_
    exact rc_iret hC rfl rfl dX9_in_15 h rfl
  intro _ h
  refine rc_iload_n (pc := 5) hC dX9_in_5 rfl rfl ?_
  refine rc_iload_n (pc := 6) hC dX9_in_6 rfl rfl ?_
  refine rc_icmp_gt (pc := 7) (tgt := 14) hC dX9_in_7 rfl h ?_ ?_
  · intro _ h
    refine rc_iconst (pc := 14) hC (v := (0 : Int32)) dX9_in_14 rfl ?_
    exact rc_iret hC rfl rfl dX9_in_15 h rfl
  intro _ h
  refine rc_iconst (pc := 10) hC (v := (1 : Int32)) dX9_in_10 rfl ?_
  refine rc_goto (pc := 11) (tgt := 15) hC dX9_in_11 rfl ?_
  exact rc_iret hC rfl rfl dX9_in_15 h rfl
theorem rw_X9_number {l : Launch} (hl : l.stackTraces = false) (v1 : Int32) (v2 : Int32) (v3 : Int32) : rc_Cm l yX9_number (ws_ yX9_number cX9_number 4 (Option.some Jvm.ClassFile.FieldType.boolean)) 2 42 rc_tI (rp_X9_number v1 v2 v3) [rc_i v1, rc_i v2, rc_i v3] := by
  refine rc_Cm_H hl (plainFor_of_name rY_X9) rfl (Nat.le_of_ble_eq_true rfl) ?_
  intro Y S hC hH hF h
  have hC : rc_C Y cX9_number RX9 (Option.some Jvm.ClassFile.FieldType.boolean) 4 := hC
  show rc_Z Y S 0 [some (rc_q (some (rc_km (yr_K Y) 100))), some (rc_i v1), some (rc_i v2), some (rc_i v3)] []
  unfold rp_X9_number at h
  refine rc_aload_n (pc := 0) hC dX9_number_0 rfl rfl ?_
  refine rc_iconst (pc := 1) hC (v := (3 : Int32)) dX9_number_1 rfl ?_
  refine rc_callM (pc := 2) hC (rw_X9_is hH.1 (3 : Int32)) q2036 q2038 qs34 q149 q2039 rfl rd_X9_is (hH.room (Nat.le_of_ble_eq_true rfl) (Nat.le_of_ble_eq_true rfl)) rfl rfl (Nat.le_of_ble_eq_true rfl) 1 rfl h.le.2.2 (Or.inl hF) h.br rfl dX9_number_2 ?_ (fun E q S hT => rc_out hC hH.2.2.2.2 hT)
  intro x1 S h
  show rc_Z Y S 5 [some (rc_q (some (rc_km (yr_K Y) 100))), some (rc_i v1), some (rc_i v2), some (rc_i v3)] [rc_i x1]
  refine rc_if_ne (pc := 5) (tgt := 10) hC dX9_number_5 rfl h ?_ ?_
  · intro _ h
    refine rc_aload_n (pc := 10) hC dX9_number_10 rfl rfl ?_
    refine rc_r_mget (pc := 11) hC hF rF_X9_176 rfl dX9_number_11 h ?_
    intro x2 h
    refine rc_iload_n (pc := 14) hC dX9_number_14 rfl rfl ?_
    refine rc_iload_n (pc := 15) hC dX9_number_15 rfl rfl ?_
    refine rc_callS (pc := 16) hC (rw_X9_in hH.1 x2 v2 v3) q2073 q2074 q149 q2075 rd_X9_in (hH.room (Nat.le_of_ble_eq_true rfl) (Nat.le_of_ble_eq_true rfl)) rfl rfl (Nat.le_of_ble_eq_true rfl) 3 rfl h.le.2.2 h.br rfl dX9_number_16 ?_ (fun E q S hT => rc_out hC hH.2.2.2.2 hT)
    intro x3 S h
    show rc_Z Y S 19 [some (rc_q (some (rc_km (yr_K Y) 100))), some (rc_i v1), some (rc_i v2), some (rc_i v3)] [rc_i x3]
    refine rc_if_ne (pc := 19) (tgt := 28) hC dX9_number_19 rfl h ?_ ?_
    · intro _ h
      refine rc_aload_n (pc := 28) hC dX9_number_28 rfl rfl ?_
      refine rc_r_mref (pc := 29) hC hF rF_X9_42 (by decide) dX9_number_29 h ?_
      refine rc_iload_n (pc := 32) hC dX9_number_32 rfl rfl ?_
      refine rc_aload_n (pc := 33) hC dX9_number_33 rfl rfl ?_
      refine rc_r_mget (pc := 34) hC hF rF_X9_176 rfl dX9_number_34 h ?_
      intro x5 h
      refine rc_r_mast (pc := 37) hC hF (j := 22) (by decide) rfl dX9_number_37 h ?_
      intro S h
      refine rc_aload_n (pc := 38) hC dX9_number_38 rfl rfl ?_
      refine rc_callM (pc := 39) hC (rw_X9_next hH.1) q2016 q2018 qs30 q149 q2019 rfl rd_X9_next (hH.room (Nat.le_of_ble_eq_true rfl) (Nat.le_of_ble_eq_true rfl)) rfl rfl (Nat.le_of_ble_eq_true rfl) 0 rfl h.le.2.2 (Or.inl hF) h.br rfl dX9_number_39 ?_ (fun E q S hT => rc_out hC hH.2.2.2.2 hT)
      intro _ S h
      show rc_Z Y S 42 [some (rc_q (some (rc_km (yr_K Y) 100))), some (rc_i v1), some (rc_i v2), some (rc_i v3)] []
      refine rc_iconst (pc := 42) hC (v := (1 : Int32)) dX9_number_42 rfl ?_
      exact rc_iret hC rfl rfl dX9_number_43 h rfl
    intro _ h
    refine rc_aload_n (pc := 22) hC dX9_number_22 rfl rfl ?_
    refine rc_iconst (pc := 23) hC (v := (2 : Int32)) dX9_number_23 rfl ?_
    refine rc_callM (pc := 24) hC (rw_X9_fail hH.1 (2 : Int32)) q2032 q2034 qs33 q149 q2035 rfl rd_X9_fail (hH.room (Nat.le_of_ble_eq_true rfl) (Nat.le_of_ble_eq_true rfl)) rfl rfl (Nat.le_of_ble_eq_true rfl) 1 rfl h.le.2.2 (Or.inl hF) h.br rfl dX9_number_24 ?_ (fun E q S hT => rc_out hC hH.2.2.2.2 hT)
    intro x6 S h
    show rc_Z Y S 27 [some (rc_q (some (rc_km (yr_K Y) 100))), some (rc_i v1), some (rc_i v2), some (rc_i v3)] [rc_i x6]
    obtain ⟨hn, h⟩ := h.nar
    exact rc_iret hC rfl hn dX9_number_27 h rfl
  intro _ h
  refine rc_iconst (pc := 8) hC (v := (0 : Int32)) dX9_number_8 rfl ?_
  exact rc_iret hC rfl rfl dX9_number_9 h rfl
theorem rw_X9_stops_L20 {Y : rc_Y} (hC : rc_C Y cX9_stops RX9 (Option.some Jvm.ClassFile.FieldType.boolean) 2) (hH : rc_H Y 2 42 yX9_stops.name) (hF : yr_F Y = true) (S : rc_S) (h : rc_Go Y rc_tI (rp_X9_stops_L20  ) S) : rc_Z Y S 20 [none, none] [] := by
  unfold rp_X9_stops_L20 at h
  refine rc_iconst (pc := 20) hC (v := (1 : Int32)) dX9_stops_20 rfl ?_
  refine rc_goto (pc := 21) (tgt := 25) hC dX9_stops_21 rfl ?_
  exact rc_iret hC rfl rfl dX9_stops_25 h rfl
theorem rw_X9_stops {l : Launch} (hl : l.stackTraces = false) (v1 : Int32) : rc_Cm l yX9_stops (ws_ yX9_stops cX9_stops 2 (Option.some Jvm.ClassFile.FieldType.boolean)) 2 42 rc_tI (rp_X9_stops v1) [rc_i v1] := by
  refine rc_Cm_H hl (plainFor_of_name rY_X9) rfl (Nat.le_of_ble_eq_true rfl) ?_
  intro Y S hC hH hF h
  have hC : rc_C Y cX9_stops RX9 (Option.some Jvm.ClassFile.FieldType.boolean) 2 := hC
  show rc_Z Y S 0 [some (rc_q (some (rc_km (yr_K Y) 100))), some (rc_i v1)] []
  unfold rp_X9_stops at h
  refine rc_aload_n (pc := 0) hC dX9_stops_0 rfl rfl ?_
  refine rc_iconst (pc := 1) hC (v := (1 : Int32)) dX9_stops_1 rfl ?_
  refine rc_callM (pc := 2) hC (rw_X9_is hH.1 (1 : Int32)) q2036 q2038 qs34 q149 q2039 rfl rd_X9_is (hH.room (Nat.le_of_ble_eq_true rfl) (Nat.le_of_ble_eq_true rfl)) rfl rfl (Nat.le_of_ble_eq_true rfl) 1 rfl h.le.2.2 (Or.inl hF) h.br rfl dX9_stops_2 ?_ (fun E q S hT => rc_out hC hH.2.2.2.2 hT)
  intro x1 S h
  show rc_Z Y S 5 [some (rc_q (some (rc_km (yr_K Y) 100))), some (rc_i v1)] [rc_i x1]
  refine rc_if_eq (pc := 5) (tgt := 24) hC dX9_stops_5 rfl h ?_ ?_
  · intro _ h
    refine rc_iconst (pc := 24) hC (v := (0 : Int32)) dX9_stops_24 rfl ?_
    exact rc_iret hC rfl rfl dX9_stops_25 h rfl
  intro _ h
  refine rc_iload_n (pc := 8) hC dX9_stops_8 rfl rfl ?_
  refine rc_if_ne (pc := 9) (tgt := 20) hC dX9_stops_9 rfl h ?_ ?_
  · intro _ h
    refine rc_drop [false, false] (L' := [none, none]) rfl ?_
    exact rw_X9_stops_L20 hC hH hF   S h
  intro _ h
  refine rc_aload_n (pc := 12) hC dX9_stops_12 rfl rfl ?_
  refine rc_iconst (pc := 13) hC (v := (3 : Int32)) dX9_stops_13 rfl ?_
  refine rc_callM (pc := 14) hC (rw_X9_fail hH.1 (3 : Int32)) q2032 q2034 qs33 q149 q2035 rfl rd_X9_fail (hH.room (Nat.le_of_ble_eq_true rfl) (Nat.le_of_ble_eq_true rfl)) rfl rfl (Nat.le_of_ble_eq_true rfl) 1 rfl h.le.2.2 (Or.inl hF) h.br rfl dX9_stops_14 ?_ (fun E q S hT => rc_out hC hH.2.2.2.2 hT)
  intro x2 S h
  show rc_Z Y S 17 [some (rc_q (some (rc_km (yr_K Y) 100))), some (rc_i v1)] [rc_i x2]
  refine rc_if_eq (pc := 17) (tgt := 24) hC dX9_stops_17 rfl h ?_ ?_
  · intro _ h
    refine rc_iconst (pc := 24) hC (v := (0 : Int32)) dX9_stops_24 rfl ?_
    exact rc_iret hC rfl rfl dX9_stops_25 h rfl
  intro _ h
  refine rc_drop [false, false] (L' := [none, none]) rfl ?_
  exact rw_X9_stops_L20 hC hH hF   S h
theorem rw_X9_builds {l : Launch} (hl : l.stackTraces = false) (v1 : Int32) : rc_Cm l yX9_builds (ws_ yX9_builds cX9_builds 2 (Option.some Jvm.ClassFile.FieldType.int)) 0 0 rc_tI (rp_X9_builds v1) [rc_i v1] := by
  refine rc_Cm_H hl (plainFor_of_name rY_X9) rfl (Nat.le_of_ble_eq_true rfl) ?_
  intro Y S hC hH hF h
  have hC : rc_C Y cX9_builds RX9 (Option.some Jvm.ClassFile.FieldType.int) 2 := hC
  show rc_Z Y S 0 [some (rc_q (some (rc_km (yr_K Y) 100))), some (rc_i v1)] []
  unfold rp_X9_builds at h
  refine rc_aload_n (pc := 0) hC dX9_builds_0 rfl rfl ?_
  refine rc_r_mref (pc := 1) hC hF rF_X9_7 (by decide) dX9_builds_1 h ?_
  refine rc_bipush (pc := 4) hC (v := (10 : Int32)) dX9_builds_4 rfl ?_
  refine rc_aload_n (pc := 6) hC dX9_builds_6 rfl rfl ?_
  refine rc_r_mref (pc := 7) hC hF rF_X9_7 (by decide) dX9_builds_7 h ?_
  refine rc_iconst (pc := 10) hC (v := (0 : Int32)) dX9_builds_10 rfl ?_
  refine rc_r_mald (pc := 11) hC hF (j := 0) (by decide) rfl dX9_builds_11 h ?_
  intro x3 h
  refine rc_iadd (pc := 12) hC dX9_builds_12 ?_
  refine rc_iload_n (pc := 13) hC dX9_builds_13 rfl rfl ?_
  refine rc_r_mast (pc := 14) hC hF (j := 0) (by decide) rfl dX9_builds_14 h ?_
  intro S h
  refine rc_aload_n (pc := 15) hC dX9_builds_15 rfl rfl ?_
  refine rc_r_mref (pc := 16) hC hF rF_X9_7 (by decide) dX9_builds_16 h ?_
  refine rc_bipush (pc := 19) hC (v := (20 : Int32)) dX9_builds_19 rfl ?_
  refine rc_aload_n (pc := 21) hC dX9_builds_21 rfl rfl ?_
  refine rc_r_mref (pc := 22) hC hF rF_X9_7 (by decide) dX9_builds_22 h ?_
  refine rc_iconst (pc := 25) hC (v := (0 : Int32)) dX9_builds_25 rfl ?_
  refine rc_r_mald (pc := 26) hC hF (j := 0) (by decide) rfl dX9_builds_26 h ?_
  intro x6 h
  refine rc_iadd (pc := 27) hC dX9_builds_27 ?_
  refine rc_iconst (pc := 28) hC (v := (-1 : Int32)) dX9_builds_28 rfl ?_
  refine rc_r_mast (pc := 29) hC hF (j := 0) (by decide) rfl dX9_builds_29 h ?_
  intro S h
  refine rc_aload_n (pc := 30) hC dX9_builds_30 rfl rfl ?_
  refine rc_r_mref (pc := 31) hC hF rF_X9_7 (by decide) dX9_builds_31 h ?_
  refine rc_iconst (pc := 34) hC (v := (0 : Int32)) dX9_builds_34 rfl ?_
  refine rc_dup2 (pc := 35) hC dX9_builds_35 rfl rfl ?_
  refine rc_r_mald (pc := 36) hC hF (j := 0) (by decide) rfl dX9_builds_36 h ?_
  intro x8 h
  refine rc_iconst (pc := 37) hC (v := (1 : Int32)) dX9_builds_37 rfl ?_
  refine rc_iadd (pc := 38) hC dX9_builds_38 ?_
  refine rc_r_mast (pc := 39) hC hF (j := 0) (by decide) rfl dX9_builds_39 h ?_
  intro S h
  refine rc_aload_n (pc := 40) hC dX9_builds_40 rfl rfl ?_
  refine rc_r_mref (pc := 41) hC hF rF_X9_7 (by decide) dX9_builds_41 h ?_
  refine rc_iconst (pc := 44) hC (v := (0 : Int32)) dX9_builds_44 rfl ?_
  refine rc_r_mald (pc := 45) hC hF (j := 0) (by decide) rfl dX9_builds_45 h ?_
  intro x10 h
  refine rc_iconst (pc := 46) hC (v := (1 : Int32)) dX9_builds_46 rfl ?_
  refine rc_isub (pc := 47) hC dX9_builds_47 ?_
  exact rc_iret hC rfl rfl dX9_builds_48 h rfl
theorem rw_X9_readsChimney_L28 {Y : rc_Y} (hC : rc_C Y cX9_readsChimney RX9 (Option.some Jvm.ClassFile.FieldType.boolean) 1) (hH : rc_H Y 3 65 yX9_readsChimney.name) (hF : yr_F Y = true) (s0 : Int32) (S : rc_S) (h : rc_Go Y rc_tI (rp_X9_readsChimney_L28  s0) S) : rc_Z Y S 28 [some (rc_q (some (rc_km (yr_K Y) 100)))] [rc_i s0, rc_q (some (rc_km (yr_K Y) 100))] := by
  unfold rp_X9_readsChimney_L28 at h
  refine rc_callM (pc := 28) hC (rw_X9_stops hH.1 s0) q2084 q2086 qs42 q149 q2087 rfl rd_X9_stops (hH.room (Nat.le_of_ble_eq_true rfl) (Nat.le_of_ble_eq_true rfl)) rfl rfl (Nat.le_of_ble_eq_true rfl) 1 rfl h.le.2.2 (Or.inl hF) h.br rfl dX9_readsChimney_28 ?_ (fun E q S hT => rc_out hC hH.2.2.2.2 hT)
  intro x1 S h
  show rc_Z Y S 31 [some (rc_q (some (rc_km (yr_K Y) 100)))] [rc_i x1]
  refine rc_if_ne (pc := 31) (tgt := 36) hC dX9_readsChimney_31 rfl h ?_ ?_
  · intro _ h
    refine rc_aload_n (pc := 36) hC dX9_readsChimney_36 rfl rfl ?_
    refine rc_aload_n (pc := 37) hC dX9_readsChimney_37 rfl rfl ?_
    refine rc_r_mref (pc := 38) hC hF rF_X9_42 (by decide) dX9_readsChimney_38 h ?_
    refine rc_iconst (pc := 41) hC (v := (0 : Int32)) dX9_readsChimney_41 rfl ?_
    refine rc_r_mald (pc := 42) hC hF (j := 22) (by decide) rfl dX9_readsChimney_42 h ?_
    intro x3 h
    refine rc_callM (pc := 43) hC (rw_X9_builds hH.1 x3) q2088 q2090 qs43 q149 q2091 rfl rd_X9_builds (hH.room (Nat.le_of_ble_eq_true rfl) (Nat.le_of_ble_eq_true rfl)) rfl rfl (Nat.le_of_ble_eq_true rfl) 1 rfl h.le.2.2 (Or.inl hF) h.br rfl dX9_readsChimney_43 ?_ (fun E q S hT => rc_out hC hH.2.2.2.2 hT)
    intro x4 S h
    show rc_Z Y S 46 [some (rc_q (some (rc_km (yr_K Y) 100)))] [rc_i x4]
    refine rc_pop (pc := 46) hC dX9_readsChimney_46 rfl ?_
    refine rc_iconst (pc := 47) hC (v := (1 : Int32)) dX9_readsChimney_47 rfl ?_
    exact rc_iret hC rfl rfl dX9_readsChimney_48 h rfl
  intro _ h
  refine rc_iconst (pc := 34) hC (v := (0 : Int32)) dX9_readsChimney_34 rfl ?_
  exact rc_iret hC rfl rfl dX9_readsChimney_35 h rfl
theorem rw_X9_readsChimney {l : Launch} (hl : l.stackTraces = false) : rc_Cm l yX9_readsChimney (ws_ yX9_readsChimney cX9_readsChimney 1 (Option.some Jvm.ClassFile.FieldType.boolean)) 3 65 rc_tI (rp_X9_readsChimney ) [] := by
  refine rc_Cm_H hl (plainFor_of_name rY_X9) rfl (Nat.le_of_ble_eq_true rfl) ?_
  intro Y S hC hH hF h
  have hC : rc_C Y cX9_readsChimney RX9 (Option.some Jvm.ClassFile.FieldType.boolean) 1 := hC
  show rc_Z Y S 0 [some (rc_q (some (rc_km (yr_K Y) 100)))] []
  unfold rp_X9_readsChimney at h
  refine rc_aload_n (pc := 0) hC dX9_readsChimney_0 rfl rfl ?_
  refine rc_iconst (pc := 1) hC (v := (0 : Int32)) dX9_readsChimney_1 rfl ?_
  refine rc_iconst (pc := 2) hC (v := (0 : Int32)) dX9_readsChimney_2 rfl ?_
  refine rc_bipush (pc := 3) hC (v := (9 : Int32)) dX9_readsChimney_3 rfl ?_
  refine rc_callM (pc := 5) hC (rw_X9_number hH.1 (0 : Int32) (0 : Int32) (9 : Int32)) q2069 q2071 qs39 q149 q2072 rfl rd_X9_number (hH.room (Nat.le_of_ble_eq_true rfl) (Nat.le_of_ble_eq_true rfl)) rfl rfl (Nat.le_of_ble_eq_true rfl) 3 rfl h.le.2.2 (Or.inl hF) h.br rfl dX9_readsChimney_5 ?_ (fun E q S hT => rc_out hC hH.2.2.2.2 hT)
  intro x1 S h
  show rc_Z Y S 8 [some (rc_q (some (rc_km (yr_K Y) 100)))] [rc_i x1]
  refine rc_if_eq (pc := 8) (tgt := 34) hC dX9_readsChimney_8 rfl h ?_ ?_
  · intro _ h
    refine rc_iconst (pc := 34) hC (v := (0 : Int32)) dX9_readsChimney_34 rfl ?_
    exact rc_iret hC rfl rfl dX9_readsChimney_35 h rfl
  intro _ h
  refine rc_aload_n (pc := 11) hC dX9_readsChimney_11 rfl rfl ?_
  refine rc_aload_n (pc := 12) hC dX9_readsChimney_12 rfl rfl ?_
  refine rc_r_mref (pc := 13) hC hF rF_X9_7 (by decide) dX9_readsChimney_13 h ?_
  refine rc_iconst (pc := 16) hC (v := (0 : Int32)) dX9_readsChimney_16 rfl ?_
  refine rc_r_mald (pc := 17) hC hF (j := 0) (by decide) rfl dX9_readsChimney_17 h ?_
  intro x3 h
  refine rc_bipush (pc := 18) hC (v := (10 : Int32)) dX9_readsChimney_18 rfl ?_
  refine rc_icmp_ge (pc := 20) (tgt := 27) hC dX9_readsChimney_20 rfl h ?_ ?_
  · intro _ h
    refine rc_iconst (pc := 27) hC (v := (0 : Int32)) dX9_readsChimney_27 rfl ?_
    exact rw_X9_readsChimney_L28 hC hH hF  (0 : Int32) S h
  intro _ h
  refine rc_iconst (pc := 23) hC (v := (1 : Int32)) dX9_readsChimney_23 rfl ?_
  refine rc_goto (pc := 24) (tgt := 28) hC dX9_readsChimney_24 rfl ?_
  exact rw_X9_readsChimney_L28 hC hH hF  (1 : Int32) S h
theorem rw_X9_chimneyAt {l : Launch} (hl : l.stackTraces = false) (v1 : Int32) : rc_Cm l yX9_chimneyAt (ws_ yX9_chimneyAt cX9_chimneyAt 2 (Option.some Jvm.ClassFile.FieldType.boolean)) 3 65 rc_tI (rp_X9_chimneyAt v1) [rc_i v1] := by
  refine rc_Cm_H hl (plainFor_of_name rY_X9) rfl (Nat.le_of_ble_eq_true rfl) ?_
  intro Y S hC hH hF h
  have hC : rc_C Y cX9_chimneyAt RX9 (Option.some Jvm.ClassFile.FieldType.boolean) 2 := hC
  show rc_Z Y S 0 [some (rc_q (some (rc_km (yr_K Y) 100))), some (rc_i v1)] []
  unfold rp_X9_chimneyAt at h
  refine rc_aload_n (pc := 0) hC dX9_chimneyAt_0 rfl rfl ?_
  refine rc_iload_n (pc := 1) hC dX9_chimneyAt_1 rfl rfl ?_
  refine rc_iconst (pc := 2) hC (v := (0 : Int32)) dX9_chimneyAt_2 rfl ?_
  refine rc_aload_n (pc := 3) hC dX9_chimneyAt_3 rfl rfl ?_
  refine rc_r_mref (pc := 4) hC hF rF_X9_7 (by decide) dX9_chimneyAt_4 h ?_
  refine rc_iconst (pc := 7) hC (v := (0 : Int32)) dX9_chimneyAt_7 rfl ?_
  refine rc_r_mald (pc := 8) hC hF (j := 0) (by decide) rfl dX9_chimneyAt_8 h ?_
  intro x2 h
  refine rc_iconst (pc := 9) hC (v := (1 : Int32)) dX9_chimneyAt_9 rfl ?_
  refine rc_isub (pc := 10) hC dX9_chimneyAt_10 ?_
  refine rc_callM (pc := 11) hC (rw_X9_number hH.1 v1 (0 : Int32) (x2 - (1 : Int32))) q2069 q2071 qs39 q149 q2072 rfl rd_X9_number (hH.room (Nat.le_of_ble_eq_true rfl) (Nat.le_of_ble_eq_true rfl)) rfl rfl (Nat.le_of_ble_eq_true rfl) 3 rfl h.le.2.2 (Or.inl hF) h.br rfl dX9_chimneyAt_11 ?_ (fun E q S hT => rc_out hC hH.2.2.2.2 hT)
  intro x3 S h
  show rc_Z Y S 14 [some (rc_q (some (rc_km (yr_K Y) 100))), some (rc_i v1)] [rc_i x3]
  obtain ⟨hn, h⟩ := h.nar
  exact rc_iret hC rfl hn dX9_chimneyAt_14 h rfl
theorem rw_X9_another_L29 {Y : rc_Y} (hC : rc_C Y cX9_another RX9 (Option.some Jvm.ClassFile.FieldType.boolean) 2) (hH : rc_H Y 3 65 yX9_another.name) (hF : yr_F Y = true) (v1 : Int32) (S : rc_S) (h : rc_Go Y rc_tI (rp_X9_another_L29  v1) S) : rc_Z Y S 29 [some (rc_q (some (rc_km (yr_K Y) 100))), some (rc_i v1)] [] := by
  unfold rp_X9_another_L29 at h
  refine rc_aload_n (pc := 29) hC dX9_another_29 rfl rfl ?_
  refine rc_iconst (pc := 30) hC (v := (1 : Int32)) dX9_another_30 rfl ?_
  refine rc_iconst (pc := 31) hC (v := (0 : Int32)) dX9_another_31 rfl ?_
  refine rc_iload_n (pc := 32) hC dX9_another_32 rfl rfl ?_
  refine rc_callM (pc := 33) hC (rw_X9_number hH.1 (1 : Int32) (0 : Int32) v1) q2069 q2071 qs39 q149 q2072 rfl rd_X9_number (hH.room (Nat.le_of_ble_eq_true rfl) (Nat.le_of_ble_eq_true rfl)) rfl rfl (Nat.le_of_ble_eq_true rfl) 3 rfl h.le.2.2 (Or.inl hF) h.br rfl dX9_another_33 ?_ (fun E q S hT => rc_out hC hH.2.2.2.2 hT)
  intro x1 S h
  show rc_Z Y S 36 [some (rc_q (some (rc_km (yr_K Y) 100))), some (rc_i v1)] [rc_i x1]
  obtain ⟨hn, h⟩ := h.nar
  exact rc_iret hC rfl hn dX9_another_36 h rfl
theorem rw_X9_another {l : Launch} (hl : l.stackTraces = false) (v1 : Int32) : rc_Cm l yX9_another (ws_ yX9_another cX9_another 2 (Option.some Jvm.ClassFile.FieldType.boolean)) 3 65 rc_tI (rp_X9_another v1) [rc_i v1] := by
  refine rc_Cm_H hl (plainFor_of_name rY_X9) rfl (Nat.le_of_ble_eq_true rfl) ?_
  intro Y S hC hH hF h
  have hC : rc_C Y cX9_another RX9 (Option.some Jvm.ClassFile.FieldType.boolean) 2 := hC
  show rc_Z Y S 0 [some (rc_q (some (rc_km (yr_K Y) 100))), some (rc_i v1)] []
  unfold rp_X9_another at h
  refine rc_aload_n (pc := 0) hC dX9_another_0 rfl rfl ?_
  refine rc_r_mget (pc := 1) hC hF rF_X9_170 rfl dX9_another_1 h ?_
  intro x1 h
  refine rc_iconst (pc := 4) hC (v := (3 : Int32)) dX9_another_4 rfl ?_
  refine rc_icmp_ne (pc := 5) (tgt := 29) hC dX9_another_5 rfl h ?_ ?_
  · intro _ h
    exact rw_X9_another_L29 hC hH hF  v1 S h
  intro _ h
  refine rc_aload_n (pc := 8) hC dX9_another_8 rfl rfl ?_
  refine rc_r_mget (pc := 9) hC hF rF_X9_176 rfl dX9_another_9 h ?_
  intro x2 h
  refine rc_aload_n (pc := 12) hC dX9_another_12 rfl rfl ?_
  refine rc_r_mref (pc := 13) hC hF rF_X9_42 (by decide) dX9_another_13 h ?_
  refine rc_iconst (pc := 16) hC (v := (0 : Int32)) dX9_another_16 rfl ?_
  refine rc_r_mald (pc := 17) hC hF (j := 22) (by decide) rfl dX9_another_17 h ?_
  intro x4 h
  refine rc_icmp_ne (pc := 18) (tgt := 29) hC dX9_another_18 rfl h ?_ ?_
  · intro _ h
    exact rw_X9_another_L29 hC hH hF  v1 S h
  intro _ h
  refine rc_aload_n (pc := 21) hC dX9_another_21 rfl rfl ?_
  refine rc_iconst (pc := 22) hC (v := (2 : Int32)) dX9_another_22 rfl ?_
  refine rc_callM (pc := 23) hC (rw_X9_fail hH.1 (2 : Int32)) q2032 q2034 qs33 q149 q2035 rfl rd_X9_fail (hH.room (Nat.le_of_ble_eq_true rfl) (Nat.le_of_ble_eq_true rfl)) rfl rfl (Nat.le_of_ble_eq_true rfl) 1 rfl h.le.2.2 (Or.inl hF) h.br rfl dX9_another_23 ?_ (fun E q S hT => rc_out hC hH.2.2.2.2 hT)
  intro x5 S h
  show rc_Z Y S 26 [some (rc_q (some (rc_km (yr_K Y) 100))), some (rc_i v1)] [rc_i x5]
  refine rc_goto (pc := 26) (tgt := 36) hC dX9_another_26 rfl ?_
  obtain ⟨hn, h⟩ := h.nar
  exact rc_iret hC rfl hn dX9_another_36 h rfl
theorem rw_X9_lays {l : Launch} (hl : l.stackTraces = false) (v1 : Int32) (v2 : Int32) (v3 : Int32) : rc_Cm l yX9_lays (ws_ yX9_lays cX9_lays 5 (Option.some Jvm.ClassFile.FieldType.int)) 0 0 rc_tI (rp_X9_lays v1 v2 v3) [rc_i v1, rc_i v2, rc_i v3] := by
  refine rc_Cm_H hl (plainFor_of_name rY_X9) rfl (Nat.le_of_ble_eq_true rfl) ?_
  intro Y S hC hH hF h
  have hC : rc_C Y cX9_lays RX9 (Option.some Jvm.ClassFile.FieldType.int) 5 := hC
  show rc_Z Y S 0 [some (rc_q (some (rc_km (yr_K Y) 100))), some (rc_i v1), some (rc_i v2), some (rc_i v3), none] []
  unfold rp_X9_lays at h
  refine rc_bipush (pc := 0) hC (v := (30 : Int32)) dX9_lays_0 rfl ?_
  refine rc_iconst (pc := 2) hC (v := (3 : Int32)) dX9_lays_2 rfl ?_
  refine rc_aload_n (pc := 3) hC dX9_lays_3 rfl rfl ?_
  refine rc_r_mref (pc := 4) hC hF rF_X9_7 (by decide) dX9_lays_4 h ?_
  refine rc_iconst (pc := 7) hC (v := (1 : Int32)) dX9_lays_7 rfl ?_
  refine rc_r_mald (pc := 8) hC hF (j := 0) (by decide) rfl dX9_lays_8 h ?_
  intro x2 h
  refine rc_imul (pc := 9) hC dX9_lays_9 ?_
  refine rc_iadd (pc := 10) hC dX9_lays_10 ?_
  refine rc_istore (pc := 11) hC (L' := [some (rc_q (some (rc_km (yr_K Y) 100))), some (rc_i v1), some (rc_i v2), some (rc_i v3), some (rc_i ((30 : Int32) + ((3 : Int32) * x2)))]) dX9_lays_11 (Nat.le_of_ble_eq_true rfl) rfl rfl ?_
  refine rc_aload_n (pc := 13) hC dX9_lays_13 rfl rfl ?_
  refine rc_r_mref (pc := 14) hC hF rF_X9_7 (by decide) dX9_lays_14 h ?_
  refine rc_iload (pc := 17) hC dX9_lays_17 rfl ?_
  refine rc_iconst (pc := 19) hC (v := (0 : Int32)) dX9_lays_19 rfl ?_
  refine rc_iadd (pc := 20) hC dX9_lays_20 ?_
  refine rc_iload_n (pc := 21) hC dX9_lays_21 rfl rfl ?_
  refine rc_r_mast (pc := 22) hC hF (j := 0) (by decide) rfl dX9_lays_22 h ?_
  intro S h
  refine rc_aload_n (pc := 23) hC dX9_lays_23 rfl rfl ?_
  refine rc_r_mref (pc := 24) hC hF rF_X9_7 (by decide) dX9_lays_24 h ?_
  refine rc_iload (pc := 27) hC dX9_lays_27 rfl ?_
  refine rc_iconst (pc := 29) hC (v := (1 : Int32)) dX9_lays_29 rfl ?_
  refine rc_iadd (pc := 30) hC dX9_lays_30 ?_
  refine rc_iload_n (pc := 31) hC dX9_lays_31 rfl rfl ?_
  refine rc_r_mast (pc := 32) hC hF (j := 0) (by decide) rfl dX9_lays_32 h ?_
  intro S h
  refine rc_aload_n (pc := 33) hC dX9_lays_33 rfl rfl ?_
  refine rc_r_mref (pc := 34) hC hF rF_X9_7 (by decide) dX9_lays_34 h ?_
  refine rc_iload (pc := 37) hC dX9_lays_37 rfl ?_
  refine rc_iconst (pc := 39) hC (v := (2 : Int32)) dX9_lays_39 rfl ?_
  refine rc_iadd (pc := 40) hC dX9_lays_40 ?_
  refine rc_iload_n (pc := 41) hC dX9_lays_41 rfl rfl ?_
  refine rc_r_mast (pc := 42) hC hF (j := 0) (by decide) rfl dX9_lays_42 h ?_
  intro S h
  refine rc_aload_n (pc := 43) hC dX9_lays_43 rfl rfl ?_
  refine rc_r_mref (pc := 44) hC hF rF_X9_7 (by decide) dX9_lays_44 h ?_
  refine rc_iconst (pc := 47) hC (v := (1 : Int32)) dX9_lays_47 rfl ?_
  refine rc_dup2 (pc := 48) hC dX9_lays_48 rfl rfl ?_
  refine rc_r_mald (pc := 49) hC hF (j := 0) (by decide) rfl dX9_lays_49 h ?_
  intro x7 h
  refine rc_iconst (pc := 50) hC (v := (1 : Int32)) dX9_lays_50 rfl ?_
  refine rc_iadd (pc := 51) hC dX9_lays_51 ?_
  refine rc_r_mast (pc := 52) hC hF (j := 0) (by decide) rfl dX9_lays_52 h ?_
  intro S h
  refine rc_aload_n (pc := 53) hC dX9_lays_53 rfl rfl ?_
  refine rc_r_mref (pc := 54) hC hF rF_X9_7 (by decide) dX9_lays_54 h ?_
  refine rc_iconst (pc := 57) hC (v := (1 : Int32)) dX9_lays_57 rfl ?_
  refine rc_r_mald (pc := 58) hC hF (j := 0) (by decide) rfl dX9_lays_58 h ?_
  intro x9 h
  refine rc_iconst (pc := 59) hC (v := (1 : Int32)) dX9_lays_59 rfl ?_
  refine rc_isub (pc := 60) hC dX9_lays_60 ?_
  exact rc_iret hC rfl rfl dX9_lays_61 h rfl
theorem rw_X9_readsGutter_L51 {Y : rc_Y} (hC : rc_C Y cX9_readsGutter RX9 (Option.some Jvm.ClassFile.FieldType.boolean) 1) (hH : rc_H Y 4 86 yX9_readsGutter.name) (hF : yr_F Y = true) (s0 : Int32) (S : rc_S) (h : rc_Go Y rc_tI (rp_X9_readsGutter_L51  s0) S) : rc_Z Y S 51 [some (rc_q (some (rc_km (yr_K Y) 100)))] [rc_i s0, rc_q (some (rc_km (yr_K Y) 100))] := by
  unfold rp_X9_readsGutter_L51 at h
  refine rc_callM (pc := 51) hC (rw_X9_stops hH.1 s0) q2084 q2086 qs42 q149 q2087 rfl rd_X9_stops (hH.room (Nat.le_of_ble_eq_true rfl) (Nat.le_of_ble_eq_true rfl)) rfl rfl (Nat.le_of_ble_eq_true rfl) 1 rfl h.le.2.2 (Or.inl hF) h.br rfl dX9_readsGutter_51 ?_ (fun E q S hT => rc_out hC hH.2.2.2.2 hT)
  intro x1 S h
  show rc_Z Y S 54 [some (rc_q (some (rc_km (yr_K Y) 100)))] [rc_i x1]
  refine rc_if_ne (pc := 54) (tgt := 59) hC dX9_readsGutter_54 rfl h ?_ ?_
  · intro _ h
    refine rc_aload_n (pc := 59) hC dX9_readsGutter_59 rfl rfl ?_
    refine rc_aload_n (pc := 60) hC dX9_readsGutter_60 rfl rfl ?_
    refine rc_r_mref (pc := 61) hC hF rF_X9_42 (by decide) dX9_readsGutter_61 h ?_
    refine rc_iconst (pc := 64) hC (v := (0 : Int32)) dX9_readsGutter_64 rfl ?_
    refine rc_r_mald (pc := 65) hC hF (j := 22) (by decide) rfl dX9_readsGutter_65 h ?_
    intro x3 h
    refine rc_aload_n (pc := 66) hC dX9_readsGutter_66 rfl rfl ?_
    refine rc_r_mref (pc := 67) hC hF rF_X9_42 (by decide) dX9_readsGutter_67 h ?_
    refine rc_iconst (pc := 70) hC (v := (1 : Int32)) dX9_readsGutter_70 rfl ?_
    refine rc_r_mald (pc := 71) hC hF (j := 22) (by decide) rfl dX9_readsGutter_71 h ?_
    intro x5 h
    refine rc_aload_n (pc := 72) hC dX9_readsGutter_72 rfl rfl ?_
    refine rc_r_mref (pc := 73) hC hF rF_X9_42 (by decide) dX9_readsGutter_73 h ?_
    refine rc_iconst (pc := 76) hC (v := (2 : Int32)) dX9_readsGutter_76 rfl ?_
    refine rc_r_mald (pc := 77) hC hF (j := 22) (by decide) rfl dX9_readsGutter_77 h ?_
    intro x7 h
    refine rc_callM (pc := 78) hC (rw_X9_lays hH.1 x3 x5 x7) q2104 q2106 qs47 q149 q2107 rfl rd_X9_lays (hH.room (Nat.le_of_ble_eq_true rfl) (Nat.le_of_ble_eq_true rfl)) rfl rfl (Nat.le_of_ble_eq_true rfl) 3 rfl h.le.2.2 (Or.inl hF) h.br rfl dX9_readsGutter_78 ?_ (fun E q S hT => rc_out hC hH.2.2.2.2 hT)
    intro x8 S h
    show rc_Z Y S 81 [some (rc_q (some (rc_km (yr_K Y) 100)))] [rc_i x8]
    refine rc_pop (pc := 81) hC dX9_readsGutter_81 rfl ?_
    refine rc_iconst (pc := 82) hC (v := (1 : Int32)) dX9_readsGutter_82 rfl ?_
    exact rc_iret hC rfl rfl dX9_readsGutter_83 h rfl
  intro _ h
  refine rc_iconst (pc := 57) hC (v := (0 : Int32)) dX9_readsGutter_57 rfl ?_
  exact rc_iret hC rfl rfl dX9_readsGutter_58 h rfl
theorem rw_X9_readsGutter {l : Launch} (hl : l.stackTraces = false) : rc_Cm l yX9_readsGutter (ws_ yX9_readsGutter cX9_readsGutter 1 (Option.some Jvm.ClassFile.FieldType.boolean)) 4 86 rc_tI (rp_X9_readsGutter ) [] := by
  refine rc_Cm_H hl (plainFor_of_name rY_X9) rfl (Nat.le_of_ble_eq_true rfl) ?_
  intro Y S hC hH hF h
  have hC : rc_C Y cX9_readsGutter RX9 (Option.some Jvm.ClassFile.FieldType.boolean) 1 := hC
  show rc_Z Y S 0 [some (rc_q (some (rc_km (yr_K Y) 100)))] []
  unfold rp_X9_readsGutter at h
  refine rc_aload_n (pc := 0) hC dX9_readsGutter_0 rfl rfl ?_
  refine rc_iconst (pc := 1) hC (v := (0 : Int32)) dX9_readsGutter_1 rfl ?_
  refine rc_callM (pc := 2) hC (rw_X9_chimneyAt hH.1 (0 : Int32)) q2096 q2098 qs45 q149 q2099 rfl rd_X9_chimneyAt (hH.room (Nat.le_of_ble_eq_true rfl) (Nat.le_of_ble_eq_true rfl)) rfl rfl (Nat.le_of_ble_eq_true rfl) 1 rfl h.le.2.2 (Or.inl hF) h.br rfl dX9_readsGutter_2 ?_ (fun E q S hT => rc_out hC hH.2.2.2.2 hT)
  intro x1 S h
  show rc_Z Y S 5 [some (rc_q (some (rc_km (yr_K Y) 100)))] [rc_i x1]
  refine rc_if_eq (pc := 5) (tgt := 57) hC dX9_readsGutter_5 rfl h ?_ ?_
  · intro _ h
    refine rc_iconst (pc := 57) hC (v := (0 : Int32)) dX9_readsGutter_57 rfl ?_
    exact rc_iret hC rfl rfl dX9_readsGutter_58 h rfl
  intro _ h
  refine rc_aload_n (pc := 8) hC dX9_readsGutter_8 rfl rfl ?_
  refine rc_aload_n (pc := 9) hC dX9_readsGutter_9 rfl rfl ?_
  refine rc_r_mref (pc := 10) hC hF rF_X9_7 (by decide) dX9_readsGutter_10 h ?_
  refine rc_iconst (pc := 13) hC (v := (0 : Int32)) dX9_readsGutter_13 rfl ?_
  refine rc_r_mald (pc := 14) hC hF (j := 0) (by decide) rfl dX9_readsGutter_14 h ?_
  intro x3 h
  refine rc_iconst (pc := 15) hC (v := (1 : Int32)) dX9_readsGutter_15 rfl ?_
  refine rc_isub (pc := 16) hC dX9_readsGutter_16 ?_
  refine rc_callM (pc := 17) hC (rw_X9_another hH.1 (x3 - (1 : Int32))) q2100 q2102 qs46 q149 q2103 rfl rd_X9_another (hH.room (Nat.le_of_ble_eq_true rfl) (Nat.le_of_ble_eq_true rfl)) rfl rfl (Nat.le_of_ble_eq_true rfl) 1 rfl h.le.2.2 (Or.inl hF) h.br rfl dX9_readsGutter_17 ?_ (fun E q S hT => rc_out hC hH.2.2.2.2 hT)
  intro x4 S h
  show rc_Z Y S 20 [some (rc_q (some (rc_km (yr_K Y) 100)))] [rc_i x4]
  refine rc_if_eq (pc := 20) (tgt := 57) hC dX9_readsGutter_20 rfl h ?_ ?_
  · intro _ h
    refine rc_iconst (pc := 57) hC (v := (0 : Int32)) dX9_readsGutter_57 rfl ?_
    exact rc_iret hC rfl rfl dX9_readsGutter_58 h rfl
  intro _ h
  refine rc_aload_n (pc := 23) hC dX9_readsGutter_23 rfl rfl ?_
  refine rc_iconst (pc := 24) hC (v := (2 : Int32)) dX9_readsGutter_24 rfl ?_
  refine rc_iconst (pc := 25) hC (v := (1 : Int32)) dX9_readsGutter_25 rfl ?_
  refine rc_bipush (pc := 26) hC (v := (9 : Int32)) dX9_readsGutter_26 rfl ?_
  refine rc_callM (pc := 28) hC (rw_X9_number hH.1 (2 : Int32) (1 : Int32) (9 : Int32)) q2069 q2071 qs39 q149 q2072 rfl rd_X9_number (hH.room (Nat.le_of_ble_eq_true rfl) (Nat.le_of_ble_eq_true rfl)) rfl rfl (Nat.le_of_ble_eq_true rfl) 3 rfl h.le.2.2 (Or.inl hF) h.br rfl dX9_readsGutter_28 ?_ (fun E q S hT => rc_out hC hH.2.2.2.2 hT)
  intro x5 S h
  show rc_Z Y S 31 [some (rc_q (some (rc_km (yr_K Y) 100)))] [rc_i x5]
  refine rc_if_eq (pc := 31) (tgt := 57) hC dX9_readsGutter_31 rfl h ?_ ?_
  · intro _ h
    refine rc_iconst (pc := 57) hC (v := (0 : Int32)) dX9_readsGutter_57 rfl ?_
    exact rc_iret hC rfl rfl dX9_readsGutter_58 h rfl
  intro _ h
  refine rc_aload_n (pc := 34) hC dX9_readsGutter_34 rfl rfl ?_
  refine rc_aload_n (pc := 35) hC dX9_readsGutter_35 rfl rfl ?_
  refine rc_r_mref (pc := 36) hC hF rF_X9_7 (by decide) dX9_readsGutter_36 h ?_
  refine rc_iconst (pc := 39) hC (v := (1 : Int32)) dX9_readsGutter_39 rfl ?_
  refine rc_r_mald (pc := 40) hC hF (j := 0) (by decide) rfl dX9_readsGutter_40 h ?_
  intro x7 h
  refine rc_bipush (pc := 41) hC (v := (20 : Int32)) dX9_readsGutter_41 rfl ?_
  refine rc_icmp_ge (pc := 43) (tgt := 50) hC dX9_readsGutter_43 rfl h ?_ ?_
  · intro _ h
    refine rc_iconst (pc := 50) hC (v := (0 : Int32)) dX9_readsGutter_50 rfl ?_
    exact rw_X9_readsGutter_L51 hC hH hF  (0 : Int32) S h
  intro _ h
  refine rc_iconst (pc := 46) hC (v := (1 : Int32)) dX9_readsGutter_46 rfl ?_
  refine rc_goto (pc := 47) (tgt := 51) hC dX9_readsGutter_47 rfl ?_
  exact rw_X9_readsGutter_L51 hC hH hF  (1 : Int32) S h
theorem rw_X9_sizesAt {l : Launch} (hl : l.stackTraces = false) (v1 : Int32) : rc_Cm l yX9_sizesAt (ws_ yX9_sizesAt cX9_sizesAt 2 (Option.some Jvm.ClassFile.FieldType.boolean)) 3 65 rc_tI (rp_X9_sizesAt v1) [rc_i v1] := by
  refine rc_Cm_H hl (plainFor_of_name rY_X9) rfl (Nat.le_of_ble_eq_true rfl) ?_
  intro Y S hC hH hF h
  have hC : rc_C Y cX9_sizesAt RX9 (Option.some Jvm.ClassFile.FieldType.boolean) 2 := hC
  show rc_Z Y S 0 [some (rc_q (some (rc_km (yr_K Y) 100))), some (rc_i v1)] []
  unfold rp_X9_sizesAt at h
  refine rc_aload_n (pc := 0) hC dX9_sizesAt_0 rfl rfl ?_
  refine rc_iload_n (pc := 1) hC dX9_sizesAt_1 rfl rfl ?_
  refine rc_iconst (pc := 2) hC (v := (1 : Int32)) dX9_sizesAt_2 rfl ?_
  refine rc_bipush (pc := 3) hC (v := (9 : Int32)) dX9_sizesAt_3 rfl ?_
  refine rc_callM (pc := 5) hC (rw_X9_number hH.1 v1 (1 : Int32) (9 : Int32)) q2069 q2071 qs39 q149 q2072 rfl rd_X9_number (hH.room (Nat.le_of_ble_eq_true rfl) (Nat.le_of_ble_eq_true rfl)) rfl rfl (Nat.le_of_ble_eq_true rfl) 3 rfl h.le.2.2 (Or.inl hF) h.br rfl dX9_sizesAt_5 ?_ (fun E q S hT => rc_out hC hH.2.2.2.2 hT)
  intro x1 S h
  show rc_Z Y S 8 [some (rc_q (some (rc_km (yr_K Y) 100))), some (rc_i v1)] [rc_i x1]
  refine rc_if_eq (pc := 8) (tgt := 28) hC dX9_sizesAt_8 rfl h ?_ ?_
  · intro _ h
    refine rc_iconst (pc := 28) hC (v := (0 : Int32)) dX9_sizesAt_28 rfl ?_
    exact rc_iret hC rfl rfl dX9_sizesAt_29 h rfl
  intro _ h
  refine rc_aload_n (pc := 11) hC dX9_sizesAt_11 rfl rfl ?_
  refine rc_iload_n (pc := 12) hC dX9_sizesAt_12 rfl rfl ?_
  refine rc_iconst (pc := 13) hC (v := (1 : Int32)) dX9_sizesAt_13 rfl ?_
  refine rc_iadd (pc := 14) hC dX9_sizesAt_14 ?_
  refine rc_iconst (pc := 15) hC (v := (1 : Int32)) dX9_sizesAt_15 rfl ?_
  refine rc_bipush (pc := 16) hC (v := (9 : Int32)) dX9_sizesAt_16 rfl ?_
  refine rc_callM (pc := 18) hC (rw_X9_number hH.1 (v1 + (1 : Int32)) (1 : Int32) (9 : Int32)) q2069 q2071 qs39 q149 q2072 rfl rd_X9_number (hH.room (Nat.le_of_ble_eq_true rfl) (Nat.le_of_ble_eq_true rfl)) rfl rfl (Nat.le_of_ble_eq_true rfl) 3 rfl h.le.2.2 (Or.inl hF) h.br rfl dX9_sizesAt_18 ?_ (fun E q S hT => rc_out hC hH.2.2.2.2 hT)
  intro x2 S h
  show rc_Z Y S 21 [some (rc_q (some (rc_km (yr_K Y) 100))), some (rc_i v1)] [rc_i x2]
  refine rc_if_eq (pc := 21) (tgt := 28) hC dX9_sizesAt_21 rfl h ?_ ?_
  · intro _ h
    refine rc_iconst (pc := 28) hC (v := (0 : Int32)) dX9_sizesAt_28 rfl ?_
    exact rc_iret hC rfl rfl dX9_sizesAt_29 h rfl
  intro _ h
  refine rc_iconst (pc := 24) hC (v := (1 : Int32)) dX9_sizesAt_24 rfl ?_
  refine rc_goto (pc := 25) (tgt := 29) hC dX9_sizesAt_25 rfl ?_
  exact rc_iret hC rfl rfl dX9_sizesAt_29 h rfl
theorem rw_X9_of {l : Launch} (hl : l.stackTraces = false) (v1 : Int32) (v2 : Int32) : rc_Cm l yX9_of (ws_ yX9_of cX9_of 3 (Option.some Jvm.ClassFile.FieldType.int)) 0 0 rc_tI (rp_X9_of v1 v2) [rc_i v1, rc_i v2] := by
  refine rc_Cm_H hl (plainFor_of_name rY_X9) rfl (Nat.le_of_ble_eq_true rfl) ?_
  intro Y S hC hH hF h
  have hC : rc_C Y cX9_of RX9 (Option.some Jvm.ClassFile.FieldType.int) 3 := hC
  show rc_Z Y S 0 [some (rc_q (some (rc_km (yr_K Y) 100))), some (rc_i v1), some (rc_i v2)] []
  unfold rp_X9_of at h
  refine rc_aload_n (pc := 0) hC dX9_of_0 rfl rfl ?_
  refine rc_r_mref (pc := 1) hC hF rF_X9_7 (by decide) dX9_of_1 h ?_
  refine rc_bipush (pc := 4) hC (v := (90 : Int32)) dX9_of_4 rfl ?_
  refine rc_iconst (pc := 6) hC (v := (4 : Int32)) dX9_of_6 rfl ?_
  refine rc_iload_n (pc := 7) hC dX9_of_7 rfl rfl ?_
  refine rc_imul (pc := 8) hC dX9_of_8 ?_
  refine rc_iadd (pc := 9) hC dX9_of_9 ?_
  refine rc_iload_n (pc := 10) hC dX9_of_10 rfl rfl ?_
  refine rc_iadd (pc := 11) hC dX9_of_11 ?_
  refine rc_r_mald (pc := 12) hC hF (j := 0) (by decide) rfl dX9_of_12 h ?_
  intro x2 h
  exact rc_iret hC rfl rfl dX9_of_13 h rfl
theorem rw_X9_sitter_L2 {Y : rc_Y} (hC : rc_C Y cX9_sitter RX9 (Option.some Jvm.ClassFile.FieldType.int) 3) (hH : rc_H Y 1 22 yX9_sitter.name) (hF : yr_F Y = true) : ∀ (n : Nat) (v1 : Int32) (v2 : Int32) (S : rc_S), rc_Go Y rc_tI (rp_X9_sitter_L2  n v1 v2) S → rc_Z Y S 2 [some (rc_q (some (rc_km (yr_K Y) 100))), some (rc_i v1), some (rc_i v2)] [] := by
  intro n
  induction n with
  | zero => intro v1 v2 S h; exact h.fail.elim
  | succ n ih =>
    intro v1 v2 S h
    rw [rp_X9_sitter_L2] at h
    refine rc_iload_n (pc := 2) hC dX9_sitter_2 rfl rfl ?_
    refine rc_aload_n (pc := 3) hC dX9_sitter_3 rfl rfl ?_
    refine rc_r_mref (pc := 4) hC hF rF_X9_7 (by decide) dX9_sitter_4 h ?_
    refine rc_iconst (pc := 7) hC (v := (2 : Int32)) dX9_sitter_7 rfl ?_
    refine rc_r_mald (pc := 8) hC hF (j := 0) (by decide) rfl dX9_sitter_8 h ?_
    intro x2 h
    refine rc_icmp_ge (pc := 9) (tgt := 30) hC dX9_sitter_9 rfl h ?_ ?_
    · intro _ h
      refine rc_iconst (pc := 30) hC (v := (-1 : Int32)) dX9_sitter_30 rfl ?_
      exact rc_iret hC rfl rfl dX9_sitter_31 h rfl
    intro _ h
    refine rc_aload_n (pc := 12) hC dX9_sitter_12 rfl rfl ?_
    refine rc_iload_n (pc := 13) hC dX9_sitter_13 rfl rfl ?_
    refine rc_iconst (pc := 14) hC (v := (3 : Int32)) dX9_sitter_14 rfl ?_
    refine rc_callM (pc := 15) hC (rw_X9_of hH.1 v2 (3 : Int32)) q2124 q2126 qs52 q149 q2127 rfl rd_X9_of (hH.room (Nat.le_of_ble_eq_true rfl) (Nat.le_of_ble_eq_true rfl)) rfl rfl (Nat.le_of_ble_eq_true rfl) 2 rfl h.le.2.2 (Or.inl hF) h.br rfl dX9_sitter_15 ?_ (fun E q S hT => rc_out hC hH.2.2.2.2 hT)
    intro x3 S h
    show rc_Z Y S 18 [some (rc_q (some (rc_km (yr_K Y) 100))), some (rc_i v1), some (rc_i v2)] [rc_i x3]
    refine rc_iload_n (pc := 18) hC dX9_sitter_18 rfl rfl ?_
    refine rc_icmp_ne (pc := 19) (tgt := 24) hC dX9_sitter_19 rfl h ?_ ?_
    · intro _ h
      refine rc_iinc (pc := 24) hC (v := (v2 + (1 : Int32))) (L' := [some (rc_q (some (rc_km (yr_K Y) 100))), some (rc_i v1), some (rc_i (v2 + (1 : Int32)))]) dX9_sitter_24 rfl rfl rfl rfl ?_
      refine rc_goto (pc := 27) (tgt := 2) hC dX9_sitter_27 rfl ?_
      exact ih v1 (v2 + (1 : Int32)) S h
    intro _ h
    refine rc_iload_n (pc := 22) hC dX9_sitter_22 rfl rfl ?_
    exact rc_iret hC rfl rfl dX9_sitter_23 h rfl
theorem rw_X9_sitter {l : Launch} (hl : l.stackTraces = false) (v1 : Int32) : rc_Cm l yX9_sitter (ws_ yX9_sitter cX9_sitter 3 (Option.some Jvm.ClassFile.FieldType.int)) 1 22 rc_tI (rp_X9_sitter v1) [rc_i v1] := by
  refine rc_Cm_H hl (plainFor_of_name rY_X9) rfl (Nat.le_of_ble_eq_true rfl) ?_
  intro Y S hC hH hF h
  have hC : rc_C Y cX9_sitter RX9 (Option.some Jvm.ClassFile.FieldType.int) 3 := hC
  show rc_Z Y S 0 [some (rc_q (some (rc_km (yr_K Y) 100))), some (rc_i v1), none] []
  unfold rp_X9_sitter at h
  refine rc_iconst (pc := 0) hC (v := (0 : Int32)) dX9_sitter_0 rfl ?_
  refine rc_istore_n (pc := 1) hC (L' := [some (rc_q (some (rc_km (yr_K Y) 100))), some (rc_i v1), some (rc_i (0 : Int32))]) dX9_sitter_1 rfl (Nat.le_of_ble_eq_true rfl) rfl rfl ?_
  refine rc_r_fuel h ?_
  intro x1 h
  exact rw_X9_sitter_L2 hC hH hF  x1 v1 (0 : Int32) S h
theorem rw_X9_canEnter {l : Launch} (hl : l.stackTraces = false) (v1 : Int32) : rc_Cm l yX9_canEnter (ws_ yX9_canEnter cX9_canEnter 2 (Option.some Jvm.ClassFile.FieldType.boolean)) 2 44 rc_tI (rp_X9_canEnter v1) [rc_i v1] := by
  refine rc_Cm_H hl (plainFor_of_name rY_X9) rfl (Nat.le_of_ble_eq_true rfl) ?_
  intro Y S hC hH hF h
  have hC : rc_C Y cX9_canEnter RX9 (Option.some Jvm.ClassFile.FieldType.boolean) 2 := hC
  show rc_Z Y S 0 [some (rc_q (some (rc_km (yr_K Y) 100))), some (rc_i v1)] []
  unfold rp_X9_canEnter at h
  refine rc_aload_n (pc := 0) hC dX9_canEnter_0 rfl rfl ?_
  refine rc_r_mref (pc := 1) hC hF rF_X9_7 (by decide) dX9_canEnter_1 h ?_
  refine rc_iconst (pc := 4) hC (v := (2 : Int32)) dX9_canEnter_4 rfl ?_
  refine rc_r_mald (pc := 5) hC hF (j := 0) (by decide) rfl dX9_canEnter_5 h ?_
  intro x2 h
  refine rc_bipush (pc := 6) hC (v := (8 : Int32)) dX9_canEnter_6 rfl ?_
  refine rc_icmp_ge (pc := 8) (tgt := 24) hC dX9_canEnter_8 rfl h ?_ ?_
  · intro _ h
    refine rc_iconst (pc := 24) hC (v := (0 : Int32)) dX9_canEnter_24 rfl ?_
    exact rc_iret hC rfl rfl dX9_canEnter_25 h rfl
  intro _ h
  refine rc_aload_n (pc := 11) hC dX9_canEnter_11 rfl rfl ?_
  refine rc_iload_n (pc := 12) hC dX9_canEnter_12 rfl rfl ?_
  refine rc_callM (pc := 13) hC (rw_X9_sitter hH.1 v1) q2120 q2122 qs51 q149 q2123 rfl rd_X9_sitter (hH.room (Nat.le_of_ble_eq_true rfl) (Nat.le_of_ble_eq_true rfl)) rfl rfl (Nat.le_of_ble_eq_true rfl) 1 rfl h.le.2.2 (Or.inl hF) h.br rfl dX9_canEnter_13 ?_ (fun E q S hT => rc_out hC hH.2.2.2.2 hT)
  intro x3 S h
  show rc_Z Y S 16 [some (rc_q (some (rc_km (yr_K Y) 100))), some (rc_i v1)] [rc_i x3]
  refine rc_iconst (pc := 16) hC (v := (-1 : Int32)) dX9_canEnter_16 rfl ?_
  refine rc_icmp_ne (pc := 17) (tgt := 24) hC dX9_canEnter_17 rfl h ?_ ?_
  · intro _ h
    refine rc_iconst (pc := 24) hC (v := (0 : Int32)) dX9_canEnter_24 rfl ?_
    exact rc_iret hC rfl rfl dX9_canEnter_25 h rfl
  intro _ h
  refine rc_iconst (pc := 20) hC (v := (1 : Int32)) dX9_canEnter_20 rfl ?_
  refine rc_goto (pc := 21) (tgt := 25) hC dX9_canEnter_21 rfl ?_
  exact rc_iret hC rfl rfl dX9_canEnter_25 h rfl
theorem rw_X9_to {l : Launch} (hl : l.stackTraces = false) (v1 : Int32) (v2 : Int32) (v3 : Int32) : rc_Cm l yX9_to (ws_ yX9_to cX9_to 4 (Option.none : Option Jvm.ClassFile.FieldType)) 0 0 rc_tU (rp_X9_to v1 v2 v3) [rc_i v1, rc_i v2, rc_i v3] := by
  refine rc_Cm_H hl (plainFor_of_name rY_X9) rfl (Nat.le_of_ble_eq_true rfl) ?_
  intro Y S hC hH hF h
  have hC : rc_C Y cX9_to RX9 (Option.none : Option Jvm.ClassFile.FieldType) 4 := hC
  show rc_Z Y S 0 [some (rc_q (some (rc_km (yr_K Y) 100))), some (rc_i v1), some (rc_i v2), some (rc_i v3)] []
  unfold rp_X9_to at h
  refine rc_aload_n (pc := 0) hC dX9_to_0 rfl rfl ?_
  refine rc_r_mref (pc := 1) hC hF rF_X9_7 (by decide) dX9_to_1 h ?_
  refine rc_bipush (pc := 4) hC (v := (90 : Int32)) dX9_to_4 rfl ?_
  refine rc_iconst (pc := 6) hC (v := (4 : Int32)) dX9_to_6 rfl ?_
  refine rc_iload_n (pc := 7) hC dX9_to_7 rfl rfl ?_
  refine rc_imul (pc := 8) hC dX9_to_8 ?_
  refine rc_iadd (pc := 9) hC dX9_to_9 ?_
  refine rc_iload_n (pc := 10) hC dX9_to_10 rfl rfl ?_
  refine rc_iadd (pc := 11) hC dX9_to_11 ?_
  refine rc_iload_n (pc := 12) hC dX9_to_12 rfl rfl ?_
  refine rc_r_mast (pc := 13) hC hF (j := 0) (by decide) rfl dX9_to_13 h ?_
  intro S h
  exact rc_vret hC rfl dX9_to_14 h rfl
theorem rw_X9_enters {l : Launch} (hl : l.stackTraces = false) (v1 : Int32) (v2 : Int32) (v3 : Int32) : rc_Cm l yX9_enters (ws_ yX9_enters cX9_enters 5 (Option.some Jvm.ClassFile.FieldType.int)) 1 23 rc_tI (rp_X9_enters v1 v2 v3) [rc_i v1, rc_i v2, rc_i v3] := by
  refine rc_Cm_H hl (plainFor_of_name rY_X9) rfl (Nat.le_of_ble_eq_true rfl) ?_
  intro Y S hC hH hF h
  have hC : rc_C Y cX9_enters RX9 (Option.some Jvm.ClassFile.FieldType.int) 5 := hC
  show rc_Z Y S 0 [some (rc_q (some (rc_km (yr_K Y) 100))), some (rc_i v1), some (rc_i v2), some (rc_i v3), none] []
  unfold rp_X9_enters at h
  refine rc_aload_n (pc := 0) hC dX9_enters_0 rfl rfl ?_
  refine rc_r_mref (pc := 1) hC hF rF_X9_7 (by decide) dX9_enters_1 h ?_
  refine rc_iconst (pc := 4) hC (v := (2 : Int32)) dX9_enters_4 rfl ?_
  refine rc_r_mald (pc := 5) hC hF (j := 0) (by decide) rfl dX9_enters_5 h ?_
  intro x2 h
  refine rc_istore (pc := 6) hC (L' := [some (rc_q (some (rc_km (yr_K Y) 100))), some (rc_i v1), some (rc_i v2), some (rc_i v3), some (rc_i x2)]) dX9_enters_6 (Nat.le_of_ble_eq_true rfl) rfl rfl ?_
  refine rc_aload_n (pc := 8) hC dX9_enters_8 rfl rfl ?_
  refine rc_r_mref (pc := 9) hC hF rF_X9_7 (by decide) dX9_enters_9 h ?_
  refine rc_iconst (pc := 12) hC (v := (2 : Int32)) dX9_enters_12 rfl ?_
  refine rc_dup2 (pc := 13) hC dX9_enters_13 rfl rfl ?_
  refine rc_r_mald (pc := 14) hC hF (j := 0) (by decide) rfl dX9_enters_14 h ?_
  intro x4 h
  refine rc_iconst (pc := 15) hC (v := (1 : Int32)) dX9_enters_15 rfl ?_
  refine rc_iadd (pc := 16) hC dX9_enters_16 ?_
  refine rc_r_mast (pc := 17) hC hF (j := 0) (by decide) rfl dX9_enters_17 h ?_
  intro S h
  refine rc_aload_n (pc := 18) hC dX9_enters_18 rfl rfl ?_
  refine rc_iload (pc := 19) hC dX9_enters_19 rfl ?_
  refine rc_iconst (pc := 21) hC (v := (0 : Int32)) dX9_enters_21 rfl ?_
  refine rc_iload_n (pc := 22) hC dX9_enters_22 rfl rfl ?_
  refine rc_callM (pc := 23) hC (rw_X9_to hH.1 x2 (0 : Int32) v2) q2132 q2134 qs54 q149 q2135 rfl rd_X9_to (hH.room (Nat.le_of_ble_eq_true rfl) (Nat.le_of_ble_eq_true rfl)) rfl rfl (Nat.le_of_ble_eq_true rfl) 3 rfl h.le.2.2 (Or.inl hF) h.br rfl dX9_enters_23 ?_ (fun E q S hT => rc_out hC hH.2.2.2.2 hT)
  intro _ S h
  show rc_Z Y S 26 [some (rc_q (some (rc_km (yr_K Y) 100))), some (rc_i v1), some (rc_i v2), some (rc_i v3), some (rc_i x2)] []
  refine rc_aload_n (pc := 26) hC dX9_enters_26 rfl rfl ?_
  refine rc_iload (pc := 27) hC dX9_enters_27 rfl ?_
  refine rc_iconst (pc := 29) hC (v := (1 : Int32)) dX9_enters_29 rfl ?_
  refine rc_iload_n (pc := 30) hC dX9_enters_30 rfl rfl ?_
  refine rc_callM (pc := 31) hC (rw_X9_to hH.1 x2 (1 : Int32) v3) q2132 q2134 qs54 q149 q2135 rfl rd_X9_to (hH.room (Nat.le_of_ble_eq_true rfl) (Nat.le_of_ble_eq_true rfl)) rfl rfl (Nat.le_of_ble_eq_true rfl) 3 rfl h.le.2.2 (Or.inl hF) h.br rfl dX9_enters_31 ?_ (fun E q S hT => rc_out hC hH.2.2.2.2 hT)
  intro _ S h
  show rc_Z Y S 34 [some (rc_q (some (rc_km (yr_K Y) 100))), some (rc_i v1), some (rc_i v2), some (rc_i v3), some (rc_i x2)] []
  refine rc_aload_n (pc := 34) hC dX9_enters_34 rfl rfl ?_
  refine rc_iload (pc := 35) hC dX9_enters_35 rfl ?_
  refine rc_iconst (pc := 37) hC (v := (2 : Int32)) dX9_enters_37 rfl ?_
  refine rc_iconst (pc := 38) hC (v := (5 : Int32)) dX9_enters_38 rfl ?_
  refine rc_callM (pc := 39) hC (rw_X9_to hH.1 x2 (2 : Int32) (5 : Int32)) q2132 q2134 qs54 q149 q2135 rfl rd_X9_to (hH.room (Nat.le_of_ble_eq_true rfl) (Nat.le_of_ble_eq_true rfl)) rfl rfl (Nat.le_of_ble_eq_true rfl) 3 rfl h.le.2.2 (Or.inl hF) h.br rfl dX9_enters_39 ?_ (fun E q S hT => rc_out hC hH.2.2.2.2 hT)
  intro _ S h
  show rc_Z Y S 42 [some (rc_q (some (rc_km (yr_K Y) 100))), some (rc_i v1), some (rc_i v2), some (rc_i v3), some (rc_i x2)] []
  refine rc_aload_n (pc := 42) hC dX9_enters_42 rfl rfl ?_
  refine rc_iload (pc := 43) hC dX9_enters_43 rfl ?_
  refine rc_iconst (pc := 45) hC (v := (3 : Int32)) dX9_enters_45 rfl ?_
  refine rc_iload_n (pc := 46) hC dX9_enters_46 rfl rfl ?_
  refine rc_callM (pc := 47) hC (rw_X9_to hH.1 x2 (3 : Int32) v1) q2132 q2134 qs54 q149 q2135 rfl rd_X9_to (hH.room (Nat.le_of_ble_eq_true rfl) (Nat.le_of_ble_eq_true rfl)) rfl rfl (Nat.le_of_ble_eq_true rfl) 3 rfl h.le.2.2 (Or.inl hF) h.br rfl dX9_enters_47 ?_ (fun E q S hT => rc_out hC hH.2.2.2.2 hT)
  intro _ S h
  show rc_Z Y S 50 [some (rc_q (some (rc_km (yr_K Y) 100))), some (rc_i v1), some (rc_i v2), some (rc_i v3), some (rc_i x2)] []
  refine rc_iload (pc := 50) hC dX9_enters_50 rfl ?_
  exact rc_iret hC rfl rfl dX9_enters_52 h rfl
theorem rw_X9_readsCat {l : Launch} (hl : l.stackTraces = false) : rc_Cm l yX9_readsCat (ws_ yX9_readsCat cX9_readsCat 1 (Option.some Jvm.ClassFile.FieldType.boolean)) 4 86 rc_tI (rp_X9_readsCat ) [] := by
  refine rc_Cm_H hl (plainFor_of_name rY_X9) rfl (Nat.le_of_ble_eq_true rfl) ?_
  intro Y S hC hH hF h
  have hC : rc_C Y cX9_readsCat RX9 (Option.some Jvm.ClassFile.FieldType.boolean) 1 := hC
  show rc_Z Y S 0 [some (rc_q (some (rc_km (yr_K Y) 100)))] []
  unfold rp_X9_readsCat at h
  refine rc_aload_n (pc := 0) hC dX9_readsCat_0 rfl rfl ?_
  refine rc_iconst (pc := 1) hC (v := (0 : Int32)) dX9_readsCat_1 rfl ?_
  refine rc_callM (pc := 2) hC (rw_X9_chimneyAt hH.1 (0 : Int32)) q2096 q2098 qs45 q149 q2099 rfl rd_X9_chimneyAt (hH.room (Nat.le_of_ble_eq_true rfl) (Nat.le_of_ble_eq_true rfl)) rfl rfl (Nat.le_of_ble_eq_true rfl) 1 rfl h.le.2.2 (Or.inl hF) h.br rfl dX9_readsCat_2 ?_ (fun E q S hT => rc_out hC hH.2.2.2.2 hT)
  intro x1 S h
  show rc_Z Y S 5 [some (rc_q (some (rc_km (yr_K Y) 100)))] [rc_i x1]
  refine rc_if_eq (pc := 5) (tgt := 33) hC dX9_readsCat_5 rfl h ?_ ?_
  · intro _ h
    refine rc_iconst (pc := 33) hC (v := (0 : Int32)) dX9_readsCat_33 rfl ?_
    exact rc_iret hC rfl rfl dX9_readsCat_34 h rfl
  intro _ h
  refine rc_aload_n (pc := 8) hC dX9_readsCat_8 rfl rfl ?_
  refine rc_iconst (pc := 9) hC (v := (1 : Int32)) dX9_readsCat_9 rfl ?_
  refine rc_callM (pc := 10) hC (rw_X9_sizesAt hH.1 (1 : Int32)) q2112 q2114 qs49 q149 q2115 rfl rd_X9_sizesAt (hH.room (Nat.le_of_ble_eq_true rfl) (Nat.le_of_ble_eq_true rfl)) rfl rfl (Nat.le_of_ble_eq_true rfl) 1 rfl h.le.2.2 (Or.inl hF) h.br rfl dX9_readsCat_10 ?_ (fun E q S hT => rc_out hC hH.2.2.2.2 hT)
  intro x2 S h
  show rc_Z Y S 13 [some (rc_q (some (rc_km (yr_K Y) 100)))] [rc_i x2]
  refine rc_if_eq (pc := 13) (tgt := 33) hC dX9_readsCat_13 rfl h ?_ ?_
  · intro _ h
    refine rc_iconst (pc := 33) hC (v := (0 : Int32)) dX9_readsCat_33 rfl ?_
    exact rc_iret hC rfl rfl dX9_readsCat_34 h rfl
  intro _ h
  refine rc_aload_n (pc := 16) hC dX9_readsCat_16 rfl rfl ?_
  refine rc_aload_n (pc := 17) hC dX9_readsCat_17 rfl rfl ?_
  refine rc_aload_n (pc := 18) hC dX9_readsCat_18 rfl rfl ?_
  refine rc_r_mref (pc := 19) hC hF rF_X9_42 (by decide) dX9_readsCat_19 h ?_
  refine rc_iconst (pc := 22) hC (v := (0 : Int32)) dX9_readsCat_22 rfl ?_
  refine rc_r_mald (pc := 23) hC hF (j := 22) (by decide) rfl dX9_readsCat_23 h ?_
  intro x4 h
  refine rc_callM (pc := 24) hC (rw_X9_canEnter hH.1 x4) q2116 q2118 qs50 q149 q2119 rfl rd_X9_canEnter (hH.room (Nat.le_of_ble_eq_true rfl) (Nat.le_of_ble_eq_true rfl)) rfl rfl (Nat.le_of_ble_eq_true rfl) 1 rfl h.le.2.2 (Or.inl hF) h.br rfl dX9_readsCat_24 ?_ (fun E q S hT => rc_out hC hH.2.2.2.2 hT)
  intro x5 S h
  show rc_Z Y S 27 [some (rc_q (some (rc_km (yr_K Y) 100)))] [rc_i x5, rc_q (some (rc_km (yr_K Y) 100))]
  refine rc_callM (pc := 27) hC (rw_X9_stops hH.1 x5) q2084 q2086 qs42 q149 q2087 rfl rd_X9_stops (hH.room (Nat.le_of_ble_eq_true rfl) (Nat.le_of_ble_eq_true rfl)) rfl rfl (Nat.le_of_ble_eq_true rfl) 1 rfl h.le.2.2 (Or.inl hF) h.br rfl dX9_readsCat_27 ?_ (fun E q S hT => rc_out hC hH.2.2.2.2 hT)
  intro x6 S h
  show rc_Z Y S 30 [some (rc_q (some (rc_km (yr_K Y) 100)))] [rc_i x6]
  refine rc_if_ne (pc := 30) (tgt := 35) hC dX9_readsCat_30 rfl h ?_ ?_
  · intro _ h
    refine rc_aload_n (pc := 35) hC dX9_readsCat_35 rfl rfl ?_
    refine rc_aload_n (pc := 36) hC dX9_readsCat_36 rfl rfl ?_
    refine rc_r_mref (pc := 37) hC hF rF_X9_42 (by decide) dX9_readsCat_37 h ?_
    refine rc_iconst (pc := 40) hC (v := (0 : Int32)) dX9_readsCat_40 rfl ?_
    refine rc_r_mald (pc := 41) hC hF (j := 22) (by decide) rfl dX9_readsCat_41 h ?_
    intro x8 h
    refine rc_aload_n (pc := 42) hC dX9_readsCat_42 rfl rfl ?_
    refine rc_r_mref (pc := 43) hC hF rF_X9_42 (by decide) dX9_readsCat_43 h ?_
    refine rc_iconst (pc := 46) hC (v := (1 : Int32)) dX9_readsCat_46 rfl ?_
    refine rc_r_mald (pc := 47) hC hF (j := 22) (by decide) rfl dX9_readsCat_47 h ?_
    intro x10 h
    refine rc_aload_n (pc := 48) hC dX9_readsCat_48 rfl rfl ?_
    refine rc_r_mref (pc := 49) hC hF rF_X9_42 (by decide) dX9_readsCat_49 h ?_
    refine rc_iconst (pc := 52) hC (v := (2 : Int32)) dX9_readsCat_52 rfl ?_
    refine rc_r_mald (pc := 53) hC hF (j := 22) (by decide) rfl dX9_readsCat_53 h ?_
    intro x12 h
    refine rc_callM (pc := 54) hC (rw_X9_enters hH.1 x8 x10 x12) q2128 q2130 qs53 q149 q2131 rfl rd_X9_enters (hH.room (Nat.le_of_ble_eq_true rfl) (Nat.le_of_ble_eq_true rfl)) rfl rfl (Nat.le_of_ble_eq_true rfl) 3 rfl h.le.2.2 (Or.inl hF) h.br rfl dX9_readsCat_54 ?_ (fun E q S hT => rc_out hC hH.2.2.2.2 hT)
    intro x13 S h
    show rc_Z Y S 57 [some (rc_q (some (rc_km (yr_K Y) 100)))] [rc_i x13]
    refine rc_pop (pc := 57) hC dX9_readsCat_57 rfl ?_
    refine rc_iconst (pc := 58) hC (v := (1 : Int32)) dX9_readsCat_58 rfl ?_
    exact rc_iret hC rfl rfl dX9_readsCat_59 h rfl
  intro _ h
  refine rc_iconst (pc := 33) hC (v := (0 : Int32)) dX9_readsCat_33 rfl ?_
  exact rc_iret hC rfl rfl dX9_readsCat_34 h rfl
theorem rw_X9_catAt {l : Launch} (hl : l.stackTraces = false) (v1 : Int32) : rc_Cm l yX9_catAt (ws_ yX9_catAt cX9_catAt 2 (Option.some Jvm.ClassFile.FieldType.boolean)) 3 65 rc_tI (rp_X9_catAt v1) [rc_i v1] := by
  refine rc_Cm_H hl (plainFor_of_name rY_X9) rfl (Nat.le_of_ble_eq_true rfl) ?_
  intro Y S hC hH hF h
  have hC : rc_C Y cX9_catAt RX9 (Option.some Jvm.ClassFile.FieldType.boolean) 2 := hC
  show rc_Z Y S 0 [some (rc_q (some (rc_km (yr_K Y) 100))), some (rc_i v1)] []
  unfold rp_X9_catAt at h
  refine rc_aload_n (pc := 0) hC dX9_catAt_0 rfl rfl ?_
  refine rc_iload_n (pc := 1) hC dX9_catAt_1 rfl rfl ?_
  refine rc_iconst (pc := 2) hC (v := (0 : Int32)) dX9_catAt_2 rfl ?_
  refine rc_aload_n (pc := 3) hC dX9_catAt_3 rfl rfl ?_
  refine rc_r_mref (pc := 4) hC hF rF_X9_7 (by decide) dX9_catAt_4 h ?_
  refine rc_iconst (pc := 7) hC (v := (2 : Int32)) dX9_catAt_7 rfl ?_
  refine rc_r_mald (pc := 8) hC hF (j := 0) (by decide) rfl dX9_catAt_8 h ?_
  intro x2 h
  refine rc_iconst (pc := 9) hC (v := (1 : Int32)) dX9_catAt_9 rfl ?_
  refine rc_isub (pc := 10) hC dX9_catAt_10 ?_
  refine rc_callM (pc := 11) hC (rw_X9_number hH.1 v1 (0 : Int32) (x2 - (1 : Int32))) q2069 q2071 qs39 q149 q2072 rfl rd_X9_number (hH.room (Nat.le_of_ble_eq_true rfl) (Nat.le_of_ble_eq_true rfl)) rfl rfl (Nat.le_of_ble_eq_true rfl) 3 rfl h.le.2.2 (Or.inl hF) h.br rfl dX9_catAt_11 ?_ (fun E q S hT => rc_out hC hH.2.2.2.2 hT)
  intro x3 S h
  show rc_Z Y S 14 [some (rc_q (some (rc_km (yr_K Y) 100))), some (rc_i v1)] [rc_i x3]
  obtain ⟨hn, h⟩ := h.nar
  exact rc_iret hC rfl hn dX9_catAt_14 h rfl
theorem rw_X9_gutter {l : Launch} (hl : l.stackTraces = false) (v1 : Int32) (v2 : Int32) : rc_Cm l yX9_gutter (ws_ yX9_gutter cX9_gutter 3 (Option.some Jvm.ClassFile.FieldType.int)) 0 0 rc_tI (rp_X9_gutter v1 v2) [rc_i v1, rc_i v2] := by
  refine rc_Cm_H hl (plainFor_of_name rY_X9) rfl (Nat.le_of_ble_eq_true rfl) ?_
  intro Y S hC hH hF h
  have hC : rc_C Y cX9_gutter RX9 (Option.some Jvm.ClassFile.FieldType.int) 3 := hC
  show rc_Z Y S 0 [some (rc_q (some (rc_km (yr_K Y) 100))), some (rc_i v1), some (rc_i v2)] []
  unfold rp_X9_gutter at h
  refine rc_aload_n (pc := 0) hC dX9_gutter_0 rfl rfl ?_
  refine rc_r_mref (pc := 1) hC hF rF_X9_7 (by decide) dX9_gutter_1 h ?_
  refine rc_bipush (pc := 4) hC (v := (30 : Int32)) dX9_gutter_4 rfl ?_
  refine rc_iconst (pc := 6) hC (v := (3 : Int32)) dX9_gutter_6 rfl ?_
  refine rc_iload_n (pc := 7) hC dX9_gutter_7 rfl rfl ?_
  refine rc_imul (pc := 8) hC dX9_gutter_8 ?_
  refine rc_iadd (pc := 9) hC dX9_gutter_9 ?_
  refine rc_iload_n (pc := 10) hC dX9_gutter_10 rfl rfl ?_
  refine rc_iadd (pc := 11) hC dX9_gutter_11 ?_
  refine rc_r_mald (pc := 12) hC hF (j := 0) (by decide) rfl dX9_gutter_12 h ?_
  intro x2 h
  exact rc_iret hC rfl rfl dX9_gutter_13 h rfl
theorem rw_X9_across {l : Launch} (hl : l.stackTraces = false) (v1 : Int32) (v2 : Int32) : rc_Cm l yX9_across (ws_ yX9_across cX9_across 3 (Option.some Jvm.ClassFile.FieldType.int)) 1 22 rc_tI (rp_X9_across v1 v2) [rc_i v1, rc_i v2] := by
  refine rc_Cm_H hl (plainFor_of_name rY_X9) rfl (Nat.le_of_ble_eq_true rfl) ?_
  intro Y S hC hH hF h
  have hC : rc_C Y cX9_across RX9 (Option.some Jvm.ClassFile.FieldType.int) 3 := hC
  show rc_Z Y S 0 [some (rc_q (some (rc_km (yr_K Y) 100))), some (rc_i v1), some (rc_i v2)] []
  unfold rp_X9_across at h
  refine rc_aload_n (pc := 0) hC dX9_across_0 rfl rfl ?_
  refine rc_iload_n (pc := 1) hC dX9_across_1 rfl rfl ?_
  refine rc_iconst (pc := 2) hC (v := (0 : Int32)) dX9_across_2 rfl ?_
  refine rc_callM (pc := 3) hC (rw_X9_gutter hH.1 v1 (0 : Int32)) q2152 q2154 qs59 q149 q2155 rfl rd_X9_gutter (hH.room (Nat.le_of_ble_eq_true rfl) (Nat.le_of_ble_eq_true rfl)) rfl rfl (Nat.le_of_ble_eq_true rfl) 2 rfl h.le.2.2 (Or.inl hF) h.br rfl dX9_across_3 ?_ (fun E q S hT => rc_out hC hH.2.2.2.2 hT)
  intro x1 S h
  show rc_Z Y S 6 [some (rc_q (some (rc_km (yr_K Y) 100))), some (rc_i v1), some (rc_i v2)] [rc_i x1]
  refine rc_iload_n (pc := 6) hC dX9_across_6 rfl rfl ?_
  refine rc_icmp_ne (pc := 7) (tgt := 19) hC dX9_across_7 rfl h ?_ ?_
  · intro _ h
    refine rc_aload_n (pc := 19) hC dX9_across_19 rfl rfl ?_
    refine rc_iload_n (pc := 20) hC dX9_across_20 rfl rfl ?_
    refine rc_iconst (pc := 21) hC (v := (1 : Int32)) dX9_across_21 rfl ?_
    refine rc_callM (pc := 22) hC (rw_X9_gutter hH.1 v1 (1 : Int32)) q2152 q2154 qs59 q149 q2155 rfl rd_X9_gutter (hH.room (Nat.le_of_ble_eq_true rfl) (Nat.le_of_ble_eq_true rfl)) rfl rfl (Nat.le_of_ble_eq_true rfl) 2 rfl h.le.2.2 (Or.inl hF) h.br rfl dX9_across_22 ?_ (fun E q S hT => rc_out hC hH.2.2.2.2 hT)
    intro x2 S h
    show rc_Z Y S 25 [some (rc_q (some (rc_km (yr_K Y) 100))), some (rc_i v1), some (rc_i v2)] [rc_i x2]
    refine rc_iload_n (pc := 25) hC dX9_across_25 rfl rfl ?_
    refine rc_icmp_ne (pc := 26) (tgt := 38) hC dX9_across_26 rfl h ?_ ?_
    · intro _ h
      refine rc_iconst (pc := 38) hC (v := (-1 : Int32)) dX9_across_38 rfl ?_
      exact rc_iret hC rfl rfl dX9_across_39 h rfl
    intro _ h
    refine rc_aload_n (pc := 29) hC dX9_across_29 rfl rfl ?_
    refine rc_iload_n (pc := 30) hC dX9_across_30 rfl rfl ?_
    refine rc_iconst (pc := 31) hC (v := (0 : Int32)) dX9_across_31 rfl ?_
    refine rc_callM (pc := 32) hC (rw_X9_gutter hH.1 v1 (0 : Int32)) q2152 q2154 qs59 q149 q2155 rfl rd_X9_gutter (hH.room (Nat.le_of_ble_eq_true rfl) (Nat.le_of_ble_eq_true rfl)) rfl rfl (Nat.le_of_ble_eq_true rfl) 2 rfl h.le.2.2 (Or.inl hF) h.br rfl dX9_across_32 ?_ (fun E q S hT => rc_out hC hH.2.2.2.2 hT)
    intro x3 S h
    show rc_Z Y S 35 [some (rc_q (some (rc_km (yr_K Y) 100))), some (rc_i v1), some (rc_i v2)] [rc_i x3]
    refine rc_goto (pc := 35) (tgt := 39) hC dX9_across_35 rfl ?_
    exact rc_iret hC rfl rfl dX9_across_39 h rfl
  intro _ h
  refine rc_aload_n (pc := 10) hC dX9_across_10 rfl rfl ?_
  refine rc_iload_n (pc := 11) hC dX9_across_11 rfl rfl ?_
  refine rc_iconst (pc := 12) hC (v := (1 : Int32)) dX9_across_12 rfl ?_
  refine rc_callM (pc := 13) hC (rw_X9_gutter hH.1 v1 (1 : Int32)) q2152 q2154 qs59 q149 q2155 rfl rd_X9_gutter (hH.room (Nat.le_of_ble_eq_true rfl) (Nat.le_of_ble_eq_true rfl)) rfl rfl (Nat.le_of_ble_eq_true rfl) 2 rfl h.le.2.2 (Or.inl hF) h.br rfl dX9_across_13 ?_ (fun E q S hT => rc_out hC hH.2.2.2.2 hT)
  intro x4 S h
  show rc_Z Y S 16 [some (rc_q (some (rc_km (yr_K Y) 100))), some (rc_i v1), some (rc_i v2)] [rc_i x4]
  refine rc_goto (pc := 16) (tgt := 39) hC dX9_across_16 rfl ?_
  exact rc_iret hC rfl rfl dX9_across_39 h rfl
theorem rw_X9_owner {l : Launch} (hl : l.stackTraces = false) (v1 : Int32) : rc_Cm l yX9_owner (ws_ yX9_owner cX9_owner 2 (Option.some Jvm.ClassFile.FieldType.int)) 0 0 rc_tI (rp_X9_owner v1) [rc_i v1] := by
  refine rc_Cm_H hl (plainFor_of_name rY_X9) rfl (Nat.le_of_ble_eq_true rfl) ?_
  intro Y S hC hH hF h
  have hC : rc_C Y cX9_owner RX9 (Option.some Jvm.ClassFile.FieldType.int) 2 := hC
  show rc_Z Y S 0 [some (rc_q (some (rc_km (yr_K Y) 100))), some (rc_i v1)] []
  unfold rp_X9_owner at h
  refine rc_aload_n (pc := 0) hC dX9_owner_0 rfl rfl ?_
  refine rc_r_mref (pc := 1) hC hF rF_X9_7 (by decide) dX9_owner_1 h ?_
  refine rc_bipush (pc := 4) hC (v := (20 : Int32)) dX9_owner_4 rfl ?_
  refine rc_iload_n (pc := 6) hC dX9_owner_6 rfl rfl ?_
  refine rc_iadd (pc := 7) hC dX9_owner_7 ?_
  refine rc_r_mald (pc := 8) hC hF (j := 0) (by decide) rfl dX9_owner_8 h ?_
  intro x2 h
  exact rc_iret hC rfl rfl dX9_owner_9 h rfl
theorem rw_X9_truceLeft {l : Launch} (hl : l.stackTraces = false) (v1 : Int32) (v2 : Int32) : rc_Cm l yX9_truceLeft (ws_ yX9_truceLeft cX9_truceLeft 3 (Option.some Jvm.ClassFile.FieldType.int)) 1 21 rc_tI (rp_X9_truceLeft v1 v2) [rc_i v1, rc_i v2] := by
  refine rc_Cm_H hl (plainFor_of_name rY_X9) rfl (Nat.le_of_ble_eq_true rfl) ?_
  intro Y S hC hH hF h
  have hC : rc_C Y cX9_truceLeft RX9 (Option.some Jvm.ClassFile.FieldType.int) 3 := hC
  show rc_Z Y S 0 [some (rc_q (some (rc_km (yr_K Y) 100))), some (rc_i v1), some (rc_i v2)] []
  unfold rp_X9_truceLeft at h
  refine rc_iconst (pc := 0) hC (v := (0 : Int32)) dX9_truceLeft_0 rfl ?_
  refine rc_aload_n (pc := 1) hC dX9_truceLeft_1 rfl rfl ?_
  refine rc_r_mref (pc := 2) hC hF rF_X9_7 (by decide) dX9_truceLeft_2 h ?_
  refine rc_bipush (pc := 5) hC (v := (122 : Int32)) dX9_truceLeft_5 rfl ?_
  refine rc_bipush (pc := 7) hC (v := (8 : Int32)) dX9_truceLeft_7 rfl ?_
  refine rc_iload_n (pc := 9) hC dX9_truceLeft_9 rfl rfl ?_
  refine rc_imul (pc := 10) hC dX9_truceLeft_10 ?_
  refine rc_iadd (pc := 11) hC dX9_truceLeft_11 ?_
  refine rc_iload_n (pc := 12) hC dX9_truceLeft_12 rfl rfl ?_
  refine rc_iadd (pc := 13) hC dX9_truceLeft_13 ?_
  refine rc_r_mald (pc := 14) hC hF (j := 0) (by decide) rfl dX9_truceLeft_14 h ?_
  intro x2 h
  refine rc_aload_n (pc := 15) hC dX9_truceLeft_15 rfl rfl ?_
  refine rc_r_mref (pc := 16) hC hF rF_X9_7 (by decide) dX9_truceLeft_16 h ?_
  refine rc_iconst (pc := 19) hC (v := (3 : Int32)) dX9_truceLeft_19 rfl ?_
  refine rc_r_mald (pc := 20) hC hF (j := 0) (by decide) rfl dX9_truceLeft_20 h ?_
  intro x4 h
  refine rc_isub (pc := 21) hC dX9_truceLeft_21 ?_
  refine rc_callS (pc := 22) hC (rw_J17_max hH.1 (0 : Int32) (x2 - x4)) q2168 q448 q139 q449 rd_J17_max (hH.room (Nat.le_of_ble_eq_true rfl) (Nat.le_of_ble_eq_true rfl)) rfl rfl (Nat.le_of_ble_eq_true rfl) 2 rfl h.le.2.2 h.br rfl dX9_truceLeft_22 ?_ (fun E q S hT => rc_out hC hH.2.2.2.2 hT)
  intro x5 S h
  show rc_Z Y S 25 [some (rc_q (some (rc_km (yr_K Y) 100))), some (rc_i v1), some (rc_i v2)] [rc_i x5]
  exact rc_iret hC rfl rfl dX9_truceLeft_25 h rfl
theorem rw_X9_whyNotIn_L18 {Y : rc_Y} (hC : rc_C Y cX9_whyNotIn RX9 (Option.some Jvm.ClassFile.FieldType.int) 5) (hH : rc_H Y 2 44 yX9_whyNotIn.name) (hF : yr_F Y = true) (v1 : Int32) (v2 : Int32) (S : rc_S) (h : rc_Go Y rc_tI (rp_X9_whyNotIn_L18  v1 v2) S) : rc_Z Y S 18 [some (rc_q (some (rc_km (yr_K Y) 100))), some (rc_i v1), some (rc_i v2), none, none] [] := by
  unfold rp_X9_whyNotIn_L18 at h
  refine rc_aload_n (pc := 18) hC dX9_whyNotIn_18 rfl rfl ?_
  refine rc_iload_n (pc := 19) hC dX9_whyNotIn_19 rfl rfl ?_
  refine rc_callM (pc := 20) hC (rw_X9_owner hH.1 v2) q2160 q2162 qs61 q149 q2163 rfl rd_X9_owner (hH.room (Nat.le_of_ble_eq_true rfl) (Nat.le_of_ble_eq_true rfl)) rfl rfl (Nat.le_of_ble_eq_true rfl) 1 rfl h.le.2.2 (Or.inl hF) h.br rfl dX9_whyNotIn_20 ?_ (fun E q S hT => rc_out hC hH.2.2.2.2 hT)
  intro x1 S h
  show rc_Z Y S 23 [some (rc_q (some (rc_km (yr_K Y) 100))), some (rc_i v1), some (rc_i v2), none, none] [rc_i x1]
  refine rc_istore (pc := 23) hC (L' := [some (rc_q (some (rc_km (yr_K Y) 100))), some (rc_i v1), some (rc_i v2), none, some (rc_i x1)]) dX9_whyNotIn_23 (Nat.le_of_ble_eq_true rfl) rfl rfl ?_
  refine rc_iload (pc := 25) hC dX9_whyNotIn_25 rfl ?_
  refine rc_iconst (pc := 27) hC (v := (-1 : Int32)) dX9_whyNotIn_27 rfl ?_
  refine rc_icmp_eq (pc := 28) (tgt := 51) hC dX9_whyNotIn_28 rfl h ?_ ?_
  · intro _ h
    refine rc_iconst (pc := 51) hC (v := (0 : Int32)) dX9_whyNotIn_51 rfl ?_
    exact rc_iret hC rfl rfl dX9_whyNotIn_52 h rfl
  intro _ h
  refine rc_iload (pc := 31) hC dX9_whyNotIn_31 rfl ?_
  refine rc_iload_n (pc := 33) hC dX9_whyNotIn_33 rfl rfl ?_
  refine rc_icmp_eq (pc := 34) (tgt := 51) hC dX9_whyNotIn_34 rfl h ?_ ?_
  · intro _ h
    refine rc_iconst (pc := 51) hC (v := (0 : Int32)) dX9_whyNotIn_51 rfl ?_
    exact rc_iret hC rfl rfl dX9_whyNotIn_52 h rfl
  intro _ h
  refine rc_aload_n (pc := 37) hC dX9_whyNotIn_37 rfl rfl ?_
  refine rc_iload_n (pc := 38) hC dX9_whyNotIn_38 rfl rfl ?_
  refine rc_iload (pc := 39) hC dX9_whyNotIn_39 rfl ?_
  refine rc_callM (pc := 41) hC (rw_X9_truceLeft hH.1 v1 x1) q2164 q2166 qs62 q149 q2167 rfl rd_X9_truceLeft (hH.room (Nat.le_of_ble_eq_true rfl) (Nat.le_of_ble_eq_true rfl)) rfl rfl (Nat.le_of_ble_eq_true rfl) 2 rfl h.le.2.2 (Or.inl hF) h.br rfl dX9_whyNotIn_41 ?_ (fun E q S hT => rc_out hC hH.2.2.2.2 hT)
  intro x2 S h
  show rc_Z Y S 44 [some (rc_q (some (rc_km (yr_K Y) 100))), some (rc_i v1), some (rc_i v2), none, some (rc_i x1)] [rc_i x2]
  refine rc_if_ne (pc := 44) (tgt := 51) hC dX9_whyNotIn_44 rfl h ?_ ?_
  · intro _ h
    refine rc_iconst (pc := 51) hC (v := (0 : Int32)) dX9_whyNotIn_51 rfl ?_
    exact rc_iret hC rfl rfl dX9_whyNotIn_52 h rfl
  intro _ h
  refine rc_iconst (pc := 47) hC (v := (4 : Int32)) dX9_whyNotIn_47 rfl ?_
  refine rc_goto (pc := 48) (tgt := 52) hC dX9_whyNotIn_48 rfl ?_
  exact rc_iret hC rfl rfl dX9_whyNotIn_52 h rfl
theorem rw_X9_whyNotIn {l : Launch} (hl : l.stackTraces = false) (v1 : Int32) (v2 : Int32) : rc_Cm l yX9_whyNotIn (ws_ yX9_whyNotIn cX9_whyNotIn 5 (Option.some Jvm.ClassFile.FieldType.int)) 2 44 rc_tI (rp_X9_whyNotIn v1 v2) [rc_i v1, rc_i v2] := by
  refine rc_Cm_H hl (plainFor_of_name rY_X9) rfl (Nat.le_of_ble_eq_true rfl) ?_
  intro Y S hC hH hF h
  have hC : rc_C Y cX9_whyNotIn RX9 (Option.some Jvm.ClassFile.FieldType.int) 5 := hC
  show rc_Z Y S 0 [some (rc_q (some (rc_km (yr_K Y) 100))), some (rc_i v1), some (rc_i v2), none, none] []
  unfold rp_X9_whyNotIn at h
  refine rc_aload_n (pc := 0) hC dX9_whyNotIn_0 rfl rfl ?_
  refine rc_iload_n (pc := 1) hC dX9_whyNotIn_1 rfl rfl ?_
  refine rc_callM (pc := 2) hC (rw_X9_sitter hH.1 v2) q2120 q2122 qs51 q149 q2123 rfl rd_X9_sitter (hH.room (Nat.le_of_ble_eq_true rfl) (Nat.le_of_ble_eq_true rfl)) rfl rfl (Nat.le_of_ble_eq_true rfl) 1 rfl h.le.2.2 (Or.inl hF) h.br rfl dX9_whyNotIn_2 ?_ (fun E q S hT => rc_out hC hH.2.2.2.2 hT)
  intro x1 S h
  show rc_Z Y S 5 [some (rc_q (some (rc_km (yr_K Y) 100))), some (rc_i v1), some (rc_i v2), none, none] [rc_i x1]
  refine rc_istore_n (pc := 5) hC (L' := [some (rc_q (some (rc_km (yr_K Y) 100))), some (rc_i v1), some (rc_i v2), some (rc_i x1), none]) dX9_whyNotIn_5 rfl (Nat.le_of_ble_eq_true rfl) rfl rfl ?_
  refine rc_iload_n (pc := 6) hC dX9_whyNotIn_6 rfl rfl ?_
  refine rc_iconst (pc := 7) hC (v := (-1 : Int32)) dX9_whyNotIn_7 rfl ?_
  refine rc_icmp_eq (pc := 8) (tgt := 18) hC dX9_whyNotIn_8 rfl h ?_ ?_
  · intro _ h
    refine rc_drop [true, true, true, false, false] (L' := [some (rc_q (some (rc_km (yr_K Y) 100))), some (rc_i v1), some (rc_i v2), none, none]) rfl ?_
    exact rw_X9_whyNotIn_L18 hC hH hF  v1 v2 S h
  intro _ h
  refine rc_iload_n (pc := 11) hC dX9_whyNotIn_11 rfl rfl ?_
  refine rc_iload_n (pc := 12) hC dX9_whyNotIn_12 rfl rfl ?_
  refine rc_icmp_eq (pc := 13) (tgt := 18) hC dX9_whyNotIn_13 rfl h ?_ ?_
  · intro _ h
    refine rc_drop [true, true, true, false, false] (L' := [some (rc_q (some (rc_km (yr_K Y) 100))), some (rc_i v1), some (rc_i v2), none, none]) rfl ?_
    exact rw_X9_whyNotIn_L18 hC hH hF  v1 v2 S h
  intro _ h
  refine rc_iconst (pc := 16) hC (v := (3 : Int32)) dX9_whyNotIn_16 rfl ?_
  exact rc_iret hC rfl rfl dX9_whyNotIn_17 h rfl
theorem rw_X9_whyStays {l : Launch} (hl : l.stackTraces = false) (v1 : Int32) (v2 : Int32) : rc_Cm l yX9_whyStays (ws_ yX9_whyStays cX9_whyStays 4 (Option.some Jvm.ClassFile.FieldType.int)) 3 68 rc_tI (rp_X9_whyStays v1 v2) [rc_i v1, rc_i v2] := by
  refine rc_Cm_H hl (plainFor_of_name rY_X9) rfl (Nat.le_of_ble_eq_true rfl) ?_
  intro Y S hC hH hF h
  have hC : rc_C Y cX9_whyStays RX9 (Option.some Jvm.ClassFile.FieldType.int) 4 := hC
  show rc_Z Y S 0 [some (rc_q (some (rc_km (yr_K Y) 100))), some (rc_i v1), some (rc_i v2), none] []
  unfold rp_X9_whyStays at h
  refine rc_aload_n (pc := 0) hC dX9_whyStays_0 rfl rfl ?_
  refine rc_iload_n (pc := 1) hC dX9_whyStays_1 rfl rfl ?_
  refine rc_aload_n (pc := 2) hC dX9_whyStays_2 rfl rfl ?_
  refine rc_iload_n (pc := 3) hC dX9_whyStays_3 rfl rfl ?_
  refine rc_iconst (pc := 4) hC (v := (3 : Int32)) dX9_whyStays_4 rfl ?_
  refine rc_callM (pc := 5) hC (rw_X9_of hH.1 v1 (3 : Int32)) q2124 q2126 qs52 q149 q2127 rfl rd_X9_of (hH.room (Nat.le_of_ble_eq_true rfl) (Nat.le_of_ble_eq_true rfl)) rfl rfl (Nat.le_of_ble_eq_true rfl) 2 rfl h.le.2.2 (Or.inl hF) h.br rfl dX9_whyStays_5 ?_ (fun E q S hT => rc_out hC hH.2.2.2.2 hT)
  intro x1 S h
  show rc_Z Y S 8 [some (rc_q (some (rc_km (yr_K Y) 100))), some (rc_i v1), some (rc_i v2), none] [rc_i x1, rc_i v2, rc_q (some (rc_km (yr_K Y) 100))]
  refine rc_callM (pc := 8) hC (rw_X9_across hH.1 v2 x1) q2148 q2150 qs58 q149 q2151 rfl rd_X9_across (hH.room (Nat.le_of_ble_eq_true rfl) (Nat.le_of_ble_eq_true rfl)) rfl rfl (Nat.le_of_ble_eq_true rfl) 2 rfl h.le.2.2 (Or.inl hF) h.br rfl dX9_whyStays_8 ?_ (fun E q S hT => rc_out hC hH.2.2.2.2 hT)
  intro x2 S h
  show rc_Z Y S 11 [some (rc_q (some (rc_km (yr_K Y) 100))), some (rc_i v1), some (rc_i v2), none] [rc_i x2]
  refine rc_istore_n (pc := 11) hC (L' := [some (rc_q (some (rc_km (yr_K Y) 100))), some (rc_i v1), some (rc_i v2), some (rc_i x2)]) dX9_whyStays_11 rfl (Nat.le_of_ble_eq_true rfl) rfl rfl ?_
  refine rc_iload_n (pc := 12) hC dX9_whyStays_12 rfl rfl ?_
  refine rc_iconst (pc := 13) hC (v := (-1 : Int32)) dX9_whyStays_13 rfl ?_
  refine rc_icmp_ne (pc := 14) (tgt := 19) hC dX9_whyStays_14 rfl h ?_ ?_
  · intro _ h
    refine rc_aload_n (pc := 19) hC dX9_whyStays_19 rfl rfl ?_
    refine rc_iload_n (pc := 20) hC dX9_whyStays_20 rfl rfl ?_
    refine rc_iconst (pc := 21) hC (v := (2 : Int32)) dX9_whyStays_21 rfl ?_
    refine rc_callM (pc := 22) hC (rw_X9_gutter hH.1 v2 (2 : Int32)) q2152 q2154 qs59 q149 q2155 rfl rd_X9_gutter (hH.room (Nat.le_of_ble_eq_true rfl) (Nat.le_of_ble_eq_true rfl)) rfl rfl (Nat.le_of_ble_eq_true rfl) 2 rfl h.le.2.2 (Or.inl hF) h.br rfl dX9_whyStays_22 ?_ (fun E q S hT => rc_out hC hH.2.2.2.2 hT)
    intro x3 S h
    show rc_Z Y S 25 [some (rc_q (some (rc_km (yr_K Y) 100))), some (rc_i v1), some (rc_i v2), some (rc_i x2)] [rc_i x3]
    refine rc_aload_n (pc := 25) hC dX9_whyStays_25 rfl rfl ?_
    refine rc_iload_n (pc := 26) hC dX9_whyStays_26 rfl rfl ?_
    refine rc_iconst (pc := 27) hC (v := (0 : Int32)) dX9_whyStays_27 rfl ?_
    refine rc_callM (pc := 28) hC (rw_X9_of hH.1 v1 (0 : Int32)) q2124 q2126 qs52 q149 q2127 rfl rd_X9_of (hH.room (Nat.le_of_ble_eq_true rfl) (Nat.le_of_ble_eq_true rfl)) rfl rfl (Nat.le_of_ble_eq_true rfl) 2 rfl h.le.2.2 (Or.inl hF) h.br rfl dX9_whyStays_28 ?_ (fun E q S hT => rc_out hC hH.2.2.2.2 hT)
    intro x4 S h
    show rc_Z Y S 31 [some (rc_q (some (rc_km (yr_K Y) 100))), some (rc_i v1), some (rc_i v2), some (rc_i x2)] [rc_i x4, rc_i x3]
    refine rc_icmp_ge (pc := 31) (tgt := 38) hC dX9_whyStays_31 rfl h ?_ ?_
    · intro _ h
      refine rc_aload_n (pc := 38) hC dX9_whyStays_38 rfl rfl ?_
      refine rc_iload_n (pc := 39) hC dX9_whyStays_39 rfl rfl ?_
      refine rc_iload_n (pc := 40) hC dX9_whyStays_40 rfl rfl ?_
      refine rc_callM (pc := 41) hC (rw_X9_whyNotIn hH.1 v1 x2) q2156 q2158 qs60 q149 q2159 rfl rd_X9_whyNotIn (hH.room (Nat.le_of_ble_eq_true rfl) (Nat.le_of_ble_eq_true rfl)) rfl rfl (Nat.le_of_ble_eq_true rfl) 2 rfl h.le.2.2 (Or.inl hF) h.br rfl dX9_whyStays_41 ?_ (fun E q S hT => rc_out hC hH.2.2.2.2 hT)
      intro x5 S h
      show rc_Z Y S 44 [some (rc_q (some (rc_km (yr_K Y) 100))), some (rc_i v1), some (rc_i v2), some (rc_i x2)] [rc_i x5]
      exact rc_iret hC rfl rfl dX9_whyStays_44 h rfl
    intro _ h
    refine rc_iconst (pc := 34) hC (v := (2 : Int32)) dX9_whyStays_34 rfl ?_
    refine rc_goto (pc := 35) (tgt := 44) hC dX9_whyStays_35 rfl ?_
    exact rc_iret hC rfl rfl dX9_whyStays_44 h rfl
  intro _ h
  refine rc_iconst (pc := 17) hC (v := (1 : Int32)) dX9_whyStays_17 rfl ?_
  exact rc_iret hC rfl rfl dX9_whyStays_18 h rfl
theorem rw_X9_goes {l : Launch} (hl : l.stackTraces = false) (v1 : Int32) (v2 : Int32) : rc_Cm l yX9_goes (ws_ yX9_goes cX9_goes 3 (Option.some Jvm.ClassFile.FieldType.int)) 2 44 rc_tI (rp_X9_goes v1 v2) [rc_i v1, rc_i v2] := by
  refine rc_Cm_H hl (plainFor_of_name rY_X9) rfl (Nat.le_of_ble_eq_true rfl) ?_
  intro Y S hC hH hF h
  have hC : rc_C Y cX9_goes RX9 (Option.some Jvm.ClassFile.FieldType.int) 3 := hC
  show rc_Z Y S 0 [some (rc_q (some (rc_km (yr_K Y) 100))), some (rc_i v1), some (rc_i v2)] []
  unfold rp_X9_goes at h
  refine rc_aload_n (pc := 0) hC dX9_goes_0 rfl rfl ?_
  refine rc_iload_n (pc := 1) hC dX9_goes_1 rfl rfl ?_
  refine rc_iconst (pc := 2) hC (v := (3 : Int32)) dX9_goes_2 rfl ?_
  refine rc_aload_n (pc := 3) hC dX9_goes_3 rfl rfl ?_
  refine rc_iload_n (pc := 4) hC dX9_goes_4 rfl rfl ?_
  refine rc_aload_n (pc := 5) hC dX9_goes_5 rfl rfl ?_
  refine rc_iload_n (pc := 6) hC dX9_goes_6 rfl rfl ?_
  refine rc_iconst (pc := 7) hC (v := (3 : Int32)) dX9_goes_7 rfl ?_
  refine rc_callM (pc := 8) hC (rw_X9_of hH.1 v1 (3 : Int32)) q2124 q2126 qs52 q149 q2127 rfl rd_X9_of (hH.room (Nat.le_of_ble_eq_true rfl) (Nat.le_of_ble_eq_true rfl)) rfl rfl (Nat.le_of_ble_eq_true rfl) 2 rfl h.le.2.2 (Or.inl hF) h.br rfl dX9_goes_8 ?_ (fun E q S hT => rc_out hC hH.2.2.2.2 hT)
  intro x1 S h
  show rc_Z Y S 11 [some (rc_q (some (rc_km (yr_K Y) 100))), some (rc_i v1), some (rc_i v2)] [rc_i x1, rc_i v2, rc_q (some (rc_km (yr_K Y) 100)), rc_i (3 : Int32), rc_i v1, rc_q (some (rc_km (yr_K Y) 100))]
  refine rc_callM (pc := 11) hC (rw_X9_across hH.1 v2 x1) q2148 q2150 qs58 q149 q2151 rfl rd_X9_across (hH.room (Nat.le_of_ble_eq_true rfl) (Nat.le_of_ble_eq_true rfl)) rfl rfl (Nat.le_of_ble_eq_true rfl) 2 rfl h.le.2.2 (Or.inl hF) h.br rfl dX9_goes_11 ?_ (fun E q S hT => rc_out hC hH.2.2.2.2 hT)
  intro x2 S h
  show rc_Z Y S 14 [some (rc_q (some (rc_km (yr_K Y) 100))), some (rc_i v1), some (rc_i v2)] [rc_i x2, rc_i (3 : Int32), rc_i v1, rc_q (some (rc_km (yr_K Y) 100))]
  refine rc_callM (pc := 14) hC (rw_X9_to hH.1 v1 (3 : Int32) x2) q2132 q2134 qs54 q149 q2135 rfl rd_X9_to (hH.room (Nat.le_of_ble_eq_true rfl) (Nat.le_of_ble_eq_true rfl)) rfl rfl (Nat.le_of_ble_eq_true rfl) 3 rfl h.le.2.2 (Or.inl hF) h.br rfl dX9_goes_14 ?_ (fun E q S hT => rc_out hC hH.2.2.2.2 hT)
  intro _ S h
  show rc_Z Y S 17 [some (rc_q (some (rc_km (yr_K Y) 100))), some (rc_i v1), some (rc_i v2)] []
  refine rc_aload_n (pc := 17) hC dX9_goes_17 rfl rfl ?_
  refine rc_iload_n (pc := 18) hC dX9_goes_18 rfl rfl ?_
  refine rc_iconst (pc := 19) hC (v := (3 : Int32)) dX9_goes_19 rfl ?_
  refine rc_callM (pc := 20) hC (rw_X9_of hH.1 v1 (3 : Int32)) q2124 q2126 qs52 q149 q2127 rfl rd_X9_of (hH.room (Nat.le_of_ble_eq_true rfl) (Nat.le_of_ble_eq_true rfl)) rfl rfl (Nat.le_of_ble_eq_true rfl) 2 rfl h.le.2.2 (Or.inl hF) h.br rfl dX9_goes_20 ?_ (fun E q S hT => rc_out hC hH.2.2.2.2 hT)
  intro x3 S h
  show rc_Z Y S 23 [some (rc_q (some (rc_km (yr_K Y) 100))), some (rc_i v1), some (rc_i v2)] [rc_i x3]
  exact rc_iret hC rfl rfl dX9_goes_23 h rfl
theorem rw_X9_readsStep_L50 {Y : rc_Y} (hC : rc_C Y cX9_readsStep RX9 (Option.some Jvm.ClassFile.FieldType.boolean) 1) (hH : rc_H Y 4 91 yX9_readsStep.name) (hF : yr_F Y = true) (s0 : Int32) (S : rc_S) (h : rc_Go Y rc_tI (rp_X9_readsStep_L50  s0) S) : rc_Z Y S 50 [some (rc_q (some (rc_km (yr_K Y) 100)))] [rc_i s0, rc_q (some (rc_km (yr_K Y) 100))] := by
  unfold rp_X9_readsStep_L50 at h
  refine rc_callM (pc := 50) hC (rw_X9_stops hH.1 s0) q2084 q2086 qs42 q149 q2087 rfl rd_X9_stops (hH.room (Nat.le_of_ble_eq_true rfl) (Nat.le_of_ble_eq_true rfl)) rfl rfl (Nat.le_of_ble_eq_true rfl) 1 rfl h.le.2.2 (Or.inl hF) h.br rfl dX9_readsStep_50 ?_ (fun E q S hT => rc_out hC hH.2.2.2.2 hT)
  intro x1 S h
  show rc_Z Y S 53 [some (rc_q (some (rc_km (yr_K Y) 100)))] [rc_i x1]
  refine rc_if_ne (pc := 53) (tgt := 58) hC dX9_readsStep_53 rfl h ?_ ?_
  · intro _ h
    refine rc_aload_n (pc := 58) hC dX9_readsStep_58 rfl rfl ?_
    refine rc_aload_n (pc := 59) hC dX9_readsStep_59 rfl rfl ?_
    refine rc_r_mref (pc := 60) hC hF rF_X9_42 (by decide) dX9_readsStep_60 h ?_
    refine rc_iconst (pc := 63) hC (v := (0 : Int32)) dX9_readsStep_63 rfl ?_
    refine rc_r_mald (pc := 64) hC hF (j := 22) (by decide) rfl dX9_readsStep_64 h ?_
    intro x3 h
    refine rc_aload_n (pc := 65) hC dX9_readsStep_65 rfl rfl ?_
    refine rc_r_mref (pc := 66) hC hF rF_X9_42 (by decide) dX9_readsStep_66 h ?_
    refine rc_iconst (pc := 69) hC (v := (1 : Int32)) dX9_readsStep_69 rfl ?_
    refine rc_r_mald (pc := 70) hC hF (j := 22) (by decide) rfl dX9_readsStep_70 h ?_
    intro x5 h
    refine rc_callM (pc := 71) hC (rw_X9_goes hH.1 x3 x5) q2169 q2171 qs63 q149 q2172 rfl rd_X9_goes (hH.room (Nat.le_of_ble_eq_true rfl) (Nat.le_of_ble_eq_true rfl)) rfl rfl (Nat.le_of_ble_eq_true rfl) 2 rfl h.le.2.2 (Or.inl hF) h.br rfl dX9_readsStep_71 ?_ (fun E q S hT => rc_out hC hH.2.2.2.2 hT)
    intro x6 S h
    show rc_Z Y S 74 [some (rc_q (some (rc_km (yr_K Y) 100)))] [rc_i x6]
    refine rc_pop (pc := 74) hC dX9_readsStep_74 rfl ?_
    refine rc_iconst (pc := 75) hC (v := (1 : Int32)) dX9_readsStep_75 rfl ?_
    exact rc_iret hC rfl rfl dX9_readsStep_76 h rfl
  intro _ h
  refine rc_iconst (pc := 56) hC (v := (0 : Int32)) dX9_readsStep_56 rfl ?_
  exact rc_iret hC rfl rfl dX9_readsStep_57 h rfl
theorem rw_X9_readsStep {l : Launch} (hl : l.stackTraces = false) : rc_Cm l yX9_readsStep (ws_ yX9_readsStep cX9_readsStep 1 (Option.some Jvm.ClassFile.FieldType.boolean)) 4 91 rc_tI (rp_X9_readsStep ) [] := by
  refine rc_Cm_H hl (plainFor_of_name rY_X9) rfl (Nat.le_of_ble_eq_true rfl) ?_
  intro Y S hC hH hF h
  have hC : rc_C Y cX9_readsStep RX9 (Option.some Jvm.ClassFile.FieldType.boolean) 1 := hC
  show rc_Z Y S 0 [some (rc_q (some (rc_km (yr_K Y) 100)))] []
  unfold rp_X9_readsStep at h
  refine rc_aload_n (pc := 0) hC dX9_readsStep_0 rfl rfl ?_
  refine rc_iconst (pc := 1) hC (v := (0 : Int32)) dX9_readsStep_1 rfl ?_
  refine rc_callM (pc := 2) hC (rw_X9_catAt hH.1 (0 : Int32)) q2140 q2142 qs56 q149 q2143 rfl rd_X9_catAt (hH.room (Nat.le_of_ble_eq_true rfl) (Nat.le_of_ble_eq_true rfl)) rfl rfl (Nat.le_of_ble_eq_true rfl) 1 rfl h.le.2.2 (Or.inl hF) h.br rfl dX9_readsStep_2 ?_ (fun E q S hT => rc_out hC hH.2.2.2.2 hT)
  intro x1 S h
  show rc_Z Y S 5 [some (rc_q (some (rc_km (yr_K Y) 100)))] [rc_i x1]
  refine rc_if_eq (pc := 5) (tgt := 56) hC dX9_readsStep_5 rfl h ?_ ?_
  · intro _ h
    refine rc_iconst (pc := 56) hC (v := (0 : Int32)) dX9_readsStep_56 rfl ?_
    exact rc_iret hC rfl rfl dX9_readsStep_57 h rfl
  intro _ h
  refine rc_aload_n (pc := 8) hC dX9_readsStep_8 rfl rfl ?_
  refine rc_iconst (pc := 9) hC (v := (1 : Int32)) dX9_readsStep_9 rfl ?_
  refine rc_iconst (pc := 10) hC (v := (0 : Int32)) dX9_readsStep_10 rfl ?_
  refine rc_aload_n (pc := 11) hC dX9_readsStep_11 rfl rfl ?_
  refine rc_r_mref (pc := 12) hC hF rF_X9_7 (by decide) dX9_readsStep_12 h ?_
  refine rc_iconst (pc := 15) hC (v := (1 : Int32)) dX9_readsStep_15 rfl ?_
  refine rc_r_mald (pc := 16) hC hF (j := 0) (by decide) rfl dX9_readsStep_16 h ?_
  intro x3 h
  refine rc_iconst (pc := 17) hC (v := (1 : Int32)) dX9_readsStep_17 rfl ?_
  refine rc_isub (pc := 18) hC dX9_readsStep_18 ?_
  refine rc_callM (pc := 19) hC (rw_X9_number hH.1 (1 : Int32) (0 : Int32) (x3 - (1 : Int32))) q2069 q2071 qs39 q149 q2072 rfl rd_X9_number (hH.room (Nat.le_of_ble_eq_true rfl) (Nat.le_of_ble_eq_true rfl)) rfl rfl (Nat.le_of_ble_eq_true rfl) 3 rfl h.le.2.2 (Or.inl hF) h.br rfl dX9_readsStep_19 ?_ (fun E q S hT => rc_out hC hH.2.2.2.2 hT)
  intro x4 S h
  show rc_Z Y S 22 [some (rc_q (some (rc_km (yr_K Y) 100)))] [rc_i x4]
  refine rc_if_eq (pc := 22) (tgt := 56) hC dX9_readsStep_22 rfl h ?_ ?_
  · intro _ h
    refine rc_iconst (pc := 56) hC (v := (0 : Int32)) dX9_readsStep_56 rfl ?_
    exact rc_iret hC rfl rfl dX9_readsStep_57 h rfl
  intro _ h
  refine rc_aload_n (pc := 25) hC dX9_readsStep_25 rfl rfl ?_
  refine rc_aload_n (pc := 26) hC dX9_readsStep_26 rfl rfl ?_
  refine rc_aload_n (pc := 27) hC dX9_readsStep_27 rfl rfl ?_
  refine rc_r_mref (pc := 28) hC hF rF_X9_42 (by decide) dX9_readsStep_28 h ?_
  refine rc_iconst (pc := 31) hC (v := (0 : Int32)) dX9_readsStep_31 rfl ?_
  refine rc_r_mald (pc := 32) hC hF (j := 22) (by decide) rfl dX9_readsStep_32 h ?_
  intro x6 h
  refine rc_aload_n (pc := 33) hC dX9_readsStep_33 rfl rfl ?_
  refine rc_r_mref (pc := 34) hC hF rF_X9_42 (by decide) dX9_readsStep_34 h ?_
  refine rc_iconst (pc := 37) hC (v := (1 : Int32)) dX9_readsStep_37 rfl ?_
  refine rc_r_mald (pc := 38) hC hF (j := 22) (by decide) rfl dX9_readsStep_38 h ?_
  intro x8 h
  refine rc_callM (pc := 39) hC (rw_X9_whyStays hH.1 x6 x8) q2144 q2146 qs57 q149 q2147 rfl rd_X9_whyStays (hH.room (Nat.le_of_ble_eq_true rfl) (Nat.le_of_ble_eq_true rfl)) rfl rfl (Nat.le_of_ble_eq_true rfl) 2 rfl h.le.2.2 (Or.inl hF) h.br rfl dX9_readsStep_39 ?_ (fun E q S hT => rc_out hC hH.2.2.2.2 hT)
  intro x9 S h
  show rc_Z Y S 42 [some (rc_q (some (rc_km (yr_K Y) 100)))] [rc_i x9, rc_q (some (rc_km (yr_K Y) 100))]
  refine rc_if_ne (pc := 42) (tgt := 49) hC dX9_readsStep_42 rfl h ?_ ?_
  · intro _ h
    refine rc_iconst (pc := 49) hC (v := (0 : Int32)) dX9_readsStep_49 rfl ?_
    exact rw_X9_readsStep_L50 hC hH hF  (0 : Int32) S h
  intro _ h
  refine rc_iconst (pc := 45) hC (v := (1 : Int32)) dX9_readsStep_45 rfl ?_
  refine rc_goto (pc := 46) (tgt := 50) hC dX9_readsStep_46 rfl ?_
  exact rw_X9_readsStep_L50 hC hH hF  (1 : Int32) S h
theorem rw_X9_owns_L29 {Y : rc_Y} (hC : rc_C Y cX9_owns RX9 (Option.some Jvm.ClassFile.FieldType.int) 4) (hH : rc_H Y 1 21 yX9_owns.name) (hF : yr_F Y = true) {k4 : Int32 → Int32 → Int32 → rc_M Int32} (hk4 : ∀ (v1 : Int32) (v2 : Int32) (v3 : Int32) (S : rc_S), rc_Go Y rc_tI (k4 v1 v2 v3) S → rc_Z Y S 4 [some (rc_q (some (rc_km (yr_K Y) 100))), some (rc_i v1), some (rc_i v2), some (rc_i v3)] []) (v1 : Int32) (v3 : Int32) (s0 : Int32) (s1 : Int32) (S : rc_S) (h : rc_Go Y rc_tI (rp_X9_owns_L29 k4 v1 v3 s0 s1) S) : rc_Z Y S 29 [some (rc_q (some (rc_km (yr_K Y) 100))), some (rc_i v1), none, some (rc_i v3)] [rc_i s0, rc_i s1] := by
  unfold rp_X9_owns_L29 at h
  refine rc_iadd (pc := 29) hC dX9_owns_29 ?_
  refine rc_istore_n (pc := 30) hC (L' := [some (rc_q (some (rc_km (yr_K Y) 100))), some (rc_i v1), some (rc_i (s1 + s0)), some (rc_i v3)]) dX9_owns_30 rfl (Nat.le_of_ble_eq_true rfl) rfl rfl ?_
  refine rc_iinc (pc := 31) hC (v := (v3 + (1 : Int32))) (L' := [some (rc_q (some (rc_km (yr_K Y) 100))), some (rc_i v1), some (rc_i (s1 + s0)), some (rc_i (v3 + (1 : Int32)))]) dX9_owns_31 rfl rfl rfl rfl ?_
  refine rc_goto (pc := 34) (tgt := 4) hC dX9_owns_34 rfl ?_
  exact hk4 v1 (s1 + s0) (v3 + (1 : Int32)) S h
theorem rw_X9_owns_L4 {Y : rc_Y} (hC : rc_C Y cX9_owns RX9 (Option.some Jvm.ClassFile.FieldType.int) 4) (hH : rc_H Y 1 21 yX9_owns.name) (hF : yr_F Y = true) : ∀ (n : Nat) (v1 : Int32) (v2 : Int32) (v3 : Int32) (S : rc_S), rc_Go Y rc_tI (rp_X9_owns_L4  n v1 v2 v3) S → rc_Z Y S 4 [some (rc_q (some (rc_km (yr_K Y) 100))), some (rc_i v1), some (rc_i v2), some (rc_i v3)] [] := by
  intro n
  induction n with
  | zero => intro v1 v2 v3 S h; exact h.fail.elim
  | succ n ih =>
    intro v1 v2 v3 S h
    rw [rp_X9_owns_L4] at h
    refine rc_iload_n (pc := 4) hC dX9_owns_4 rfl rfl ?_
    refine rc_aload_n (pc := 5) hC dX9_owns_5 rfl rfl ?_
    refine rc_r_mref (pc := 6) hC hF rF_X9_7 (by decide) dX9_owns_6 h ?_
    refine rc_iconst (pc := 9) hC (v := (0 : Int32)) dX9_owns_9 rfl ?_
    refine rc_r_mald (pc := 10) hC hF (j := 0) (by decide) rfl dX9_owns_10 h ?_
    intro x2 h
    refine rc_icmp_ge (pc := 11) (tgt := 37) hC dX9_owns_11 rfl h ?_ ?_
    · intro _ h
      refine rc_iload_n (pc := 37) hC dX9_owns_37 rfl rfl ?_
      exact rc_iret hC rfl rfl dX9_owns_38 h rfl
    intro _ h
    refine rc_iload_n (pc := 14) hC dX9_owns_14 rfl rfl ?_
    refine rc_aload_n (pc := 15) hC dX9_owns_15 rfl rfl ?_
    refine rc_iload_n (pc := 16) hC dX9_owns_16 rfl rfl ?_
    refine rc_callM (pc := 17) hC (rw_X9_owner hH.1 v3) q2160 q2162 qs61 q149 q2163 rfl rd_X9_owner (hH.room (Nat.le_of_ble_eq_true rfl) (Nat.le_of_ble_eq_true rfl)) rfl rfl (Nat.le_of_ble_eq_true rfl) 1 rfl h.le.2.2 (Or.inl hF) h.br rfl dX9_owns_17 ?_ (fun E q S hT => rc_out hC hH.2.2.2.2 hT)
    intro x3 S h
    show rc_Z Y S 20 [some (rc_q (some (rc_km (yr_K Y) 100))), some (rc_i v1), some (rc_i v2), some (rc_i v3)] [rc_i x3, rc_i v2]
    refine rc_iload_n (pc := 20) hC dX9_owns_20 rfl rfl ?_
    refine rc_icmp_ne (pc := 21) (tgt := 28) hC dX9_owns_21 rfl h ?_ ?_
    · intro _ h
      refine rc_iconst (pc := 28) hC (v := (0 : Int32)) dX9_owns_28 rfl ?_
      refine rc_drop [true, true, false, true] (L' := [some (rc_q (some (rc_km (yr_K Y) 100))), some (rc_i v1), none, some (rc_i v3)]) rfl ?_
      exact rw_X9_owns_L29 hC hH hF ih v1 v3 (0 : Int32) v2 S h
    intro _ h
    refine rc_iconst (pc := 24) hC (v := (1 : Int32)) dX9_owns_24 rfl ?_
    refine rc_goto (pc := 25) (tgt := 29) hC dX9_owns_25 rfl ?_
    refine rc_drop [true, true, false, true] (L' := [some (rc_q (some (rc_km (yr_K Y) 100))), some (rc_i v1), none, some (rc_i v3)]) rfl ?_
    exact rw_X9_owns_L29 hC hH hF ih v1 v3 (1 : Int32) v2 S h
theorem rw_X9_owns {l : Launch} (hl : l.stackTraces = false) (v1 : Int32) : rc_Cm l yX9_owns (ws_ yX9_owns cX9_owns 4 (Option.some Jvm.ClassFile.FieldType.int)) 1 21 rc_tI (rp_X9_owns v1) [rc_i v1] := by
  refine rc_Cm_H hl (plainFor_of_name rY_X9) rfl (Nat.le_of_ble_eq_true rfl) ?_
  intro Y S hC hH hF h
  have hC : rc_C Y cX9_owns RX9 (Option.some Jvm.ClassFile.FieldType.int) 4 := hC
  show rc_Z Y S 0 [some (rc_q (some (rc_km (yr_K Y) 100))), some (rc_i v1), none, none] []
  unfold rp_X9_owns at h
  refine rc_iconst (pc := 0) hC (v := (0 : Int32)) dX9_owns_0 rfl ?_
  refine rc_istore_n (pc := 1) hC (L' := [some (rc_q (some (rc_km (yr_K Y) 100))), some (rc_i v1), some (rc_i (0 : Int32)), none]) dX9_owns_1 rfl (Nat.le_of_ble_eq_true rfl) rfl rfl ?_
  refine rc_iconst (pc := 2) hC (v := (0 : Int32)) dX9_owns_2 rfl ?_
  refine rc_istore_n (pc := 3) hC (L' := [some (rc_q (some (rc_km (yr_K Y) 100))), some (rc_i v1), some (rc_i (0 : Int32)), some (rc_i (0 : Int32))]) dX9_owns_3 rfl (Nat.le_of_ble_eq_true rfl) rfl rfl ?_
  refine rc_r_fuel h ?_
  intro x1 h
  exact rw_X9_owns_L4 hC hH hF  x1 v1 (0 : Int32) (0 : Int32) S h
theorem rw_X9_whyLeaves {l : Launch} (hl : l.stackTraces = false) (v1 : Int32) : rc_Cm l yX9_whyLeaves (ws_ yX9_whyLeaves cX9_whyLeaves 2 (Option.some Jvm.ClassFile.FieldType.int)) 2 44 rc_tI (rp_X9_whyLeaves v1) [rc_i v1] := by
  refine rc_Cm_H hl (plainFor_of_name rY_X9) rfl (Nat.le_of_ble_eq_true rfl) ?_
  intro Y S hC hH hF h
  have hC : rc_C Y cX9_whyLeaves RX9 (Option.some Jvm.ClassFile.FieldType.int) 2 := hC
  show rc_Z Y S 0 [some (rc_q (some (rc_km (yr_K Y) 100))), some (rc_i v1)] []
  unfold rp_X9_whyLeaves at h
  refine rc_aload_n (pc := 0) hC dX9_whyLeaves_0 rfl rfl ?_
  refine rc_aload_n (pc := 1) hC dX9_whyLeaves_1 rfl rfl ?_
  refine rc_iload_n (pc := 2) hC dX9_whyLeaves_2 rfl rfl ?_
  refine rc_iconst (pc := 3) hC (v := (3 : Int32)) dX9_whyLeaves_3 rfl ?_
  refine rc_callM (pc := 4) hC (rw_X9_of hH.1 v1 (3 : Int32)) q2124 q2126 qs52 q149 q2127 rfl rd_X9_of (hH.room (Nat.le_of_ble_eq_true rfl) (Nat.le_of_ble_eq_true rfl)) rfl rfl (Nat.le_of_ble_eq_true rfl) 2 rfl h.le.2.2 (Or.inl hF) h.br rfl dX9_whyLeaves_4 ?_ (fun E q S hT => rc_out hC hH.2.2.2.2 hT)
  intro x1 S h
  show rc_Z Y S 7 [some (rc_q (some (rc_km (yr_K Y) 100))), some (rc_i v1)] [rc_i x1, rc_q (some (rc_km (yr_K Y) 100))]
  refine rc_callM (pc := 7) hC (rw_X9_owner hH.1 x1) q2160 q2162 qs61 q149 q2163 rfl rd_X9_owner (hH.room (Nat.le_of_ble_eq_true rfl) (Nat.le_of_ble_eq_true rfl)) rfl rfl (Nat.le_of_ble_eq_true rfl) 1 rfl h.le.2.2 (Or.inl hF) h.br rfl dX9_whyLeaves_7 ?_ (fun E q S hT => rc_out hC hH.2.2.2.2 hT)
  intro x2 S h
  show rc_Z Y S 10 [some (rc_q (some (rc_km (yr_K Y) 100))), some (rc_i v1)] [rc_i x2]
  refine rc_iconst (pc := 10) hC (v := (-1 : Int32)) dX9_whyLeaves_10 rfl ?_
  refine rc_icmp_eq (pc := 11) (tgt := 16) hC dX9_whyLeaves_11 rfl h ?_ ?_
  · intro _ h
    refine rc_aload_n (pc := 16) hC dX9_whyLeaves_16 rfl rfl ?_
    refine rc_iload_n (pc := 17) hC dX9_whyLeaves_17 rfl rfl ?_
    refine rc_callM (pc := 18) hC (rw_X9_owns hH.1 v1) q2181 q2183 qs66 q149 q2184 rfl rd_X9_owns (hH.room (Nat.le_of_ble_eq_true rfl) (Nat.le_of_ble_eq_true rfl)) rfl rfl (Nat.le_of_ble_eq_true rfl) 1 rfl h.le.2.2 (Or.inl hF) h.br rfl dX9_whyLeaves_18 ?_ (fun E q S hT => rc_out hC hH.2.2.2.2 hT)
    intro x3 S h
    show rc_Z Y S 21 [some (rc_q (some (rc_km (yr_K Y) 100))), some (rc_i v1)] [rc_i x3]
    refine rc_iconst (pc := 21) hC (v := (4 : Int32)) dX9_whyLeaves_21 rfl ?_
    refine rc_icmp_ne (pc := 22) (tgt := 30) hC dX9_whyLeaves_22 rfl h ?_ ?_
    · intro _ h
      refine rc_iconst (pc := 30) hC (v := (0 : Int32)) dX9_whyLeaves_30 rfl ?_
      exact rc_iret hC rfl rfl dX9_whyLeaves_31 h rfl
    intro _ h
    refine rc_bipush (pc := 25) hC (v := (6 : Int32)) dX9_whyLeaves_25 rfl ?_
    refine rc_goto (pc := 27) (tgt := 31) hC dX9_whyLeaves_27 rfl ?_
    exact rc_iret hC rfl rfl dX9_whyLeaves_31 h rfl
  intro _ h
  refine rc_iconst (pc := 14) hC (v := (5 : Int32)) dX9_whyLeaves_14 rfl ?_
  exact rc_iret hC rfl rfl dX9_whyLeaves_15 h rfl
theorem rw_X9_claims {l : Launch} (hl : l.stackTraces = false) (v1 : Int32) : rc_Cm l yX9_claims (ws_ yX9_claims cX9_claims 2 (Option.some Jvm.ClassFile.FieldType.int)) 2 44 rc_tI (rp_X9_claims v1) [rc_i v1] := by
  refine rc_Cm_H hl (plainFor_of_name rY_X9) rfl (Nat.le_of_ble_eq_true rfl) ?_
  intro Y S hC hH hF h
  have hC : rc_C Y cX9_claims RX9 (Option.some Jvm.ClassFile.FieldType.int) 2 := hC
  show rc_Z Y S 0 [some (rc_q (some (rc_km (yr_K Y) 100))), some (rc_i v1)] []
  unfold rp_X9_claims at h
  refine rc_aload_n (pc := 0) hC dX9_claims_0 rfl rfl ?_
  refine rc_r_mref (pc := 1) hC hF rF_X9_7 (by decide) dX9_claims_1 h ?_
  refine rc_bipush (pc := 4) hC (v := (20 : Int32)) dX9_claims_4 rfl ?_
  refine rc_aload_n (pc := 6) hC dX9_claims_6 rfl rfl ?_
  refine rc_iload_n (pc := 7) hC dX9_claims_7 rfl rfl ?_
  refine rc_iconst (pc := 8) hC (v := (3 : Int32)) dX9_claims_8 rfl ?_
  refine rc_callM (pc := 9) hC (rw_X9_of hH.1 v1 (3 : Int32)) q2124 q2126 qs52 q149 q2127 rfl rd_X9_of (hH.room (Nat.le_of_ble_eq_true rfl) (Nat.le_of_ble_eq_true rfl)) rfl rfl (Nat.le_of_ble_eq_true rfl) 2 rfl h.le.2.2 (Or.inl hF) h.br rfl dX9_claims_9 ?_ (fun E q S hT => rc_out hC hH.2.2.2.2 hT)
  intro x2 S h
  show rc_Z Y S 12 [some (rc_q (some (rc_km (yr_K Y) 100))), some (rc_i v1)] [rc_i x2, rc_i (20 : Int32), rc_q (some (rc_km (yr_K Y) 0))]
  refine rc_iadd (pc := 12) hC dX9_claims_12 ?_
  refine rc_iload_n (pc := 13) hC dX9_claims_13 rfl rfl ?_
  refine rc_r_mast (pc := 14) hC hF (j := 0) (by decide) rfl dX9_claims_14 h ?_
  intro S h
  refine rc_aload_n (pc := 15) hC dX9_claims_15 rfl rfl ?_
  refine rc_iload_n (pc := 16) hC dX9_claims_16 rfl rfl ?_
  refine rc_callM (pc := 17) hC (rw_X9_owns hH.1 v1) q2181 q2183 qs66 q149 q2184 rfl rd_X9_owns (hH.room (Nat.le_of_ble_eq_true rfl) (Nat.le_of_ble_eq_true rfl)) rfl rfl (Nat.le_of_ble_eq_true rfl) 1 rfl h.le.2.2 (Or.inl hF) h.br rfl dX9_claims_17 ?_ (fun E q S hT => rc_out hC hH.2.2.2.2 hT)
  intro x3 S h
  show rc_Z Y S 20 [some (rc_q (some (rc_km (yr_K Y) 100))), some (rc_i v1)] [rc_i x3]
  exact rc_iret hC rfl rfl dX9_claims_20 h rfl
theorem rw_X9_readsClaim_L27 {Y : rc_Y} (hC : rc_C Y cX9_readsClaim RX9 (Option.some Jvm.ClassFile.FieldType.boolean) 1) (hH : rc_H Y 4 86 yX9_readsClaim.name) (hF : yr_F Y = true) (s0 : Int32) (S : rc_S) (h : rc_Go Y rc_tI (rp_X9_readsClaim_L27  s0) S) : rc_Z Y S 27 [some (rc_q (some (rc_km (yr_K Y) 100)))] [rc_i s0, rc_q (some (rc_km (yr_K Y) 100))] := by
  unfold rp_X9_readsClaim_L27 at h
  refine rc_callM (pc := 27) hC (rw_X9_stops hH.1 s0) q2084 q2086 qs42 q149 q2087 rfl rd_X9_stops (hH.room (Nat.le_of_ble_eq_true rfl) (Nat.le_of_ble_eq_true rfl)) rfl rfl (Nat.le_of_ble_eq_true rfl) 1 rfl h.le.2.2 (Or.inl hF) h.br rfl dX9_readsClaim_27 ?_ (fun E q S hT => rc_out hC hH.2.2.2.2 hT)
  intro x1 S h
  show rc_Z Y S 30 [some (rc_q (some (rc_km (yr_K Y) 100)))] [rc_i x1]
  refine rc_if_ne (pc := 30) (tgt := 35) hC dX9_readsClaim_30 rfl h ?_ ?_
  · intro _ h
    refine rc_aload_n (pc := 35) hC dX9_readsClaim_35 rfl rfl ?_
    refine rc_aload_n (pc := 36) hC dX9_readsClaim_36 rfl rfl ?_
    refine rc_r_mref (pc := 37) hC hF rF_X9_42 (by decide) dX9_readsClaim_37 h ?_
    refine rc_iconst (pc := 40) hC (v := (0 : Int32)) dX9_readsClaim_40 rfl ?_
    refine rc_r_mald (pc := 41) hC hF (j := 22) (by decide) rfl dX9_readsClaim_41 h ?_
    intro x3 h
    refine rc_callM (pc := 42) hC (rw_X9_claims hH.1 x3) q2185 q2187 qs67 q149 q2188 rfl rd_X9_claims (hH.room (Nat.le_of_ble_eq_true rfl) (Nat.le_of_ble_eq_true rfl)) rfl rfl (Nat.le_of_ble_eq_true rfl) 1 rfl h.le.2.2 (Or.inl hF) h.br rfl dX9_readsClaim_42 ?_ (fun E q S hT => rc_out hC hH.2.2.2.2 hT)
    intro x4 S h
    show rc_Z Y S 45 [some (rc_q (some (rc_km (yr_K Y) 100)))] [rc_i x4]
    refine rc_pop (pc := 45) hC dX9_readsClaim_45 rfl ?_
    refine rc_iconst (pc := 46) hC (v := (1 : Int32)) dX9_readsClaim_46 rfl ?_
    exact rc_iret hC rfl rfl dX9_readsClaim_47 h rfl
  intro _ h
  refine rc_iconst (pc := 33) hC (v := (0 : Int32)) dX9_readsClaim_33 rfl ?_
  exact rc_iret hC rfl rfl dX9_readsClaim_34 h rfl
theorem rw_X9_readsClaim {l : Launch} (hl : l.stackTraces = false) : rc_Cm l yX9_readsClaim (ws_ yX9_readsClaim cX9_readsClaim 1 (Option.some Jvm.ClassFile.FieldType.boolean)) 4 86 rc_tI (rp_X9_readsClaim ) [] := by
  refine rc_Cm_H hl (plainFor_of_name rY_X9) rfl (Nat.le_of_ble_eq_true rfl) ?_
  intro Y S hC hH hF h
  have hC : rc_C Y cX9_readsClaim RX9 (Option.some Jvm.ClassFile.FieldType.boolean) 1 := hC
  show rc_Z Y S 0 [some (rc_q (some (rc_km (yr_K Y) 100)))] []
  unfold rp_X9_readsClaim at h
  refine rc_aload_n (pc := 0) hC dX9_readsClaim_0 rfl rfl ?_
  refine rc_iconst (pc := 1) hC (v := (0 : Int32)) dX9_readsClaim_1 rfl ?_
  refine rc_callM (pc := 2) hC (rw_X9_catAt hH.1 (0 : Int32)) q2140 q2142 qs56 q149 q2143 rfl rd_X9_catAt (hH.room (Nat.le_of_ble_eq_true rfl) (Nat.le_of_ble_eq_true rfl)) rfl rfl (Nat.le_of_ble_eq_true rfl) 1 rfl h.le.2.2 (Or.inl hF) h.br rfl dX9_readsClaim_2 ?_ (fun E q S hT => rc_out hC hH.2.2.2.2 hT)
  intro x1 S h
  show rc_Z Y S 5 [some (rc_q (some (rc_km (yr_K Y) 100)))] [rc_i x1]
  refine rc_if_eq (pc := 5) (tgt := 33) hC dX9_readsClaim_5 rfl h ?_ ?_
  · intro _ h
    refine rc_iconst (pc := 33) hC (v := (0 : Int32)) dX9_readsClaim_33 rfl ?_
    exact rc_iret hC rfl rfl dX9_readsClaim_34 h rfl
  intro _ h
  refine rc_aload_n (pc := 8) hC dX9_readsClaim_8 rfl rfl ?_
  refine rc_aload_n (pc := 9) hC dX9_readsClaim_9 rfl rfl ?_
  refine rc_aload_n (pc := 10) hC dX9_readsClaim_10 rfl rfl ?_
  refine rc_r_mref (pc := 11) hC hF rF_X9_42 (by decide) dX9_readsClaim_11 h ?_
  refine rc_iconst (pc := 14) hC (v := (0 : Int32)) dX9_readsClaim_14 rfl ?_
  refine rc_r_mald (pc := 15) hC hF (j := 22) (by decide) rfl dX9_readsClaim_15 h ?_
  intro x3 h
  refine rc_callM (pc := 16) hC (rw_X9_whyLeaves hH.1 x3) q2177 q2179 qs65 q149 q2180 rfl rd_X9_whyLeaves (hH.room (Nat.le_of_ble_eq_true rfl) (Nat.le_of_ble_eq_true rfl)) rfl rfl (Nat.le_of_ble_eq_true rfl) 1 rfl h.le.2.2 (Or.inl hF) h.br rfl dX9_readsClaim_16 ?_ (fun E q S hT => rc_out hC hH.2.2.2.2 hT)
  intro x4 S h
  show rc_Z Y S 19 [some (rc_q (some (rc_km (yr_K Y) 100)))] [rc_i x4, rc_q (some (rc_km (yr_K Y) 100))]
  refine rc_if_ne (pc := 19) (tgt := 26) hC dX9_readsClaim_19 rfl h ?_ ?_
  · intro _ h
    refine rc_iconst (pc := 26) hC (v := (0 : Int32)) dX9_readsClaim_26 rfl ?_
    exact rw_X9_readsClaim_L27 hC hH hF  (0 : Int32) S h
  intro _ h
  refine rc_iconst (pc := 22) hC (v := (1 : Int32)) dX9_readsClaim_22 rfl ?_
  refine rc_goto (pc := 23) (tgt := 27) hC dX9_readsClaim_23 rfl ?_
  exact rw_X9_readsClaim_L27 hC hH hF  (1 : Int32) S h
theorem rw_X9_leaves {l : Launch} (hl : l.stackTraces = false) (v1 : Int32) : rc_Cm l yX9_leaves (ws_ yX9_leaves cX9_leaves 3 (Option.some Jvm.ClassFile.FieldType.int)) 1 21 rc_tI (rp_X9_leaves v1) [rc_i v1] := by
  refine rc_Cm_H hl (plainFor_of_name rY_X9) rfl (Nat.le_of_ble_eq_true rfl) ?_
  intro Y S hC hH hF h
  have hC : rc_C Y cX9_leaves RX9 (Option.some Jvm.ClassFile.FieldType.int) 3 := hC
  show rc_Z Y S 0 [some (rc_q (some (rc_km (yr_K Y) 100))), some (rc_i v1), none] []
  unfold rp_X9_leaves at h
  refine rc_aload_n (pc := 0) hC dX9_leaves_0 rfl rfl ?_
  refine rc_iload_n (pc := 1) hC dX9_leaves_1 rfl rfl ?_
  refine rc_callM (pc := 2) hC (rw_X9_owner hH.1 v1) q2160 q2162 qs61 q149 q2163 rfl rd_X9_owner (hH.room (Nat.le_of_ble_eq_true rfl) (Nat.le_of_ble_eq_true rfl)) rfl rfl (Nat.le_of_ble_eq_true rfl) 1 rfl h.le.2.2 (Or.inl hF) h.br rfl dX9_leaves_2 ?_ (fun E q S hT => rc_out hC hH.2.2.2.2 hT)
  intro x1 S h
  show rc_Z Y S 5 [some (rc_q (some (rc_km (yr_K Y) 100))), some (rc_i v1), none] [rc_i x1]
  refine rc_istore_n (pc := 5) hC (L' := [some (rc_q (some (rc_km (yr_K Y) 100))), some (rc_i v1), some (rc_i x1)]) dX9_leaves_5 rfl (Nat.le_of_ble_eq_true rfl) rfl rfl ?_
  refine rc_aload_n (pc := 6) hC dX9_leaves_6 rfl rfl ?_
  refine rc_r_mref (pc := 7) hC hF rF_X9_7 (by decide) dX9_leaves_7 h ?_
  refine rc_bipush (pc := 10) hC (v := (20 : Int32)) dX9_leaves_10 rfl ?_
  refine rc_iload_n (pc := 12) hC dX9_leaves_12 rfl rfl ?_
  refine rc_iadd (pc := 13) hC dX9_leaves_13 ?_
  refine rc_iconst (pc := 14) hC (v := (-1 : Int32)) dX9_leaves_14 rfl ?_
  refine rc_r_mast (pc := 15) hC hF (j := 0) (by decide) rfl dX9_leaves_15 h ?_
  intro S h
  refine rc_iload_n (pc := 16) hC dX9_leaves_16 rfl rfl ?_
  exact rc_iret hC rfl rfl dX9_leaves_17 h rfl
theorem rw_X9_readsAbandon_L28 {Y : rc_Y} (hC : rc_C Y cX9_readsAbandon RX9 (Option.some Jvm.ClassFile.FieldType.boolean) 1) (hH : rc_H Y 4 86 yX9_readsAbandon.name) (hF : yr_F Y = true) (s0 : Int32) (S : rc_S) (h : rc_Go Y rc_tI (rp_X9_readsAbandon_L28  s0) S) : rc_Z Y S 28 [some (rc_q (some (rc_km (yr_K Y) 100)))] [rc_i s0, rc_q (some (rc_km (yr_K Y) 100))] := by
  unfold rp_X9_readsAbandon_L28 at h
  refine rc_callM (pc := 28) hC (rw_X9_stops hH.1 s0) q2084 q2086 qs42 q149 q2087 rfl rd_X9_stops (hH.room (Nat.le_of_ble_eq_true rfl) (Nat.le_of_ble_eq_true rfl)) rfl rfl (Nat.le_of_ble_eq_true rfl) 1 rfl h.le.2.2 (Or.inl hF) h.br rfl dX9_readsAbandon_28 ?_ (fun E q S hT => rc_out hC hH.2.2.2.2 hT)
  intro x1 S h
  show rc_Z Y S 31 [some (rc_q (some (rc_km (yr_K Y) 100)))] [rc_i x1]
  refine rc_if_ne (pc := 31) (tgt := 36) hC dX9_readsAbandon_31 rfl h ?_ ?_
  · intro _ h
    refine rc_aload_n (pc := 36) hC dX9_readsAbandon_36 rfl rfl ?_
    refine rc_aload_n (pc := 37) hC dX9_readsAbandon_37 rfl rfl ?_
    refine rc_r_mref (pc := 38) hC hF rF_X9_42 (by decide) dX9_readsAbandon_38 h ?_
    refine rc_iconst (pc := 41) hC (v := (0 : Int32)) dX9_readsAbandon_41 rfl ?_
    refine rc_r_mald (pc := 42) hC hF (j := 22) (by decide) rfl dX9_readsAbandon_42 h ?_
    intro x3 h
    refine rc_callM (pc := 43) hC (rw_X9_leaves hH.1 x3) q2193 q2195 qs69 q149 q2196 rfl rd_X9_leaves (hH.room (Nat.le_of_ble_eq_true rfl) (Nat.le_of_ble_eq_true rfl)) rfl rfl (Nat.le_of_ble_eq_true rfl) 1 rfl h.le.2.2 (Or.inl hF) h.br rfl dX9_readsAbandon_43 ?_ (fun E q S hT => rc_out hC hH.2.2.2.2 hT)
    intro x4 S h
    show rc_Z Y S 46 [some (rc_q (some (rc_km (yr_K Y) 100)))] [rc_i x4]
    refine rc_pop (pc := 46) hC dX9_readsAbandon_46 rfl ?_
    refine rc_iconst (pc := 47) hC (v := (1 : Int32)) dX9_readsAbandon_47 rfl ?_
    exact rc_iret hC rfl rfl dX9_readsAbandon_48 h rfl
  intro _ h
  refine rc_iconst (pc := 34) hC (v := (0 : Int32)) dX9_readsAbandon_34 rfl ?_
  exact rc_iret hC rfl rfl dX9_readsAbandon_35 h rfl
theorem rw_X9_readsAbandon {l : Launch} (hl : l.stackTraces = false) : rc_Cm l yX9_readsAbandon (ws_ yX9_readsAbandon cX9_readsAbandon 1 (Option.some Jvm.ClassFile.FieldType.boolean)) 4 86 rc_tI (rp_X9_readsAbandon ) [] := by
  refine rc_Cm_H hl (plainFor_of_name rY_X9) rfl (Nat.le_of_ble_eq_true rfl) ?_
  intro Y S hC hH hF h
  have hC : rc_C Y cX9_readsAbandon RX9 (Option.some Jvm.ClassFile.FieldType.boolean) 1 := hC
  show rc_Z Y S 0 [some (rc_q (some (rc_km (yr_K Y) 100)))] []
  unfold rp_X9_readsAbandon at h
  refine rc_aload_n (pc := 0) hC dX9_readsAbandon_0 rfl rfl ?_
  refine rc_iconst (pc := 1) hC (v := (0 : Int32)) dX9_readsAbandon_1 rfl ?_
  refine rc_callM (pc := 2) hC (rw_X9_chimneyAt hH.1 (0 : Int32)) q2096 q2098 qs45 q149 q2099 rfl rd_X9_chimneyAt (hH.room (Nat.le_of_ble_eq_true rfl) (Nat.le_of_ble_eq_true rfl)) rfl rfl (Nat.le_of_ble_eq_true rfl) 1 rfl h.le.2.2 (Or.inl hF) h.br rfl dX9_readsAbandon_2 ?_ (fun E q S hT => rc_out hC hH.2.2.2.2 hT)
  intro x1 S h
  show rc_Z Y S 5 [some (rc_q (some (rc_km (yr_K Y) 100)))] [rc_i x1]
  refine rc_if_eq (pc := 5) (tgt := 34) hC dX9_readsAbandon_5 rfl h ?_ ?_
  · intro _ h
    refine rc_iconst (pc := 34) hC (v := (0 : Int32)) dX9_readsAbandon_34 rfl ?_
    exact rc_iret hC rfl rfl dX9_readsAbandon_35 h rfl
  intro _ h
  refine rc_aload_n (pc := 8) hC dX9_readsAbandon_8 rfl rfl ?_
  refine rc_aload_n (pc := 9) hC dX9_readsAbandon_9 rfl rfl ?_
  refine rc_aload_n (pc := 10) hC dX9_readsAbandon_10 rfl rfl ?_
  refine rc_r_mref (pc := 11) hC hF rF_X9_42 (by decide) dX9_readsAbandon_11 h ?_
  refine rc_iconst (pc := 14) hC (v := (0 : Int32)) dX9_readsAbandon_14 rfl ?_
  refine rc_r_mald (pc := 15) hC hF (j := 22) (by decide) rfl dX9_readsAbandon_15 h ?_
  intro x3 h
  refine rc_callM (pc := 16) hC (rw_X9_owner hH.1 x3) q2160 q2162 qs61 q149 q2163 rfl rd_X9_owner (hH.room (Nat.le_of_ble_eq_true rfl) (Nat.le_of_ble_eq_true rfl)) rfl rfl (Nat.le_of_ble_eq_true rfl) 1 rfl h.le.2.2 (Or.inl hF) h.br rfl dX9_readsAbandon_16 ?_ (fun E q S hT => rc_out hC hH.2.2.2.2 hT)
  intro x4 S h
  show rc_Z Y S 19 [some (rc_q (some (rc_km (yr_K Y) 100)))] [rc_i x4, rc_q (some (rc_km (yr_K Y) 100))]
  refine rc_iconst (pc := 19) hC (v := (-1 : Int32)) dX9_readsAbandon_19 rfl ?_
  refine rc_icmp_eq (pc := 20) (tgt := 27) hC dX9_readsAbandon_20 rfl h ?_ ?_
  · intro _ h
    refine rc_iconst (pc := 27) hC (v := (0 : Int32)) dX9_readsAbandon_27 rfl ?_
    exact rw_X9_readsAbandon_L28 hC hH hF  (0 : Int32) S h
  intro _ h
  refine rc_iconst (pc := 23) hC (v := (1 : Int32)) dX9_readsAbandon_23 rfl ?_
  refine rc_goto (pc := 24) (tgt := 28) hC dX9_readsAbandon_24 rfl ?_
  exact rw_X9_readsAbandon_L28 hC hH hF  (1 : Int32) S h
theorem rw_X9_joins_L40 {Y : rc_Y} (hC : rc_C Y cX9_joins RX9 (Option.some Jvm.ClassFile.FieldType.boolean) 4) (hH : rc_H Y 1 22 yX9_joins.name) (hF : yr_F Y = true) (S : rc_S) (h : rc_Go Y rc_tI (rp_X9_joins_L40  ) S) : rc_Z Y S 40 [none, none, none, none] [] := by
  unfold rp_X9_joins_L40 at h
  refine rc_iconst (pc := 40) hC (v := (1 : Int32)) dX9_joins_40 rfl ?_
  refine rc_goto (pc := 41) (tgt := 45) hC dX9_joins_41 rfl ?_
  exact rc_iret hC rfl rfl dX9_joins_45 h rfl
theorem rw_X9_joins_L20 {Y : rc_Y} (hC : rc_C Y cX9_joins RX9 (Option.some Jvm.ClassFile.FieldType.boolean) 4) (hH : rc_H Y 1 22 yX9_joins.name) (hF : yr_F Y = true) (v1 : Int32) (v2 : Int32) (v3 : Int32) (S : rc_S) (h : rc_Go Y rc_tI (rp_X9_joins_L20  v1 v2 v3) S) : rc_Z Y S 20 [some (rc_q (some (rc_km (yr_K Y) 100))), some (rc_i v1), some (rc_i v2), some (rc_i v3)] [] := by
  unfold rp_X9_joins_L20 at h
  refine rc_aload_n (pc := 20) hC dX9_joins_20 rfl rfl ?_
  refine rc_iload_n (pc := 21) hC dX9_joins_21 rfl rfl ?_
  refine rc_iconst (pc := 22) hC (v := (0 : Int32)) dX9_joins_22 rfl ?_
  refine rc_callM (pc := 23) hC (rw_X9_gutter hH.1 v1 (0 : Int32)) q2152 q2154 qs59 q149 q2155 rfl rd_X9_gutter (hH.room (Nat.le_of_ble_eq_true rfl) (Nat.le_of_ble_eq_true rfl)) rfl rfl (Nat.le_of_ble_eq_true rfl) 2 rfl h.le.2.2 (Or.inl hF) h.br rfl dX9_joins_23 ?_ (fun E q S hT => rc_out hC hH.2.2.2.2 hT)
  intro x1 S h
  show rc_Z Y S 26 [some (rc_q (some (rc_km (yr_K Y) 100))), some (rc_i v1), some (rc_i v2), some (rc_i v3)] [rc_i x1]
  refine rc_iload_n (pc := 26) hC dX9_joins_26 rfl rfl ?_
  refine rc_icmp_ne (pc := 27) (tgt := 44) hC dX9_joins_27 rfl h ?_ ?_
  · intro _ h
    refine rc_iconst (pc := 44) hC (v := (0 : Int32)) dX9_joins_44 rfl ?_
    exact rc_iret hC rfl rfl dX9_joins_45 h rfl
  intro _ h
  refine rc_aload_n (pc := 30) hC dX9_joins_30 rfl rfl ?_
  refine rc_iload_n (pc := 31) hC dX9_joins_31 rfl rfl ?_
  refine rc_iconst (pc := 32) hC (v := (1 : Int32)) dX9_joins_32 rfl ?_
  refine rc_callM (pc := 33) hC (rw_X9_gutter hH.1 v1 (1 : Int32)) q2152 q2154 qs59 q149 q2155 rfl rd_X9_gutter (hH.room (Nat.le_of_ble_eq_true rfl) (Nat.le_of_ble_eq_true rfl)) rfl rfl (Nat.le_of_ble_eq_true rfl) 2 rfl h.le.2.2 (Or.inl hF) h.br rfl dX9_joins_33 ?_ (fun E q S hT => rc_out hC hH.2.2.2.2 hT)
  intro x2 S h
  show rc_Z Y S 36 [some (rc_q (some (rc_km (yr_K Y) 100))), some (rc_i v1), some (rc_i v2), some (rc_i v3)] [rc_i x2]
  refine rc_iload_n (pc := 36) hC dX9_joins_36 rfl rfl ?_
  refine rc_icmp_ne (pc := 37) (tgt := 44) hC dX9_joins_37 rfl h ?_ ?_
  · intro _ h
    refine rc_iconst (pc := 44) hC (v := (0 : Int32)) dX9_joins_44 rfl ?_
    exact rc_iret hC rfl rfl dX9_joins_45 h rfl
  intro _ h
  refine rc_drop [false, false, false, false] (L' := [none, none, none, none]) rfl ?_
  exact rw_X9_joins_L40 hC hH hF   S h
theorem rw_X9_joins {l : Launch} (hl : l.stackTraces = false) (v1 : Int32) (v2 : Int32) (v3 : Int32) : rc_Cm l yX9_joins (ws_ yX9_joins cX9_joins 4 (Option.some Jvm.ClassFile.FieldType.boolean)) 1 22 rc_tI (rp_X9_joins v1 v2 v3) [rc_i v1, rc_i v2, rc_i v3] := by
  refine rc_Cm_H hl (plainFor_of_name rY_X9) rfl (Nat.le_of_ble_eq_true rfl) ?_
  intro Y S hC hH hF h
  have hC : rc_C Y cX9_joins RX9 (Option.some Jvm.ClassFile.FieldType.boolean) 4 := hC
  show rc_Z Y S 0 [some (rc_q (some (rc_km (yr_K Y) 100))), some (rc_i v1), some (rc_i v2), some (rc_i v3)] []
  unfold rp_X9_joins at h
  refine rc_aload_n (pc := 0) hC dX9_joins_0 rfl rfl ?_
  refine rc_iload_n (pc := 1) hC dX9_joins_1 rfl rfl ?_
  refine rc_iconst (pc := 2) hC (v := (0 : Int32)) dX9_joins_2 rfl ?_
  refine rc_callM (pc := 3) hC (rw_X9_gutter hH.1 v1 (0 : Int32)) q2152 q2154 qs59 q149 q2155 rfl rd_X9_gutter (hH.room (Nat.le_of_ble_eq_true rfl) (Nat.le_of_ble_eq_true rfl)) rfl rfl (Nat.le_of_ble_eq_true rfl) 2 rfl h.le.2.2 (Or.inl hF) h.br rfl dX9_joins_3 ?_ (fun E q S hT => rc_out hC hH.2.2.2.2 hT)
  intro x1 S h
  show rc_Z Y S 6 [some (rc_q (some (rc_km (yr_K Y) 100))), some (rc_i v1), some (rc_i v2), some (rc_i v3)] [rc_i x1]
  refine rc_iload_n (pc := 6) hC dX9_joins_6 rfl rfl ?_
  refine rc_icmp_ne (pc := 7) (tgt := 20) hC dX9_joins_7 rfl h ?_ ?_
  · intro _ h
    exact rw_X9_joins_L20 hC hH hF  v1 v2 v3 S h
  intro _ h
  refine rc_aload_n (pc := 10) hC dX9_joins_10 rfl rfl ?_
  refine rc_iload_n (pc := 11) hC dX9_joins_11 rfl rfl ?_
  refine rc_iconst (pc := 12) hC (v := (1 : Int32)) dX9_joins_12 rfl ?_
  refine rc_callM (pc := 13) hC (rw_X9_gutter hH.1 v1 (1 : Int32)) q2152 q2154 qs59 q149 q2155 rfl rd_X9_gutter (hH.room (Nat.le_of_ble_eq_true rfl) (Nat.le_of_ble_eq_true rfl)) rfl rfl (Nat.le_of_ble_eq_true rfl) 2 rfl h.le.2.2 (Or.inl hF) h.br rfl dX9_joins_13 ?_ (fun E q S hT => rc_out hC hH.2.2.2.2 hT)
  intro x2 S h
  show rc_Z Y S 16 [some (rc_q (some (rc_km (yr_K Y) 100))), some (rc_i v1), some (rc_i v2), some (rc_i v3)] [rc_i x2]
  refine rc_iload_n (pc := 16) hC dX9_joins_16 rfl rfl ?_
  refine rc_icmp_eq (pc := 17) (tgt := 40) hC dX9_joins_17 rfl h ?_ ?_
  · intro _ h
    refine rc_drop [false, false, false, false] (L' := [none, none, none, none]) rfl ?_
    exact rw_X9_joins_L40 hC hH hF   S h
  intro _ h
  exact rw_X9_joins_L20 hC hH hF  v1 v2 v3 S h
theorem rw_X9_widestBetween_L42 {Y : rc_Y} (hC : rc_C Y cX9_widestBetween RX9 (Option.some Jvm.ClassFile.FieldType.int) 5) (hH : rc_H Y 2 45 yX9_widestBetween.name) (hF : yr_F Y = true) {k5 : Int32 → Int32 → Int32 → Int32 → rc_M Int32} (hk5 : ∀ (v1 : Int32) (v2 : Int32) (v3 : Int32) (v4 : Int32) (S : rc_S), rc_Go Y rc_tI (k5 v1 v2 v3 v4) S → rc_Z Y S 5 [some (rc_q (some (rc_km (yr_K Y) 100))), some (rc_i v1), some (rc_i v2), some (rc_i v3), some (rc_i v4)] []) (v1 : Int32) (v2 : Int32) (v4 : Int32) (s0 : Int32) (S : rc_S) (h : rc_Go Y rc_tI (rp_X9_widestBetween_L42 k5 v1 v2 v4 s0) S) : rc_Z Y S 42 [some (rc_q (some (rc_km (yr_K Y) 100))), some (rc_i v1), some (rc_i v2), none, some (rc_i v4)] [rc_i s0] := by
  unfold rp_X9_widestBetween_L42 at h
  refine rc_istore_n (pc := 42) hC (L' := [some (rc_q (some (rc_km (yr_K Y) 100))), some (rc_i v1), some (rc_i v2), some (rc_i s0), some (rc_i v4)]) dX9_widestBetween_42 rfl (Nat.le_of_ble_eq_true rfl) rfl rfl ?_
  refine rc_iinc (pc := 43) hC (v := (v4 + (1 : Int32))) (L' := [some (rc_q (some (rc_km (yr_K Y) 100))), some (rc_i v1), some (rc_i v2), some (rc_i s0), some (rc_i (v4 + (1 : Int32)))]) dX9_widestBetween_43 rfl rfl rfl rfl ?_
  refine rc_goto (pc := 46) (tgt := 5) hC dX9_widestBetween_46 rfl ?_
  exact hk5 v1 v2 s0 (v4 + (1 : Int32)) S h
theorem rw_X9_widestBetween_L5 {Y : rc_Y} (hC : rc_C Y cX9_widestBetween RX9 (Option.some Jvm.ClassFile.FieldType.int) 5) (hH : rc_H Y 2 45 yX9_widestBetween.name) (hF : yr_F Y = true) : ∀ (n : Nat) (v1 : Int32) (v2 : Int32) (v3 : Int32) (v4 : Int32) (S : rc_S), rc_Go Y rc_tI (rp_X9_widestBetween_L5  n v1 v2 v3 v4) S → rc_Z Y S 5 [some (rc_q (some (rc_km (yr_K Y) 100))), some (rc_i v1), some (rc_i v2), some (rc_i v3), some (rc_i v4)] [] := by
  intro n
  induction n with
  | zero => intro v1 v2 v3 v4 S h; exact h.fail.elim
  | succ n ih =>
    intro v1 v2 v3 v4 S h
    rw [rp_X9_widestBetween_L5] at h
    refine rc_iload (pc := 5) hC dX9_widestBetween_5 rfl ?_
    refine rc_aload_n (pc := 7) hC dX9_widestBetween_7 rfl rfl ?_
    refine rc_r_mref (pc := 8) hC hF rF_X9_7 (by decide) dX9_widestBetween_8 h ?_
    refine rc_iconst (pc := 11) hC (v := (1 : Int32)) dX9_widestBetween_11 rfl ?_
    refine rc_r_mald (pc := 12) hC hF (j := 0) (by decide) rfl dX9_widestBetween_12 h ?_
    intro x2 h
    refine rc_icmp_ge (pc := 13) (tgt := 49) hC dX9_widestBetween_13 rfl h ?_ ?_
    · intro _ h
      refine rc_iload_n (pc := 49) hC dX9_widestBetween_49 rfl rfl ?_
      exact rc_iret hC rfl rfl dX9_widestBetween_50 h rfl
    intro _ h
    refine rc_aload_n (pc := 16) hC dX9_widestBetween_16 rfl rfl ?_
    refine rc_iload (pc := 17) hC dX9_widestBetween_17 rfl ?_
    refine rc_iload_n (pc := 19) hC dX9_widestBetween_19 rfl rfl ?_
    refine rc_iload_n (pc := 20) hC dX9_widestBetween_20 rfl rfl ?_
    refine rc_callM (pc := 21) hC (rw_X9_joins hH.1 v4 v1 v2) q2209 q2211 qs73 q149 q2212 rfl rd_X9_joins (hH.room (Nat.le_of_ble_eq_true rfl) (Nat.le_of_ble_eq_true rfl)) rfl rfl (Nat.le_of_ble_eq_true rfl) 3 rfl h.le.2.2 (Or.inl hF) h.br rfl dX9_widestBetween_21 ?_ (fun E q S hT => rc_out hC hH.2.2.2.2 hT)
    intro x3 S h
    show rc_Z Y S 24 [some (rc_q (some (rc_km (yr_K Y) 100))), some (rc_i v1), some (rc_i v2), some (rc_i v3), some (rc_i v4)] [rc_i x3]
    refine rc_if_eq (pc := 24) (tgt := 41) hC dX9_widestBetween_24 rfl h ?_ ?_
    · intro _ h
      refine rc_iload_n (pc := 41) hC dX9_widestBetween_41 rfl rfl ?_
      refine rc_drop [true, true, true, false, true] (L' := [some (rc_q (some (rc_km (yr_K Y) 100))), some (rc_i v1), some (rc_i v2), none, some (rc_i v4)]) rfl ?_
      exact rw_X9_widestBetween_L42 hC hH hF ih v1 v2 v4 v3 S h
    intro _ h
    refine rc_iload_n (pc := 27) hC dX9_widestBetween_27 rfl rfl ?_
    refine rc_aload_n (pc := 28) hC dX9_widestBetween_28 rfl rfl ?_
    refine rc_iload (pc := 29) hC dX9_widestBetween_29 rfl ?_
    refine rc_iconst (pc := 31) hC (v := (2 : Int32)) dX9_widestBetween_31 rfl ?_
    refine rc_callM (pc := 32) hC (rw_X9_gutter hH.1 v4 (2 : Int32)) q2152 q2154 qs59 q149 q2155 rfl rd_X9_gutter (hH.room (Nat.le_of_ble_eq_true rfl) (Nat.le_of_ble_eq_true rfl)) rfl rfl (Nat.le_of_ble_eq_true rfl) 2 rfl h.le.2.2 (Or.inl hF) h.br rfl dX9_widestBetween_32 ?_ (fun E q S hT => rc_out hC hH.2.2.2.2 hT)
    intro x4 S h
    show rc_Z Y S 35 [some (rc_q (some (rc_km (yr_K Y) 100))), some (rc_i v1), some (rc_i v2), some (rc_i v3), some (rc_i v4)] [rc_i x4, rc_i v3]
    refine rc_callS (pc := 35) hC (rw_J17_max hH.1 v3 x4) q2168 q448 q139 q449 rd_J17_max (hH.room (Nat.le_of_ble_eq_true rfl) (Nat.le_of_ble_eq_true rfl)) rfl rfl (Nat.le_of_ble_eq_true rfl) 2 rfl h.le.2.2 h.br rfl dX9_widestBetween_35 ?_ (fun E q S hT => rc_out hC hH.2.2.2.2 hT)
    intro x5 S h
    show rc_Z Y S 38 [some (rc_q (some (rc_km (yr_K Y) 100))), some (rc_i v1), some (rc_i v2), some (rc_i v3), some (rc_i v4)] [rc_i x5]
    refine rc_goto (pc := 38) (tgt := 42) hC dX9_widestBetween_38 rfl ?_
    refine rc_drop [true, true, true, false, true] (L' := [some (rc_q (some (rc_km (yr_K Y) 100))), some (rc_i v1), some (rc_i v2), none, some (rc_i v4)]) rfl ?_
    exact rw_X9_widestBetween_L42 hC hH hF ih v1 v2 v4 x5 S h
theorem rw_X9_widestBetween {l : Launch} (hl : l.stackTraces = false) (v1 : Int32) (v2 : Int32) : rc_Cm l yX9_widestBetween (ws_ yX9_widestBetween cX9_widestBetween 5 (Option.some Jvm.ClassFile.FieldType.int)) 2 45 rc_tI (rp_X9_widestBetween v1 v2) [rc_i v1, rc_i v2] := by
  refine rc_Cm_H hl (plainFor_of_name rY_X9) rfl (Nat.le_of_ble_eq_true rfl) ?_
  intro Y S hC hH hF h
  have hC : rc_C Y cX9_widestBetween RX9 (Option.some Jvm.ClassFile.FieldType.int) 5 := hC
  show rc_Z Y S 0 [some (rc_q (some (rc_km (yr_K Y) 100))), some (rc_i v1), some (rc_i v2), none, none] []
  unfold rp_X9_widestBetween at h
  refine rc_iconst (pc := 0) hC (v := (0 : Int32)) dX9_widestBetween_0 rfl ?_
  refine rc_istore_n (pc := 1) hC (L' := [some (rc_q (some (rc_km (yr_K Y) 100))), some (rc_i v1), some (rc_i v2), some (rc_i (0 : Int32)), none]) dX9_widestBetween_1 rfl (Nat.le_of_ble_eq_true rfl) rfl rfl ?_
  refine rc_iconst (pc := 2) hC (v := (0 : Int32)) dX9_widestBetween_2 rfl ?_
  refine rc_istore (pc := 3) hC (L' := [some (rc_q (some (rc_km (yr_K Y) 100))), some (rc_i v1), some (rc_i v2), some (rc_i (0 : Int32)), some (rc_i (0 : Int32))]) dX9_widestBetween_3 (Nat.le_of_ble_eq_true rfl) rfl rfl ?_
  refine rc_r_fuel h ?_
  intro x1 h
  exact rw_X9_widestBetween_L5 hC hH hF  x1 v1 v2 (0 : Int32) (0 : Int32) S h
theorem rw_X9_isHome {l : Launch} (hl : l.stackTraces = false) (v1 : Int32) : rc_Cm l yX9_isHome (ws_ yX9_isHome cX9_isHome 2 (Option.some Jvm.ClassFile.FieldType.boolean)) 1 22 rc_tI (rp_X9_isHome v1) [rc_i v1] := by
  refine rc_Cm_H hl (plainFor_of_name rY_X9) rfl (Nat.le_of_ble_eq_true rfl) ?_
  intro Y S hC hH hF h
  have hC : rc_C Y cX9_isHome RX9 (Option.some Jvm.ClassFile.FieldType.boolean) 2 := hC
  show rc_Z Y S 0 [some (rc_q (some (rc_km (yr_K Y) 100))), some (rc_i v1)] []
  unfold rp_X9_isHome at h
  refine rc_aload_n (pc := 0) hC dX9_isHome_0 rfl rfl ?_
  refine rc_aload_n (pc := 1) hC dX9_isHome_1 rfl rfl ?_
  refine rc_iload_n (pc := 2) hC dX9_isHome_2 rfl rfl ?_
  refine rc_iconst (pc := 3) hC (v := (3 : Int32)) dX9_isHome_3 rfl ?_
  refine rc_callM (pc := 4) hC (rw_X9_of hH.1 v1 (3 : Int32)) q2124 q2126 qs52 q149 q2127 rfl rd_X9_of (hH.room (Nat.le_of_ble_eq_true rfl) (Nat.le_of_ble_eq_true rfl)) rfl rfl (Nat.le_of_ble_eq_true rfl) 2 rfl h.le.2.2 (Or.inl hF) h.br rfl dX9_isHome_4 ?_ (fun E q S hT => rc_out hC hH.2.2.2.2 hT)
  intro x1 S h
  show rc_Z Y S 7 [some (rc_q (some (rc_km (yr_K Y) 100))), some (rc_i v1)] [rc_i x1, rc_q (some (rc_km (yr_K Y) 100))]
  refine rc_callM (pc := 7) hC (rw_X9_owner hH.1 x1) q2160 q2162 qs61 q149 q2163 rfl rd_X9_owner (hH.room (Nat.le_of_ble_eq_true rfl) (Nat.le_of_ble_eq_true rfl)) rfl rfl (Nat.le_of_ble_eq_true rfl) 1 rfl h.le.2.2 (Or.inl hF) h.br rfl dX9_isHome_7 ?_ (fun E q S hT => rc_out hC hH.2.2.2.2 hT)
  intro x2 S h
  show rc_Z Y S 10 [some (rc_q (some (rc_km (yr_K Y) 100))), some (rc_i v1)] [rc_i x2]
  refine rc_iload_n (pc := 10) hC dX9_isHome_10 rfl rfl ?_
  refine rc_icmp_ne (pc := 11) (tgt := 18) hC dX9_isHome_11 rfl h ?_ ?_
  · intro _ h
    refine rc_iconst (pc := 18) hC (v := (0 : Int32)) dX9_isHome_18 rfl ?_
    exact rc_iret hC rfl rfl dX9_isHome_19 h rfl
  intro _ h
  refine rc_iconst (pc := 14) hC (v := (1 : Int32)) dX9_isHome_14 rfl ?_
  refine rc_goto (pc := 15) (tgt := 19) hC dX9_isHome_15 rfl ?_
  exact rc_iret hC rfl rfl dX9_isHome_19 h rfl
theorem rw_X9_powerOf {l : Launch} (hl : l.stackTraces = false) (v1 : Int32) : rc_Cm l yX9_powerOf (ws_ yX9_powerOf cX9_powerOf 2 (Option.some Jvm.ClassFile.FieldType.int)) 2 43 rc_tI (rp_X9_powerOf v1) [rc_i v1] := by
  refine rc_Cm_H hl (plainFor_of_name rY_X9) rfl (Nat.le_of_ble_eq_true rfl) ?_
  intro Y S hC hH hF h
  have hC : rc_C Y cX9_powerOf RX9 (Option.some Jvm.ClassFile.FieldType.int) 2 := hC
  show rc_Z Y S 0 [some (rc_q (some (rc_km (yr_K Y) 100))), some (rc_i v1)] []
  unfold rp_X9_powerOf at h
  refine rc_aload_n (pc := 0) hC dX9_powerOf_0 rfl rfl ?_
  refine rc_iload_n (pc := 1) hC dX9_powerOf_1 rfl rfl ?_
  refine rc_iconst (pc := 2) hC (v := (1 : Int32)) dX9_powerOf_2 rfl ?_
  refine rc_callM (pc := 3) hC (rw_X9_of hH.1 v1 (1 : Int32)) q2124 q2126 qs52 q149 q2127 rfl rd_X9_of (hH.room (Nat.le_of_ble_eq_true rfl) (Nat.le_of_ble_eq_true rfl)) rfl rfl (Nat.le_of_ble_eq_true rfl) 2 rfl h.le.2.2 (Or.inl hF) h.br rfl dX9_powerOf_3 ?_ (fun E q S hT => rc_out hC hH.2.2.2.2 hT)
  intro x1 S h
  show rc_Z Y S 6 [some (rc_q (some (rc_km (yr_K Y) 100))), some (rc_i v1)] [rc_i x1]
  refine rc_aload_n (pc := 6) hC dX9_powerOf_6 rfl rfl ?_
  refine rc_iload_n (pc := 7) hC dX9_powerOf_7 rfl rfl ?_
  refine rc_callM (pc := 8) hC (rw_X9_isHome hH.1 v1) q2217 q2219 qs75 q149 q2220 rfl rd_X9_isHome (hH.room (Nat.le_of_ble_eq_true rfl) (Nat.le_of_ble_eq_true rfl)) rfl rfl (Nat.le_of_ble_eq_true rfl) 1 rfl h.le.2.2 (Or.inl hF) h.br rfl dX9_powerOf_8 ?_ (fun E q S hT => rc_out hC hH.2.2.2.2 hT)
  intro x2 S h
  show rc_Z Y S 11 [some (rc_q (some (rc_km (yr_K Y) 100))), some (rc_i v1)] [rc_i x2, rc_i x1]
  refine rc_if_eq (pc := 11) (tgt := 18) hC dX9_powerOf_11 rfl h ?_ ?_
  · intro _ h
    refine rc_iconst (pc := 18) hC (v := (0 : Int32)) dX9_powerOf_18 rfl ?_
    refine rc_iadd (pc := 19) hC dX9_powerOf_19 ?_
    exact rc_iret hC rfl rfl dX9_powerOf_20 h rfl
  intro _ h
  refine rc_iconst (pc := 14) hC (v := (2 : Int32)) dX9_powerOf_14 rfl ?_
  refine rc_goto (pc := 15) (tgt := 19) hC dX9_powerOf_15 rfl ?_
  refine rc_iadd (pc := 19) hC dX9_powerOf_19 ?_
  exact rc_iret hC rfl rfl dX9_powerOf_20 h rfl
theorem rw_X9_whySpares {l : Launch} (hl : l.stackTraces = false) (v1 : Int32) (v2 : Int32) : rc_Cm l yX9_whySpares (ws_ yX9_whySpares cX9_whySpares 3 (Option.some Jvm.ClassFile.FieldType.int)) 3 69 rc_tI (rp_X9_whySpares v1 v2) [rc_i v1, rc_i v2] := by
  refine rc_Cm_H hl (plainFor_of_name rY_X9) rfl (Nat.le_of_ble_eq_true rfl) ?_
  intro Y S hC hH hF h
  have hC : rc_C Y cX9_whySpares RX9 (Option.some Jvm.ClassFile.FieldType.int) 3 := hC
  show rc_Z Y S 0 [some (rc_q (some (rc_km (yr_K Y) 100))), some (rc_i v1), some (rc_i v2)] []
  unfold rp_X9_whySpares at h
  refine rc_aload_n (pc := 0) hC dX9_whySpares_0 rfl rfl ?_
  refine rc_aload_n (pc := 1) hC dX9_whySpares_1 rfl rfl ?_
  refine rc_iload_n (pc := 2) hC dX9_whySpares_2 rfl rfl ?_
  refine rc_iconst (pc := 3) hC (v := (3 : Int32)) dX9_whySpares_3 rfl ?_
  refine rc_callM (pc := 4) hC (rw_X9_of hH.1 v1 (3 : Int32)) q2124 q2126 qs52 q149 q2127 rfl rd_X9_of (hH.room (Nat.le_of_ble_eq_true rfl) (Nat.le_of_ble_eq_true rfl)) rfl rfl (Nat.le_of_ble_eq_true rfl) 2 rfl h.le.2.2 (Or.inl hF) h.br rfl dX9_whySpares_4 ?_ (fun E q S hT => rc_out hC hH.2.2.2.2 hT)
  intro x1 S h
  show rc_Z Y S 7 [some (rc_q (some (rc_km (yr_K Y) 100))), some (rc_i v1), some (rc_i v2)] [rc_i x1, rc_q (some (rc_km (yr_K Y) 100))]
  refine rc_aload_n (pc := 7) hC dX9_whySpares_7 rfl rfl ?_
  refine rc_iload_n (pc := 8) hC dX9_whySpares_8 rfl rfl ?_
  refine rc_iconst (pc := 9) hC (v := (3 : Int32)) dX9_whySpares_9 rfl ?_
  refine rc_callM (pc := 10) hC (rw_X9_of hH.1 v2 (3 : Int32)) q2124 q2126 qs52 q149 q2127 rfl rd_X9_of (hH.room (Nat.le_of_ble_eq_true rfl) (Nat.le_of_ble_eq_true rfl)) rfl rfl (Nat.le_of_ble_eq_true rfl) 2 rfl h.le.2.2 (Or.inl hF) h.br rfl dX9_whySpares_10 ?_ (fun E q S hT => rc_out hC hH.2.2.2.2 hT)
  intro x2 S h
  show rc_Z Y S 13 [some (rc_q (some (rc_km (yr_K Y) 100))), some (rc_i v1), some (rc_i v2)] [rc_i x2, rc_i x1, rc_q (some (rc_km (yr_K Y) 100))]
  refine rc_callM (pc := 13) hC (rw_X9_widestBetween hH.1 x1 x2) q2205 q2207 qs72 q149 q2208 rfl rd_X9_widestBetween (hH.room (Nat.le_of_ble_eq_true rfl) (Nat.le_of_ble_eq_true rfl)) rfl rfl (Nat.le_of_ble_eq_true rfl) 2 rfl h.le.2.2 (Or.inl hF) h.br rfl dX9_whySpares_13 ?_ (fun E q S hT => rc_out hC hH.2.2.2.2 hT)
  intro x3 S h
  show rc_Z Y S 16 [some (rc_q (some (rc_km (yr_K Y) 100))), some (rc_i v1), some (rc_i v2)] [rc_i x3]
  refine rc_aload_n (pc := 16) hC dX9_whySpares_16 rfl rfl ?_
  refine rc_iload_n (pc := 17) hC dX9_whySpares_17 rfl rfl ?_
  refine rc_iconst (pc := 18) hC (v := (0 : Int32)) dX9_whySpares_18 rfl ?_
  refine rc_callM (pc := 19) hC (rw_X9_of hH.1 v1 (0 : Int32)) q2124 q2126 qs52 q149 q2127 rfl rd_X9_of (hH.room (Nat.le_of_ble_eq_true rfl) (Nat.le_of_ble_eq_true rfl)) rfl rfl (Nat.le_of_ble_eq_true rfl) 2 rfl h.le.2.2 (Or.inl hF) h.br rfl dX9_whySpares_19 ?_ (fun E q S hT => rc_out hC hH.2.2.2.2 hT)
  intro x4 S h
  show rc_Z Y S 22 [some (rc_q (some (rc_km (yr_K Y) 100))), some (rc_i v1), some (rc_i v2)] [rc_i x4, rc_i x3]
  refine rc_icmp_ge (pc := 22) (tgt := 28) hC dX9_whySpares_22 rfl h ?_ ?_
  · intro _ h
    refine rc_aload_n (pc := 28) hC dX9_whySpares_28 rfl rfl ?_
    refine rc_iload_n (pc := 29) hC dX9_whySpares_29 rfl rfl ?_
    refine rc_iload_n (pc := 30) hC dX9_whySpares_30 rfl rfl ?_
    refine rc_callM (pc := 31) hC (rw_X9_truceLeft hH.1 v1 v2) q2164 q2166 qs62 q149 q2167 rfl rd_X9_truceLeft (hH.room (Nat.le_of_ble_eq_true rfl) (Nat.le_of_ble_eq_true rfl)) rfl rfl (Nat.le_of_ble_eq_true rfl) 2 rfl h.le.2.2 (Or.inl hF) h.br rfl dX9_whySpares_31 ?_ (fun E q S hT => rc_out hC hH.2.2.2.2 hT)
    intro x5 S h
    show rc_Z Y S 34 [some (rc_q (some (rc_km (yr_K Y) 100))), some (rc_i v1), some (rc_i v2)] [rc_i x5]
    refine rc_if_le (pc := 34) (tgt := 40) hC dX9_whySpares_34 rfl h ?_ ?_
    · intro _ h
      refine rc_aload_n (pc := 40) hC dX9_whySpares_40 rfl rfl ?_
      refine rc_iload_n (pc := 41) hC dX9_whySpares_41 rfl rfl ?_
      refine rc_callM (pc := 42) hC (rw_X9_powerOf hH.1 v1) q2213 q2215 qs74 q149 q2216 rfl rd_X9_powerOf (hH.room (Nat.le_of_ble_eq_true rfl) (Nat.le_of_ble_eq_true rfl)) rfl rfl (Nat.le_of_ble_eq_true rfl) 1 rfl h.le.2.2 (Or.inl hF) h.br rfl dX9_whySpares_42 ?_ (fun E q S hT => rc_out hC hH.2.2.2.2 hT)
      intro x6 S h
      show rc_Z Y S 45 [some (rc_q (some (rc_km (yr_K Y) 100))), some (rc_i v1), some (rc_i v2)] [rc_i x6]
      refine rc_aload_n (pc := 45) hC dX9_whySpares_45 rfl rfl ?_
      refine rc_iload_n (pc := 46) hC dX9_whySpares_46 rfl rfl ?_
      refine rc_callM (pc := 47) hC (rw_X9_powerOf hH.1 v2) q2213 q2215 qs74 q149 q2216 rfl rd_X9_powerOf (hH.room (Nat.le_of_ble_eq_true rfl) (Nat.le_of_ble_eq_true rfl)) rfl rfl (Nat.le_of_ble_eq_true rfl) 1 rfl h.le.2.2 (Or.inl hF) h.br rfl dX9_whySpares_47 ?_ (fun E q S hT => rc_out hC hH.2.2.2.2 hT)
      intro x7 S h
      show rc_Z Y S 50 [some (rc_q (some (rc_km (yr_K Y) 100))), some (rc_i v1), some (rc_i v2)] [rc_i x7, rc_i x6]
      refine rc_icmp_gt (pc := 50) (tgt := 58) hC dX9_whySpares_50 rfl h ?_ ?_
      · intro _ h
        refine rc_iconst (pc := 58) hC (v := (0 : Int32)) dX9_whySpares_58 rfl ?_
        exact rc_iret hC rfl rfl dX9_whySpares_59 h rfl
      intro _ h
      refine rc_bipush (pc := 53) hC (v := (9 : Int32)) dX9_whySpares_53 rfl ?_
      refine rc_goto (pc := 55) (tgt := 59) hC dX9_whySpares_55 rfl ?_
      exact rc_iret hC rfl rfl dX9_whySpares_59 h rfl
    intro _ h
    refine rc_bipush (pc := 37) hC (v := (8 : Int32)) dX9_whySpares_37 rfl ?_
    exact rc_iret hC rfl rfl dX9_whySpares_39 h rfl
  intro _ h
  refine rc_bipush (pc := 25) hC (v := (7 : Int32)) dX9_whySpares_25 rfl ?_
  exact rc_iret hC rfl rfl dX9_whySpares_27 h rfl
theorem rw_X9_chases_L112 {Y : rc_Y} (hC : rc_C Y cX9_chases RX9 (Option.some Jvm.ClassFile.FieldType.boolean) 5) (hH : rc_H Y 2 44 yX9_chases.name) (hF : yr_F Y = true) (v1 : Int32) (v4 : Int32) (S : rc_S) (h : rc_Go Y rc_tI (rp_X9_chases_L112  v1 v4) S) : rc_Z Y S 112 [some (rc_q (some (rc_km (yr_K Y) 100))), some (rc_i v1), none, none, some (rc_i v4)] [] := by
  unfold rp_X9_chases_L112 at h
  refine rc_aload_n (pc := 112) hC dX9_chases_112 rfl rfl ?_
  refine rc_iload (pc := 113) hC dX9_chases_113 rfl ?_
  refine rc_callM (pc := 115) hC (rw_X9_owner hH.1 v4) q2160 q2162 qs61 q149 q2163 rfl rd_X9_owner (hH.room (Nat.le_of_ble_eq_true rfl) (Nat.le_of_ble_eq_true rfl)) rfl rfl (Nat.le_of_ble_eq_true rfl) 1 rfl h.le.2.2 (Or.inl hF) h.br rfl dX9_chases_115 ?_ (fun E q S hT => rc_out hC hH.2.2.2.2 hT)
  intro x1 S h
  show rc_Z Y S 118 [some (rc_q (some (rc_km (yr_K Y) 100))), some (rc_i v1), none, none, some (rc_i v4)] [rc_i x1]
  refine rc_iload_n (pc := 118) hC dX9_chases_118 rfl rfl ?_
  refine rc_icmp_ne (pc := 119) (tgt := 126) hC dX9_chases_119 rfl h ?_ ?_
  · intro _ h
    refine rc_iconst (pc := 126) hC (v := (0 : Int32)) dX9_chases_126 rfl ?_
    exact rc_iret hC rfl rfl dX9_chases_127 h rfl
  intro _ h
  refine rc_iconst (pc := 122) hC (v := (1 : Int32)) dX9_chases_122 rfl ?_
  refine rc_goto (pc := 123) (tgt := 127) hC dX9_chases_123 rfl ?_
  exact rc_iret hC rfl rfl dX9_chases_127 h rfl
theorem rw_X9_chases_L49 {Y : rc_Y} (hC : rc_C Y cX9_chases RX9 (Option.some Jvm.ClassFile.FieldType.boolean) 5) (hH : rc_H Y 2 44 yX9_chases.name) (hF : yr_F Y = true) (v1 : Int32) (v2 : Int32) (v3 : Int32) (v4 : Int32) (S : rc_S) (h : rc_Go Y rc_tI (rp_X9_chases_L49  v1 v2 v3 v4) S) : rc_Z Y S 49 [some (rc_q (some (rc_km (yr_K Y) 100))), some (rc_i v1), some (rc_i v2), some (rc_i v3), some (rc_i v4)] [] := by
  unfold rp_X9_chases_L49 at h
  refine rc_aload_n (pc := 49) hC dX9_chases_49 rfl rfl ?_
  refine rc_iload_n (pc := 50) hC dX9_chases_50 rfl rfl ?_
  refine rc_iconst (pc := 51) hC (v := (3 : Int32)) dX9_chases_51 rfl ?_
  refine rc_iload (pc := 52) hC dX9_chases_52 rfl ?_
  refine rc_callM (pc := 54) hC (rw_X9_to hH.1 v1 (3 : Int32) v4) q2132 q2134 qs54 q149 q2135 rfl rd_X9_to (hH.room (Nat.le_of_ble_eq_true rfl) (Nat.le_of_ble_eq_true rfl)) rfl rfl (Nat.le_of_ble_eq_true rfl) 3 rfl h.le.2.2 (Or.inl hF) h.br rfl dX9_chases_54 ?_ (fun E q S hT => rc_out hC hH.2.2.2.2 hT)
  intro _ S h
  show rc_Z Y S 57 [some (rc_q (some (rc_km (yr_K Y) 100))), some (rc_i v1), some (rc_i v2), some (rc_i v3), some (rc_i v4)] []
  refine rc_aload_n (pc := 57) hC dX9_chases_57 rfl rfl ?_
  refine rc_iload_n (pc := 58) hC dX9_chases_58 rfl rfl ?_
  refine rc_iconst (pc := 59) hC (v := (3 : Int32)) dX9_chases_59 rfl ?_
  refine rc_iload_n (pc := 60) hC dX9_chases_60 rfl rfl ?_
  refine rc_callM (pc := 61) hC (rw_X9_to hH.1 v2 (3 : Int32) v3) q2132 q2134 qs54 q149 q2135 rfl rd_X9_to (hH.room (Nat.le_of_ble_eq_true rfl) (Nat.le_of_ble_eq_true rfl)) rfl rfl (Nat.le_of_ble_eq_true rfl) 3 rfl h.le.2.2 (Or.inl hF) h.br rfl dX9_chases_61 ?_ (fun E q S hT => rc_out hC hH.2.2.2.2 hT)
  intro _ S h
  show rc_Z Y S 64 [some (rc_q (some (rc_km (yr_K Y) 100))), some (rc_i v1), some (rc_i v2), some (rc_i v3), some (rc_i v4)] []
  refine rc_aload_n (pc := 64) hC dX9_chases_64 rfl rfl ?_
  refine rc_iload_n (pc := 65) hC dX9_chases_65 rfl rfl ?_
  refine rc_iconst (pc := 66) hC (v := (2 : Int32)) dX9_chases_66 rfl ?_
  refine rc_callM (pc := 67) hC (rw_X9_of hH.1 v2 (2 : Int32)) q2124 q2126 qs52 q149 q2127 rfl rd_X9_of (hH.room (Nat.le_of_ble_eq_true rfl) (Nat.le_of_ble_eq_true rfl)) rfl rfl (Nat.le_of_ble_eq_true rfl) 2 rfl h.le.2.2 (Or.inl hF) h.br rfl dX9_chases_67 ?_ (fun E q S hT => rc_out hC hH.2.2.2.2 hT)
  intro x1 S h
  show rc_Z Y S 70 [some (rc_q (some (rc_km (yr_K Y) 100))), some (rc_i v1), some (rc_i v2), some (rc_i v3), some (rc_i v4)] [rc_i x1]
  refine rc_if_le (pc := 70) (tgt := 112) hC dX9_chases_70 rfl h ?_ ?_
  · intro _ h
    refine rc_drop [true, true, false, false, true] (L' := [some (rc_q (some (rc_km (yr_K Y) 100))), some (rc_i v1), none, none, some (rc_i v4)]) rfl ?_
    exact rw_X9_chases_L112 hC hH hF  v1 v4 S h
  intro _ h
  refine rc_aload_n (pc := 73) hC dX9_chases_73 rfl rfl ?_
  refine rc_iload_n (pc := 74) hC dX9_chases_74 rfl rfl ?_
  refine rc_iconst (pc := 75) hC (v := (2 : Int32)) dX9_chases_75 rfl ?_
  refine rc_callM (pc := 76) hC (rw_X9_of hH.1 v1 (2 : Int32)) q2124 q2126 qs52 q149 q2127 rfl rd_X9_of (hH.room (Nat.le_of_ble_eq_true rfl) (Nat.le_of_ble_eq_true rfl)) rfl rfl (Nat.le_of_ble_eq_true rfl) 2 rfl h.le.2.2 (Or.inl hF) h.br rfl dX9_chases_76 ?_ (fun E q S hT => rc_out hC hH.2.2.2.2 hT)
  intro x2 S h
  show rc_Z Y S 79 [some (rc_q (some (rc_km (yr_K Y) 100))), some (rc_i v1), some (rc_i v2), some (rc_i v3), some (rc_i v4)] [rc_i x2]
  refine rc_bipush (pc := 79) hC (v := (99 : Int32)) dX9_chases_79 rfl ?_
  refine rc_icmp_ge (pc := 81) (tgt := 112) hC dX9_chases_81 rfl h ?_ ?_
  · intro _ h
    refine rc_drop [true, true, false, false, true] (L' := [some (rc_q (some (rc_km (yr_K Y) 100))), some (rc_i v1), none, none, some (rc_i v4)]) rfl ?_
    exact rw_X9_chases_L112 hC hH hF  v1 v4 S h
  intro _ h
  refine rc_aload_n (pc := 84) hC dX9_chases_84 rfl rfl ?_
  refine rc_iload_n (pc := 85) hC dX9_chases_85 rfl rfl ?_
  refine rc_iconst (pc := 86) hC (v := (2 : Int32)) dX9_chases_86 rfl ?_
  refine rc_aload_n (pc := 87) hC dX9_chases_87 rfl rfl ?_
  refine rc_iload_n (pc := 88) hC dX9_chases_88 rfl rfl ?_
  refine rc_iconst (pc := 89) hC (v := (2 : Int32)) dX9_chases_89 rfl ?_
  refine rc_callM (pc := 90) hC (rw_X9_of hH.1 v2 (2 : Int32)) q2124 q2126 qs52 q149 q2127 rfl rd_X9_of (hH.room (Nat.le_of_ble_eq_true rfl) (Nat.le_of_ble_eq_true rfl)) rfl rfl (Nat.le_of_ble_eq_true rfl) 2 rfl h.le.2.2 (Or.inl hF) h.br rfl dX9_chases_90 ?_ (fun E q S hT => rc_out hC hH.2.2.2.2 hT)
  intro x3 S h
  show rc_Z Y S 93 [some (rc_q (some (rc_km (yr_K Y) 100))), some (rc_i v1), some (rc_i v2), some (rc_i v3), some (rc_i v4)] [rc_i x3, rc_i (2 : Int32), rc_i v2, rc_q (some (rc_km (yr_K Y) 100))]
  refine rc_iconst (pc := 93) hC (v := (1 : Int32)) dX9_chases_93 rfl ?_
  refine rc_isub (pc := 94) hC dX9_chases_94 ?_
  refine rc_callM (pc := 95) hC (rw_X9_to hH.1 v2 (2 : Int32) (x3 - (1 : Int32))) q2132 q2134 qs54 q149 q2135 rfl rd_X9_to (hH.room (Nat.le_of_ble_eq_true rfl) (Nat.le_of_ble_eq_true rfl)) rfl rfl (Nat.le_of_ble_eq_true rfl) 3 rfl h.le.2.2 (Or.inl hF) h.br rfl dX9_chases_95 ?_ (fun E q S hT => rc_out hC hH.2.2.2.2 hT)
  intro _ S h
  show rc_Z Y S 98 [some (rc_q (some (rc_km (yr_K Y) 100))), some (rc_i v1), some (rc_i v2), some (rc_i v3), some (rc_i v4)] []
  refine rc_aload_n (pc := 98) hC dX9_chases_98 rfl rfl ?_
  refine rc_iload_n (pc := 99) hC dX9_chases_99 rfl rfl ?_
  refine rc_iconst (pc := 100) hC (v := (2 : Int32)) dX9_chases_100 rfl ?_
  refine rc_aload_n (pc := 101) hC dX9_chases_101 rfl rfl ?_
  refine rc_iload_n (pc := 102) hC dX9_chases_102 rfl rfl ?_
  refine rc_iconst (pc := 103) hC (v := (2 : Int32)) dX9_chases_103 rfl ?_
  refine rc_callM (pc := 104) hC (rw_X9_of hH.1 v1 (2 : Int32)) q2124 q2126 qs52 q149 q2127 rfl rd_X9_of (hH.room (Nat.le_of_ble_eq_true rfl) (Nat.le_of_ble_eq_true rfl)) rfl rfl (Nat.le_of_ble_eq_true rfl) 2 rfl h.le.2.2 (Or.inl hF) h.br rfl dX9_chases_104 ?_ (fun E q S hT => rc_out hC hH.2.2.2.2 hT)
  intro x4 S h
  show rc_Z Y S 107 [some (rc_q (some (rc_km (yr_K Y) 100))), some (rc_i v1), some (rc_i v2), some (rc_i v3), some (rc_i v4)] [rc_i x4, rc_i (2 : Int32), rc_i v1, rc_q (some (rc_km (yr_K Y) 100))]
  refine rc_iconst (pc := 107) hC (v := (1 : Int32)) dX9_chases_107 rfl ?_
  refine rc_iadd (pc := 108) hC dX9_chases_108 ?_
  refine rc_callM (pc := 109) hC (rw_X9_to hH.1 v1 (2 : Int32) (x4 + (1 : Int32))) q2132 q2134 qs54 q149 q2135 rfl rd_X9_to (hH.room (Nat.le_of_ble_eq_true rfl) (Nat.le_of_ble_eq_true rfl)) rfl rfl (Nat.le_of_ble_eq_true rfl) 3 rfl h.le.2.2 (Or.inl hF) h.br rfl dX9_chases_109 ?_ (fun E q S hT => rc_out hC hH.2.2.2.2 hT)
  intro _ S h
  show rc_Z Y S 112 [some (rc_q (some (rc_km (yr_K Y) 100))), some (rc_i v1), some (rc_i v2), some (rc_i v3), some (rc_i v4)] []
  refine rc_drop [true, true, false, false, true] (L' := [some (rc_q (some (rc_km (yr_K Y) 100))), some (rc_i v1), none, none, some (rc_i v4)]) rfl ?_
  exact rw_X9_chases_L112 hC hH hF  v1 v4 S h
theorem rw_X9_chases_L48 {Y : rc_Y} (hC : rc_C Y cX9_chases RX9 (Option.some Jvm.ClassFile.FieldType.boolean) 5) (hH : rc_H Y 2 44 yX9_chases.name) (hF : yr_F Y = true) (v1 : Int32) (v2 : Int32) (v3 : Int32) (v4 : Int32) (s0 : Int32) (s1 : Int32) (S : rc_S) (h : rc_Go Y rc_tI (rp_X9_chases_L48  v1 v2 v3 v4 s0 s1) S) : rc_Z Y S 48 [some (rc_q (some (rc_km (yr_K Y) 100))), some (rc_i v1), some (rc_i v2), some (rc_i v3), some (rc_i v4)] [rc_i s0, rc_i s1, rc_q (some (rc_km (yr_K Y) 0))] := by
  unfold rp_X9_chases_L48 at h
  refine rc_r_mast (pc := 48) hC hF (j := 0) (by decide) rfl dX9_chases_48 h ?_
  intro S h
  exact rw_X9_chases_L49 hC hH hF  v1 v2 v3 v4 S h
theorem rw_X9_chases {l : Launch} (hl : l.stackTraces = false) (v1 : Int32) (v2 : Int32) : rc_Cm l yX9_chases (ws_ yX9_chases cX9_chases 5 (Option.some Jvm.ClassFile.FieldType.boolean)) 2 44 rc_tI (rp_X9_chases v1 v2) [rc_i v1, rc_i v2] := by
  refine rc_Cm_H hl (plainFor_of_name rY_X9) rfl (Nat.le_of_ble_eq_true rfl) ?_
  intro Y S hC hH hF h
  have hC : rc_C Y cX9_chases RX9 (Option.some Jvm.ClassFile.FieldType.boolean) 5 := hC
  show rc_Z Y S 0 [some (rc_q (some (rc_km (yr_K Y) 100))), some (rc_i v1), some (rc_i v2), none, none] []
  unfold rp_X9_chases at h
  refine rc_aload_n (pc := 0) hC dX9_chases_0 rfl rfl ?_
  refine rc_iload_n (pc := 1) hC dX9_chases_1 rfl rfl ?_
  refine rc_iconst (pc := 2) hC (v := (3 : Int32)) dX9_chases_2 rfl ?_
  refine rc_callM (pc := 3) hC (rw_X9_of hH.1 v1 (3 : Int32)) q2124 q2126 qs52 q149 q2127 rfl rd_X9_of (hH.room (Nat.le_of_ble_eq_true rfl) (Nat.le_of_ble_eq_true rfl)) rfl rfl (Nat.le_of_ble_eq_true rfl) 2 rfl h.le.2.2 (Or.inl hF) h.br rfl dX9_chases_3 ?_ (fun E q S hT => rc_out hC hH.2.2.2.2 hT)
  intro x1 S h
  show rc_Z Y S 6 [some (rc_q (some (rc_km (yr_K Y) 100))), some (rc_i v1), some (rc_i v2), none, none] [rc_i x1]
  refine rc_istore_n (pc := 6) hC (L' := [some (rc_q (some (rc_km (yr_K Y) 100))), some (rc_i v1), some (rc_i v2), some (rc_i x1), none]) dX9_chases_6 rfl (Nat.le_of_ble_eq_true rfl) rfl rfl ?_
  refine rc_aload_n (pc := 7) hC dX9_chases_7 rfl rfl ?_
  refine rc_iload_n (pc := 8) hC dX9_chases_8 rfl rfl ?_
  refine rc_iconst (pc := 9) hC (v := (3 : Int32)) dX9_chases_9 rfl ?_
  refine rc_callM (pc := 10) hC (rw_X9_of hH.1 v2 (3 : Int32)) q2124 q2126 qs52 q149 q2127 rfl rd_X9_of (hH.room (Nat.le_of_ble_eq_true rfl) (Nat.le_of_ble_eq_true rfl)) rfl rfl (Nat.le_of_ble_eq_true rfl) 2 rfl h.le.2.2 (Or.inl hF) h.br rfl dX9_chases_10 ?_ (fun E q S hT => rc_out hC hH.2.2.2.2 hT)
  intro x2 S h
  show rc_Z Y S 13 [some (rc_q (some (rc_km (yr_K Y) 100))), some (rc_i v1), some (rc_i v2), some (rc_i x1), none] [rc_i x2]
  refine rc_istore (pc := 13) hC (L' := [some (rc_q (some (rc_km (yr_K Y) 100))), some (rc_i v1), some (rc_i v2), some (rc_i x1), some (rc_i x2)]) dX9_chases_13 (Nat.le_of_ble_eq_true rfl) rfl rfl ?_
  refine rc_aload_n (pc := 15) hC dX9_chases_15 rfl rfl ?_
  refine rc_iload (pc := 16) hC dX9_chases_16 rfl ?_
  refine rc_callM (pc := 18) hC (rw_X9_owner hH.1 x2) q2160 q2162 qs61 q149 q2163 rfl rd_X9_owner (hH.room (Nat.le_of_ble_eq_true rfl) (Nat.le_of_ble_eq_true rfl)) rfl rfl (Nat.le_of_ble_eq_true rfl) 1 rfl h.le.2.2 (Or.inl hF) h.br rfl dX9_chases_18 ?_ (fun E q S hT => rc_out hC hH.2.2.2.2 hT)
  intro x3 S h
  show rc_Z Y S 21 [some (rc_q (some (rc_km (yr_K Y) 100))), some (rc_i v1), some (rc_i v2), some (rc_i x1), some (rc_i x2)] [rc_i x3]
  refine rc_iload_n (pc := 21) hC dX9_chases_21 rfl rfl ?_
  refine rc_icmp_ne (pc := 22) (tgt := 49) hC dX9_chases_22 rfl h ?_ ?_
  · intro _ h
    exact rw_X9_chases_L49 hC hH hF  v1 v2 x1 x2 S h
  intro _ h
  refine rc_aload_n (pc := 25) hC dX9_chases_25 rfl rfl ?_
  refine rc_r_mref (pc := 26) hC hF rF_X9_7 (by decide) dX9_chases_26 h ?_
  refine rc_bipush (pc := 29) hC (v := (20 : Int32)) dX9_chases_29 rfl ?_
  refine rc_iload (pc := 31) hC dX9_chases_31 rfl ?_
  refine rc_iadd (pc := 33) hC dX9_chases_33 ?_
  refine rc_aload_n (pc := 34) hC dX9_chases_34 rfl rfl ?_
  refine rc_iload_n (pc := 35) hC dX9_chases_35 rfl rfl ?_
  refine rc_callM (pc := 36) hC (rw_X9_owns hH.1 v1) q2181 q2183 qs66 q149 q2184 rfl rd_X9_owns (hH.room (Nat.le_of_ble_eq_true rfl) (Nat.le_of_ble_eq_true rfl)) rfl rfl (Nat.le_of_ble_eq_true rfl) 1 rfl h.le.2.2 (Or.inl hF) h.br rfl dX9_chases_36 ?_ (fun E q S hT => rc_out hC hH.2.2.2.2 hT)
  intro x5 S h
  show rc_Z Y S 39 [some (rc_q (some (rc_km (yr_K Y) 100))), some (rc_i v1), some (rc_i v2), some (rc_i x1), some (rc_i x2)] [rc_i x5, rc_i ((20 : Int32) + x2), rc_q (some (rc_km (yr_K Y) 0))]
  refine rc_iconst (pc := 39) hC (v := (4 : Int32)) dX9_chases_39 rfl ?_
  refine rc_icmp_ge (pc := 40) (tgt := 47) hC dX9_chases_40 rfl h ?_ ?_
  · intro _ h
    refine rc_iconst (pc := 47) hC (v := (-1 : Int32)) dX9_chases_47 rfl ?_
    exact rw_X9_chases_L48 hC hH hF  v1 v2 x1 x2 (-1 : Int32) ((20 : Int32) + x2) S h
  intro _ h
  refine rc_iload_n (pc := 43) hC dX9_chases_43 rfl rfl ?_
  refine rc_goto (pc := 44) (tgt := 48) hC dX9_chases_44 rfl ?_
  exact rw_X9_chases_L48 hC hH hF  v1 v2 x1 x2 v1 ((20 : Int32) + x2) S h
theorem rw_X9_readsChase_L48 {Y : rc_Y} (hC : rc_C Y cX9_readsChase RX9 (Option.some Jvm.ClassFile.FieldType.boolean) 1) (hH : rc_H Y 4 91 yX9_readsChase.name) (hF : yr_F Y = true) (s0 : Int32) (S : rc_S) (h : rc_Go Y rc_tI (rp_X9_readsChase_L48  s0) S) : rc_Z Y S 48 [some (rc_q (some (rc_km (yr_K Y) 100)))] [rc_i s0, rc_q (some (rc_km (yr_K Y) 100))] := by
  unfold rp_X9_readsChase_L48 at h
  refine rc_callM (pc := 48) hC (rw_X9_stops hH.1 s0) q2084 q2086 qs42 q149 q2087 rfl rd_X9_stops (hH.room (Nat.le_of_ble_eq_true rfl) (Nat.le_of_ble_eq_true rfl)) rfl rfl (Nat.le_of_ble_eq_true rfl) 1 rfl h.le.2.2 (Or.inl hF) h.br rfl dX9_readsChase_48 ?_ (fun E q S hT => rc_out hC hH.2.2.2.2 hT)
  intro x1 S h
  show rc_Z Y S 51 [some (rc_q (some (rc_km (yr_K Y) 100)))] [rc_i x1]
  refine rc_if_ne (pc := 51) (tgt := 56) hC dX9_readsChase_51 rfl h ?_ ?_
  · intro _ h
    refine rc_aload_n (pc := 56) hC dX9_readsChase_56 rfl rfl ?_
    refine rc_aload_n (pc := 57) hC dX9_readsChase_57 rfl rfl ?_
    refine rc_r_mref (pc := 58) hC hF rF_X9_42 (by decide) dX9_readsChase_58 h ?_
    refine rc_iconst (pc := 61) hC (v := (0 : Int32)) dX9_readsChase_61 rfl ?_
    refine rc_r_mald (pc := 62) hC hF (j := 22) (by decide) rfl dX9_readsChase_62 h ?_
    intro x3 h
    refine rc_aload_n (pc := 63) hC dX9_readsChase_63 rfl rfl ?_
    refine rc_r_mref (pc := 64) hC hF rF_X9_42 (by decide) dX9_readsChase_64 h ?_
    refine rc_iconst (pc := 67) hC (v := (1 : Int32)) dX9_readsChase_67 rfl ?_
    refine rc_r_mald (pc := 68) hC hF (j := 22) (by decide) rfl dX9_readsChase_68 h ?_
    intro x5 h
    refine rc_callM (pc := 69) hC (rw_X9_chases hH.1 x3 x5) q2221 q2223 qs76 q149 q2224 rfl rd_X9_chases (hH.room (Nat.le_of_ble_eq_true rfl) (Nat.le_of_ble_eq_true rfl)) rfl rfl (Nat.le_of_ble_eq_true rfl) 2 rfl h.le.2.2 (Or.inl hF) h.br rfl dX9_readsChase_69 ?_ (fun E q S hT => rc_out hC hH.2.2.2.2 hT)
    intro x6 S h
    show rc_Z Y S 72 [some (rc_q (some (rc_km (yr_K Y) 100)))] [rc_i x6]
    refine rc_pop (pc := 72) hC dX9_readsChase_72 rfl ?_
    refine rc_iconst (pc := 73) hC (v := (1 : Int32)) dX9_readsChase_73 rfl ?_
    exact rc_iret hC rfl rfl dX9_readsChase_74 h rfl
  intro _ h
  refine rc_iconst (pc := 54) hC (v := (0 : Int32)) dX9_readsChase_54 rfl ?_
  exact rc_iret hC rfl rfl dX9_readsChase_55 h rfl
theorem rw_X9_readsChase {l : Launch} (hl : l.stackTraces = false) : rc_Cm l yX9_readsChase (ws_ yX9_readsChase cX9_readsChase 1 (Option.some Jvm.ClassFile.FieldType.boolean)) 4 91 rc_tI (rp_X9_readsChase ) [] := by
  refine rc_Cm_H hl (plainFor_of_name rY_X9) rfl (Nat.le_of_ble_eq_true rfl) ?_
  intro Y S hC hH hF h
  have hC : rc_C Y cX9_readsChase RX9 (Option.some Jvm.ClassFile.FieldType.boolean) 1 := hC
  show rc_Z Y S 0 [some (rc_q (some (rc_km (yr_K Y) 100)))] []
  unfold rp_X9_readsChase at h
  refine rc_aload_n (pc := 0) hC dX9_readsChase_0 rfl rfl ?_
  refine rc_iconst (pc := 1) hC (v := (0 : Int32)) dX9_readsChase_1 rfl ?_
  refine rc_callM (pc := 2) hC (rw_X9_catAt hH.1 (0 : Int32)) q2140 q2142 qs56 q149 q2143 rfl rd_X9_catAt (hH.room (Nat.le_of_ble_eq_true rfl) (Nat.le_of_ble_eq_true rfl)) rfl rfl (Nat.le_of_ble_eq_true rfl) 1 rfl h.le.2.2 (Or.inl hF) h.br rfl dX9_readsChase_2 ?_ (fun E q S hT => rc_out hC hH.2.2.2.2 hT)
  intro x1 S h
  show rc_Z Y S 5 [some (rc_q (some (rc_km (yr_K Y) 100)))] [rc_i x1]
  refine rc_if_eq (pc := 5) (tgt := 54) hC dX9_readsChase_5 rfl h ?_ ?_
  · intro _ h
    refine rc_iconst (pc := 54) hC (v := (0 : Int32)) dX9_readsChase_54 rfl ?_
    exact rc_iret hC rfl rfl dX9_readsChase_55 h rfl
  intro _ h
  refine rc_aload_n (pc := 8) hC dX9_readsChase_8 rfl rfl ?_
  refine rc_aload_n (pc := 9) hC dX9_readsChase_9 rfl rfl ?_
  refine rc_r_mref (pc := 10) hC hF rF_X9_7 (by decide) dX9_readsChase_10 h ?_
  refine rc_iconst (pc := 13) hC (v := (2 : Int32)) dX9_readsChase_13 rfl ?_
  refine rc_r_mald (pc := 14) hC hF (j := 0) (by decide) rfl dX9_readsChase_14 h ?_
  intro x3 h
  refine rc_iconst (pc := 15) hC (v := (1 : Int32)) dX9_readsChase_15 rfl ?_
  refine rc_isub (pc := 16) hC dX9_readsChase_16 ?_
  refine rc_callM (pc := 17) hC (rw_X9_another hH.1 (x3 - (1 : Int32))) q2100 q2102 qs46 q149 q2103 rfl rd_X9_another (hH.room (Nat.le_of_ble_eq_true rfl) (Nat.le_of_ble_eq_true rfl)) rfl rfl (Nat.le_of_ble_eq_true rfl) 1 rfl h.le.2.2 (Or.inl hF) h.br rfl dX9_readsChase_17 ?_ (fun E q S hT => rc_out hC hH.2.2.2.2 hT)
  intro x4 S h
  show rc_Z Y S 20 [some (rc_q (some (rc_km (yr_K Y) 100)))] [rc_i x4]
  refine rc_if_eq (pc := 20) (tgt := 54) hC dX9_readsChase_20 rfl h ?_ ?_
  · intro _ h
    refine rc_iconst (pc := 54) hC (v := (0 : Int32)) dX9_readsChase_54 rfl ?_
    exact rc_iret hC rfl rfl dX9_readsChase_55 h rfl
  intro _ h
  refine rc_aload_n (pc := 23) hC dX9_readsChase_23 rfl rfl ?_
  refine rc_aload_n (pc := 24) hC dX9_readsChase_24 rfl rfl ?_
  refine rc_aload_n (pc := 25) hC dX9_readsChase_25 rfl rfl ?_
  refine rc_r_mref (pc := 26) hC hF rF_X9_42 (by decide) dX9_readsChase_26 h ?_
  refine rc_iconst (pc := 29) hC (v := (0 : Int32)) dX9_readsChase_29 rfl ?_
  refine rc_r_mald (pc := 30) hC hF (j := 22) (by decide) rfl dX9_readsChase_30 h ?_
  intro x6 h
  refine rc_aload_n (pc := 31) hC dX9_readsChase_31 rfl rfl ?_
  refine rc_r_mref (pc := 32) hC hF rF_X9_42 (by decide) dX9_readsChase_32 h ?_
  refine rc_iconst (pc := 35) hC (v := (1 : Int32)) dX9_readsChase_35 rfl ?_
  refine rc_r_mald (pc := 36) hC hF (j := 22) (by decide) rfl dX9_readsChase_36 h ?_
  intro x8 h
  refine rc_callM (pc := 37) hC (rw_X9_whySpares hH.1 x6 x8) q2201 q2203 qs71 q149 q2204 rfl rd_X9_whySpares (hH.room (Nat.le_of_ble_eq_true rfl) (Nat.le_of_ble_eq_true rfl)) rfl rfl (Nat.le_of_ble_eq_true rfl) 2 rfl h.le.2.2 (Or.inl hF) h.br rfl dX9_readsChase_37 ?_ (fun E q S hT => rc_out hC hH.2.2.2.2 hT)
  intro x9 S h
  show rc_Z Y S 40 [some (rc_q (some (rc_km (yr_K Y) 100)))] [rc_i x9, rc_q (some (rc_km (yr_K Y) 100))]
  refine rc_if_ne (pc := 40) (tgt := 47) hC dX9_readsChase_40 rfl h ?_ ?_
  · intro _ h
    refine rc_iconst (pc := 47) hC (v := (0 : Int32)) dX9_readsChase_47 rfl ?_
    exact rw_X9_readsChase_L48 hC hH hF  (0 : Int32) S h
  intro _ h
  refine rc_iconst (pc := 43) hC (v := (1 : Int32)) dX9_readsChase_43 rfl ?_
  refine rc_goto (pc := 44) (tgt := 48) hC dX9_readsChase_44 rfl ?_
  exact rw_X9_readsChase_L48 hC hH hF  (1 : Int32) S h
theorem rw_X9_canBuy {l : Launch} (hl : l.stackTraces = false) (v1 : Int32) (v2 : Int32) (v3 : Int32) : rc_Cm l yX9_canBuy (ws_ yX9_canBuy cX9_canBuy 4 (Option.some Jvm.ClassFile.FieldType.boolean)) 2 43 rc_tI (rp_X9_canBuy v1 v2 v3) [rc_i v1, rc_i v2, rc_i v3] := by
  refine rc_Cm_H hl (plainFor_of_name rY_X9) rfl (Nat.le_of_ble_eq_true rfl) ?_
  intro Y S hC hH hF h
  have hC : rc_C Y cX9_canBuy RX9 (Option.some Jvm.ClassFile.FieldType.boolean) 4 := hC
  show rc_Z Y S 0 [some (rc_q (some (rc_km (yr_K Y) 100))), some (rc_i v1), some (rc_i v2), some (rc_i v3)] []
  unfold rp_X9_canBuy at h
  refine rc_aload_n (pc := 0) hC dX9_canBuy_0 rfl rfl ?_
  refine rc_iload_n (pc := 1) hC dX9_canBuy_1 rfl rfl ?_
  refine rc_iload_n (pc := 2) hC dX9_canBuy_2 rfl rfl ?_
  refine rc_callM (pc := 3) hC (rw_X9_truceLeft hH.1 v1 v2) q2164 q2166 qs62 q149 q2167 rfl rd_X9_truceLeft (hH.room (Nat.le_of_ble_eq_true rfl) (Nat.le_of_ble_eq_true rfl)) rfl rfl (Nat.le_of_ble_eq_true rfl) 2 rfl h.le.2.2 (Or.inl hF) h.br rfl dX9_canBuy_3 ?_ (fun E q S hT => rc_out hC hH.2.2.2.2 hT)
  intro x1 S h
  show rc_Z Y S 6 [some (rc_q (some (rc_km (yr_K Y) 100))), some (rc_i v1), some (rc_i v2), some (rc_i v3)] [rc_i x1]
  refine rc_if_ne (pc := 6) (tgt := 36) hC dX9_canBuy_6 rfl h ?_ ?_
  · intro _ h
    refine rc_iconst (pc := 36) hC (v := (0 : Int32)) dX9_canBuy_36 rfl ?_
    exact rc_iret hC rfl rfl dX9_canBuy_37 h rfl
  intro _ h
  refine rc_aload_n (pc := 9) hC dX9_canBuy_9 rfl rfl ?_
  refine rc_iload_n (pc := 10) hC dX9_canBuy_10 rfl rfl ?_
  refine rc_iconst (pc := 11) hC (v := (2 : Int32)) dX9_canBuy_11 rfl ?_
  refine rc_callM (pc := 12) hC (rw_X9_of hH.1 v1 (2 : Int32)) q2124 q2126 qs52 q149 q2127 rfl rd_X9_of (hH.room (Nat.le_of_ble_eq_true rfl) (Nat.le_of_ble_eq_true rfl)) rfl rfl (Nat.le_of_ble_eq_true rfl) 2 rfl h.le.2.2 (Or.inl hF) h.br rfl dX9_canBuy_12 ?_ (fun E q S hT => rc_out hC hH.2.2.2.2 hT)
  intro x2 S h
  show rc_Z Y S 15 [some (rc_q (some (rc_km (yr_K Y) 100))), some (rc_i v1), some (rc_i v2), some (rc_i v3)] [rc_i x2]
  refine rc_iload_n (pc := 15) hC dX9_canBuy_15 rfl rfl ?_
  refine rc_icmp_lt (pc := 16) (tgt := 36) hC dX9_canBuy_16 rfl h ?_ ?_
  · intro _ h
    refine rc_iconst (pc := 36) hC (v := (0 : Int32)) dX9_canBuy_36 rfl ?_
    exact rc_iret hC rfl rfl dX9_canBuy_37 h rfl
  intro _ h
  refine rc_aload_n (pc := 19) hC dX9_canBuy_19 rfl rfl ?_
  refine rc_iload_n (pc := 20) hC dX9_canBuy_20 rfl rfl ?_
  refine rc_iconst (pc := 21) hC (v := (2 : Int32)) dX9_canBuy_21 rfl ?_
  refine rc_callM (pc := 22) hC (rw_X9_of hH.1 v2 (2 : Int32)) q2124 q2126 qs52 q149 q2127 rfl rd_X9_of (hH.room (Nat.le_of_ble_eq_true rfl) (Nat.le_of_ble_eq_true rfl)) rfl rfl (Nat.le_of_ble_eq_true rfl) 2 rfl h.le.2.2 (Or.inl hF) h.br rfl dX9_canBuy_22 ?_ (fun E q S hT => rc_out hC hH.2.2.2.2 hT)
  intro x3 S h
  show rc_Z Y S 25 [some (rc_q (some (rc_km (yr_K Y) 100))), some (rc_i v1), some (rc_i v2), some (rc_i v3)] [rc_i x3]
  refine rc_iload_n (pc := 25) hC dX9_canBuy_25 rfl rfl ?_
  refine rc_iadd (pc := 26) hC dX9_canBuy_26 ?_
  refine rc_bipush (pc := 27) hC (v := (99 : Int32)) dX9_canBuy_27 rfl ?_
  refine rc_icmp_gt (pc := 29) (tgt := 36) hC dX9_canBuy_29 rfl h ?_ ?_
  · intro _ h
    refine rc_iconst (pc := 36) hC (v := (0 : Int32)) dX9_canBuy_36 rfl ?_
    exact rc_iret hC rfl rfl dX9_canBuy_37 h rfl
  intro _ h
  refine rc_iconst (pc := 32) hC (v := (1 : Int32)) dX9_canBuy_32 rfl ?_
  refine rc_goto (pc := 33) (tgt := 37) hC dX9_canBuy_33 rfl ?_
  exact rc_iret hC rfl rfl dX9_canBuy_37 h rfl
theorem rw_X9_buys {l : Launch} (hl : l.stackTraces = false) (v1 : Int32) (v2 : Int32) (v3 : Int32) (v4 : Int32) : rc_Cm l yX9_buys (ws_ yX9_buys cX9_buys 5 (Option.some Jvm.ClassFile.FieldType.int)) 1 23 rc_tI (rp_X9_buys v1 v2 v3 v4) [rc_i v1, rc_i v2, rc_i v3, rc_i v4] := by
  refine rc_Cm_H hl (plainFor_of_name rY_X9) rfl (Nat.le_of_ble_eq_true rfl) ?_
  intro Y S hC hH hF h
  have hC : rc_C Y cX9_buys RX9 (Option.some Jvm.ClassFile.FieldType.int) 5 := hC
  show rc_Z Y S 0 [some (rc_q (some (rc_km (yr_K Y) 100))), some (rc_i v1), some (rc_i v2), some (rc_i v3), some (rc_i v4)] []
  unfold rp_X9_buys at h
  refine rc_aload_n (pc := 0) hC dX9_buys_0 rfl rfl ?_
  refine rc_iload_n (pc := 1) hC dX9_buys_1 rfl rfl ?_
  refine rc_iconst (pc := 2) hC (v := (2 : Int32)) dX9_buys_2 rfl ?_
  refine rc_aload_n (pc := 3) hC dX9_buys_3 rfl rfl ?_
  refine rc_iload_n (pc := 4) hC dX9_buys_4 rfl rfl ?_
  refine rc_iconst (pc := 5) hC (v := (2 : Int32)) dX9_buys_5 rfl ?_
  refine rc_callM (pc := 6) hC (rw_X9_of hH.1 v1 (2 : Int32)) q2124 q2126 qs52 q149 q2127 rfl rd_X9_of (hH.room (Nat.le_of_ble_eq_true rfl) (Nat.le_of_ble_eq_true rfl)) rfl rfl (Nat.le_of_ble_eq_true rfl) 2 rfl h.le.2.2 (Or.inl hF) h.br rfl dX9_buys_6 ?_ (fun E q S hT => rc_out hC hH.2.2.2.2 hT)
  intro x1 S h
  show rc_Z Y S 9 [some (rc_q (some (rc_km (yr_K Y) 100))), some (rc_i v1), some (rc_i v2), some (rc_i v3), some (rc_i v4)] [rc_i x1, rc_i (2 : Int32), rc_i v1, rc_q (some (rc_km (yr_K Y) 100))]
  refine rc_iload_n (pc := 9) hC dX9_buys_9 rfl rfl ?_
  refine rc_isub (pc := 10) hC dX9_buys_10 ?_
  refine rc_callM (pc := 11) hC (rw_X9_to hH.1 v1 (2 : Int32) (x1 - v3)) q2132 q2134 qs54 q149 q2135 rfl rd_X9_to (hH.room (Nat.le_of_ble_eq_true rfl) (Nat.le_of_ble_eq_true rfl)) rfl rfl (Nat.le_of_ble_eq_true rfl) 3 rfl h.le.2.2 (Or.inl hF) h.br rfl dX9_buys_11 ?_ (fun E q S hT => rc_out hC hH.2.2.2.2 hT)
  intro _ S h
  show rc_Z Y S 14 [some (rc_q (some (rc_km (yr_K Y) 100))), some (rc_i v1), some (rc_i v2), some (rc_i v3), some (rc_i v4)] []
  refine rc_aload_n (pc := 14) hC dX9_buys_14 rfl rfl ?_
  refine rc_iload_n (pc := 15) hC dX9_buys_15 rfl rfl ?_
  refine rc_iconst (pc := 16) hC (v := (2 : Int32)) dX9_buys_16 rfl ?_
  refine rc_aload_n (pc := 17) hC dX9_buys_17 rfl rfl ?_
  refine rc_iload_n (pc := 18) hC dX9_buys_18 rfl rfl ?_
  refine rc_iconst (pc := 19) hC (v := (2 : Int32)) dX9_buys_19 rfl ?_
  refine rc_callM (pc := 20) hC (rw_X9_of hH.1 v2 (2 : Int32)) q2124 q2126 qs52 q149 q2127 rfl rd_X9_of (hH.room (Nat.le_of_ble_eq_true rfl) (Nat.le_of_ble_eq_true rfl)) rfl rfl (Nat.le_of_ble_eq_true rfl) 2 rfl h.le.2.2 (Or.inl hF) h.br rfl dX9_buys_20 ?_ (fun E q S hT => rc_out hC hH.2.2.2.2 hT)
  intro x2 S h
  show rc_Z Y S 23 [some (rc_q (some (rc_km (yr_K Y) 100))), some (rc_i v1), some (rc_i v2), some (rc_i v3), some (rc_i v4)] [rc_i x2, rc_i (2 : Int32), rc_i v2, rc_q (some (rc_km (yr_K Y) 100))]
  refine rc_iload_n (pc := 23) hC dX9_buys_23 rfl rfl ?_
  refine rc_iadd (pc := 24) hC dX9_buys_24 ?_
  refine rc_callM (pc := 25) hC (rw_X9_to hH.1 v2 (2 : Int32) (x2 + v3)) q2132 q2134 qs54 q149 q2135 rfl rd_X9_to (hH.room (Nat.le_of_ble_eq_true rfl) (Nat.le_of_ble_eq_true rfl)) rfl rfl (Nat.le_of_ble_eq_true rfl) 3 rfl h.le.2.2 (Or.inl hF) h.br rfl dX9_buys_25 ?_ (fun E q S hT => rc_out hC hH.2.2.2.2 hT)
  intro _ S h
  show rc_Z Y S 28 [some (rc_q (some (rc_km (yr_K Y) 100))), some (rc_i v1), some (rc_i v2), some (rc_i v3), some (rc_i v4)] []
  refine rc_aload_n (pc := 28) hC dX9_buys_28 rfl rfl ?_
  refine rc_r_mref (pc := 29) hC hF rF_X9_7 (by decide) dX9_buys_29 h ?_
  refine rc_bipush (pc := 32) hC (v := (122 : Int32)) dX9_buys_32 rfl ?_
  refine rc_bipush (pc := 34) hC (v := (8 : Int32)) dX9_buys_34 rfl ?_
  refine rc_iload_n (pc := 36) hC dX9_buys_36 rfl rfl ?_
  refine rc_imul (pc := 37) hC dX9_buys_37 ?_
  refine rc_iadd (pc := 38) hC dX9_buys_38 ?_
  refine rc_iload_n (pc := 39) hC dX9_buys_39 rfl rfl ?_
  refine rc_iadd (pc := 40) hC dX9_buys_40 ?_
  refine rc_aload_n (pc := 41) hC dX9_buys_41 rfl rfl ?_
  refine rc_r_mref (pc := 42) hC hF rF_X9_7 (by decide) dX9_buys_42 h ?_
  refine rc_iconst (pc := 45) hC (v := (3 : Int32)) dX9_buys_45 rfl ?_
  refine rc_r_mald (pc := 46) hC hF (j := 0) (by decide) rfl dX9_buys_46 h ?_
  intro x5 h
  refine rc_iload (pc := 47) hC dX9_buys_47 rfl ?_
  refine rc_iadd (pc := 49) hC dX9_buys_49 ?_
  refine rc_r_mast (pc := 50) hC hF (j := 0) (by decide) rfl dX9_buys_50 h ?_
  intro S h
  refine rc_aload_n (pc := 51) hC dX9_buys_51 rfl rfl ?_
  refine rc_r_mref (pc := 52) hC hF rF_X9_7 (by decide) dX9_buys_52 h ?_
  refine rc_bipush (pc := 55) hC (v := (122 : Int32)) dX9_buys_55 rfl ?_
  refine rc_bipush (pc := 57) hC (v := (8 : Int32)) dX9_buys_57 rfl ?_
  refine rc_iload_n (pc := 59) hC dX9_buys_59 rfl rfl ?_
  refine rc_imul (pc := 60) hC dX9_buys_60 ?_
  refine rc_iadd (pc := 61) hC dX9_buys_61 ?_
  refine rc_iload_n (pc := 62) hC dX9_buys_62 rfl rfl ?_
  refine rc_iadd (pc := 63) hC dX9_buys_63 ?_
  refine rc_aload_n (pc := 64) hC dX9_buys_64 rfl rfl ?_
  refine rc_r_mref (pc := 65) hC hF rF_X9_7 (by decide) dX9_buys_65 h ?_
  refine rc_iconst (pc := 68) hC (v := (3 : Int32)) dX9_buys_68 rfl ?_
  refine rc_r_mald (pc := 69) hC hF (j := 0) (by decide) rfl dX9_buys_69 h ?_
  intro x8 h
  refine rc_iload (pc := 70) hC dX9_buys_70 rfl ?_
  refine rc_iadd (pc := 72) hC dX9_buys_72 ?_
  refine rc_r_mast (pc := 73) hC hF (j := 0) (by decide) rfl dX9_buys_73 h ?_
  intro S h
  refine rc_aload_n (pc := 74) hC dX9_buys_74 rfl rfl ?_
  refine rc_r_mref (pc := 75) hC hF rF_X9_7 (by decide) dX9_buys_75 h ?_
  refine rc_iconst (pc := 78) hC (v := (3 : Int32)) dX9_buys_78 rfl ?_
  refine rc_r_mald (pc := 79) hC hF (j := 0) (by decide) rfl dX9_buys_79 h ?_
  intro x10 h
  refine rc_iload (pc := 80) hC dX9_buys_80 rfl ?_
  refine rc_iadd (pc := 82) hC dX9_buys_82 ?_
  exact rc_iret hC rfl rfl dX9_buys_83 h rfl
theorem rw_X9_readsTruce {l : Launch} (hl : l.stackTraces = false) : rc_Cm l yX9_readsTruce (ws_ yX9_readsTruce cX9_readsTruce 1 (Option.some Jvm.ClassFile.FieldType.boolean)) 4 86 rc_tI (rp_X9_readsTruce ) [] := by
  refine rc_Cm_H hl (plainFor_of_name rY_X9) rfl (Nat.le_of_ble_eq_true rfl) ?_
  intro Y S hC hH hF h
  have hC : rc_C Y cX9_readsTruce RX9 (Option.some Jvm.ClassFile.FieldType.boolean) 1 := hC
  show rc_Z Y S 0 [some (rc_q (some (rc_km (yr_K Y) 100)))] []
  unfold rp_X9_readsTruce at h
  refine rc_aload_n (pc := 0) hC dX9_readsTruce_0 rfl rfl ?_
  refine rc_iconst (pc := 1) hC (v := (0 : Int32)) dX9_readsTruce_1 rfl ?_
  refine rc_callM (pc := 2) hC (rw_X9_catAt hH.1 (0 : Int32)) q2140 q2142 qs56 q149 q2143 rfl rd_X9_catAt (hH.room (Nat.le_of_ble_eq_true rfl) (Nat.le_of_ble_eq_true rfl)) rfl rfl (Nat.le_of_ble_eq_true rfl) 1 rfl h.le.2.2 (Or.inl hF) h.br rfl dX9_readsTruce_2 ?_ (fun E q S hT => rc_out hC hH.2.2.2.2 hT)
  intro x1 S h
  show rc_Z Y S 5 [some (rc_q (some (rc_km (yr_K Y) 100)))] [rc_i x1]
  refine rc_if_eq (pc := 5) (tgt := 74) hC dX9_readsTruce_5 rfl h ?_ ?_
  · intro _ h
    refine rc_iconst (pc := 74) hC (v := (0 : Int32)) dX9_readsTruce_74 rfl ?_
    exact rc_iret hC rfl rfl dX9_readsTruce_75 h rfl
  intro _ h
  refine rc_aload_n (pc := 8) hC dX9_readsTruce_8 rfl rfl ?_
  refine rc_aload_n (pc := 9) hC dX9_readsTruce_9 rfl rfl ?_
  refine rc_r_mref (pc := 10) hC hF rF_X9_7 (by decide) dX9_readsTruce_10 h ?_
  refine rc_iconst (pc := 13) hC (v := (2 : Int32)) dX9_readsTruce_13 rfl ?_
  refine rc_r_mald (pc := 14) hC hF (j := 0) (by decide) rfl dX9_readsTruce_14 h ?_
  intro x3 h
  refine rc_iconst (pc := 15) hC (v := (1 : Int32)) dX9_readsTruce_15 rfl ?_
  refine rc_isub (pc := 16) hC dX9_readsTruce_16 ?_
  refine rc_callM (pc := 17) hC (rw_X9_another hH.1 (x3 - (1 : Int32))) q2100 q2102 qs46 q149 q2103 rfl rd_X9_another (hH.room (Nat.le_of_ble_eq_true rfl) (Nat.le_of_ble_eq_true rfl)) rfl rfl (Nat.le_of_ble_eq_true rfl) 1 rfl h.le.2.2 (Or.inl hF) h.br rfl dX9_readsTruce_17 ?_ (fun E q S hT => rc_out hC hH.2.2.2.2 hT)
  intro x4 S h
  show rc_Z Y S 20 [some (rc_q (some (rc_km (yr_K Y) 100)))] [rc_i x4]
  refine rc_if_eq (pc := 20) (tgt := 74) hC dX9_readsTruce_20 rfl h ?_ ?_
  · intro _ h
    refine rc_iconst (pc := 74) hC (v := (0 : Int32)) dX9_readsTruce_74 rfl ?_
    exact rc_iret hC rfl rfl dX9_readsTruce_75 h rfl
  intro _ h
  refine rc_aload_n (pc := 23) hC dX9_readsTruce_23 rfl rfl ?_
  refine rc_iconst (pc := 24) hC (v := (2 : Int32)) dX9_readsTruce_24 rfl ?_
  refine rc_iconst (pc := 25) hC (v := (1 : Int32)) dX9_readsTruce_25 rfl ?_
  refine rc_bipush (pc := 26) hC (v := (9 : Int32)) dX9_readsTruce_26 rfl ?_
  refine rc_callM (pc := 28) hC (rw_X9_number hH.1 (2 : Int32) (1 : Int32) (9 : Int32)) q2069 q2071 qs39 q149 q2072 rfl rd_X9_number (hH.room (Nat.le_of_ble_eq_true rfl) (Nat.le_of_ble_eq_true rfl)) rfl rfl (Nat.le_of_ble_eq_true rfl) 3 rfl h.le.2.2 (Or.inl hF) h.br rfl dX9_readsTruce_28 ?_ (fun E q S hT => rc_out hC hH.2.2.2.2 hT)
  intro x5 S h
  show rc_Z Y S 31 [some (rc_q (some (rc_km (yr_K Y) 100)))] [rc_i x5]
  refine rc_if_eq (pc := 31) (tgt := 74) hC dX9_readsTruce_31 rfl h ?_ ?_
  · intro _ h
    refine rc_iconst (pc := 74) hC (v := (0 : Int32)) dX9_readsTruce_74 rfl ?_
    exact rc_iret hC rfl rfl dX9_readsTruce_75 h rfl
  intro _ h
  refine rc_aload_n (pc := 34) hC dX9_readsTruce_34 rfl rfl ?_
  refine rc_iconst (pc := 35) hC (v := (3 : Int32)) dX9_readsTruce_35 rfl ?_
  refine rc_iconst (pc := 36) hC (v := (1 : Int32)) dX9_readsTruce_36 rfl ?_
  refine rc_bipush (pc := 37) hC (v := (20 : Int32)) dX9_readsTruce_37 rfl ?_
  refine rc_callM (pc := 39) hC (rw_X9_number hH.1 (3 : Int32) (1 : Int32) (20 : Int32)) q2069 q2071 qs39 q149 q2072 rfl rd_X9_number (hH.room (Nat.le_of_ble_eq_true rfl) (Nat.le_of_ble_eq_true rfl)) rfl rfl (Nat.le_of_ble_eq_true rfl) 3 rfl h.le.2.2 (Or.inl hF) h.br rfl dX9_readsTruce_39 ?_ (fun E q S hT => rc_out hC hH.2.2.2.2 hT)
  intro x6 S h
  show rc_Z Y S 42 [some (rc_q (some (rc_km (yr_K Y) 100)))] [rc_i x6]
  refine rc_if_eq (pc := 42) (tgt := 74) hC dX9_readsTruce_42 rfl h ?_ ?_
  · intro _ h
    refine rc_iconst (pc := 74) hC (v := (0 : Int32)) dX9_readsTruce_74 rfl ?_
    exact rc_iret hC rfl rfl dX9_readsTruce_75 h rfl
  intro _ h
  refine rc_aload_n (pc := 45) hC dX9_readsTruce_45 rfl rfl ?_
  refine rc_aload_n (pc := 46) hC dX9_readsTruce_46 rfl rfl ?_
  refine rc_aload_n (pc := 47) hC dX9_readsTruce_47 rfl rfl ?_
  refine rc_r_mref (pc := 48) hC hF rF_X9_42 (by decide) dX9_readsTruce_48 h ?_
  refine rc_iconst (pc := 51) hC (v := (0 : Int32)) dX9_readsTruce_51 rfl ?_
  refine rc_r_mald (pc := 52) hC hF (j := 22) (by decide) rfl dX9_readsTruce_52 h ?_
  intro x8 h
  refine rc_aload_n (pc := 53) hC dX9_readsTruce_53 rfl rfl ?_
  refine rc_r_mref (pc := 54) hC hF rF_X9_42 (by decide) dX9_readsTruce_54 h ?_
  refine rc_iconst (pc := 57) hC (v := (1 : Int32)) dX9_readsTruce_57 rfl ?_
  refine rc_r_mald (pc := 58) hC hF (j := 22) (by decide) rfl dX9_readsTruce_58 h ?_
  intro x10 h
  refine rc_aload_n (pc := 59) hC dX9_readsTruce_59 rfl rfl ?_
  refine rc_r_mref (pc := 60) hC hF rF_X9_42 (by decide) dX9_readsTruce_60 h ?_
  refine rc_iconst (pc := 63) hC (v := (2 : Int32)) dX9_readsTruce_63 rfl ?_
  refine rc_r_mald (pc := 64) hC hF (j := 22) (by decide) rfl dX9_readsTruce_64 h ?_
  intro x12 h
  refine rc_callM (pc := 65) hC (rw_X9_canBuy hH.1 x8 x10 x12) q2229 q2231 qs78 q149 q2232 rfl rd_X9_canBuy (hH.room (Nat.le_of_ble_eq_true rfl) (Nat.le_of_ble_eq_true rfl)) rfl rfl (Nat.le_of_ble_eq_true rfl) 3 rfl h.le.2.2 (Or.inl hF) h.br rfl dX9_readsTruce_65 ?_ (fun E q S hT => rc_out hC hH.2.2.2.2 hT)
  intro x13 S h
  show rc_Z Y S 68 [some (rc_q (some (rc_km (yr_K Y) 100)))] [rc_i x13, rc_q (some (rc_km (yr_K Y) 100))]
  refine rc_callM (pc := 68) hC (rw_X9_stops hH.1 x13) q2084 q2086 qs42 q149 q2087 rfl rd_X9_stops (hH.room (Nat.le_of_ble_eq_true rfl) (Nat.le_of_ble_eq_true rfl)) rfl rfl (Nat.le_of_ble_eq_true rfl) 1 rfl h.le.2.2 (Or.inl hF) h.br rfl dX9_readsTruce_68 ?_ (fun E q S hT => rc_out hC hH.2.2.2.2 hT)
  intro x14 S h
  show rc_Z Y S 71 [some (rc_q (some (rc_km (yr_K Y) 100)))] [rc_i x14]
  refine rc_if_ne (pc := 71) (tgt := 76) hC dX9_readsTruce_71 rfl h ?_ ?_
  · intro _ h
    refine rc_aload_n (pc := 76) hC dX9_readsTruce_76 rfl rfl ?_
    refine rc_aload_n (pc := 77) hC dX9_readsTruce_77 rfl rfl ?_
    refine rc_r_mref (pc := 78) hC hF rF_X9_42 (by decide) dX9_readsTruce_78 h ?_
    refine rc_iconst (pc := 81) hC (v := (0 : Int32)) dX9_readsTruce_81 rfl ?_
    refine rc_r_mald (pc := 82) hC hF (j := 22) (by decide) rfl dX9_readsTruce_82 h ?_
    intro x16 h
    refine rc_aload_n (pc := 83) hC dX9_readsTruce_83 rfl rfl ?_
    refine rc_r_mref (pc := 84) hC hF rF_X9_42 (by decide) dX9_readsTruce_84 h ?_
    refine rc_iconst (pc := 87) hC (v := (1 : Int32)) dX9_readsTruce_87 rfl ?_
    refine rc_r_mald (pc := 88) hC hF (j := 22) (by decide) rfl dX9_readsTruce_88 h ?_
    intro x18 h
    refine rc_aload_n (pc := 89) hC dX9_readsTruce_89 rfl rfl ?_
    refine rc_r_mref (pc := 90) hC hF rF_X9_42 (by decide) dX9_readsTruce_90 h ?_
    refine rc_iconst (pc := 93) hC (v := (2 : Int32)) dX9_readsTruce_93 rfl ?_
    refine rc_r_mald (pc := 94) hC hF (j := 22) (by decide) rfl dX9_readsTruce_94 h ?_
    intro x20 h
    refine rc_aload_n (pc := 95) hC dX9_readsTruce_95 rfl rfl ?_
    refine rc_r_mref (pc := 96) hC hF rF_X9_42 (by decide) dX9_readsTruce_96 h ?_
    refine rc_iconst (pc := 99) hC (v := (3 : Int32)) dX9_readsTruce_99 rfl ?_
    refine rc_r_mald (pc := 100) hC hF (j := 22) (by decide) rfl dX9_readsTruce_100 h ?_
    intro x22 h
    refine rc_callM (pc := 101) hC (rw_X9_buys hH.1 x16 x18 x20 x22) q2233 q2235 qs79 q149 q2236 rfl rd_X9_buys (hH.room (Nat.le_of_ble_eq_true rfl) (Nat.le_of_ble_eq_true rfl)) rfl rfl (Nat.le_of_ble_eq_true rfl) 4 rfl h.le.2.2 (Or.inl hF) h.br rfl dX9_readsTruce_101 ?_ (fun E q S hT => rc_out hC hH.2.2.2.2 hT)
    intro x23 S h
    show rc_Z Y S 104 [some (rc_q (some (rc_km (yr_K Y) 100)))] [rc_i x23]
    refine rc_pop (pc := 104) hC dX9_readsTruce_104 rfl ?_
    refine rc_iconst (pc := 105) hC (v := (1 : Int32)) dX9_readsTruce_105 rfl ?_
    exact rc_iret hC rfl rfl dX9_readsTruce_106 h rfl
  intro _ h
  refine rc_iconst (pc := 74) hC (v := (0 : Int32)) dX9_readsTruce_74 rfl ?_
  exact rc_iret hC rfl rfl dX9_readsTruce_75 h rfl
theorem rw_X9_waits {l : Launch} (hl : l.stackTraces = false) : rc_Cm l yX9_waits (ws_ yX9_waits cX9_waits 1 (Option.some Jvm.ClassFile.FieldType.boolean)) 0 0 rc_tI (rp_X9_waits ) [] := by
  refine rc_Cm_H hl (plainFor_of_name rY_X9) rfl (Nat.le_of_ble_eq_true rfl) ?_
  intro Y S hC hH hF h
  have hC : rc_C Y cX9_waits RX9 (Option.some Jvm.ClassFile.FieldType.boolean) 1 := hC
  show rc_Z Y S 0 [some (rc_q (some (rc_km (yr_K Y) 100)))] []
  unfold rp_X9_waits at h
  refine rc_aload_n (pc := 0) hC dX9_waits_0 rfl rfl ?_
  refine rc_r_mref (pc := 1) hC hF rF_X9_7 (by decide) dX9_waits_1 h ?_
  refine rc_iconst (pc := 4) hC (v := (4 : Int32)) dX9_waits_4 rfl ?_
  refine rc_r_mald (pc := 5) hC hF (j := 0) (by decide) rfl dX9_waits_5 h ?_
  intro x2 h
  refine rc_if_le (pc := 6) (tgt := 13) hC dX9_waits_6 rfl h ?_ ?_
  · intro _ h
    refine rc_iconst (pc := 13) hC (v := (0 : Int32)) dX9_waits_13 rfl ?_
    exact rc_iret hC rfl rfl dX9_waits_14 h rfl
  intro _ h
  refine rc_iconst (pc := 9) hC (v := (1 : Int32)) dX9_waits_9 rfl ?_
  refine rc_goto (pc := 10) (tgt := 14) hC dX9_waits_10 rfl ?_
  exact rc_iret hC rfl rfl dX9_waits_14 h rfl
theorem rw_X9_canNominate {l : Launch} (hl : l.stackTraces = false) : rc_Cm l yX9_canNominate (ws_ yX9_canNominate cX9_canNominate 1 (Option.some Jvm.ClassFile.FieldType.boolean)) 1 20 rc_tI (rp_X9_canNominate ) [] := by
  refine rc_Cm_H hl (plainFor_of_name rY_X9) rfl (Nat.le_of_ble_eq_true rfl) ?_
  intro Y S hC hH hF h
  have hC : rc_C Y cX9_canNominate RX9 (Option.some Jvm.ClassFile.FieldType.boolean) 1 := hC
  show rc_Z Y S 0 [some (rc_q (some (rc_km (yr_K Y) 100)))] []
  unfold rp_X9_canNominate at h
  refine rc_aload_n (pc := 0) hC dX9_canNominate_0 rfl rfl ?_
  refine rc_callM (pc := 1) hC (rw_X9_waits hH.1) q2245 q2247 qs82 q149 q2248 rfl rd_X9_waits (hH.room (Nat.le_of_ble_eq_true rfl) (Nat.le_of_ble_eq_true rfl)) rfl rfl (Nat.le_of_ble_eq_true rfl) 0 rfl h.le.2.2 (Or.inl hF) h.br rfl dX9_canNominate_1 ?_ (fun E q S hT => rc_out hC hH.2.2.2.2 hT)
  intro x1 S h
  show rc_Z Y S 4 [some (rc_q (some (rc_km (yr_K Y) 100)))] [rc_i x1]
  refine rc_if_ne (pc := 4) (tgt := 31) hC dX9_canNominate_4 rfl h ?_ ?_
  · intro _ h
    refine rc_iconst (pc := 31) hC (v := (0 : Int32)) dX9_canNominate_31 rfl ?_
    exact rc_iret hC rfl rfl dX9_canNominate_32 h rfl
  intro _ h
  refine rc_aload_n (pc := 7) hC dX9_canNominate_7 rfl rfl ?_
  refine rc_r_mref (pc := 8) hC hF rF_X9_7 (by decide) dX9_canNominate_8 h ?_
  refine rc_iconst (pc := 11) hC (v := (2 : Int32)) dX9_canNominate_11 rfl ?_
  refine rc_r_mald (pc := 12) hC hF (j := 0) (by decide) rfl dX9_canNominate_12 h ?_
  intro x3 h
  refine rc_if_le (pc := 13) (tgt := 31) hC dX9_canNominate_13 rfl h ?_ ?_
  · intro _ h
    refine rc_iconst (pc := 31) hC (v := (0 : Int32)) dX9_canNominate_31 rfl ?_
    exact rc_iret hC rfl rfl dX9_canNominate_32 h rfl
  intro _ h
  refine rc_aload_n (pc := 16) hC dX9_canNominate_16 rfl rfl ?_
  refine rc_r_mref (pc := 17) hC hF rF_X9_7 (by decide) dX9_canNominate_17 h ?_
  refine rc_iconst (pc := 20) hC (v := (2 : Int32)) dX9_canNominate_20 rfl ?_
  refine rc_r_mald (pc := 21) hC hF (j := 0) (by decide) rfl dX9_canNominate_21 h ?_
  intro x5 h
  refine rc_bipush (pc := 22) hC (v := (8 : Int32)) dX9_canNominate_22 rfl ?_
  refine rc_icmp_ge (pc := 24) (tgt := 31) hC dX9_canNominate_24 rfl h ?_ ?_
  · intro _ h
    refine rc_iconst (pc := 31) hC (v := (0 : Int32)) dX9_canNominate_31 rfl ?_
    exact rc_iret hC rfl rfl dX9_canNominate_32 h rfl
  intro _ h
  refine rc_iconst (pc := 27) hC (v := (1 : Int32)) dX9_canNominate_27 rfl ?_
  refine rc_goto (pc := 28) (tgt := 32) hC dX9_canNominate_28 rfl ?_
  exact rc_iret hC rfl rfl dX9_canNominate_32 h rfl
theorem rw_X9_nominates {l : Launch} (hl : l.stackTraces = false) (v1 : Int32) (v2 : Int32) : rc_Cm l yX9_nominates (ws_ yX9_nominates cX9_nominates 3 (Option.some Jvm.ClassFile.FieldType.int)) 0 0 rc_tI (rp_X9_nominates v1 v2) [rc_i v1, rc_i v2] := by
  refine rc_Cm_H hl (plainFor_of_name rY_X9) rfl (Nat.le_of_ble_eq_true rfl) ?_
  intro Y S hC hH hF h
  have hC : rc_C Y cX9_nominates RX9 (Option.some Jvm.ClassFile.FieldType.int) 3 := hC
  show rc_Z Y S 0 [some (rc_q (some (rc_km (yr_K Y) 100))), some (rc_i v1), some (rc_i v2)] []
  unfold rp_X9_nominates at h
  refine rc_aload_n (pc := 0) hC dX9_nominates_0 rfl rfl ?_
  refine rc_r_mref (pc := 1) hC hF rF_X9_7 (by decide) dX9_nominates_1 h ?_
  refine rc_iconst (pc := 4) hC (v := (4 : Int32)) dX9_nominates_4 rfl ?_
  refine rc_iload_n (pc := 5) hC dX9_nominates_5 rfl rfl ?_
  refine rc_r_mast (pc := 6) hC hF (j := 0) (by decide) rfl dX9_nominates_6 h ?_
  intro S h
  refine rc_aload_n (pc := 7) hC dX9_nominates_7 rfl rfl ?_
  refine rc_r_mref (pc := 8) hC hF rF_X9_7 (by decide) dX9_nominates_8 h ?_
  refine rc_iconst (pc := 11) hC (v := (5 : Int32)) dX9_nominates_11 rfl ?_
  refine rc_iload_n (pc := 12) hC dX9_nominates_12 rfl rfl ?_
  refine rc_r_mast (pc := 13) hC hF (j := 0) (by decide) rfl dX9_nominates_13 h ?_
  intro S h
  refine rc_aload_n (pc := 14) hC dX9_nominates_14 rfl rfl ?_
  refine rc_r_mref (pc := 15) hC hF rF_X9_7 (by decide) dX9_nominates_15 h ?_
  refine rc_bipush (pc := 18) hC (v := (6 : Int32)) dX9_nominates_18 rfl ?_
  refine rc_iconst (pc := 20) hC (v := (0 : Int32)) dX9_nominates_20 rfl ?_
  refine rc_r_mast (pc := 21) hC hF (j := 0) (by decide) rfl dX9_nominates_21 h ?_
  intro S h
  refine rc_aload_n (pc := 22) hC dX9_nominates_22 rfl rfl ?_
  refine rc_r_mref (pc := 23) hC hF rF_X9_7 (by decide) dX9_nominates_23 h ?_
  refine rc_bipush (pc := 26) hC (v := (7 : Int32)) dX9_nominates_26 rfl ?_
  refine rc_iconst (pc := 28) hC (v := (0 : Int32)) dX9_nominates_28 rfl ?_
  refine rc_r_mast (pc := 29) hC hF (j := 0) (by decide) rfl dX9_nominates_29 h ?_
  intro S h
  refine rc_aload_n (pc := 30) hC dX9_nominates_30 rfl rfl ?_
  refine rc_r_mref (pc := 31) hC hF rF_X9_7 (by decide) dX9_nominates_31 h ?_
  refine rc_iconst (pc := 34) hC (v := (2 : Int32)) dX9_nominates_34 rfl ?_
  refine rc_r_mald (pc := 35) hC hF (j := 0) (by decide) rfl dX9_nominates_35 h ?_
  intro x6 h
  exact rc_iret hC rfl rfl dX9_nominates_36 h rfl
theorem rw_X9_readsKitten {l : Launch} (hl : l.stackTraces = false) : rc_Cm l yX9_readsKitten (ws_ yX9_readsKitten cX9_readsKitten 1 (Option.some Jvm.ClassFile.FieldType.boolean)) 4 86 rc_tI (rp_X9_readsKitten ) [] := by
  refine rc_Cm_H hl (plainFor_of_name rY_X9) rfl (Nat.le_of_ble_eq_true rfl) ?_
  intro Y S hC hH hF h
  have hC : rc_C Y cX9_readsKitten RX9 (Option.some Jvm.ClassFile.FieldType.boolean) 1 := hC
  show rc_Z Y S 0 [some (rc_q (some (rc_km (yr_K Y) 100)))] []
  unfold rp_X9_readsKitten at h
  refine rc_aload_n (pc := 0) hC dX9_readsKitten_0 rfl rfl ?_
  refine rc_iconst (pc := 1) hC (v := (0 : Int32)) dX9_readsKitten_1 rfl ?_
  refine rc_callM (pc := 2) hC (rw_X9_sizesAt hH.1 (0 : Int32)) q2112 q2114 qs49 q149 q2115 rfl rd_X9_sizesAt (hH.room (Nat.le_of_ble_eq_true rfl) (Nat.le_of_ble_eq_true rfl)) rfl rfl (Nat.le_of_ble_eq_true rfl) 1 rfl h.le.2.2 (Or.inl hF) h.br rfl dX9_readsKitten_2 ?_ (fun E q S hT => rc_out hC hH.2.2.2.2 hT)
  intro x1 S h
  show rc_Z Y S 5 [some (rc_q (some (rc_km (yr_K Y) 100)))] [rc_i x1]
  refine rc_if_eq (pc := 5) (tgt := 19) hC dX9_readsKitten_5 rfl h ?_ ?_
  · intro _ h
    refine rc_iconst (pc := 19) hC (v := (0 : Int32)) dX9_readsKitten_19 rfl ?_
    exact rc_iret hC rfl rfl dX9_readsKitten_20 h rfl
  intro _ h
  refine rc_aload_n (pc := 8) hC dX9_readsKitten_8 rfl rfl ?_
  refine rc_aload_n (pc := 9) hC dX9_readsKitten_9 rfl rfl ?_
  refine rc_callM (pc := 10) hC (rw_X9_canNominate hH.1) q2241 q2243 qs81 q149 q2244 rfl rd_X9_canNominate (hH.room (Nat.le_of_ble_eq_true rfl) (Nat.le_of_ble_eq_true rfl)) rfl rfl (Nat.le_of_ble_eq_true rfl) 0 rfl h.le.2.2 (Or.inl hF) h.br rfl dX9_readsKitten_10 ?_ (fun E q S hT => rc_out hC hH.2.2.2.2 hT)
  intro x2 S h
  show rc_Z Y S 13 [some (rc_q (some (rc_km (yr_K Y) 100)))] [rc_i x2, rc_q (some (rc_km (yr_K Y) 100))]
  refine rc_callM (pc := 13) hC (rw_X9_stops hH.1 x2) q2084 q2086 qs42 q149 q2087 rfl rd_X9_stops (hH.room (Nat.le_of_ble_eq_true rfl) (Nat.le_of_ble_eq_true rfl)) rfl rfl (Nat.le_of_ble_eq_true rfl) 1 rfl h.le.2.2 (Or.inl hF) h.br rfl dX9_readsKitten_13 ?_ (fun E q S hT => rc_out hC hH.2.2.2.2 hT)
  intro x3 S h
  show rc_Z Y S 16 [some (rc_q (some (rc_km (yr_K Y) 100)))] [rc_i x3]
  refine rc_if_ne (pc := 16) (tgt := 21) hC dX9_readsKitten_16 rfl h ?_ ?_
  · intro _ h
    refine rc_aload_n (pc := 21) hC dX9_readsKitten_21 rfl rfl ?_
    refine rc_aload_n (pc := 22) hC dX9_readsKitten_22 rfl rfl ?_
    refine rc_r_mref (pc := 23) hC hF rF_X9_42 (by decide) dX9_readsKitten_23 h ?_
    refine rc_iconst (pc := 26) hC (v := (0 : Int32)) dX9_readsKitten_26 rfl ?_
    refine rc_r_mald (pc := 27) hC hF (j := 22) (by decide) rfl dX9_readsKitten_27 h ?_
    intro x5 h
    refine rc_aload_n (pc := 28) hC dX9_readsKitten_28 rfl rfl ?_
    refine rc_r_mref (pc := 29) hC hF rF_X9_42 (by decide) dX9_readsKitten_29 h ?_
    refine rc_iconst (pc := 32) hC (v := (1 : Int32)) dX9_readsKitten_32 rfl ?_
    refine rc_r_mald (pc := 33) hC hF (j := 22) (by decide) rfl dX9_readsKitten_33 h ?_
    intro x7 h
    refine rc_callM (pc := 34) hC (rw_X9_nominates hH.1 x5 x7) q2249 q2251 qs83 q149 q2252 rfl rd_X9_nominates (hH.room (Nat.le_of_ble_eq_true rfl) (Nat.le_of_ble_eq_true rfl)) rfl rfl (Nat.le_of_ble_eq_true rfl) 2 rfl h.le.2.2 (Or.inl hF) h.br rfl dX9_readsKitten_34 ?_ (fun E q S hT => rc_out hC hH.2.2.2.2 hT)
    intro x8 S h
    show rc_Z Y S 37 [some (rc_q (some (rc_km (yr_K Y) 100)))] [rc_i x8]
    refine rc_pop (pc := 37) hC dX9_readsKitten_37 rfl ?_
    refine rc_iconst (pc := 38) hC (v := (1 : Int32)) dX9_readsKitten_38 rfl ?_
    exact rc_iret hC rfl rfl dX9_readsKitten_39 h rfl
  intro _ h
  refine rc_iconst (pc := 19) hC (v := (0 : Int32)) dX9_readsKitten_19 rfl ?_
  exact rc_iret hC rfl rfl dX9_readsKitten_20 h rfl
theorem rw_X9_canVote {l : Launch} (hl : l.stackTraces = false) (v1 : Int32) : rc_Cm l yX9_canVote (ws_ yX9_canVote cX9_canVote 2 (Option.some Jvm.ClassFile.FieldType.boolean)) 1 20 rc_tI (rp_X9_canVote v1) [rc_i v1] := by
  refine rc_Cm_H hl (plainFor_of_name rY_X9) rfl (Nat.le_of_ble_eq_true rfl) ?_
  intro Y S hC hH hF h
  have hC : rc_C Y cX9_canVote RX9 (Option.some Jvm.ClassFile.FieldType.boolean) 2 := hC
  show rc_Z Y S 0 [some (rc_q (some (rc_km (yr_K Y) 100))), some (rc_i v1)] []
  unfold rp_X9_canVote at h
  refine rc_aload_n (pc := 0) hC dX9_canVote_0 rfl rfl ?_
  refine rc_callM (pc := 1) hC (rw_X9_waits hH.1) q2245 q2247 qs82 q149 q2248 rfl rd_X9_waits (hH.room (Nat.le_of_ble_eq_true rfl) (Nat.le_of_ble_eq_true rfl)) rfl rfl (Nat.le_of_ble_eq_true rfl) 0 rfl h.le.2.2 (Or.inl hF) h.br rfl dX9_canVote_1 ?_ (fun E q S hT => rc_out hC hH.2.2.2.2 hT)
  intro x1 S h
  show rc_Z Y S 4 [some (rc_q (some (rc_km (yr_K Y) 100))), some (rc_i v1)] [rc_i x1]
  refine rc_if_eq (pc := 4) (tgt := 25) hC dX9_canVote_4 rfl h ?_ ?_
  · intro _ h
    refine rc_iconst (pc := 25) hC (v := (0 : Int32)) dX9_canVote_25 rfl ?_
    exact rc_iret hC rfl rfl dX9_canVote_26 h rfl
  intro _ h
  refine rc_aload_n (pc := 7) hC dX9_canVote_7 rfl rfl ?_
  refine rc_r_mref (pc := 8) hC hF rF_X9_7 (by decide) dX9_canVote_8 h ?_
  refine rc_bipush (pc := 11) hC (v := (6 : Int32)) dX9_canVote_11 rfl ?_
  refine rc_r_mald (pc := 13) hC hF (j := 0) (by decide) rfl dX9_canVote_13 h ?_
  intro x3 h
  refine rc_iload_n (pc := 14) hC dX9_canVote_14 rfl rfl ?_
  refine rc_ishr (pc := 15) hC dX9_canVote_15 ?_
  refine rc_iconst (pc := 16) hC (v := (1 : Int32)) dX9_canVote_16 rfl ?_
  refine rc_iand (pc := 17) hC dX9_canVote_17 ?_
  refine rc_if_ne (pc := 18) (tgt := 25) hC dX9_canVote_18 rfl h ?_ ?_
  · intro _ h
    refine rc_iconst (pc := 25) hC (v := (0 : Int32)) dX9_canVote_25 rfl ?_
    exact rc_iret hC rfl rfl dX9_canVote_26 h rfl
  intro _ h
  refine rc_iconst (pc := 21) hC (v := (1 : Int32)) dX9_canVote_21 rfl ?_
  refine rc_goto (pc := 22) (tgt := 26) hC dX9_canVote_22 rfl ?_
  exact rc_iret hC rfl rfl dX9_canVote_26 h rfl
theorem rw_X9_warmestPlace_L51 {Y : rc_Y} (hC : rc_C Y cX9_warmestPlace RX9 (Option.some Jvm.ClassFile.FieldType.int) 3) (hH : rc_H Y 2 44 yX9_warmestPlace.name) (hF : yr_F Y = true) {k4 : Int32 → Int32 → rc_M Int32} (hk4 : ∀ (v1 : Int32) (v2 : Int32) (S : rc_S), rc_Go Y rc_tI (k4 v1 v2) S → rc_Z Y S 4 [some (rc_q (some (rc_km (yr_K Y) 100))), some (rc_i v1), some (rc_i v2)] []) (v1 : Int32) (v2 : Int32) (S : rc_S) (h : rc_Go Y rc_tI (rp_X9_warmestPlace_L51 k4 v1 v2) S) : rc_Z Y S 51 [some (rc_q (some (rc_km (yr_K Y) 100))), some (rc_i v1), some (rc_i v2)] [] := by
  unfold rp_X9_warmestPlace_L51 at h
  refine rc_iinc (pc := 51) hC (v := (v2 + (1 : Int32))) (L' := [some (rc_q (some (rc_km (yr_K Y) 100))), some (rc_i v1), some (rc_i (v2 + (1 : Int32)))]) dX9_warmestPlace_51 rfl rfl rfl rfl ?_
  refine rc_goto (pc := 54) (tgt := 4) hC dX9_warmestPlace_54 rfl ?_
  exact hk4 v1 (v2 + (1 : Int32)) S h
theorem rw_X9_warmestPlace_L49 {Y : rc_Y} (hC : rc_C Y cX9_warmestPlace RX9 (Option.some Jvm.ClassFile.FieldType.int) 3) (hH : rc_H Y 2 44 yX9_warmestPlace.name) (hF : yr_F Y = true) {k4 : Int32 → Int32 → rc_M Int32} (hk4 : ∀ (v1 : Int32) (v2 : Int32) (S : rc_S), rc_Go Y rc_tI (k4 v1 v2) S → rc_Z Y S 4 [some (rc_q (some (rc_km (yr_K Y) 100))), some (rc_i v1), some (rc_i v2)] []) (v2 : Int32) (S : rc_S) (h : rc_Go Y rc_tI (rp_X9_warmestPlace_L49 k4 v2) S) : rc_Z Y S 49 [some (rc_q (some (rc_km (yr_K Y) 100))), none, some (rc_i v2)] [] := by
  unfold rp_X9_warmestPlace_L49 at h
  refine rc_iload_n (pc := 49) hC dX9_warmestPlace_49 rfl rfl ?_
  refine rc_istore_n (pc := 50) hC (L' := [some (rc_q (some (rc_km (yr_K Y) 100))), some (rc_i v2), some (rc_i v2)]) dX9_warmestPlace_50 rfl (Nat.le_of_ble_eq_true rfl) rfl rfl ?_
  exact rw_X9_warmestPlace_L51 hC hH hF hk4 v2 v2 S h
theorem rw_X9_warmestPlace_L4 {Y : rc_Y} (hC : rc_C Y cX9_warmestPlace RX9 (Option.some Jvm.ClassFile.FieldType.int) 3) (hH : rc_H Y 2 44 yX9_warmestPlace.name) (hF : yr_F Y = true) : ∀ (n : Nat) (v1 : Int32) (v2 : Int32) (S : rc_S), rc_Go Y rc_tI (rp_X9_warmestPlace_L4  n v1 v2) S → rc_Z Y S 4 [some (rc_q (some (rc_km (yr_K Y) 100))), some (rc_i v1), some (rc_i v2)] [] := by
  intro n
  induction n with
  | zero => intro v1 v2 S h; exact h.fail.elim
  | succ n ih =>
    intro v1 v2 S h
    rw [rp_X9_warmestPlace_L4] at h
    refine rc_iload_n (pc := 4) hC dX9_warmestPlace_4 rfl rfl ?_
    refine rc_aload_n (pc := 5) hC dX9_warmestPlace_5 rfl rfl ?_
    refine rc_r_mref (pc := 6) hC hF rF_X9_7 (by decide) dX9_warmestPlace_6 h ?_
    refine rc_iconst (pc := 9) hC (v := (0 : Int32)) dX9_warmestPlace_9 rfl ?_
    refine rc_r_mald (pc := 10) hC hF (j := 0) (by decide) rfl dX9_warmestPlace_10 h ?_
    intro x2 h
    refine rc_icmp_ge (pc := 11) (tgt := 57) hC dX9_warmestPlace_11 rfl h ?_ ?_
    · intro _ h
      refine rc_iload_n (pc := 57) hC dX9_warmestPlace_57 rfl rfl ?_
      exact rc_iret hC rfl rfl dX9_warmestPlace_58 h rfl
    intro _ h
    refine rc_aload_n (pc := 14) hC dX9_warmestPlace_14 rfl rfl ?_
    refine rc_iload_n (pc := 15) hC dX9_warmestPlace_15 rfl rfl ?_
    refine rc_callM (pc := 16) hC (rw_X9_sitter hH.1 v2) q2120 q2122 qs51 q149 q2123 rfl rd_X9_sitter (hH.room (Nat.le_of_ble_eq_true rfl) (Nat.le_of_ble_eq_true rfl)) rfl rfl (Nat.le_of_ble_eq_true rfl) 1 rfl h.le.2.2 (Or.inl hF) h.br rfl dX9_warmestPlace_16 ?_ (fun E q S hT => rc_out hC hH.2.2.2.2 hT)
    intro x3 S h
    show rc_Z Y S 19 [some (rc_q (some (rc_km (yr_K Y) 100))), some (rc_i v1), some (rc_i v2)] [rc_i x3]
    refine rc_iconst (pc := 19) hC (v := (-1 : Int32)) dX9_warmestPlace_19 rfl ?_
    refine rc_icmp_ne (pc := 20) (tgt := 51) hC dX9_warmestPlace_20 rfl h ?_ ?_
    · intro _ h
      exact rw_X9_warmestPlace_L51 hC hH hF ih v1 v2 S h
    intro _ h
    refine rc_iload_n (pc := 23) hC dX9_warmestPlace_23 rfl rfl ?_
    refine rc_iconst (pc := 24) hC (v := (-1 : Int32)) dX9_warmestPlace_24 rfl ?_
    refine rc_icmp_eq (pc := 25) (tgt := 49) hC dX9_warmestPlace_25 rfl h ?_ ?_
    · intro _ h
      refine rc_drop [true, false, true] (L' := [some (rc_q (some (rc_km (yr_K Y) 100))), none, some (rc_i v2)]) rfl ?_
      exact rw_X9_warmestPlace_L49 hC hH hF ih v2 S h
    intro _ h
    refine rc_aload_n (pc := 28) hC dX9_warmestPlace_28 rfl rfl ?_
    refine rc_r_mref (pc := 29) hC hF rF_X9_7 (by decide) dX9_warmestPlace_29 h ?_
    refine rc_bipush (pc := 32) hC (v := (10 : Int32)) dX9_warmestPlace_32 rfl ?_
    refine rc_iload_n (pc := 34) hC dX9_warmestPlace_34 rfl rfl ?_
    refine rc_iadd (pc := 35) hC dX9_warmestPlace_35 ?_
    refine rc_r_mald (pc := 36) hC hF (j := 0) (by decide) rfl dX9_warmestPlace_36 h ?_
    intro x5 h
    refine rc_aload_n (pc := 37) hC dX9_warmestPlace_37 rfl rfl ?_
    refine rc_r_mref (pc := 38) hC hF rF_X9_7 (by decide) dX9_warmestPlace_38 h ?_
    refine rc_bipush (pc := 41) hC (v := (10 : Int32)) dX9_warmestPlace_41 rfl ?_
    refine rc_iload_n (pc := 43) hC dX9_warmestPlace_43 rfl rfl ?_
    refine rc_iadd (pc := 44) hC dX9_warmestPlace_44 ?_
    refine rc_r_mald (pc := 45) hC hF (j := 0) (by decide) rfl dX9_warmestPlace_45 h ?_
    intro x7 h
    refine rc_icmp_le (pc := 46) (tgt := 51) hC dX9_warmestPlace_46 rfl h ?_ ?_
    · intro _ h
      exact rw_X9_warmestPlace_L51 hC hH hF ih v1 v2 S h
    intro _ h
    refine rc_drop [true, false, true] (L' := [some (rc_q (some (rc_km (yr_K Y) 100))), none, some (rc_i v2)]) rfl ?_
    exact rw_X9_warmestPlace_L49 hC hH hF ih v2 S h
theorem rw_X9_warmestPlace {l : Launch} (hl : l.stackTraces = false) : rc_Cm l yX9_warmestPlace (ws_ yX9_warmestPlace cX9_warmestPlace 3 (Option.some Jvm.ClassFile.FieldType.int)) 2 44 rc_tI (rp_X9_warmestPlace ) [] := by
  refine rc_Cm_H hl (plainFor_of_name rY_X9) rfl (Nat.le_of_ble_eq_true rfl) ?_
  intro Y S hC hH hF h
  have hC : rc_C Y cX9_warmestPlace RX9 (Option.some Jvm.ClassFile.FieldType.int) 3 := hC
  show rc_Z Y S 0 [some (rc_q (some (rc_km (yr_K Y) 100))), none, none] []
  unfold rp_X9_warmestPlace at h
  refine rc_iconst (pc := 0) hC (v := (-1 : Int32)) dX9_warmestPlace_0 rfl ?_
  refine rc_istore_n (pc := 1) hC (L' := [some (rc_q (some (rc_km (yr_K Y) 100))), some (rc_i (-1 : Int32)), none]) dX9_warmestPlace_1 rfl (Nat.le_of_ble_eq_true rfl) rfl rfl ?_
  refine rc_iconst (pc := 2) hC (v := (0 : Int32)) dX9_warmestPlace_2 rfl ?_
  refine rc_istore_n (pc := 3) hC (L' := [some (rc_q (some (rc_km (yr_K Y) 100))), some (rc_i (-1 : Int32)), some (rc_i (0 : Int32))]) dX9_warmestPlace_3 rfl (Nat.le_of_ble_eq_true rfl) rfl rfl ?_
  refine rc_r_fuel h ?_
  intro x1 h
  exact rw_X9_warmestPlace_L4 hC hH hF  x1 (-1 : Int32) (0 : Int32) S h
theorem rw_X9_bits_L4 {Y : rc_Y} (hC : rc_C Y cX9_bits RX9 (Option.some Jvm.ClassFile.FieldType.int) 3) (hH : rc_H Y 0 0 yX9_bits.name) : ∀ (n : Nat) (v1 : Int32) (v2 : Int32) (S : rc_S), rc_Go Y rc_tI (rp_X9_bits_L4  n v1 v2) S → rc_Z Y S 4 [none, some (rc_i v1), some (rc_i v2)] [] := by
  intro n
  induction n with
  | zero => intro v1 v2 S h; exact h.fail.elim
  | succ n ih =>
    intro v1 v2 S h
    rw [rp_X9_bits_L4] at h
    refine rc_iload_n (pc := 4) hC dX9_bits_4 rfl rfl ?_
    refine rc_if_le (pc := 5) (tgt := 21) hC dX9_bits_5 rfl h ?_ ?_
    · intro _ h
      refine rc_iload_n (pc := 21) hC dX9_bits_21 rfl rfl ?_
      exact rc_iret hC rfl rfl dX9_bits_22 h rfl
    intro _ h
    refine rc_iload_n (pc := 8) hC dX9_bits_8 rfl rfl ?_
    refine rc_iload_n (pc := 9) hC dX9_bits_9 rfl rfl ?_
    refine rc_iconst (pc := 10) hC (v := (2 : Int32)) dX9_bits_10 rfl ?_
    refine rc_irem (pc := 11) hC dX9_bits_11 (by decide) ?_
    refine rc_iadd (pc := 12) hC dX9_bits_12 ?_
    refine rc_istore_n (pc := 13) hC (L' := [none, some (rc_i (v1 + (v2 - v2 / (2 : Int32) * (2 : Int32)))), some (rc_i v2)]) dX9_bits_13 rfl (Nat.le_of_ble_eq_true rfl) rfl rfl ?_
    refine rc_iload_n (pc := 14) hC dX9_bits_14 rfl rfl ?_
    refine rc_iconst (pc := 15) hC (v := (2 : Int32)) dX9_bits_15 rfl ?_
    refine rc_idiv (pc := 16) hC dX9_bits_16 (by decide) ?_
    refine rc_istore_n (pc := 17) hC (L' := [none, some (rc_i (v1 + (v2 - v2 / (2 : Int32) * (2 : Int32)))), some (rc_i (v2 / (2 : Int32)))]) dX9_bits_17 rfl (Nat.le_of_ble_eq_true rfl) rfl rfl ?_
    refine rc_goto (pc := 18) (tgt := 4) hC dX9_bits_18 rfl ?_
    exact ih (v1 + (v2 - v2 / (2 : Int32) * (2 : Int32))) (v2 / (2 : Int32)) S h
theorem rw_X9_bits {l : Launch} (hl : l.stackTraces = false) (v0 : Int32) : rc_Ct l yX9_bits (ws_ yX9_bits cX9_bits 3 (Option.some Jvm.ClassFile.FieldType.int)) 0 0 rc_tI (rp_X9_bits v0) [rc_i v0] := by
  refine rc_Ct_H hl (plainFor_of_name rY_X9) rfl (Nat.le_of_ble_eq_true rfl) (L0 := [some (rc_i v0), none, none]) rfl ?_
  intro Y S hC hH h
  have hC : rc_C Y cX9_bits RX9 (Option.some Jvm.ClassFile.FieldType.int) 3 := hC
  unfold rp_X9_bits at h
  refine rc_iconst (pc := 0) hC (v := (0 : Int32)) dX9_bits_0 rfl ?_
  refine rc_istore_n (pc := 1) hC (L' := [some (rc_i v0), some (rc_i (0 : Int32)), none]) dX9_bits_1 rfl (Nat.le_of_ble_eq_true rfl) rfl rfl ?_
  refine rc_iload_n (pc := 2) hC dX9_bits_2 rfl rfl ?_
  refine rc_istore_n (pc := 3) hC (L' := [some (rc_i v0), some (rc_i (0 : Int32)), some (rc_i v0)]) dX9_bits_3 rfl (Nat.le_of_ble_eq_true rfl) rfl rfl ?_
  refine rc_drop [false, true, true] (L' := [none, some (rc_i (0 : Int32)), some (rc_i v0)]) rfl ?_
  refine rc_r_fuel h ?_
  intro x1 h
  exact rw_X9_bits_L4 hC hH  x1 (0 : Int32) v0 S h
theorem rw_X9_decides_L74 {Y : rc_Y} (hC : rc_C Y cX9_decides RX9 (Option.some Jvm.ClassFile.FieldType.boolean) 3) (hH : rc_H Y 3 66 yX9_decides.name) (hF : yr_F Y = true) (v2 : Int32) (S : rc_S) (h : rc_Go Y rc_tI (rp_X9_decides_L74  v2) S) : rc_Z Y S 74 [some (rc_q (some (rc_km (yr_K Y) 100))), none, some (rc_i v2)] [] := by
  unfold rp_X9_decides_L74 at h
  refine rc_aload_n (pc := 74) hC dX9_decides_74 rfl rfl ?_
  refine rc_r_mref (pc := 75) hC hF rF_X9_7 (by decide) dX9_decides_75 h ?_
  refine rc_iconst (pc := 78) hC (v := (4 : Int32)) dX9_decides_78 rfl ?_
  refine rc_iconst (pc := 79) hC (v := (0 : Int32)) dX9_decides_79 rfl ?_
  refine rc_r_mast (pc := 80) hC hF (j := 0) (by decide) rfl dX9_decides_80 h ?_
  intro S h
  refine rc_aload_n (pc := 81) hC dX9_decides_81 rfl rfl ?_
  refine rc_r_mref (pc := 82) hC hF rF_X9_7 (by decide) dX9_decides_82 h ?_
  refine rc_iconst (pc := 85) hC (v := (5 : Int32)) dX9_decides_85 rfl ?_
  refine rc_iconst (pc := 86) hC (v := (0 : Int32)) dX9_decides_86 rfl ?_
  refine rc_r_mast (pc := 87) hC hF (j := 0) (by decide) rfl dX9_decides_87 h ?_
  intro S h
  refine rc_aload_n (pc := 88) hC dX9_decides_88 rfl rfl ?_
  refine rc_r_mref (pc := 89) hC hF rF_X9_7 (by decide) dX9_decides_89 h ?_
  refine rc_bipush (pc := 92) hC (v := (6 : Int32)) dX9_decides_92 rfl ?_
  refine rc_iconst (pc := 94) hC (v := (0 : Int32)) dX9_decides_94 rfl ?_
  refine rc_r_mast (pc := 95) hC hF (j := 0) (by decide) rfl dX9_decides_95 h ?_
  intro S h
  refine rc_aload_n (pc := 96) hC dX9_decides_96 rfl rfl ?_
  refine rc_r_mref (pc := 97) hC hF rF_X9_7 (by decide) dX9_decides_97 h ?_
  refine rc_bipush (pc := 100) hC (v := (7 : Int32)) dX9_decides_100 rfl ?_
  refine rc_iconst (pc := 102) hC (v := (0 : Int32)) dX9_decides_102 rfl ?_
  refine rc_r_mast (pc := 103) hC hF (j := 0) (by decide) rfl dX9_decides_103 h ?_
  intro S h
  refine rc_iload_n (pc := 104) hC dX9_decides_104 rfl rfl ?_
  obtain ⟨hn, h⟩ := h.nar
  exact rc_iret hC rfl hn dX9_decides_105 h rfl
theorem rw_X9_decides_L51 {Y : rc_Y} (hC : rc_C Y cX9_decides RX9 (Option.some Jvm.ClassFile.FieldType.boolean) 3) (hH : rc_H Y 3 66 yX9_decides.name) (hF : yr_F Y = true) (v1 : Int32) (s0 : Int32) (S : rc_S) (h : rc_Go Y rc_tI (rp_X9_decides_L51  v1 s0) S) : rc_Z Y S 51 [some (rc_q (some (rc_km (yr_K Y) 100))), some (rc_i v1), none] [rc_i s0] := by
  unfold rp_X9_decides_L51 at h
  refine rc_istore_n (pc := 51) hC (L' := [some (rc_q (some (rc_km (yr_K Y) 100))), some (rc_i v1), some (rc_i s0)]) dX9_decides_51 rfl (Nat.le_of_ble_eq_true rfl) rfl rfl ?_
  refine rc_iload_n (pc := 52) hC dX9_decides_52 rfl rfl ?_
  refine rc_if_eq (pc := 53) (tgt := 74) hC dX9_decides_53 rfl h ?_ ?_
  · intro _ h
    refine rc_drop [true, false, true] (L' := [some (rc_q (some (rc_km (yr_K Y) 100))), none, some (rc_i s0)]) rfl ?_
    exact rw_X9_decides_L74 hC hH hF  s0 S h
  intro _ h
  refine rc_aload_n (pc := 56) hC dX9_decides_56 rfl rfl ?_
  refine rc_iload_n (pc := 57) hC dX9_decides_57 rfl rfl ?_
  refine rc_aload_n (pc := 58) hC dX9_decides_58 rfl rfl ?_
  refine rc_r_mref (pc := 59) hC hF rF_X9_7 (by decide) dX9_decides_59 h ?_
  refine rc_iconst (pc := 62) hC (v := (4 : Int32)) dX9_decides_62 rfl ?_
  refine rc_r_mald (pc := 63) hC hF (j := 0) (by decide) rfl dX9_decides_63 h ?_
  intro x2 h
  refine rc_aload_n (pc := 64) hC dX9_decides_64 rfl rfl ?_
  refine rc_r_mref (pc := 65) hC hF rF_X9_7 (by decide) dX9_decides_65 h ?_
  refine rc_iconst (pc := 68) hC (v := (5 : Int32)) dX9_decides_68 rfl ?_
  refine rc_r_mald (pc := 69) hC hF (j := 0) (by decide) rfl dX9_decides_69 h ?_
  intro x4 h
  refine rc_callM (pc := 70) hC (rw_X9_enters hH.1 v1 x2 x4) q2128 q2130 qs53 q149 q2131 rfl rd_X9_enters (hH.room (Nat.le_of_ble_eq_true rfl) (Nat.le_of_ble_eq_true rfl)) rfl rfl (Nat.le_of_ble_eq_true rfl) 3 rfl h.le.2.2 (Or.inl hF) h.br rfl dX9_decides_70 ?_ (fun E q S hT => rc_out hC hH.2.2.2.2 hT)
  intro x5 S h
  show rc_Z Y S 73 [some (rc_q (some (rc_km (yr_K Y) 100))), some (rc_i v1), some (rc_i s0)] [rc_i x5]
  refine rc_pop (pc := 73) hC dX9_decides_73 rfl ?_
  refine rc_drop [true, false, true] (L' := [some (rc_q (some (rc_km (yr_K Y) 100))), none, some (rc_i s0)]) rfl ?_
  exact rw_X9_decides_L74 hC hH hF  s0 S h
theorem rw_X9_decides_L50 {Y : rc_Y} (hC : rc_C Y cX9_decides RX9 (Option.some Jvm.ClassFile.FieldType.boolean) 3) (hH : rc_H Y 3 66 yX9_decides.name) (hF : yr_F Y = true) (v1 : Int32) (S : rc_S) (h : rc_Go Y rc_tI (rp_X9_decides_L50  v1) S) : rc_Z Y S 50 [some (rc_q (some (rc_km (yr_K Y) 100))), some (rc_i v1), none] [] := by
  unfold rp_X9_decides_L50 at h
  refine rc_iconst (pc := 50) hC (v := (0 : Int32)) dX9_decides_50 rfl ?_
  exact rw_X9_decides_L51 hC hH hF  v1 (0 : Int32) S h
theorem rw_X9_decides {l : Launch} (hl : l.stackTraces = false) : rc_Cm l yX9_decides (ws_ yX9_decides cX9_decides 3 (Option.some Jvm.ClassFile.FieldType.boolean)) 3 66 rc_tI (rp_X9_decides ) [] := by
  refine rc_Cm_H hl (plainFor_of_name rY_X9) rfl (Nat.le_of_ble_eq_true rfl) ?_
  intro Y S hC hH hF h
  have hC : rc_C Y cX9_decides RX9 (Option.some Jvm.ClassFile.FieldType.boolean) 3 := hC
  show rc_Z Y S 0 [some (rc_q (some (rc_km (yr_K Y) 100))), none, none] []
  unfold rp_X9_decides at h
  refine rc_aload_n (pc := 0) hC dX9_decides_0 rfl rfl ?_
  refine rc_callM (pc := 1) hC (rw_X9_warmestPlace hH.1) q2269 q2271 qs88 q149 q2272 rfl rd_X9_warmestPlace (hH.room (Nat.le_of_ble_eq_true rfl) (Nat.le_of_ble_eq_true rfl)) rfl rfl (Nat.le_of_ble_eq_true rfl) 0 rfl h.le.2.2 (Or.inl hF) h.br rfl dX9_decides_1 ?_ (fun E q S hT => rc_out hC hH.2.2.2.2 hT)
  intro x1 S h
  show rc_Z Y S 4 [some (rc_q (some (rc_km (yr_K Y) 100))), none, none] [rc_i x1]
  refine rc_istore_n (pc := 4) hC (L' := [some (rc_q (some (rc_km (yr_K Y) 100))), some (rc_i x1), none]) dX9_decides_4 rfl (Nat.le_of_ble_eq_true rfl) rfl rfl ?_
  refine rc_iconst (pc := 5) hC (v := (2 : Int32)) dX9_decides_5 rfl ?_
  refine rc_aload_n (pc := 6) hC dX9_decides_6 rfl rfl ?_
  refine rc_r_mref (pc := 7) hC hF rF_X9_7 (by decide) dX9_decides_7 h ?_
  refine rc_bipush (pc := 10) hC (v := (7 : Int32)) dX9_decides_10 rfl ?_
  refine rc_r_mald (pc := 12) hC hF (j := 0) (by decide) rfl dX9_decides_12 h ?_
  intro x3 h
  refine rc_callS (pc := 13) hC (rw_X9_bits hH.1 x3) q2273 q2274 q149 q2275 rd_X9_bits (hH.room (Nat.le_of_ble_eq_true rfl) (Nat.le_of_ble_eq_true rfl)) rfl rfl (Nat.le_of_ble_eq_true rfl) 1 rfl h.le.2.2 h.br rfl dX9_decides_13 ?_ (fun E q S hT => rc_out hC hH.2.2.2.2 hT)
  intro x4 S h
  show rc_Z Y S 16 [some (rc_q (some (rc_km (yr_K Y) 100))), some (rc_i x1), none] [rc_i x4, rc_i (2 : Int32)]
  refine rc_imul (pc := 16) hC dX9_decides_16 ?_
  refine rc_aload_n (pc := 17) hC dX9_decides_17 rfl rfl ?_
  refine rc_r_mref (pc := 18) hC hF rF_X9_7 (by decide) dX9_decides_18 h ?_
  refine rc_bipush (pc := 21) hC (v := (6 : Int32)) dX9_decides_21 rfl ?_
  refine rc_r_mald (pc := 23) hC hF (j := 0) (by decide) rfl dX9_decides_23 h ?_
  intro x6 h
  refine rc_callS (pc := 24) hC (rw_X9_bits hH.1 x6) q2273 q2274 q149 q2275 rd_X9_bits (hH.room (Nat.le_of_ble_eq_true rfl) (Nat.le_of_ble_eq_true rfl)) rfl rfl (Nat.le_of_ble_eq_true rfl) 1 rfl h.le.2.2 h.br rfl dX9_decides_24 ?_ (fun E q S hT => rc_out hC hH.2.2.2.2 hT)
  intro x7 S h
  show rc_Z Y S 27 [some (rc_q (some (rc_km (yr_K Y) 100))), some (rc_i x1), none] [rc_i x7, rc_i ((2 : Int32) * x4)]
  refine rc_icmp_le (pc := 27) (tgt := 50) hC dX9_decides_27 rfl h ?_ ?_
  · intro _ h
    exact rw_X9_decides_L50 hC hH hF  x1 S h
  intro _ h
  refine rc_aload_n (pc := 30) hC dX9_decides_30 rfl rfl ?_
  refine rc_r_mref (pc := 31) hC hF rF_X9_7 (by decide) dX9_decides_31 h ?_
  refine rc_iconst (pc := 34) hC (v := (2 : Int32)) dX9_decides_34 rfl ?_
  refine rc_r_mald (pc := 35) hC hF (j := 0) (by decide) rfl dX9_decides_35 h ?_
  intro x9 h
  refine rc_bipush (pc := 36) hC (v := (8 : Int32)) dX9_decides_36 rfl ?_
  refine rc_icmp_ge (pc := 38) (tgt := 50) hC dX9_decides_38 rfl h ?_ ?_
  · intro _ h
    exact rw_X9_decides_L50 hC hH hF  x1 S h
  intro _ h
  refine rc_iload_n (pc := 41) hC dX9_decides_41 rfl rfl ?_
  refine rc_iconst (pc := 42) hC (v := (-1 : Int32)) dX9_decides_42 rfl ?_
  refine rc_icmp_eq (pc := 43) (tgt := 50) hC dX9_decides_43 rfl h ?_ ?_
  · intro _ h
    exact rw_X9_decides_L50 hC hH hF  x1 S h
  intro _ h
  refine rc_iconst (pc := 46) hC (v := (1 : Int32)) dX9_decides_46 rfl ?_
  refine rc_goto (pc := 47) (tgt := 51) hC dX9_decides_47 rfl ?_
  exact rw_X9_decides_L51 hC hH hF  x1 (1 : Int32) S h
theorem rw_X9_votes_L32 {Y : rc_Y} (hC : rc_C Y cX9_votes RX9 (Option.some Jvm.ClassFile.FieldType.boolean) 3) (hH : rc_H Y 4 88 yX9_votes.name) (hF : yr_F Y = true) (s0 : Int32) (s1 : Int32) (s2 : Int32) (S : rc_S) (h : rc_Go Y rc_tI (rp_X9_votes_L32  s0 s1 s2) S) : rc_Z Y S 32 [some (rc_q (some (rc_km (yr_K Y) 100))), none, none] [rc_i s0, rc_i s1, rc_i s2, rc_q (some (rc_km (yr_K Y) 0))] := by
  unfold rp_X9_votes_L32 at h
  refine rc_ior (pc := 32) hC dX9_votes_32 ?_
  refine rc_r_mast (pc := 33) hC hF (j := 0) (by decide) rfl dX9_votes_33 h ?_
  intro S h
  refine rc_aload_n (pc := 34) hC dX9_votes_34 rfl rfl ?_
  refine rc_r_mref (pc := 35) hC hF rF_X9_7 (by decide) dX9_votes_35 h ?_
  refine rc_bipush (pc := 38) hC (v := (6 : Int32)) dX9_votes_38 rfl ?_
  refine rc_r_mald (pc := 40) hC hF (j := 0) (by decide) rfl dX9_votes_40 h ?_
  intro x2 h
  refine rc_iconst (pc := 41) hC (v := (1 : Int32)) dX9_votes_41 rfl ?_
  refine rc_aload_n (pc := 42) hC dX9_votes_42 rfl rfl ?_
  refine rc_r_mref (pc := 43) hC hF rF_X9_7 (by decide) dX9_votes_43 h ?_
  refine rc_iconst (pc := 46) hC (v := (2 : Int32)) dX9_votes_46 rfl ?_
  refine rc_r_mald (pc := 47) hC hF (j := 0) (by decide) rfl dX9_votes_47 h ?_
  intro x4 h
  refine rc_ishl (pc := 48) hC dX9_votes_48 ?_
  refine rc_iconst (pc := 49) hC (v := (1 : Int32)) dX9_votes_49 rfl ?_
  refine rc_isub (pc := 50) hC dX9_votes_50 ?_
  refine rc_icmp_ne (pc := 51) (tgt := 65) hC dX9_votes_51 rfl h ?_ ?_
  · intro _ h
    refine rc_iconst (pc := 65) hC (v := (0 : Int32)) dX9_votes_65 rfl ?_
    exact rc_iret hC rfl rfl dX9_votes_66 h rfl
  intro _ h
  refine rc_aload_n (pc := 54) hC dX9_votes_54 rfl rfl ?_
  refine rc_callM (pc := 55) hC (rw_X9_decides hH.1) q2265 q2267 qs87 q149 q2268 rfl rd_X9_decides (hH.room (Nat.le_of_ble_eq_true rfl) (Nat.le_of_ble_eq_true rfl)) rfl rfl (Nat.le_of_ble_eq_true rfl) 0 rfl h.le.2.2 (Or.inl hF) h.br rfl dX9_votes_55 ?_ (fun E q S hT => rc_out hC hH.2.2.2.2 hT)
  intro x5 S h
  show rc_Z Y S 58 [some (rc_q (some (rc_km (yr_K Y) 100))), none, none] [rc_i x5]
  refine rc_if_eq (pc := 58) (tgt := 65) hC dX9_votes_58 rfl h ?_ ?_
  · intro _ h
    refine rc_iconst (pc := 65) hC (v := (0 : Int32)) dX9_votes_65 rfl ?_
    exact rc_iret hC rfl rfl dX9_votes_66 h rfl
  intro _ h
  refine rc_iconst (pc := 61) hC (v := (1 : Int32)) dX9_votes_61 rfl ?_
  refine rc_goto (pc := 62) (tgt := 66) hC dX9_votes_62 rfl ?_
  exact rc_iret hC rfl rfl dX9_votes_66 h rfl
theorem rw_X9_votes {l : Launch} (hl : l.stackTraces = false) (v1 : Int32) (v2 : Int32) : rc_Cm l yX9_votes (ws_ yX9_votes cX9_votes 3 (Option.some Jvm.ClassFile.FieldType.boolean)) 4 88 rc_tI (rp_X9_votes v1 v2) [rc_i v1, rc_i v2] := by
  refine rc_Cm_H hl (plainFor_of_name rY_X9) rfl (Nat.le_of_ble_eq_true rfl) ?_
  intro Y S hC hH hF h
  have hC : rc_C Y cX9_votes RX9 (Option.some Jvm.ClassFile.FieldType.boolean) 3 := hC
  show rc_Z Y S 0 [some (rc_q (some (rc_km (yr_K Y) 100))), some (rc_i v1), some (rc_i v2)] []
  unfold rp_X9_votes at h
  refine rc_aload_n (pc := 0) hC dX9_votes_0 rfl rfl ?_
  refine rc_r_mref (pc := 1) hC hF rF_X9_7 (by decide) dX9_votes_1 h ?_
  refine rc_bipush (pc := 4) hC (v := (6 : Int32)) dX9_votes_4 rfl ?_
  refine rc_dup2 (pc := 6) hC dX9_votes_6 rfl rfl ?_
  refine rc_r_mald (pc := 7) hC hF (j := 0) (by decide) rfl dX9_votes_7 h ?_
  intro x2 h
  refine rc_iconst (pc := 8) hC (v := (1 : Int32)) dX9_votes_8 rfl ?_
  refine rc_iload_n (pc := 9) hC dX9_votes_9 rfl rfl ?_
  refine rc_ishl (pc := 10) hC dX9_votes_10 ?_
  refine rc_ior (pc := 11) hC dX9_votes_11 ?_
  refine rc_r_mast (pc := 12) hC hF (j := 0) (by decide) rfl dX9_votes_12 h ?_
  intro S h
  refine rc_aload_n (pc := 13) hC dX9_votes_13 rfl rfl ?_
  refine rc_r_mref (pc := 14) hC hF rF_X9_7 (by decide) dX9_votes_14 h ?_
  refine rc_bipush (pc := 17) hC (v := (7 : Int32)) dX9_votes_17 rfl ?_
  refine rc_dup2 (pc := 19) hC dX9_votes_19 rfl rfl ?_
  refine rc_r_mald (pc := 20) hC hF (j := 0) (by decide) rfl dX9_votes_20 h ?_
  intro x4 h
  refine rc_iload_n (pc := 21) hC dX9_votes_21 rfl rfl ?_
  refine rc_if_eq (pc := 22) (tgt := 31) hC dX9_votes_22 rfl h ?_ ?_
  · intro _ h
    refine rc_iconst (pc := 31) hC (v := (0 : Int32)) dX9_votes_31 rfl ?_
    refine rc_drop [true, false, false] (L' := [some (rc_q (some (rc_km (yr_K Y) 100))), none, none]) rfl ?_
    exact rw_X9_votes_L32 hC hH hF  (0 : Int32) x4 (7 : Int32) S h
  intro _ h
  refine rc_iconst (pc := 25) hC (v := (1 : Int32)) dX9_votes_25 rfl ?_
  refine rc_iload_n (pc := 26) hC dX9_votes_26 rfl rfl ?_
  refine rc_ishl (pc := 27) hC dX9_votes_27 ?_
  refine rc_goto (pc := 28) (tgt := 32) hC dX9_votes_28 rfl ?_
  refine rc_drop [true, false, false] (L' := [some (rc_q (some (rc_km (yr_K Y) 100))), none, none]) rfl ?_
  exact rw_X9_votes_L32 hC hH hF  ((1 : Int32) <<< (v1 &&& 31)) x4 (7 : Int32) S h
theorem rw_X9_readsVote {l : Launch} (hl : l.stackTraces = false) (v1 : Int32) : rc_Cm l yX9_readsVote (ws_ yX9_readsVote cX9_readsVote 2 (Option.some Jvm.ClassFile.FieldType.boolean)) 5 110 rc_tI (rp_X9_readsVote v1) [rc_i v1] := by
  refine rc_Cm_H hl (plainFor_of_name rY_X9) rfl (Nat.le_of_ble_eq_true rfl) ?_
  intro Y S hC hH hF h
  have hC : rc_C Y cX9_readsVote RX9 (Option.some Jvm.ClassFile.FieldType.boolean) 2 := hC
  show rc_Z Y S 0 [some (rc_q (some (rc_km (yr_K Y) 100))), some (rc_i v1)] []
  unfold rp_X9_readsVote at h
  refine rc_aload_n (pc := 0) hC dX9_readsVote_0 rfl rfl ?_
  refine rc_iconst (pc := 1) hC (v := (0 : Int32)) dX9_readsVote_1 rfl ?_
  refine rc_callM (pc := 2) hC (rw_X9_catAt hH.1 (0 : Int32)) q2140 q2142 qs56 q149 q2143 rfl rd_X9_catAt (hH.room (Nat.le_of_ble_eq_true rfl) (Nat.le_of_ble_eq_true rfl)) rfl rfl (Nat.le_of_ble_eq_true rfl) 1 rfl h.le.2.2 (Or.inl hF) h.br rfl dX9_readsVote_2 ?_ (fun E q S hT => rc_out hC hH.2.2.2.2 hT)
  intro x1 S h
  show rc_Z Y S 5 [some (rc_q (some (rc_km (yr_K Y) 100))), some (rc_i v1)] [rc_i x1]
  refine rc_if_eq (pc := 5) (tgt := 25) hC dX9_readsVote_5 rfl h ?_ ?_
  · intro _ h
    refine rc_iconst (pc := 25) hC (v := (0 : Int32)) dX9_readsVote_25 rfl ?_
    exact rc_iret hC rfl rfl dX9_readsVote_26 h rfl
  intro _ h
  refine rc_aload_n (pc := 8) hC dX9_readsVote_8 rfl rfl ?_
  refine rc_aload_n (pc := 9) hC dX9_readsVote_9 rfl rfl ?_
  refine rc_aload_n (pc := 10) hC dX9_readsVote_10 rfl rfl ?_
  refine rc_r_mref (pc := 11) hC hF rF_X9_42 (by decide) dX9_readsVote_11 h ?_
  refine rc_iconst (pc := 14) hC (v := (0 : Int32)) dX9_readsVote_14 rfl ?_
  refine rc_r_mald (pc := 15) hC hF (j := 22) (by decide) rfl dX9_readsVote_15 h ?_
  intro x3 h
  refine rc_callM (pc := 16) hC (rw_X9_canVote hH.1 x3) q2257 q2259 qs85 q149 q2260 rfl rd_X9_canVote (hH.room (Nat.le_of_ble_eq_true rfl) (Nat.le_of_ble_eq_true rfl)) rfl rfl (Nat.le_of_ble_eq_true rfl) 1 rfl h.le.2.2 (Or.inl hF) h.br rfl dX9_readsVote_16 ?_ (fun E q S hT => rc_out hC hH.2.2.2.2 hT)
  intro x4 S h
  show rc_Z Y S 19 [some (rc_q (some (rc_km (yr_K Y) 100))), some (rc_i v1)] [rc_i x4, rc_q (some (rc_km (yr_K Y) 100))]
  refine rc_callM (pc := 19) hC (rw_X9_stops hH.1 x4) q2084 q2086 qs42 q149 q2087 rfl rd_X9_stops (hH.room (Nat.le_of_ble_eq_true rfl) (Nat.le_of_ble_eq_true rfl)) rfl rfl (Nat.le_of_ble_eq_true rfl) 1 rfl h.le.2.2 (Or.inl hF) h.br rfl dX9_readsVote_19 ?_ (fun E q S hT => rc_out hC hH.2.2.2.2 hT)
  intro x5 S h
  show rc_Z Y S 22 [some (rc_q (some (rc_km (yr_K Y) 100))), some (rc_i v1)] [rc_i x5]
  refine rc_if_ne (pc := 22) (tgt := 27) hC dX9_readsVote_22 rfl h ?_ ?_
  · intro _ h
    refine rc_aload_n (pc := 27) hC dX9_readsVote_27 rfl rfl ?_
    refine rc_aload_n (pc := 28) hC dX9_readsVote_28 rfl rfl ?_
    refine rc_r_mref (pc := 29) hC hF rF_X9_42 (by decide) dX9_readsVote_29 h ?_
    refine rc_iconst (pc := 32) hC (v := (0 : Int32)) dX9_readsVote_32 rfl ?_
    refine rc_r_mald (pc := 33) hC hF (j := 22) (by decide) rfl dX9_readsVote_33 h ?_
    intro x7 h
    refine rc_iload_n (pc := 34) hC dX9_readsVote_34 rfl rfl ?_
    refine rc_callM (pc := 35) hC (rw_X9_votes hH.1 x7 v1) q2261 q2263 qs86 q149 q2264 rfl rd_X9_votes (hH.room (Nat.le_of_ble_eq_true rfl) (Nat.le_of_ble_eq_true rfl)) rfl rfl (Nat.le_of_ble_eq_true rfl) 2 rfl h.le.2.2 (Or.inl hF) h.br rfl dX9_readsVote_35 ?_ (fun E q S hT => rc_out hC hH.2.2.2.2 hT)
    intro x8 S h
    show rc_Z Y S 38 [some (rc_q (some (rc_km (yr_K Y) 100))), some (rc_i v1)] [rc_i x8]
    refine rc_pop (pc := 38) hC dX9_readsVote_38 rfl ?_
    refine rc_iconst (pc := 39) hC (v := (1 : Int32)) dX9_readsVote_39 rfl ?_
    exact rc_iret hC rfl rfl dX9_readsVote_40 h rfl
  intro _ h
  refine rc_iconst (pc := 25) hC (v := (0 : Int32)) dX9_readsVote_25 rfl ?_
  exact rc_iret hC rfl rfl dX9_readsVote_26 h rfl
theorem rw_X9_feeds {l : Launch} (hl : l.stackTraces = false) (v1 : Int32) (v2 : Int32) : rc_Cm l yX9_feeds (ws_ yX9_feeds cX9_feeds 4 (Option.none : Option Jvm.ClassFile.FieldType)) 1 23 rc_tU (rp_X9_feeds v1 v2) [rc_i v1, rc_i v2] := by
  refine rc_Cm_H hl (plainFor_of_name rY_X9) rfl (Nat.le_of_ble_eq_true rfl) ?_
  intro Y S hC hH hF h
  have hC : rc_C Y cX9_feeds RX9 (Option.none : Option Jvm.ClassFile.FieldType) 4 := hC
  show rc_Z Y S 0 [some (rc_q (some (rc_km (yr_K Y) 100))), some (rc_i v1), some (rc_i v2), none] []
  unfold rp_X9_feeds at h
  refine rc_iload_n (pc := 0) hC dX9_feeds_0 rfl rfl ?_
  refine rc_bipush (pc := 1) hC (v := (99 : Int32)) dX9_feeds_1 rfl ?_
  refine rc_aload_n (pc := 3) hC dX9_feeds_3 rfl rfl ?_
  refine rc_iload_n (pc := 4) hC dX9_feeds_4 rfl rfl ?_
  refine rc_iconst (pc := 5) hC (v := (2 : Int32)) dX9_feeds_5 rfl ?_
  refine rc_callM (pc := 6) hC (rw_X9_of hH.1 v1 (2 : Int32)) q2124 q2126 qs52 q149 q2127 rfl rd_X9_of (hH.room (Nat.le_of_ble_eq_true rfl) (Nat.le_of_ble_eq_true rfl)) rfl rfl (Nat.le_of_ble_eq_true rfl) 2 rfl h.le.2.2 (Or.inl hF) h.br rfl dX9_feeds_6 ?_ (fun E q S hT => rc_out hC hH.2.2.2.2 hT)
  intro x1 S h
  show rc_Z Y S 9 [some (rc_q (some (rc_km (yr_K Y) 100))), some (rc_i v1), some (rc_i v2), none] [rc_i x1, rc_i (99 : Int32), rc_i v2]
  refine rc_isub (pc := 9) hC dX9_feeds_9 ?_
  refine rc_callS (pc := 10) hC (rw_J17_min hH.1 v2 ((99 : Int32) - x1)) q2288 q466 q139 q467 rd_J17_min (hH.room (Nat.le_of_ble_eq_true rfl) (Nat.le_of_ble_eq_true rfl)) rfl rfl (Nat.le_of_ble_eq_true rfl) 2 rfl h.le.2.2 h.br rfl dX9_feeds_10 ?_ (fun E q S hT => rc_out hC hH.2.2.2.2 hT)
  intro x2 S h
  show rc_Z Y S 13 [some (rc_q (some (rc_km (yr_K Y) 100))), some (rc_i v1), some (rc_i v2), none] [rc_i x2]
  refine rc_istore_n (pc := 13) hC (L' := [some (rc_q (some (rc_km (yr_K Y) 100))), some (rc_i v1), some (rc_i v2), some (rc_i x2)]) dX9_feeds_13 rfl (Nat.le_of_ble_eq_true rfl) rfl rfl ?_
  refine rc_aload_n (pc := 14) hC dX9_feeds_14 rfl rfl ?_
  refine rc_iload_n (pc := 15) hC dX9_feeds_15 rfl rfl ?_
  refine rc_iconst (pc := 16) hC (v := (2 : Int32)) dX9_feeds_16 rfl ?_
  refine rc_aload_n (pc := 17) hC dX9_feeds_17 rfl rfl ?_
  refine rc_iload_n (pc := 18) hC dX9_feeds_18 rfl rfl ?_
  refine rc_iconst (pc := 19) hC (v := (2 : Int32)) dX9_feeds_19 rfl ?_
  refine rc_callM (pc := 20) hC (rw_X9_of hH.1 v1 (2 : Int32)) q2124 q2126 qs52 q149 q2127 rfl rd_X9_of (hH.room (Nat.le_of_ble_eq_true rfl) (Nat.le_of_ble_eq_true rfl)) rfl rfl (Nat.le_of_ble_eq_true rfl) 2 rfl h.le.2.2 (Or.inl hF) h.br rfl dX9_feeds_20 ?_ (fun E q S hT => rc_out hC hH.2.2.2.2 hT)
  intro x3 S h
  show rc_Z Y S 23 [some (rc_q (some (rc_km (yr_K Y) 100))), some (rc_i v1), some (rc_i v2), some (rc_i x2)] [rc_i x3, rc_i (2 : Int32), rc_i v1, rc_q (some (rc_km (yr_K Y) 100))]
  refine rc_iload_n (pc := 23) hC dX9_feeds_23 rfl rfl ?_
  refine rc_iadd (pc := 24) hC dX9_feeds_24 ?_
  refine rc_callM (pc := 25) hC (rw_X9_to hH.1 v1 (2 : Int32) (x3 + x2)) q2132 q2134 qs54 q149 q2135 rfl rd_X9_to (hH.room (Nat.le_of_ble_eq_true rfl) (Nat.le_of_ble_eq_true rfl)) rfl rfl (Nat.le_of_ble_eq_true rfl) 3 rfl h.le.2.2 (Or.inl hF) h.br rfl dX9_feeds_25 ?_ (fun E q S hT => rc_out hC hH.2.2.2.2 hT)
  intro _ S h
  show rc_Z Y S 28 [some (rc_q (some (rc_km (yr_K Y) 100))), some (rc_i v1), some (rc_i v2), some (rc_i x2)] []
  refine rc_aload_n (pc := 28) hC dX9_feeds_28 rfl rfl ?_
  refine rc_r_mref (pc := 29) hC hF rF_X9_7 (by decide) dX9_feeds_29 h ?_
  refine rc_bipush (pc := 32) hC (v := (8 : Int32)) dX9_feeds_32 rfl ?_
  refine rc_dup2 (pc := 34) hC dX9_feeds_34 rfl rfl ?_
  refine rc_r_mald (pc := 35) hC hF (j := 0) (by decide) rfl dX9_feeds_35 h ?_
  intro x5 h
  refine rc_iload_n (pc := 36) hC dX9_feeds_36 rfl rfl ?_
  refine rc_iadd (pc := 37) hC dX9_feeds_37 ?_
  refine rc_r_mast (pc := 38) hC hF (j := 0) (by decide) rfl dX9_feeds_38 h ?_
  intro S h
  exact rc_vret hC rfl dX9_feeds_39 h rfl
theorem rw_X9_eats {l : Launch} (hl : l.stackTraces = false) (v1 : Int32) : rc_Cm l yX9_eats (ws_ yX9_eats cX9_eats 2 (Option.none : Option Jvm.ClassFile.FieldType)) 1 23 rc_tU (rp_X9_eats v1) [rc_i v1] := by
  refine rc_Cm_H hl (plainFor_of_name rY_X9) rfl (Nat.le_of_ble_eq_true rfl) ?_
  intro Y S hC hH hF h
  have hC : rc_C Y cX9_eats RX9 (Option.none : Option Jvm.ClassFile.FieldType) 2 := hC
  show rc_Z Y S 0 [some (rc_q (some (rc_km (yr_K Y) 100))), some (rc_i v1)] []
  unfold rp_X9_eats at h
  refine rc_aload_n (pc := 0) hC dX9_eats_0 rfl rfl ?_
  refine rc_iload_n (pc := 1) hC dX9_eats_1 rfl rfl ?_
  refine rc_iconst (pc := 2) hC (v := (2 : Int32)) dX9_eats_2 rfl ?_
  refine rc_callM (pc := 3) hC (rw_X9_of hH.1 v1 (2 : Int32)) q2124 q2126 qs52 q149 q2127 rfl rd_X9_of (hH.room (Nat.le_of_ble_eq_true rfl) (Nat.le_of_ble_eq_true rfl)) rfl rfl (Nat.le_of_ble_eq_true rfl) 2 rfl h.le.2.2 (Or.inl hF) h.br rfl dX9_eats_3 ?_ (fun E q S hT => rc_out hC hH.2.2.2.2 hT)
  intro x1 S h
  show rc_Z Y S 6 [some (rc_q (some (rc_km (yr_K Y) 100))), some (rc_i v1)] [rc_i x1]
  refine rc_if_le (pc := 6) (tgt := 34) hC dX9_eats_6 rfl h ?_ ?_
  · intro _ h
    exact rc_vret hC rfl dX9_eats_34 h rfl
  intro _ h
  refine rc_aload_n (pc := 9) hC dX9_eats_9 rfl rfl ?_
  refine rc_iload_n (pc := 10) hC dX9_eats_10 rfl rfl ?_
  refine rc_iconst (pc := 11) hC (v := (2 : Int32)) dX9_eats_11 rfl ?_
  refine rc_aload_n (pc := 12) hC dX9_eats_12 rfl rfl ?_
  refine rc_iload_n (pc := 13) hC dX9_eats_13 rfl rfl ?_
  refine rc_iconst (pc := 14) hC (v := (2 : Int32)) dX9_eats_14 rfl ?_
  refine rc_callM (pc := 15) hC (rw_X9_of hH.1 v1 (2 : Int32)) q2124 q2126 qs52 q149 q2127 rfl rd_X9_of (hH.room (Nat.le_of_ble_eq_true rfl) (Nat.le_of_ble_eq_true rfl)) rfl rfl (Nat.le_of_ble_eq_true rfl) 2 rfl h.le.2.2 (Or.inl hF) h.br rfl dX9_eats_15 ?_ (fun E q S hT => rc_out hC hH.2.2.2.2 hT)
  intro x2 S h
  show rc_Z Y S 18 [some (rc_q (some (rc_km (yr_K Y) 100))), some (rc_i v1)] [rc_i x2, rc_i (2 : Int32), rc_i v1, rc_q (some (rc_km (yr_K Y) 100))]
  refine rc_iconst (pc := 18) hC (v := (1 : Int32)) dX9_eats_18 rfl ?_
  refine rc_isub (pc := 19) hC dX9_eats_19 ?_
  refine rc_callM (pc := 20) hC (rw_X9_to hH.1 v1 (2 : Int32) (x2 - (1 : Int32))) q2132 q2134 qs54 q149 q2135 rfl rd_X9_to (hH.room (Nat.le_of_ble_eq_true rfl) (Nat.le_of_ble_eq_true rfl)) rfl rfl (Nat.le_of_ble_eq_true rfl) 3 rfl h.le.2.2 (Or.inl hF) h.br rfl dX9_eats_20 ?_ (fun E q S hT => rc_out hC hH.2.2.2.2 hT)
  intro _ S h
  show rc_Z Y S 23 [some (rc_q (some (rc_km (yr_K Y) 100))), some (rc_i v1)] []
  refine rc_aload_n (pc := 23) hC dX9_eats_23 rfl rfl ?_
  refine rc_r_mref (pc := 24) hC hF rF_X9_7 (by decide) dX9_eats_24 h ?_
  refine rc_bipush (pc := 27) hC (v := (9 : Int32)) dX9_eats_27 rfl ?_
  refine rc_dup2 (pc := 29) hC dX9_eats_29 rfl rfl ?_
  refine rc_r_mald (pc := 30) hC hF (j := 0) (by decide) rfl dX9_eats_30 h ?_
  intro x4 h
  refine rc_iconst (pc := 31) hC (v := (1 : Int32)) dX9_eats_31 rfl ?_
  refine rc_iadd (pc := 32) hC dX9_eats_32 ?_
  refine rc_r_mast (pc := 33) hC hF (j := 0) (by decide) rfl dX9_eats_33 h ?_
  intro S h
  exact rc_vret hC rfl dX9_eats_34 h rfl
theorem rw_X9_choir_L96 {Y : rc_Y} (hC : rc_C Y cX9_choir RX9 (Option.some Jvm.ClassFile.FieldType.int) 7) (hH : rc_H Y 3 69 yX9_choir.name) (hF : yr_F Y = true) {k6 : Int32 → Int32 → rc_M Int32} (hk6 : ∀ (v2 : Int32) (v3 : Int32) (S : rc_S), rc_Go Y rc_tI (k6 v2 v3) S → rc_Z Y S 6 [some (rc_q (some (rc_km (yr_K Y) 100))), none, some (rc_i v2), some (rc_i v3), none, none, none] []) {k19 : Int32 → Int32 → Int32 → rc_M Int32} (hk19 : ∀ (v2 : Int32) (v3 : Int32) (v4 : Int32) (S : rc_S), rc_Go Y rc_tI (k19 v2 v3 v4) S → rc_Z Y S 19 [some (rc_q (some (rc_km (yr_K Y) 100))), none, some (rc_i v2), some (rc_i v3), some (rc_i v4), none, none] []) {k33 : Int32 → Int32 → Int32 → Int32 → rc_M Int32} (hk33 : ∀ (v2 : Int32) (v3 : Int32) (v4 : Int32) (v5 : Int32) (S : rc_S), rc_Go Y rc_tI (k33 v2 v3 v4 v5) S → rc_Z Y S 33 [some (rc_q (some (rc_km (yr_K Y) 100))), none, some (rc_i v2), some (rc_i v3), some (rc_i v4), some (rc_i v5), none] []) (v3 : Int32) (v4 : Int32) (v5 : Int32) (s0 : Int32) (s1 : Int32) (S : rc_S) (h : rc_Go Y rc_tI (rp_X9_choir_L96 k6 k19 k33 v3 v4 v5 s0 s1) S) : rc_Z Y S 96 [some (rc_q (some (rc_km (yr_K Y) 100))), none, none, some (rc_i v3), some (rc_i v4), some (rc_i v5), none] [rc_i s0, rc_i s1] := by
  unfold rp_X9_choir_L96 at h
  refine rc_ior (pc := 96) hC dX9_choir_96 ?_
  refine rc_istore_n (pc := 97) hC (L' := [some (rc_q (some (rc_km (yr_K Y) 100))), none, some (rc_i (s1 ||| s0)), some (rc_i v3), some (rc_i v4), some (rc_i v5), none]) dX9_choir_97 rfl (Nat.le_of_ble_eq_true rfl) rfl rfl ?_
  refine rc_iinc (pc := 98) hC (v := (v5 + (1 : Int32))) (L' := [some (rc_q (some (rc_km (yr_K Y) 100))), none, some (rc_i (s1 ||| s0)), some (rc_i v3), some (rc_i v4), some (rc_i (v5 + (1 : Int32))), none]) dX9_choir_98 rfl rfl rfl rfl ?_
  refine rc_goto (pc := 101) (tgt := 33) hC dX9_choir_101 rfl ?_
  exact hk33 (s1 ||| s0) v3 v4 (v5 + (1 : Int32)) S h
theorem rw_X9_choir_L80 {Y : rc_Y} (hC : rc_C Y cX9_choir RX9 (Option.some Jvm.ClassFile.FieldType.int) 7) (hH : rc_H Y 3 69 yX9_choir.name) (hF : yr_F Y = true) {k6 : Int32 → Int32 → rc_M Int32} (hk6 : ∀ (v2 : Int32) (v3 : Int32) (S : rc_S), rc_Go Y rc_tI (k6 v2 v3) S → rc_Z Y S 6 [some (rc_q (some (rc_km (yr_K Y) 100))), none, some (rc_i v2), some (rc_i v3), none, none, none] []) {k19 : Int32 → Int32 → Int32 → rc_M Int32} (hk19 : ∀ (v2 : Int32) (v3 : Int32) (v4 : Int32) (S : rc_S), rc_Go Y rc_tI (k19 v2 v3 v4) S → rc_Z Y S 19 [some (rc_q (some (rc_km (yr_K Y) 100))), none, some (rc_i v2), some (rc_i v3), some (rc_i v4), none, none] []) {k33 : Int32 → Int32 → Int32 → Int32 → rc_M Int32} (hk33 : ∀ (v2 : Int32) (v3 : Int32) (v4 : Int32) (v5 : Int32) (S : rc_S), rc_Go Y rc_tI (k33 v2 v3 v4 v5) S → rc_Z Y S 33 [some (rc_q (some (rc_km (yr_K Y) 100))), none, some (rc_i v2), some (rc_i v3), some (rc_i v4), some (rc_i v5), none] []) (v2 : Int32) (v3 : Int32) (v4 : Int32) (v5 : Int32) (s0 : Int32) (S : rc_S) (h : rc_Go Y rc_tI (rp_X9_choir_L80 k6 k19 k33 v2 v3 v4 v5 s0) S) : rc_Z Y S 80 [some (rc_q (some (rc_km (yr_K Y) 100))), none, some (rc_i v2), some (rc_i v3), some (rc_i v4), some (rc_i v5), none] [rc_i s0] := by
  unfold rp_X9_choir_L80 at h
  refine rc_istore (pc := 80) hC (L' := [some (rc_q (some (rc_km (yr_K Y) 100))), none, some (rc_i v2), some (rc_i v3), some (rc_i v4), some (rc_i v5), some (rc_i s0)]) dX9_choir_80 (Nat.le_of_ble_eq_true rfl) rfl rfl ?_
  refine rc_iload_n (pc := 82) hC dX9_choir_82 rfl rfl ?_
  refine rc_iload (pc := 83) hC dX9_choir_83 rfl ?_
  refine rc_if_eq (pc := 85) (tgt := 95) hC dX9_choir_85 rfl h ?_ ?_
  · intro _ h
    refine rc_iconst (pc := 95) hC (v := (0 : Int32)) dX9_choir_95 rfl ?_
    refine rc_drop [true, false, false, true, true, true, false] (L' := [some (rc_q (some (rc_km (yr_K Y) 100))), none, none, some (rc_i v3), some (rc_i v4), some (rc_i v5), none]) rfl ?_
    exact rw_X9_choir_L96 hC hH hF hk6 hk19 hk33 v3 v4 v5 (0 : Int32) v2 S h
  intro _ h
  refine rc_iconst (pc := 88) hC (v := (1 : Int32)) dX9_choir_88 rfl ?_
  refine rc_iload (pc := 89) hC dX9_choir_89 rfl ?_
  refine rc_ishl (pc := 91) hC dX9_choir_91 ?_
  refine rc_goto (pc := 92) (tgt := 96) hC dX9_choir_92 rfl ?_
  refine rc_drop [true, false, false, true, true, true, false] (L' := [some (rc_q (some (rc_km (yr_K Y) 100))), none, none, some (rc_i v3), some (rc_i v4), some (rc_i v5), none]) rfl ?_
  exact rw_X9_choir_L96 hC hH hF hk6 hk19 hk33 v3 v4 v5 ((1 : Int32) <<< (v5 &&& 31)) v2 S h
theorem rw_X9_choir_L79 {Y : rc_Y} (hC : rc_C Y cX9_choir RX9 (Option.some Jvm.ClassFile.FieldType.int) 7) (hH : rc_H Y 3 69 yX9_choir.name) (hF : yr_F Y = true) {k6 : Int32 → Int32 → rc_M Int32} (hk6 : ∀ (v2 : Int32) (v3 : Int32) (S : rc_S), rc_Go Y rc_tI (k6 v2 v3) S → rc_Z Y S 6 [some (rc_q (some (rc_km (yr_K Y) 100))), none, some (rc_i v2), some (rc_i v3), none, none, none] []) {k19 : Int32 → Int32 → Int32 → rc_M Int32} (hk19 : ∀ (v2 : Int32) (v3 : Int32) (v4 : Int32) (S : rc_S), rc_Go Y rc_tI (k19 v2 v3 v4) S → rc_Z Y S 19 [some (rc_q (some (rc_km (yr_K Y) 100))), none, some (rc_i v2), some (rc_i v3), some (rc_i v4), none, none] []) {k33 : Int32 → Int32 → Int32 → Int32 → rc_M Int32} (hk33 : ∀ (v2 : Int32) (v3 : Int32) (v4 : Int32) (v5 : Int32) (S : rc_S), rc_Go Y rc_tI (k33 v2 v3 v4 v5) S → rc_Z Y S 33 [some (rc_q (some (rc_km (yr_K Y) 100))), none, some (rc_i v2), some (rc_i v3), some (rc_i v4), some (rc_i v5), none] []) (v2 : Int32) (v3 : Int32) (v4 : Int32) (v5 : Int32) (S : rc_S) (h : rc_Go Y rc_tI (rp_X9_choir_L79 k6 k19 k33 v2 v3 v4 v5) S) : rc_Z Y S 79 [some (rc_q (some (rc_km (yr_K Y) 100))), none, some (rc_i v2), some (rc_i v3), some (rc_i v4), some (rc_i v5), none] [] := by
  unfold rp_X9_choir_L79 at h
  refine rc_iconst (pc := 79) hC (v := (0 : Int32)) dX9_choir_79 rfl ?_
  exact rw_X9_choir_L80 hC hH hF hk6 hk19 hk33 v2 v3 v4 v5 (0 : Int32) S h
theorem rw_X9_choir_L33 {Y : rc_Y} (hC : rc_C Y cX9_choir RX9 (Option.some Jvm.ClassFile.FieldType.int) 7) (hH : rc_H Y 3 69 yX9_choir.name) (hF : yr_F Y = true) {k6 : Int32 → Int32 → rc_M Int32} (hk6 : ∀ (v2 : Int32) (v3 : Int32) (S : rc_S), rc_Go Y rc_tI (k6 v2 v3) S → rc_Z Y S 6 [some (rc_q (some (rc_km (yr_K Y) 100))), none, some (rc_i v2), some (rc_i v3), none, none, none] []) {k19 : Int32 → Int32 → Int32 → rc_M Int32} (hk19 : ∀ (v2 : Int32) (v3 : Int32) (v4 : Int32) (S : rc_S), rc_Go Y rc_tI (k19 v2 v3 v4) S → rc_Z Y S 19 [some (rc_q (some (rc_km (yr_K Y) 100))), none, some (rc_i v2), some (rc_i v3), some (rc_i v4), none, none] []) : ∀ (n : Nat) (v2 : Int32) (v3 : Int32) (v4 : Int32) (v5 : Int32) (S : rc_S), rc_Go Y rc_tI (rp_X9_choir_L33 k6 k19 n v2 v3 v4 v5) S → rc_Z Y S 33 [some (rc_q (some (rc_km (yr_K Y) 100))), none, some (rc_i v2), some (rc_i v3), some (rc_i v4), some (rc_i v5), none] [] := by
  intro n
  induction n with
  | zero => intro v2 v3 v4 v5 S h; exact h.fail.elim
  | succ n ih =>
    intro v2 v3 v4 v5 S h
    rw [rp_X9_choir_L33] at h
    refine rc_iload (pc := 33) hC dX9_choir_33 rfl ?_
    refine rc_aload_n (pc := 35) hC dX9_choir_35 rfl rfl ?_
    refine rc_r_mref (pc := 36) hC hF rF_X9_7 (by decide) dX9_choir_36 h ?_
    refine rc_iconst (pc := 39) hC (v := (2 : Int32)) dX9_choir_39 rfl ?_
    refine rc_r_mald (pc := 40) hC hF (j := 0) (by decide) rfl dX9_choir_40 h ?_
    intro x2 h
    refine rc_icmp_ge (pc := 41) (tgt := 104) hC dX9_choir_41 rfl h ?_ ?_
    · intro _ h
      refine rc_iinc (pc := 104) hC (v := (v4 + (1 : Int32))) (L' := [some (rc_q (some (rc_km (yr_K Y) 100))), none, some (rc_i v2), some (rc_i v3), some (rc_i (v4 + (1 : Int32))), some (rc_i v5), none]) dX9_choir_104 rfl rfl rfl rfl ?_
      refine rc_goto (pc := 107) (tgt := 19) hC dX9_choir_107 rfl ?_
      refine rc_drop [true, false, true, true, true, false, false] (L' := [some (rc_q (some (rc_km (yr_K Y) 100))), none, some (rc_i v2), some (rc_i v3), some (rc_i (v4 + (1 : Int32))), none, none]) rfl ?_
      exact hk19 v2 v3 (v4 + (1 : Int32)) S h
    intro _ h
    refine rc_iload_n (pc := 44) hC dX9_choir_44 rfl rfl ?_
    refine rc_iload (pc := 45) hC dX9_choir_45 rfl ?_
    refine rc_ishr (pc := 47) hC dX9_choir_47 ?_
    refine rc_iconst (pc := 48) hC (v := (1 : Int32)) dX9_choir_48 rfl ?_
    refine rc_iand (pc := 49) hC dX9_choir_49 ?_
    refine rc_iconst (pc := 50) hC (v := (1 : Int32)) dX9_choir_50 rfl ?_
    refine rc_icmp_ne (pc := 51) (tgt := 79) hC dX9_choir_51 rfl h ?_ ?_
    · intro _ h
      exact rw_X9_choir_L79 hC hH hF hk6 hk19 ih v2 v3 v4 v5 S h
    intro _ h
    refine rc_aload_n (pc := 54) hC dX9_choir_54 rfl rfl ?_
    refine rc_aload_n (pc := 55) hC dX9_choir_55 rfl rfl ?_
    refine rc_iload (pc := 56) hC dX9_choir_56 rfl ?_
    refine rc_iconst (pc := 58) hC (v := (3 : Int32)) dX9_choir_58 rfl ?_
    refine rc_callM (pc := 59) hC (rw_X9_of hH.1 v4 (3 : Int32)) q2124 q2126 qs52 q149 q2127 rfl rd_X9_of (hH.room (Nat.le_of_ble_eq_true rfl) (Nat.le_of_ble_eq_true rfl)) rfl rfl (Nat.le_of_ble_eq_true rfl) 2 rfl h.le.2.2 (Or.inl hF) h.br rfl dX9_choir_59 ?_ (fun E q S hT => rc_out hC hH.2.2.2.2 hT)
    intro x3 S h
    show rc_Z Y S 62 [some (rc_q (some (rc_km (yr_K Y) 100))), none, some (rc_i v2), some (rc_i v3), some (rc_i v4), some (rc_i v5), none] [rc_i x3, rc_q (some (rc_km (yr_K Y) 100))]
    refine rc_aload_n (pc := 62) hC dX9_choir_62 rfl rfl ?_
    refine rc_iload (pc := 63) hC dX9_choir_63 rfl ?_
    refine rc_iconst (pc := 65) hC (v := (3 : Int32)) dX9_choir_65 rfl ?_
    refine rc_callM (pc := 66) hC (rw_X9_of hH.1 v5 (3 : Int32)) q2124 q2126 qs52 q149 q2127 rfl rd_X9_of (hH.room (Nat.le_of_ble_eq_true rfl) (Nat.le_of_ble_eq_true rfl)) rfl rfl (Nat.le_of_ble_eq_true rfl) 2 rfl h.le.2.2 (Or.inl hF) h.br rfl dX9_choir_66 ?_ (fun E q S hT => rc_out hC hH.2.2.2.2 hT)
    intro x4 S h
    show rc_Z Y S 69 [some (rc_q (some (rc_km (yr_K Y) 100))), none, some (rc_i v2), some (rc_i v3), some (rc_i v4), some (rc_i v5), none] [rc_i x4, rc_i x3, rc_q (some (rc_km (yr_K Y) 100))]
    refine rc_callM (pc := 69) hC (rw_X9_widestBetween hH.1 x3 x4) q2205 q2207 qs72 q149 q2208 rfl rd_X9_widestBetween (hH.room (Nat.le_of_ble_eq_true rfl) (Nat.le_of_ble_eq_true rfl)) rfl rfl (Nat.le_of_ble_eq_true rfl) 2 rfl h.le.2.2 (Or.inl hF) h.br rfl dX9_choir_69 ?_ (fun E q S hT => rc_out hC hH.2.2.2.2 hT)
    intro x5 S h
    show rc_Z Y S 72 [some (rc_q (some (rc_km (yr_K Y) 100))), none, some (rc_i v2), some (rc_i v3), some (rc_i v4), some (rc_i v5), none] [rc_i x5]
    refine rc_if_le (pc := 72) (tgt := 79) hC dX9_choir_72 rfl h ?_ ?_
    · intro _ h
      exact rw_X9_choir_L79 hC hH hF hk6 hk19 ih v2 v3 v4 v5 S h
    intro _ h
    refine rc_iconst (pc := 75) hC (v := (1 : Int32)) dX9_choir_75 rfl ?_
    refine rc_goto (pc := 76) (tgt := 80) hC dX9_choir_76 rfl ?_
    exact rw_X9_choir_L80 hC hH hF hk6 hk19 ih v2 v3 v4 v5 (1 : Int32) S h
theorem rw_X9_choir_L19 {Y : rc_Y} (hC : rc_C Y cX9_choir RX9 (Option.some Jvm.ClassFile.FieldType.int) 7) (hH : rc_H Y 3 69 yX9_choir.name) (hF : yr_F Y = true) {k6 : Int32 → Int32 → rc_M Int32} (hk6 : ∀ (v2 : Int32) (v3 : Int32) (S : rc_S), rc_Go Y rc_tI (k6 v2 v3) S → rc_Z Y S 6 [some (rc_q (some (rc_km (yr_K Y) 100))), none, some (rc_i v2), some (rc_i v3), none, none, none] []) : ∀ (n : Nat) (v2 : Int32) (v3 : Int32) (v4 : Int32) (S : rc_S), rc_Go Y rc_tI (rp_X9_choir_L19 k6 n v2 v3 v4) S → rc_Z Y S 19 [some (rc_q (some (rc_km (yr_K Y) 100))), none, some (rc_i v2), some (rc_i v3), some (rc_i v4), none, none] [] := by
  intro n
  induction n with
  | zero => intro v2 v3 v4 S h; exact h.fail.elim
  | succ n ih =>
    intro v2 v3 v4 S h
    rw [rp_X9_choir_L19] at h
    refine rc_iload (pc := 19) hC dX9_choir_19 rfl ?_
    refine rc_aload_n (pc := 21) hC dX9_choir_21 rfl rfl ?_
    refine rc_r_mref (pc := 22) hC hF rF_X9_7 (by decide) dX9_choir_22 h ?_
    refine rc_iconst (pc := 25) hC (v := (2 : Int32)) dX9_choir_25 rfl ?_
    refine rc_r_mald (pc := 26) hC hF (j := 0) (by decide) rfl dX9_choir_26 h ?_
    intro x2 h
    refine rc_icmp_ge (pc := 27) (tgt := 110) hC dX9_choir_27 rfl h ?_ ?_
    · intro _ h
      refine rc_iinc (pc := 110) hC (v := (v3 + (1 : Int32))) (L' := [some (rc_q (some (rc_km (yr_K Y) 100))), none, some (rc_i v2), some (rc_i (v3 + (1 : Int32))), some (rc_i v4), none, none]) dX9_choir_110 rfl rfl rfl rfl ?_
      refine rc_goto (pc := 113) (tgt := 6) hC dX9_choir_113 rfl ?_
      refine rc_drop [true, false, true, true, false, false, false] (L' := [some (rc_q (some (rc_km (yr_K Y) 100))), none, some (rc_i v2), some (rc_i (v3 + (1 : Int32))), none, none, none]) rfl ?_
      exact hk6 v2 (v3 + (1 : Int32)) S h
    intro _ h
    refine rc_iconst (pc := 30) hC (v := (0 : Int32)) dX9_choir_30 rfl ?_
    refine rc_istore (pc := 31) hC (L' := [some (rc_q (some (rc_km (yr_K Y) 100))), none, some (rc_i v2), some (rc_i v3), some (rc_i v4), some (rc_i (0 : Int32)), none]) dX9_choir_31 (Nat.le_of_ble_eq_true rfl) rfl rfl ?_
    refine rc_r_fuel h ?_
    intro x3 h
    exact rw_X9_choir_L33 hC hH hF hk6 ih x3 v2 v3 v4 (0 : Int32) S h
theorem rw_X9_choir_L6 {Y : rc_Y} (hC : rc_C Y cX9_choir RX9 (Option.some Jvm.ClassFile.FieldType.int) 7) (hH : rc_H Y 3 69 yX9_choir.name) (hF : yr_F Y = true) : ∀ (n : Nat) (v2 : Int32) (v3 : Int32) (S : rc_S), rc_Go Y rc_tI (rp_X9_choir_L6  n v2 v3) S → rc_Z Y S 6 [some (rc_q (some (rc_km (yr_K Y) 100))), none, some (rc_i v2), some (rc_i v3), none, none, none] [] := by
  intro n
  induction n with
  | zero => intro v2 v3 S h; exact h.fail.elim
  | succ n ih =>
    intro v2 v3 S h
    rw [rp_X9_choir_L6] at h
    refine rc_iload_n (pc := 6) hC dX9_choir_6 rfl rfl ?_
    refine rc_aload_n (pc := 7) hC dX9_choir_7 rfl rfl ?_
    refine rc_r_mref (pc := 8) hC hF rF_X9_7 (by decide) dX9_choir_8 h ?_
    refine rc_iconst (pc := 11) hC (v := (2 : Int32)) dX9_choir_11 rfl ?_
    refine rc_r_mald (pc := 12) hC hF (j := 0) (by decide) rfl dX9_choir_12 h ?_
    intro x2 h
    refine rc_icmp_ge (pc := 13) (tgt := 116) hC dX9_choir_13 rfl h ?_ ?_
    · intro _ h
      refine rc_iload_n (pc := 116) hC dX9_choir_116 rfl rfl ?_
      exact rc_iret hC rfl rfl dX9_choir_117 h rfl
    intro _ h
    refine rc_iconst (pc := 16) hC (v := (0 : Int32)) dX9_choir_16 rfl ?_
    refine rc_istore (pc := 17) hC (L' := [some (rc_q (some (rc_km (yr_K Y) 100))), none, some (rc_i v2), some (rc_i v3), some (rc_i (0 : Int32)), none, none]) dX9_choir_17 (Nat.le_of_ble_eq_true rfl) rfl rfl ?_
    refine rc_r_fuel h ?_
    intro x3 h
    exact rw_X9_choir_L19 hC hH hF ih x3 v2 v3 (0 : Int32) S h
theorem rw_X9_choir {l : Launch} (hl : l.stackTraces = false) (v1 : Int32) : rc_Cm l yX9_choir (ws_ yX9_choir cX9_choir 7 (Option.some Jvm.ClassFile.FieldType.int)) 3 69 rc_tI (rp_X9_choir v1) [rc_i v1] := by
  refine rc_Cm_H hl (plainFor_of_name rY_X9) rfl (Nat.le_of_ble_eq_true rfl) ?_
  intro Y S hC hH hF h
  have hC : rc_C Y cX9_choir RX9 (Option.some Jvm.ClassFile.FieldType.int) 7 := hC
  show rc_Z Y S 0 [some (rc_q (some (rc_km (yr_K Y) 100))), some (rc_i v1), none, none, none, none, none] []
  unfold rp_X9_choir at h
  refine rc_iconst (pc := 0) hC (v := (1 : Int32)) dX9_choir_0 rfl ?_
  refine rc_iload_n (pc := 1) hC dX9_choir_1 rfl rfl ?_
  refine rc_ishl (pc := 2) hC dX9_choir_2 ?_
  refine rc_istore_n (pc := 3) hC (L' := [some (rc_q (some (rc_km (yr_K Y) 100))), some (rc_i v1), some (rc_i ((1 : Int32) <<< (v1 &&& 31))), none, none, none, none]) dX9_choir_3 rfl (Nat.le_of_ble_eq_true rfl) rfl rfl ?_
  refine rc_iconst (pc := 4) hC (v := (0 : Int32)) dX9_choir_4 rfl ?_
  refine rc_istore_n (pc := 5) hC (L' := [some (rc_q (some (rc_km (yr_K Y) 100))), some (rc_i v1), some (rc_i ((1 : Int32) <<< (v1 &&& 31))), some (rc_i (0 : Int32)), none, none, none]) dX9_choir_5 rfl (Nat.le_of_ble_eq_true rfl) rfl rfl ?_
  refine rc_drop [true, false, true, true, false, false, false] (L' := [some (rc_q (some (rc_km (yr_K Y) 100))), none, some (rc_i ((1 : Int32) <<< (v1 &&& 31))), some (rc_i (0 : Int32)), none, none, none]) rfl ?_
  refine rc_r_fuel h ?_
  intro x1 h
  exact rw_X9_choir_L6 hC hH hF  x1 ((1 : Int32) <<< (v1 &&& 31)) (0 : Int32) S h
theorem rw_X9_greatestChoir_L36 {Y : rc_Y} (hC : rc_C Y cX9_greatestChoir RX9 (Option.some Jvm.ClassFile.FieldType.int) 4) (hH : rc_H Y 4 95 yX9_greatestChoir.name) (hF : yr_F Y = true) {k4 : Int32 → Int32 → rc_M Int32} (hk4 : ∀ (v1 : Int32) (v2 : Int32) (S : rc_S), rc_Go Y rc_tI (k4 v1 v2) S → rc_Z Y S 4 [some (rc_q (some (rc_km (yr_K Y) 100))), some (rc_i v1), some (rc_i v2), none] []) (v2 : Int32) (s0 : Int32) (S : rc_S) (h : rc_Go Y rc_tI (rp_X9_greatestChoir_L36 k4 v2 s0) S) : rc_Z Y S 36 [some (rc_q (some (rc_km (yr_K Y) 100))), none, some (rc_i v2), none] [rc_i s0] := by
  unfold rp_X9_greatestChoir_L36 at h
  refine rc_istore_n (pc := 36) hC (L' := [some (rc_q (some (rc_km (yr_K Y) 100))), some (rc_i s0), some (rc_i v2), none]) dX9_greatestChoir_36 rfl (Nat.le_of_ble_eq_true rfl) rfl rfl ?_
  refine rc_iinc (pc := 37) hC (v := (v2 + (1 : Int32))) (L' := [some (rc_q (some (rc_km (yr_K Y) 100))), some (rc_i s0), some (rc_i (v2 + (1 : Int32))), none]) dX9_greatestChoir_37 rfl rfl rfl rfl ?_
  refine rc_goto (pc := 40) (tgt := 4) hC dX9_greatestChoir_40 rfl ?_
  exact hk4 s0 (v2 + (1 : Int32)) S h
theorem rw_X9_greatestChoir_L4 {Y : rc_Y} (hC : rc_C Y cX9_greatestChoir RX9 (Option.some Jvm.ClassFile.FieldType.int) 4) (hH : rc_H Y 4 95 yX9_greatestChoir.name) (hF : yr_F Y = true) : ∀ (n : Nat) (v1 : Int32) (v2 : Int32) (S : rc_S), rc_Go Y rc_tI (rp_X9_greatestChoir_L4  n v1 v2) S → rc_Z Y S 4 [some (rc_q (some (rc_km (yr_K Y) 100))), some (rc_i v1), some (rc_i v2), none] [] := by
  intro n
  induction n with
  | zero => intro v1 v2 S h; exact h.fail.elim
  | succ n ih =>
    intro v1 v2 S h
    rw [rp_X9_greatestChoir_L4] at h
    refine rc_iload_n (pc := 4) hC dX9_greatestChoir_4 rfl rfl ?_
    refine rc_aload_n (pc := 5) hC dX9_greatestChoir_5 rfl rfl ?_
    refine rc_r_mref (pc := 6) hC hF rF_X9_7 (by decide) dX9_greatestChoir_6 h ?_
    refine rc_iconst (pc := 9) hC (v := (2 : Int32)) dX9_greatestChoir_9 rfl ?_
    refine rc_r_mald (pc := 10) hC hF (j := 0) (by decide) rfl dX9_greatestChoir_10 h ?_
    intro x2 h
    refine rc_icmp_ge (pc := 11) (tgt := 43) hC dX9_greatestChoir_11 rfl h ?_ ?_
    · intro _ h
      refine rc_iload_n (pc := 43) hC dX9_greatestChoir_43 rfl rfl ?_
      exact rc_iret hC rfl rfl dX9_greatestChoir_44 h rfl
    intro _ h
    refine rc_aload_n (pc := 14) hC dX9_greatestChoir_14 rfl rfl ?_
    refine rc_iload_n (pc := 15) hC dX9_greatestChoir_15 rfl rfl ?_
    refine rc_callM (pc := 16) hC (rw_X9_choir hH.1 v2) q2301 q2303 qs95 q149 q2304 rfl rd_X9_choir (hH.room (Nat.le_of_ble_eq_true rfl) (Nat.le_of_ble_eq_true rfl)) rfl rfl (Nat.le_of_ble_eq_true rfl) 1 rfl h.le.2.2 (Or.inl hF) h.br rfl dX9_greatestChoir_16 ?_ (fun E q S hT => rc_out hC hH.2.2.2.2 hT)
    intro x3 S h
    show rc_Z Y S 19 [some (rc_q (some (rc_km (yr_K Y) 100))), some (rc_i v1), some (rc_i v2), none] [rc_i x3]
    refine rc_istore_n (pc := 19) hC (L' := [some (rc_q (some (rc_km (yr_K Y) 100))), some (rc_i v1), some (rc_i v2), some (rc_i x3)]) dX9_greatestChoir_19 rfl (Nat.le_of_ble_eq_true rfl) rfl rfl ?_
    refine rc_iload_n (pc := 20) hC dX9_greatestChoir_20 rfl rfl ?_
    refine rc_callS (pc := 21) hC (rw_X9_bits hH.1 x3) q2273 q2274 q149 q2275 rd_X9_bits (hH.room (Nat.le_of_ble_eq_true rfl) (Nat.le_of_ble_eq_true rfl)) rfl rfl (Nat.le_of_ble_eq_true rfl) 1 rfl h.le.2.2 h.br rfl dX9_greatestChoir_21 ?_ (fun E q S hT => rc_out hC hH.2.2.2.2 hT)
    intro x4 S h
    show rc_Z Y S 24 [some (rc_q (some (rc_km (yr_K Y) 100))), some (rc_i v1), some (rc_i v2), some (rc_i x3)] [rc_i x4]
    refine rc_iload_n (pc := 24) hC dX9_greatestChoir_24 rfl rfl ?_
    refine rc_callS (pc := 25) hC (rw_X9_bits hH.1 v1) q2273 q2274 q149 q2275 rd_X9_bits (hH.room (Nat.le_of_ble_eq_true rfl) (Nat.le_of_ble_eq_true rfl)) rfl rfl (Nat.le_of_ble_eq_true rfl) 1 rfl h.le.2.2 h.br rfl dX9_greatestChoir_25 ?_ (fun E q S hT => rc_out hC hH.2.2.2.2 hT)
    intro x5 S h
    show rc_Z Y S 28 [some (rc_q (some (rc_km (yr_K Y) 100))), some (rc_i v1), some (rc_i v2), some (rc_i x3)] [rc_i x5, rc_i x4]
    refine rc_icmp_le (pc := 28) (tgt := 35) hC dX9_greatestChoir_28 rfl h ?_ ?_
    · intro _ h
      refine rc_iload_n (pc := 35) hC dX9_greatestChoir_35 rfl rfl ?_
      refine rc_drop [true, false, true, false] (L' := [some (rc_q (some (rc_km (yr_K Y) 100))), none, some (rc_i v2), none]) rfl ?_
      exact rw_X9_greatestChoir_L36 hC hH hF ih v2 v1 S h
    intro _ h
    refine rc_iload_n (pc := 31) hC dX9_greatestChoir_31 rfl rfl ?_
    refine rc_goto (pc := 32) (tgt := 36) hC dX9_greatestChoir_32 rfl ?_
    refine rc_drop [true, false, true, false] (L' := [some (rc_q (some (rc_km (yr_K Y) 100))), none, some (rc_i v2), none]) rfl ?_
    exact rw_X9_greatestChoir_L36 hC hH hF ih v2 x3 S h
theorem rw_X9_greatestChoir {l : Launch} (hl : l.stackTraces = false) : rc_Cm l yX9_greatestChoir (ws_ yX9_greatestChoir cX9_greatestChoir 4 (Option.some Jvm.ClassFile.FieldType.int)) 4 95 rc_tI (rp_X9_greatestChoir ) [] := by
  refine rc_Cm_H hl (plainFor_of_name rY_X9) rfl (Nat.le_of_ble_eq_true rfl) ?_
  intro Y S hC hH hF h
  have hC : rc_C Y cX9_greatestChoir RX9 (Option.some Jvm.ClassFile.FieldType.int) 4 := hC
  show rc_Z Y S 0 [some (rc_q (some (rc_km (yr_K Y) 100))), none, none, none] []
  unfold rp_X9_greatestChoir at h
  refine rc_iconst (pc := 0) hC (v := (0 : Int32)) dX9_greatestChoir_0 rfl ?_
  refine rc_istore_n (pc := 1) hC (L' := [some (rc_q (some (rc_km (yr_K Y) 100))), some (rc_i (0 : Int32)), none, none]) dX9_greatestChoir_1 rfl (Nat.le_of_ble_eq_true rfl) rfl rfl ?_
  refine rc_iconst (pc := 2) hC (v := (0 : Int32)) dX9_greatestChoir_2 rfl ?_
  refine rc_istore_n (pc := 3) hC (L' := [some (rc_q (some (rc_km (yr_K Y) 100))), some (rc_i (0 : Int32)), some (rc_i (0 : Int32)), none]) dX9_greatestChoir_3 rfl (Nat.le_of_ble_eq_true rfl) rfl rfl ?_
  refine rc_r_fuel h ?_
  intro x1 h
  exact rw_X9_greatestChoir_L4 hC hH hF  x1 (0 : Int32) (0 : Int32) S h
theorem rw_X9_sings_L35 {Y : rc_Y} (hC : rc_C Y cX9_sings RX9 (Option.none : Option Jvm.ClassFile.FieldType) 3) (hH : rc_H Y 5 118 yX9_sings.name) (hF : yr_F Y = true) {k7 : Int32 → Int32 → rc_M Unit} (hk7 : ∀ (v1 : Int32) (v2 : Int32) (S : rc_S), rc_Go Y rc_tU (k7 v1 v2) S → rc_Z Y S 7 [some (rc_q (some (rc_km (yr_K Y) 100))), some (rc_i v1), some (rc_i v2)] []) (v1 : Int32) (v2 : Int32) (S : rc_S) (h : rc_Go Y rc_tU (rp_X9_sings_L35 k7 v1 v2) S) : rc_Z Y S 35 [some (rc_q (some (rc_km (yr_K Y) 100))), some (rc_i v1), some (rc_i v2)] [] := by
  unfold rp_X9_sings_L35 at h
  refine rc_iinc (pc := 35) hC (v := (v2 + (1 : Int32))) (L' := [some (rc_q (some (rc_km (yr_K Y) 100))), some (rc_i v1), some (rc_i (v2 + (1 : Int32)))]) dX9_sings_35 rfl rfl rfl rfl ?_
  refine rc_goto (pc := 38) (tgt := 7) hC dX9_sings_38 rfl ?_
  exact hk7 v1 (v2 + (1 : Int32)) S h
theorem rw_X9_sings_L7 {Y : rc_Y} (hC : rc_C Y cX9_sings RX9 (Option.none : Option Jvm.ClassFile.FieldType) 3) (hH : rc_H Y 5 118 yX9_sings.name) (hF : yr_F Y = true) : ∀ (n : Nat) (v1 : Int32) (v2 : Int32) (S : rc_S), rc_Go Y rc_tU (rp_X9_sings_L7  n v1 v2) S → rc_Z Y S 7 [some (rc_q (some (rc_km (yr_K Y) 100))), some (rc_i v1), some (rc_i v2)] [] := by
  intro n
  induction n with
  | zero => intro v1 v2 S h; exact h.fail.elim
  | succ n ih =>
    intro v1 v2 S h
    rw [rp_X9_sings_L7] at h
    refine rc_iload_n (pc := 7) hC dX9_sings_7 rfl rfl ?_
    refine rc_aload_n (pc := 8) hC dX9_sings_8 rfl rfl ?_
    refine rc_r_mref (pc := 9) hC hF rF_X9_7 (by decide) dX9_sings_9 h ?_
    refine rc_iconst (pc := 12) hC (v := (2 : Int32)) dX9_sings_12 rfl ?_
    refine rc_r_mald (pc := 13) hC hF (j := 0) (by decide) rfl dX9_sings_13 h ?_
    intro x2 h
    refine rc_icmp_ge (pc := 14) (tgt := 41) hC dX9_sings_14 rfl h ?_ ?_
    · intro _ h
      exact rc_vret hC rfl dX9_sings_41 h rfl
    intro _ h
    refine rc_iload_n (pc := 17) hC dX9_sings_17 rfl rfl ?_
    refine rc_iload_n (pc := 18) hC dX9_sings_18 rfl rfl ?_
    refine rc_ishr (pc := 19) hC dX9_sings_19 ?_
    refine rc_iconst (pc := 20) hC (v := (1 : Int32)) dX9_sings_20 rfl ?_
    refine rc_iand (pc := 21) hC dX9_sings_21 ?_
    refine rc_iconst (pc := 22) hC (v := (1 : Int32)) dX9_sings_22 rfl ?_
    refine rc_icmp_ne (pc := 23) (tgt := 35) hC dX9_sings_23 rfl h ?_ ?_
    · intro _ h
      exact rw_X9_sings_L35 hC hH hF ih v1 v2 S h
    intro _ h
    refine rc_aload_n (pc := 26) hC dX9_sings_26 rfl rfl ?_
    refine rc_iload_n (pc := 27) hC dX9_sings_27 rfl rfl ?_
    refine rc_iload_n (pc := 28) hC dX9_sings_28 rfl rfl ?_
    refine rc_callS (pc := 29) hC (rw_X9_bits hH.1 v1) q2273 q2274 q149 q2275 rd_X9_bits (hH.room (Nat.le_of_ble_eq_true rfl) (Nat.le_of_ble_eq_true rfl)) rfl rfl (Nat.le_of_ble_eq_true rfl) 1 rfl h.le.2.2 h.br rfl dX9_sings_29 ?_ (fun E q S hT => rc_out hC hH.2.2.2.2 hT)
    intro x3 S h
    show rc_Z Y S 32 [some (rc_q (some (rc_km (yr_K Y) 100))), some (rc_i v1), some (rc_i v2)] [rc_i x3, rc_i v2, rc_q (some (rc_km (yr_K Y) 100))]
    refine rc_callM (pc := 32) hC (rw_X9_feeds hH.1 v2 x3) q2284 q2286 qs91 q149 q2287 rfl rd_X9_feeds (hH.room (Nat.le_of_ble_eq_true rfl) (Nat.le_of_ble_eq_true rfl)) rfl rfl (Nat.le_of_ble_eq_true rfl) 2 rfl h.le.2.2 (Or.inl hF) h.br rfl dX9_sings_32 ?_ (fun E q S hT => rc_out hC hH.2.2.2.2 hT)
    intro _ S h
    show rc_Z Y S 35 [some (rc_q (some (rc_km (yr_K Y) 100))), some (rc_i v1), some (rc_i v2)] []
    exact rw_X9_sings_L35 hC hH hF ih v1 v2 S h
theorem rw_X9_sings {l : Launch} (hl : l.stackTraces = false) : rc_Cm l yX9_sings (ws_ yX9_sings cX9_sings 3 (Option.none : Option Jvm.ClassFile.FieldType)) 5 118 rc_tU (rp_X9_sings ) [] := by
  refine rc_Cm_H hl (plainFor_of_name rY_X9) rfl (Nat.le_of_ble_eq_true rfl) ?_
  intro Y S hC hH hF h
  have hC : rc_C Y cX9_sings RX9 (Option.none : Option Jvm.ClassFile.FieldType) 3 := hC
  show rc_Z Y S 0 [some (rc_q (some (rc_km (yr_K Y) 100))), none, none] []
  unfold rp_X9_sings at h
  refine rc_aload_n (pc := 0) hC dX9_sings_0 rfl rfl ?_
  refine rc_callM (pc := 1) hC (rw_X9_greatestChoir hH.1) q2297 q2299 qs94 q149 q2300 rfl rd_X9_greatestChoir (hH.room (Nat.le_of_ble_eq_true rfl) (Nat.le_of_ble_eq_true rfl)) rfl rfl (Nat.le_of_ble_eq_true rfl) 0 rfl h.le.2.2 (Or.inl hF) h.br rfl dX9_sings_1 ?_ (fun E q S hT => rc_out hC hH.2.2.2.2 hT)
  intro x1 S h
  show rc_Z Y S 4 [some (rc_q (some (rc_km (yr_K Y) 100))), none, none] [rc_i x1]
  refine rc_istore_n (pc := 4) hC (L' := [some (rc_q (some (rc_km (yr_K Y) 100))), some (rc_i x1), none]) dX9_sings_4 rfl (Nat.le_of_ble_eq_true rfl) rfl rfl ?_
  refine rc_iconst (pc := 5) hC (v := (0 : Int32)) dX9_sings_5 rfl ?_
  refine rc_istore_n (pc := 6) hC (L' := [some (rc_q (some (rc_km (yr_K Y) 100))), some (rc_i x1), some (rc_i (0 : Int32))]) dX9_sings_6 rfl (Nat.le_of_ble_eq_true rfl) rfl rfl ?_
  refine rc_r_fuel h ?_
  intro x2 h
  exact rw_X9_sings_L7 hC hH hF  x2 x1 (0 : Int32) S h
theorem rw_X9_passes_L66 {Y : rc_Y} (hC : rc_C Y cX9_passes RX9 (Option.some Jvm.ClassFile.FieldType.int) 4) (hH : rc_H Y 6 140 yX9_passes.name) (hF : yr_F Y = true) {k2 : Int32 → Int32 → rc_M Int32} (hk2 : ∀ (v1 : Int32) (v2 : Int32) (S : rc_S), rc_Go Y rc_tI (k2 v1 v2) S → rc_Z Y S 2 [some (rc_q (some (rc_km (yr_K Y) 100))), some (rc_i v1), some (rc_i v2), none] []) {k19 : Int32 → Int32 → Int32 → rc_M Int32} (hk19 : ∀ (v1 : Int32) (v2 : Int32) (v3 : Int32) (S : rc_S), rc_Go Y rc_tI (k19 v1 v2 v3) S → rc_Z Y S 19 [some (rc_q (some (rc_km (yr_K Y) 100))), some (rc_i v1), some (rc_i v2), some (rc_i v3)] []) (v1 : Int32) (v2 : Int32) (v3 : Int32) (S : rc_S) (h : rc_Go Y rc_tI (rp_X9_passes_L66 k2 k19 v1 v2 v3) S) : rc_Z Y S 66 [some (rc_q (some (rc_km (yr_K Y) 100))), some (rc_i v1), some (rc_i v2), some (rc_i v3)] [] := by
  unfold rp_X9_passes_L66 at h
  refine rc_iinc (pc := 66) hC (v := (v3 + (1 : Int32))) (L' := [some (rc_q (some (rc_km (yr_K Y) 100))), some (rc_i v1), some (rc_i v2), some (rc_i (v3 + (1 : Int32)))]) dX9_passes_66 rfl rfl rfl rfl ?_
  refine rc_goto (pc := 69) (tgt := 19) hC dX9_passes_69 rfl ?_
  exact hk19 v1 v2 (v3 + (1 : Int32)) S h
theorem rw_X9_passes_L89 {Y : rc_Y} (hC : rc_C Y cX9_passes RX9 (Option.some Jvm.ClassFile.FieldType.int) 4) (hH : rc_H Y 6 140 yX9_passes.name) (hF : yr_F Y = true) {k2 : Int32 → Int32 → rc_M Int32} (hk2 : ∀ (v1 : Int32) (v2 : Int32) (S : rc_S), rc_Go Y rc_tI (k2 v1 v2) S → rc_Z Y S 2 [some (rc_q (some (rc_km (yr_K Y) 100))), some (rc_i v1), some (rc_i v2), none] []) (v1 : Int32) (v2 : Int32) (S : rc_S) (h : rc_Go Y rc_tI (rp_X9_passes_L89 k2 v1 v2) S) : rc_Z Y S 89 [some (rc_q (some (rc_km (yr_K Y) 100))), some (rc_i v1), some (rc_i v2), none] [] := by
  unfold rp_X9_passes_L89 at h
  refine rc_iinc (pc := 89) hC (v := (v2 + (1 : Int32))) (L' := [some (rc_q (some (rc_km (yr_K Y) 100))), some (rc_i v1), some (rc_i (v2 + (1 : Int32))), none]) dX9_passes_89 rfl rfl rfl rfl ?_
  refine rc_goto (pc := 92) (tgt := 2) hC dX9_passes_92 rfl ?_
  exact hk2 v1 (v2 + (1 : Int32)) S h
theorem rw_X9_passes_L19 {Y : rc_Y} (hC : rc_C Y cX9_passes RX9 (Option.some Jvm.ClassFile.FieldType.int) 4) (hH : rc_H Y 6 140 yX9_passes.name) (hF : yr_F Y = true) {k2 : Int32 → Int32 → rc_M Int32} (hk2 : ∀ (v1 : Int32) (v2 : Int32) (S : rc_S), rc_Go Y rc_tI (k2 v1 v2) S → rc_Z Y S 2 [some (rc_q (some (rc_km (yr_K Y) 100))), some (rc_i v1), some (rc_i v2), none] []) : ∀ (n : Nat) (v1 : Int32) (v2 : Int32) (v3 : Int32) (S : rc_S), rc_Go Y rc_tI (rp_X9_passes_L19 k2 n v1 v2 v3) S → rc_Z Y S 19 [some (rc_q (some (rc_km (yr_K Y) 100))), some (rc_i v1), some (rc_i v2), some (rc_i v3)] [] := by
  intro n
  induction n with
  | zero => intro v1 v2 v3 S h; exact h.fail.elim
  | succ n ih =>
    intro v1 v2 v3 S h
    rw [rp_X9_passes_L19] at h
    refine rc_iload_n (pc := 19) hC dX9_passes_19 rfl rfl ?_
    refine rc_aload_n (pc := 20) hC dX9_passes_20 rfl rfl ?_
    refine rc_r_mref (pc := 21) hC hF rF_X9_7 (by decide) dX9_passes_21 h ?_
    refine rc_iconst (pc := 24) hC (v := (2 : Int32)) dX9_passes_24 rfl ?_
    refine rc_r_mald (pc := 25) hC hF (j := 0) (by decide) rfl dX9_passes_25 h ?_
    intro x2 h
    refine rc_icmp_ge (pc := 26) (tgt := 72) hC dX9_passes_26 rfl h ?_ ?_
    · intro _ h
      refine rc_aload_n (pc := 72) hC dX9_passes_72 rfl rfl ?_
      refine rc_r_mref (pc := 73) hC hF rF_X9_7 (by decide) dX9_passes_73 h ?_
      refine rc_iconst (pc := 76) hC (v := (3 : Int32)) dX9_passes_76 rfl ?_
      refine rc_r_mald (pc := 77) hC hF (j := 0) (by decide) rfl dX9_passes_77 h ?_
      intro x4 h
      refine rc_bipush (pc := 78) hC (v := (8 : Int32)) dX9_passes_78 rfl ?_
      refine rc_irem (pc := 80) hC dX9_passes_80 (by decide) ?_
      refine rc_iconst (pc := 81) hC (v := (4 : Int32)) dX9_passes_81 rfl ?_
      refine rc_icmp_ne (pc := 82) (tgt := 89) hC dX9_passes_82 rfl h ?_ ?_
      · intro _ h
        refine rc_drop [true, true, true, false] (L' := [some (rc_q (some (rc_km (yr_K Y) 100))), some (rc_i v1), some (rc_i v2), none]) rfl ?_
        exact rw_X9_passes_L89 hC hH hF hk2 v1 v2 S h
      intro _ h
      refine rc_aload_n (pc := 85) hC dX9_passes_85 rfl rfl ?_
      refine rc_callM (pc := 86) hC (rw_X9_sings hH.1) q2293 q2295 qs93 q149 q2296 rfl rd_X9_sings (hH.room (Nat.le_of_ble_eq_true rfl) (Nat.le_of_ble_eq_true rfl)) rfl rfl (Nat.le_of_ble_eq_true rfl) 0 rfl h.le.2.2 (Or.inl hF) h.br rfl dX9_passes_86 ?_ (fun E q S hT => rc_out hC hH.2.2.2.2 hT)
      intro _ S h
      show rc_Z Y S 89 [some (rc_q (some (rc_km (yr_K Y) 100))), some (rc_i v1), some (rc_i v2), some (rc_i v3)] []
      refine rc_drop [true, true, true, false] (L' := [some (rc_q (some (rc_km (yr_K Y) 100))), some (rc_i v1), some (rc_i v2), none]) rfl ?_
      exact rw_X9_passes_L89 hC hH hF hk2 v1 v2 S h
    intro _ h
    refine rc_aload_n (pc := 29) hC dX9_passes_29 rfl rfl ?_
    refine rc_iload_n (pc := 30) hC dX9_passes_30 rfl rfl ?_
    refine rc_callM (pc := 31) hC (rw_X9_isHome hH.1 v3) q2217 q2219 qs75 q149 q2220 rfl rd_X9_isHome (hH.room (Nat.le_of_ble_eq_true rfl) (Nat.le_of_ble_eq_true rfl)) rfl rfl (Nat.le_of_ble_eq_true rfl) 1 rfl h.le.2.2 (Or.inl hF) h.br rfl dX9_passes_31 ?_ (fun E q S hT => rc_out hC hH.2.2.2.2 hT)
    intro x5 S h
    show rc_Z Y S 34 [some (rc_q (some (rc_km (yr_K Y) 100))), some (rc_i v1), some (rc_i v2), some (rc_i v3)] [rc_i x5]
    refine rc_if_eq (pc := 34) (tgt := 61) hC dX9_passes_34 rfl h ?_ ?_
    · intro _ h
      refine rc_aload_n (pc := 61) hC dX9_passes_61 rfl rfl ?_
      refine rc_iload_n (pc := 62) hC dX9_passes_62 rfl rfl ?_
      refine rc_callM (pc := 63) hC (rw_X9_eats hH.1 v3) q2289 q2291 qs92 q149 q2292 rfl rd_X9_eats (hH.room (Nat.le_of_ble_eq_true rfl) (Nat.le_of_ble_eq_true rfl)) rfl rfl (Nat.le_of_ble_eq_true rfl) 1 rfl h.le.2.2 (Or.inl hF) h.br rfl dX9_passes_63 ?_ (fun E q S hT => rc_out hC hH.2.2.2.2 hT)
      intro _ S h
      show rc_Z Y S 66 [some (rc_q (some (rc_km (yr_K Y) 100))), some (rc_i v1), some (rc_i v2), some (rc_i v3)] []
      exact rw_X9_passes_L66 hC hH hF hk2 ih v1 v2 v3 S h
    intro _ h
    refine rc_aload_n (pc := 37) hC dX9_passes_37 rfl rfl ?_
    refine rc_iload_n (pc := 38) hC dX9_passes_38 rfl rfl ?_
    refine rc_aload_n (pc := 39) hC dX9_passes_39 rfl rfl ?_
    refine rc_r_mref (pc := 40) hC hF rF_X9_7 (by decide) dX9_passes_40 h ?_
    refine rc_bipush (pc := 43) hC (v := (10 : Int32)) dX9_passes_43 rfl ?_
    refine rc_aload_n (pc := 45) hC dX9_passes_45 rfl rfl ?_
    refine rc_iload_n (pc := 46) hC dX9_passes_46 rfl rfl ?_
    refine rc_iconst (pc := 47) hC (v := (3 : Int32)) dX9_passes_47 rfl ?_
    refine rc_callM (pc := 48) hC (rw_X9_of hH.1 v3 (3 : Int32)) q2124 q2126 qs52 q149 q2127 rfl rd_X9_of (hH.room (Nat.le_of_ble_eq_true rfl) (Nat.le_of_ble_eq_true rfl)) rfl rfl (Nat.le_of_ble_eq_true rfl) 2 rfl h.le.2.2 (Or.inl hF) h.br rfl dX9_passes_48 ?_ (fun E q S hT => rc_out hC hH.2.2.2.2 hT)
    intro x7 S h
    show rc_Z Y S 51 [some (rc_q (some (rc_km (yr_K Y) 100))), some (rc_i v1), some (rc_i v2), some (rc_i v3)] [rc_i x7, rc_i (10 : Int32), rc_q (some (rc_km (yr_K Y) 0)), rc_i v3, rc_q (some (rc_km (yr_K Y) 100))]
    refine rc_iadd (pc := 51) hC dX9_passes_51 ?_
    refine rc_r_mald (pc := 52) hC hF (j := 0) (by decide) rfl dX9_passes_52 h ?_
    intro x8 h
    refine rc_iconst (pc := 53) hC (v := (3 : Int32)) dX9_passes_53 rfl ?_
    refine rc_idiv (pc := 54) hC dX9_passes_54 (by decide) ?_
    refine rc_callM (pc := 55) hC (rw_X9_feeds hH.1 v3 (x8 / (3 : Int32))) q2284 q2286 qs91 q149 q2287 rfl rd_X9_feeds (hH.room (Nat.le_of_ble_eq_true rfl) (Nat.le_of_ble_eq_true rfl)) rfl rfl (Nat.le_of_ble_eq_true rfl) 2 rfl h.le.2.2 (Or.inl hF) h.br rfl dX9_passes_55 ?_ (fun E q S hT => rc_out hC hH.2.2.2.2 hT)
    intro _ S h
    show rc_Z Y S 58 [some (rc_q (some (rc_km (yr_K Y) 100))), some (rc_i v1), some (rc_i v2), some (rc_i v3)] []
    refine rc_goto (pc := 58) (tgt := 66) hC dX9_passes_58 rfl ?_
    exact rw_X9_passes_L66 hC hH hF hk2 ih v1 v2 v3 S h
theorem rw_X9_passes_L2 {Y : rc_Y} (hC : rc_C Y cX9_passes RX9 (Option.some Jvm.ClassFile.FieldType.int) 4) (hH : rc_H Y 6 140 yX9_passes.name) (hF : yr_F Y = true) : ∀ (n : Nat) (v1 : Int32) (v2 : Int32) (S : rc_S), rc_Go Y rc_tI (rp_X9_passes_L2  n v1 v2) S → rc_Z Y S 2 [some (rc_q (some (rc_km (yr_K Y) 100))), some (rc_i v1), some (rc_i v2), none] [] := by
  intro n
  induction n with
  | zero => intro v1 v2 S h; exact h.fail.elim
  | succ n ih =>
    intro v1 v2 S h
    rw [rp_X9_passes_L2] at h
    refine rc_iload_n (pc := 2) hC dX9_passes_2 rfl rfl ?_
    refine rc_iload_n (pc := 3) hC dX9_passes_3 rfl rfl ?_
    refine rc_icmp_ge (pc := 4) (tgt := 95) hC dX9_passes_4 rfl h ?_ ?_
    · intro _ h
      refine rc_aload_n (pc := 95) hC dX9_passes_95 rfl rfl ?_
      refine rc_r_mref (pc := 96) hC hF rF_X9_7 (by decide) dX9_passes_96 h ?_
      refine rc_iconst (pc := 99) hC (v := (3 : Int32)) dX9_passes_99 rfl ?_
      refine rc_r_mald (pc := 100) hC hF (j := 0) (by decide) rfl dX9_passes_100 h ?_
      intro x2 h
      exact rc_iret hC rfl rfl dX9_passes_101 h rfl
    intro _ h
    refine rc_aload_n (pc := 7) hC dX9_passes_7 rfl rfl ?_
    refine rc_r_mref (pc := 8) hC hF rF_X9_7 (by decide) dX9_passes_8 h ?_
    refine rc_iconst (pc := 11) hC (v := (3 : Int32)) dX9_passes_11 rfl ?_
    refine rc_dup2 (pc := 12) hC dX9_passes_12 rfl rfl ?_
    refine rc_r_mald (pc := 13) hC hF (j := 0) (by decide) rfl dX9_passes_13 h ?_
    intro x4 h
    refine rc_iconst (pc := 14) hC (v := (1 : Int32)) dX9_passes_14 rfl ?_
    refine rc_iadd (pc := 15) hC dX9_passes_15 ?_
    refine rc_r_mast (pc := 16) hC hF (j := 0) (by decide) rfl dX9_passes_16 h ?_
    intro S h
    refine rc_iconst (pc := 17) hC (v := (0 : Int32)) dX9_passes_17 rfl ?_
    refine rc_istore_n (pc := 18) hC (L' := [some (rc_q (some (rc_km (yr_K Y) 100))), some (rc_i v1), some (rc_i v2), some (rc_i (0 : Int32))]) dX9_passes_18 rfl (Nat.le_of_ble_eq_true rfl) rfl rfl ?_
    refine rc_r_fuel h ?_
    intro x5 h
    exact rw_X9_passes_L19 hC hH hF ih x5 v1 v2 (0 : Int32) S h
theorem rw_X9_passes {l : Launch} (hl : l.stackTraces = false) (v1 : Int32) : rc_Cm l yX9_passes (ws_ yX9_passes cX9_passes 4 (Option.some Jvm.ClassFile.FieldType.int)) 6 140 rc_tI (rp_X9_passes v1) [rc_i v1] := by
  refine rc_Cm_H hl (plainFor_of_name rY_X9) rfl (Nat.le_of_ble_eq_true rfl) ?_
  intro Y S hC hH hF h
  have hC : rc_C Y cX9_passes RX9 (Option.some Jvm.ClassFile.FieldType.int) 4 := hC
  show rc_Z Y S 0 [some (rc_q (some (rc_km (yr_K Y) 100))), some (rc_i v1), none, none] []
  unfold rp_X9_passes at h
  refine rc_iconst (pc := 0) hC (v := (0 : Int32)) dX9_passes_0 rfl ?_
  refine rc_istore_n (pc := 1) hC (L' := [some (rc_q (some (rc_km (yr_K Y) 100))), some (rc_i v1), some (rc_i (0 : Int32)), none]) dX9_passes_1 rfl (Nat.le_of_ble_eq_true rfl) rfl rfl ?_
  refine rc_r_fuel h ?_
  intro x1 h
  exact rw_X9_passes_L2 hC hH hF  x1 v1 (0 : Int32) S h
theorem rw_X9_readsNights_L36 {Y : rc_Y} (hC : rc_C Y cX9_readsNights RX9 (Option.some Jvm.ClassFile.FieldType.boolean) 1) (hH : rc_H Y 7 163 yX9_readsNights.name) (hF : yr_F Y = true) (s0 : Int32) (S : rc_S) (h : rc_Go Y rc_tI (rp_X9_readsNights_L36  s0) S) : rc_Z Y S 36 [some (rc_q (some (rc_km (yr_K Y) 100)))] [rc_i s0, rc_q (some (rc_km (yr_K Y) 100))] := by
  unfold rp_X9_readsNights_L36 at h
  refine rc_callM (pc := 36) hC (rw_X9_stops hH.1 s0) q2084 q2086 qs42 q149 q2087 rfl rd_X9_stops (hH.room (Nat.le_of_ble_eq_true rfl) (Nat.le_of_ble_eq_true rfl)) rfl rfl (Nat.le_of_ble_eq_true rfl) 1 rfl h.le.2.2 (Or.inl hF) h.br rfl dX9_readsNights_36 ?_ (fun E q S hT => rc_out hC hH.2.2.2.2 hT)
  intro x1 S h
  show rc_Z Y S 39 [some (rc_q (some (rc_km (yr_K Y) 100)))] [rc_i x1]
  refine rc_if_ne (pc := 39) (tgt := 44) hC dX9_readsNights_39 rfl h ?_ ?_
  · intro _ h
    refine rc_aload_n (pc := 44) hC dX9_readsNights_44 rfl rfl ?_
    refine rc_aload_n (pc := 45) hC dX9_readsNights_45 rfl rfl ?_
    refine rc_r_mref (pc := 46) hC hF rF_X9_42 (by decide) dX9_readsNights_46 h ?_
    refine rc_iconst (pc := 49) hC (v := (0 : Int32)) dX9_readsNights_49 rfl ?_
    refine rc_r_mald (pc := 50) hC hF (j := 22) (by decide) rfl dX9_readsNights_50 h ?_
    intro x3 h
    refine rc_callM (pc := 51) hC (rw_X9_passes hH.1 x3) q2280 q2282 qs90 q149 q2283 rfl rd_X9_passes (hH.room (Nat.le_of_ble_eq_true rfl) (Nat.le_of_ble_eq_true rfl)) rfl rfl (Nat.le_of_ble_eq_true rfl) 1 rfl h.le.2.2 (Or.inl hF) h.br rfl dX9_readsNights_51 ?_ (fun E q S hT => rc_out hC hH.2.2.2.2 hT)
    intro x4 S h
    show rc_Z Y S 54 [some (rc_q (some (rc_km (yr_K Y) 100)))] [rc_i x4]
    refine rc_pop (pc := 54) hC dX9_readsNights_54 rfl ?_
    refine rc_iconst (pc := 55) hC (v := (1 : Int32)) dX9_readsNights_55 rfl ?_
    exact rc_iret hC rfl rfl dX9_readsNights_56 h rfl
  intro _ h
  refine rc_iconst (pc := 42) hC (v := (0 : Int32)) dX9_readsNights_42 rfl ?_
  exact rc_iret hC rfl rfl dX9_readsNights_43 h rfl
theorem rw_X9_readsNights {l : Launch} (hl : l.stackTraces = false) : rc_Cm l yX9_readsNights (ws_ yX9_readsNights cX9_readsNights 1 (Option.some Jvm.ClassFile.FieldType.boolean)) 7 163 rc_tI (rp_X9_readsNights ) [] := by
  refine rc_Cm_H hl (plainFor_of_name rY_X9) rfl (Nat.le_of_ble_eq_true rfl) ?_
  intro Y S hC hH hF h
  have hC : rc_C Y cX9_readsNights RX9 (Option.some Jvm.ClassFile.FieldType.boolean) 1 := hC
  show rc_Z Y S 0 [some (rc_q (some (rc_km (yr_K Y) 100)))] []
  unfold rp_X9_readsNights at h
  refine rc_aload_n (pc := 0) hC dX9_readsNights_0 rfl rfl ?_
  refine rc_iconst (pc := 1) hC (v := (0 : Int32)) dX9_readsNights_1 rfl ?_
  refine rc_iconst (pc := 2) hC (v := (1 : Int32)) dX9_readsNights_2 rfl ?_
  refine rc_bipush (pc := 3) hC (v := (30 : Int32)) dX9_readsNights_3 rfl ?_
  refine rc_callM (pc := 5) hC (rw_X9_number hH.1 (0 : Int32) (1 : Int32) (30 : Int32)) q2069 q2071 qs39 q149 q2072 rfl rd_X9_number (hH.room (Nat.le_of_ble_eq_true rfl) (Nat.le_of_ble_eq_true rfl)) rfl rfl (Nat.le_of_ble_eq_true rfl) 3 rfl h.le.2.2 (Or.inl hF) h.br rfl dX9_readsNights_5 ?_ (fun E q S hT => rc_out hC hH.2.2.2.2 hT)
  intro x1 S h
  show rc_Z Y S 8 [some (rc_q (some (rc_km (yr_K Y) 100)))] [rc_i x1]
  refine rc_if_eq (pc := 8) (tgt := 42) hC dX9_readsNights_8 rfl h ?_ ?_
  · intro _ h
    refine rc_iconst (pc := 42) hC (v := (0 : Int32)) dX9_readsNights_42 rfl ?_
    exact rc_iret hC rfl rfl dX9_readsNights_43 h rfl
  intro _ h
  refine rc_aload_n (pc := 11) hC dX9_readsNights_11 rfl rfl ?_
  refine rc_aload_n (pc := 12) hC dX9_readsNights_12 rfl rfl ?_
  refine rc_r_mref (pc := 13) hC hF rF_X9_7 (by decide) dX9_readsNights_13 h ?_
  refine rc_iconst (pc := 16) hC (v := (3 : Int32)) dX9_readsNights_16 rfl ?_
  refine rc_r_mald (pc := 17) hC hF (j := 0) (by decide) rfl dX9_readsNights_17 h ?_
  intro x3 h
  refine rc_aload_n (pc := 18) hC dX9_readsNights_18 rfl rfl ?_
  refine rc_r_mref (pc := 19) hC hF rF_X9_42 (by decide) dX9_readsNights_19 h ?_
  refine rc_iconst (pc := 22) hC (v := (0 : Int32)) dX9_readsNights_22 rfl ?_
  refine rc_r_mald (pc := 23) hC hF (j := 22) (by decide) rfl dX9_readsNights_23 h ?_
  intro x5 h
  refine rc_iadd (pc := 24) hC dX9_readsNights_24 ?_
  refine rc_sipush (pc := 25) hC (v := (999 : Int32)) dX9_readsNights_25 rfl ?_
  refine rc_icmp_gt (pc := 28) (tgt := 35) hC dX9_readsNights_28 rfl h ?_ ?_
  · intro _ h
    refine rc_iconst (pc := 35) hC (v := (0 : Int32)) dX9_readsNights_35 rfl ?_
    exact rw_X9_readsNights_L36 hC hH hF  (0 : Int32) S h
  intro _ h
  refine rc_iconst (pc := 31) hC (v := (1 : Int32)) dX9_readsNights_31 rfl ?_
  refine rc_goto (pc := 32) (tgt := 36) hC dX9_readsNights_32 rfl ?_
  exact rw_X9_readsNights_L36 hC hH hF  (1 : Int32) S h
theorem rw_X9_readsWord {l : Launch} (hl : l.stackTraces = false) (v1 : Int32) : rc_Cm l yX9_readsWord (ws_ yX9_readsWord cX9_readsWord 2 (Option.some Jvm.ClassFile.FieldType.boolean)) 8 183 rc_tI (rp_X9_readsWord v1) [rc_i v1] := by
  refine rc_Cm_H hl (plainFor_of_name rY_X9) rfl (Nat.le_of_ble_eq_true rfl) ?_
  intro Y S hC hH hF h
  have hC : rc_C Y cX9_readsWord RX9 (Option.some Jvm.ClassFile.FieldType.boolean) 2 := hC
  show rc_Z Y S 0 [some (rc_q (some (rc_km (yr_K Y) 100))), some (rc_i v1)] []
  unfold rp_X9_readsWord at h
  refine rc_iload_n (pc := 0) hC dX9_readsWord_0 rfl rfl ?_
  rcases h.ite with ⟨hc, h⟩ | ⟨hc0, h⟩
  · refine rc_tableIn (pc := 1) (tgt := 60) hC (off := 59) dX9_readsWord_1 (by rw [hc]; decide) (by rw [hc]; decide) (by rw [hc]; rfl) rfl ?_
    refine rc_aload_n (pc := 60) hC dX9_readsWord_60 rfl rfl ?_
    refine rc_callM (pc := 61) hC (rw_X9_readsChimney hH.1) q2080 q2082 qs41 q149 q2083 rfl rd_X9_readsChimney (hH.room (Nat.le_of_ble_eq_true rfl) (Nat.le_of_ble_eq_true rfl)) rfl rfl (Nat.le_of_ble_eq_true rfl) 0 rfl h.le.2.2 (Or.inl hF) h.br rfl dX9_readsWord_61 ?_ (fun E q S hT => rc_out hC hH.2.2.2.2 hT)
    intro x2 S h
    show rc_Z Y S 64 [some (rc_q (some (rc_km (yr_K Y) 100))), some (rc_i v1)] [rc_i x2]
    obtain ⟨hn, h⟩ := h.nar
    exact rc_iret hC rfl hn dX9_readsWord_64 h rfl
  rcases h.ite with ⟨hc, h⟩ | ⟨hc1, h⟩
  · refine rc_tableIn (pc := 1) (tgt := 65) hC (off := 64) dX9_readsWord_1 (by rw [hc]; decide) (by rw [hc]; decide) (by rw [hc]; rfl) rfl ?_
    refine rc_aload_n (pc := 65) hC dX9_readsWord_65 rfl rfl ?_
    refine rc_callM (pc := 66) hC (rw_X9_readsGutter hH.1) q2092 q2094 qs44 q149 q2095 rfl rd_X9_readsGutter (hH.room (Nat.le_of_ble_eq_true rfl) (Nat.le_of_ble_eq_true rfl)) rfl rfl (Nat.le_of_ble_eq_true rfl) 0 rfl h.le.2.2 (Or.inl hF) h.br rfl dX9_readsWord_66 ?_ (fun E q S hT => rc_out hC hH.2.2.2.2 hT)
    intro x3 S h
    show rc_Z Y S 69 [some (rc_q (some (rc_km (yr_K Y) 100))), some (rc_i v1)] [rc_i x3]
    obtain ⟨hn, h⟩ := h.nar
    exact rc_iret hC rfl hn dX9_readsWord_69 h rfl
  rcases h.ite with ⟨hc, h⟩ | ⟨hc2, h⟩
  · refine rc_tableIn (pc := 1) (tgt := 70) hC (off := 69) dX9_readsWord_1 (by rw [hc]; decide) (by rw [hc]; decide) (by rw [hc]; rfl) rfl ?_
    refine rc_aload_n (pc := 70) hC dX9_readsWord_70 rfl rfl ?_
    refine rc_callM (pc := 71) hC (rw_X9_readsCat hH.1) q2108 q2110 qs48 q149 q2111 rfl rd_X9_readsCat (hH.room (Nat.le_of_ble_eq_true rfl) (Nat.le_of_ble_eq_true rfl)) rfl rfl (Nat.le_of_ble_eq_true rfl) 0 rfl h.le.2.2 (Or.inl hF) h.br rfl dX9_readsWord_71 ?_ (fun E q S hT => rc_out hC hH.2.2.2.2 hT)
    intro x4 S h
    show rc_Z Y S 74 [some (rc_q (some (rc_km (yr_K Y) 100))), some (rc_i v1)] [rc_i x4]
    obtain ⟨hn, h⟩ := h.nar
    exact rc_iret hC rfl hn dX9_readsWord_74 h rfl
  rcases h.ite with ⟨hc, h⟩ | ⟨hc3, h⟩
  · refine rc_tableIn (pc := 1) (tgt := 75) hC (off := 74) dX9_readsWord_1 (by rw [hc]; decide) (by rw [hc]; decide) (by rw [hc]; rfl) rfl ?_
    refine rc_aload_n (pc := 75) hC dX9_readsWord_75 rfl rfl ?_
    refine rc_callM (pc := 76) hC (rw_X9_readsStep hH.1) q2136 q2138 qs55 q149 q2139 rfl rd_X9_readsStep (hH.room (Nat.le_of_ble_eq_true rfl) (Nat.le_of_ble_eq_true rfl)) rfl rfl (Nat.le_of_ble_eq_true rfl) 0 rfl h.le.2.2 (Or.inl hF) h.br rfl dX9_readsWord_76 ?_ (fun E q S hT => rc_out hC hH.2.2.2.2 hT)
    intro x5 S h
    show rc_Z Y S 79 [some (rc_q (some (rc_km (yr_K Y) 100))), some (rc_i v1)] [rc_i x5]
    obtain ⟨hn, h⟩ := h.nar
    exact rc_iret hC rfl hn dX9_readsWord_79 h rfl
  rcases h.ite with ⟨hc, h⟩ | ⟨hc4, h⟩
  · refine rc_tableIn (pc := 1) (tgt := 80) hC (off := 79) dX9_readsWord_1 (by rw [hc]; decide) (by rw [hc]; decide) (by rw [hc]; rfl) rfl ?_
    refine rc_aload_n (pc := 80) hC dX9_readsWord_80 rfl rfl ?_
    refine rc_callM (pc := 81) hC (rw_X9_readsClaim hH.1) q2173 q2175 qs64 q149 q2176 rfl rd_X9_readsClaim (hH.room (Nat.le_of_ble_eq_true rfl) (Nat.le_of_ble_eq_true rfl)) rfl rfl (Nat.le_of_ble_eq_true rfl) 0 rfl h.le.2.2 (Or.inl hF) h.br rfl dX9_readsWord_81 ?_ (fun E q S hT => rc_out hC hH.2.2.2.2 hT)
    intro x6 S h
    show rc_Z Y S 84 [some (rc_q (some (rc_km (yr_K Y) 100))), some (rc_i v1)] [rc_i x6]
    obtain ⟨hn, h⟩ := h.nar
    exact rc_iret hC rfl hn dX9_readsWord_84 h rfl
  rcases h.ite with ⟨hc, h⟩ | ⟨hc5, h⟩
  · refine rc_tableIn (pc := 1) (tgt := 85) hC (off := 84) dX9_readsWord_1 (by rw [hc]; decide) (by rw [hc]; decide) (by rw [hc]; rfl) rfl ?_
    refine rc_aload_n (pc := 85) hC dX9_readsWord_85 rfl rfl ?_
    refine rc_callM (pc := 86) hC (rw_X9_readsAbandon hH.1) q2189 q2191 qs68 q149 q2192 rfl rd_X9_readsAbandon (hH.room (Nat.le_of_ble_eq_true rfl) (Nat.le_of_ble_eq_true rfl)) rfl rfl (Nat.le_of_ble_eq_true rfl) 0 rfl h.le.2.2 (Or.inl hF) h.br rfl dX9_readsWord_86 ?_ (fun E q S hT => rc_out hC hH.2.2.2.2 hT)
    intro x7 S h
    show rc_Z Y S 89 [some (rc_q (some (rc_km (yr_K Y) 100))), some (rc_i v1)] [rc_i x7]
    obtain ⟨hn, h⟩ := h.nar
    exact rc_iret hC rfl hn dX9_readsWord_89 h rfl
  rcases h.ite with ⟨hc, h⟩ | ⟨hc6, h⟩
  · refine rc_tableIn (pc := 1) (tgt := 90) hC (off := 89) dX9_readsWord_1 (by rw [hc]; decide) (by rw [hc]; decide) (by rw [hc]; rfl) rfl ?_
    refine rc_aload_n (pc := 90) hC dX9_readsWord_90 rfl rfl ?_
    refine rc_callM (pc := 91) hC (rw_X9_readsChase hH.1) q2197 q2199 qs70 q149 q2200 rfl rd_X9_readsChase (hH.room (Nat.le_of_ble_eq_true rfl) (Nat.le_of_ble_eq_true rfl)) rfl rfl (Nat.le_of_ble_eq_true rfl) 0 rfl h.le.2.2 (Or.inl hF) h.br rfl dX9_readsWord_91 ?_ (fun E q S hT => rc_out hC hH.2.2.2.2 hT)
    intro x8 S h
    show rc_Z Y S 94 [some (rc_q (some (rc_km (yr_K Y) 100))), some (rc_i v1)] [rc_i x8]
    obtain ⟨hn, h⟩ := h.nar
    exact rc_iret hC rfl hn dX9_readsWord_94 h rfl
  rcases h.ite with ⟨hc, h⟩ | ⟨hc7, h⟩
  · refine rc_tableIn (pc := 1) (tgt := 95) hC (off := 94) dX9_readsWord_1 (by rw [hc]; decide) (by rw [hc]; decide) (by rw [hc]; rfl) rfl ?_
    refine rc_aload_n (pc := 95) hC dX9_readsWord_95 rfl rfl ?_
    refine rc_callM (pc := 96) hC (rw_X9_readsTruce hH.1) q2225 q2227 qs77 q149 q2228 rfl rd_X9_readsTruce (hH.room (Nat.le_of_ble_eq_true rfl) (Nat.le_of_ble_eq_true rfl)) rfl rfl (Nat.le_of_ble_eq_true rfl) 0 rfl h.le.2.2 (Or.inl hF) h.br rfl dX9_readsWord_96 ?_ (fun E q S hT => rc_out hC hH.2.2.2.2 hT)
    intro x9 S h
    show rc_Z Y S 99 [some (rc_q (some (rc_km (yr_K Y) 100))), some (rc_i v1)] [rc_i x9]
    obtain ⟨hn, h⟩ := h.nar
    exact rc_iret hC rfl hn dX9_readsWord_99 h rfl
  rcases h.ite with ⟨hc, h⟩ | ⟨hc8, h⟩
  · refine rc_tableIn (pc := 1) (tgt := 100) hC (off := 99) dX9_readsWord_1 (by rw [hc]; decide) (by rw [hc]; decide) (by rw [hc]; rfl) rfl ?_
    refine rc_aload_n (pc := 100) hC dX9_readsWord_100 rfl rfl ?_
    refine rc_callM (pc := 101) hC (rw_X9_readsKitten hH.1) q2237 q2239 qs80 q149 q2240 rfl rd_X9_readsKitten (hH.room (Nat.le_of_ble_eq_true rfl) (Nat.le_of_ble_eq_true rfl)) rfl rfl (Nat.le_of_ble_eq_true rfl) 0 rfl h.le.2.2 (Or.inl hF) h.br rfl dX9_readsWord_101 ?_ (fun E q S hT => rc_out hC hH.2.2.2.2 hT)
    intro x10 S h
    show rc_Z Y S 104 [some (rc_q (some (rc_km (yr_K Y) 100))), some (rc_i v1)] [rc_i x10]
    obtain ⟨hn, h⟩ := h.nar
    exact rc_iret hC rfl hn dX9_readsWord_104 h rfl
  rcases h.ite with ⟨hc, h⟩ | ⟨hc9, h⟩
  · refine rc_tableIn (pc := 1) (tgt := 105) hC (off := 104) dX9_readsWord_1 (by rw [hc]; decide) (by rw [hc]; decide) (by rw [hc]; rfl) rfl ?_
    refine rc_aload_n (pc := 105) hC dX9_readsWord_105 rfl rfl ?_
    refine rc_iconst (pc := 106) hC (v := (1 : Int32)) dX9_readsWord_106 rfl ?_
    refine rc_callM (pc := 107) hC (rw_X9_readsVote hH.1 (1 : Int32)) q2253 q2255 qs84 q149 q2256 rfl rd_X9_readsVote (hH.room (Nat.le_of_ble_eq_true rfl) (Nat.le_of_ble_eq_true rfl)) rfl rfl (Nat.le_of_ble_eq_true rfl) 1 rfl h.le.2.2 (Or.inl hF) h.br rfl dX9_readsWord_107 ?_ (fun E q S hT => rc_out hC hH.2.2.2.2 hT)
    intro x11 S h
    show rc_Z Y S 110 [some (rc_q (some (rc_km (yr_K Y) 100))), some (rc_i v1)] [rc_i x11]
    obtain ⟨hn, h⟩ := h.nar
    exact rc_iret hC rfl hn dX9_readsWord_110 h rfl
  rcases h.ite with ⟨hc, h⟩ | ⟨hc10, h⟩
  · refine rc_tableIn (pc := 1) (tgt := 111) hC (off := 110) dX9_readsWord_1 (by rw [hc]; decide) (by rw [hc]; decide) (by rw [hc]; rfl) rfl ?_
    refine rc_aload_n (pc := 111) hC dX9_readsWord_111 rfl rfl ?_
    refine rc_iconst (pc := 112) hC (v := (0 : Int32)) dX9_readsWord_112 rfl ?_
    refine rc_callM (pc := 113) hC (rw_X9_readsVote hH.1 (0 : Int32)) q2253 q2255 qs84 q149 q2256 rfl rd_X9_readsVote (hH.room (Nat.le_of_ble_eq_true rfl) (Nat.le_of_ble_eq_true rfl)) rfl rfl (Nat.le_of_ble_eq_true rfl) 1 rfl h.le.2.2 (Or.inl hF) h.br rfl dX9_readsWord_113 ?_ (fun E q S hT => rc_out hC hH.2.2.2.2 hT)
    intro x12 S h
    show rc_Z Y S 116 [some (rc_q (some (rc_km (yr_K Y) 100))), some (rc_i v1)] [rc_i x12]
    obtain ⟨hn, h⟩ := h.nar
    exact rc_iret hC rfl hn dX9_readsWord_116 h rfl
  have hout : (v1).toInt < 0 ∨ 10 < (v1).toInt := by
    have hq0 : (v1).toInt ≠ 0 := fun e => hc0 (Int32.toInt_inj.mp (e.trans rfl))
    have hq1 : (v1).toInt ≠ 1 := fun e => hc1 (Int32.toInt_inj.mp (e.trans rfl))
    have hq2 : (v1).toInt ≠ 2 := fun e => hc2 (Int32.toInt_inj.mp (e.trans rfl))
    have hq3 : (v1).toInt ≠ 3 := fun e => hc3 (Int32.toInt_inj.mp (e.trans rfl))
    have hq4 : (v1).toInt ≠ 4 := fun e => hc4 (Int32.toInt_inj.mp (e.trans rfl))
    have hq5 : (v1).toInt ≠ 5 := fun e => hc5 (Int32.toInt_inj.mp (e.trans rfl))
    have hq6 : (v1).toInt ≠ 6 := fun e => hc6 (Int32.toInt_inj.mp (e.trans rfl))
    have hq7 : (v1).toInt ≠ 7 := fun e => hc7 (Int32.toInt_inj.mp (e.trans rfl))
    have hq8 : (v1).toInt ≠ 8 := fun e => hc8 (Int32.toInt_inj.mp (e.trans rfl))
    have hq9 : (v1).toInt ≠ 9 := fun e => hc9 (Int32.toInt_inj.mp (e.trans rfl))
    have hq10 : (v1).toInt ≠ 10 := fun e => hc10 (Int32.toInt_inj.mp (e.trans rfl))
    omega
  refine rc_tableOut (pc := 1) (tgt := 117) hC dX9_readsWord_1 hout rfl ?_
  refine rc_aload_n (pc := 117) hC dX9_readsWord_117 rfl rfl ?_
  refine rc_callM (pc := 118) hC (rw_X9_readsNights hH.1) q2276 q2278 qs89 q149 q2279 rfl rd_X9_readsNights (hH.room (Nat.le_of_ble_eq_true rfl) (Nat.le_of_ble_eq_true rfl)) rfl rfl (Nat.le_of_ble_eq_true rfl) 0 rfl h.le.2.2 (Or.inl hF) h.br rfl dX9_readsWord_118 ?_ (fun E q S hT => rc_out hC hH.2.2.2.2 hT)
  intro x1 S h
  show rc_Z Y S 121 [some (rc_q (some (rc_km (yr_K Y) 100))), some (rc_i v1)] [rc_i x1]
  obtain ⟨hn, h⟩ := h.nar
  exact rc_iret hC rfl hn dX9_readsWord_121 h rfl
theorem rw_X9_readsRepeat_q0_L51 {Y : rc_Y} (hC : rc_C Y cX9_readsRepeat RX9 (Option.some Jvm.ClassFile.FieldType.boolean) 5) (hH : rc_H Y 3 65 yX9_readsRepeat.name) (hF : yr_F Y = true) {k36 : Int32 → Int32 → Int32 → Int32 → rc_M Int32} (hk36 : ∀ (v1 : Int32) (v2 : Int32) (v3 : Int32) (v4 : Int32) (S : rc_S), rc_Go Y rc_tI (k36 v1 v2 v3 v4) S → rc_Z Y S 36 [some (rc_q (some (rc_km (yr_K Y) 100))), some (rc_i v1), some (rc_i v2), some (rc_i v3), some (rc_i v4)] []) : ∀ (n : Nat) (v1 : Int32) (v2 : Int32) (v3 : Int32) (v4 : Int32) (S : rc_S), rc_Go Y rc_tI (rp_X9_readsRepeat_L51 (fun _ => rc_fail) k36 n v1 v2 v3 v4) S → rc_Z Y S 51 [some (rc_q (some (rc_km (yr_K Y) 100))), some (rc_i v1), some (rc_i v2), some (rc_i v3), some (rc_i v4)] [] := by
  intro n
  induction n with
  | zero => intro v1 v2 v3 v4 S h; exact h.fail.elim
  | succ n ih =>
    intro v1 v2 v3 v4 S h
    rw [rp_X9_readsRepeat_L51] at h
    refine rc_aload_n (pc := 51) hC dX9_readsRepeat_51 rfl rfl ?_
    refine rc_r_mget (pc := 52) hC hF rF_X9_170 rfl dX9_readsRepeat_52 h ?_
    intro x1 h
    refine rc_iconst (pc := 55) hC (v := (5 : Int32)) dX9_readsRepeat_55 rfl ?_
    refine rc_icmp_eq (pc := 56) (tgt := 78) hC dX9_readsRepeat_56 rfl h ?_ ?_
    · intro _ h
      refine rc_iinc (pc := 78) hC (v := (v4 + (1 : Int32))) (L' := [some (rc_q (some (rc_km (yr_K Y) 100))), some (rc_i v1), some (rc_i v2), some (rc_i v3), some (rc_i (v4 + (1 : Int32)))]) dX9_readsRepeat_78 rfl rfl rfl rfl ?_
      refine rc_goto (pc := 81) (tgt := 36) hC dX9_readsRepeat_81 rfl ?_
      exact hk36 v1 v2 v3 (v4 + (1 : Int32)) S h
    intro _ h
    refine rc_aload_n (pc := 59) hC dX9_readsRepeat_59 rfl rfl ?_
    refine rc_iload_n (pc := 60) hC dX9_readsRepeat_60 rfl rfl ?_
    refine rc_iconst (pc := 61) hC (v := (1 : Int32)) dX9_readsRepeat_61 rfl ?_
    refine rc_iadd (pc := 62) hC dX9_readsRepeat_62 ?_
    exact (rc_Go.bfail h).elim
theorem rw_X9_readsRepeat_q0_L36 {Y : rc_Y} (hC : rc_C Y cX9_readsRepeat RX9 (Option.some Jvm.ClassFile.FieldType.boolean) 5) (hH : rc_H Y 3 65 yX9_readsRepeat.name) (hF : yr_F Y = true) : ∀ (n : Nat) (v1 : Int32) (v2 : Int32) (v3 : Int32) (v4 : Int32) (S : rc_S), rc_Go Y rc_tI (rp_X9_readsRepeat_L36 (fun _ => rc_fail)  n v1 v2 v3 v4) S → rc_Z Y S 36 [some (rc_q (some (rc_km (yr_K Y) 100))), some (rc_i v1), some (rc_i v2), some (rc_i v3), some (rc_i v4)] [] := by
  intro n
  induction n with
  | zero => intro v1 v2 v3 v4 S h; exact h.fail.elim
  | succ n ih =>
    intro v1 v2 v3 v4 S h
    rw [rp_X9_readsRepeat_L36] at h
    refine rc_iload (pc := 36) hC dX9_readsRepeat_36 rfl ?_
    refine rc_iload_n (pc := 38) hC dX9_readsRepeat_38 rfl rfl ?_
    refine rc_icmp_ge (pc := 39) (tgt := 84) hC dX9_readsRepeat_39 rfl h ?_ ?_
    · intro _ h
      refine rc_aload_n (pc := 84) hC dX9_readsRepeat_84 rfl rfl ?_
      refine rc_callM (pc := 85) hC (rw_X9_next hH.1) q2016 q2018 qs30 q149 q2019 rfl rd_X9_next (hH.room (Nat.le_of_ble_eq_true rfl) (Nat.le_of_ble_eq_true rfl)) rfl rfl (Nat.le_of_ble_eq_true rfl) 0 rfl h.le.2.2 (Or.inl hF) h.br rfl dX9_readsRepeat_85 ?_ (fun E q S hT => rc_out hC hH.2.2.2.2 hT)
      intro _ S h
      show rc_Z Y S 88 [some (rc_q (some (rc_km (yr_K Y) 100))), some (rc_i v1), some (rc_i v2), some (rc_i v3), some (rc_i v4)] []
      refine rc_aload_n (pc := 88) hC dX9_readsRepeat_88 rfl rfl ?_
      refine rc_iconst (pc := 89) hC (v := (1 : Int32)) dX9_readsRepeat_89 rfl ?_
      refine rc_callM (pc := 90) hC (rw_X9_is hH.1 (1 : Int32)) q2036 q2038 qs34 q149 q2039 rfl rd_X9_is (hH.room (Nat.le_of_ble_eq_true rfl) (Nat.le_of_ble_eq_true rfl)) rfl rfl (Nat.le_of_ble_eq_true rfl) 1 rfl h.le.2.2 (Or.inl hF) h.br rfl dX9_readsRepeat_90 ?_ (fun E q S hT => rc_out hC hH.2.2.2.2 hT)
      intro x1 S h
      show rc_Z Y S 93 [some (rc_q (some (rc_km (yr_K Y) 100))), some (rc_i v1), some (rc_i v2), some (rc_i v3), some (rc_i v4)] [rc_i x1]
      obtain ⟨hn, h⟩ := h.nar
      exact rc_iret hC rfl hn dX9_readsRepeat_93 h rfl
    intro _ h
    refine rc_aload_n (pc := 42) hC dX9_readsRepeat_42 rfl rfl ?_
    refine rc_iload_n (pc := 43) hC dX9_readsRepeat_43 rfl rfl ?_
    refine rc_r_mput (pc := 44) hC (Or.inl hF) rP_X9_164 rfl dX9_readsRepeat_44 h ?_
    intro S h
    refine rc_aload_n (pc := 47) hC dX9_readsRepeat_47 rfl rfl ?_
    refine rc_callM (pc := 48) hC (rw_X9_next hH.1) q2016 q2018 qs30 q149 q2019 rfl rd_X9_next (hH.room (Nat.le_of_ble_eq_true rfl) (Nat.le_of_ble_eq_true rfl)) rfl rfl (Nat.le_of_ble_eq_true rfl) 0 rfl h.le.2.2 (Or.inl hF) h.br rfl dX9_readsRepeat_48 ?_ (fun E q S hT => rc_out hC hH.2.2.2.2 hT)
    intro _ S h
    show rc_Z Y S 51 [some (rc_q (some (rc_km (yr_K Y) 100))), some (rc_i v1), some (rc_i v2), some (rc_i v3), some (rc_i v4)] []
    refine rc_r_fuel h ?_
    intro x2 h
    exact rw_X9_readsRepeat_q0_L51 hC hH hF ih x2 v1 v2 v3 v4 S h
theorem rw_X9_readsRepeat_q0 {l : Launch} (hl : l.stackTraces = false) (v1 : Int32) : rc_Cm l yX9_readsRepeat (ws_ yX9_readsRepeat cX9_readsRepeat 5 (Option.some Jvm.ClassFile.FieldType.boolean)) 3 65 rc_tI (rp_X9_readsRepeat (fun _ => rc_fail) v1) [rc_i v1] := by
  refine rc_Cm_H hl (plainFor_of_name rY_X9) rfl (Nat.le_of_ble_eq_true rfl) ?_
  intro Y S hC hH hF h
  have hC : rc_C Y cX9_readsRepeat RX9 (Option.some Jvm.ClassFile.FieldType.boolean) 5 := hC
  show rc_Z Y S 0 [some (rc_q (some (rc_km (yr_K Y) 100))), some (rc_i v1), none, none, none] []
  unfold rp_X9_readsRepeat at h
  refine rc_aload_n (pc := 0) hC dX9_readsRepeat_0 rfl rfl ?_
  refine rc_iconst (pc := 1) hC (v := (0 : Int32)) dX9_readsRepeat_1 rfl ?_
  refine rc_iconst (pc := 2) hC (v := (1 : Int32)) dX9_readsRepeat_2 rfl ?_
  refine rc_bipush (pc := 3) hC (v := (20 : Int32)) dX9_readsRepeat_3 rfl ?_
  refine rc_callM (pc := 5) hC (rw_X9_number hH.1 (0 : Int32) (1 : Int32) (20 : Int32)) q2069 q2071 qs39 q149 q2072 rfl rd_X9_number (hH.room (Nat.le_of_ble_eq_true rfl) (Nat.le_of_ble_eq_true rfl)) rfl rfl (Nat.le_of_ble_eq_true rfl) 3 rfl h.le.2.2 (Or.inl hF) h.br rfl dX9_readsRepeat_5 ?_ (fun E q S hT => rc_out hC hH.2.2.2.2 hT)
  intro x1 S h
  show rc_Z Y S 8 [some (rc_q (some (rc_km (yr_K Y) 100))), some (rc_i v1), none, none, none] [rc_i x1]
  refine rc_if_eq (pc := 8) (tgt := 19) hC dX9_readsRepeat_8 rfl h ?_ ?_
  · intro _ h
    refine rc_iconst (pc := 19) hC (v := (0 : Int32)) dX9_readsRepeat_19 rfl ?_
    exact rc_iret hC rfl rfl dX9_readsRepeat_20 h rfl
  intro _ h
  refine rc_aload_n (pc := 11) hC dX9_readsRepeat_11 rfl rfl ?_
  refine rc_iconst (pc := 12) hC (v := (4 : Int32)) dX9_readsRepeat_12 rfl ?_
  refine rc_callM (pc := 13) hC (rw_X9_is hH.1 (4 : Int32)) q2036 q2038 qs34 q149 q2039 rfl rd_X9_is (hH.room (Nat.le_of_ble_eq_true rfl) (Nat.le_of_ble_eq_true rfl)) rfl rfl (Nat.le_of_ble_eq_true rfl) 1 rfl h.le.2.2 (Or.inl hF) h.br rfl dX9_readsRepeat_13 ?_ (fun E q S hT => rc_out hC hH.2.2.2.2 hT)
  intro x2 S h
  show rc_Z Y S 16 [some (rc_q (some (rc_km (yr_K Y) 100))), some (rc_i v1), none, none, none] [rc_i x2]
  refine rc_if_ne (pc := 16) (tgt := 21) hC dX9_readsRepeat_16 rfl h ?_ ?_
  · intro _ h
    refine rc_aload_n (pc := 21) hC dX9_readsRepeat_21 rfl rfl ?_
    refine rc_r_mref (pc := 22) hC hF rF_X9_42 (by decide) dX9_readsRepeat_22 h ?_
    refine rc_iconst (pc := 25) hC (v := (0 : Int32)) dX9_readsRepeat_25 rfl ?_
    refine rc_r_mald (pc := 26) hC hF (j := 22) (by decide) rfl dX9_readsRepeat_26 h ?_
    intro x4 h
    refine rc_istore_n (pc := 27) hC (L' := [some (rc_q (some (rc_km (yr_K Y) 100))), some (rc_i v1), some (rc_i x4), none, none]) dX9_readsRepeat_27 rfl (Nat.le_of_ble_eq_true rfl) rfl rfl ?_
    refine rc_aload_n (pc := 28) hC dX9_readsRepeat_28 rfl rfl ?_
    refine rc_r_mget (pc := 29) hC hF rF_X9_164 rfl dX9_readsRepeat_29 h ?_
    intro x5 h
    refine rc_istore_n (pc := 32) hC (L' := [some (rc_q (some (rc_km (yr_K Y) 100))), some (rc_i v1), some (rc_i x4), some (rc_i x5), none]) dX9_readsRepeat_32 rfl (Nat.le_of_ble_eq_true rfl) rfl rfl ?_
    refine rc_iconst (pc := 33) hC (v := (0 : Int32)) dX9_readsRepeat_33 rfl ?_
    refine rc_istore (pc := 34) hC (L' := [some (rc_q (some (rc_km (yr_K Y) 100))), some (rc_i v1), some (rc_i x4), some (rc_i x5), some (rc_i (0 : Int32))]) dX9_readsRepeat_34 (Nat.le_of_ble_eq_true rfl) rfl rfl ?_
    refine rc_r_fuel h ?_
    intro x6 h
    exact rw_X9_readsRepeat_q0_L36 hC hH hF  x6 v1 x4 x5 (0 : Int32) S h
  intro _ h
  refine rc_iconst (pc := 19) hC (v := (0 : Int32)) dX9_readsRepeat_19 rfl ?_
  exact rc_iret hC rfl rfl dX9_readsRepeat_20 h rfl
theorem rw_X9_readsCommand_q0 {l : Launch} (hl : l.stackTraces = false) (v1 : Int32) : rc_Cm l yX9_readsCommand (ws_ yX9_readsCommand cX9_readsCommand 3 (Option.some Jvm.ClassFile.FieldType.boolean)) 9 204 rc_tI (rp_X9_readsCommand rp_X9_readsRepeat_q0 v1) [rc_i v1] := by
  refine rc_Cm_H hl (plainFor_of_name rY_X9) rfl (Nat.le_of_ble_eq_true rfl) ?_
  intro Y S hC hH hF h
  have hC : rc_C Y cX9_readsCommand RX9 (Option.some Jvm.ClassFile.FieldType.boolean) 3 := hC
  show rc_Z Y S 0 [some (rc_q (some (rc_km (yr_K Y) 100))), some (rc_i v1), none] []
  unfold rp_X9_readsCommand at h
  refine rc_aload_n (pc := 0) hC dX9_readsCommand_0 rfl rfl ?_
  refine rc_callM (pc := 1) hC (rw_X9_wordAhead hH.1) q2044 q2046 qs36 q149 q2047 rfl rd_X9_wordAhead (hH.room (Nat.le_of_ble_eq_true rfl) (Nat.le_of_ble_eq_true rfl)) rfl rfl (Nat.le_of_ble_eq_true rfl) 0 rfl h.le.2.2 (Or.inl hF) h.br rfl dX9_readsCommand_1 ?_ (fun E q S hT => rc_out hC hH.2.2.2.2 hT)
  intro x1 S h
  show rc_Z Y S 4 [some (rc_q (some (rc_km (yr_K Y) 100))), some (rc_i v1), none] [rc_i x1]
  refine rc_istore_n (pc := 4) hC (L' := [some (rc_q (some (rc_km (yr_K Y) 100))), some (rc_i v1), some (rc_i x1)]) dX9_readsCommand_4 rfl (Nat.le_of_ble_eq_true rfl) rfl rfl ?_
  refine rc_iload_n (pc := 5) hC dX9_readsCommand_5 rfl rfl ?_
  refine rc_iconst (pc := 6) hC (v := (-1 : Int32)) dX9_readsCommand_6 rfl ?_
  refine rc_icmp_ne (pc := 7) (tgt := 16) hC dX9_readsCommand_7 rfl h ?_ ?_
  · intro _ h
    refine rc_iload_n (pc := 16) hC dX9_readsCommand_16 rfl rfl ?_
    refine rc_bipush (pc := 17) hC (v := (12 : Int32)) dX9_readsCommand_17 rfl ?_
    refine rc_icmp_ne (pc := 19) (tgt := 43) hC dX9_readsCommand_19 rfl h ?_ ?_
    · intro _ h
      refine rc_aload_n (pc := 43) hC dX9_readsCommand_43 rfl rfl ?_
      refine rc_r_mget (pc := 44) hC hF rF_X9_305 rfl dX9_readsCommand_44 h ?_
      intro x2 h
      refine rc_sipush (pc := 47) hC (v := (200 : Int32)) dX9_readsCommand_47 rfl ?_
      refine rc_icmp_ne (pc := 50) (tgt := 59) hC dX9_readsCommand_50 rfl h ?_ ?_
      · intro _ h
        refine rc_aload_n (pc := 59) hC dX9_readsCommand_59 rfl rfl ?_
        refine rc_dup (pc := 60) hC dX9_readsCommand_60 rfl ?_
        refine rc_r_mget (pc := 61) hC hF rF_X9_305 rfl dX9_readsCommand_61 h ?_
        intro x3 h
        refine rc_iconst (pc := 64) hC (v := (1 : Int32)) dX9_readsCommand_64 rfl ?_
        refine rc_iadd (pc := 65) hC dX9_readsCommand_65 ?_
        refine rc_r_mput (pc := 66) hC (Or.inl hF) rP_X9_305 rfl dX9_readsCommand_66 h ?_
        intro S h
        refine rc_aload_n (pc := 69) hC dX9_readsCommand_69 rfl rfl ?_
        refine rc_callM (pc := 70) hC (rw_X9_next hH.1) q2016 q2018 qs30 q149 q2019 rfl rd_X9_next (hH.room (Nat.le_of_ble_eq_true rfl) (Nat.le_of_ble_eq_true rfl)) rfl rfl (Nat.le_of_ble_eq_true rfl) 0 rfl h.le.2.2 (Or.inl hF) h.br rfl dX9_readsCommand_70 ?_ (fun E q S hT => rc_out hC hH.2.2.2.2 hT)
        intro _ S h
        show rc_Z Y S 73 [some (rc_q (some (rc_km (yr_K Y) 100))), some (rc_i v1), some (rc_i x1)] []
        refine rc_aload_n (pc := 73) hC dX9_readsCommand_73 rfl rfl ?_
        refine rc_iload_n (pc := 74) hC dX9_readsCommand_74 rfl rfl ?_
        refine rc_callM (pc := 75) hC (rw_X9_readsWord hH.1 x1) q2076 q2078 qs40 q149 q2079 rfl rd_X9_readsWord (hH.room (Nat.le_of_ble_eq_true rfl) (Nat.le_of_ble_eq_true rfl)) rfl rfl (Nat.le_of_ble_eq_true rfl) 1 rfl h.le.2.2 (Or.inl hF) h.br rfl dX9_readsCommand_75 ?_ (fun E q S hT => rc_out hC hH.2.2.2.2 hT)
        intro x4 S h
        show rc_Z Y S 78 [some (rc_q (some (rc_km (yr_K Y) 100))), some (rc_i v1), some (rc_i x1)] [rc_i x4]
        obtain ⟨hn, h⟩ := h.nar
        exact rc_iret hC rfl hn dX9_readsCommand_78 h rfl
      intro _ h
      refine rc_aload_n (pc := 53) hC dX9_readsCommand_53 rfl rfl ?_
      refine rc_iconst (pc := 54) hC (v := (5 : Int32)) dX9_readsCommand_54 rfl ?_
      refine rc_callM (pc := 55) hC (rw_X9_fail hH.1 (5 : Int32)) q2032 q2034 qs33 q149 q2035 rfl rd_X9_fail (hH.room (Nat.le_of_ble_eq_true rfl) (Nat.le_of_ble_eq_true rfl)) rfl rfl (Nat.le_of_ble_eq_true rfl) 1 rfl h.le.2.2 (Or.inl hF) h.br rfl dX9_readsCommand_55 ?_ (fun E q S hT => rc_out hC hH.2.2.2.2 hT)
      intro x5 S h
      show rc_Z Y S 58 [some (rc_q (some (rc_km (yr_K Y) 100))), some (rc_i v1), some (rc_i x1)] [rc_i x5]
      obtain ⟨hn, h⟩ := h.nar
      exact rc_iret hC rfl hn dX9_readsCommand_58 h rfl
    intro _ h
    refine rc_iload_n (pc := 22) hC dX9_readsCommand_22 rfl rfl ?_
    refine rc_iconst (pc := 23) hC (v := (2 : Int32)) dX9_readsCommand_23 rfl ?_
    refine rc_icmp_ne (pc := 24) (tgt := 33) hC dX9_readsCommand_24 rfl h ?_ ?_
    · intro _ h
      refine rc_aload_n (pc := 33) hC dX9_readsCommand_33 rfl rfl ?_
      refine rc_callM (pc := 34) hC (rw_X9_next hH.1) q2016 q2018 qs30 q149 q2019 rfl rd_X9_next (hH.room (Nat.le_of_ble_eq_true rfl) (Nat.le_of_ble_eq_true rfl)) rfl rfl (Nat.le_of_ble_eq_true rfl) 0 rfl h.le.2.2 (Or.inl hF) h.br rfl dX9_readsCommand_34 ?_ (fun E q S hT => rc_out hC hH.2.2.2.2 hT)
      intro _ S h
      show rc_Z Y S 37 [some (rc_q (some (rc_km (yr_K Y) 100))), some (rc_i v1), some (rc_i x1)] []
      refine rc_aload_n (pc := 37) hC dX9_readsCommand_37 rfl rfl ?_
      refine rc_iload_n (pc := 38) hC dX9_readsCommand_38 rfl rfl ?_
      refine rc_callM (pc := 39) hC (rw_X9_readsRepeat_q0 hH.1 v1) q2065 q2067 qs38 q149 q2068 rfl rd_X9_readsRepeat (hH.room (Nat.le_of_ble_eq_true rfl) (Nat.le_of_ble_eq_true rfl)) rfl rfl (Nat.le_of_ble_eq_true rfl) 1 rfl h.le.2.2 (Or.inl hF) h.br rfl dX9_readsCommand_39 ?_ (fun E q S hT => rc_out hC hH.2.2.2.2 hT)
      intro x6 S h
      show rc_Z Y S 42 [some (rc_q (some (rc_km (yr_K Y) 100))), some (rc_i v1), some (rc_i x1)] [rc_i x6]
      obtain ⟨hn, h⟩ := h.nar
      exact rc_iret hC rfl hn dX9_readsCommand_42 h rfl
    intro _ h
    refine rc_aload_n (pc := 27) hC dX9_readsCommand_27 rfl rfl ?_
    refine rc_iconst (pc := 28) hC (v := (4 : Int32)) dX9_readsCommand_28 rfl ?_
    refine rc_callM (pc := 29) hC (rw_X9_fail hH.1 (4 : Int32)) q2032 q2034 qs33 q149 q2035 rfl rd_X9_fail (hH.room (Nat.le_of_ble_eq_true rfl) (Nat.le_of_ble_eq_true rfl)) rfl rfl (Nat.le_of_ble_eq_true rfl) 1 rfl h.le.2.2 (Or.inl hF) h.br rfl dX9_readsCommand_29 ?_ (fun E q S hT => rc_out hC hH.2.2.2.2 hT)
    intro x7 S h
    show rc_Z Y S 32 [some (rc_q (some (rc_km (yr_K Y) 100))), some (rc_i v1), some (rc_i x1)] [rc_i x7]
    obtain ⟨hn, h⟩ := h.nar
    exact rc_iret hC rfl hn dX9_readsCommand_32 h rfl
  intro _ h
  refine rc_aload_n (pc := 10) hC dX9_readsCommand_10 rfl rfl ?_
  refine rc_iconst (pc := 11) hC (v := (1 : Int32)) dX9_readsCommand_11 rfl ?_
  refine rc_callM (pc := 12) hC (rw_X9_fail hH.1 (1 : Int32)) q2032 q2034 qs33 q149 q2035 rfl rd_X9_fail (hH.room (Nat.le_of_ble_eq_true rfl) (Nat.le_of_ble_eq_true rfl)) rfl rfl (Nat.le_of_ble_eq_true rfl) 1 rfl h.le.2.2 (Or.inl hF) h.br rfl dX9_readsCommand_12 ?_ (fun E q S hT => rc_out hC hH.2.2.2.2 hT)
  intro x8 S h
  show rc_Z Y S 15 [some (rc_q (some (rc_km (yr_K Y) 100))), some (rc_i v1), some (rc_i x1)] [rc_i x8]
  obtain ⟨hn, h⟩ := h.nar
  exact rc_iret hC rfl hn dX9_readsCommand_15 h rfl
theorem rw_X9_readsRepeat_q1_L51 {Y : rc_Y} (hC : rc_C Y cX9_readsRepeat RX9 (Option.some Jvm.ClassFile.FieldType.boolean) 5) (hH : rc_H Y 10 226 yX9_readsRepeat.name) (hF : yr_F Y = true) {k36 : Int32 → Int32 → Int32 → Int32 → rc_M Int32} (hk36 : ∀ (v1 : Int32) (v2 : Int32) (v3 : Int32) (v4 : Int32) (S : rc_S), rc_Go Y rc_tI (k36 v1 v2 v3 v4) S → rc_Z Y S 36 [some (rc_q (some (rc_km (yr_K Y) 100))), some (rc_i v1), some (rc_i v2), some (rc_i v3), some (rc_i v4)] []) : ∀ (n : Nat) (v1 : Int32) (v2 : Int32) (v3 : Int32) (v4 : Int32) (S : rc_S), rc_Go Y rc_tI (rp_X9_readsRepeat_L51 rp_X9_readsCommand_q0 k36 n v1 v2 v3 v4) S → rc_Z Y S 51 [some (rc_q (some (rc_km (yr_K Y) 100))), some (rc_i v1), some (rc_i v2), some (rc_i v3), some (rc_i v4)] [] := by
  intro n
  induction n with
  | zero => intro v1 v2 v3 v4 S h; exact h.fail.elim
  | succ n ih =>
    intro v1 v2 v3 v4 S h
    rw [rp_X9_readsRepeat_L51] at h
    refine rc_aload_n (pc := 51) hC dX9_readsRepeat_51 rfl rfl ?_
    refine rc_r_mget (pc := 52) hC hF rF_X9_170 rfl dX9_readsRepeat_52 h ?_
    intro x1 h
    refine rc_iconst (pc := 55) hC (v := (5 : Int32)) dX9_readsRepeat_55 rfl ?_
    refine rc_icmp_eq (pc := 56) (tgt := 78) hC dX9_readsRepeat_56 rfl h ?_ ?_
    · intro _ h
      refine rc_iinc (pc := 78) hC (v := (v4 + (1 : Int32))) (L' := [some (rc_q (some (rc_km (yr_K Y) 100))), some (rc_i v1), some (rc_i v2), some (rc_i v3), some (rc_i (v4 + (1 : Int32)))]) dX9_readsRepeat_78 rfl rfl rfl rfl ?_
      refine rc_goto (pc := 81) (tgt := 36) hC dX9_readsRepeat_81 rfl ?_
      exact hk36 v1 v2 v3 (v4 + (1 : Int32)) S h
    intro _ h
    refine rc_aload_n (pc := 59) hC dX9_readsRepeat_59 rfl rfl ?_
    refine rc_iload_n (pc := 60) hC dX9_readsRepeat_60 rfl rfl ?_
    refine rc_iconst (pc := 61) hC (v := (1 : Int32)) dX9_readsRepeat_61 rfl ?_
    refine rc_iadd (pc := 62) hC dX9_readsRepeat_62 ?_
    refine rc_callM (pc := 63) hC (rw_X9_readsCommand_q0 hH.1 (v1 + (1 : Int32))) q2040 q2042 qs35 q149 q2043 rfl rd_X9_readsCommand (hH.room (Nat.le_of_ble_eq_true rfl) (Nat.le_of_ble_eq_true rfl)) rfl rfl (Nat.le_of_ble_eq_true rfl) 1 rfl h.le.2.2 (Or.inl hF) h.br rfl dX9_readsRepeat_63 ?_ (fun E q S hT => rc_out hC hH.2.2.2.2 hT)
    intro x2 S h
    show rc_Z Y S 66 [some (rc_q (some (rc_km (yr_K Y) 100))), some (rc_i v1), some (rc_i v2), some (rc_i v3), some (rc_i v4)] [rc_i x2]
    refine rc_if_ne (pc := 66) (tgt := 71) hC dX9_readsRepeat_66 rfl h ?_ ?_
    · intro _ h
      refine rc_aload_n (pc := 71) hC dX9_readsRepeat_71 rfl rfl ?_
      refine rc_callM (pc := 72) hC (rw_X9_next hH.1) q2016 q2018 qs30 q149 q2019 rfl rd_X9_next (hH.room (Nat.le_of_ble_eq_true rfl) (Nat.le_of_ble_eq_true rfl)) rfl rfl (Nat.le_of_ble_eq_true rfl) 0 rfl h.le.2.2 (Or.inl hF) h.br rfl dX9_readsRepeat_72 ?_ (fun E q S hT => rc_out hC hH.2.2.2.2 hT)
      intro _ S h
      show rc_Z Y S 75 [some (rc_q (some (rc_km (yr_K Y) 100))), some (rc_i v1), some (rc_i v2), some (rc_i v3), some (rc_i v4)] []
      refine rc_goto (pc := 75) (tgt := 51) hC dX9_readsRepeat_75 rfl ?_
      exact ih v1 v2 v3 v4 S h
    intro _ h
    refine rc_iconst (pc := 69) hC (v := (0 : Int32)) dX9_readsRepeat_69 rfl ?_
    exact rc_iret hC rfl rfl dX9_readsRepeat_70 h rfl
theorem rw_X9_readsRepeat_q1_L36 {Y : rc_Y} (hC : rc_C Y cX9_readsRepeat RX9 (Option.some Jvm.ClassFile.FieldType.boolean) 5) (hH : rc_H Y 10 226 yX9_readsRepeat.name) (hF : yr_F Y = true) : ∀ (n : Nat) (v1 : Int32) (v2 : Int32) (v3 : Int32) (v4 : Int32) (S : rc_S), rc_Go Y rc_tI (rp_X9_readsRepeat_L36 rp_X9_readsCommand_q0  n v1 v2 v3 v4) S → rc_Z Y S 36 [some (rc_q (some (rc_km (yr_K Y) 100))), some (rc_i v1), some (rc_i v2), some (rc_i v3), some (rc_i v4)] [] := by
  intro n
  induction n with
  | zero => intro v1 v2 v3 v4 S h; exact h.fail.elim
  | succ n ih =>
    intro v1 v2 v3 v4 S h
    rw [rp_X9_readsRepeat_L36] at h
    refine rc_iload (pc := 36) hC dX9_readsRepeat_36 rfl ?_
    refine rc_iload_n (pc := 38) hC dX9_readsRepeat_38 rfl rfl ?_
    refine rc_icmp_ge (pc := 39) (tgt := 84) hC dX9_readsRepeat_39 rfl h ?_ ?_
    · intro _ h
      refine rc_aload_n (pc := 84) hC dX9_readsRepeat_84 rfl rfl ?_
      refine rc_callM (pc := 85) hC (rw_X9_next hH.1) q2016 q2018 qs30 q149 q2019 rfl rd_X9_next (hH.room (Nat.le_of_ble_eq_true rfl) (Nat.le_of_ble_eq_true rfl)) rfl rfl (Nat.le_of_ble_eq_true rfl) 0 rfl h.le.2.2 (Or.inl hF) h.br rfl dX9_readsRepeat_85 ?_ (fun E q S hT => rc_out hC hH.2.2.2.2 hT)
      intro _ S h
      show rc_Z Y S 88 [some (rc_q (some (rc_km (yr_K Y) 100))), some (rc_i v1), some (rc_i v2), some (rc_i v3), some (rc_i v4)] []
      refine rc_aload_n (pc := 88) hC dX9_readsRepeat_88 rfl rfl ?_
      refine rc_iconst (pc := 89) hC (v := (1 : Int32)) dX9_readsRepeat_89 rfl ?_
      refine rc_callM (pc := 90) hC (rw_X9_is hH.1 (1 : Int32)) q2036 q2038 qs34 q149 q2039 rfl rd_X9_is (hH.room (Nat.le_of_ble_eq_true rfl) (Nat.le_of_ble_eq_true rfl)) rfl rfl (Nat.le_of_ble_eq_true rfl) 1 rfl h.le.2.2 (Or.inl hF) h.br rfl dX9_readsRepeat_90 ?_ (fun E q S hT => rc_out hC hH.2.2.2.2 hT)
      intro x1 S h
      show rc_Z Y S 93 [some (rc_q (some (rc_km (yr_K Y) 100))), some (rc_i v1), some (rc_i v2), some (rc_i v3), some (rc_i v4)] [rc_i x1]
      obtain ⟨hn, h⟩ := h.nar
      exact rc_iret hC rfl hn dX9_readsRepeat_93 h rfl
    intro _ h
    refine rc_aload_n (pc := 42) hC dX9_readsRepeat_42 rfl rfl ?_
    refine rc_iload_n (pc := 43) hC dX9_readsRepeat_43 rfl rfl ?_
    refine rc_r_mput (pc := 44) hC (Or.inl hF) rP_X9_164 rfl dX9_readsRepeat_44 h ?_
    intro S h
    refine rc_aload_n (pc := 47) hC dX9_readsRepeat_47 rfl rfl ?_
    refine rc_callM (pc := 48) hC (rw_X9_next hH.1) q2016 q2018 qs30 q149 q2019 rfl rd_X9_next (hH.room (Nat.le_of_ble_eq_true rfl) (Nat.le_of_ble_eq_true rfl)) rfl rfl (Nat.le_of_ble_eq_true rfl) 0 rfl h.le.2.2 (Or.inl hF) h.br rfl dX9_readsRepeat_48 ?_ (fun E q S hT => rc_out hC hH.2.2.2.2 hT)
    intro _ S h
    show rc_Z Y S 51 [some (rc_q (some (rc_km (yr_K Y) 100))), some (rc_i v1), some (rc_i v2), some (rc_i v3), some (rc_i v4)] []
    refine rc_r_fuel h ?_
    intro x2 h
    exact rw_X9_readsRepeat_q1_L51 hC hH hF ih x2 v1 v2 v3 v4 S h
theorem rw_X9_readsRepeat_q1 {l : Launch} (hl : l.stackTraces = false) (v1 : Int32) : rc_Cm l yX9_readsRepeat (ws_ yX9_readsRepeat cX9_readsRepeat 5 (Option.some Jvm.ClassFile.FieldType.boolean)) 10 226 rc_tI (rp_X9_readsRepeat rp_X9_readsCommand_q0 v1) [rc_i v1] := by
  refine rc_Cm_H hl (plainFor_of_name rY_X9) rfl (Nat.le_of_ble_eq_true rfl) ?_
  intro Y S hC hH hF h
  have hC : rc_C Y cX9_readsRepeat RX9 (Option.some Jvm.ClassFile.FieldType.boolean) 5 := hC
  show rc_Z Y S 0 [some (rc_q (some (rc_km (yr_K Y) 100))), some (rc_i v1), none, none, none] []
  unfold rp_X9_readsRepeat at h
  refine rc_aload_n (pc := 0) hC dX9_readsRepeat_0 rfl rfl ?_
  refine rc_iconst (pc := 1) hC (v := (0 : Int32)) dX9_readsRepeat_1 rfl ?_
  refine rc_iconst (pc := 2) hC (v := (1 : Int32)) dX9_readsRepeat_2 rfl ?_
  refine rc_bipush (pc := 3) hC (v := (20 : Int32)) dX9_readsRepeat_3 rfl ?_
  refine rc_callM (pc := 5) hC (rw_X9_number hH.1 (0 : Int32) (1 : Int32) (20 : Int32)) q2069 q2071 qs39 q149 q2072 rfl rd_X9_number (hH.room (Nat.le_of_ble_eq_true rfl) (Nat.le_of_ble_eq_true rfl)) rfl rfl (Nat.le_of_ble_eq_true rfl) 3 rfl h.le.2.2 (Or.inl hF) h.br rfl dX9_readsRepeat_5 ?_ (fun E q S hT => rc_out hC hH.2.2.2.2 hT)
  intro x1 S h
  show rc_Z Y S 8 [some (rc_q (some (rc_km (yr_K Y) 100))), some (rc_i v1), none, none, none] [rc_i x1]
  refine rc_if_eq (pc := 8) (tgt := 19) hC dX9_readsRepeat_8 rfl h ?_ ?_
  · intro _ h
    refine rc_iconst (pc := 19) hC (v := (0 : Int32)) dX9_readsRepeat_19 rfl ?_
    exact rc_iret hC rfl rfl dX9_readsRepeat_20 h rfl
  intro _ h
  refine rc_aload_n (pc := 11) hC dX9_readsRepeat_11 rfl rfl ?_
  refine rc_iconst (pc := 12) hC (v := (4 : Int32)) dX9_readsRepeat_12 rfl ?_
  refine rc_callM (pc := 13) hC (rw_X9_is hH.1 (4 : Int32)) q2036 q2038 qs34 q149 q2039 rfl rd_X9_is (hH.room (Nat.le_of_ble_eq_true rfl) (Nat.le_of_ble_eq_true rfl)) rfl rfl (Nat.le_of_ble_eq_true rfl) 1 rfl h.le.2.2 (Or.inl hF) h.br rfl dX9_readsRepeat_13 ?_ (fun E q S hT => rc_out hC hH.2.2.2.2 hT)
  intro x2 S h
  show rc_Z Y S 16 [some (rc_q (some (rc_km (yr_K Y) 100))), some (rc_i v1), none, none, none] [rc_i x2]
  refine rc_if_ne (pc := 16) (tgt := 21) hC dX9_readsRepeat_16 rfl h ?_ ?_
  · intro _ h
    refine rc_aload_n (pc := 21) hC dX9_readsRepeat_21 rfl rfl ?_
    refine rc_r_mref (pc := 22) hC hF rF_X9_42 (by decide) dX9_readsRepeat_22 h ?_
    refine rc_iconst (pc := 25) hC (v := (0 : Int32)) dX9_readsRepeat_25 rfl ?_
    refine rc_r_mald (pc := 26) hC hF (j := 22) (by decide) rfl dX9_readsRepeat_26 h ?_
    intro x4 h
    refine rc_istore_n (pc := 27) hC (L' := [some (rc_q (some (rc_km (yr_K Y) 100))), some (rc_i v1), some (rc_i x4), none, none]) dX9_readsRepeat_27 rfl (Nat.le_of_ble_eq_true rfl) rfl rfl ?_
    refine rc_aload_n (pc := 28) hC dX9_readsRepeat_28 rfl rfl ?_
    refine rc_r_mget (pc := 29) hC hF rF_X9_164 rfl dX9_readsRepeat_29 h ?_
    intro x5 h
    refine rc_istore_n (pc := 32) hC (L' := [some (rc_q (some (rc_km (yr_K Y) 100))), some (rc_i v1), some (rc_i x4), some (rc_i x5), none]) dX9_readsRepeat_32 rfl (Nat.le_of_ble_eq_true rfl) rfl rfl ?_
    refine rc_iconst (pc := 33) hC (v := (0 : Int32)) dX9_readsRepeat_33 rfl ?_
    refine rc_istore (pc := 34) hC (L' := [some (rc_q (some (rc_km (yr_K Y) 100))), some (rc_i v1), some (rc_i x4), some (rc_i x5), some (rc_i (0 : Int32))]) dX9_readsRepeat_34 (Nat.le_of_ble_eq_true rfl) rfl rfl ?_
    refine rc_r_fuel h ?_
    intro x6 h
    exact rw_X9_readsRepeat_q1_L36 hC hH hF  x6 v1 x4 x5 (0 : Int32) S h
  intro _ h
  refine rc_iconst (pc := 19) hC (v := (0 : Int32)) dX9_readsRepeat_19 rfl ?_
  exact rc_iret hC rfl rfl dX9_readsRepeat_20 h rfl
theorem rw_X9_readsCommand_q1 {l : Launch} (hl : l.stackTraces = false) (v1 : Int32) : rc_Cm l yX9_readsCommand (ws_ yX9_readsCommand cX9_readsCommand 3 (Option.some Jvm.ClassFile.FieldType.boolean)) 11 250 rc_tI (rp_X9_readsCommand rp_X9_readsRepeat_q1 v1) [rc_i v1] := by
  refine rc_Cm_H hl (plainFor_of_name rY_X9) rfl (Nat.le_of_ble_eq_true rfl) ?_
  intro Y S hC hH hF h
  have hC : rc_C Y cX9_readsCommand RX9 (Option.some Jvm.ClassFile.FieldType.boolean) 3 := hC
  show rc_Z Y S 0 [some (rc_q (some (rc_km (yr_K Y) 100))), some (rc_i v1), none] []
  unfold rp_X9_readsCommand at h
  refine rc_aload_n (pc := 0) hC dX9_readsCommand_0 rfl rfl ?_
  refine rc_callM (pc := 1) hC (rw_X9_wordAhead hH.1) q2044 q2046 qs36 q149 q2047 rfl rd_X9_wordAhead (hH.room (Nat.le_of_ble_eq_true rfl) (Nat.le_of_ble_eq_true rfl)) rfl rfl (Nat.le_of_ble_eq_true rfl) 0 rfl h.le.2.2 (Or.inl hF) h.br rfl dX9_readsCommand_1 ?_ (fun E q S hT => rc_out hC hH.2.2.2.2 hT)
  intro x1 S h
  show rc_Z Y S 4 [some (rc_q (some (rc_km (yr_K Y) 100))), some (rc_i v1), none] [rc_i x1]
  refine rc_istore_n (pc := 4) hC (L' := [some (rc_q (some (rc_km (yr_K Y) 100))), some (rc_i v1), some (rc_i x1)]) dX9_readsCommand_4 rfl (Nat.le_of_ble_eq_true rfl) rfl rfl ?_
  refine rc_iload_n (pc := 5) hC dX9_readsCommand_5 rfl rfl ?_
  refine rc_iconst (pc := 6) hC (v := (-1 : Int32)) dX9_readsCommand_6 rfl ?_
  refine rc_icmp_ne (pc := 7) (tgt := 16) hC dX9_readsCommand_7 rfl h ?_ ?_
  · intro _ h
    refine rc_iload_n (pc := 16) hC dX9_readsCommand_16 rfl rfl ?_
    refine rc_bipush (pc := 17) hC (v := (12 : Int32)) dX9_readsCommand_17 rfl ?_
    refine rc_icmp_ne (pc := 19) (tgt := 43) hC dX9_readsCommand_19 rfl h ?_ ?_
    · intro _ h
      refine rc_aload_n (pc := 43) hC dX9_readsCommand_43 rfl rfl ?_
      refine rc_r_mget (pc := 44) hC hF rF_X9_305 rfl dX9_readsCommand_44 h ?_
      intro x2 h
      refine rc_sipush (pc := 47) hC (v := (200 : Int32)) dX9_readsCommand_47 rfl ?_
      refine rc_icmp_ne (pc := 50) (tgt := 59) hC dX9_readsCommand_50 rfl h ?_ ?_
      · intro _ h
        refine rc_aload_n (pc := 59) hC dX9_readsCommand_59 rfl rfl ?_
        refine rc_dup (pc := 60) hC dX9_readsCommand_60 rfl ?_
        refine rc_r_mget (pc := 61) hC hF rF_X9_305 rfl dX9_readsCommand_61 h ?_
        intro x3 h
        refine rc_iconst (pc := 64) hC (v := (1 : Int32)) dX9_readsCommand_64 rfl ?_
        refine rc_iadd (pc := 65) hC dX9_readsCommand_65 ?_
        refine rc_r_mput (pc := 66) hC (Or.inl hF) rP_X9_305 rfl dX9_readsCommand_66 h ?_
        intro S h
        refine rc_aload_n (pc := 69) hC dX9_readsCommand_69 rfl rfl ?_
        refine rc_callM (pc := 70) hC (rw_X9_next hH.1) q2016 q2018 qs30 q149 q2019 rfl rd_X9_next (hH.room (Nat.le_of_ble_eq_true rfl) (Nat.le_of_ble_eq_true rfl)) rfl rfl (Nat.le_of_ble_eq_true rfl) 0 rfl h.le.2.2 (Or.inl hF) h.br rfl dX9_readsCommand_70 ?_ (fun E q S hT => rc_out hC hH.2.2.2.2 hT)
        intro _ S h
        show rc_Z Y S 73 [some (rc_q (some (rc_km (yr_K Y) 100))), some (rc_i v1), some (rc_i x1)] []
        refine rc_aload_n (pc := 73) hC dX9_readsCommand_73 rfl rfl ?_
        refine rc_iload_n (pc := 74) hC dX9_readsCommand_74 rfl rfl ?_
        refine rc_callM (pc := 75) hC (rw_X9_readsWord hH.1 x1) q2076 q2078 qs40 q149 q2079 rfl rd_X9_readsWord (hH.room (Nat.le_of_ble_eq_true rfl) (Nat.le_of_ble_eq_true rfl)) rfl rfl (Nat.le_of_ble_eq_true rfl) 1 rfl h.le.2.2 (Or.inl hF) h.br rfl dX9_readsCommand_75 ?_ (fun E q S hT => rc_out hC hH.2.2.2.2 hT)
        intro x4 S h
        show rc_Z Y S 78 [some (rc_q (some (rc_km (yr_K Y) 100))), some (rc_i v1), some (rc_i x1)] [rc_i x4]
        obtain ⟨hn, h⟩ := h.nar
        exact rc_iret hC rfl hn dX9_readsCommand_78 h rfl
      intro _ h
      refine rc_aload_n (pc := 53) hC dX9_readsCommand_53 rfl rfl ?_
      refine rc_iconst (pc := 54) hC (v := (5 : Int32)) dX9_readsCommand_54 rfl ?_
      refine rc_callM (pc := 55) hC (rw_X9_fail hH.1 (5 : Int32)) q2032 q2034 qs33 q149 q2035 rfl rd_X9_fail (hH.room (Nat.le_of_ble_eq_true rfl) (Nat.le_of_ble_eq_true rfl)) rfl rfl (Nat.le_of_ble_eq_true rfl) 1 rfl h.le.2.2 (Or.inl hF) h.br rfl dX9_readsCommand_55 ?_ (fun E q S hT => rc_out hC hH.2.2.2.2 hT)
      intro x5 S h
      show rc_Z Y S 58 [some (rc_q (some (rc_km (yr_K Y) 100))), some (rc_i v1), some (rc_i x1)] [rc_i x5]
      obtain ⟨hn, h⟩ := h.nar
      exact rc_iret hC rfl hn dX9_readsCommand_58 h rfl
    intro _ h
    refine rc_iload_n (pc := 22) hC dX9_readsCommand_22 rfl rfl ?_
    refine rc_iconst (pc := 23) hC (v := (2 : Int32)) dX9_readsCommand_23 rfl ?_
    refine rc_icmp_ne (pc := 24) (tgt := 33) hC dX9_readsCommand_24 rfl h ?_ ?_
    · intro _ h
      refine rc_aload_n (pc := 33) hC dX9_readsCommand_33 rfl rfl ?_
      refine rc_callM (pc := 34) hC (rw_X9_next hH.1) q2016 q2018 qs30 q149 q2019 rfl rd_X9_next (hH.room (Nat.le_of_ble_eq_true rfl) (Nat.le_of_ble_eq_true rfl)) rfl rfl (Nat.le_of_ble_eq_true rfl) 0 rfl h.le.2.2 (Or.inl hF) h.br rfl dX9_readsCommand_34 ?_ (fun E q S hT => rc_out hC hH.2.2.2.2 hT)
      intro _ S h
      show rc_Z Y S 37 [some (rc_q (some (rc_km (yr_K Y) 100))), some (rc_i v1), some (rc_i x1)] []
      refine rc_aload_n (pc := 37) hC dX9_readsCommand_37 rfl rfl ?_
      refine rc_iload_n (pc := 38) hC dX9_readsCommand_38 rfl rfl ?_
      refine rc_callM (pc := 39) hC (rw_X9_readsRepeat_q1 hH.1 v1) q2065 q2067 qs38 q149 q2068 rfl rd_X9_readsRepeat (hH.room (Nat.le_of_ble_eq_true rfl) (Nat.le_of_ble_eq_true rfl)) rfl rfl (Nat.le_of_ble_eq_true rfl) 1 rfl h.le.2.2 (Or.inl hF) h.br rfl dX9_readsCommand_39 ?_ (fun E q S hT => rc_out hC hH.2.2.2.2 hT)
      intro x6 S h
      show rc_Z Y S 42 [some (rc_q (some (rc_km (yr_K Y) 100))), some (rc_i v1), some (rc_i x1)] [rc_i x6]
      obtain ⟨hn, h⟩ := h.nar
      exact rc_iret hC rfl hn dX9_readsCommand_42 h rfl
    intro _ h
    refine rc_aload_n (pc := 27) hC dX9_readsCommand_27 rfl rfl ?_
    refine rc_iconst (pc := 28) hC (v := (4 : Int32)) dX9_readsCommand_28 rfl ?_
    refine rc_callM (pc := 29) hC (rw_X9_fail hH.1 (4 : Int32)) q2032 q2034 qs33 q149 q2035 rfl rd_X9_fail (hH.room (Nat.le_of_ble_eq_true rfl) (Nat.le_of_ble_eq_true rfl)) rfl rfl (Nat.le_of_ble_eq_true rfl) 1 rfl h.le.2.2 (Or.inl hF) h.br rfl dX9_readsCommand_29 ?_ (fun E q S hT => rc_out hC hH.2.2.2.2 hT)
    intro x7 S h
    show rc_Z Y S 32 [some (rc_q (some (rc_km (yr_K Y) 100))), some (rc_i v1), some (rc_i x1)] [rc_i x7]
    obtain ⟨hn, h⟩ := h.nar
    exact rc_iret hC rfl hn dX9_readsCommand_32 h rfl
  intro _ h
  refine rc_aload_n (pc := 10) hC dX9_readsCommand_10 rfl rfl ?_
  refine rc_iconst (pc := 11) hC (v := (1 : Int32)) dX9_readsCommand_11 rfl ?_
  refine rc_callM (pc := 12) hC (rw_X9_fail hH.1 (1 : Int32)) q2032 q2034 qs33 q149 q2035 rfl rd_X9_fail (hH.room (Nat.le_of_ble_eq_true rfl) (Nat.le_of_ble_eq_true rfl)) rfl rfl (Nat.le_of_ble_eq_true rfl) 1 rfl h.le.2.2 (Or.inl hF) h.br rfl dX9_readsCommand_12 ?_ (fun E q S hT => rc_out hC hH.2.2.2.2 hT)
  intro x8 S h
  show rc_Z Y S 15 [some (rc_q (some (rc_km (yr_K Y) 100))), some (rc_i v1), some (rc_i x1)] [rc_i x8]
  obtain ⟨hn, h⟩ := h.nar
  exact rc_iret hC rfl hn dX9_readsCommand_15 h rfl
theorem rw_X9_readsRepeat_q2_L51 {Y : rc_Y} (hC : rc_C Y cX9_readsRepeat RX9 (Option.some Jvm.ClassFile.FieldType.boolean) 5) (hH : rc_H Y 12 272 yX9_readsRepeat.name) (hF : yr_F Y = true) {k36 : Int32 → Int32 → Int32 → Int32 → rc_M Int32} (hk36 : ∀ (v1 : Int32) (v2 : Int32) (v3 : Int32) (v4 : Int32) (S : rc_S), rc_Go Y rc_tI (k36 v1 v2 v3 v4) S → rc_Z Y S 36 [some (rc_q (some (rc_km (yr_K Y) 100))), some (rc_i v1), some (rc_i v2), some (rc_i v3), some (rc_i v4)] []) : ∀ (n : Nat) (v1 : Int32) (v2 : Int32) (v3 : Int32) (v4 : Int32) (S : rc_S), rc_Go Y rc_tI (rp_X9_readsRepeat_L51 rp_X9_readsCommand_q1 k36 n v1 v2 v3 v4) S → rc_Z Y S 51 [some (rc_q (some (rc_km (yr_K Y) 100))), some (rc_i v1), some (rc_i v2), some (rc_i v3), some (rc_i v4)] [] := by
  intro n
  induction n with
  | zero => intro v1 v2 v3 v4 S h; exact h.fail.elim
  | succ n ih =>
    intro v1 v2 v3 v4 S h
    rw [rp_X9_readsRepeat_L51] at h
    refine rc_aload_n (pc := 51) hC dX9_readsRepeat_51 rfl rfl ?_
    refine rc_r_mget (pc := 52) hC hF rF_X9_170 rfl dX9_readsRepeat_52 h ?_
    intro x1 h
    refine rc_iconst (pc := 55) hC (v := (5 : Int32)) dX9_readsRepeat_55 rfl ?_
    refine rc_icmp_eq (pc := 56) (tgt := 78) hC dX9_readsRepeat_56 rfl h ?_ ?_
    · intro _ h
      refine rc_iinc (pc := 78) hC (v := (v4 + (1 : Int32))) (L' := [some (rc_q (some (rc_km (yr_K Y) 100))), some (rc_i v1), some (rc_i v2), some (rc_i v3), some (rc_i (v4 + (1 : Int32)))]) dX9_readsRepeat_78 rfl rfl rfl rfl ?_
      refine rc_goto (pc := 81) (tgt := 36) hC dX9_readsRepeat_81 rfl ?_
      exact hk36 v1 v2 v3 (v4 + (1 : Int32)) S h
    intro _ h
    refine rc_aload_n (pc := 59) hC dX9_readsRepeat_59 rfl rfl ?_
    refine rc_iload_n (pc := 60) hC dX9_readsRepeat_60 rfl rfl ?_
    refine rc_iconst (pc := 61) hC (v := (1 : Int32)) dX9_readsRepeat_61 rfl ?_
    refine rc_iadd (pc := 62) hC dX9_readsRepeat_62 ?_
    refine rc_callM (pc := 63) hC (rw_X9_readsCommand_q1 hH.1 (v1 + (1 : Int32))) q2040 q2042 qs35 q149 q2043 rfl rd_X9_readsCommand (hH.room (Nat.le_of_ble_eq_true rfl) (Nat.le_of_ble_eq_true rfl)) rfl rfl (Nat.le_of_ble_eq_true rfl) 1 rfl h.le.2.2 (Or.inl hF) h.br rfl dX9_readsRepeat_63 ?_ (fun E q S hT => rc_out hC hH.2.2.2.2 hT)
    intro x2 S h
    show rc_Z Y S 66 [some (rc_q (some (rc_km (yr_K Y) 100))), some (rc_i v1), some (rc_i v2), some (rc_i v3), some (rc_i v4)] [rc_i x2]
    refine rc_if_ne (pc := 66) (tgt := 71) hC dX9_readsRepeat_66 rfl h ?_ ?_
    · intro _ h
      refine rc_aload_n (pc := 71) hC dX9_readsRepeat_71 rfl rfl ?_
      refine rc_callM (pc := 72) hC (rw_X9_next hH.1) q2016 q2018 qs30 q149 q2019 rfl rd_X9_next (hH.room (Nat.le_of_ble_eq_true rfl) (Nat.le_of_ble_eq_true rfl)) rfl rfl (Nat.le_of_ble_eq_true rfl) 0 rfl h.le.2.2 (Or.inl hF) h.br rfl dX9_readsRepeat_72 ?_ (fun E q S hT => rc_out hC hH.2.2.2.2 hT)
      intro _ S h
      show rc_Z Y S 75 [some (rc_q (some (rc_km (yr_K Y) 100))), some (rc_i v1), some (rc_i v2), some (rc_i v3), some (rc_i v4)] []
      refine rc_goto (pc := 75) (tgt := 51) hC dX9_readsRepeat_75 rfl ?_
      exact ih v1 v2 v3 v4 S h
    intro _ h
    refine rc_iconst (pc := 69) hC (v := (0 : Int32)) dX9_readsRepeat_69 rfl ?_
    exact rc_iret hC rfl rfl dX9_readsRepeat_70 h rfl
theorem rw_X9_readsRepeat_q2_L36 {Y : rc_Y} (hC : rc_C Y cX9_readsRepeat RX9 (Option.some Jvm.ClassFile.FieldType.boolean) 5) (hH : rc_H Y 12 272 yX9_readsRepeat.name) (hF : yr_F Y = true) : ∀ (n : Nat) (v1 : Int32) (v2 : Int32) (v3 : Int32) (v4 : Int32) (S : rc_S), rc_Go Y rc_tI (rp_X9_readsRepeat_L36 rp_X9_readsCommand_q1  n v1 v2 v3 v4) S → rc_Z Y S 36 [some (rc_q (some (rc_km (yr_K Y) 100))), some (rc_i v1), some (rc_i v2), some (rc_i v3), some (rc_i v4)] [] := by
  intro n
  induction n with
  | zero => intro v1 v2 v3 v4 S h; exact h.fail.elim
  | succ n ih =>
    intro v1 v2 v3 v4 S h
    rw [rp_X9_readsRepeat_L36] at h
    refine rc_iload (pc := 36) hC dX9_readsRepeat_36 rfl ?_
    refine rc_iload_n (pc := 38) hC dX9_readsRepeat_38 rfl rfl ?_
    refine rc_icmp_ge (pc := 39) (tgt := 84) hC dX9_readsRepeat_39 rfl h ?_ ?_
    · intro _ h
      refine rc_aload_n (pc := 84) hC dX9_readsRepeat_84 rfl rfl ?_
      refine rc_callM (pc := 85) hC (rw_X9_next hH.1) q2016 q2018 qs30 q149 q2019 rfl rd_X9_next (hH.room (Nat.le_of_ble_eq_true rfl) (Nat.le_of_ble_eq_true rfl)) rfl rfl (Nat.le_of_ble_eq_true rfl) 0 rfl h.le.2.2 (Or.inl hF) h.br rfl dX9_readsRepeat_85 ?_ (fun E q S hT => rc_out hC hH.2.2.2.2 hT)
      intro _ S h
      show rc_Z Y S 88 [some (rc_q (some (rc_km (yr_K Y) 100))), some (rc_i v1), some (rc_i v2), some (rc_i v3), some (rc_i v4)] []
      refine rc_aload_n (pc := 88) hC dX9_readsRepeat_88 rfl rfl ?_
      refine rc_iconst (pc := 89) hC (v := (1 : Int32)) dX9_readsRepeat_89 rfl ?_
      refine rc_callM (pc := 90) hC (rw_X9_is hH.1 (1 : Int32)) q2036 q2038 qs34 q149 q2039 rfl rd_X9_is (hH.room (Nat.le_of_ble_eq_true rfl) (Nat.le_of_ble_eq_true rfl)) rfl rfl (Nat.le_of_ble_eq_true rfl) 1 rfl h.le.2.2 (Or.inl hF) h.br rfl dX9_readsRepeat_90 ?_ (fun E q S hT => rc_out hC hH.2.2.2.2 hT)
      intro x1 S h
      show rc_Z Y S 93 [some (rc_q (some (rc_km (yr_K Y) 100))), some (rc_i v1), some (rc_i v2), some (rc_i v3), some (rc_i v4)] [rc_i x1]
      obtain ⟨hn, h⟩ := h.nar
      exact rc_iret hC rfl hn dX9_readsRepeat_93 h rfl
    intro _ h
    refine rc_aload_n (pc := 42) hC dX9_readsRepeat_42 rfl rfl ?_
    refine rc_iload_n (pc := 43) hC dX9_readsRepeat_43 rfl rfl ?_
    refine rc_r_mput (pc := 44) hC (Or.inl hF) rP_X9_164 rfl dX9_readsRepeat_44 h ?_
    intro S h
    refine rc_aload_n (pc := 47) hC dX9_readsRepeat_47 rfl rfl ?_
    refine rc_callM (pc := 48) hC (rw_X9_next hH.1) q2016 q2018 qs30 q149 q2019 rfl rd_X9_next (hH.room (Nat.le_of_ble_eq_true rfl) (Nat.le_of_ble_eq_true rfl)) rfl rfl (Nat.le_of_ble_eq_true rfl) 0 rfl h.le.2.2 (Or.inl hF) h.br rfl dX9_readsRepeat_48 ?_ (fun E q S hT => rc_out hC hH.2.2.2.2 hT)
    intro _ S h
    show rc_Z Y S 51 [some (rc_q (some (rc_km (yr_K Y) 100))), some (rc_i v1), some (rc_i v2), some (rc_i v3), some (rc_i v4)] []
    refine rc_r_fuel h ?_
    intro x2 h
    exact rw_X9_readsRepeat_q2_L51 hC hH hF ih x2 v1 v2 v3 v4 S h
theorem rw_X9_readsRepeat_q2 {l : Launch} (hl : l.stackTraces = false) (v1 : Int32) : rc_Cm l yX9_readsRepeat (ws_ yX9_readsRepeat cX9_readsRepeat 5 (Option.some Jvm.ClassFile.FieldType.boolean)) 12 272 rc_tI (rp_X9_readsRepeat rp_X9_readsCommand_q1 v1) [rc_i v1] := by
  refine rc_Cm_H hl (plainFor_of_name rY_X9) rfl (Nat.le_of_ble_eq_true rfl) ?_
  intro Y S hC hH hF h
  have hC : rc_C Y cX9_readsRepeat RX9 (Option.some Jvm.ClassFile.FieldType.boolean) 5 := hC
  show rc_Z Y S 0 [some (rc_q (some (rc_km (yr_K Y) 100))), some (rc_i v1), none, none, none] []
  unfold rp_X9_readsRepeat at h
  refine rc_aload_n (pc := 0) hC dX9_readsRepeat_0 rfl rfl ?_
  refine rc_iconst (pc := 1) hC (v := (0 : Int32)) dX9_readsRepeat_1 rfl ?_
  refine rc_iconst (pc := 2) hC (v := (1 : Int32)) dX9_readsRepeat_2 rfl ?_
  refine rc_bipush (pc := 3) hC (v := (20 : Int32)) dX9_readsRepeat_3 rfl ?_
  refine rc_callM (pc := 5) hC (rw_X9_number hH.1 (0 : Int32) (1 : Int32) (20 : Int32)) q2069 q2071 qs39 q149 q2072 rfl rd_X9_number (hH.room (Nat.le_of_ble_eq_true rfl) (Nat.le_of_ble_eq_true rfl)) rfl rfl (Nat.le_of_ble_eq_true rfl) 3 rfl h.le.2.2 (Or.inl hF) h.br rfl dX9_readsRepeat_5 ?_ (fun E q S hT => rc_out hC hH.2.2.2.2 hT)
  intro x1 S h
  show rc_Z Y S 8 [some (rc_q (some (rc_km (yr_K Y) 100))), some (rc_i v1), none, none, none] [rc_i x1]
  refine rc_if_eq (pc := 8) (tgt := 19) hC dX9_readsRepeat_8 rfl h ?_ ?_
  · intro _ h
    refine rc_iconst (pc := 19) hC (v := (0 : Int32)) dX9_readsRepeat_19 rfl ?_
    exact rc_iret hC rfl rfl dX9_readsRepeat_20 h rfl
  intro _ h
  refine rc_aload_n (pc := 11) hC dX9_readsRepeat_11 rfl rfl ?_
  refine rc_iconst (pc := 12) hC (v := (4 : Int32)) dX9_readsRepeat_12 rfl ?_
  refine rc_callM (pc := 13) hC (rw_X9_is hH.1 (4 : Int32)) q2036 q2038 qs34 q149 q2039 rfl rd_X9_is (hH.room (Nat.le_of_ble_eq_true rfl) (Nat.le_of_ble_eq_true rfl)) rfl rfl (Nat.le_of_ble_eq_true rfl) 1 rfl h.le.2.2 (Or.inl hF) h.br rfl dX9_readsRepeat_13 ?_ (fun E q S hT => rc_out hC hH.2.2.2.2 hT)
  intro x2 S h
  show rc_Z Y S 16 [some (rc_q (some (rc_km (yr_K Y) 100))), some (rc_i v1), none, none, none] [rc_i x2]
  refine rc_if_ne (pc := 16) (tgt := 21) hC dX9_readsRepeat_16 rfl h ?_ ?_
  · intro _ h
    refine rc_aload_n (pc := 21) hC dX9_readsRepeat_21 rfl rfl ?_
    refine rc_r_mref (pc := 22) hC hF rF_X9_42 (by decide) dX9_readsRepeat_22 h ?_
    refine rc_iconst (pc := 25) hC (v := (0 : Int32)) dX9_readsRepeat_25 rfl ?_
    refine rc_r_mald (pc := 26) hC hF (j := 22) (by decide) rfl dX9_readsRepeat_26 h ?_
    intro x4 h
    refine rc_istore_n (pc := 27) hC (L' := [some (rc_q (some (rc_km (yr_K Y) 100))), some (rc_i v1), some (rc_i x4), none, none]) dX9_readsRepeat_27 rfl (Nat.le_of_ble_eq_true rfl) rfl rfl ?_
    refine rc_aload_n (pc := 28) hC dX9_readsRepeat_28 rfl rfl ?_
    refine rc_r_mget (pc := 29) hC hF rF_X9_164 rfl dX9_readsRepeat_29 h ?_
    intro x5 h
    refine rc_istore_n (pc := 32) hC (L' := [some (rc_q (some (rc_km (yr_K Y) 100))), some (rc_i v1), some (rc_i x4), some (rc_i x5), none]) dX9_readsRepeat_32 rfl (Nat.le_of_ble_eq_true rfl) rfl rfl ?_
    refine rc_iconst (pc := 33) hC (v := (0 : Int32)) dX9_readsRepeat_33 rfl ?_
    refine rc_istore (pc := 34) hC (L' := [some (rc_q (some (rc_km (yr_K Y) 100))), some (rc_i v1), some (rc_i x4), some (rc_i x5), some (rc_i (0 : Int32))]) dX9_readsRepeat_34 (Nat.le_of_ble_eq_true rfl) rfl rfl ?_
    refine rc_r_fuel h ?_
    intro x6 h
    exact rw_X9_readsRepeat_q2_L36 hC hH hF  x6 v1 x4 x5 (0 : Int32) S h
  intro _ h
  refine rc_iconst (pc := 19) hC (v := (0 : Int32)) dX9_readsRepeat_19 rfl ?_
  exact rc_iret hC rfl rfl dX9_readsRepeat_20 h rfl
theorem rw_X9_readsCommand_q2 {l : Launch} (hl : l.stackTraces = false) (v1 : Int32) : rc_Cm l yX9_readsCommand (ws_ yX9_readsCommand cX9_readsCommand 3 (Option.some Jvm.ClassFile.FieldType.boolean)) 13 296 rc_tI (rp_X9_readsCommand rp_X9_readsRepeat_q2 v1) [rc_i v1] := by
  refine rc_Cm_H hl (plainFor_of_name rY_X9) rfl (Nat.le_of_ble_eq_true rfl) ?_
  intro Y S hC hH hF h
  have hC : rc_C Y cX9_readsCommand RX9 (Option.some Jvm.ClassFile.FieldType.boolean) 3 := hC
  show rc_Z Y S 0 [some (rc_q (some (rc_km (yr_K Y) 100))), some (rc_i v1), none] []
  unfold rp_X9_readsCommand at h
  refine rc_aload_n (pc := 0) hC dX9_readsCommand_0 rfl rfl ?_
  refine rc_callM (pc := 1) hC (rw_X9_wordAhead hH.1) q2044 q2046 qs36 q149 q2047 rfl rd_X9_wordAhead (hH.room (Nat.le_of_ble_eq_true rfl) (Nat.le_of_ble_eq_true rfl)) rfl rfl (Nat.le_of_ble_eq_true rfl) 0 rfl h.le.2.2 (Or.inl hF) h.br rfl dX9_readsCommand_1 ?_ (fun E q S hT => rc_out hC hH.2.2.2.2 hT)
  intro x1 S h
  show rc_Z Y S 4 [some (rc_q (some (rc_km (yr_K Y) 100))), some (rc_i v1), none] [rc_i x1]
  refine rc_istore_n (pc := 4) hC (L' := [some (rc_q (some (rc_km (yr_K Y) 100))), some (rc_i v1), some (rc_i x1)]) dX9_readsCommand_4 rfl (Nat.le_of_ble_eq_true rfl) rfl rfl ?_
  refine rc_iload_n (pc := 5) hC dX9_readsCommand_5 rfl rfl ?_
  refine rc_iconst (pc := 6) hC (v := (-1 : Int32)) dX9_readsCommand_6 rfl ?_
  refine rc_icmp_ne (pc := 7) (tgt := 16) hC dX9_readsCommand_7 rfl h ?_ ?_
  · intro _ h
    refine rc_iload_n (pc := 16) hC dX9_readsCommand_16 rfl rfl ?_
    refine rc_bipush (pc := 17) hC (v := (12 : Int32)) dX9_readsCommand_17 rfl ?_
    refine rc_icmp_ne (pc := 19) (tgt := 43) hC dX9_readsCommand_19 rfl h ?_ ?_
    · intro _ h
      refine rc_aload_n (pc := 43) hC dX9_readsCommand_43 rfl rfl ?_
      refine rc_r_mget (pc := 44) hC hF rF_X9_305 rfl dX9_readsCommand_44 h ?_
      intro x2 h
      refine rc_sipush (pc := 47) hC (v := (200 : Int32)) dX9_readsCommand_47 rfl ?_
      refine rc_icmp_ne (pc := 50) (tgt := 59) hC dX9_readsCommand_50 rfl h ?_ ?_
      · intro _ h
        refine rc_aload_n (pc := 59) hC dX9_readsCommand_59 rfl rfl ?_
        refine rc_dup (pc := 60) hC dX9_readsCommand_60 rfl ?_
        refine rc_r_mget (pc := 61) hC hF rF_X9_305 rfl dX9_readsCommand_61 h ?_
        intro x3 h
        refine rc_iconst (pc := 64) hC (v := (1 : Int32)) dX9_readsCommand_64 rfl ?_
        refine rc_iadd (pc := 65) hC dX9_readsCommand_65 ?_
        refine rc_r_mput (pc := 66) hC (Or.inl hF) rP_X9_305 rfl dX9_readsCommand_66 h ?_
        intro S h
        refine rc_aload_n (pc := 69) hC dX9_readsCommand_69 rfl rfl ?_
        refine rc_callM (pc := 70) hC (rw_X9_next hH.1) q2016 q2018 qs30 q149 q2019 rfl rd_X9_next (hH.room (Nat.le_of_ble_eq_true rfl) (Nat.le_of_ble_eq_true rfl)) rfl rfl (Nat.le_of_ble_eq_true rfl) 0 rfl h.le.2.2 (Or.inl hF) h.br rfl dX9_readsCommand_70 ?_ (fun E q S hT => rc_out hC hH.2.2.2.2 hT)
        intro _ S h
        show rc_Z Y S 73 [some (rc_q (some (rc_km (yr_K Y) 100))), some (rc_i v1), some (rc_i x1)] []
        refine rc_aload_n (pc := 73) hC dX9_readsCommand_73 rfl rfl ?_
        refine rc_iload_n (pc := 74) hC dX9_readsCommand_74 rfl rfl ?_
        refine rc_callM (pc := 75) hC (rw_X9_readsWord hH.1 x1) q2076 q2078 qs40 q149 q2079 rfl rd_X9_readsWord (hH.room (Nat.le_of_ble_eq_true rfl) (Nat.le_of_ble_eq_true rfl)) rfl rfl (Nat.le_of_ble_eq_true rfl) 1 rfl h.le.2.2 (Or.inl hF) h.br rfl dX9_readsCommand_75 ?_ (fun E q S hT => rc_out hC hH.2.2.2.2 hT)
        intro x4 S h
        show rc_Z Y S 78 [some (rc_q (some (rc_km (yr_K Y) 100))), some (rc_i v1), some (rc_i x1)] [rc_i x4]
        obtain ⟨hn, h⟩ := h.nar
        exact rc_iret hC rfl hn dX9_readsCommand_78 h rfl
      intro _ h
      refine rc_aload_n (pc := 53) hC dX9_readsCommand_53 rfl rfl ?_
      refine rc_iconst (pc := 54) hC (v := (5 : Int32)) dX9_readsCommand_54 rfl ?_
      refine rc_callM (pc := 55) hC (rw_X9_fail hH.1 (5 : Int32)) q2032 q2034 qs33 q149 q2035 rfl rd_X9_fail (hH.room (Nat.le_of_ble_eq_true rfl) (Nat.le_of_ble_eq_true rfl)) rfl rfl (Nat.le_of_ble_eq_true rfl) 1 rfl h.le.2.2 (Or.inl hF) h.br rfl dX9_readsCommand_55 ?_ (fun E q S hT => rc_out hC hH.2.2.2.2 hT)
      intro x5 S h
      show rc_Z Y S 58 [some (rc_q (some (rc_km (yr_K Y) 100))), some (rc_i v1), some (rc_i x1)] [rc_i x5]
      obtain ⟨hn, h⟩ := h.nar
      exact rc_iret hC rfl hn dX9_readsCommand_58 h rfl
    intro _ h
    refine rc_iload_n (pc := 22) hC dX9_readsCommand_22 rfl rfl ?_
    refine rc_iconst (pc := 23) hC (v := (2 : Int32)) dX9_readsCommand_23 rfl ?_
    refine rc_icmp_ne (pc := 24) (tgt := 33) hC dX9_readsCommand_24 rfl h ?_ ?_
    · intro _ h
      refine rc_aload_n (pc := 33) hC dX9_readsCommand_33 rfl rfl ?_
      refine rc_callM (pc := 34) hC (rw_X9_next hH.1) q2016 q2018 qs30 q149 q2019 rfl rd_X9_next (hH.room (Nat.le_of_ble_eq_true rfl) (Nat.le_of_ble_eq_true rfl)) rfl rfl (Nat.le_of_ble_eq_true rfl) 0 rfl h.le.2.2 (Or.inl hF) h.br rfl dX9_readsCommand_34 ?_ (fun E q S hT => rc_out hC hH.2.2.2.2 hT)
      intro _ S h
      show rc_Z Y S 37 [some (rc_q (some (rc_km (yr_K Y) 100))), some (rc_i v1), some (rc_i x1)] []
      refine rc_aload_n (pc := 37) hC dX9_readsCommand_37 rfl rfl ?_
      refine rc_iload_n (pc := 38) hC dX9_readsCommand_38 rfl rfl ?_
      refine rc_callM (pc := 39) hC (rw_X9_readsRepeat_q2 hH.1 v1) q2065 q2067 qs38 q149 q2068 rfl rd_X9_readsRepeat (hH.room (Nat.le_of_ble_eq_true rfl) (Nat.le_of_ble_eq_true rfl)) rfl rfl (Nat.le_of_ble_eq_true rfl) 1 rfl h.le.2.2 (Or.inl hF) h.br rfl dX9_readsCommand_39 ?_ (fun E q S hT => rc_out hC hH.2.2.2.2 hT)
      intro x6 S h
      show rc_Z Y S 42 [some (rc_q (some (rc_km (yr_K Y) 100))), some (rc_i v1), some (rc_i x1)] [rc_i x6]
      obtain ⟨hn, h⟩ := h.nar
      exact rc_iret hC rfl hn dX9_readsCommand_42 h rfl
    intro _ h
    refine rc_aload_n (pc := 27) hC dX9_readsCommand_27 rfl rfl ?_
    refine rc_iconst (pc := 28) hC (v := (4 : Int32)) dX9_readsCommand_28 rfl ?_
    refine rc_callM (pc := 29) hC (rw_X9_fail hH.1 (4 : Int32)) q2032 q2034 qs33 q149 q2035 rfl rd_X9_fail (hH.room (Nat.le_of_ble_eq_true rfl) (Nat.le_of_ble_eq_true rfl)) rfl rfl (Nat.le_of_ble_eq_true rfl) 1 rfl h.le.2.2 (Or.inl hF) h.br rfl dX9_readsCommand_29 ?_ (fun E q S hT => rc_out hC hH.2.2.2.2 hT)
    intro x7 S h
    show rc_Z Y S 32 [some (rc_q (some (rc_km (yr_K Y) 100))), some (rc_i v1), some (rc_i x1)] [rc_i x7]
    obtain ⟨hn, h⟩ := h.nar
    exact rc_iret hC rfl hn dX9_readsCommand_32 h rfl
  intro _ h
  refine rc_aload_n (pc := 10) hC dX9_readsCommand_10 rfl rfl ?_
  refine rc_iconst (pc := 11) hC (v := (1 : Int32)) dX9_readsCommand_11 rfl ?_
  refine rc_callM (pc := 12) hC (rw_X9_fail hH.1 (1 : Int32)) q2032 q2034 qs33 q149 q2035 rfl rd_X9_fail (hH.room (Nat.le_of_ble_eq_true rfl) (Nat.le_of_ble_eq_true rfl)) rfl rfl (Nat.le_of_ble_eq_true rfl) 1 rfl h.le.2.2 (Or.inl hF) h.br rfl dX9_readsCommand_12 ?_ (fun E q S hT => rc_out hC hH.2.2.2.2 hT)
  intro x8 S h
  show rc_Z Y S 15 [some (rc_q (some (rc_km (yr_K Y) 100))), some (rc_i v1), some (rc_i x1)] [rc_i x8]
  obtain ⟨hn, h⟩ := h.nar
  exact rc_iret hC rfl hn dX9_readsCommand_15 h rfl
theorem rw_X9_readsAll_L34 {Y : rc_Y} (hC : rc_C Y cX9_readsAll RX9 (Option.some Jvm.ClassFile.FieldType.boolean) 1) (hH : rc_H Y 14 318 yX9_readsAll.name) (hF : yr_F Y = true) : ∀ (n : Nat) (S : rc_S), rc_Go Y rc_tI (rp_X9_readsAll_L34  n ) S → rc_Z Y S 34 [some (rc_q (some (rc_km (yr_K Y) 100)))] [] := by
  intro n
  induction n with
  | zero => intro  S h; exact h.fail.elim
  | succ n ih =>
    intro  S h
    rw [rp_X9_readsAll_L34] at h
    refine rc_aload_n (pc := 34) hC dX9_readsAll_34 rfl rfl ?_
    refine rc_r_mget (pc := 35) hC hF rF_X9_170 rfl dX9_readsAll_35 h ?_
    intro x1 h
    refine rc_if_eq (pc := 38) (tgt := 58) hC dX9_readsAll_38 rfl h ?_ ?_
    · intro _ h
      refine rc_iconst (pc := 58) hC (v := (1 : Int32)) dX9_readsAll_58 rfl ?_
      exact rc_iret hC rfl rfl dX9_readsAll_59 h rfl
    intro _ h
    refine rc_aload_n (pc := 41) hC dX9_readsAll_41 rfl rfl ?_
    refine rc_iconst (pc := 42) hC (v := (0 : Int32)) dX9_readsAll_42 rfl ?_
    refine rc_callM (pc := 43) hC (rw_X9_readsCommand_q2 hH.1 (0 : Int32)) q2040 q2042 qs35 q149 q2043 rfl rd_X9_readsCommand (hH.room (Nat.le_of_ble_eq_true rfl) (Nat.le_of_ble_eq_true rfl)) rfl rfl (Nat.le_of_ble_eq_true rfl) 1 rfl h.le.2.2 (Or.inl hF) h.br rfl dX9_readsAll_43 ?_ (fun E q S hT => rc_out hC hH.2.2.2.2 hT)
    intro x2 S h
    show rc_Z Y S 46 [some (rc_q (some (rc_km (yr_K Y) 100)))] [rc_i x2]
    refine rc_if_ne (pc := 46) (tgt := 51) hC dX9_readsAll_46 rfl h ?_ ?_
    · intro _ h
      refine rc_aload_n (pc := 51) hC dX9_readsAll_51 rfl rfl ?_
      refine rc_callM (pc := 52) hC (rw_X9_next hH.1) q2016 q2018 qs30 q149 q2019 rfl rd_X9_next (hH.room (Nat.le_of_ble_eq_true rfl) (Nat.le_of_ble_eq_true rfl)) rfl rfl (Nat.le_of_ble_eq_true rfl) 0 rfl h.le.2.2 (Or.inl hF) h.br rfl dX9_readsAll_52 ?_ (fun E q S hT => rc_out hC hH.2.2.2.2 hT)
      intro _ S h
      show rc_Z Y S 55 [some (rc_q (some (rc_km (yr_K Y) 100)))] []
      refine rc_goto (pc := 55) (tgt := 34) hC dX9_readsAll_55 rfl ?_
      exact ih  S h
    intro _ h
    refine rc_iconst (pc := 49) hC (v := (0 : Int32)) dX9_readsAll_49 rfl ?_
    exact rc_iret hC rfl rfl dX9_readsAll_50 h rfl
theorem rw_X9_readsAll {l : Launch} (hl : l.stackTraces = false) : rc_Cm l yX9_readsAll (ws_ yX9_readsAll cX9_readsAll 1 (Option.some Jvm.ClassFile.FieldType.boolean)) 14 318 rc_tI (rp_X9_readsAll ) [] := by
  refine rc_Cm_H hl (plainFor_of_name rY_X9) rfl (Nat.le_of_ble_eq_true rfl) ?_
  intro Y S hC hH hF h
  have hC : rc_C Y cX9_readsAll RX9 (Option.some Jvm.ClassFile.FieldType.boolean) 1 := hC
  show rc_Z Y S 0 [some (rc_q (some (rc_km (yr_K Y) 100)))] []
  unfold rp_X9_readsAll at h
  refine rc_aload_n (pc := 0) hC dX9_readsAll_0 rfl rfl ?_
  refine rc_r_textw (pc := 1) hC (i := 30) rfl dX9_readsAll_1 h ?_
  intro x1 h
  refine rc_callM (pc := 4) hC (rw_X9_says hH.1 x1) q2028 q2030 qs32 q149 q2031 rfl rd_X9_says (hH.room (Nat.le_of_ble_eq_true rfl) (Nat.le_of_ble_eq_true rfl)) rfl rfl (Nat.le_of_ble_eq_true rfl) 1 rfl h.le.2.2 (Or.inl hF) h.br rfl dX9_readsAll_4 ?_ (fun E q S hT => rc_out hC hH.2.2.2.2 hT)
  intro x2 S h
  show rc_Z Y S 7 [some (rc_q (some (rc_km (yr_K Y) 100)))] [rc_i x2]
  refine rc_if_ne (pc := 7) (tgt := 16) hC dX9_readsAll_7 rfl h ?_ ?_
  · intro _ h
    refine rc_aload_n (pc := 16) hC dX9_readsAll_16 rfl rfl ?_
    refine rc_callM (pc := 17) hC (rw_X9_next hH.1) q2016 q2018 qs30 q149 q2019 rfl rd_X9_next (hH.room (Nat.le_of_ble_eq_true rfl) (Nat.le_of_ble_eq_true rfl)) rfl rfl (Nat.le_of_ble_eq_true rfl) 0 rfl h.le.2.2 (Or.inl hF) h.br rfl dX9_readsAll_17 ?_ (fun E q S hT => rc_out hC hH.2.2.2.2 hT)
    intro _ S h
    show rc_Z Y S 20 [some (rc_q (some (rc_km (yr_K Y) 100)))] []
    refine rc_aload_n (pc := 20) hC dX9_readsAll_20 rfl rfl ?_
    refine rc_iconst (pc := 21) hC (v := (1 : Int32)) dX9_readsAll_21 rfl ?_
    refine rc_callM (pc := 22) hC (rw_X9_is hH.1 (1 : Int32)) q2036 q2038 qs34 q149 q2039 rfl rd_X9_is (hH.room (Nat.le_of_ble_eq_true rfl) (Nat.le_of_ble_eq_true rfl)) rfl rfl (Nat.le_of_ble_eq_true rfl) 1 rfl h.le.2.2 (Or.inl hF) h.br rfl dX9_readsAll_22 ?_ (fun E q S hT => rc_out hC hH.2.2.2.2 hT)
    intro x3 S h
    show rc_Z Y S 25 [some (rc_q (some (rc_km (yr_K Y) 100)))] [rc_i x3]
    refine rc_if_ne (pc := 25) (tgt := 30) hC dX9_readsAll_25 rfl h ?_ ?_
    · intro _ h
      refine rc_aload_n (pc := 30) hC dX9_readsAll_30 rfl rfl ?_
      refine rc_callM (pc := 31) hC (rw_X9_next hH.1) q2016 q2018 qs30 q149 q2019 rfl rd_X9_next (hH.room (Nat.le_of_ble_eq_true rfl) (Nat.le_of_ble_eq_true rfl)) rfl rfl (Nat.le_of_ble_eq_true rfl) 0 rfl h.le.2.2 (Or.inl hF) h.br rfl dX9_readsAll_31 ?_ (fun E q S hT => rc_out hC hH.2.2.2.2 hT)
      intro _ S h
      show rc_Z Y S 34 [some (rc_q (some (rc_km (yr_K Y) 100)))] []
      refine rc_r_fuel h ?_
      intro x4 h
      exact rw_X9_readsAll_L34 hC hH hF  x4  S h
    intro _ h
    refine rc_iconst (pc := 28) hC (v := (0 : Int32)) dX9_readsAll_28 rfl ?_
    exact rc_iret hC rfl rfl dX9_readsAll_29 h rfl
  intro _ h
  refine rc_aload_n (pc := 10) hC dX9_readsAll_10 rfl rfl ?_
  refine rc_iconst (pc := 11) hC (v := (1 : Int32)) dX9_readsAll_11 rfl ?_
  refine rc_callM (pc := 12) hC (rw_X9_fail hH.1 (1 : Int32)) q2032 q2034 qs33 q149 q2035 rfl rd_X9_fail (hH.room (Nat.le_of_ble_eq_true rfl) (Nat.le_of_ble_eq_true rfl)) rfl rfl (Nat.le_of_ble_eq_true rfl) 1 rfl h.le.2.2 (Or.inl hF) h.br rfl dX9_readsAll_12 ?_ (fun E q S hT => rc_out hC hH.2.2.2.2 hT)
  intro x5 S h
  show rc_Z Y S 15 [some (rc_q (some (rc_km (yr_K Y) 100)))] [rc_i x5]
  obtain ⟨hn, h⟩ := h.nar
  exact rc_iret hC rfl hn dX9_readsAll_15 h rfl
theorem rw_X9_parses_L2 {Y : rc_Y} (hC : rc_C Y cX9_parses RX9 (Option.some Jvm.ClassFile.FieldType.boolean) 2) (hH : rc_H Y 15 338 yX9_parses.name) (hF : yr_F Y = true) : ∀ (n : Nat) (v1 : Int32) (S : rc_S), rc_Go Y rc_tI (rp_X9_parses_L2  n v1) S → rc_Z Y S 2 [some (rc_q (some (rc_km (yr_K Y) 100))), some (rc_i v1)] [] := by
  intro n
  induction n with
  | zero => intro v1 S h; exact h.fail.elim
  | succ n ih =>
    intro v1 S h
    rw [rp_X9_parses_L2] at h
    refine rc_iload_n (pc := 2) hC dX9_parses_2 rfl rfl ?_
    refine rc_sipush (pc := 3) hC (v := (186 : Int32)) dX9_parses_3 rfl ?_
    refine rc_icmp_ge (pc := 6) (tgt := 22) hC dX9_parses_6 rfl h ?_ ?_
    · intro _ h
      refine rc_aload_n (pc := 22) hC dX9_parses_22 rfl rfl ?_
      refine rc_iconst (pc := 23) hC (v := (0 : Int32)) dX9_parses_23 rfl ?_
      refine rc_r_mput (pc := 24) hC (Or.inl hF) rP_X9_179 rfl dX9_parses_24 h ?_
      intro S h
      refine rc_aload_n (pc := 27) hC dX9_parses_27 rfl rfl ?_
      refine rc_iconst (pc := 28) hC (v := (-1 : Int32)) dX9_parses_28 rfl ?_
      refine rc_r_mput (pc := 29) hC (Or.inl hF) rP_X9_34 rfl dX9_parses_29 h ?_
      intro S h
      refine rc_aload_n (pc := 32) hC dX9_parses_32 rfl rfl ?_
      refine rc_iconst (pc := 33) hC (v := (0 : Int32)) dX9_parses_33 rfl ?_
      refine rc_r_mput (pc := 34) hC (Or.inl hF) rP_X9_305 rfl dX9_parses_34 h ?_
      intro S h
      refine rc_aload_n (pc := 37) hC dX9_parses_37 rfl rfl ?_
      refine rc_iconst (pc := 38) hC (v := (0 : Int32)) dX9_parses_38 rfl ?_
      refine rc_r_mput (pc := 39) hC (Or.inl hF) rP_X9_164 rfl dX9_parses_39 h ?_
      intro S h
      refine rc_aload_n (pc := 42) hC dX9_parses_42 rfl rfl ?_
      refine rc_callM (pc := 43) hC (rw_X9_next hH.1) q2016 q2018 qs30 q149 q2019 rfl rd_X9_next (hH.room (Nat.le_of_ble_eq_true rfl) (Nat.le_of_ble_eq_true rfl)) rfl rfl (Nat.le_of_ble_eq_true rfl) 0 rfl h.le.2.2 (Or.inl hF) h.br rfl dX9_parses_43 ?_ (fun E q S hT => rc_out hC hH.2.2.2.2 hT)
      intro _ S h
      show rc_Z Y S 46 [some (rc_q (some (rc_km (yr_K Y) 100))), some (rc_i v1)] []
      refine rc_aload_n (pc := 46) hC dX9_parses_46 rfl rfl ?_
      refine rc_callM (pc := 47) hC (rw_X9_readsAll hH.1) q2023 q2025 qs31 q149 q2026 rfl rd_X9_readsAll (hH.room (Nat.le_of_ble_eq_true rfl) (Nat.le_of_ble_eq_true rfl)) rfl rfl (Nat.le_of_ble_eq_true rfl) 0 rfl h.le.2.2 (Or.inl hF) h.br rfl dX9_parses_47 ?_ (fun E q S hT => rc_out hC hH.2.2.2.2 hT)
      intro x1 S h
      show rc_Z Y S 50 [some (rc_q (some (rc_km (yr_K Y) 100))), some (rc_i v1)] [rc_i x1]
      obtain ⟨hn, h⟩ := h.nar
      exact rc_iret hC rfl hn dX9_parses_50 h rfl
    intro _ h
    refine rc_aload_n (pc := 9) hC dX9_parses_9 rfl rfl ?_
    refine rc_r_mref (pc := 10) hC hF rF_X9_7 (by decide) dX9_parses_10 h ?_
    refine rc_iload_n (pc := 13) hC dX9_parses_13 rfl rfl ?_
    refine rc_iconst (pc := 14) hC (v := (0 : Int32)) dX9_parses_14 rfl ?_
    refine rc_r_mast (pc := 15) hC hF (j := 0) (by decide) rfl dX9_parses_15 h ?_
    intro S h
    refine rc_iinc (pc := 16) hC (v := (v1 + (1 : Int32))) (L' := [some (rc_q (some (rc_km (yr_K Y) 100))), some (rc_i (v1 + (1 : Int32)))]) dX9_parses_16 rfl rfl rfl rfl ?_
    refine rc_goto (pc := 19) (tgt := 2) hC dX9_parses_19 rfl ?_
    exact ih (v1 + (1 : Int32)) S h
theorem rw_X9_parses {l : Launch} (hl : l.stackTraces = false) : rc_Cm l yX9_parses (ws_ yX9_parses cX9_parses 2 (Option.some Jvm.ClassFile.FieldType.boolean)) 15 338 rc_tI (rp_X9_parses ) [] := by
  refine rc_Cm_H hl (plainFor_of_name rY_X9) rfl (Nat.le_of_ble_eq_true rfl) ?_
  intro Y S hC hH hF h
  have hC : rc_C Y cX9_parses RX9 (Option.some Jvm.ClassFile.FieldType.boolean) 2 := hC
  show rc_Z Y S 0 [some (rc_q (some (rc_km (yr_K Y) 100))), none] []
  unfold rp_X9_parses at h
  refine rc_iconst (pc := 0) hC (v := (0 : Int32)) dX9_parses_0 rfl ?_
  refine rc_istore_n (pc := 1) hC (L' := [some (rc_q (some (rc_km (yr_K Y) 100))), some (rc_i (0 : Int32))]) dX9_parses_1 rfl (Nat.le_of_ble_eq_true rfl) rfl rfl ?_
  refine rc_r_fuel h ?_
  intro x1 h
  exact rw_X9_parses_L2 hC hH hF  x1 (0 : Int32) S h
theorem rw_X9_thrown {l : Launch} (hl : l.stackTraces = false) : rc_Cm l yX9_thrown (ws_ yX9_thrown cX9_thrown 1 (Option.some Jvm.ClassFile.FieldType.int)) 0 0 rc_tI (rp_X9_thrown ) [] := by
  refine rc_Cm_H hl (plainFor_of_name rY_X9) rfl (Nat.le_of_ble_eq_true rfl) ?_
  intro Y S hC hH hF h
  have hC : rc_C Y cX9_thrown RX9 (Option.some Jvm.ClassFile.FieldType.int) 1 := hC
  show rc_Z Y S 0 [some (rc_q (some (rc_km (yr_K Y) 100)))] []
  unfold rp_X9_thrown at h
  refine rc_aload_n (pc := 0) hC dX9_thrown_0 rfl rfl ?_
  refine rc_r_mget (pc := 1) hC hF rF_X9_57 rfl dX9_thrown_1 h ?_
  intro x1 h
  exact rc_iret hC rfl rfl dX9_thrown_4 h rfl
theorem rw_X9_type_L3 {Y : rc_Y} (hC : rc_C Y cX9_type RX9 (Option.none : Option Jvm.ClassFile.FieldType) 3) (hH : rc_H Y 0 0 yX9_type.name) (hF : yr_F Y = true) : ∀ (n : Nat) (v1 : Int32) (v2 : Int32) (S : rc_S), rc_Go Y rc_tU (rp_X9_type_L3  n v1 v2) S → rc_Z Y S 3 [some (rc_q (some (rc_km (yr_K Y) 100))), some (rc_i v1), some (rc_i v2)] [] := by
  intro n
  induction n with
  | zero => intro v1 v2 S h; exact h.fail.elim
  | succ n ih =>
    intro v1 v2 S h
    rw [rp_X9_type_L3] at h
    refine rc_iload_n (pc := 3) hC dX9_type_3 rfl rfl ?_
    refine rc_if_lt (pc := 4) (tgt := 39) hC dX9_type_4 rfl h ?_ ?_
    · intro _ h
      exact rc_vret hC rfl dX9_type_39 h rfl
    intro _ h
    refine rc_aload_n (pc := 7) hC dX9_type_7 rfl rfl ?_
    refine rc_r_mref (pc := 8) hC hF rF_X9_25 (by decide) dX9_type_8 h ?_
    refine rc_aload_n (pc := 11) hC dX9_type_11 rfl rfl ?_
    refine rc_r_mget (pc := 12) hC hF rF_X9_349 rfl dX9_type_12 h ?_
    intro x2 h
    refine rc_iload_n (pc := 15) hC dX9_type_15 rfl rfl ?_
    refine rc_iload_n (pc := 16) hC dX9_type_16 rfl rfl ?_
    refine rc_ishr (pc := 17) hC dX9_type_17 ?_
    refine rc_sipush (pc := 18) hC (v := (255 : Int32)) dX9_type_18 rfl ?_
    refine rc_iand (pc := 21) hC dX9_type_21 ?_
    refine rc_r_mast (pc := 22) hC hF (j := 7) (by decide) rfl dX9_type_22 h ?_
    intro S h
    refine rc_aload_n (pc := 23) hC dX9_type_23 rfl rfl ?_
    refine rc_dup (pc := 24) hC dX9_type_24 rfl ?_
    refine rc_r_mget (pc := 25) hC hF rF_X9_349 rfl dX9_type_25 h ?_
    intro x3 h
    refine rc_iconst (pc := 28) hC (v := (1 : Int32)) dX9_type_28 rfl ?_
    refine rc_iadd (pc := 29) hC dX9_type_29 ?_
    refine rc_r_mput (pc := 30) hC (Or.inl hF) rP_X9_349 rfl dX9_type_30 h ?_
    intro S h
    refine rc_iinc (pc := 33) hC (v := (v2 + (-8 : Int32))) (L' := [some (rc_q (some (rc_km (yr_K Y) 100))), some (rc_i v1), some (rc_i (v2 + (-8 : Int32)))]) dX9_type_33 rfl rfl rfl rfl ?_
    refine rc_goto (pc := 36) (tgt := 3) hC dX9_type_36 rfl ?_
    exact ih v1 (v2 + (-8 : Int32)) S h
theorem rw_X9_type {l : Launch} (hl : l.stackTraces = false) (v1 : Int32) : rc_Cm l yX9_type (ws_ yX9_type cX9_type 3 (Option.none : Option Jvm.ClassFile.FieldType)) 0 0 rc_tU (rp_X9_type v1) [rc_i v1] := by
  refine rc_Cm_H hl (plainFor_of_name rY_X9) rfl (Nat.le_of_ble_eq_true rfl) ?_
  intro Y S hC hH hF h
  have hC : rc_C Y cX9_type RX9 (Option.none : Option Jvm.ClassFile.FieldType) 3 := hC
  show rc_Z Y S 0 [some (rc_q (some (rc_km (yr_K Y) 100))), some (rc_i v1), none] []
  unfold rp_X9_type at h
  refine rc_bipush (pc := 0) hC (v := (24 : Int32)) dX9_type_0 rfl ?_
  refine rc_istore_n (pc := 2) hC (L' := [some (rc_q (some (rc_km (yr_K Y) 100))), some (rc_i v1), some (rc_i (24 : Int32))]) dX9_type_2 rfl (Nat.le_of_ble_eq_true rfl) rfl rfl ?_
  refine rc_r_fuel h ?_
  intro x1 h
  exact rw_X9_type_L3 hC hH hF  x1 v1 (24 : Int32) S h
theorem rw_X9_append {l : Launch} (hl : l.stackTraces = false) (v1 : Int32) (v2 : Int32) (v3 : Int32) (v4 : Int32) (v5 : Int32) : rc_Cm l yX9_append (ws_ yX9_append cX9_append 6 (Option.some Jvm.ClassFile.FieldType.int)) 1 22 rc_tI (rp_X9_append v1 v2 v3 v4 v5) [rc_i v1, rc_i v2, rc_i v3, rc_i v4, rc_i v5] := by
  refine rc_Cm_H hl (plainFor_of_name rY_X9) rfl (Nat.le_of_ble_eq_true rfl) ?_
  intro Y S hC hH hF h
  have hC : rc_C Y cX9_append RX9 (Option.some Jvm.ClassFile.FieldType.int) 6 := hC
  show rc_Z Y S 0 [some (rc_q (some (rc_km (yr_K Y) 100))), some (rc_i v1), some (rc_i v2), some (rc_i v3), some (rc_i v4), some (rc_i v5)] []
  unfold rp_X9_append at h
  refine rc_aload_n (pc := 0) hC dX9_append_0 rfl rfl ?_
  refine rc_iconst (pc := 1) hC (v := (0 : Int32)) dX9_append_1 rfl ?_
  refine rc_r_mput (pc := 2) hC (Or.inl hF) rP_X9_57 rfl dX9_append_2 h ?_
  intro S h
  refine rc_aload_n (pc := 5) hC dX9_append_5 rfl rfl ?_
  refine rc_r_mget (pc := 6) hC hF rF_X9_349 rfl dX9_append_6 h ?_
  intro x1 h
  refine rc_bipush (pc := 9) hC (v := (20 : Int32)) dX9_append_9 rfl ?_
  refine rc_iadd (pc := 11) hC dX9_append_11 ?_
  refine rc_sipush (pc := 12) hC (v := (600 : Int32)) dX9_append_12 rfl ?_
  refine rc_icmp_le (pc := 15) (tgt := 20) hC dX9_append_15 rfl h ?_ ?_
  · intro _ h
    refine rc_aload_n (pc := 20) hC dX9_append_20 rfl rfl ?_
    refine rc_iload_n (pc := 21) hC dX9_append_21 rfl rfl ?_
    refine rc_callM (pc := 22) hC (rw_X9_type hH.1 v1) q2384 q2386 qs96 q149 q2387 rfl rd_X9_type (hH.room (Nat.le_of_ble_eq_true rfl) (Nat.le_of_ble_eq_true rfl)) rfl rfl (Nat.le_of_ble_eq_true rfl) 1 rfl h.le.2.2 (Or.inl hF) h.br rfl dX9_append_22 ?_ (fun E q S hT => rc_out hC hH.2.2.2.2 hT)
    intro _ S h
    show rc_Z Y S 25 [some (rc_q (some (rc_km (yr_K Y) 100))), some (rc_i v1), some (rc_i v2), some (rc_i v3), some (rc_i v4), some (rc_i v5)] []
    refine rc_aload_n (pc := 25) hC dX9_append_25 rfl rfl ?_
    refine rc_iload_n (pc := 26) hC dX9_append_26 rfl rfl ?_
    refine rc_callM (pc := 27) hC (rw_X9_type hH.1 v2) q2384 q2386 qs96 q149 q2387 rfl rd_X9_type (hH.room (Nat.le_of_ble_eq_true rfl) (Nat.le_of_ble_eq_true rfl)) rfl rfl (Nat.le_of_ble_eq_true rfl) 1 rfl h.le.2.2 (Or.inl hF) h.br rfl dX9_append_27 ?_ (fun E q S hT => rc_out hC hH.2.2.2.2 hT)
    intro _ S h
    show rc_Z Y S 30 [some (rc_q (some (rc_km (yr_K Y) 100))), some (rc_i v1), some (rc_i v2), some (rc_i v3), some (rc_i v4), some (rc_i v5)] []
    refine rc_aload_n (pc := 30) hC dX9_append_30 rfl rfl ?_
    refine rc_iload_n (pc := 31) hC dX9_append_31 rfl rfl ?_
    refine rc_callM (pc := 32) hC (rw_X9_type hH.1 v3) q2384 q2386 qs96 q149 q2387 rfl rd_X9_type (hH.room (Nat.le_of_ble_eq_true rfl) (Nat.le_of_ble_eq_true rfl)) rfl rfl (Nat.le_of_ble_eq_true rfl) 1 rfl h.le.2.2 (Or.inl hF) h.br rfl dX9_append_32 ?_ (fun E q S hT => rc_out hC hH.2.2.2.2 hT)
    intro _ S h
    show rc_Z Y S 35 [some (rc_q (some (rc_km (yr_K Y) 100))), some (rc_i v1), some (rc_i v2), some (rc_i v3), some (rc_i v4), some (rc_i v5)] []
    refine rc_aload_n (pc := 35) hC dX9_append_35 rfl rfl ?_
    refine rc_iload (pc := 36) hC dX9_append_36 rfl ?_
    refine rc_callM (pc := 38) hC (rw_X9_type hH.1 v4) q2384 q2386 qs96 q149 q2387 rfl rd_X9_type (hH.room (Nat.le_of_ble_eq_true rfl) (Nat.le_of_ble_eq_true rfl)) rfl rfl (Nat.le_of_ble_eq_true rfl) 1 rfl h.le.2.2 (Or.inl hF) h.br rfl dX9_append_38 ?_ (fun E q S hT => rc_out hC hH.2.2.2.2 hT)
    intro _ S h
    show rc_Z Y S 41 [some (rc_q (some (rc_km (yr_K Y) 100))), some (rc_i v1), some (rc_i v2), some (rc_i v3), some (rc_i v4), some (rc_i v5)] []
    refine rc_aload_n (pc := 41) hC dX9_append_41 rfl rfl ?_
    refine rc_iload (pc := 42) hC dX9_append_42 rfl ?_
    refine rc_callM (pc := 44) hC (rw_X9_type hH.1 v5) q2384 q2386 qs96 q149 q2387 rfl rd_X9_type (hH.room (Nat.le_of_ble_eq_true rfl) (Nat.le_of_ble_eq_true rfl)) rfl rfl (Nat.le_of_ble_eq_true rfl) 1 rfl h.le.2.2 (Or.inl hF) h.br rfl dX9_append_44 ?_ (fun E q S hT => rc_out hC hH.2.2.2.2 hT)
    intro _ S h
    show rc_Z Y S 47 [some (rc_q (some (rc_km (yr_K Y) 100))), some (rc_i v1), some (rc_i v2), some (rc_i v3), some (rc_i v4), some (rc_i v5)] []
    refine rc_aload_n (pc := 47) hC dX9_append_47 rfl rfl ?_
    refine rc_r_mget (pc := 48) hC hF rF_X9_349 rfl dX9_append_48 h ?_
    intro x2 h
    exact rc_iret hC rfl rfl dX9_append_51 h rfl
  intro _ h
  refine rc_iconst (pc := 18) hC (v := (-1 : Int32)) dX9_append_18 rfl ?_
  exact rc_iret hC rfl rfl dX9_append_19 h rfl
theorem rw_X9_throwsOne_L10 {Y : rc_Y} (hC : rc_C Y cX9_throwsOne RX9 (Option.some Jvm.ClassFile.FieldType.boolean) 2) (hH : rc_H Y 0 0 yX9_throwsOne.name) (hF : yr_F Y = true) (v1 : Int32) (s0 : Int32) (S : rc_S) (h : rc_Go Y rc_tI (rp_X9_throwsOne_L10  v1 s0) S) : rc_Z Y S 10 [none, some (rc_i v1)] [rc_i s0, rc_q (some (rc_km (yr_K Y) 100))] := by
  unfold rp_X9_throwsOne_L10 at h
  refine rc_r_mput (pc := 10) hC (Or.inl hF) rP_X9_57 rfl dX9_throwsOne_10 h ?_
  intro S h
  refine rc_iload_n (pc := 13) hC dX9_throwsOne_13 rfl rfl ?_
  obtain ⟨hn, h⟩ := h.nar
  exact rc_iret hC rfl hn dX9_throwsOne_14 h rfl
theorem rw_X9_throwsOne {l : Launch} (hl : l.stackTraces = false) (v1 : Int32) : rc_Cm l yX9_throwsOne (ws_ yX9_throwsOne cX9_throwsOne 2 (Option.some Jvm.ClassFile.FieldType.boolean)) 0 0 rc_tI (rp_X9_throwsOne v1) [rc_i v1] := by
  refine rc_Cm_H hl (plainFor_of_name rY_X9) rfl (Nat.le_of_ble_eq_true rfl) ?_
  intro Y S hC hH hF h
  have hC : rc_C Y cX9_throwsOne RX9 (Option.some Jvm.ClassFile.FieldType.boolean) 2 := hC
  show rc_Z Y S 0 [some (rc_q (some (rc_km (yr_K Y) 100))), some (rc_i v1)] []
  unfold rp_X9_throwsOne at h
  refine rc_aload_n (pc := 0) hC dX9_throwsOne_0 rfl rfl ?_
  refine rc_iload_n (pc := 1) hC dX9_throwsOne_1 rfl rfl ?_
  refine rc_if_eq (pc := 2) (tgt := 9) hC dX9_throwsOne_2 rfl h ?_ ?_
  · intro _ h
    refine rc_iconst (pc := 9) hC (v := (0 : Int32)) dX9_throwsOne_9 rfl ?_
    refine rc_drop [false, true] (L' := [none, some (rc_i v1)]) rfl ?_
    exact rw_X9_throwsOne_L10 hC hH hF  v1 (0 : Int32) S h
  intro _ h
  refine rc_iconst (pc := 5) hC (v := (1 : Int32)) dX9_throwsOne_5 rfl ?_
  refine rc_goto (pc := 6) (tgt := 10) hC dX9_throwsOne_6 rfl ?_
  refine rc_drop [false, true] (L' := [none, some (rc_i v1)]) rfl ?_
  exact rw_X9_throwsOne_L10 hC hH hF  v1 (1 : Int32) S h
theorem rw_X9_truncateInput_L18 {Y : rc_Y} (hC : rc_C Y cX9_truncateInput RX9 (Option.some Jvm.ClassFile.FieldType.int) 2) (hH : rc_H Y 1 22 yX9_truncateInput.name) (hF : yr_F Y = true) (v1 : Int32) (s0 : Int32) (S : rc_S) (h : rc_Go Y rc_tI (rp_X9_truncateInput_L18  v1 s0) S) : rc_Z Y S 18 [some (rc_q (some (rc_km (yr_K Y) 100))), some (rc_i v1)] [rc_i s0, rc_q (some (rc_km (yr_K Y) 100))] := by
  unfold rp_X9_truncateInput_L18 at h
  refine rc_callM (pc := 18) hC (rw_X9_throwsOne hH.1 s0) q2392 q2394 qs97 q149 q2395 rfl rd_X9_throwsOne (hH.room (Nat.le_of_ble_eq_true rfl) (Nat.le_of_ble_eq_true rfl)) rfl rfl (Nat.le_of_ble_eq_true rfl) 1 rfl h.le.2.2 (Or.inl hF) h.br rfl dX9_truncateInput_18 ?_ (fun E q S hT => rc_out hC hH.2.2.2.2 hT)
  intro x1 S h
  show rc_Z Y S 21 [some (rc_q (some (rc_km (yr_K Y) 100))), some (rc_i v1)] [rc_i x1]
  refine rc_if_eq (pc := 21) (tgt := 26) hC dX9_truncateInput_21 rfl h ?_ ?_
  · intro _ h
    refine rc_aload_n (pc := 26) hC dX9_truncateInput_26 rfl rfl ?_
    refine rc_iload_n (pc := 27) hC dX9_truncateInput_27 rfl rfl ?_
    refine rc_r_mput (pc := 28) hC (Or.inl hF) rP_X9_349 rfl dX9_truncateInput_28 h ?_
    intro S h
    refine rc_iload_n (pc := 31) hC dX9_truncateInput_31 rfl rfl ?_
    exact rc_iret hC rfl rfl dX9_truncateInput_32 h rfl
  intro _ h
  refine rc_iconst (pc := 24) hC (v := (0 : Int32)) dX9_truncateInput_24 rfl ?_
  exact rc_iret hC rfl rfl dX9_truncateInput_25 h rfl
theorem rw_X9_truncateInput {l : Launch} (hl : l.stackTraces = false) (v1 : Int32) : rc_Cm l yX9_truncateInput (ws_ yX9_truncateInput cX9_truncateInput 2 (Option.some Jvm.ClassFile.FieldType.int)) 1 22 rc_tI (rp_X9_truncateInput v1) [rc_i v1] := by
  refine rc_Cm_H hl (plainFor_of_name rY_X9) rfl (Nat.le_of_ble_eq_true rfl) ?_
  intro Y S hC hH hF h
  have hC : rc_C Y cX9_truncateInput RX9 (Option.some Jvm.ClassFile.FieldType.int) 2 := hC
  show rc_Z Y S 0 [some (rc_q (some (rc_km (yr_K Y) 100))), some (rc_i v1)] []
  unfold rp_X9_truncateInput at h
  refine rc_aload_n (pc := 0) hC dX9_truncateInput_0 rfl rfl ?_
  refine rc_iload_n (pc := 1) hC dX9_truncateInput_1 rfl rfl ?_
  refine rc_iconst (pc := 2) hC (v := (0 : Int32)) dX9_truncateInput_2 rfl ?_
  refine rc_aload_n (pc := 3) hC dX9_truncateInput_3 rfl rfl ?_
  refine rc_r_mget (pc := 4) hC hF rF_X9_349 rfl dX9_truncateInput_4 h ?_
  intro x1 h
  refine rc_callS (pc := 7) hC (rw_X9_in hH.1 v1 (0 : Int32) x1) q2073 q2074 q149 q2075 rd_X9_in (hH.room (Nat.le_of_ble_eq_true rfl) (Nat.le_of_ble_eq_true rfl)) rfl rfl (Nat.le_of_ble_eq_true rfl) 3 rfl h.le.2.2 h.br rfl dX9_truncateInput_7 ?_ (fun E q S hT => rc_out hC hH.2.2.2.2 hT)
  intro x2 S h
  show rc_Z Y S 10 [some (rc_q (some (rc_km (yr_K Y) 100))), some (rc_i v1)] [rc_i x2, rc_q (some (rc_km (yr_K Y) 100))]
  refine rc_if_ne (pc := 10) (tgt := 17) hC dX9_truncateInput_10 rfl h ?_ ?_
  · intro _ h
    refine rc_iconst (pc := 17) hC (v := (0 : Int32)) dX9_truncateInput_17 rfl ?_
    exact rw_X9_truncateInput_L18 hC hH hF  v1 (0 : Int32) S h
  intro _ h
  refine rc_iconst (pc := 13) hC (v := (1 : Int32)) dX9_truncateInput_13 rfl ?_
  refine rc_goto (pc := 14) (tgt := 18) hC dX9_truncateInput_14 rfl ?_
  exact rw_X9_truncateInput_L18 hC hH hF  v1 (1 : Int32) S h
theorem rw_X9_begins_L2 {Y : rc_Y} (hC : rc_C Y cX9_begins RX9 (Option.none : Option Jvm.ClassFile.FieldType) 2) (hH : rc_H Y 0 0 yX9_begins.name) (hF : yr_F Y = true) : ∀ (n : Nat) (v1 : Int32) (S : rc_S), rc_Go Y rc_tU (rp_X9_begins_L2  n v1) S → rc_Z Y S 2 [some (rc_q (some (rc_km (yr_K Y) 100))), some (rc_i v1)] [] := by
  intro n
  induction n with
  | zero => intro v1 S h; exact h.fail.elim
  | succ n ih =>
    intro v1 S h
    rw [rp_X9_begins_L2] at h
    refine rc_iload_n (pc := 2) hC dX9_begins_2 rfl rfl ?_
    refine rc_sipush (pc := 3) hC (v := (186 : Int32)) dX9_begins_3 rfl ?_
    refine rc_icmp_ge (pc := 6) (tgt := 27) hC dX9_begins_6 rfl h ?_ ?_
    · intro _ h
      exact rc_vret hC rfl dX9_begins_27 h rfl
    intro _ h
    refine rc_aload_n (pc := 9) hC dX9_begins_9 rfl rfl ?_
    refine rc_r_mref (pc := 10) hC hF rF_X9_13 (by decide) dX9_begins_10 h ?_
    refine rc_iload_n (pc := 13) hC dX9_begins_13 rfl rfl ?_
    refine rc_aload_n (pc := 14) hC dX9_begins_14 rfl rfl ?_
    refine rc_r_mref (pc := 15) hC hF rF_X9_7 (by decide) dX9_begins_15 h ?_
    refine rc_iload_n (pc := 18) hC dX9_begins_18 rfl rfl ?_
    refine rc_r_mald (pc := 19) hC hF (j := 0) (by decide) rfl dX9_begins_19 h ?_
    intro x3 h
    refine rc_r_mast (pc := 20) hC hF (j := 1) (by decide) rfl dX9_begins_20 h ?_
    intro S h
    refine rc_iinc (pc := 21) hC (v := (v1 + (1 : Int32))) (L' := [some (rc_q (some (rc_km (yr_K Y) 100))), some (rc_i (v1 + (1 : Int32)))]) dX9_begins_21 rfl rfl rfl rfl ?_
    refine rc_goto (pc := 24) (tgt := 2) hC dX9_begins_24 rfl ?_
    exact ih (v1 + (1 : Int32)) S h
theorem rw_X9_begins {l : Launch} (hl : l.stackTraces = false) : rc_Cm l yX9_begins (ws_ yX9_begins cX9_begins 2 (Option.none : Option Jvm.ClassFile.FieldType)) 0 0 rc_tU (rp_X9_begins ) [] := by
  refine rc_Cm_H hl (plainFor_of_name rY_X9) rfl (Nat.le_of_ble_eq_true rfl) ?_
  intro Y S hC hH hF h
  have hC : rc_C Y cX9_begins RX9 (Option.none : Option Jvm.ClassFile.FieldType) 2 := hC
  show rc_Z Y S 0 [some (rc_q (some (rc_km (yr_K Y) 100))), none] []
  unfold rp_X9_begins at h
  refine rc_iconst (pc := 0) hC (v := (0 : Int32)) dX9_begins_0 rfl ?_
  refine rc_istore_n (pc := 1) hC (L' := [some (rc_q (some (rc_km (yr_K Y) 100))), some (rc_i (0 : Int32))]) dX9_begins_1 rfl (Nat.le_of_ble_eq_true rfl) rfl rfl ?_
  refine rc_r_fuel h ?_
  intro x1 h
  exact rw_X9_begins_L2 hC hH hF  x1 (0 : Int32) S h
theorem rw_X9_remember_L54 {Y : rc_Y} (hC : rc_C Y cX9_remember RX9 (Option.some Jvm.ClassFile.FieldType.int) 3) (hH : rc_H Y 0 0 yX9_remember.name) (hF : yr_F Y = true) : ∀ (n : Nat) (v1 : Int32) (v2 : Int32) (S : rc_S), rc_Go Y rc_tI (rp_X9_remember_L54  n v1 v2) S → rc_Z Y S 54 [some (rc_q (some (rc_km (yr_K Y) 100))), some (rc_i v1), some (rc_i v2)] [] := by
  intro n
  induction n with
  | zero => intro v1 v2 S h; exact h.fail.elim
  | succ n ih =>
    intro v1 v2 S h
    rw [rp_X9_remember_L54] at h
    refine rc_iload_n (pc := 54) hC dX9_remember_54 rfl rfl ?_
    refine rc_sipush (pc := 55) hC (v := (186 : Int32)) dX9_remember_55 rfl ?_
    refine rc_icmp_ge (pc := 58) (tgt := 88) hC dX9_remember_58 rfl h ?_ ?_
    · intro _ h
      refine rc_aload_n (pc := 88) hC dX9_remember_88 rfl rfl ?_
      refine rc_dup (pc := 89) hC dX9_remember_89 rfl ?_
      refine rc_r_mget (pc := 90) hC hF rF_X9_358 rfl dX9_remember_90 h ?_
      intro x1 h
      refine rc_iconst (pc := 93) hC (v := (1 : Int32)) dX9_remember_93 rfl ?_
      refine rc_iadd (pc := 94) hC dX9_remember_94 ?_
      refine rc_r_mput (pc := 95) hC (Or.inl hF) rP_X9_358 rfl dX9_remember_95 h ?_
      intro S h
      refine rc_iload_n (pc := 98) hC dX9_remember_98 rfl rfl ?_
      exact rc_iret hC rfl rfl dX9_remember_99 h rfl
    intro _ h
    refine rc_aload_n (pc := 61) hC dX9_remember_61 rfl rfl ?_
    refine rc_r_mref (pc := 62) hC hF rF_X9_19 (by decide) dX9_remember_62 h ?_
    refine rc_sipush (pc := 65) hC (v := (186 : Int32)) dX9_remember_65 rfl ?_
    refine rc_aload_n (pc := 68) hC dX9_remember_68 rfl rfl ?_
    refine rc_r_mget (pc := 69) hC hF rF_X9_358 rfl dX9_remember_69 h ?_
    intro x3 h
    refine rc_imul (pc := 72) hC dX9_remember_72 ?_
    refine rc_iload_n (pc := 73) hC dX9_remember_73 rfl rfl ?_
    refine rc_iadd (pc := 74) hC dX9_remember_74 ?_
    refine rc_aload_n (pc := 75) hC dX9_remember_75 rfl rfl ?_
    refine rc_r_mref (pc := 76) hC hF rF_X9_13 (by decide) dX9_remember_76 h ?_
    refine rc_iload_n (pc := 79) hC dX9_remember_79 rfl rfl ?_
    refine rc_r_mald (pc := 80) hC hF (j := 1) (by decide) rfl dX9_remember_80 h ?_
    intro x5 h
    refine rc_r_mast (pc := 81) hC hF (j := 3) (by decide) rfl dX9_remember_81 h ?_
    intro S h
    refine rc_iinc (pc := 82) hC (v := (v2 + (1 : Int32))) (L' := [some (rc_q (some (rc_km (yr_K Y) 100))), some (rc_i v1), some (rc_i (v2 + (1 : Int32)))]) dX9_remember_82 rfl rfl rfl rfl ?_
    refine rc_goto (pc := 85) (tgt := 54) hC dX9_remember_85 rfl ?_
    exact ih v1 (v2 + (1 : Int32)) S h
theorem rw_X9_remember_L52 {Y : rc_Y} (hC : rc_C Y cX9_remember RX9 (Option.some Jvm.ClassFile.FieldType.int) 3) (hH : rc_H Y 0 0 yX9_remember.name) (hF : yr_F Y = true) (v1 : Int32) (S : rc_S) (h : rc_Go Y rc_tI (rp_X9_remember_L52  v1) S) : rc_Z Y S 52 [some (rc_q (some (rc_km (yr_K Y) 100))), some (rc_i v1), none] [] := by
  unfold rp_X9_remember_L52 at h
  refine rc_iconst (pc := 52) hC (v := (0 : Int32)) dX9_remember_52 rfl ?_
  refine rc_istore_n (pc := 53) hC (L' := [some (rc_q (some (rc_km (yr_K Y) 100))), some (rc_i v1), some (rc_i (0 : Int32))]) dX9_remember_53 rfl (Nat.le_of_ble_eq_true rfl) rfl rfl ?_
  refine rc_r_fuel h ?_
  intro x1 h
  exact rw_X9_remember_L54 hC hH hF  x1 v1 (0 : Int32) S h
theorem rw_X9_remember_L13 {Y : rc_Y} (hC : rc_C Y cX9_remember RX9 (Option.some Jvm.ClassFile.FieldType.int) 3) (hH : rc_H Y 0 0 yX9_remember.name) (hF : yr_F Y = true) : ∀ (n : Nat) (v1 : Int32) (v2 : Int32) (S : rc_S), rc_Go Y rc_tI (rp_X9_remember_L13  n v1 v2) S → rc_Z Y S 13 [some (rc_q (some (rc_km (yr_K Y) 100))), some (rc_i v1), some (rc_i v2)] [] := by
  intro n
  induction n with
  | zero => intro v1 v2 S h; exact h.fail.elim
  | succ n ih =>
    intro v1 v2 S h
    rw [rp_X9_remember_L13] at h
    refine rc_iload_n (pc := 13) hC dX9_remember_13 rfl rfl ?_
    refine rc_sipush (pc := 14) hC (v := (1488 : Int32)) dX9_remember_14 rfl ?_
    refine rc_icmp_ge (pc := 17) (tgt := 42) hC dX9_remember_17 rfl h ?_ ?_
    · intro _ h
      refine rc_aload_n (pc := 42) hC dX9_remember_42 rfl rfl ?_
      refine rc_dup (pc := 43) hC dX9_remember_43 rfl ?_
      refine rc_r_mget (pc := 44) hC hF rF_X9_358 rfl dX9_remember_44 h ?_
      intro x1 h
      refine rc_iconst (pc := 47) hC (v := (1 : Int32)) dX9_remember_47 rfl ?_
      refine rc_isub (pc := 48) hC dX9_remember_48 ?_
      refine rc_r_mput (pc := 49) hC (Or.inl hF) rP_X9_358 rfl dX9_remember_49 h ?_
      intro S h
      refine rc_drop [true, true, false] (L' := [some (rc_q (some (rc_km (yr_K Y) 100))), some (rc_i v1), none]) rfl ?_
      exact rw_X9_remember_L52 hC hH hF  v1 S h
    intro _ h
    refine rc_aload_n (pc := 20) hC dX9_remember_20 rfl rfl ?_
    refine rc_r_mref (pc := 21) hC hF rF_X9_19 (by decide) dX9_remember_21 h ?_
    refine rc_iload_n (pc := 24) hC dX9_remember_24 rfl rfl ?_
    refine rc_sipush (pc := 25) hC (v := (186 : Int32)) dX9_remember_25 rfl ?_
    refine rc_isub (pc := 28) hC dX9_remember_28 ?_
    refine rc_aload_n (pc := 29) hC dX9_remember_29 rfl rfl ?_
    refine rc_r_mref (pc := 30) hC hF rF_X9_19 (by decide) dX9_remember_30 h ?_
    refine rc_iload_n (pc := 33) hC dX9_remember_33 rfl rfl ?_
    refine rc_r_mald (pc := 34) hC hF (j := 3) (by decide) rfl dX9_remember_34 h ?_
    intro x4 h
    refine rc_r_mast (pc := 35) hC hF (j := 3) (by decide) rfl dX9_remember_35 h ?_
    intro S h
    refine rc_iinc (pc := 36) hC (v := (v2 + (1 : Int32))) (L' := [some (rc_q (some (rc_km (yr_K Y) 100))), some (rc_i v1), some (rc_i (v2 + (1 : Int32)))]) dX9_remember_36 rfl rfl rfl rfl ?_
    refine rc_goto (pc := 39) (tgt := 13) hC dX9_remember_39 rfl ?_
    exact ih v1 (v2 + (1 : Int32)) S h
theorem rw_X9_remember {l : Launch} (hl : l.stackTraces = false) (v1 : Int32) : rc_Cm l yX9_remember (ws_ yX9_remember cX9_remember 3 (Option.some Jvm.ClassFile.FieldType.int)) 0 0 rc_tI (rp_X9_remember v1) [rc_i v1] := by
  refine rc_Cm_H hl (plainFor_of_name rY_X9) rfl (Nat.le_of_ble_eq_true rfl) ?_
  intro Y S hC hH hF h
  have hC : rc_C Y cX9_remember RX9 (Option.some Jvm.ClassFile.FieldType.int) 3 := hC
  show rc_Z Y S 0 [some (rc_q (some (rc_km (yr_K Y) 100))), some (rc_i v1), none] []
  unfold rp_X9_remember at h
  refine rc_aload_n (pc := 0) hC dX9_remember_0 rfl rfl ?_
  refine rc_r_mget (pc := 1) hC hF rF_X9_358 rfl dX9_remember_1 h ?_
  intro x1 h
  refine rc_bipush (pc := 4) hC (v := (8 : Int32)) dX9_remember_4 rfl ?_
  refine rc_icmp_ne (pc := 6) (tgt := 52) hC dX9_remember_6 rfl h ?_ ?_
  · intro _ h
    exact rw_X9_remember_L52 hC hH hF  v1 S h
  intro _ h
  refine rc_sipush (pc := 9) hC (v := (186 : Int32)) dX9_remember_9 rfl ?_
  refine rc_istore_n (pc := 12) hC (L' := [some (rc_q (some (rc_km (yr_K Y) 100))), some (rc_i v1), some (rc_i (186 : Int32))]) dX9_remember_12 rfl (Nat.le_of_ble_eq_true rfl) rfl rfl ?_
  refine rc_r_fuel h ?_
  intro x2 h
  exact rw_X9_remember_L13 hC hH hF  x2 v1 (186 : Int32) S h
theorem rw_X9_runScript_L59 {Y : rc_Y} (hC : rc_C Y cX9_runScript RX9 (Option.some Jvm.ClassFile.FieldType.int) 2) (hH : rc_H Y 16 359 yX9_runScript.name) (hF : yr_F Y = true) : ∀ (n : Nat) (v1 : Int32) (S : rc_S), rc_Go Y rc_tI (rp_X9_runScript_L59  n v1) S → rc_Z Y S 59 [some (rc_q (some (rc_km (yr_K Y) 100))), some (rc_i v1)] [] := by
  intro n
  induction n with
  | zero => intro v1 S h; exact h.fail.elim
  | succ n ih =>
    intro v1 S h
    rw [rp_X9_runScript_L59] at h
    refine rc_iload_n (pc := 59) hC dX9_runScript_59 rfl rfl ?_
    refine rc_sipush (pc := 60) hC (v := (186 : Int32)) dX9_runScript_60 rfl ?_
    refine rc_icmp_ge (pc := 63) (tgt := 84) hC dX9_runScript_63 rfl h ?_ ?_
    · intro _ h
      refine rc_iconst (pc := 84) hC (v := (-1 : Int32)) dX9_runScript_84 rfl ?_
      exact rc_iret hC rfl rfl dX9_runScript_85 h rfl
    intro _ h
    refine rc_aload_n (pc := 66) hC dX9_runScript_66 rfl rfl ?_
    refine rc_r_mref (pc := 67) hC hF rF_X9_7 (by decide) dX9_runScript_67 h ?_
    refine rc_iload_n (pc := 70) hC dX9_runScript_70 rfl rfl ?_
    refine rc_aload_n (pc := 71) hC dX9_runScript_71 rfl rfl ?_
    refine rc_r_mref (pc := 72) hC hF rF_X9_13 (by decide) dX9_runScript_72 h ?_
    refine rc_iload_n (pc := 75) hC dX9_runScript_75 rfl rfl ?_
    refine rc_r_mald (pc := 76) hC hF (j := 1) (by decide) rfl dX9_runScript_76 h ?_
    intro x3 h
    refine rc_r_mast (pc := 77) hC hF (j := 0) (by decide) rfl dX9_runScript_77 h ?_
    intro S h
    refine rc_iinc (pc := 78) hC (v := (v1 + (1 : Int32))) (L' := [some (rc_q (some (rc_km (yr_K Y) 100))), some (rc_i (v1 + (1 : Int32)))]) dX9_runScript_78 rfl rfl rfl rfl ?_
    refine rc_goto (pc := 81) (tgt := 59) hC dX9_runScript_81 rfl ?_
    exact ih (v1 + (1 : Int32)) S h
theorem rw_X9_runScript_L7 {Y : rc_Y} (hC : rc_C Y cX9_runScript RX9 (Option.some Jvm.ClassFile.FieldType.int) 2) (hH : rc_H Y 16 359 yX9_runScript.name) (hF : yr_F Y = true) : ∀ (n : Nat) (v1 : Int32) (S : rc_S), rc_Go Y rc_tI (rp_X9_runScript_L7  n v1) S → rc_Z Y S 7 [some (rc_q (some (rc_km (yr_K Y) 100))), some (rc_i v1)] [] := by
  intro n
  induction n with
  | zero => intro v1 S h; exact h.fail.elim
  | succ n ih =>
    intro v1 S h
    rw [rp_X9_runScript_L7] at h
    refine rc_iload_n (pc := 7) hC dX9_runScript_7 rfl rfl ?_
    refine rc_aload_n (pc := 8) hC dX9_runScript_8 rfl rfl ?_
    refine rc_r_mget (pc := 9) hC hF rF_X9_349 rfl dX9_runScript_9 h ?_
    intro x1 h
    refine rc_icmp_ge (pc := 12) (tgt := 33) hC dX9_runScript_12 rfl h ?_ ?_
    · intro _ h
      refine rc_aload_n (pc := 33) hC dX9_runScript_33 rfl rfl ?_
      refine rc_aload_n (pc := 34) hC dX9_runScript_34 rfl rfl ?_
      refine rc_r_mget (pc := 35) hC hF rF_X9_349 rfl dX9_runScript_35 h ?_
      intro x2 h
      refine rc_r_mput (pc := 38) hC (Or.inl hF) rP_X9_157 rfl dX9_runScript_38 h ?_
      intro S h
      refine rc_aload_n (pc := 41) hC dX9_runScript_41 rfl rfl ?_
      refine rc_iconst (pc := 42) hC (v := (0 : Int32)) dX9_runScript_42 rfl ?_
      refine rc_r_mput (pc := 43) hC (Or.inl hF) rP_X9_349 rfl dX9_runScript_43 h ?_
      intro S h
      refine rc_aload_n (pc := 46) hC dX9_runScript_46 rfl rfl ?_
      refine rc_callM (pc := 47) hC (rw_X9_begins hH.1) q2400 q2402 qs98 q149 q2403 rfl rd_X9_begins (hH.room (Nat.le_of_ble_eq_true rfl) (Nat.le_of_ble_eq_true rfl)) rfl rfl (Nat.le_of_ble_eq_true rfl) 0 rfl h.le.2.2 (Or.inl hF) h.br rfl dX9_runScript_47 ?_ (fun E q S hT => rc_out hC hH.2.2.2.2 hT)
      intro _ S h
      show rc_Z Y S 50 [some (rc_q (some (rc_km (yr_K Y) 100))), some (rc_i v1)] []
      refine rc_aload_n (pc := 50) hC dX9_runScript_50 rfl rfl ?_
      refine rc_callM (pc := 51) hC (rw_X9_parses hH.1) q2012 q2014 qs29 q149 q2015 rfl rd_X9_parses (hH.room (Nat.le_of_ble_eq_true rfl) (Nat.le_of_ble_eq_true rfl)) rfl rfl (Nat.le_of_ble_eq_true rfl) 0 rfl h.le.2.2 (Or.inl hF) h.br rfl dX9_runScript_51 ?_ (fun E q S hT => rc_out hC hH.2.2.2.2 hT)
      intro x3 S h
      show rc_Z Y S 54 [some (rc_q (some (rc_km (yr_K Y) 100))), some (rc_i v1)] [rc_i x3]
      refine rc_if_ne (pc := 54) (tgt := 86) hC dX9_runScript_54 rfl h ?_ ?_
      · intro _ h
        refine rc_aload_n (pc := 86) hC dX9_runScript_86 rfl rfl ?_
        refine rc_aload_n (pc := 87) hC dX9_runScript_87 rfl rfl ?_
        refine rc_r_mref (pc := 88) hC hF rF_X9_7 (by decide) dX9_runScript_88 h ?_
        refine rc_iconst (pc := 91) hC (v := (2 : Int32)) dX9_runScript_91 rfl ?_
        refine rc_r_mald (pc := 92) hC hF (j := 0) (by decide) rfl dX9_runScript_92 h ?_
        intro x5 h
        refine rc_callM (pc := 93) hC (rw_X9_remember hH.1 x5) q2404 q2406 qs99 q149 q2407 rfl rd_X9_remember (hH.room (Nat.le_of_ble_eq_true rfl) (Nat.le_of_ble_eq_true rfl)) rfl rfl (Nat.le_of_ble_eq_true rfl) 1 rfl h.le.2.2 (Or.inl hF) h.br rfl dX9_runScript_93 ?_ (fun E q S hT => rc_out hC hH.2.2.2.2 hT)
        intro x6 S h
        show rc_Z Y S 96 [some (rc_q (some (rc_km (yr_K Y) 100))), some (rc_i v1)] [rc_i x6]
        exact rc_iret hC rfl rfl dX9_runScript_96 h rfl
      intro _ h
      refine rc_iconst (pc := 57) hC (v := (0 : Int32)) dX9_runScript_57 rfl ?_
      refine rc_istore_n (pc := 58) hC (L' := [some (rc_q (some (rc_km (yr_K Y) 100))), some (rc_i (0 : Int32))]) dX9_runScript_58 rfl (Nat.le_of_ble_eq_true rfl) rfl rfl ?_
      refine rc_r_fuel h ?_
      intro x7 h
      exact rw_X9_runScript_L59 hC hH hF  x7 (0 : Int32) S h
    intro _ h
    refine rc_aload_n (pc := 15) hC dX9_runScript_15 rfl rfl ?_
    refine rc_r_mref (pc := 16) hC hF rF_X9_28 (by decide) dX9_runScript_16 h ?_
    refine rc_iload_n (pc := 19) hC dX9_runScript_19 rfl rfl ?_
    refine rc_aload_n (pc := 20) hC dX9_runScript_20 rfl rfl ?_
    refine rc_r_mref (pc := 21) hC hF rF_X9_25 (by decide) dX9_runScript_21 h ?_
    refine rc_iload_n (pc := 24) hC dX9_runScript_24 rfl rfl ?_
    refine rc_r_mald (pc := 25) hC hF (j := 7) (by decide) rfl dX9_runScript_25 h ?_
    intro x10 h
    refine rc_r_mast (pc := 26) hC hF (j := 8) (by decide) rfl dX9_runScript_26 h ?_
    intro S h
    refine rc_iinc (pc := 27) hC (v := (v1 + (1 : Int32))) (L' := [some (rc_q (some (rc_km (yr_K Y) 100))), some (rc_i (v1 + (1 : Int32)))]) dX9_runScript_27 rfl rfl rfl rfl ?_
    refine rc_goto (pc := 30) (tgt := 7) hC dX9_runScript_30 rfl ?_
    exact ih (v1 + (1 : Int32)) S h
theorem rw_X9_runScript {l : Launch} (hl : l.stackTraces = false) : rc_Cm l yX9_runScript (ws_ yX9_runScript cX9_runScript 2 (Option.some Jvm.ClassFile.FieldType.int)) 16 359 rc_tI (rp_X9_runScript ) [] := by
  refine rc_Cm_H hl (plainFor_of_name rY_X9) rfl (Nat.le_of_ble_eq_true rfl) ?_
  intro Y S hC hH hF h
  have hC : rc_C Y cX9_runScript RX9 (Option.some Jvm.ClassFile.FieldType.int) 2 := hC
  show rc_Z Y S 0 [some (rc_q (some (rc_km (yr_K Y) 100))), none] []
  unfold rp_X9_runScript at h
  refine rc_aload_n (pc := 0) hC dX9_runScript_0 rfl rfl ?_
  refine rc_iconst (pc := 1) hC (v := (0 : Int32)) dX9_runScript_1 rfl ?_
  refine rc_r_mput (pc := 2) hC (Or.inl hF) rP_X9_57 rfl dX9_runScript_2 h ?_
  intro S h
  refine rc_iconst (pc := 5) hC (v := (0 : Int32)) dX9_runScript_5 rfl ?_
  refine rc_istore_n (pc := 6) hC (L' := [some (rc_q (some (rc_km (yr_K Y) 100))), some (rc_i (0 : Int32))]) dX9_runScript_6 rfl (Nat.le_of_ble_eq_true rfl) rfl rfl ?_
  refine rc_r_fuel h ?_
  intro x1 h
  exact rw_X9_runScript_L7 hC hH hF  x1 (0 : Int32) S h
theorem rw_X9_throwsOne_2_L29 {Y : rc_Y} (hC : rc_C Y cX9_throwsOne_2 RX9 (Option.some Jvm.ClassFile.FieldType.boolean) 3) (hH : rc_H Y 0 0 yX9_throwsOne_2.name) (hF : yr_F Y = true) (S : rc_S) (h : rc_Go Y rc_tI (rp_X9_throwsOne_2_L29  ) S) : rc_Z Y S 29 [none, none, none] [] := by
  unfold rp_X9_throwsOne_2_L29 at h
  refine rc_iconst (pc := 29) hC (v := (1 : Int32)) dX9_throwsOne_2_29 rfl ?_
  refine rc_goto (pc := 30) (tgt := 34) hC dX9_throwsOne_2_30 rfl ?_
  exact rc_iret hC rfl rfl dX9_throwsOne_2_34 h rfl
theorem rw_X9_throwsOne_2_L18 {Y : rc_Y} (hC : rc_C Y cX9_throwsOne_2 RX9 (Option.some Jvm.ClassFile.FieldType.boolean) 3) (hH : rc_H Y 0 0 yX9_throwsOne_2.name) (hF : yr_F Y = true) (v1 : Int32) (v2 : Int32) (s0 : Int32) (S : rc_S) (h : rc_Go Y rc_tI (rp_X9_throwsOne_2_L18  v1 v2 s0) S) : rc_Z Y S 18 [none, some (rc_i v1), some (rc_i v2)] [rc_i s0, rc_q (some (rc_km (yr_K Y) 100))] := by
  unfold rp_X9_throwsOne_2_L18 at h
  refine rc_r_mput (pc := 18) hC (Or.inl hF) rP_X9_57 rfl dX9_throwsOne_2_18 h ?_
  intro S h
  refine rc_iload_n (pc := 21) hC dX9_throwsOne_2_21 rfl rfl ?_
  refine rc_if_ne (pc := 22) (tgt := 29) hC dX9_throwsOne_2_22 rfl h ?_ ?_
  · intro _ h
    refine rc_drop [false, false, false] (L' := [none, none, none]) rfl ?_
    exact rw_X9_throwsOne_2_L29 hC hH hF   S h
  intro _ h
  refine rc_iload_n (pc := 25) hC dX9_throwsOne_2_25 rfl rfl ?_
  refine rc_if_eq (pc := 26) (tgt := 33) hC dX9_throwsOne_2_26 rfl h ?_ ?_
  · intro _ h
    refine rc_iconst (pc := 33) hC (v := (0 : Int32)) dX9_throwsOne_2_33 rfl ?_
    exact rc_iret hC rfl rfl dX9_throwsOne_2_34 h rfl
  intro _ h
  refine rc_drop [false, false, false] (L' := [none, none, none]) rfl ?_
  exact rw_X9_throwsOne_2_L29 hC hH hF   S h
theorem rw_X9_throwsOne_2 {l : Launch} (hl : l.stackTraces = false) (v1 : Int32) (v2 : Int32) : rc_Cm l yX9_throwsOne_2 (ws_ yX9_throwsOne_2 cX9_throwsOne_2 3 (Option.some Jvm.ClassFile.FieldType.boolean)) 0 0 rc_tI (rp_X9_throwsOne_2 v1 v2) [rc_i v1, rc_i v2] := by
  refine rc_Cm_H hl (plainFor_of_name rY_X9) rfl (Nat.le_of_ble_eq_true rfl) ?_
  intro Y S hC hH hF h
  have hC : rc_C Y cX9_throwsOne_2 RX9 (Option.some Jvm.ClassFile.FieldType.boolean) 3 := hC
  show rc_Z Y S 0 [some (rc_q (some (rc_km (yr_K Y) 100))), some (rc_i v1), some (rc_i v2)] []
  unfold rp_X9_throwsOne_2 at h
  refine rc_aload_n (pc := 0) hC dX9_throwsOne_2_0 rfl rfl ?_
  refine rc_iload_n (pc := 1) hC dX9_throwsOne_2_1 rfl rfl ?_
  refine rc_if_eq (pc := 2) (tgt := 9) hC dX9_throwsOne_2_2 rfl h ?_ ?_
  · intro _ h
    refine rc_iload_n (pc := 9) hC dX9_throwsOne_2_9 rfl rfl ?_
    refine rc_if_eq (pc := 10) (tgt := 17) hC dX9_throwsOne_2_10 rfl h ?_ ?_
    · intro _ h
      refine rc_iconst (pc := 17) hC (v := (0 : Int32)) dX9_throwsOne_2_17 rfl ?_
      refine rc_drop [false, true, true] (L' := [none, some (rc_i v1), some (rc_i v2)]) rfl ?_
      exact rw_X9_throwsOne_2_L18 hC hH hF  v1 v2 (0 : Int32) S h
    intro _ h
    refine rc_iconst (pc := 13) hC (v := (2 : Int32)) dX9_throwsOne_2_13 rfl ?_
    refine rc_goto (pc := 14) (tgt := 18) hC dX9_throwsOne_2_14 rfl ?_
    refine rc_drop [false, true, true] (L' := [none, some (rc_i v1), some (rc_i v2)]) rfl ?_
    exact rw_X9_throwsOne_2_L18 hC hH hF  v1 v2 (2 : Int32) S h
  intro _ h
  refine rc_iconst (pc := 5) hC (v := (1 : Int32)) dX9_throwsOne_2_5 rfl ?_
  refine rc_goto (pc := 6) (tgt := 18) hC dX9_throwsOne_2_6 rfl ?_
  refine rc_drop [false, true, true] (L' := [none, some (rc_i v1), some (rc_i v2)]) rfl ?_
  exact rw_X9_throwsOne_2_L18 hC hH hF  v1 v2 (1 : Int32) S h
theorem rw_X9_addChimney_L32 {Y : rc_Y} (hC : rc_C Y cX9_addChimney RX9 (Option.some Jvm.ClassFile.FieldType.int) 2) (hH : rc_H Y 1 22 yX9_addChimney.name) (hF : yr_F Y = true) (v1 : Int32) (s0 : Int32) (s1 : Int32) (S : rc_S) (h : rc_Go Y rc_tI (rp_X9_addChimney_L32  v1 s0 s1) S) : rc_Z Y S 32 [some (rc_q (some (rc_km (yr_K Y) 100))), some (rc_i v1)] [rc_i s0, rc_i s1, rc_q (some (rc_km (yr_K Y) 100))] := by
  unfold rp_X9_addChimney_L32 at h
  refine rc_callM (pc := 32) hC (rw_X9_throwsOne_2 hH.1 s1 s0) q2412 q2414 qs100 q149 q2415 rfl rd_X9_throwsOne_2 (hH.room (Nat.le_of_ble_eq_true rfl) (Nat.le_of_ble_eq_true rfl)) rfl rfl (Nat.le_of_ble_eq_true rfl) 2 rfl h.le.2.2 (Or.inl hF) h.br rfl dX9_addChimney_32 ?_ (fun E q S hT => rc_out hC hH.2.2.2.2 hT)
  intro x1 S h
  show rc_Z Y S 35 [some (rc_q (some (rc_km (yr_K Y) 100))), some (rc_i v1)] [rc_i x1]
  refine rc_if_eq (pc := 35) (tgt := 40) hC dX9_addChimney_35 rfl h ?_ ?_
  · intro _ h
    refine rc_aload_n (pc := 40) hC dX9_addChimney_40 rfl rfl ?_
    refine rc_callM (pc := 41) hC (rw_X9_begins hH.1) q2400 q2402 qs98 q149 q2403 rfl rd_X9_begins (hH.room (Nat.le_of_ble_eq_true rfl) (Nat.le_of_ble_eq_true rfl)) rfl rfl (Nat.le_of_ble_eq_true rfl) 0 rfl h.le.2.2 (Or.inl hF) h.br rfl dX9_addChimney_41 ?_ (fun E q S hT => rc_out hC hH.2.2.2.2 hT)
    intro _ S h
    show rc_Z Y S 44 [some (rc_q (some (rc_km (yr_K Y) 100))), some (rc_i v1)] []
    refine rc_aload_n (pc := 44) hC dX9_addChimney_44 rfl rfl ?_
    refine rc_aload_n (pc := 45) hC dX9_addChimney_45 rfl rfl ?_
    refine rc_iload_n (pc := 46) hC dX9_addChimney_46 rfl rfl ?_
    refine rc_callM (pc := 47) hC (rw_X9_builds hH.1 v1) q2088 q2090 qs43 q149 q2091 rfl rd_X9_builds (hH.room (Nat.le_of_ble_eq_true rfl) (Nat.le_of_ble_eq_true rfl)) rfl rfl (Nat.le_of_ble_eq_true rfl) 1 rfl h.le.2.2 (Or.inl hF) h.br rfl dX9_addChimney_47 ?_ (fun E q S hT => rc_out hC hH.2.2.2.2 hT)
    intro x2 S h
    show rc_Z Y S 50 [some (rc_q (some (rc_km (yr_K Y) 100))), some (rc_i v1)] [rc_i x2, rc_q (some (rc_km (yr_K Y) 100))]
    refine rc_callM (pc := 50) hC (rw_X9_remember hH.1 x2) q2404 q2406 qs99 q149 q2407 rfl rd_X9_remember (hH.room (Nat.le_of_ble_eq_true rfl) (Nat.le_of_ble_eq_true rfl)) rfl rfl (Nat.le_of_ble_eq_true rfl) 1 rfl h.le.2.2 (Or.inl hF) h.br rfl dX9_addChimney_50 ?_ (fun E q S hT => rc_out hC hH.2.2.2.2 hT)
    intro x3 S h
    show rc_Z Y S 53 [some (rc_q (some (rc_km (yr_K Y) 100))), some (rc_i v1)] [rc_i x3]
    exact rc_iret hC rfl rfl dX9_addChimney_53 h rfl
  intro _ h
  refine rc_iconst (pc := 38) hC (v := (0 : Int32)) dX9_addChimney_38 rfl ?_
  exact rc_iret hC rfl rfl dX9_addChimney_39 h rfl
theorem rw_X9_addChimney_L16 {Y : rc_Y} (hC : rc_C Y cX9_addChimney RX9 (Option.some Jvm.ClassFile.FieldType.int) 2) (hH : rc_H Y 1 22 yX9_addChimney.name) (hF : yr_F Y = true) (v1 : Int32) (s0 : Int32) (S : rc_S) (h : rc_Go Y rc_tI (rp_X9_addChimney_L16  v1 s0) S) : rc_Z Y S 16 [some (rc_q (some (rc_km (yr_K Y) 100))), some (rc_i v1)] [rc_i s0, rc_q (some (rc_km (yr_K Y) 100))] := by
  unfold rp_X9_addChimney_L16 at h
  refine rc_aload_n (pc := 16) hC dX9_addChimney_16 rfl rfl ?_
  refine rc_r_mref (pc := 17) hC hF rF_X9_7 (by decide) dX9_addChimney_17 h ?_
  refine rc_iconst (pc := 20) hC (v := (0 : Int32)) dX9_addChimney_20 rfl ?_
  refine rc_r_mald (pc := 21) hC hF (j := 0) (by decide) rfl dX9_addChimney_21 h ?_
  intro x2 h
  refine rc_bipush (pc := 22) hC (v := (10 : Int32)) dX9_addChimney_22 rfl ?_
  refine rc_icmp_ne (pc := 24) (tgt := 31) hC dX9_addChimney_24 rfl h ?_ ?_
  · intro _ h
    refine rc_iconst (pc := 31) hC (v := (0 : Int32)) dX9_addChimney_31 rfl ?_
    exact rw_X9_addChimney_L32 hC hH hF  v1 (0 : Int32) s0 S h
  intro _ h
  refine rc_iconst (pc := 27) hC (v := (1 : Int32)) dX9_addChimney_27 rfl ?_
  refine rc_goto (pc := 28) (tgt := 32) hC dX9_addChimney_28 rfl ?_
  exact rw_X9_addChimney_L32 hC hH hF  v1 (1 : Int32) s0 S h
theorem rw_X9_addChimney {l : Launch} (hl : l.stackTraces = false) (v1 : Int32) : rc_Cm l yX9_addChimney (ws_ yX9_addChimney cX9_addChimney 2 (Option.some Jvm.ClassFile.FieldType.int)) 1 22 rc_tI (rp_X9_addChimney v1) [rc_i v1] := by
  refine rc_Cm_H hl (plainFor_of_name rY_X9) rfl (Nat.le_of_ble_eq_true rfl) ?_
  intro Y S hC hH hF h
  have hC : rc_C Y cX9_addChimney RX9 (Option.some Jvm.ClassFile.FieldType.int) 2 := hC
  show rc_Z Y S 0 [some (rc_q (some (rc_km (yr_K Y) 100))), some (rc_i v1)] []
  unfold rp_X9_addChimney at h
  refine rc_aload_n (pc := 0) hC dX9_addChimney_0 rfl rfl ?_
  refine rc_iload_n (pc := 1) hC dX9_addChimney_1 rfl rfl ?_
  refine rc_iconst (pc := 2) hC (v := (0 : Int32)) dX9_addChimney_2 rfl ?_
  refine rc_bipush (pc := 3) hC (v := (9 : Int32)) dX9_addChimney_3 rfl ?_
  refine rc_callS (pc := 5) hC (rw_X9_in hH.1 v1 (0 : Int32) (9 : Int32)) q2073 q2074 q149 q2075 rd_X9_in (hH.room (Nat.le_of_ble_eq_true rfl) (Nat.le_of_ble_eq_true rfl)) rfl rfl (Nat.le_of_ble_eq_true rfl) 3 rfl h.le.2.2 h.br rfl dX9_addChimney_5 ?_ (fun E q S hT => rc_out hC hH.2.2.2.2 hT)
  intro x1 S h
  show rc_Z Y S 8 [some (rc_q (some (rc_km (yr_K Y) 100))), some (rc_i v1)] [rc_i x1, rc_q (some (rc_km (yr_K Y) 100))]
  refine rc_if_ne (pc := 8) (tgt := 15) hC dX9_addChimney_8 rfl h ?_ ?_
  · intro _ h
    refine rc_iconst (pc := 15) hC (v := (0 : Int32)) dX9_addChimney_15 rfl ?_
    exact rw_X9_addChimney_L16 hC hH hF  v1 (0 : Int32) S h
  intro _ h
  refine rc_iconst (pc := 11) hC (v := (1 : Int32)) dX9_addChimney_11 rfl ?_
  refine rc_goto (pc := 12) (tgt := 16) hC dX9_addChimney_12 rfl ?_
  exact rw_X9_addChimney_L16 hC hH hF  v1 (1 : Int32) S h
theorem rw_X9_isChimney {l : Launch} (hl : l.stackTraces = false) (v1 : Int32) : rc_Cm l yX9_isChimney (ws_ yX9_isChimney cX9_isChimney 2 (Option.some Jvm.ClassFile.FieldType.boolean)) 1 22 rc_tI (rp_X9_isChimney v1) [rc_i v1] := by
  refine rc_Cm_H hl (plainFor_of_name rY_X9) rfl (Nat.le_of_ble_eq_true rfl) ?_
  intro Y S hC hH hF h
  have hC : rc_C Y cX9_isChimney RX9 (Option.some Jvm.ClassFile.FieldType.boolean) 2 := hC
  show rc_Z Y S 0 [some (rc_q (some (rc_km (yr_K Y) 100))), some (rc_i v1)] []
  unfold rp_X9_isChimney at h
  refine rc_iload_n (pc := 0) hC dX9_isChimney_0 rfl rfl ?_
  refine rc_iconst (pc := 1) hC (v := (0 : Int32)) dX9_isChimney_1 rfl ?_
  refine rc_aload_n (pc := 2) hC dX9_isChimney_2 rfl rfl ?_
  refine rc_r_mref (pc := 3) hC hF rF_X9_7 (by decide) dX9_isChimney_3 h ?_
  refine rc_iconst (pc := 6) hC (v := (0 : Int32)) dX9_isChimney_6 rfl ?_
  refine rc_r_mald (pc := 7) hC hF (j := 0) (by decide) rfl dX9_isChimney_7 h ?_
  intro x2 h
  refine rc_iconst (pc := 8) hC (v := (1 : Int32)) dX9_isChimney_8 rfl ?_
  refine rc_isub (pc := 9) hC dX9_isChimney_9 ?_
  refine rc_callS (pc := 10) hC (rw_X9_in hH.1 v1 (0 : Int32) (x2 - (1 : Int32))) q2073 q2074 q149 q2075 rd_X9_in (hH.room (Nat.le_of_ble_eq_true rfl) (Nat.le_of_ble_eq_true rfl)) rfl rfl (Nat.le_of_ble_eq_true rfl) 3 rfl h.le.2.2 h.br rfl dX9_isChimney_10 ?_ (fun E q S hT => rc_out hC hH.2.2.2.2 hT)
  intro x3 S h
  show rc_Z Y S 13 [some (rc_q (some (rc_km (yr_K Y) 100))), some (rc_i v1)] [rc_i x3]
  obtain ⟨hn, h⟩ := h.nar
  exact rc_iret hC rfl hn dX9_isChimney_13 h rfl
theorem rw_X9_throwsOne_3_L41 {Y : rc_Y} (hC : rc_C Y cX9_throwsOne_3 RX9 (Option.some Jvm.ClassFile.FieldType.boolean) 4) (hH : rc_H Y 0 0 yX9_throwsOne_3.name) (hF : yr_F Y = true) (S : rc_S) (h : rc_Go Y rc_tI (rp_X9_throwsOne_3_L41  ) S) : rc_Z Y S 41 [none, none, none, none] [] := by
  unfold rp_X9_throwsOne_3_L41 at h
  refine rc_iconst (pc := 41) hC (v := (1 : Int32)) dX9_throwsOne_3_41 rfl ?_
  refine rc_goto (pc := 42) (tgt := 46) hC dX9_throwsOne_3_42 rfl ?_
  exact rc_iret hC rfl rfl dX9_throwsOne_3_46 h rfl
theorem rw_X9_throwsOne_3_L26 {Y : rc_Y} (hC : rc_C Y cX9_throwsOne_3 RX9 (Option.some Jvm.ClassFile.FieldType.boolean) 4) (hH : rc_H Y 0 0 yX9_throwsOne_3.name) (hF : yr_F Y = true) (v1 : Int32) (v2 : Int32) (v3 : Int32) (s0 : Int32) (S : rc_S) (h : rc_Go Y rc_tI (rp_X9_throwsOne_3_L26  v1 v2 v3 s0) S) : rc_Z Y S 26 [none, some (rc_i v1), some (rc_i v2), some (rc_i v3)] [rc_i s0, rc_q (some (rc_km (yr_K Y) 100))] := by
  unfold rp_X9_throwsOne_3_L26 at h
  refine rc_r_mput (pc := 26) hC (Or.inl hF) rP_X9_57 rfl dX9_throwsOne_3_26 h ?_
  intro S h
  refine rc_iload_n (pc := 29) hC dX9_throwsOne_3_29 rfl rfl ?_
  refine rc_if_ne (pc := 30) (tgt := 41) hC dX9_throwsOne_3_30 rfl h ?_ ?_
  · intro _ h
    refine rc_drop [false, false, false, false] (L' := [none, none, none, none]) rfl ?_
    exact rw_X9_throwsOne_3_L41 hC hH hF   S h
  intro _ h
  refine rc_iload_n (pc := 33) hC dX9_throwsOne_3_33 rfl rfl ?_
  refine rc_if_ne (pc := 34) (tgt := 41) hC dX9_throwsOne_3_34 rfl h ?_ ?_
  · intro _ h
    refine rc_drop [false, false, false, false] (L' := [none, none, none, none]) rfl ?_
    exact rw_X9_throwsOne_3_L41 hC hH hF   S h
  intro _ h
  refine rc_iload_n (pc := 37) hC dX9_throwsOne_3_37 rfl rfl ?_
  refine rc_if_eq (pc := 38) (tgt := 45) hC dX9_throwsOne_3_38 rfl h ?_ ?_
  · intro _ h
    refine rc_iconst (pc := 45) hC (v := (0 : Int32)) dX9_throwsOne_3_45 rfl ?_
    exact rc_iret hC rfl rfl dX9_throwsOne_3_46 h rfl
  intro _ h
  refine rc_drop [false, false, false, false] (L' := [none, none, none, none]) rfl ?_
  exact rw_X9_throwsOne_3_L41 hC hH hF   S h
theorem rw_X9_throwsOne_3 {l : Launch} (hl : l.stackTraces = false) (v1 : Int32) (v2 : Int32) (v3 : Int32) : rc_Cm l yX9_throwsOne_3 (ws_ yX9_throwsOne_3 cX9_throwsOne_3 4 (Option.some Jvm.ClassFile.FieldType.boolean)) 0 0 rc_tI (rp_X9_throwsOne_3 v1 v2 v3) [rc_i v1, rc_i v2, rc_i v3] := by
  refine rc_Cm_H hl (plainFor_of_name rY_X9) rfl (Nat.le_of_ble_eq_true rfl) ?_
  intro Y S hC hH hF h
  have hC : rc_C Y cX9_throwsOne_3 RX9 (Option.some Jvm.ClassFile.FieldType.boolean) 4 := hC
  show rc_Z Y S 0 [some (rc_q (some (rc_km (yr_K Y) 100))), some (rc_i v1), some (rc_i v2), some (rc_i v3)] []
  unfold rp_X9_throwsOne_3 at h
  refine rc_aload_n (pc := 0) hC dX9_throwsOne_3_0 rfl rfl ?_
  refine rc_iload_n (pc := 1) hC dX9_throwsOne_3_1 rfl rfl ?_
  refine rc_if_eq (pc := 2) (tgt := 9) hC dX9_throwsOne_3_2 rfl h ?_ ?_
  · intro _ h
    refine rc_iload_n (pc := 9) hC dX9_throwsOne_3_9 rfl rfl ?_
    refine rc_if_eq (pc := 10) (tgt := 17) hC dX9_throwsOne_3_10 rfl h ?_ ?_
    · intro _ h
      refine rc_iload_n (pc := 17) hC dX9_throwsOne_3_17 rfl rfl ?_
      refine rc_if_eq (pc := 18) (tgt := 25) hC dX9_throwsOne_3_18 rfl h ?_ ?_
      · intro _ h
        refine rc_iconst (pc := 25) hC (v := (0 : Int32)) dX9_throwsOne_3_25 rfl ?_
        refine rc_drop [false, true, true, true] (L' := [none, some (rc_i v1), some (rc_i v2), some (rc_i v3)]) rfl ?_
        exact rw_X9_throwsOne_3_L26 hC hH hF  v1 v2 v3 (0 : Int32) S h
      intro _ h
      refine rc_iconst (pc := 21) hC (v := (3 : Int32)) dX9_throwsOne_3_21 rfl ?_
      refine rc_goto (pc := 22) (tgt := 26) hC dX9_throwsOne_3_22 rfl ?_
      refine rc_drop [false, true, true, true] (L' := [none, some (rc_i v1), some (rc_i v2), some (rc_i v3)]) rfl ?_
      exact rw_X9_throwsOne_3_L26 hC hH hF  v1 v2 v3 (3 : Int32) S h
    intro _ h
    refine rc_iconst (pc := 13) hC (v := (2 : Int32)) dX9_throwsOne_3_13 rfl ?_
    refine rc_goto (pc := 14) (tgt := 26) hC dX9_throwsOne_3_14 rfl ?_
    refine rc_drop [false, true, true, true] (L' := [none, some (rc_i v1), some (rc_i v2), some (rc_i v3)]) rfl ?_
    exact rw_X9_throwsOne_3_L26 hC hH hF  v1 v2 v3 (2 : Int32) S h
  intro _ h
  refine rc_iconst (pc := 5) hC (v := (1 : Int32)) dX9_throwsOne_3_5 rfl ?_
  refine rc_goto (pc := 6) (tgt := 26) hC dX9_throwsOne_3_6 rfl ?_
  refine rc_drop [false, true, true, true] (L' := [none, some (rc_i v1), some (rc_i v2), some (rc_i v3)]) rfl ?_
  exact rw_X9_throwsOne_3_L26 hC hH hF  v1 v2 v3 (1 : Int32) S h
theorem rw_X9_addGutter_L58 {Y : rc_Y} (hC : rc_C Y cX9_addGutter RX9 (Option.some Jvm.ClassFile.FieldType.int) 4) (hH : rc_H Y 2 43 yX9_addGutter.name) (hF : yr_F Y = true) (v1 : Int32) (v2 : Int32) (v3 : Int32) (s0 : Int32) (s1 : Int32) (s2 : Int32) (S : rc_S) (h : rc_Go Y rc_tI (rp_X9_addGutter_L58  v1 v2 v3 s0 s1 s2) S) : rc_Z Y S 58 [some (rc_q (some (rc_km (yr_K Y) 100))), some (rc_i v1), some (rc_i v2), some (rc_i v3)] [rc_i s0, rc_i s1, rc_i s2, rc_q (some (rc_km (yr_K Y) 100))] := by
  unfold rp_X9_addGutter_L58 at h
  refine rc_callM (pc := 58) hC (rw_X9_throwsOne_3 hH.1 s2 s1 s0) q2424 q2426 qs102 q149 q2427 rfl rd_X9_throwsOne_3 (hH.room (Nat.le_of_ble_eq_true rfl) (Nat.le_of_ble_eq_true rfl)) rfl rfl (Nat.le_of_ble_eq_true rfl) 3 rfl h.le.2.2 (Or.inl hF) h.br rfl dX9_addGutter_58 ?_ (fun E q S hT => rc_out hC hH.2.2.2.2 hT)
  intro x1 S h
  show rc_Z Y S 61 [some (rc_q (some (rc_km (yr_K Y) 100))), some (rc_i v1), some (rc_i v2), some (rc_i v3)] [rc_i x1]
  refine rc_if_eq (pc := 61) (tgt := 66) hC dX9_addGutter_61 rfl h ?_ ?_
  · intro _ h
    refine rc_aload_n (pc := 66) hC dX9_addGutter_66 rfl rfl ?_
    refine rc_callM (pc := 67) hC (rw_X9_begins hH.1) q2400 q2402 qs98 q149 q2403 rfl rd_X9_begins (hH.room (Nat.le_of_ble_eq_true rfl) (Nat.le_of_ble_eq_true rfl)) rfl rfl (Nat.le_of_ble_eq_true rfl) 0 rfl h.le.2.2 (Or.inl hF) h.br rfl dX9_addGutter_67 ?_ (fun E q S hT => rc_out hC hH.2.2.2.2 hT)
    intro _ S h
    show rc_Z Y S 70 [some (rc_q (some (rc_km (yr_K Y) 100))), some (rc_i v1), some (rc_i v2), some (rc_i v3)] []
    refine rc_aload_n (pc := 70) hC dX9_addGutter_70 rfl rfl ?_
    refine rc_aload_n (pc := 71) hC dX9_addGutter_71 rfl rfl ?_
    refine rc_iload_n (pc := 72) hC dX9_addGutter_72 rfl rfl ?_
    refine rc_iload_n (pc := 73) hC dX9_addGutter_73 rfl rfl ?_
    refine rc_iload_n (pc := 74) hC dX9_addGutter_74 rfl rfl ?_
    refine rc_callM (pc := 75) hC (rw_X9_lays hH.1 v1 v2 v3) q2104 q2106 qs47 q149 q2107 rfl rd_X9_lays (hH.room (Nat.le_of_ble_eq_true rfl) (Nat.le_of_ble_eq_true rfl)) rfl rfl (Nat.le_of_ble_eq_true rfl) 3 rfl h.le.2.2 (Or.inl hF) h.br rfl dX9_addGutter_75 ?_ (fun E q S hT => rc_out hC hH.2.2.2.2 hT)
    intro x2 S h
    show rc_Z Y S 78 [some (rc_q (some (rc_km (yr_K Y) 100))), some (rc_i v1), some (rc_i v2), some (rc_i v3)] [rc_i x2, rc_q (some (rc_km (yr_K Y) 100))]
    refine rc_callM (pc := 78) hC (rw_X9_remember hH.1 x2) q2404 q2406 qs99 q149 q2407 rfl rd_X9_remember (hH.room (Nat.le_of_ble_eq_true rfl) (Nat.le_of_ble_eq_true rfl)) rfl rfl (Nat.le_of_ble_eq_true rfl) 1 rfl h.le.2.2 (Or.inl hF) h.br rfl dX9_addGutter_78 ?_ (fun E q S hT => rc_out hC hH.2.2.2.2 hT)
    intro x3 S h
    show rc_Z Y S 81 [some (rc_q (some (rc_km (yr_K Y) 100))), some (rc_i v1), some (rc_i v2), some (rc_i v3)] [rc_i x3]
    exact rc_iret hC rfl rfl dX9_addGutter_81 h rfl
  intro _ h
  refine rc_iconst (pc := 64) hC (v := (0 : Int32)) dX9_addGutter_64 rfl ?_
  exact rc_iret hC rfl rfl dX9_addGutter_65 h rfl
theorem rw_X9_addGutter_L42 {Y : rc_Y} (hC : rc_C Y cX9_addGutter RX9 (Option.some Jvm.ClassFile.FieldType.int) 4) (hH : rc_H Y 2 43 yX9_addGutter.name) (hF : yr_F Y = true) (v1 : Int32) (v2 : Int32) (v3 : Int32) (s0 : Int32) (s1 : Int32) (S : rc_S) (h : rc_Go Y rc_tI (rp_X9_addGutter_L42  v1 v2 v3 s0 s1) S) : rc_Z Y S 42 [some (rc_q (some (rc_km (yr_K Y) 100))), some (rc_i v1), some (rc_i v2), some (rc_i v3)] [rc_i s0, rc_i s1, rc_q (some (rc_km (yr_K Y) 100))] := by
  unfold rp_X9_addGutter_L42 at h
  refine rc_aload_n (pc := 42) hC dX9_addGutter_42 rfl rfl ?_
  refine rc_r_mref (pc := 43) hC hF rF_X9_7 (by decide) dX9_addGutter_43 h ?_
  refine rc_iconst (pc := 46) hC (v := (1 : Int32)) dX9_addGutter_46 rfl ?_
  refine rc_r_mald (pc := 47) hC hF (j := 0) (by decide) rfl dX9_addGutter_47 h ?_
  intro x2 h
  refine rc_bipush (pc := 48) hC (v := (20 : Int32)) dX9_addGutter_48 rfl ?_
  refine rc_icmp_ne (pc := 50) (tgt := 57) hC dX9_addGutter_50 rfl h ?_ ?_
  · intro _ h
    refine rc_iconst (pc := 57) hC (v := (0 : Int32)) dX9_addGutter_57 rfl ?_
    exact rw_X9_addGutter_L58 hC hH hF  v1 v2 v3 (0 : Int32) s0 s1 S h
  intro _ h
  refine rc_iconst (pc := 53) hC (v := (1 : Int32)) dX9_addGutter_53 rfl ?_
  refine rc_goto (pc := 54) (tgt := 58) hC dX9_addGutter_54 rfl ?_
  exact rw_X9_addGutter_L58 hC hH hF  v1 v2 v3 (1 : Int32) s0 s1 S h
theorem rw_X9_addGutter_L37 {Y : rc_Y} (hC : rc_C Y cX9_addGutter RX9 (Option.some Jvm.ClassFile.FieldType.int) 4) (hH : rc_H Y 2 43 yX9_addGutter.name) (hF : yr_F Y = true) (v1 : Int32) (v2 : Int32) (v3 : Int32) (s0 : Int32) (S : rc_S) (h : rc_Go Y rc_tI (rp_X9_addGutter_L37  v1 v2 v3 s0) S) : rc_Z Y S 37 [some (rc_q (some (rc_km (yr_K Y) 100))), some (rc_i v1), some (rc_i v2), some (rc_i v3)] [rc_i s0, rc_q (some (rc_km (yr_K Y) 100))] := by
  unfold rp_X9_addGutter_L37 at h
  refine rc_iconst (pc := 37) hC (v := (1 : Int32)) dX9_addGutter_37 rfl ?_
  refine rc_goto (pc := 38) (tgt := 42) hC dX9_addGutter_38 rfl ?_
  exact rw_X9_addGutter_L42 hC hH hF  v1 v2 v3 (1 : Int32) s0 S h
theorem rw_X9_addGutter_L22 {Y : rc_Y} (hC : rc_C Y cX9_addGutter RX9 (Option.some Jvm.ClassFile.FieldType.int) 4) (hH : rc_H Y 2 43 yX9_addGutter.name) (hF : yr_F Y = true) (v1 : Int32) (v2 : Int32) (v3 : Int32) (s0 : Int32) (S : rc_S) (h : rc_Go Y rc_tI (rp_X9_addGutter_L22  v1 v2 v3 s0) S) : rc_Z Y S 22 [some (rc_q (some (rc_km (yr_K Y) 100))), some (rc_i v1), some (rc_i v2), some (rc_i v3)] [rc_i s0, rc_q (some (rc_km (yr_K Y) 100))] := by
  unfold rp_X9_addGutter_L22 at h
  refine rc_iload_n (pc := 22) hC dX9_addGutter_22 rfl rfl ?_
  refine rc_iload_n (pc := 23) hC dX9_addGutter_23 rfl rfl ?_
  refine rc_icmp_eq (pc := 24) (tgt := 37) hC dX9_addGutter_24 rfl h ?_ ?_
  · intro _ h
    exact rw_X9_addGutter_L37 hC hH hF  v1 v2 v3 s0 S h
  intro _ h
  refine rc_iload_n (pc := 27) hC dX9_addGutter_27 rfl rfl ?_
  refine rc_iconst (pc := 28) hC (v := (1 : Int32)) dX9_addGutter_28 rfl ?_
  refine rc_bipush (pc := 29) hC (v := (9 : Int32)) dX9_addGutter_29 rfl ?_
  refine rc_callS (pc := 31) hC (rw_X9_in hH.1 v3 (1 : Int32) (9 : Int32)) q2073 q2074 q149 q2075 rd_X9_in (hH.room (Nat.le_of_ble_eq_true rfl) (Nat.le_of_ble_eq_true rfl)) rfl rfl (Nat.le_of_ble_eq_true rfl) 3 rfl h.le.2.2 h.br rfl dX9_addGutter_31 ?_ (fun E q S hT => rc_out hC hH.2.2.2.2 hT)
  intro x1 S h
  show rc_Z Y S 34 [some (rc_q (some (rc_km (yr_K Y) 100))), some (rc_i v1), some (rc_i v2), some (rc_i v3)] [rc_i x1, rc_i s0, rc_q (some (rc_km (yr_K Y) 100))]
  refine rc_if_ne (pc := 34) (tgt := 41) hC dX9_addGutter_34 rfl h ?_ ?_
  · intro _ h
    refine rc_iconst (pc := 41) hC (v := (0 : Int32)) dX9_addGutter_41 rfl ?_
    exact rw_X9_addGutter_L42 hC hH hF  v1 v2 v3 (0 : Int32) s0 S h
  intro _ h
  exact rw_X9_addGutter_L37 hC hH hF  v1 v2 v3 s0 S h
theorem rw_X9_addGutter_L17 {Y : rc_Y} (hC : rc_C Y cX9_addGutter RX9 (Option.some Jvm.ClassFile.FieldType.int) 4) (hH : rc_H Y 2 43 yX9_addGutter.name) (hF : yr_F Y = true) (v1 : Int32) (v2 : Int32) (v3 : Int32) (S : rc_S) (h : rc_Go Y rc_tI (rp_X9_addGutter_L17  v1 v2 v3) S) : rc_Z Y S 17 [some (rc_q (some (rc_km (yr_K Y) 100))), some (rc_i v1), some (rc_i v2), some (rc_i v3)] [rc_q (some (rc_km (yr_K Y) 100))] := by
  unfold rp_X9_addGutter_L17 at h
  refine rc_iconst (pc := 17) hC (v := (1 : Int32)) dX9_addGutter_17 rfl ?_
  refine rc_goto (pc := 18) (tgt := 22) hC dX9_addGutter_18 rfl ?_
  exact rw_X9_addGutter_L22 hC hH hF  v1 v2 v3 (1 : Int32) S h
theorem rw_X9_addGutter {l : Launch} (hl : l.stackTraces = false) (v1 : Int32) (v2 : Int32) (v3 : Int32) : rc_Cm l yX9_addGutter (ws_ yX9_addGutter cX9_addGutter 4 (Option.some Jvm.ClassFile.FieldType.int)) 2 43 rc_tI (rp_X9_addGutter v1 v2 v3) [rc_i v1, rc_i v2, rc_i v3] := by
  refine rc_Cm_H hl (plainFor_of_name rY_X9) rfl (Nat.le_of_ble_eq_true rfl) ?_
  intro Y S hC hH hF h
  have hC : rc_C Y cX9_addGutter RX9 (Option.some Jvm.ClassFile.FieldType.int) 4 := hC
  show rc_Z Y S 0 [some (rc_q (some (rc_km (yr_K Y) 100))), some (rc_i v1), some (rc_i v2), some (rc_i v3)] []
  unfold rp_X9_addGutter at h
  refine rc_aload_n (pc := 0) hC dX9_addGutter_0 rfl rfl ?_
  refine rc_aload_n (pc := 1) hC dX9_addGutter_1 rfl rfl ?_
  refine rc_iload_n (pc := 2) hC dX9_addGutter_2 rfl rfl ?_
  refine rc_callM (pc := 3) hC (rw_X9_isChimney hH.1 v1) q2420 q2422 qs101 q149 q2423 rfl rd_X9_isChimney (hH.room (Nat.le_of_ble_eq_true rfl) (Nat.le_of_ble_eq_true rfl)) rfl rfl (Nat.le_of_ble_eq_true rfl) 1 rfl h.le.2.2 (Or.inl hF) h.br rfl dX9_addGutter_3 ?_ (fun E q S hT => rc_out hC hH.2.2.2.2 hT)
  intro x1 S h
  show rc_Z Y S 6 [some (rc_q (some (rc_km (yr_K Y) 100))), some (rc_i v1), some (rc_i v2), some (rc_i v3)] [rc_i x1, rc_q (some (rc_km (yr_K Y) 100))]
  refine rc_if_eq (pc := 6) (tgt := 17) hC dX9_addGutter_6 rfl h ?_ ?_
  · intro _ h
    exact rw_X9_addGutter_L17 hC hH hF  v1 v2 v3 S h
  intro _ h
  refine rc_aload_n (pc := 9) hC dX9_addGutter_9 rfl rfl ?_
  refine rc_iload_n (pc := 10) hC dX9_addGutter_10 rfl rfl ?_
  refine rc_callM (pc := 11) hC (rw_X9_isChimney hH.1 v2) q2420 q2422 qs101 q149 q2423 rfl rd_X9_isChimney (hH.room (Nat.le_of_ble_eq_true rfl) (Nat.le_of_ble_eq_true rfl)) rfl rfl (Nat.le_of_ble_eq_true rfl) 1 rfl h.le.2.2 (Or.inl hF) h.br rfl dX9_addGutter_11 ?_ (fun E q S hT => rc_out hC hH.2.2.2.2 hT)
  intro x2 S h
  show rc_Z Y S 14 [some (rc_q (some (rc_km (yr_K Y) 100))), some (rc_i v1), some (rc_i v2), some (rc_i v3)] [rc_i x2, rc_q (some (rc_km (yr_K Y) 100))]
  refine rc_if_ne (pc := 14) (tgt := 21) hC dX9_addGutter_14 rfl h ?_ ?_
  · intro _ h
    refine rc_iconst (pc := 21) hC (v := (0 : Int32)) dX9_addGutter_21 rfl ?_
    exact rw_X9_addGutter_L22 hC hH hF  v1 v2 v3 (0 : Int32) S h
  intro _ h
  exact rw_X9_addGutter_L17 hC hH hF  v1 v2 v3 S h
theorem rw_X9_areSizes {l : Launch} (hl : l.stackTraces = false) (v0 : Int32) (v1 : Int32) : rc_Ct l yX9_areSizes (ws_ yX9_areSizes cX9_areSizes 2 (Option.some Jvm.ClassFile.FieldType.boolean)) 1 22 rc_tI (rp_X9_areSizes v0 v1) [rc_i v0, rc_i v1] := by
  refine rc_Ct_H hl (plainFor_of_name rY_X9) rfl (Nat.le_of_ble_eq_true rfl) (L0 := [some (rc_i v0), some (rc_i v1)]) rfl ?_
  intro Y S hC hH h
  have hC : rc_C Y cX9_areSizes RX9 (Option.some Jvm.ClassFile.FieldType.boolean) 2 := hC
  unfold rp_X9_areSizes at h
  refine rc_iload_n (pc := 0) hC dX9_areSizes_0 rfl rfl ?_
  refine rc_iconst (pc := 1) hC (v := (1 : Int32)) dX9_areSizes_1 rfl ?_
  refine rc_bipush (pc := 2) hC (v := (9 : Int32)) dX9_areSizes_2 rfl ?_
  refine rc_callS (pc := 4) hC (rw_X9_in hH.1 v0 (1 : Int32) (9 : Int32)) q2073 q2074 q149 q2075 rd_X9_in (hH.room (Nat.le_of_ble_eq_true rfl) (Nat.le_of_ble_eq_true rfl)) rfl rfl (Nat.le_of_ble_eq_true rfl) 3 rfl h.le.2.2 h.br rfl dX9_areSizes_4 ?_ (fun E q S hT => rc_out hC hH.2.2.2.2 hT)
  intro x1 S h
  show rc_Z Y S 7 [some (rc_i v0), some (rc_i v1)] [rc_i x1]
  refine rc_if_eq (pc := 7) (tgt := 24) hC dX9_areSizes_7 rfl h ?_ ?_
  · intro _ h
    refine rc_iconst (pc := 24) hC (v := (0 : Int32)) dX9_areSizes_24 rfl ?_
    exact rc_iret hC rfl rfl dX9_areSizes_25 h rfl
  intro _ h
  refine rc_iload_n (pc := 10) hC dX9_areSizes_10 rfl rfl ?_
  refine rc_iconst (pc := 11) hC (v := (1 : Int32)) dX9_areSizes_11 rfl ?_
  refine rc_bipush (pc := 12) hC (v := (9 : Int32)) dX9_areSizes_12 rfl ?_
  refine rc_callS (pc := 14) hC (rw_X9_in hH.1 v1 (1 : Int32) (9 : Int32)) q2073 q2074 q149 q2075 rd_X9_in (hH.room (Nat.le_of_ble_eq_true rfl) (Nat.le_of_ble_eq_true rfl)) rfl rfl (Nat.le_of_ble_eq_true rfl) 3 rfl h.le.2.2 h.br rfl dX9_areSizes_14 ?_ (fun E q S hT => rc_out hC hH.2.2.2.2 hT)
  intro x2 S h
  show rc_Z Y S 17 [some (rc_i v0), some (rc_i v1)] [rc_i x2]
  refine rc_if_eq (pc := 17) (tgt := 24) hC dX9_areSizes_17 rfl h ?_ ?_
  · intro _ h
    refine rc_iconst (pc := 24) hC (v := (0 : Int32)) dX9_areSizes_24 rfl ?_
    exact rc_iret hC rfl rfl dX9_areSizes_25 h rfl
  intro _ h
  refine rc_iconst (pc := 20) hC (v := (1 : Int32)) dX9_areSizes_20 rfl ?_
  refine rc_goto (pc := 21) (tgt := 25) hC dX9_areSizes_21 rfl ?_
  exact rc_iret hC rfl rfl dX9_areSizes_25 h rfl
theorem rw_X9_addCat_L49 {Y : rc_Y} (hC : rc_C Y cX9_addCat RX9 (Option.some Jvm.ClassFile.FieldType.int) 5) (hH : rc_H Y 3 65 yX9_addCat.name) (hF : yr_F Y = true) (v1 : Int32) (v2 : Int32) (v3 : Int32) (s0 : Int32) (s1 : Int32) (s2 : Int32) (S : rc_S) (h : rc_Go Y rc_tI (rp_X9_addCat_L49  v1 v2 v3 s0 s1 s2) S) : rc_Z Y S 49 [some (rc_q (some (rc_km (yr_K Y) 100))), some (rc_i v1), some (rc_i v2), some (rc_i v3), none] [rc_i s0, rc_i s1, rc_i s2, rc_q (some (rc_km (yr_K Y) 100))] := by
  unfold rp_X9_addCat_L49 at h
  refine rc_callM (pc := 49) hC (rw_X9_throwsOne_3 hH.1 s2 s1 s0) q2424 q2426 qs102 q149 q2427 rfl rd_X9_throwsOne_3 (hH.room (Nat.le_of_ble_eq_true rfl) (Nat.le_of_ble_eq_true rfl)) rfl rfl (Nat.le_of_ble_eq_true rfl) 3 rfl h.le.2.2 (Or.inl hF) h.br rfl dX9_addCat_49 ?_ (fun E q S hT => rc_out hC hH.2.2.2.2 hT)
  intro x1 S h
  show rc_Z Y S 52 [some (rc_q (some (rc_km (yr_K Y) 100))), some (rc_i v1), some (rc_i v2), some (rc_i v3), none] [rc_i x1]
  refine rc_if_eq (pc := 52) (tgt := 57) hC dX9_addCat_52 rfl h ?_ ?_
  · intro _ h
    refine rc_aload_n (pc := 57) hC dX9_addCat_57 rfl rfl ?_
    refine rc_callM (pc := 58) hC (rw_X9_begins hH.1) q2400 q2402 qs98 q149 q2403 rfl rd_X9_begins (hH.room (Nat.le_of_ble_eq_true rfl) (Nat.le_of_ble_eq_true rfl)) rfl rfl (Nat.le_of_ble_eq_true rfl) 0 rfl h.le.2.2 (Or.inl hF) h.br rfl dX9_addCat_58 ?_ (fun E q S hT => rc_out hC hH.2.2.2.2 hT)
    intro _ S h
    show rc_Z Y S 61 [some (rc_q (some (rc_km (yr_K Y) 100))), some (rc_i v1), some (rc_i v2), some (rc_i v3), none] []
    refine rc_aload_n (pc := 61) hC dX9_addCat_61 rfl rfl ?_
    refine rc_aload_n (pc := 62) hC dX9_addCat_62 rfl rfl ?_
    refine rc_iload_n (pc := 63) hC dX9_addCat_63 rfl rfl ?_
    refine rc_iload_n (pc := 64) hC dX9_addCat_64 rfl rfl ?_
    refine rc_iload_n (pc := 65) hC dX9_addCat_65 rfl rfl ?_
    refine rc_callM (pc := 66) hC (rw_X9_enters hH.1 v1 v2 v3) q2128 q2130 qs53 q149 q2131 rfl rd_X9_enters (hH.room (Nat.le_of_ble_eq_true rfl) (Nat.le_of_ble_eq_true rfl)) rfl rfl (Nat.le_of_ble_eq_true rfl) 3 rfl h.le.2.2 (Or.inl hF) h.br rfl dX9_addCat_66 ?_ (fun E q S hT => rc_out hC hH.2.2.2.2 hT)
    intro x2 S h
    show rc_Z Y S 69 [some (rc_q (some (rc_km (yr_K Y) 100))), some (rc_i v1), some (rc_i v2), some (rc_i v3), none] [rc_i x2, rc_q (some (rc_km (yr_K Y) 100))]
    refine rc_callM (pc := 69) hC (rw_X9_remember hH.1 x2) q2404 q2406 qs99 q149 q2407 rfl rd_X9_remember (hH.room (Nat.le_of_ble_eq_true rfl) (Nat.le_of_ble_eq_true rfl)) rfl rfl (Nat.le_of_ble_eq_true rfl) 1 rfl h.le.2.2 (Or.inl hF) h.br rfl dX9_addCat_69 ?_ (fun E q S hT => rc_out hC hH.2.2.2.2 hT)
    intro x3 S h
    show rc_Z Y S 72 [some (rc_q (some (rc_km (yr_K Y) 100))), some (rc_i v1), some (rc_i v2), some (rc_i v3), none] [rc_i x3]
    exact rc_iret hC rfl rfl dX9_addCat_72 h rfl
  intro _ h
  refine rc_iconst (pc := 55) hC (v := (0 : Int32)) dX9_addCat_55 rfl ?_
  exact rc_iret hC rfl rfl dX9_addCat_56 h rfl
theorem rw_X9_addCat_L48 {Y : rc_Y} (hC : rc_C Y cX9_addCat RX9 (Option.some Jvm.ClassFile.FieldType.int) 5) (hH : rc_H Y 3 65 yX9_addCat.name) (hF : yr_F Y = true) (v1 : Int32) (v2 : Int32) (v3 : Int32) (s0 : Int32) (s1 : Int32) (S : rc_S) (h : rc_Go Y rc_tI (rp_X9_addCat_L48  v1 v2 v3 s0 s1) S) : rc_Z Y S 48 [some (rc_q (some (rc_km (yr_K Y) 100))), some (rc_i v1), some (rc_i v2), some (rc_i v3), none] [rc_i s0, rc_i s1, rc_q (some (rc_km (yr_K Y) 100))] := by
  unfold rp_X9_addCat_L48 at h
  refine rc_iconst (pc := 48) hC (v := (0 : Int32)) dX9_addCat_48 rfl ?_
  exact rw_X9_addCat_L49 hC hH hF  v1 v2 v3 (0 : Int32) s0 s1 S h
theorem rw_X9_addCat_L31 {Y : rc_Y} (hC : rc_C Y cX9_addCat RX9 (Option.some Jvm.ClassFile.FieldType.int) 5) (hH : rc_H Y 3 65 yX9_addCat.name) (hF : yr_F Y = true) (v1 : Int32) (v2 : Int32) (v3 : Int32) (v4 : Int32) (s0 : Int32) (s1 : Int32) (S : rc_S) (h : rc_Go Y rc_tI (rp_X9_addCat_L31  v1 v2 v3 v4 s0 s1) S) : rc_Z Y S 31 [some (rc_q (some (rc_km (yr_K Y) 100))), some (rc_i v1), some (rc_i v2), some (rc_i v3), some (rc_i v4)] [rc_i s0, rc_i s1, rc_q (some (rc_km (yr_K Y) 100))] := by
  unfold rp_X9_addCat_L31 at h
  refine rc_iload (pc := 31) hC dX9_addCat_31 rfl ?_
  refine rc_if_eq (pc := 33) (tgt := 48) hC dX9_addCat_33 rfl h ?_ ?_
  · intro _ h
    refine rc_drop [true, true, true, true, false] (L' := [some (rc_q (some (rc_km (yr_K Y) 100))), some (rc_i v1), some (rc_i v2), some (rc_i v3), none]) rfl ?_
    exact rw_X9_addCat_L48 hC hH hF  v1 v2 v3 s0 s1 S h
  intro _ h
  refine rc_aload_n (pc := 36) hC dX9_addCat_36 rfl rfl ?_
  refine rc_iload_n (pc := 37) hC dX9_addCat_37 rfl rfl ?_
  refine rc_callM (pc := 38) hC (rw_X9_canEnter hH.1 v1) q2116 q2118 qs50 q149 q2119 rfl rd_X9_canEnter (hH.room (Nat.le_of_ble_eq_true rfl) (Nat.le_of_ble_eq_true rfl)) rfl rfl (Nat.le_of_ble_eq_true rfl) 1 rfl h.le.2.2 (Or.inl hF) h.br rfl dX9_addCat_38 ?_ (fun E q S hT => rc_out hC hH.2.2.2.2 hT)
  intro x1 S h
  show rc_Z Y S 41 [some (rc_q (some (rc_km (yr_K Y) 100))), some (rc_i v1), some (rc_i v2), some (rc_i v3), some (rc_i v4)] [rc_i x1, rc_i s0, rc_i s1, rc_q (some (rc_km (yr_K Y) 100))]
  refine rc_if_ne (pc := 41) (tgt := 48) hC dX9_addCat_41 rfl h ?_ ?_
  · intro _ h
    refine rc_drop [true, true, true, true, false] (L' := [some (rc_q (some (rc_km (yr_K Y) 100))), some (rc_i v1), some (rc_i v2), some (rc_i v3), none]) rfl ?_
    exact rw_X9_addCat_L48 hC hH hF  v1 v2 v3 s0 s1 S h
  intro _ h
  refine rc_iconst (pc := 44) hC (v := (1 : Int32)) dX9_addCat_44 rfl ?_
  refine rc_goto (pc := 45) (tgt := 49) hC dX9_addCat_45 rfl ?_
  refine rc_drop [true, true, true, true, false] (L' := [some (rc_q (some (rc_km (yr_K Y) 100))), some (rc_i v1), some (rc_i v2), some (rc_i v3), none]) rfl ?_
  exact rw_X9_addCat_L49 hC hH hF  v1 v2 v3 (1 : Int32) s0 s1 S h
theorem rw_X9_addCat_L18 {Y : rc_Y} (hC : rc_C Y cX9_addCat RX9 (Option.some Jvm.ClassFile.FieldType.int) 5) (hH : rc_H Y 3 65 yX9_addCat.name) (hF : yr_F Y = true) (v1 : Int32) (v2 : Int32) (v3 : Int32) (v4 : Int32) (s0 : Int32) (S : rc_S) (h : rc_Go Y rc_tI (rp_X9_addCat_L18  v1 v2 v3 v4 s0) S) : rc_Z Y S 18 [some (rc_q (some (rc_km (yr_K Y) 100))), some (rc_i v1), some (rc_i v2), some (rc_i v3), some (rc_i v4)] [rc_i s0, rc_q (some (rc_km (yr_K Y) 100))] := by
  unfold rp_X9_addCat_L18 at h
  refine rc_iload_n (pc := 18) hC dX9_addCat_18 rfl rfl ?_
  refine rc_iload_n (pc := 19) hC dX9_addCat_19 rfl rfl ?_
  refine rc_callS (pc := 20) hC (rw_X9_areSizes hH.1 v2 v3) q2432 q2433 q149 q2434 rd_X9_areSizes (hH.room (Nat.le_of_ble_eq_true rfl) (Nat.le_of_ble_eq_true rfl)) rfl rfl (Nat.le_of_ble_eq_true rfl) 2 rfl h.le.2.2 h.br rfl dX9_addCat_20 ?_ (fun E q S hT => rc_out hC hH.2.2.2.2 hT)
  intro x1 S h
  show rc_Z Y S 23 [some (rc_q (some (rc_km (yr_K Y) 100))), some (rc_i v1), some (rc_i v2), some (rc_i v3), some (rc_i v4)] [rc_i x1, rc_i s0, rc_q (some (rc_km (yr_K Y) 100))]
  refine rc_if_ne (pc := 23) (tgt := 30) hC dX9_addCat_23 rfl h ?_ ?_
  · intro _ h
    refine rc_iconst (pc := 30) hC (v := (0 : Int32)) dX9_addCat_30 rfl ?_
    exact rw_X9_addCat_L31 hC hH hF  v1 v2 v3 v4 (0 : Int32) s0 S h
  intro _ h
  refine rc_iconst (pc := 26) hC (v := (1 : Int32)) dX9_addCat_26 rfl ?_
  refine rc_goto (pc := 27) (tgt := 31) hC dX9_addCat_27 rfl ?_
  exact rw_X9_addCat_L31 hC hH hF  v1 v2 v3 v4 (1 : Int32) s0 S h
theorem rw_X9_addCat {l : Launch} (hl : l.stackTraces = false) (v1 : Int32) (v2 : Int32) (v3 : Int32) : rc_Cm l yX9_addCat (ws_ yX9_addCat cX9_addCat 5 (Option.some Jvm.ClassFile.FieldType.int)) 3 65 rc_tI (rp_X9_addCat v1 v2 v3) [rc_i v1, rc_i v2, rc_i v3] := by
  refine rc_Cm_H hl (plainFor_of_name rY_X9) rfl (Nat.le_of_ble_eq_true rfl) ?_
  intro Y S hC hH hF h
  have hC : rc_C Y cX9_addCat RX9 (Option.some Jvm.ClassFile.FieldType.int) 5 := hC
  show rc_Z Y S 0 [some (rc_q (some (rc_km (yr_K Y) 100))), some (rc_i v1), some (rc_i v2), some (rc_i v3), none] []
  unfold rp_X9_addCat at h
  refine rc_aload_n (pc := 0) hC dX9_addCat_0 rfl rfl ?_
  refine rc_iload_n (pc := 1) hC dX9_addCat_1 rfl rfl ?_
  refine rc_callM (pc := 2) hC (rw_X9_isChimney hH.1 v1) q2420 q2422 qs101 q149 q2423 rfl rd_X9_isChimney (hH.room (Nat.le_of_ble_eq_true rfl) (Nat.le_of_ble_eq_true rfl)) rfl rfl (Nat.le_of_ble_eq_true rfl) 1 rfl h.le.2.2 (Or.inl hF) h.br rfl dX9_addCat_2 ?_ (fun E q S hT => rc_out hC hH.2.2.2.2 hT)
  intro x1 S h
  show rc_Z Y S 5 [some (rc_q (some (rc_km (yr_K Y) 100))), some (rc_i v1), some (rc_i v2), some (rc_i v3), none] [rc_i x1]
  refine rc_istore (pc := 5) hC (L' := [some (rc_q (some (rc_km (yr_K Y) 100))), some (rc_i v1), some (rc_i v2), some (rc_i v3), some (rc_i x1)]) dX9_addCat_5 (Nat.le_of_ble_eq_true rfl) rfl rfl ?_
  refine rc_aload_n (pc := 7) hC dX9_addCat_7 rfl rfl ?_
  refine rc_iload (pc := 8) hC dX9_addCat_8 rfl ?_
  refine rc_if_ne (pc := 10) (tgt := 17) hC dX9_addCat_10 rfl h ?_ ?_
  · intro _ h
    refine rc_iconst (pc := 17) hC (v := (0 : Int32)) dX9_addCat_17 rfl ?_
    exact rw_X9_addCat_L18 hC hH hF  v1 v2 v3 x1 (0 : Int32) S h
  intro _ h
  refine rc_iconst (pc := 13) hC (v := (1 : Int32)) dX9_addCat_13 rfl ?_
  refine rc_goto (pc := 14) (tgt := 18) hC dX9_addCat_14 rfl ?_
  exact rw_X9_addCat_L18 hC hH hF  v1 v2 v3 x1 (1 : Int32) S h
theorem rw_X9_isCat {l : Launch} (hl : l.stackTraces = false) (v1 : Int32) : rc_Cm l yX9_isCat (ws_ yX9_isCat cX9_isCat 2 (Option.some Jvm.ClassFile.FieldType.boolean)) 1 22 rc_tI (rp_X9_isCat v1) [rc_i v1] := by
  refine rc_Cm_H hl (plainFor_of_name rY_X9) rfl (Nat.le_of_ble_eq_true rfl) ?_
  intro Y S hC hH hF h
  have hC : rc_C Y cX9_isCat RX9 (Option.some Jvm.ClassFile.FieldType.boolean) 2 := hC
  show rc_Z Y S 0 [some (rc_q (some (rc_km (yr_K Y) 100))), some (rc_i v1)] []
  unfold rp_X9_isCat at h
  refine rc_iload_n (pc := 0) hC dX9_isCat_0 rfl rfl ?_
  refine rc_iconst (pc := 1) hC (v := (0 : Int32)) dX9_isCat_1 rfl ?_
  refine rc_aload_n (pc := 2) hC dX9_isCat_2 rfl rfl ?_
  refine rc_r_mref (pc := 3) hC hF rF_X9_7 (by decide) dX9_isCat_3 h ?_
  refine rc_iconst (pc := 6) hC (v := (2 : Int32)) dX9_isCat_6 rfl ?_
  refine rc_r_mald (pc := 7) hC hF (j := 0) (by decide) rfl dX9_isCat_7 h ?_
  intro x2 h
  refine rc_iconst (pc := 8) hC (v := (1 : Int32)) dX9_isCat_8 rfl ?_
  refine rc_isub (pc := 9) hC dX9_isCat_9 ?_
  refine rc_callS (pc := 10) hC (rw_X9_in hH.1 v1 (0 : Int32) (x2 - (1 : Int32))) q2073 q2074 q149 q2075 rd_X9_in (hH.room (Nat.le_of_ble_eq_true rfl) (Nat.le_of_ble_eq_true rfl)) rfl rfl (Nat.le_of_ble_eq_true rfl) 3 rfl h.le.2.2 h.br rfl dX9_isCat_10 ?_ (fun E q S hT => rc_out hC hH.2.2.2.2 hT)
  intro x3 S h
  show rc_Z Y S 13 [some (rc_q (some (rc_km (yr_K Y) 100))), some (rc_i v1)] [rc_i x3]
  obtain ⟨hn, h⟩ := h.nar
  exact rc_iret hC rfl hn dX9_isCat_13 h rfl
theorem rw_X9_isGutter {l : Launch} (hl : l.stackTraces = false) (v1 : Int32) : rc_Cm l yX9_isGutter (ws_ yX9_isGutter cX9_isGutter 2 (Option.some Jvm.ClassFile.FieldType.boolean)) 1 22 rc_tI (rp_X9_isGutter v1) [rc_i v1] := by
  refine rc_Cm_H hl (plainFor_of_name rY_X9) rfl (Nat.le_of_ble_eq_true rfl) ?_
  intro Y S hC hH hF h
  have hC : rc_C Y cX9_isGutter RX9 (Option.some Jvm.ClassFile.FieldType.boolean) 2 := hC
  show rc_Z Y S 0 [some (rc_q (some (rc_km (yr_K Y) 100))), some (rc_i v1)] []
  unfold rp_X9_isGutter at h
  refine rc_iload_n (pc := 0) hC dX9_isGutter_0 rfl rfl ?_
  refine rc_iconst (pc := 1) hC (v := (0 : Int32)) dX9_isGutter_1 rfl ?_
  refine rc_aload_n (pc := 2) hC dX9_isGutter_2 rfl rfl ?_
  refine rc_r_mref (pc := 3) hC hF rF_X9_7 (by decide) dX9_isGutter_3 h ?_
  refine rc_iconst (pc := 6) hC (v := (1 : Int32)) dX9_isGutter_6 rfl ?_
  refine rc_r_mald (pc := 7) hC hF (j := 0) (by decide) rfl dX9_isGutter_7 h ?_
  intro x2 h
  refine rc_iconst (pc := 8) hC (v := (1 : Int32)) dX9_isGutter_8 rfl ?_
  refine rc_isub (pc := 9) hC dX9_isGutter_9 ?_
  refine rc_callS (pc := 10) hC (rw_X9_in hH.1 v1 (0 : Int32) (x2 - (1 : Int32))) q2073 q2074 q149 q2075 rd_X9_in (hH.room (Nat.le_of_ble_eq_true rfl) (Nat.le_of_ble_eq_true rfl)) rfl rfl (Nat.le_of_ble_eq_true rfl) 3 rfl h.le.2.2 h.br rfl dX9_isGutter_10 ?_ (fun E q S hT => rc_out hC hH.2.2.2.2 hT)
  intro x3 S h
  show rc_Z Y S 13 [some (rc_q (some (rc_km (yr_K Y) 100))), some (rc_i v1)] [rc_i x3]
  obtain ⟨hn, h⟩ := h.nar
  exact rc_iret hC rfl hn dX9_isGutter_13 h rfl
theorem rw_X9_step_L50 {Y : rc_Y} (hC : rc_C Y cX9_step RX9 (Option.some Jvm.ClassFile.FieldType.int) 4) (hH : rc_H Y 4 91 yX9_step.name) (hF : yr_F Y = true) (v1 : Int32) (v2 : Int32) (s0 : Int32) (s1 : Int32) (S : rc_S) (h : rc_Go Y rc_tI (rp_X9_step_L50  v1 v2 s0 s1) S) : rc_Z Y S 50 [some (rc_q (some (rc_km (yr_K Y) 100))), some (rc_i v1), some (rc_i v2), none] [rc_i s0, rc_i s1, rc_q (some (rc_km (yr_K Y) 100))] := by
  unfold rp_X9_step_L50 at h
  refine rc_callM (pc := 50) hC (rw_X9_throwsOne_2 hH.1 s1 s0) q2412 q2414 qs100 q149 q2415 rfl rd_X9_throwsOne_2 (hH.room (Nat.le_of_ble_eq_true rfl) (Nat.le_of_ble_eq_true rfl)) rfl rfl (Nat.le_of_ble_eq_true rfl) 2 rfl h.le.2.2 (Or.inl hF) h.br rfl dX9_step_50 ?_ (fun E q S hT => rc_out hC hH.2.2.2.2 hT)
  intro x1 S h
  show rc_Z Y S 53 [some (rc_q (some (rc_km (yr_K Y) 100))), some (rc_i v1), some (rc_i v2), none] [rc_i x1]
  refine rc_if_eq (pc := 53) (tgt := 58) hC dX9_step_53 rfl h ?_ ?_
  · intro _ h
    refine rc_aload_n (pc := 58) hC dX9_step_58 rfl rfl ?_
    refine rc_callM (pc := 59) hC (rw_X9_begins hH.1) q2400 q2402 qs98 q149 q2403 rfl rd_X9_begins (hH.room (Nat.le_of_ble_eq_true rfl) (Nat.le_of_ble_eq_true rfl)) rfl rfl (Nat.le_of_ble_eq_true rfl) 0 rfl h.le.2.2 (Or.inl hF) h.br rfl dX9_step_59 ?_ (fun E q S hT => rc_out hC hH.2.2.2.2 hT)
    intro _ S h
    show rc_Z Y S 62 [some (rc_q (some (rc_km (yr_K Y) 100))), some (rc_i v1), some (rc_i v2), none] []
    refine rc_aload_n (pc := 62) hC dX9_step_62 rfl rfl ?_
    refine rc_aload_n (pc := 63) hC dX9_step_63 rfl rfl ?_
    refine rc_iload_n (pc := 64) hC dX9_step_64 rfl rfl ?_
    refine rc_iload_n (pc := 65) hC dX9_step_65 rfl rfl ?_
    refine rc_callM (pc := 66) hC (rw_X9_goes hH.1 v1 v2) q2169 q2171 qs63 q149 q2172 rfl rd_X9_goes (hH.room (Nat.le_of_ble_eq_true rfl) (Nat.le_of_ble_eq_true rfl)) rfl rfl (Nat.le_of_ble_eq_true rfl) 2 rfl h.le.2.2 (Or.inl hF) h.br rfl dX9_step_66 ?_ (fun E q S hT => rc_out hC hH.2.2.2.2 hT)
    intro x2 S h
    show rc_Z Y S 69 [some (rc_q (some (rc_km (yr_K Y) 100))), some (rc_i v1), some (rc_i v2), none] [rc_i x2, rc_q (some (rc_km (yr_K Y) 100))]
    refine rc_callM (pc := 69) hC (rw_X9_remember hH.1 x2) q2404 q2406 qs99 q149 q2407 rfl rd_X9_remember (hH.room (Nat.le_of_ble_eq_true rfl) (Nat.le_of_ble_eq_true rfl)) rfl rfl (Nat.le_of_ble_eq_true rfl) 1 rfl h.le.2.2 (Or.inl hF) h.br rfl dX9_step_69 ?_ (fun E q S hT => rc_out hC hH.2.2.2.2 hT)
    intro x3 S h
    show rc_Z Y S 72 [some (rc_q (some (rc_km (yr_K Y) 100))), some (rc_i v1), some (rc_i v2), none] [rc_i x3]
    exact rc_iret hC rfl rfl dX9_step_72 h rfl
  intro _ h
  refine rc_iconst (pc := 56) hC (v := (0 : Int32)) dX9_step_56 rfl ?_
  exact rc_iret hC rfl rfl dX9_step_57 h rfl
theorem rw_X9_step_L49 {Y : rc_Y} (hC : rc_C Y cX9_step RX9 (Option.some Jvm.ClassFile.FieldType.int) 4) (hH : rc_H Y 4 91 yX9_step.name) (hF : yr_F Y = true) (v1 : Int32) (v2 : Int32) (s0 : Int32) (S : rc_S) (h : rc_Go Y rc_tI (rp_X9_step_L49  v1 v2 s0) S) : rc_Z Y S 49 [some (rc_q (some (rc_km (yr_K Y) 100))), some (rc_i v1), some (rc_i v2), none] [rc_i s0, rc_q (some (rc_km (yr_K Y) 100))] := by
  unfold rp_X9_step_L49 at h
  refine rc_iconst (pc := 49) hC (v := (0 : Int32)) dX9_step_49 rfl ?_
  exact rw_X9_step_L50 hC hH hF  v1 v2 (0 : Int32) s0 S h
theorem rw_X9_step_L32 {Y : rc_Y} (hC : rc_C Y cX9_step RX9 (Option.some Jvm.ClassFile.FieldType.int) 4) (hH : rc_H Y 4 91 yX9_step.name) (hF : yr_F Y = true) (v1 : Int32) (v2 : Int32) (v3 : Int32) (s0 : Int32) (S : rc_S) (h : rc_Go Y rc_tI (rp_X9_step_L32  v1 v2 v3 s0) S) : rc_Z Y S 32 [some (rc_q (some (rc_km (yr_K Y) 100))), some (rc_i v1), some (rc_i v2), some (rc_i v3)] [rc_i s0, rc_q (some (rc_km (yr_K Y) 100))] := by
  unfold rp_X9_step_L32 at h
  refine rc_iload_n (pc := 32) hC dX9_step_32 rfl rfl ?_
  refine rc_if_eq (pc := 33) (tgt := 49) hC dX9_step_33 rfl h ?_ ?_
  · intro _ h
    refine rc_drop [true, true, true, false] (L' := [some (rc_q (some (rc_km (yr_K Y) 100))), some (rc_i v1), some (rc_i v2), none]) rfl ?_
    exact rw_X9_step_L49 hC hH hF  v1 v2 s0 S h
  intro _ h
  refine rc_aload_n (pc := 36) hC dX9_step_36 rfl rfl ?_
  refine rc_iload_n (pc := 37) hC dX9_step_37 rfl rfl ?_
  refine rc_iload_n (pc := 38) hC dX9_step_38 rfl rfl ?_
  refine rc_callM (pc := 39) hC (rw_X9_whyStays hH.1 v1 v2) q2144 q2146 qs57 q149 q2147 rfl rd_X9_whyStays (hH.room (Nat.le_of_ble_eq_true rfl) (Nat.le_of_ble_eq_true rfl)) rfl rfl (Nat.le_of_ble_eq_true rfl) 2 rfl h.le.2.2 (Or.inl hF) h.br rfl dX9_step_39 ?_ (fun E q S hT => rc_out hC hH.2.2.2.2 hT)
  intro x1 S h
  show rc_Z Y S 42 [some (rc_q (some (rc_km (yr_K Y) 100))), some (rc_i v1), some (rc_i v2), some (rc_i v3)] [rc_i x1, rc_i s0, rc_q (some (rc_km (yr_K Y) 100))]
  refine rc_if_eq (pc := 42) (tgt := 49) hC dX9_step_42 rfl h ?_ ?_
  · intro _ h
    refine rc_drop [true, true, true, false] (L' := [some (rc_q (some (rc_km (yr_K Y) 100))), some (rc_i v1), some (rc_i v2), none]) rfl ?_
    exact rw_X9_step_L49 hC hH hF  v1 v2 s0 S h
  intro _ h
  refine rc_iconst (pc := 45) hC (v := (1 : Int32)) dX9_step_45 rfl ?_
  refine rc_goto (pc := 46) (tgt := 50) hC dX9_step_46 rfl ?_
  refine rc_drop [true, true, true, false] (L' := [some (rc_q (some (rc_km (yr_K Y) 100))), some (rc_i v1), some (rc_i v2), none]) rfl ?_
  exact rw_X9_step_L50 hC hH hF  v1 v2 (1 : Int32) s0 S h
theorem rw_X9_step_L21 {Y : rc_Y} (hC : rc_C Y cX9_step RX9 (Option.some Jvm.ClassFile.FieldType.int) 4) (hH : rc_H Y 4 91 yX9_step.name) (hF : yr_F Y = true) (v1 : Int32) (v2 : Int32) (s0 : Int32) (S : rc_S) (h : rc_Go Y rc_tI (rp_X9_step_L21  v1 v2 s0) S) : rc_Z Y S 21 [some (rc_q (some (rc_km (yr_K Y) 100))), some (rc_i v1), some (rc_i v2), none] [rc_i s0] := by
  unfold rp_X9_step_L21 at h
  refine rc_istore_n (pc := 21) hC (L' := [some (rc_q (some (rc_km (yr_K Y) 100))), some (rc_i v1), some (rc_i v2), some (rc_i s0)]) dX9_step_21 rfl (Nat.le_of_ble_eq_true rfl) rfl rfl ?_
  refine rc_aload_n (pc := 22) hC dX9_step_22 rfl rfl ?_
  refine rc_iload_n (pc := 23) hC dX9_step_23 rfl rfl ?_
  refine rc_if_ne (pc := 24) (tgt := 31) hC dX9_step_24 rfl h ?_ ?_
  · intro _ h
    refine rc_iconst (pc := 31) hC (v := (0 : Int32)) dX9_step_31 rfl ?_
    exact rw_X9_step_L32 hC hH hF  v1 v2 s0 (0 : Int32) S h
  intro _ h
  refine rc_iconst (pc := 27) hC (v := (1 : Int32)) dX9_step_27 rfl ?_
  refine rc_goto (pc := 28) (tgt := 32) hC dX9_step_28 rfl ?_
  exact rw_X9_step_L32 hC hH hF  v1 v2 s0 (1 : Int32) S h
theorem rw_X9_step_L20 {Y : rc_Y} (hC : rc_C Y cX9_step RX9 (Option.some Jvm.ClassFile.FieldType.int) 4) (hH : rc_H Y 4 91 yX9_step.name) (hF : yr_F Y = true) (v1 : Int32) (v2 : Int32) (S : rc_S) (h : rc_Go Y rc_tI (rp_X9_step_L20  v1 v2) S) : rc_Z Y S 20 [some (rc_q (some (rc_km (yr_K Y) 100))), some (rc_i v1), some (rc_i v2), none] [] := by
  unfold rp_X9_step_L20 at h
  refine rc_iconst (pc := 20) hC (v := (0 : Int32)) dX9_step_20 rfl ?_
  exact rw_X9_step_L21 hC hH hF  v1 v2 (0 : Int32) S h
theorem rw_X9_step {l : Launch} (hl : l.stackTraces = false) (v1 : Int32) (v2 : Int32) : rc_Cm l yX9_step (ws_ yX9_step cX9_step 4 (Option.some Jvm.ClassFile.FieldType.int)) 4 91 rc_tI (rp_X9_step v1 v2) [rc_i v1, rc_i v2] := by
  refine rc_Cm_H hl (plainFor_of_name rY_X9) rfl (Nat.le_of_ble_eq_true rfl) ?_
  intro Y S hC hH hF h
  have hC : rc_C Y cX9_step RX9 (Option.some Jvm.ClassFile.FieldType.int) 4 := hC
  show rc_Z Y S 0 [some (rc_q (some (rc_km (yr_K Y) 100))), some (rc_i v1), some (rc_i v2), none] []
  unfold rp_X9_step at h
  refine rc_aload_n (pc := 0) hC dX9_step_0 rfl rfl ?_
  refine rc_iload_n (pc := 1) hC dX9_step_1 rfl rfl ?_
  refine rc_callM (pc := 2) hC (rw_X9_isCat hH.1 v1) q2439 q2441 qs103 q149 q2442 rfl rd_X9_isCat (hH.room (Nat.le_of_ble_eq_true rfl) (Nat.le_of_ble_eq_true rfl)) rfl rfl (Nat.le_of_ble_eq_true rfl) 1 rfl h.le.2.2 (Or.inl hF) h.br rfl dX9_step_2 ?_ (fun E q S hT => rc_out hC hH.2.2.2.2 hT)
  intro x1 S h
  show rc_Z Y S 5 [some (rc_q (some (rc_km (yr_K Y) 100))), some (rc_i v1), some (rc_i v2), none] [rc_i x1]
  refine rc_if_eq (pc := 5) (tgt := 20) hC dX9_step_5 rfl h ?_ ?_
  · intro _ h
    exact rw_X9_step_L20 hC hH hF  v1 v2 S h
  intro _ h
  refine rc_aload_n (pc := 8) hC dX9_step_8 rfl rfl ?_
  refine rc_iload_n (pc := 9) hC dX9_step_9 rfl rfl ?_
  refine rc_callM (pc := 10) hC (rw_X9_isGutter hH.1 v2) q2443 q2445 qs104 q149 q2446 rfl rd_X9_isGutter (hH.room (Nat.le_of_ble_eq_true rfl) (Nat.le_of_ble_eq_true rfl)) rfl rfl (Nat.le_of_ble_eq_true rfl) 1 rfl h.le.2.2 (Or.inl hF) h.br rfl dX9_step_10 ?_ (fun E q S hT => rc_out hC hH.2.2.2.2 hT)
  intro x2 S h
  show rc_Z Y S 13 [some (rc_q (some (rc_km (yr_K Y) 100))), some (rc_i v1), some (rc_i v2), none] [rc_i x2]
  refine rc_if_eq (pc := 13) (tgt := 20) hC dX9_step_13 rfl h ?_ ?_
  · intro _ h
    exact rw_X9_step_L20 hC hH hF  v1 v2 S h
  intro _ h
  refine rc_iconst (pc := 16) hC (v := (1 : Int32)) dX9_step_16 rfl ?_
  refine rc_goto (pc := 17) (tgt := 21) hC dX9_step_17 rfl ?_
  exact rw_X9_step_L21 hC hH hF  v1 v2 (1 : Int32) S h
theorem rw_X9_claim_L33 {Y : rc_Y} (hC : rc_C Y cX9_claim RX9 (Option.some Jvm.ClassFile.FieldType.int) 3) (hH : rc_H Y 3 65 yX9_claim.name) (hF : yr_F Y = true) (v1 : Int32) (s0 : Int32) (s1 : Int32) (S : rc_S) (h : rc_Go Y rc_tI (rp_X9_claim_L33  v1 s0 s1) S) : rc_Z Y S 33 [some (rc_q (some (rc_km (yr_K Y) 100))), some (rc_i v1), none] [rc_i s0, rc_i s1, rc_q (some (rc_km (yr_K Y) 100))] := by
  unfold rp_X9_claim_L33 at h
  refine rc_callM (pc := 33) hC (rw_X9_throwsOne_2 hH.1 s1 s0) q2412 q2414 qs100 q149 q2415 rfl rd_X9_throwsOne_2 (hH.room (Nat.le_of_ble_eq_true rfl) (Nat.le_of_ble_eq_true rfl)) rfl rfl (Nat.le_of_ble_eq_true rfl) 2 rfl h.le.2.2 (Or.inl hF) h.br rfl dX9_claim_33 ?_ (fun E q S hT => rc_out hC hH.2.2.2.2 hT)
  intro x1 S h
  show rc_Z Y S 36 [some (rc_q (some (rc_km (yr_K Y) 100))), some (rc_i v1), none] [rc_i x1]
  refine rc_if_eq (pc := 36) (tgt := 41) hC dX9_claim_36 rfl h ?_ ?_
  · intro _ h
    refine rc_aload_n (pc := 41) hC dX9_claim_41 rfl rfl ?_
    refine rc_callM (pc := 42) hC (rw_X9_begins hH.1) q2400 q2402 qs98 q149 q2403 rfl rd_X9_begins (hH.room (Nat.le_of_ble_eq_true rfl) (Nat.le_of_ble_eq_true rfl)) rfl rfl (Nat.le_of_ble_eq_true rfl) 0 rfl h.le.2.2 (Or.inl hF) h.br rfl dX9_claim_42 ?_ (fun E q S hT => rc_out hC hH.2.2.2.2 hT)
    intro _ S h
    show rc_Z Y S 45 [some (rc_q (some (rc_km (yr_K Y) 100))), some (rc_i v1), none] []
    refine rc_aload_n (pc := 45) hC dX9_claim_45 rfl rfl ?_
    refine rc_aload_n (pc := 46) hC dX9_claim_46 rfl rfl ?_
    refine rc_iload_n (pc := 47) hC dX9_claim_47 rfl rfl ?_
    refine rc_callM (pc := 48) hC (rw_X9_claims hH.1 v1) q2185 q2187 qs67 q149 q2188 rfl rd_X9_claims (hH.room (Nat.le_of_ble_eq_true rfl) (Nat.le_of_ble_eq_true rfl)) rfl rfl (Nat.le_of_ble_eq_true rfl) 1 rfl h.le.2.2 (Or.inl hF) h.br rfl dX9_claim_48 ?_ (fun E q S hT => rc_out hC hH.2.2.2.2 hT)
    intro x2 S h
    show rc_Z Y S 51 [some (rc_q (some (rc_km (yr_K Y) 100))), some (rc_i v1), none] [rc_i x2, rc_q (some (rc_km (yr_K Y) 100))]
    refine rc_callM (pc := 51) hC (rw_X9_remember hH.1 x2) q2404 q2406 qs99 q149 q2407 rfl rd_X9_remember (hH.room (Nat.le_of_ble_eq_true rfl) (Nat.le_of_ble_eq_true rfl)) rfl rfl (Nat.le_of_ble_eq_true rfl) 1 rfl h.le.2.2 (Or.inl hF) h.br rfl dX9_claim_51 ?_ (fun E q S hT => rc_out hC hH.2.2.2.2 hT)
    intro x3 S h
    show rc_Z Y S 54 [some (rc_q (some (rc_km (yr_K Y) 100))), some (rc_i v1), none] [rc_i x3]
    exact rc_iret hC rfl rfl dX9_claim_54 h rfl
  intro _ h
  refine rc_iconst (pc := 39) hC (v := (0 : Int32)) dX9_claim_39 rfl ?_
  exact rc_iret hC rfl rfl dX9_claim_40 h rfl
theorem rw_X9_claim_L32 {Y : rc_Y} (hC : rc_C Y cX9_claim RX9 (Option.some Jvm.ClassFile.FieldType.int) 3) (hH : rc_H Y 3 65 yX9_claim.name) (hF : yr_F Y = true) (v1 : Int32) (s0 : Int32) (S : rc_S) (h : rc_Go Y rc_tI (rp_X9_claim_L32  v1 s0) S) : rc_Z Y S 32 [some (rc_q (some (rc_km (yr_K Y) 100))), some (rc_i v1), none] [rc_i s0, rc_q (some (rc_km (yr_K Y) 100))] := by
  unfold rp_X9_claim_L32 at h
  refine rc_iconst (pc := 32) hC (v := (0 : Int32)) dX9_claim_32 rfl ?_
  exact rw_X9_claim_L33 hC hH hF  v1 (0 : Int32) s0 S h
theorem rw_X9_claim_L16 {Y : rc_Y} (hC : rc_C Y cX9_claim RX9 (Option.some Jvm.ClassFile.FieldType.int) 3) (hH : rc_H Y 3 65 yX9_claim.name) (hF : yr_F Y = true) (v1 : Int32) (v2 : Int32) (s0 : Int32) (S : rc_S) (h : rc_Go Y rc_tI (rp_X9_claim_L16  v1 v2 s0) S) : rc_Z Y S 16 [some (rc_q (some (rc_km (yr_K Y) 100))), some (rc_i v1), some (rc_i v2)] [rc_i s0, rc_q (some (rc_km (yr_K Y) 100))] := by
  unfold rp_X9_claim_L16 at h
  refine rc_iload_n (pc := 16) hC dX9_claim_16 rfl rfl ?_
  refine rc_if_eq (pc := 17) (tgt := 32) hC dX9_claim_17 rfl h ?_ ?_
  · intro _ h
    refine rc_drop [true, true, false] (L' := [some (rc_q (some (rc_km (yr_K Y) 100))), some (rc_i v1), none]) rfl ?_
    exact rw_X9_claim_L32 hC hH hF  v1 s0 S h
  intro _ h
  refine rc_aload_n (pc := 20) hC dX9_claim_20 rfl rfl ?_
  refine rc_iload_n (pc := 21) hC dX9_claim_21 rfl rfl ?_
  refine rc_callM (pc := 22) hC (rw_X9_whyLeaves hH.1 v1) q2177 q2179 qs65 q149 q2180 rfl rd_X9_whyLeaves (hH.room (Nat.le_of_ble_eq_true rfl) (Nat.le_of_ble_eq_true rfl)) rfl rfl (Nat.le_of_ble_eq_true rfl) 1 rfl h.le.2.2 (Or.inl hF) h.br rfl dX9_claim_22 ?_ (fun E q S hT => rc_out hC hH.2.2.2.2 hT)
  intro x1 S h
  show rc_Z Y S 25 [some (rc_q (some (rc_km (yr_K Y) 100))), some (rc_i v1), some (rc_i v2)] [rc_i x1, rc_i s0, rc_q (some (rc_km (yr_K Y) 100))]
  refine rc_if_eq (pc := 25) (tgt := 32) hC dX9_claim_25 rfl h ?_ ?_
  · intro _ h
    refine rc_drop [true, true, false] (L' := [some (rc_q (some (rc_km (yr_K Y) 100))), some (rc_i v1), none]) rfl ?_
    exact rw_X9_claim_L32 hC hH hF  v1 s0 S h
  intro _ h
  refine rc_iconst (pc := 28) hC (v := (1 : Int32)) dX9_claim_28 rfl ?_
  refine rc_goto (pc := 29) (tgt := 33) hC dX9_claim_29 rfl ?_
  refine rc_drop [true, true, false] (L' := [some (rc_q (some (rc_km (yr_K Y) 100))), some (rc_i v1), none]) rfl ?_
  exact rw_X9_claim_L33 hC hH hF  v1 (1 : Int32) s0 S h
theorem rw_X9_claim {l : Launch} (hl : l.stackTraces = false) (v1 : Int32) : rc_Cm l yX9_claim (ws_ yX9_claim cX9_claim 3 (Option.some Jvm.ClassFile.FieldType.int)) 3 65 rc_tI (rp_X9_claim v1) [rc_i v1] := by
  refine rc_Cm_H hl (plainFor_of_name rY_X9) rfl (Nat.le_of_ble_eq_true rfl) ?_
  intro Y S hC hH hF h
  have hC : rc_C Y cX9_claim RX9 (Option.some Jvm.ClassFile.FieldType.int) 3 := hC
  show rc_Z Y S 0 [some (rc_q (some (rc_km (yr_K Y) 100))), some (rc_i v1), none] []
  unfold rp_X9_claim at h
  refine rc_aload_n (pc := 0) hC dX9_claim_0 rfl rfl ?_
  refine rc_iload_n (pc := 1) hC dX9_claim_1 rfl rfl ?_
  refine rc_callM (pc := 2) hC (rw_X9_isCat hH.1 v1) q2439 q2441 qs103 q149 q2442 rfl rd_X9_isCat (hH.room (Nat.le_of_ble_eq_true rfl) (Nat.le_of_ble_eq_true rfl)) rfl rfl (Nat.le_of_ble_eq_true rfl) 1 rfl h.le.2.2 (Or.inl hF) h.br rfl dX9_claim_2 ?_ (fun E q S hT => rc_out hC hH.2.2.2.2 hT)
  intro x1 S h
  show rc_Z Y S 5 [some (rc_q (some (rc_km (yr_K Y) 100))), some (rc_i v1), none] [rc_i x1]
  refine rc_istore_n (pc := 5) hC (L' := [some (rc_q (some (rc_km (yr_K Y) 100))), some (rc_i v1), some (rc_i x1)]) dX9_claim_5 rfl (Nat.le_of_ble_eq_true rfl) rfl rfl ?_
  refine rc_aload_n (pc := 6) hC dX9_claim_6 rfl rfl ?_
  refine rc_iload_n (pc := 7) hC dX9_claim_7 rfl rfl ?_
  refine rc_if_ne (pc := 8) (tgt := 15) hC dX9_claim_8 rfl h ?_ ?_
  · intro _ h
    refine rc_iconst (pc := 15) hC (v := (0 : Int32)) dX9_claim_15 rfl ?_
    exact rw_X9_claim_L16 hC hH hF  v1 x1 (0 : Int32) S h
  intro _ h
  refine rc_iconst (pc := 11) hC (v := (1 : Int32)) dX9_claim_11 rfl ?_
  refine rc_goto (pc := 12) (tgt := 16) hC dX9_claim_12 rfl ?_
  exact rw_X9_claim_L16 hC hH hF  v1 x1 (1 : Int32) S h
theorem rw_X9_abandon_L34 {Y : rc_Y} (hC : rc_C Y cX9_abandon RX9 (Option.some Jvm.ClassFile.FieldType.int) 3) (hH : rc_H Y 2 43 yX9_abandon.name) (hF : yr_F Y = true) (v1 : Int32) (s0 : Int32) (s1 : Int32) (S : rc_S) (h : rc_Go Y rc_tI (rp_X9_abandon_L34  v1 s0 s1) S) : rc_Z Y S 34 [some (rc_q (some (rc_km (yr_K Y) 100))), some (rc_i v1), none] [rc_i s0, rc_i s1, rc_q (some (rc_km (yr_K Y) 100))] := by
  unfold rp_X9_abandon_L34 at h
  refine rc_callM (pc := 34) hC (rw_X9_throwsOne_2 hH.1 s1 s0) q2412 q2414 qs100 q149 q2415 rfl rd_X9_throwsOne_2 (hH.room (Nat.le_of_ble_eq_true rfl) (Nat.le_of_ble_eq_true rfl)) rfl rfl (Nat.le_of_ble_eq_true rfl) 2 rfl h.le.2.2 (Or.inl hF) h.br rfl dX9_abandon_34 ?_ (fun E q S hT => rc_out hC hH.2.2.2.2 hT)
  intro x1 S h
  show rc_Z Y S 37 [some (rc_q (some (rc_km (yr_K Y) 100))), some (rc_i v1), none] [rc_i x1]
  refine rc_if_eq (pc := 37) (tgt := 42) hC dX9_abandon_37 rfl h ?_ ?_
  · intro _ h
    refine rc_aload_n (pc := 42) hC dX9_abandon_42 rfl rfl ?_
    refine rc_callM (pc := 43) hC (rw_X9_begins hH.1) q2400 q2402 qs98 q149 q2403 rfl rd_X9_begins (hH.room (Nat.le_of_ble_eq_true rfl) (Nat.le_of_ble_eq_true rfl)) rfl rfl (Nat.le_of_ble_eq_true rfl) 0 rfl h.le.2.2 (Or.inl hF) h.br rfl dX9_abandon_43 ?_ (fun E q S hT => rc_out hC hH.2.2.2.2 hT)
    intro _ S h
    show rc_Z Y S 46 [some (rc_q (some (rc_km (yr_K Y) 100))), some (rc_i v1), none] []
    refine rc_aload_n (pc := 46) hC dX9_abandon_46 rfl rfl ?_
    refine rc_aload_n (pc := 47) hC dX9_abandon_47 rfl rfl ?_
    refine rc_iload_n (pc := 48) hC dX9_abandon_48 rfl rfl ?_
    refine rc_callM (pc := 49) hC (rw_X9_leaves hH.1 v1) q2193 q2195 qs69 q149 q2196 rfl rd_X9_leaves (hH.room (Nat.le_of_ble_eq_true rfl) (Nat.le_of_ble_eq_true rfl)) rfl rfl (Nat.le_of_ble_eq_true rfl) 1 rfl h.le.2.2 (Or.inl hF) h.br rfl dX9_abandon_49 ?_ (fun E q S hT => rc_out hC hH.2.2.2.2 hT)
    intro x2 S h
    show rc_Z Y S 52 [some (rc_q (some (rc_km (yr_K Y) 100))), some (rc_i v1), none] [rc_i x2, rc_q (some (rc_km (yr_K Y) 100))]
    refine rc_callM (pc := 52) hC (rw_X9_remember hH.1 x2) q2404 q2406 qs99 q149 q2407 rfl rd_X9_remember (hH.room (Nat.le_of_ble_eq_true rfl) (Nat.le_of_ble_eq_true rfl)) rfl rfl (Nat.le_of_ble_eq_true rfl) 1 rfl h.le.2.2 (Or.inl hF) h.br rfl dX9_abandon_52 ?_ (fun E q S hT => rc_out hC hH.2.2.2.2 hT)
    intro x3 S h
    show rc_Z Y S 55 [some (rc_q (some (rc_km (yr_K Y) 100))), some (rc_i v1), none] [rc_i x3]
    exact rc_iret hC rfl rfl dX9_abandon_55 h rfl
  intro _ h
  refine rc_iconst (pc := 40) hC (v := (0 : Int32)) dX9_abandon_40 rfl ?_
  exact rc_iret hC rfl rfl dX9_abandon_41 h rfl
theorem rw_X9_abandon_L33 {Y : rc_Y} (hC : rc_C Y cX9_abandon RX9 (Option.some Jvm.ClassFile.FieldType.int) 3) (hH : rc_H Y 2 43 yX9_abandon.name) (hF : yr_F Y = true) (v1 : Int32) (s0 : Int32) (S : rc_S) (h : rc_Go Y rc_tI (rp_X9_abandon_L33  v1 s0) S) : rc_Z Y S 33 [some (rc_q (some (rc_km (yr_K Y) 100))), some (rc_i v1), none] [rc_i s0, rc_q (some (rc_km (yr_K Y) 100))] := by
  unfold rp_X9_abandon_L33 at h
  refine rc_iconst (pc := 33) hC (v := (0 : Int32)) dX9_abandon_33 rfl ?_
  exact rw_X9_abandon_L34 hC hH hF  v1 (0 : Int32) s0 S h
theorem rw_X9_abandon_L16 {Y : rc_Y} (hC : rc_C Y cX9_abandon RX9 (Option.some Jvm.ClassFile.FieldType.int) 3) (hH : rc_H Y 2 43 yX9_abandon.name) (hF : yr_F Y = true) (v1 : Int32) (v2 : Int32) (s0 : Int32) (S : rc_S) (h : rc_Go Y rc_tI (rp_X9_abandon_L16  v1 v2 s0) S) : rc_Z Y S 16 [some (rc_q (some (rc_km (yr_K Y) 100))), some (rc_i v1), some (rc_i v2)] [rc_i s0, rc_q (some (rc_km (yr_K Y) 100))] := by
  unfold rp_X9_abandon_L16 at h
  refine rc_iload_n (pc := 16) hC dX9_abandon_16 rfl rfl ?_
  refine rc_if_eq (pc := 17) (tgt := 33) hC dX9_abandon_17 rfl h ?_ ?_
  · intro _ h
    refine rc_drop [true, true, false] (L' := [some (rc_q (some (rc_km (yr_K Y) 100))), some (rc_i v1), none]) rfl ?_
    exact rw_X9_abandon_L33 hC hH hF  v1 s0 S h
  intro _ h
  refine rc_aload_n (pc := 20) hC dX9_abandon_20 rfl rfl ?_
  refine rc_iload_n (pc := 21) hC dX9_abandon_21 rfl rfl ?_
  refine rc_callM (pc := 22) hC (rw_X9_owner hH.1 v1) q2160 q2162 qs61 q149 q2163 rfl rd_X9_owner (hH.room (Nat.le_of_ble_eq_true rfl) (Nat.le_of_ble_eq_true rfl)) rfl rfl (Nat.le_of_ble_eq_true rfl) 1 rfl h.le.2.2 (Or.inl hF) h.br rfl dX9_abandon_22 ?_ (fun E q S hT => rc_out hC hH.2.2.2.2 hT)
  intro x1 S h
  show rc_Z Y S 25 [some (rc_q (some (rc_km (yr_K Y) 100))), some (rc_i v1), some (rc_i v2)] [rc_i x1, rc_i s0, rc_q (some (rc_km (yr_K Y) 100))]
  refine rc_iconst (pc := 25) hC (v := (-1 : Int32)) dX9_abandon_25 rfl ?_
  refine rc_icmp_ne (pc := 26) (tgt := 33) hC dX9_abandon_26 rfl h ?_ ?_
  · intro _ h
    refine rc_drop [true, true, false] (L' := [some (rc_q (some (rc_km (yr_K Y) 100))), some (rc_i v1), none]) rfl ?_
    exact rw_X9_abandon_L33 hC hH hF  v1 s0 S h
  intro _ h
  refine rc_iconst (pc := 29) hC (v := (1 : Int32)) dX9_abandon_29 rfl ?_
  refine rc_goto (pc := 30) (tgt := 34) hC dX9_abandon_30 rfl ?_
  refine rc_drop [true, true, false] (L' := [some (rc_q (some (rc_km (yr_K Y) 100))), some (rc_i v1), none]) rfl ?_
  exact rw_X9_abandon_L34 hC hH hF  v1 (1 : Int32) s0 S h
theorem rw_X9_abandon {l : Launch} (hl : l.stackTraces = false) (v1 : Int32) : rc_Cm l yX9_abandon (ws_ yX9_abandon cX9_abandon 3 (Option.some Jvm.ClassFile.FieldType.int)) 2 43 rc_tI (rp_X9_abandon v1) [rc_i v1] := by
  refine rc_Cm_H hl (plainFor_of_name rY_X9) rfl (Nat.le_of_ble_eq_true rfl) ?_
  intro Y S hC hH hF h
  have hC : rc_C Y cX9_abandon RX9 (Option.some Jvm.ClassFile.FieldType.int) 3 := hC
  show rc_Z Y S 0 [some (rc_q (some (rc_km (yr_K Y) 100))), some (rc_i v1), none] []
  unfold rp_X9_abandon at h
  refine rc_aload_n (pc := 0) hC dX9_abandon_0 rfl rfl ?_
  refine rc_iload_n (pc := 1) hC dX9_abandon_1 rfl rfl ?_
  refine rc_callM (pc := 2) hC (rw_X9_isChimney hH.1 v1) q2420 q2422 qs101 q149 q2423 rfl rd_X9_isChimney (hH.room (Nat.le_of_ble_eq_true rfl) (Nat.le_of_ble_eq_true rfl)) rfl rfl (Nat.le_of_ble_eq_true rfl) 1 rfl h.le.2.2 (Or.inl hF) h.br rfl dX9_abandon_2 ?_ (fun E q S hT => rc_out hC hH.2.2.2.2 hT)
  intro x1 S h
  show rc_Z Y S 5 [some (rc_q (some (rc_km (yr_K Y) 100))), some (rc_i v1), none] [rc_i x1]
  refine rc_istore_n (pc := 5) hC (L' := [some (rc_q (some (rc_km (yr_K Y) 100))), some (rc_i v1), some (rc_i x1)]) dX9_abandon_5 rfl (Nat.le_of_ble_eq_true rfl) rfl rfl ?_
  refine rc_aload_n (pc := 6) hC dX9_abandon_6 rfl rfl ?_
  refine rc_iload_n (pc := 7) hC dX9_abandon_7 rfl rfl ?_
  refine rc_if_ne (pc := 8) (tgt := 15) hC dX9_abandon_8 rfl h ?_ ?_
  · intro _ h
    refine rc_iconst (pc := 15) hC (v := (0 : Int32)) dX9_abandon_15 rfl ?_
    exact rw_X9_abandon_L16 hC hH hF  v1 x1 (0 : Int32) S h
  intro _ h
  refine rc_iconst (pc := 11) hC (v := (1 : Int32)) dX9_abandon_11 rfl ?_
  refine rc_goto (pc := 12) (tgt := 16) hC dX9_abandon_12 rfl ?_
  exact rw_X9_abandon_L16 hC hH hF  v1 x1 (1 : Int32) S h
theorem rw_X9_areCats {l : Launch} (hl : l.stackTraces = false) (v1 : Int32) (v2 : Int32) : rc_Cm l yX9_areCats (ws_ yX9_areCats cX9_areCats 3 (Option.some Jvm.ClassFile.FieldType.boolean)) 2 43 rc_tI (rp_X9_areCats v1 v2) [rc_i v1, rc_i v2] := by
  refine rc_Cm_H hl (plainFor_of_name rY_X9) rfl (Nat.le_of_ble_eq_true rfl) ?_
  intro Y S hC hH hF h
  have hC : rc_C Y cX9_areCats RX9 (Option.some Jvm.ClassFile.FieldType.boolean) 3 := hC
  show rc_Z Y S 0 [some (rc_q (some (rc_km (yr_K Y) 100))), some (rc_i v1), some (rc_i v2)] []
  unfold rp_X9_areCats at h
  refine rc_aload_n (pc := 0) hC dX9_areCats_0 rfl rfl ?_
  refine rc_iload_n (pc := 1) hC dX9_areCats_1 rfl rfl ?_
  refine rc_callM (pc := 2) hC (rw_X9_isCat hH.1 v1) q2439 q2441 qs103 q149 q2442 rfl rd_X9_isCat (hH.room (Nat.le_of_ble_eq_true rfl) (Nat.le_of_ble_eq_true rfl)) rfl rfl (Nat.le_of_ble_eq_true rfl) 1 rfl h.le.2.2 (Or.inl hF) h.br rfl dX9_areCats_2 ?_ (fun E q S hT => rc_out hC hH.2.2.2.2 hT)
  intro x1 S h
  show rc_Z Y S 5 [some (rc_q (some (rc_km (yr_K Y) 100))), some (rc_i v1), some (rc_i v2)] [rc_i x1]
  refine rc_if_eq (pc := 5) (tgt := 20) hC dX9_areCats_5 rfl h ?_ ?_
  · intro _ h
    refine rc_iconst (pc := 20) hC (v := (0 : Int32)) dX9_areCats_20 rfl ?_
    exact rc_iret hC rfl rfl dX9_areCats_21 h rfl
  intro _ h
  refine rc_aload_n (pc := 8) hC dX9_areCats_8 rfl rfl ?_
  refine rc_iload_n (pc := 9) hC dX9_areCats_9 rfl rfl ?_
  refine rc_callM (pc := 10) hC (rw_X9_isCat hH.1 v2) q2439 q2441 qs103 q149 q2442 rfl rd_X9_isCat (hH.room (Nat.le_of_ble_eq_true rfl) (Nat.le_of_ble_eq_true rfl)) rfl rfl (Nat.le_of_ble_eq_true rfl) 1 rfl h.le.2.2 (Or.inl hF) h.br rfl dX9_areCats_10 ?_ (fun E q S hT => rc_out hC hH.2.2.2.2 hT)
  intro x2 S h
  show rc_Z Y S 13 [some (rc_q (some (rc_km (yr_K Y) 100))), some (rc_i v1), some (rc_i v2)] [rc_i x2]
  refine rc_if_eq (pc := 13) (tgt := 20) hC dX9_areCats_13 rfl h ?_ ?_
  · intro _ h
    refine rc_iconst (pc := 20) hC (v := (0 : Int32)) dX9_areCats_20 rfl ?_
    exact rc_iret hC rfl rfl dX9_areCats_21 h rfl
  intro _ h
  refine rc_iconst (pc := 16) hC (v := (1 : Int32)) dX9_areCats_16 rfl ?_
  refine rc_goto (pc := 17) (tgt := 21) hC dX9_areCats_17 rfl ?_
  exact rc_iret hC rfl rfl dX9_areCats_21 h rfl
theorem rw_X9_chase_L77 {Y : rc_Y} (hC : rc_C Y cX9_chase RX9 (Option.some Jvm.ClassFile.FieldType.boolean) 4) (hH : rc_H Y 4 91 yX9_chase.name) (hF : yr_F Y = true) (s0 : Int32) (S : rc_S) (h : rc_Go Y rc_tI (rp_X9_chase_L77  s0) S) : rc_Z Y S 77 [none, none, none, none] [rc_i s0, rc_q (some (rc_km (yr_K Y) 100))] := by
  unfold rp_X9_chase_L77 at h
  refine rc_callM (pc := 77) hC (rw_X9_remember hH.1 s0) q2404 q2406 qs99 q149 q2407 rfl rd_X9_remember (hH.room (Nat.le_of_ble_eq_true rfl) (Nat.le_of_ble_eq_true rfl)) rfl rfl (Nat.le_of_ble_eq_true rfl) 1 rfl h.le.2.2 (Or.inl hF) h.br rfl dX9_chase_77 ?_ (fun E q S hT => rc_out hC hH.2.2.2.2 hT)
  intro x1 S h
  show rc_Z Y S 80 [none, none, none, none] [rc_i x1]
  refine rc_iconst (pc := 80) hC (v := (1 : Int32)) dX9_chase_80 rfl ?_
  refine rc_icmp_ne (pc := 81) (tgt := 88) hC dX9_chase_81 rfl h ?_ ?_
  · intro _ h
    refine rc_iconst (pc := 88) hC (v := (0 : Int32)) dX9_chase_88 rfl ?_
    exact rc_iret hC rfl rfl dX9_chase_89 h rfl
  intro _ h
  refine rc_iconst (pc := 84) hC (v := (1 : Int32)) dX9_chase_84 rfl ?_
  refine rc_goto (pc := 85) (tgt := 89) hC dX9_chase_85 rfl ?_
  exact rc_iret hC rfl rfl dX9_chase_89 h rfl
theorem rw_X9_chase_L50 {Y : rc_Y} (hC : rc_C Y cX9_chase RX9 (Option.some Jvm.ClassFile.FieldType.boolean) 4) (hH : rc_H Y 4 91 yX9_chase.name) (hF : yr_F Y = true) (v1 : Int32) (v2 : Int32) (s0 : Int32) (s1 : Int32) (s2 : Int32) (S : rc_S) (h : rc_Go Y rc_tI (rp_X9_chase_L50  v1 v2 s0 s1 s2) S) : rc_Z Y S 50 [some (rc_q (some (rc_km (yr_K Y) 100))), some (rc_i v1), some (rc_i v2), none] [rc_i s0, rc_i s1, rc_i s2, rc_q (some (rc_km (yr_K Y) 100))] := by
  unfold rp_X9_chase_L50 at h
  refine rc_callM (pc := 50) hC (rw_X9_throwsOne_3 hH.1 s2 s1 s0) q2424 q2426 qs102 q149 q2427 rfl rd_X9_throwsOne_3 (hH.room (Nat.le_of_ble_eq_true rfl) (Nat.le_of_ble_eq_true rfl)) rfl rfl (Nat.le_of_ble_eq_true rfl) 3 rfl h.le.2.2 (Or.inl hF) h.br rfl dX9_chase_50 ?_ (fun E q S hT => rc_out hC hH.2.2.2.2 hT)
  intro x1 S h
  show rc_Z Y S 53 [some (rc_q (some (rc_km (yr_K Y) 100))), some (rc_i v1), some (rc_i v2), none] [rc_i x1]
  refine rc_if_eq (pc := 53) (tgt := 58) hC dX9_chase_53 rfl h ?_ ?_
  · intro _ h
    refine rc_aload_n (pc := 58) hC dX9_chase_58 rfl rfl ?_
    refine rc_callM (pc := 59) hC (rw_X9_begins hH.1) q2400 q2402 qs98 q149 q2403 rfl rd_X9_begins (hH.room (Nat.le_of_ble_eq_true rfl) (Nat.le_of_ble_eq_true rfl)) rfl rfl (Nat.le_of_ble_eq_true rfl) 0 rfl h.le.2.2 (Or.inl hF) h.br rfl dX9_chase_59 ?_ (fun E q S hT => rc_out hC hH.2.2.2.2 hT)
    intro _ S h
    show rc_Z Y S 62 [some (rc_q (some (rc_km (yr_K Y) 100))), some (rc_i v1), some (rc_i v2), none] []
    refine rc_aload_n (pc := 62) hC dX9_chase_62 rfl rfl ?_
    refine rc_aload_n (pc := 63) hC dX9_chase_63 rfl rfl ?_
    refine rc_iload_n (pc := 64) hC dX9_chase_64 rfl rfl ?_
    refine rc_iload_n (pc := 65) hC dX9_chase_65 rfl rfl ?_
    refine rc_callM (pc := 66) hC (rw_X9_chases hH.1 v1 v2) q2221 q2223 qs76 q149 q2224 rfl rd_X9_chases (hH.room (Nat.le_of_ble_eq_true rfl) (Nat.le_of_ble_eq_true rfl)) rfl rfl (Nat.le_of_ble_eq_true rfl) 2 rfl h.le.2.2 (Or.inl hF) h.br rfl dX9_chase_66 ?_ (fun E q S hT => rc_out hC hH.2.2.2.2 hT)
    intro x2 S h
    show rc_Z Y S 69 [some (rc_q (some (rc_km (yr_K Y) 100))), some (rc_i v1), some (rc_i v2), none] [rc_i x2, rc_q (some (rc_km (yr_K Y) 100))]
    refine rc_if_eq (pc := 69) (tgt := 76) hC dX9_chase_69 rfl h ?_ ?_
    · intro _ h
      refine rc_iconst (pc := 76) hC (v := (0 : Int32)) dX9_chase_76 rfl ?_
      refine rc_drop [false, false, false, false] (L' := [none, none, none, none]) rfl ?_
      exact rw_X9_chase_L77 hC hH hF  (0 : Int32) S h
    intro _ h
    refine rc_iconst (pc := 72) hC (v := (1 : Int32)) dX9_chase_72 rfl ?_
    refine rc_goto (pc := 73) (tgt := 77) hC dX9_chase_73 rfl ?_
    refine rc_drop [false, false, false, false] (L' := [none, none, none, none]) rfl ?_
    exact rw_X9_chase_L77 hC hH hF  (1 : Int32) S h
  intro _ h
  refine rc_iconst (pc := 56) hC (v := (0 : Int32)) dX9_chase_56 rfl ?_
  exact rc_iret hC rfl rfl dX9_chase_57 h rfl
theorem rw_X9_chase_L49 {Y : rc_Y} (hC : rc_C Y cX9_chase RX9 (Option.some Jvm.ClassFile.FieldType.boolean) 4) (hH : rc_H Y 4 91 yX9_chase.name) (hF : yr_F Y = true) (v1 : Int32) (v2 : Int32) (s0 : Int32) (s1 : Int32) (S : rc_S) (h : rc_Go Y rc_tI (rp_X9_chase_L49  v1 v2 s0 s1) S) : rc_Z Y S 49 [some (rc_q (some (rc_km (yr_K Y) 100))), some (rc_i v1), some (rc_i v2), none] [rc_i s0, rc_i s1, rc_q (some (rc_km (yr_K Y) 100))] := by
  unfold rp_X9_chase_L49 at h
  refine rc_iconst (pc := 49) hC (v := (0 : Int32)) dX9_chase_49 rfl ?_
  exact rw_X9_chase_L50 hC hH hF  v1 v2 (0 : Int32) s0 s1 S h
theorem rw_X9_chase_L27 {Y : rc_Y} (hC : rc_C Y cX9_chase RX9 (Option.some Jvm.ClassFile.FieldType.boolean) 4) (hH : rc_H Y 4 91 yX9_chase.name) (hF : yr_F Y = true) (v1 : Int32) (v2 : Int32) (v3 : Int32) (s0 : Int32) (s1 : Int32) (S : rc_S) (h : rc_Go Y rc_tI (rp_X9_chase_L27  v1 v2 v3 s0 s1) S) : rc_Z Y S 27 [some (rc_q (some (rc_km (yr_K Y) 100))), some (rc_i v1), some (rc_i v2), some (rc_i v3)] [rc_i s0, rc_i s1, rc_q (some (rc_km (yr_K Y) 100))] := by
  unfold rp_X9_chase_L27 at h
  refine rc_iload_n (pc := 27) hC dX9_chase_27 rfl rfl ?_
  refine rc_if_eq (pc := 28) (tgt := 49) hC dX9_chase_28 rfl h ?_ ?_
  · intro _ h
    refine rc_drop [true, true, true, false] (L' := [some (rc_q (some (rc_km (yr_K Y) 100))), some (rc_i v1), some (rc_i v2), none]) rfl ?_
    exact rw_X9_chase_L49 hC hH hF  v1 v2 s0 s1 S h
  intro _ h
  refine rc_iload_n (pc := 31) hC dX9_chase_31 rfl rfl ?_
  refine rc_iload_n (pc := 32) hC dX9_chase_32 rfl rfl ?_
  refine rc_icmp_eq (pc := 33) (tgt := 49) hC dX9_chase_33 rfl h ?_ ?_
  · intro _ h
    refine rc_drop [true, true, true, false] (L' := [some (rc_q (some (rc_km (yr_K Y) 100))), some (rc_i v1), some (rc_i v2), none]) rfl ?_
    exact rw_X9_chase_L49 hC hH hF  v1 v2 s0 s1 S h
  intro _ h
  refine rc_aload_n (pc := 36) hC dX9_chase_36 rfl rfl ?_
  refine rc_iload_n (pc := 37) hC dX9_chase_37 rfl rfl ?_
  refine rc_iload_n (pc := 38) hC dX9_chase_38 rfl rfl ?_
  refine rc_callM (pc := 39) hC (rw_X9_whySpares hH.1 v1 v2) q2201 q2203 qs71 q149 q2204 rfl rd_X9_whySpares (hH.room (Nat.le_of_ble_eq_true rfl) (Nat.le_of_ble_eq_true rfl)) rfl rfl (Nat.le_of_ble_eq_true rfl) 2 rfl h.le.2.2 (Or.inl hF) h.br rfl dX9_chase_39 ?_ (fun E q S hT => rc_out hC hH.2.2.2.2 hT)
  intro x1 S h
  show rc_Z Y S 42 [some (rc_q (some (rc_km (yr_K Y) 100))), some (rc_i v1), some (rc_i v2), some (rc_i v3)] [rc_i x1, rc_i s0, rc_i s1, rc_q (some (rc_km (yr_K Y) 100))]
  refine rc_if_eq (pc := 42) (tgt := 49) hC dX9_chase_42 rfl h ?_ ?_
  · intro _ h
    refine rc_drop [true, true, true, false] (L' := [some (rc_q (some (rc_km (yr_K Y) 100))), some (rc_i v1), some (rc_i v2), none]) rfl ?_
    exact rw_X9_chase_L49 hC hH hF  v1 v2 s0 s1 S h
  intro _ h
  refine rc_iconst (pc := 45) hC (v := (1 : Int32)) dX9_chase_45 rfl ?_
  refine rc_goto (pc := 46) (tgt := 50) hC dX9_chase_46 rfl ?_
  refine rc_drop [true, true, true, false] (L' := [some (rc_q (some (rc_km (yr_K Y) 100))), some (rc_i v1), some (rc_i v2), none]) rfl ?_
  exact rw_X9_chase_L50 hC hH hF  v1 v2 (1 : Int32) s0 s1 S h
theorem rw_X9_chase_L17 {Y : rc_Y} (hC : rc_C Y cX9_chase RX9 (Option.some Jvm.ClassFile.FieldType.boolean) 4) (hH : rc_H Y 4 91 yX9_chase.name) (hF : yr_F Y = true) (v1 : Int32) (v2 : Int32) (v3 : Int32) (s0 : Int32) (S : rc_S) (h : rc_Go Y rc_tI (rp_X9_chase_L17  v1 v2 v3 s0) S) : rc_Z Y S 17 [some (rc_q (some (rc_km (yr_K Y) 100))), some (rc_i v1), some (rc_i v2), some (rc_i v3)] [rc_i s0, rc_q (some (rc_km (yr_K Y) 100))] := by
  unfold rp_X9_chase_L17 at h
  refine rc_iload_n (pc := 17) hC dX9_chase_17 rfl rfl ?_
  refine rc_iload_n (pc := 18) hC dX9_chase_18 rfl rfl ?_
  refine rc_icmp_ne (pc := 19) (tgt := 26) hC dX9_chase_19 rfl h ?_ ?_
  · intro _ h
    refine rc_iconst (pc := 26) hC (v := (0 : Int32)) dX9_chase_26 rfl ?_
    exact rw_X9_chase_L27 hC hH hF  v1 v2 v3 (0 : Int32) s0 S h
  intro _ h
  refine rc_iconst (pc := 22) hC (v := (1 : Int32)) dX9_chase_22 rfl ?_
  refine rc_goto (pc := 23) (tgt := 27) hC dX9_chase_23 rfl ?_
  exact rw_X9_chase_L27 hC hH hF  v1 v2 v3 (1 : Int32) s0 S h
theorem rw_X9_chase {l : Launch} (hl : l.stackTraces = false) (v1 : Int32) (v2 : Int32) : rc_Cm l yX9_chase (ws_ yX9_chase cX9_chase 4 (Option.some Jvm.ClassFile.FieldType.boolean)) 4 91 rc_tI (rp_X9_chase v1 v2) [rc_i v1, rc_i v2] := by
  refine rc_Cm_H hl (plainFor_of_name rY_X9) rfl (Nat.le_of_ble_eq_true rfl) ?_
  intro Y S hC hH hF h
  have hC : rc_C Y cX9_chase RX9 (Option.some Jvm.ClassFile.FieldType.boolean) 4 := hC
  show rc_Z Y S 0 [some (rc_q (some (rc_km (yr_K Y) 100))), some (rc_i v1), some (rc_i v2), none] []
  unfold rp_X9_chase at h
  refine rc_aload_n (pc := 0) hC dX9_chase_0 rfl rfl ?_
  refine rc_iload_n (pc := 1) hC dX9_chase_1 rfl rfl ?_
  refine rc_iload_n (pc := 2) hC dX9_chase_2 rfl rfl ?_
  refine rc_callM (pc := 3) hC (rw_X9_areCats hH.1 v1 v2) q2459 q2461 qs105 q149 q2462 rfl rd_X9_areCats (hH.room (Nat.le_of_ble_eq_true rfl) (Nat.le_of_ble_eq_true rfl)) rfl rfl (Nat.le_of_ble_eq_true rfl) 2 rfl h.le.2.2 (Or.inl hF) h.br rfl dX9_chase_3 ?_ (fun E q S hT => rc_out hC hH.2.2.2.2 hT)
  intro x1 S h
  show rc_Z Y S 6 [some (rc_q (some (rc_km (yr_K Y) 100))), some (rc_i v1), some (rc_i v2), none] [rc_i x1]
  refine rc_istore_n (pc := 6) hC (L' := [some (rc_q (some (rc_km (yr_K Y) 100))), some (rc_i v1), some (rc_i v2), some (rc_i x1)]) dX9_chase_6 rfl (Nat.le_of_ble_eq_true rfl) rfl rfl ?_
  refine rc_aload_n (pc := 7) hC dX9_chase_7 rfl rfl ?_
  refine rc_iload_n (pc := 8) hC dX9_chase_8 rfl rfl ?_
  refine rc_if_ne (pc := 9) (tgt := 16) hC dX9_chase_9 rfl h ?_ ?_
  · intro _ h
    refine rc_iconst (pc := 16) hC (v := (0 : Int32)) dX9_chase_16 rfl ?_
    exact rw_X9_chase_L17 hC hH hF  v1 v2 x1 (0 : Int32) S h
  intro _ h
  refine rc_iconst (pc := 12) hC (v := (1 : Int32)) dX9_chase_12 rfl ?_
  refine rc_goto (pc := 13) (tgt := 17) hC dX9_chase_13 rfl ?_
  exact rw_X9_chase_L17 hC hH hF  v1 v2 x1 (1 : Int32) S h
theorem rw_X9_buyTruce_L79 {Y : rc_Y} (hC : rc_C Y cX9_buyTruce RX9 (Option.some Jvm.ClassFile.FieldType.int) 7) (hH : rc_H Y 3 66 yX9_buyTruce.name) (hF : yr_F Y = true) (v1 : Int32) (v2 : Int32) (v3 : Int32) (v4 : Int32) (s0 : Int32) (s1 : Int32) (s2 : Int32) (S : rc_S) (h : rc_Go Y rc_tI (rp_X9_buyTruce_L79  v1 v2 v3 v4 s0 s1 s2) S) : rc_Z Y S 79 [some (rc_q (some (rc_km (yr_K Y) 100))), some (rc_i v1), some (rc_i v2), some (rc_i v3), some (rc_i v4), none, none] [rc_i s0, rc_i s1, rc_i s2, rc_q (some (rc_km (yr_K Y) 100))] := by
  unfold rp_X9_buyTruce_L79 at h
  refine rc_callM (pc := 79) hC (rw_X9_throwsOne_3 hH.1 s2 s1 s0) q2424 q2426 qs102 q149 q2427 rfl rd_X9_throwsOne_3 (hH.room (Nat.le_of_ble_eq_true rfl) (Nat.le_of_ble_eq_true rfl)) rfl rfl (Nat.le_of_ble_eq_true rfl) 3 rfl h.le.2.2 (Or.inl hF) h.br rfl dX9_buyTruce_79 ?_ (fun E q S hT => rc_out hC hH.2.2.2.2 hT)
  intro x1 S h
  show rc_Z Y S 82 [some (rc_q (some (rc_km (yr_K Y) 100))), some (rc_i v1), some (rc_i v2), some (rc_i v3), some (rc_i v4), none, none] [rc_i x1]
  refine rc_if_eq (pc := 82) (tgt := 87) hC dX9_buyTruce_82 rfl h ?_ ?_
  · intro _ h
    refine rc_aload_n (pc := 87) hC dX9_buyTruce_87 rfl rfl ?_
    refine rc_callM (pc := 88) hC (rw_X9_begins hH.1) q2400 q2402 qs98 q149 q2403 rfl rd_X9_begins (hH.room (Nat.le_of_ble_eq_true rfl) (Nat.le_of_ble_eq_true rfl)) rfl rfl (Nat.le_of_ble_eq_true rfl) 0 rfl h.le.2.2 (Or.inl hF) h.br rfl dX9_buyTruce_88 ?_ (fun E q S hT => rc_out hC hH.2.2.2.2 hT)
    intro _ S h
    show rc_Z Y S 91 [some (rc_q (some (rc_km (yr_K Y) 100))), some (rc_i v1), some (rc_i v2), some (rc_i v3), some (rc_i v4), none, none] []
    refine rc_aload_n (pc := 91) hC dX9_buyTruce_91 rfl rfl ?_
    refine rc_aload_n (pc := 92) hC dX9_buyTruce_92 rfl rfl ?_
    refine rc_iload_n (pc := 93) hC dX9_buyTruce_93 rfl rfl ?_
    refine rc_iload_n (pc := 94) hC dX9_buyTruce_94 rfl rfl ?_
    refine rc_iload_n (pc := 95) hC dX9_buyTruce_95 rfl rfl ?_
    refine rc_iload (pc := 96) hC dX9_buyTruce_96 rfl ?_
    refine rc_callM (pc := 98) hC (rw_X9_buys hH.1 v1 v2 v3 v4) q2233 q2235 qs79 q149 q2236 rfl rd_X9_buys (hH.room (Nat.le_of_ble_eq_true rfl) (Nat.le_of_ble_eq_true rfl)) rfl rfl (Nat.le_of_ble_eq_true rfl) 4 rfl h.le.2.2 (Or.inl hF) h.br rfl dX9_buyTruce_98 ?_ (fun E q S hT => rc_out hC hH.2.2.2.2 hT)
    intro x2 S h
    show rc_Z Y S 101 [some (rc_q (some (rc_km (yr_K Y) 100))), some (rc_i v1), some (rc_i v2), some (rc_i v3), some (rc_i v4), none, none] [rc_i x2, rc_q (some (rc_km (yr_K Y) 100))]
    refine rc_callM (pc := 101) hC (rw_X9_remember hH.1 x2) q2404 q2406 qs99 q149 q2407 rfl rd_X9_remember (hH.room (Nat.le_of_ble_eq_true rfl) (Nat.le_of_ble_eq_true rfl)) rfl rfl (Nat.le_of_ble_eq_true rfl) 1 rfl h.le.2.2 (Or.inl hF) h.br rfl dX9_buyTruce_101 ?_ (fun E q S hT => rc_out hC hH.2.2.2.2 hT)
    intro x3 S h
    show rc_Z Y S 104 [some (rc_q (some (rc_km (yr_K Y) 100))), some (rc_i v1), some (rc_i v2), some (rc_i v3), some (rc_i v4), none, none] [rc_i x3]
    exact rc_iret hC rfl rfl dX9_buyTruce_104 h rfl
  intro _ h
  refine rc_iconst (pc := 85) hC (v := (0 : Int32)) dX9_buyTruce_85 rfl ?_
  exact rc_iret hC rfl rfl dX9_buyTruce_86 h rfl
theorem rw_X9_buyTruce_L78 {Y : rc_Y} (hC : rc_C Y cX9_buyTruce RX9 (Option.some Jvm.ClassFile.FieldType.int) 7) (hH : rc_H Y 3 66 yX9_buyTruce.name) (hF : yr_F Y = true) (v1 : Int32) (v2 : Int32) (v3 : Int32) (v4 : Int32) (s0 : Int32) (s1 : Int32) (S : rc_S) (h : rc_Go Y rc_tI (rp_X9_buyTruce_L78  v1 v2 v3 v4 s0 s1) S) : rc_Z Y S 78 [some (rc_q (some (rc_km (yr_K Y) 100))), some (rc_i v1), some (rc_i v2), some (rc_i v3), some (rc_i v4), none, none] [rc_i s0, rc_i s1, rc_q (some (rc_km (yr_K Y) 100))] := by
  unfold rp_X9_buyTruce_L78 at h
  refine rc_iconst (pc := 78) hC (v := (0 : Int32)) dX9_buyTruce_78 rfl ?_
  exact rw_X9_buyTruce_L79 hC hH hF  v1 v2 v3 v4 (0 : Int32) s0 s1 S h
theorem rw_X9_buyTruce_L52 {Y : rc_Y} (hC : rc_C Y cX9_buyTruce RX9 (Option.some Jvm.ClassFile.FieldType.int) 7) (hH : rc_H Y 3 66 yX9_buyTruce.name) (hF : yr_F Y = true) (v1 : Int32) (v2 : Int32) (v3 : Int32) (v4 : Int32) (v5 : Int32) (v6 : Int32) (s0 : Int32) (S : rc_S) (h : rc_Go Y rc_tI (rp_X9_buyTruce_L52  v1 v2 v3 v4 v5 v6 s0) S) : rc_Z Y S 52 [some (rc_q (some (rc_km (yr_K Y) 100))), some (rc_i v1), some (rc_i v2), some (rc_i v3), some (rc_i v4), some (rc_i v5), some (rc_i v6)] [rc_i s0, rc_q (some (rc_km (yr_K Y) 100))] := by
  unfold rp_X9_buyTruce_L52 at h
  refine rc_iload (pc := 52) hC dX9_buyTruce_52 rfl ?_
  refine rc_iload (pc := 54) hC dX9_buyTruce_54 rfl ?_
  refine rc_if_eq (pc := 56) (tgt := 78) hC dX9_buyTruce_56 rfl h ?_ ?_
  · intro _ h
    refine rc_drop [true, true, true, true, true, false, false] (L' := [some (rc_q (some (rc_km (yr_K Y) 100))), some (rc_i v1), some (rc_i v2), some (rc_i v3), some (rc_i v4), none, none]) rfl ?_
    exact rw_X9_buyTruce_L78 hC hH hF  v1 v2 v3 v4 v6 s0 S h
  intro _ h
  refine rc_iload (pc := 59) hC dX9_buyTruce_59 rfl ?_
  refine rc_if_ne (pc := 61) (tgt := 78) hC dX9_buyTruce_61 rfl h ?_ ?_
  · intro _ h
    refine rc_drop [true, true, true, true, true, false, false] (L' := [some (rc_q (some (rc_km (yr_K Y) 100))), some (rc_i v1), some (rc_i v2), some (rc_i v3), some (rc_i v4), none, none]) rfl ?_
    exact rw_X9_buyTruce_L78 hC hH hF  v1 v2 v3 v4 v6 s0 S h
  intro _ h
  refine rc_aload_n (pc := 64) hC dX9_buyTruce_64 rfl rfl ?_
  refine rc_iload_n (pc := 65) hC dX9_buyTruce_65 rfl rfl ?_
  refine rc_iload_n (pc := 66) hC dX9_buyTruce_66 rfl rfl ?_
  refine rc_iload_n (pc := 67) hC dX9_buyTruce_67 rfl rfl ?_
  refine rc_callM (pc := 68) hC (rw_X9_canBuy hH.1 v1 v2 v3) q2229 q2231 qs78 q149 q2232 rfl rd_X9_canBuy (hH.room (Nat.le_of_ble_eq_true rfl) (Nat.le_of_ble_eq_true rfl)) rfl rfl (Nat.le_of_ble_eq_true rfl) 3 rfl h.le.2.2 (Or.inl hF) h.br rfl dX9_buyTruce_68 ?_ (fun E q S hT => rc_out hC hH.2.2.2.2 hT)
  intro x1 S h
  show rc_Z Y S 71 [some (rc_q (some (rc_km (yr_K Y) 100))), some (rc_i v1), some (rc_i v2), some (rc_i v3), some (rc_i v4), some (rc_i v5), some (rc_i v6)] [rc_i x1, rc_i v6, rc_i s0, rc_q (some (rc_km (yr_K Y) 100))]
  refine rc_if_ne (pc := 71) (tgt := 78) hC dX9_buyTruce_71 rfl h ?_ ?_
  · intro _ h
    refine rc_drop [true, true, true, true, true, false, false] (L' := [some (rc_q (some (rc_km (yr_K Y) 100))), some (rc_i v1), some (rc_i v2), some (rc_i v3), some (rc_i v4), none, none]) rfl ?_
    exact rw_X9_buyTruce_L78 hC hH hF  v1 v2 v3 v4 v6 s0 S h
  intro _ h
  refine rc_iconst (pc := 74) hC (v := (1 : Int32)) dX9_buyTruce_74 rfl ?_
  refine rc_goto (pc := 75) (tgt := 79) hC dX9_buyTruce_75 rfl ?_
  refine rc_drop [true, true, true, true, true, false, false] (L' := [some (rc_q (some (rc_km (yr_K Y) 100))), some (rc_i v1), some (rc_i v2), some (rc_i v3), some (rc_i v4), none, none]) rfl ?_
  exact rw_X9_buyTruce_L79 hC hH hF  v1 v2 v3 v4 (1 : Int32) v6 s0 S h
theorem rw_X9_buyTruce_L39 {Y : rc_Y} (hC : rc_C Y cX9_buyTruce RX9 (Option.some Jvm.ClassFile.FieldType.int) 7) (hH : rc_H Y 3 66 yX9_buyTruce.name) (hF : yr_F Y = true) (v1 : Int32) (v2 : Int32) (v3 : Int32) (v4 : Int32) (v5 : Int32) (s0 : Int32) (S : rc_S) (h : rc_Go Y rc_tI (rp_X9_buyTruce_L39  v1 v2 v3 v4 v5 s0) S) : rc_Z Y S 39 [some (rc_q (some (rc_km (yr_K Y) 100))), some (rc_i v1), some (rc_i v2), some (rc_i v3), some (rc_i v4), some (rc_i v5), none] [rc_i s0] := by
  unfold rp_X9_buyTruce_L39 at h
  refine rc_istore (pc := 39) hC (L' := [some (rc_q (some (rc_km (yr_K Y) 100))), some (rc_i v1), some (rc_i v2), some (rc_i v3), some (rc_i v4), some (rc_i v5), some (rc_i s0)]) dX9_buyTruce_39 (Nat.le_of_ble_eq_true rfl) rfl rfl ?_
  refine rc_aload_n (pc := 41) hC dX9_buyTruce_41 rfl rfl ?_
  refine rc_iload (pc := 42) hC dX9_buyTruce_42 rfl ?_
  refine rc_if_ne (pc := 44) (tgt := 51) hC dX9_buyTruce_44 rfl h ?_ ?_
  · intro _ h
    refine rc_iconst (pc := 51) hC (v := (0 : Int32)) dX9_buyTruce_51 rfl ?_
    exact rw_X9_buyTruce_L52 hC hH hF  v1 v2 v3 v4 v5 s0 (0 : Int32) S h
  intro _ h
  refine rc_iconst (pc := 47) hC (v := (1 : Int32)) dX9_buyTruce_47 rfl ?_
  refine rc_goto (pc := 48) (tgt := 52) hC dX9_buyTruce_48 rfl ?_
  exact rw_X9_buyTruce_L52 hC hH hF  v1 v2 v3 v4 v5 s0 (1 : Int32) S h
theorem rw_X9_buyTruce_L34 {Y : rc_Y} (hC : rc_C Y cX9_buyTruce RX9 (Option.some Jvm.ClassFile.FieldType.int) 7) (hH : rc_H Y 3 66 yX9_buyTruce.name) (hF : yr_F Y = true) (v1 : Int32) (v2 : Int32) (v3 : Int32) (v4 : Int32) (v5 : Int32) (S : rc_S) (h : rc_Go Y rc_tI (rp_X9_buyTruce_L34  v1 v2 v3 v4 v5) S) : rc_Z Y S 34 [some (rc_q (some (rc_km (yr_K Y) 100))), some (rc_i v1), some (rc_i v2), some (rc_i v3), some (rc_i v4), some (rc_i v5), none] [] := by
  unfold rp_X9_buyTruce_L34 at h
  refine rc_iconst (pc := 34) hC (v := (1 : Int32)) dX9_buyTruce_34 rfl ?_
  refine rc_goto (pc := 35) (tgt := 39) hC dX9_buyTruce_35 rfl ?_
  exact rw_X9_buyTruce_L39 hC hH hF  v1 v2 v3 v4 v5 (1 : Int32) S h
theorem rw_X9_buyTruce {l : Launch} (hl : l.stackTraces = false) (v1 : Int32) (v2 : Int32) (v3 : Int32) (v4 : Int32) : rc_Cm l yX9_buyTruce (ws_ yX9_buyTruce cX9_buyTruce 7 (Option.some Jvm.ClassFile.FieldType.int)) 3 66 rc_tI (rp_X9_buyTruce v1 v2 v3 v4) [rc_i v1, rc_i v2, rc_i v3, rc_i v4] := by
  refine rc_Cm_H hl (plainFor_of_name rY_X9) rfl (Nat.le_of_ble_eq_true rfl) ?_
  intro Y S hC hH hF h
  have hC : rc_C Y cX9_buyTruce RX9 (Option.some Jvm.ClassFile.FieldType.int) 7 := hC
  show rc_Z Y S 0 [some (rc_q (some (rc_km (yr_K Y) 100))), some (rc_i v1), some (rc_i v2), some (rc_i v3), some (rc_i v4), none, none] []
  unfold rp_X9_buyTruce at h
  refine rc_aload_n (pc := 0) hC dX9_buyTruce_0 rfl rfl ?_
  refine rc_iload_n (pc := 1) hC dX9_buyTruce_1 rfl rfl ?_
  refine rc_iload_n (pc := 2) hC dX9_buyTruce_2 rfl rfl ?_
  refine rc_callM (pc := 3) hC (rw_X9_areCats hH.1 v1 v2) q2459 q2461 qs105 q149 q2462 rfl rd_X9_areCats (hH.room (Nat.le_of_ble_eq_true rfl) (Nat.le_of_ble_eq_true rfl)) rfl rfl (Nat.le_of_ble_eq_true rfl) 2 rfl h.le.2.2 (Or.inl hF) h.br rfl dX9_buyTruce_3 ?_ (fun E q S hT => rc_out hC hH.2.2.2.2 hT)
  intro x1 S h
  show rc_Z Y S 6 [some (rc_q (some (rc_km (yr_K Y) 100))), some (rc_i v1), some (rc_i v2), some (rc_i v3), some (rc_i v4), none, none] [rc_i x1]
  refine rc_istore (pc := 6) hC (L' := [some (rc_q (some (rc_km (yr_K Y) 100))), some (rc_i v1), some (rc_i v2), some (rc_i v3), some (rc_i v4), some (rc_i x1), none]) dX9_buyTruce_6 (Nat.le_of_ble_eq_true rfl) rfl rfl ?_
  refine rc_iload_n (pc := 8) hC dX9_buyTruce_8 rfl rfl ?_
  refine rc_iload_n (pc := 9) hC dX9_buyTruce_9 rfl rfl ?_
  refine rc_icmp_eq (pc := 10) (tgt := 34) hC dX9_buyTruce_10 rfl h ?_ ?_
  · intro _ h
    exact rw_X9_buyTruce_L34 hC hH hF  v1 v2 v3 v4 x1 S h
  intro _ h
  refine rc_iload_n (pc := 13) hC dX9_buyTruce_13 rfl rfl ?_
  refine rc_iconst (pc := 14) hC (v := (1 : Int32)) dX9_buyTruce_14 rfl ?_
  refine rc_bipush (pc := 15) hC (v := (9 : Int32)) dX9_buyTruce_15 rfl ?_
  refine rc_callS (pc := 17) hC (rw_X9_in hH.1 v3 (1 : Int32) (9 : Int32)) q2073 q2074 q149 q2075 rd_X9_in (hH.room (Nat.le_of_ble_eq_true rfl) (Nat.le_of_ble_eq_true rfl)) rfl rfl (Nat.le_of_ble_eq_true rfl) 3 rfl h.le.2.2 h.br rfl dX9_buyTruce_17 ?_ (fun E q S hT => rc_out hC hH.2.2.2.2 hT)
  intro x2 S h
  show rc_Z Y S 20 [some (rc_q (some (rc_km (yr_K Y) 100))), some (rc_i v1), some (rc_i v2), some (rc_i v3), some (rc_i v4), some (rc_i x1), none] [rc_i x2]
  refine rc_if_eq (pc := 20) (tgt := 34) hC dX9_buyTruce_20 rfl h ?_ ?_
  · intro _ h
    exact rw_X9_buyTruce_L34 hC hH hF  v1 v2 v3 v4 x1 S h
  intro _ h
  refine rc_iload (pc := 23) hC dX9_buyTruce_23 rfl ?_
  refine rc_iconst (pc := 25) hC (v := (1 : Int32)) dX9_buyTruce_25 rfl ?_
  refine rc_bipush (pc := 26) hC (v := (20 : Int32)) dX9_buyTruce_26 rfl ?_
  refine rc_callS (pc := 28) hC (rw_X9_in hH.1 v4 (1 : Int32) (20 : Int32)) q2073 q2074 q149 q2075 rd_X9_in (hH.room (Nat.le_of_ble_eq_true rfl) (Nat.le_of_ble_eq_true rfl)) rfl rfl (Nat.le_of_ble_eq_true rfl) 3 rfl h.le.2.2 h.br rfl dX9_buyTruce_28 ?_ (fun E q S hT => rc_out hC hH.2.2.2.2 hT)
  intro x3 S h
  show rc_Z Y S 31 [some (rc_q (some (rc_km (yr_K Y) 100))), some (rc_i v1), some (rc_i v2), some (rc_i v3), some (rc_i v4), some (rc_i x1), none] [rc_i x3]
  refine rc_if_ne (pc := 31) (tgt := 38) hC dX9_buyTruce_31 rfl h ?_ ?_
  · intro _ h
    refine rc_iconst (pc := 38) hC (v := (0 : Int32)) dX9_buyTruce_38 rfl ?_
    exact rw_X9_buyTruce_L39 hC hH hF  v1 v2 v3 v4 x1 (0 : Int32) S h
  intro _ h
  exact rw_X9_buyTruce_L34 hC hH hF  v1 v2 v3 v4 x1 S h
theorem rw_X9_nominate_L26 {Y : rc_Y} (hC : rc_C Y cX9_nominate RX9 (Option.some Jvm.ClassFile.FieldType.int) 3) (hH : rc_H Y 2 43 yX9_nominate.name) (hF : yr_F Y = true) (v1 : Int32) (v2 : Int32) (s0 : Int32) (s1 : Int32) (S : rc_S) (h : rc_Go Y rc_tI (rp_X9_nominate_L26  v1 v2 s0 s1) S) : rc_Z Y S 26 [some (rc_q (some (rc_km (yr_K Y) 100))), some (rc_i v1), some (rc_i v2)] [rc_i s0, rc_i s1, rc_q (some (rc_km (yr_K Y) 100))] := by
  unfold rp_X9_nominate_L26 at h
  refine rc_callM (pc := 26) hC (rw_X9_throwsOne_2 hH.1 s1 s0) q2412 q2414 qs100 q149 q2415 rfl rd_X9_throwsOne_2 (hH.room (Nat.le_of_ble_eq_true rfl) (Nat.le_of_ble_eq_true rfl)) rfl rfl (Nat.le_of_ble_eq_true rfl) 2 rfl h.le.2.2 (Or.inl hF) h.br rfl dX9_nominate_26 ?_ (fun E q S hT => rc_out hC hH.2.2.2.2 hT)
  intro x1 S h
  show rc_Z Y S 29 [some (rc_q (some (rc_km (yr_K Y) 100))), some (rc_i v1), some (rc_i v2)] [rc_i x1]
  refine rc_if_eq (pc := 29) (tgt := 34) hC dX9_nominate_29 rfl h ?_ ?_
  · intro _ h
    refine rc_aload_n (pc := 34) hC dX9_nominate_34 rfl rfl ?_
    refine rc_callM (pc := 35) hC (rw_X9_begins hH.1) q2400 q2402 qs98 q149 q2403 rfl rd_X9_begins (hH.room (Nat.le_of_ble_eq_true rfl) (Nat.le_of_ble_eq_true rfl)) rfl rfl (Nat.le_of_ble_eq_true rfl) 0 rfl h.le.2.2 (Or.inl hF) h.br rfl dX9_nominate_35 ?_ (fun E q S hT => rc_out hC hH.2.2.2.2 hT)
    intro _ S h
    show rc_Z Y S 38 [some (rc_q (some (rc_km (yr_K Y) 100))), some (rc_i v1), some (rc_i v2)] []
    refine rc_aload_n (pc := 38) hC dX9_nominate_38 rfl rfl ?_
    refine rc_aload_n (pc := 39) hC dX9_nominate_39 rfl rfl ?_
    refine rc_iload_n (pc := 40) hC dX9_nominate_40 rfl rfl ?_
    refine rc_iload_n (pc := 41) hC dX9_nominate_41 rfl rfl ?_
    refine rc_callM (pc := 42) hC (rw_X9_nominates hH.1 v1 v2) q2249 q2251 qs83 q149 q2252 rfl rd_X9_nominates (hH.room (Nat.le_of_ble_eq_true rfl) (Nat.le_of_ble_eq_true rfl)) rfl rfl (Nat.le_of_ble_eq_true rfl) 2 rfl h.le.2.2 (Or.inl hF) h.br rfl dX9_nominate_42 ?_ (fun E q S hT => rc_out hC hH.2.2.2.2 hT)
    intro x2 S h
    show rc_Z Y S 45 [some (rc_q (some (rc_km (yr_K Y) 100))), some (rc_i v1), some (rc_i v2)] [rc_i x2, rc_q (some (rc_km (yr_K Y) 100))]
    refine rc_callM (pc := 45) hC (rw_X9_remember hH.1 x2) q2404 q2406 qs99 q149 q2407 rfl rd_X9_remember (hH.room (Nat.le_of_ble_eq_true rfl) (Nat.le_of_ble_eq_true rfl)) rfl rfl (Nat.le_of_ble_eq_true rfl) 1 rfl h.le.2.2 (Or.inl hF) h.br rfl dX9_nominate_45 ?_ (fun E q S hT => rc_out hC hH.2.2.2.2 hT)
    intro x3 S h
    show rc_Z Y S 48 [some (rc_q (some (rc_km (yr_K Y) 100))), some (rc_i v1), some (rc_i v2)] [rc_i x3]
    exact rc_iret hC rfl rfl dX9_nominate_48 h rfl
  intro _ h
  refine rc_iconst (pc := 32) hC (v := (0 : Int32)) dX9_nominate_32 rfl ?_
  exact rc_iret hC rfl rfl dX9_nominate_33 h rfl
theorem rw_X9_nominate_L14 {Y : rc_Y} (hC : rc_C Y cX9_nominate RX9 (Option.some Jvm.ClassFile.FieldType.int) 3) (hH : rc_H Y 2 43 yX9_nominate.name) (hF : yr_F Y = true) (v1 : Int32) (v2 : Int32) (s0 : Int32) (S : rc_S) (h : rc_Go Y rc_tI (rp_X9_nominate_L14  v1 v2 s0) S) : rc_Z Y S 14 [some (rc_q (some (rc_km (yr_K Y) 100))), some (rc_i v1), some (rc_i v2)] [rc_i s0, rc_q (some (rc_km (yr_K Y) 100))] := by
  unfold rp_X9_nominate_L14 at h
  refine rc_aload_n (pc := 14) hC dX9_nominate_14 rfl rfl ?_
  refine rc_callM (pc := 15) hC (rw_X9_canNominate hH.1) q2241 q2243 qs81 q149 q2244 rfl rd_X9_canNominate (hH.room (Nat.le_of_ble_eq_true rfl) (Nat.le_of_ble_eq_true rfl)) rfl rfl (Nat.le_of_ble_eq_true rfl) 0 rfl h.le.2.2 (Or.inl hF) h.br rfl dX9_nominate_15 ?_ (fun E q S hT => rc_out hC hH.2.2.2.2 hT)
  intro x1 S h
  show rc_Z Y S 18 [some (rc_q (some (rc_km (yr_K Y) 100))), some (rc_i v1), some (rc_i v2)] [rc_i x1, rc_i s0, rc_q (some (rc_km (yr_K Y) 100))]
  refine rc_if_ne (pc := 18) (tgt := 25) hC dX9_nominate_18 rfl h ?_ ?_
  · intro _ h
    refine rc_iconst (pc := 25) hC (v := (0 : Int32)) dX9_nominate_25 rfl ?_
    exact rw_X9_nominate_L26 hC hH hF  v1 v2 (0 : Int32) s0 S h
  intro _ h
  refine rc_iconst (pc := 21) hC (v := (1 : Int32)) dX9_nominate_21 rfl ?_
  refine rc_goto (pc := 22) (tgt := 26) hC dX9_nominate_22 rfl ?_
  exact rw_X9_nominate_L26 hC hH hF  v1 v2 (1 : Int32) s0 S h
theorem rw_X9_nominate {l : Launch} (hl : l.stackTraces = false) (v1 : Int32) (v2 : Int32) : rc_Cm l yX9_nominate (ws_ yX9_nominate cX9_nominate 3 (Option.some Jvm.ClassFile.FieldType.int)) 2 43 rc_tI (rp_X9_nominate v1 v2) [rc_i v1, rc_i v2] := by
  refine rc_Cm_H hl (plainFor_of_name rY_X9) rfl (Nat.le_of_ble_eq_true rfl) ?_
  intro Y S hC hH hF h
  have hC : rc_C Y cX9_nominate RX9 (Option.some Jvm.ClassFile.FieldType.int) 3 := hC
  show rc_Z Y S 0 [some (rc_q (some (rc_km (yr_K Y) 100))), some (rc_i v1), some (rc_i v2)] []
  unfold rp_X9_nominate at h
  refine rc_aload_n (pc := 0) hC dX9_nominate_0 rfl rfl ?_
  refine rc_iload_n (pc := 1) hC dX9_nominate_1 rfl rfl ?_
  refine rc_iload_n (pc := 2) hC dX9_nominate_2 rfl rfl ?_
  refine rc_callS (pc := 3) hC (rw_X9_areSizes hH.1 v1 v2) q2432 q2433 q149 q2434 rd_X9_areSizes (hH.room (Nat.le_of_ble_eq_true rfl) (Nat.le_of_ble_eq_true rfl)) rfl rfl (Nat.le_of_ble_eq_true rfl) 2 rfl h.le.2.2 h.br rfl dX9_nominate_3 ?_ (fun E q S hT => rc_out hC hH.2.2.2.2 hT)
  intro x1 S h
  show rc_Z Y S 6 [some (rc_q (some (rc_km (yr_K Y) 100))), some (rc_i v1), some (rc_i v2)] [rc_i x1, rc_q (some (rc_km (yr_K Y) 100))]
  refine rc_if_ne (pc := 6) (tgt := 13) hC dX9_nominate_6 rfl h ?_ ?_
  · intro _ h
    refine rc_iconst (pc := 13) hC (v := (0 : Int32)) dX9_nominate_13 rfl ?_
    exact rw_X9_nominate_L14 hC hH hF  v1 v2 (0 : Int32) S h
  intro _ h
  refine rc_iconst (pc := 9) hC (v := (1 : Int32)) dX9_nominate_9 rfl ?_
  refine rc_goto (pc := 10) (tgt := 14) hC dX9_nominate_10 rfl ?_
  exact rw_X9_nominate_L14 hC hH hF  v1 v2 (1 : Int32) S h
theorem rw_X9_vote_L60 {Y : rc_Y} (hC : rc_C Y cX9_vote RX9 (Option.some Jvm.ClassFile.FieldType.boolean) 4) (hH : rc_H Y 5 110 yX9_vote.name) (hF : yr_F Y = true) (s0 : Int32) (S : rc_S) (h : rc_Go Y rc_tI (rp_X9_vote_L60  s0) S) : rc_Z Y S 60 [none, none, none, none] [rc_i s0, rc_q (some (rc_km (yr_K Y) 100))] := by
  unfold rp_X9_vote_L60 at h
  refine rc_callM (pc := 60) hC (rw_X9_remember hH.1 s0) q2404 q2406 qs99 q149 q2407 rfl rd_X9_remember (hH.room (Nat.le_of_ble_eq_true rfl) (Nat.le_of_ble_eq_true rfl)) rfl rfl (Nat.le_of_ble_eq_true rfl) 1 rfl h.le.2.2 (Or.inl hF) h.br rfl dX9_vote_60 ?_ (fun E q S hT => rc_out hC hH.2.2.2.2 hT)
  intro x1 S h
  show rc_Z Y S 63 [none, none, none, none] [rc_i x1]
  refine rc_iconst (pc := 63) hC (v := (1 : Int32)) dX9_vote_63 rfl ?_
  refine rc_icmp_ne (pc := 64) (tgt := 71) hC dX9_vote_64 rfl h ?_ ?_
  · intro _ h
    refine rc_iconst (pc := 71) hC (v := (0 : Int32)) dX9_vote_71 rfl ?_
    exact rc_iret hC rfl rfl dX9_vote_72 h rfl
  intro _ h
  refine rc_iconst (pc := 67) hC (v := (1 : Int32)) dX9_vote_67 rfl ?_
  refine rc_goto (pc := 68) (tgt := 72) hC dX9_vote_68 rfl ?_
  exact rc_iret hC rfl rfl dX9_vote_72 h rfl
theorem rw_X9_vote_L33 {Y : rc_Y} (hC : rc_C Y cX9_vote RX9 (Option.some Jvm.ClassFile.FieldType.boolean) 4) (hH : rc_H Y 5 110 yX9_vote.name) (hF : yr_F Y = true) (v1 : Int32) (v2 : Int32) (s0 : Int32) (s1 : Int32) (S : rc_S) (h : rc_Go Y rc_tI (rp_X9_vote_L33  v1 v2 s0 s1) S) : rc_Z Y S 33 [some (rc_q (some (rc_km (yr_K Y) 100))), some (rc_i v1), some (rc_i v2), none] [rc_i s0, rc_i s1, rc_q (some (rc_km (yr_K Y) 100))] := by
  unfold rp_X9_vote_L33 at h
  refine rc_callM (pc := 33) hC (rw_X9_throwsOne_2 hH.1 s1 s0) q2412 q2414 qs100 q149 q2415 rfl rd_X9_throwsOne_2 (hH.room (Nat.le_of_ble_eq_true rfl) (Nat.le_of_ble_eq_true rfl)) rfl rfl (Nat.le_of_ble_eq_true rfl) 2 rfl h.le.2.2 (Or.inl hF) h.br rfl dX9_vote_33 ?_ (fun E q S hT => rc_out hC hH.2.2.2.2 hT)
  intro x1 S h
  show rc_Z Y S 36 [some (rc_q (some (rc_km (yr_K Y) 100))), some (rc_i v1), some (rc_i v2), none] [rc_i x1]
  refine rc_if_eq (pc := 36) (tgt := 41) hC dX9_vote_36 rfl h ?_ ?_
  · intro _ h
    refine rc_aload_n (pc := 41) hC dX9_vote_41 rfl rfl ?_
    refine rc_callM (pc := 42) hC (rw_X9_begins hH.1) q2400 q2402 qs98 q149 q2403 rfl rd_X9_begins (hH.room (Nat.le_of_ble_eq_true rfl) (Nat.le_of_ble_eq_true rfl)) rfl rfl (Nat.le_of_ble_eq_true rfl) 0 rfl h.le.2.2 (Or.inl hF) h.br rfl dX9_vote_42 ?_ (fun E q S hT => rc_out hC hH.2.2.2.2 hT)
    intro _ S h
    show rc_Z Y S 45 [some (rc_q (some (rc_km (yr_K Y) 100))), some (rc_i v1), some (rc_i v2), none] []
    refine rc_aload_n (pc := 45) hC dX9_vote_45 rfl rfl ?_
    refine rc_aload_n (pc := 46) hC dX9_vote_46 rfl rfl ?_
    refine rc_iload_n (pc := 47) hC dX9_vote_47 rfl rfl ?_
    refine rc_iload_n (pc := 48) hC dX9_vote_48 rfl rfl ?_
    refine rc_callM (pc := 49) hC (rw_X9_votes hH.1 v1 v2) q2261 q2263 qs86 q149 q2264 rfl rd_X9_votes (hH.room (Nat.le_of_ble_eq_true rfl) (Nat.le_of_ble_eq_true rfl)) rfl rfl (Nat.le_of_ble_eq_true rfl) 2 rfl h.le.2.2 (Or.inl hF) h.br rfl dX9_vote_49 ?_ (fun E q S hT => rc_out hC hH.2.2.2.2 hT)
    intro x2 S h
    show rc_Z Y S 52 [some (rc_q (some (rc_km (yr_K Y) 100))), some (rc_i v1), some (rc_i v2), none] [rc_i x2, rc_q (some (rc_km (yr_K Y) 100))]
    refine rc_if_eq (pc := 52) (tgt := 59) hC dX9_vote_52 rfl h ?_ ?_
    · intro _ h
      refine rc_iconst (pc := 59) hC (v := (0 : Int32)) dX9_vote_59 rfl ?_
      refine rc_drop [false, false, false, false] (L' := [none, none, none, none]) rfl ?_
      exact rw_X9_vote_L60 hC hH hF  (0 : Int32) S h
    intro _ h
    refine rc_iconst (pc := 55) hC (v := (1 : Int32)) dX9_vote_55 rfl ?_
    refine rc_goto (pc := 56) (tgt := 60) hC dX9_vote_56 rfl ?_
    refine rc_drop [false, false, false, false] (L' := [none, none, none, none]) rfl ?_
    exact rw_X9_vote_L60 hC hH hF  (1 : Int32) S h
  intro _ h
  refine rc_iconst (pc := 39) hC (v := (0 : Int32)) dX9_vote_39 rfl ?_
  exact rc_iret hC rfl rfl dX9_vote_40 h rfl
theorem rw_X9_vote_L32 {Y : rc_Y} (hC : rc_C Y cX9_vote RX9 (Option.some Jvm.ClassFile.FieldType.boolean) 4) (hH : rc_H Y 5 110 yX9_vote.name) (hF : yr_F Y = true) (v1 : Int32) (v2 : Int32) (s0 : Int32) (S : rc_S) (h : rc_Go Y rc_tI (rp_X9_vote_L32  v1 v2 s0) S) : rc_Z Y S 32 [some (rc_q (some (rc_km (yr_K Y) 100))), some (rc_i v1), some (rc_i v2), none] [rc_i s0, rc_q (some (rc_km (yr_K Y) 100))] := by
  unfold rp_X9_vote_L32 at h
  refine rc_iconst (pc := 32) hC (v := (0 : Int32)) dX9_vote_32 rfl ?_
  exact rw_X9_vote_L33 hC hH hF  v1 v2 (0 : Int32) s0 S h
theorem rw_X9_vote_L16 {Y : rc_Y} (hC : rc_C Y cX9_vote RX9 (Option.some Jvm.ClassFile.FieldType.boolean) 4) (hH : rc_H Y 5 110 yX9_vote.name) (hF : yr_F Y = true) (v1 : Int32) (v2 : Int32) (v3 : Int32) (s0 : Int32) (S : rc_S) (h : rc_Go Y rc_tI (rp_X9_vote_L16  v1 v2 v3 s0) S) : rc_Z Y S 16 [some (rc_q (some (rc_km (yr_K Y) 100))), some (rc_i v1), some (rc_i v2), some (rc_i v3)] [rc_i s0, rc_q (some (rc_km (yr_K Y) 100))] := by
  unfold rp_X9_vote_L16 at h
  refine rc_iload_n (pc := 16) hC dX9_vote_16 rfl rfl ?_
  refine rc_if_eq (pc := 17) (tgt := 32) hC dX9_vote_17 rfl h ?_ ?_
  · intro _ h
    refine rc_drop [true, true, true, false] (L' := [some (rc_q (some (rc_km (yr_K Y) 100))), some (rc_i v1), some (rc_i v2), none]) rfl ?_
    exact rw_X9_vote_L32 hC hH hF  v1 v2 s0 S h
  intro _ h
  refine rc_aload_n (pc := 20) hC dX9_vote_20 rfl rfl ?_
  refine rc_iload_n (pc := 21) hC dX9_vote_21 rfl rfl ?_
  refine rc_callM (pc := 22) hC (rw_X9_canVote hH.1 v1) q2257 q2259 qs85 q149 q2260 rfl rd_X9_canVote (hH.room (Nat.le_of_ble_eq_true rfl) (Nat.le_of_ble_eq_true rfl)) rfl rfl (Nat.le_of_ble_eq_true rfl) 1 rfl h.le.2.2 (Or.inl hF) h.br rfl dX9_vote_22 ?_ (fun E q S hT => rc_out hC hH.2.2.2.2 hT)
  intro x1 S h
  show rc_Z Y S 25 [some (rc_q (some (rc_km (yr_K Y) 100))), some (rc_i v1), some (rc_i v2), some (rc_i v3)] [rc_i x1, rc_i s0, rc_q (some (rc_km (yr_K Y) 100))]
  refine rc_if_ne (pc := 25) (tgt := 32) hC dX9_vote_25 rfl h ?_ ?_
  · intro _ h
    refine rc_drop [true, true, true, false] (L' := [some (rc_q (some (rc_km (yr_K Y) 100))), some (rc_i v1), some (rc_i v2), none]) rfl ?_
    exact rw_X9_vote_L32 hC hH hF  v1 v2 s0 S h
  intro _ h
  refine rc_iconst (pc := 28) hC (v := (1 : Int32)) dX9_vote_28 rfl ?_
  refine rc_goto (pc := 29) (tgt := 33) hC dX9_vote_29 rfl ?_
  refine rc_drop [true, true, true, false] (L' := [some (rc_q (some (rc_km (yr_K Y) 100))), some (rc_i v1), some (rc_i v2), none]) rfl ?_
  exact rw_X9_vote_L33 hC hH hF  v1 v2 (1 : Int32) s0 S h
theorem rw_X9_vote {l : Launch} (hl : l.stackTraces = false) (v1 : Int32) (v2 : Int32) : rc_Cm l yX9_vote (ws_ yX9_vote cX9_vote 4 (Option.some Jvm.ClassFile.FieldType.boolean)) 5 110 rc_tI (rp_X9_vote v1 v2) [rc_i v1, rc_i v2] := by
  refine rc_Cm_H hl (plainFor_of_name rY_X9) rfl (Nat.le_of_ble_eq_true rfl) ?_
  intro Y S hC hH hF h
  have hC : rc_C Y cX9_vote RX9 (Option.some Jvm.ClassFile.FieldType.boolean) 4 := hC
  show rc_Z Y S 0 [some (rc_q (some (rc_km (yr_K Y) 100))), some (rc_i v1), some (rc_i v2), none] []
  unfold rp_X9_vote at h
  refine rc_aload_n (pc := 0) hC dX9_vote_0 rfl rfl ?_
  refine rc_iload_n (pc := 1) hC dX9_vote_1 rfl rfl ?_
  refine rc_callM (pc := 2) hC (rw_X9_isCat hH.1 v1) q2439 q2441 qs103 q149 q2442 rfl rd_X9_isCat (hH.room (Nat.le_of_ble_eq_true rfl) (Nat.le_of_ble_eq_true rfl)) rfl rfl (Nat.le_of_ble_eq_true rfl) 1 rfl h.le.2.2 (Or.inl hF) h.br rfl dX9_vote_2 ?_ (fun E q S hT => rc_out hC hH.2.2.2.2 hT)
  intro x1 S h
  show rc_Z Y S 5 [some (rc_q (some (rc_km (yr_K Y) 100))), some (rc_i v1), some (rc_i v2), none] [rc_i x1]
  refine rc_istore_n (pc := 5) hC (L' := [some (rc_q (some (rc_km (yr_K Y) 100))), some (rc_i v1), some (rc_i v2), some (rc_i x1)]) dX9_vote_5 rfl (Nat.le_of_ble_eq_true rfl) rfl rfl ?_
  refine rc_aload_n (pc := 6) hC dX9_vote_6 rfl rfl ?_
  refine rc_iload_n (pc := 7) hC dX9_vote_7 rfl rfl ?_
  refine rc_if_ne (pc := 8) (tgt := 15) hC dX9_vote_8 rfl h ?_ ?_
  · intro _ h
    refine rc_iconst (pc := 15) hC (v := (0 : Int32)) dX9_vote_15 rfl ?_
    exact rw_X9_vote_L16 hC hH hF  v1 v2 x1 (0 : Int32) S h
  intro _ h
  refine rc_iconst (pc := 11) hC (v := (1 : Int32)) dX9_vote_11 rfl ?_
  refine rc_goto (pc := 12) (tgt := 16) hC dX9_vote_12 rfl ?_
  exact rw_X9_vote_L16 hC hH hF  v1 v2 x1 (1 : Int32) S h
theorem rw_X9_passNights_L41 {Y : rc_Y} (hC : rc_C Y cX9_passNights RX9 (Option.some Jvm.ClassFile.FieldType.int) 3) (hH : rc_H Y 7 163 yX9_passNights.name) (hF : yr_F Y = true) (v1 : Int32) (s0 : Int32) (s1 : Int32) (S : rc_S) (h : rc_Go Y rc_tI (rp_X9_passNights_L41  v1 s0 s1) S) : rc_Z Y S 41 [some (rc_q (some (rc_km (yr_K Y) 100))), some (rc_i v1), none] [rc_i s0, rc_i s1, rc_q (some (rc_km (yr_K Y) 100))] := by
  unfold rp_X9_passNights_L41 at h
  refine rc_callM (pc := 41) hC (rw_X9_throwsOne_2 hH.1 s1 s0) q2412 q2414 qs100 q149 q2415 rfl rd_X9_throwsOne_2 (hH.room (Nat.le_of_ble_eq_true rfl) (Nat.le_of_ble_eq_true rfl)) rfl rfl (Nat.le_of_ble_eq_true rfl) 2 rfl h.le.2.2 (Or.inl hF) h.br rfl dX9_passNights_41 ?_ (fun E q S hT => rc_out hC hH.2.2.2.2 hT)
  intro x1 S h
  show rc_Z Y S 44 [some (rc_q (some (rc_km (yr_K Y) 100))), some (rc_i v1), none] [rc_i x1]
  refine rc_if_eq (pc := 44) (tgt := 49) hC dX9_passNights_44 rfl h ?_ ?_
  · intro _ h
    refine rc_aload_n (pc := 49) hC dX9_passNights_49 rfl rfl ?_
    refine rc_callM (pc := 50) hC (rw_X9_begins hH.1) q2400 q2402 qs98 q149 q2403 rfl rd_X9_begins (hH.room (Nat.le_of_ble_eq_true rfl) (Nat.le_of_ble_eq_true rfl)) rfl rfl (Nat.le_of_ble_eq_true rfl) 0 rfl h.le.2.2 (Or.inl hF) h.br rfl dX9_passNights_50 ?_ (fun E q S hT => rc_out hC hH.2.2.2.2 hT)
    intro _ S h
    show rc_Z Y S 53 [some (rc_q (some (rc_km (yr_K Y) 100))), some (rc_i v1), none] []
    refine rc_aload_n (pc := 53) hC dX9_passNights_53 rfl rfl ?_
    refine rc_aload_n (pc := 54) hC dX9_passNights_54 rfl rfl ?_
    refine rc_iload_n (pc := 55) hC dX9_passNights_55 rfl rfl ?_
    refine rc_callM (pc := 56) hC (rw_X9_passes hH.1 v1) q2280 q2282 qs90 q149 q2283 rfl rd_X9_passes (hH.room (Nat.le_of_ble_eq_true rfl) (Nat.le_of_ble_eq_true rfl)) rfl rfl (Nat.le_of_ble_eq_true rfl) 1 rfl h.le.2.2 (Or.inl hF) h.br rfl dX9_passNights_56 ?_ (fun E q S hT => rc_out hC hH.2.2.2.2 hT)
    intro x2 S h
    show rc_Z Y S 59 [some (rc_q (some (rc_km (yr_K Y) 100))), some (rc_i v1), none] [rc_i x2, rc_q (some (rc_km (yr_K Y) 100))]
    refine rc_callM (pc := 59) hC (rw_X9_remember hH.1 x2) q2404 q2406 qs99 q149 q2407 rfl rd_X9_remember (hH.room (Nat.le_of_ble_eq_true rfl) (Nat.le_of_ble_eq_true rfl)) rfl rfl (Nat.le_of_ble_eq_true rfl) 1 rfl h.le.2.2 (Or.inl hF) h.br rfl dX9_passNights_59 ?_ (fun E q S hT => rc_out hC hH.2.2.2.2 hT)
    intro x3 S h
    show rc_Z Y S 62 [some (rc_q (some (rc_km (yr_K Y) 100))), some (rc_i v1), none] [rc_i x3]
    exact rc_iret hC rfl rfl dX9_passNights_62 h rfl
  intro _ h
  refine rc_iconst (pc := 47) hC (v := (0 : Int32)) dX9_passNights_47 rfl ?_
  exact rc_iret hC rfl rfl dX9_passNights_48 h rfl
theorem rw_X9_passNights_L40 {Y : rc_Y} (hC : rc_C Y cX9_passNights RX9 (Option.some Jvm.ClassFile.FieldType.int) 3) (hH : rc_H Y 7 163 yX9_passNights.name) (hF : yr_F Y = true) (v1 : Int32) (s0 : Int32) (S : rc_S) (h : rc_Go Y rc_tI (rp_X9_passNights_L40  v1 s0) S) : rc_Z Y S 40 [some (rc_q (some (rc_km (yr_K Y) 100))), some (rc_i v1), none] [rc_i s0, rc_q (some (rc_km (yr_K Y) 100))] := by
  unfold rp_X9_passNights_L40 at h
  refine rc_iconst (pc := 40) hC (v := (0 : Int32)) dX9_passNights_40 rfl ?_
  exact rw_X9_passNights_L41 hC hH hF  v1 (0 : Int32) s0 S h
theorem rw_X9_passNights_L15 {Y : rc_Y} (hC : rc_C Y cX9_passNights RX9 (Option.some Jvm.ClassFile.FieldType.int) 3) (hH : rc_H Y 7 163 yX9_passNights.name) (hF : yr_F Y = true) (v1 : Int32) (s0 : Int32) (S : rc_S) (h : rc_Go Y rc_tI (rp_X9_passNights_L15  v1 s0) S) : rc_Z Y S 15 [some (rc_q (some (rc_km (yr_K Y) 100))), some (rc_i v1), none] [rc_i s0] := by
  unfold rp_X9_passNights_L15 at h
  refine rc_istore_n (pc := 15) hC (L' := [some (rc_q (some (rc_km (yr_K Y) 100))), some (rc_i v1), some (rc_i s0)]) dX9_passNights_15 rfl (Nat.le_of_ble_eq_true rfl) rfl rfl ?_
  refine rc_aload_n (pc := 16) hC dX9_passNights_16 rfl rfl ?_
  refine rc_iload_n (pc := 17) hC dX9_passNights_17 rfl rfl ?_
  refine rc_iload_n (pc := 18) hC dX9_passNights_18 rfl rfl ?_
  refine rc_if_ne (pc := 19) (tgt := 40) hC dX9_passNights_19 rfl h ?_ ?_
  · intro _ h
    refine rc_drop [true, true, false] (L' := [some (rc_q (some (rc_km (yr_K Y) 100))), some (rc_i v1), none]) rfl ?_
    exact rw_X9_passNights_L40 hC hH hF  v1 s0 S h
  intro _ h
  refine rc_aload_n (pc := 22) hC dX9_passNights_22 rfl rfl ?_
  refine rc_r_mref (pc := 23) hC hF rF_X9_7 (by decide) dX9_passNights_23 h ?_
  refine rc_iconst (pc := 26) hC (v := (3 : Int32)) dX9_passNights_26 rfl ?_
  refine rc_r_mald (pc := 27) hC hF (j := 0) (by decide) rfl dX9_passNights_27 h ?_
  intro x2 h
  refine rc_iload_n (pc := 28) hC dX9_passNights_28 rfl rfl ?_
  refine rc_iadd (pc := 29) hC dX9_passNights_29 ?_
  refine rc_sipush (pc := 30) hC (v := (999 : Int32)) dX9_passNights_30 rfl ?_
  refine rc_icmp_le (pc := 33) (tgt := 40) hC dX9_passNights_33 rfl h ?_ ?_
  · intro _ h
    refine rc_drop [true, true, false] (L' := [some (rc_q (some (rc_km (yr_K Y) 100))), some (rc_i v1), none]) rfl ?_
    exact rw_X9_passNights_L40 hC hH hF  v1 s0 S h
  intro _ h
  refine rc_iconst (pc := 36) hC (v := (1 : Int32)) dX9_passNights_36 rfl ?_
  refine rc_goto (pc := 37) (tgt := 41) hC dX9_passNights_37 rfl ?_
  refine rc_drop [true, true, false] (L' := [some (rc_q (some (rc_km (yr_K Y) 100))), some (rc_i v1), none]) rfl ?_
  exact rw_X9_passNights_L41 hC hH hF  v1 (1 : Int32) s0 S h
theorem rw_X9_passNights {l : Launch} (hl : l.stackTraces = false) (v1 : Int32) : rc_Cm l yX9_passNights (ws_ yX9_passNights cX9_passNights 3 (Option.some Jvm.ClassFile.FieldType.int)) 7 163 rc_tI (rp_X9_passNights v1) [rc_i v1] := by
  refine rc_Cm_H hl (plainFor_of_name rY_X9) rfl (Nat.le_of_ble_eq_true rfl) ?_
  intro Y S hC hH hF h
  have hC : rc_C Y cX9_passNights RX9 (Option.some Jvm.ClassFile.FieldType.int) 3 := hC
  show rc_Z Y S 0 [some (rc_q (some (rc_km (yr_K Y) 100))), some (rc_i v1), none] []
  unfold rp_X9_passNights at h
  refine rc_iload_n (pc := 0) hC dX9_passNights_0 rfl rfl ?_
  refine rc_iconst (pc := 1) hC (v := (1 : Int32)) dX9_passNights_1 rfl ?_
  refine rc_bipush (pc := 2) hC (v := (30 : Int32)) dX9_passNights_2 rfl ?_
  refine rc_callS (pc := 4) hC (rw_X9_in hH.1 v1 (1 : Int32) (30 : Int32)) q2073 q2074 q149 q2075 rd_X9_in (hH.room (Nat.le_of_ble_eq_true rfl) (Nat.le_of_ble_eq_true rfl)) rfl rfl (Nat.le_of_ble_eq_true rfl) 3 rfl h.le.2.2 h.br rfl dX9_passNights_4 ?_ (fun E q S hT => rc_out hC hH.2.2.2.2 hT)
  intro x1 S h
  show rc_Z Y S 7 [some (rc_q (some (rc_km (yr_K Y) 100))), some (rc_i v1), none] [rc_i x1]
  refine rc_if_ne (pc := 7) (tgt := 14) hC dX9_passNights_7 rfl h ?_ ?_
  · intro _ h
    refine rc_iconst (pc := 14) hC (v := (0 : Int32)) dX9_passNights_14 rfl ?_
    exact rw_X9_passNights_L15 hC hH hF  v1 (0 : Int32) S h
  intro _ h
  refine rc_iconst (pc := 10) hC (v := (1 : Int32)) dX9_passNights_10 rfl ?_
  refine rc_goto (pc := 11) (tgt := 15) hC dX9_passNights_11 rfl ?_
  exact rw_X9_passNights_L15 hC hH hF  v1 (1 : Int32) S h
theorem rw_X9_undo_L26 {Y : rc_Y} (hC : rc_C Y cX9_undo RX9 (Option.some Jvm.ClassFile.FieldType.int) 2) (hH : rc_H Y 0 0 yX9_undo.name) (hF : yr_F Y = true) : ∀ (n : Nat) (v1 : Int32) (S : rc_S), rc_Go Y rc_tI (rp_X9_undo_L26  n v1) S → rc_Z Y S 26 [some (rc_q (some (rc_km (yr_K Y) 100))), some (rc_i v1)] [] := by
  intro n
  induction n with
  | zero => intro v1 S h; exact h.fail.elim
  | succ n ih =>
    intro v1 S h
    rw [rp_X9_undo_L26] at h
    refine rc_iload_n (pc := 26) hC dX9_undo_26 rfl rfl ?_
    refine rc_sipush (pc := 27) hC (v := (186 : Int32)) dX9_undo_27 rfl ?_
    refine rc_icmp_ge (pc := 30) (tgt := 60) hC dX9_undo_30 rfl h ?_ ?_
    · intro _ h
      refine rc_aload_n (pc := 60) hC dX9_undo_60 rfl rfl ?_
      refine rc_r_mget (pc := 61) hC hF rF_X9_358 rfl dX9_undo_61 h ?_
      intro x1 h
      exact rc_iret hC rfl rfl dX9_undo_64 h rfl
    intro _ h
    refine rc_aload_n (pc := 33) hC dX9_undo_33 rfl rfl ?_
    refine rc_r_mref (pc := 34) hC hF rF_X9_7 (by decide) dX9_undo_34 h ?_
    refine rc_iload_n (pc := 37) hC dX9_undo_37 rfl rfl ?_
    refine rc_aload_n (pc := 38) hC dX9_undo_38 rfl rfl ?_
    refine rc_r_mref (pc := 39) hC hF rF_X9_19 (by decide) dX9_undo_39 h ?_
    refine rc_sipush (pc := 42) hC (v := (186 : Int32)) dX9_undo_42 rfl ?_
    refine rc_aload_n (pc := 45) hC dX9_undo_45 rfl rfl ?_
    refine rc_r_mget (pc := 46) hC hF rF_X9_358 rfl dX9_undo_46 h ?_
    intro x4 h
    refine rc_imul (pc := 49) hC dX9_undo_49 ?_
    refine rc_iload_n (pc := 50) hC dX9_undo_50 rfl rfl ?_
    refine rc_iadd (pc := 51) hC dX9_undo_51 ?_
    refine rc_r_mald (pc := 52) hC hF (j := 3) (by decide) rfl dX9_undo_52 h ?_
    intro x5 h
    refine rc_r_mast (pc := 53) hC hF (j := 0) (by decide) rfl dX9_undo_53 h ?_
    intro S h
    refine rc_iinc (pc := 54) hC (v := (v1 + (1 : Int32))) (L' := [some (rc_q (some (rc_km (yr_K Y) 100))), some (rc_i (v1 + (1 : Int32)))]) dX9_undo_54 rfl rfl rfl rfl ?_
    refine rc_goto (pc := 57) (tgt := 26) hC dX9_undo_57 rfl ?_
    exact ih (v1 + (1 : Int32)) S h
theorem rw_X9_undo {l : Launch} (hl : l.stackTraces = false) : rc_Cm l yX9_undo (ws_ yX9_undo cX9_undo 2 (Option.some Jvm.ClassFile.FieldType.int)) 0 0 rc_tI (rp_X9_undo ) [] := by
  refine rc_Cm_H hl (plainFor_of_name rY_X9) rfl (Nat.le_of_ble_eq_true rfl) ?_
  intro Y S hC hH hF h
  have hC : rc_C Y cX9_undo RX9 (Option.some Jvm.ClassFile.FieldType.int) 2 := hC
  show rc_Z Y S 0 [some (rc_q (some (rc_km (yr_K Y) 100))), none] []
  unfold rp_X9_undo at h
  refine rc_aload_n (pc := 0) hC dX9_undo_0 rfl rfl ?_
  refine rc_iconst (pc := 1) hC (v := (0 : Int32)) dX9_undo_1 rfl ?_
  refine rc_r_mput (pc := 2) hC (Or.inl hF) rP_X9_57 rfl dX9_undo_2 h ?_
  intro S h
  refine rc_aload_n (pc := 5) hC dX9_undo_5 rfl rfl ?_
  refine rc_r_mget (pc := 6) hC hF rF_X9_358 rfl dX9_undo_6 h ?_
  intro x1 h
  refine rc_if_ne (pc := 9) (tgt := 14) hC dX9_undo_9 rfl h ?_ ?_
  · intro _ h
    refine rc_aload_n (pc := 14) hC dX9_undo_14 rfl rfl ?_
    refine rc_dup (pc := 15) hC dX9_undo_15 rfl ?_
    refine rc_r_mget (pc := 16) hC hF rF_X9_358 rfl dX9_undo_16 h ?_
    intro x2 h
    refine rc_iconst (pc := 19) hC (v := (1 : Int32)) dX9_undo_19 rfl ?_
    refine rc_isub (pc := 20) hC dX9_undo_20 ?_
    refine rc_r_mput (pc := 21) hC (Or.inl hF) rP_X9_358 rfl dX9_undo_21 h ?_
    intro S h
    refine rc_iconst (pc := 24) hC (v := (0 : Int32)) dX9_undo_24 rfl ?_
    refine rc_istore_n (pc := 25) hC (L' := [some (rc_q (some (rc_km (yr_K Y) 100))), some (rc_i (0 : Int32))]) dX9_undo_25 rfl (Nat.le_of_ble_eq_true rfl) rfl rfl ?_
    refine rc_r_fuel h ?_
    intro x3 h
    exact rw_X9_undo_L26 hC hH hF  x3 (0 : Int32) S h
  intro _ h
  refine rc_iconst (pc := 12) hC (v := (-1 : Int32)) dX9_undo_12 rfl ?_
  exact rc_iret hC rfl rfl dX9_undo_13 h rfl
theorem rw_X9_undoCount {l : Launch} (hl : l.stackTraces = false) : rc_Cm l yX9_undoCount (ws_ yX9_undoCount cX9_undoCount 1 (Option.some Jvm.ClassFile.FieldType.int)) 0 0 rc_tI (rp_X9_undoCount ) [] := by
  refine rc_Cm_H hl (plainFor_of_name rY_X9) rfl (Nat.le_of_ble_eq_true rfl) ?_
  intro Y S hC hH hF h
  have hC : rc_C Y cX9_undoCount RX9 (Option.some Jvm.ClassFile.FieldType.int) 1 := hC
  show rc_Z Y S 0 [some (rc_q (some (rc_km (yr_K Y) 100)))] []
  unfold rp_X9_undoCount at h
  refine rc_aload_n (pc := 0) hC dX9_undoCount_0 rfl rfl ?_
  refine rc_iconst (pc := 1) hC (v := (0 : Int32)) dX9_undoCount_1 rfl ?_
  refine rc_r_mput (pc := 2) hC (Or.inl hF) rP_X9_57 rfl dX9_undoCount_2 h ?_
  intro S h
  refine rc_aload_n (pc := 5) hC dX9_undoCount_5 rfl rfl ?_
  refine rc_r_mget (pc := 6) hC hF rF_X9_358 rfl dX9_undoCount_6 h ?_
  intro x1 h
  exact rc_iret hC rfl rfl dX9_undoCount_9 h rfl
theorem rw_X9_saveSnapshot_L12 {Y : rc_Y} (hC : rc_C Y cX9_saveSnapshot RX9 (Option.some Jvm.ClassFile.FieldType.int) 2) (hH : rc_H Y 0 0 yX9_saveSnapshot.name) (hF : yr_F Y = true) : ∀ (n : Nat) (v1 : Int32) (S : rc_S), rc_Go Y rc_tI (rp_X9_saveSnapshot_L12  n v1) S → rc_Z Y S 12 [some (rc_q (some (rc_km (yr_K Y) 100))), some (rc_i v1)] [] := by
  intro n
  induction n with
  | zero => intro v1 S h; exact h.fail.elim
  | succ n ih =>
    intro v1 S h
    rw [rp_X9_saveSnapshot_L12] at h
    refine rc_iload_n (pc := 12) hC dX9_saveSnapshot_12 rfl rfl ?_
    refine rc_sipush (pc := 13) hC (v := (186 : Int32)) dX9_saveSnapshot_13 rfl ?_
    refine rc_icmp_ge (pc := 16) (tgt := 37) hC dX9_saveSnapshot_16 rfl h ?_ ?_
    · intro _ h
      refine rc_aload_n (pc := 37) hC dX9_saveSnapshot_37 rfl rfl ?_
      refine rc_r_mref (pc := 38) hC hF rF_X9_7 (by decide) dX9_saveSnapshot_38 h ?_
      refine rc_iconst (pc := 41) hC (v := (3 : Int32)) dX9_saveSnapshot_41 rfl ?_
      refine rc_r_mald (pc := 42) hC hF (j := 0) (by decide) rfl dX9_saveSnapshot_42 h ?_
      intro x2 h
      exact rc_iret hC rfl rfl dX9_saveSnapshot_43 h rfl
    intro _ h
    refine rc_aload_n (pc := 19) hC dX9_saveSnapshot_19 rfl rfl ?_
    refine rc_r_mref (pc := 20) hC hF rF_X9_22 (by decide) dX9_saveSnapshot_20 h ?_
    refine rc_iload_n (pc := 23) hC dX9_saveSnapshot_23 rfl rfl ?_
    refine rc_aload_n (pc := 24) hC dX9_saveSnapshot_24 rfl rfl ?_
    refine rc_r_mref (pc := 25) hC hF rF_X9_7 (by decide) dX9_saveSnapshot_25 h ?_
    refine rc_iload_n (pc := 28) hC dX9_saveSnapshot_28 rfl rfl ?_
    refine rc_r_mald (pc := 29) hC hF (j := 0) (by decide) rfl dX9_saveSnapshot_29 h ?_
    intro x5 h
    refine rc_r_mast (pc := 30) hC hF (j := 4) (by decide) rfl dX9_saveSnapshot_30 h ?_
    intro S h
    refine rc_iinc (pc := 31) hC (v := (v1 + (1 : Int32))) (L' := [some (rc_q (some (rc_km (yr_K Y) 100))), some (rc_i (v1 + (1 : Int32)))]) dX9_saveSnapshot_31 rfl rfl rfl rfl ?_
    refine rc_goto (pc := 34) (tgt := 12) hC dX9_saveSnapshot_34 rfl ?_
    exact ih (v1 + (1 : Int32)) S h
theorem rw_X9_saveSnapshot {l : Launch} (hl : l.stackTraces = false) : rc_Cm l yX9_saveSnapshot (ws_ yX9_saveSnapshot cX9_saveSnapshot 2 (Option.some Jvm.ClassFile.FieldType.int)) 0 0 rc_tI (rp_X9_saveSnapshot ) [] := by
  refine rc_Cm_H hl (plainFor_of_name rY_X9) rfl (Nat.le_of_ble_eq_true rfl) ?_
  intro Y S hC hH hF h
  have hC : rc_C Y cX9_saveSnapshot RX9 (Option.some Jvm.ClassFile.FieldType.int) 2 := hC
  show rc_Z Y S 0 [some (rc_q (some (rc_km (yr_K Y) 100))), none] []
  unfold rp_X9_saveSnapshot at h
  refine rc_aload_n (pc := 0) hC dX9_saveSnapshot_0 rfl rfl ?_
  refine rc_iconst (pc := 1) hC (v := (0 : Int32)) dX9_saveSnapshot_1 rfl ?_
  refine rc_r_mput (pc := 2) hC (Or.inl hF) rP_X9_57 rfl dX9_saveSnapshot_2 h ?_
  intro S h
  refine rc_aload_n (pc := 5) hC dX9_saveSnapshot_5 rfl rfl ?_
  refine rc_iconst (pc := 6) hC (v := (1 : Int32)) dX9_saveSnapshot_6 rfl ?_
  refine rc_r_mput (pc := 7) hC (Or.inl hF) rP_X9_388 rfl dX9_saveSnapshot_7 h ?_
  intro S h
  refine rc_iconst (pc := 10) hC (v := (0 : Int32)) dX9_saveSnapshot_10 rfl ?_
  refine rc_istore_n (pc := 11) hC (L' := [some (rc_q (some (rc_km (yr_K Y) 100))), some (rc_i (0 : Int32))]) dX9_saveSnapshot_11 rfl (Nat.le_of_ble_eq_true rfl) rfl rfl ?_
  refine rc_r_fuel h ?_
  intro x1 h
  exact rw_X9_saveSnapshot_L12 hC hH hF  x1 (0 : Int32) S h
theorem rw_X9_restoreSnapshot_L23 {Y : rc_Y} (hC : rc_C Y cX9_restoreSnapshot RX9 (Option.some Jvm.ClassFile.FieldType.int) 2) (hH : rc_H Y 1 21 yX9_restoreSnapshot.name) (hF : yr_F Y = true) : ∀ (n : Nat) (v1 : Int32) (S : rc_S), rc_Go Y rc_tI (rp_X9_restoreSnapshot_L23  n v1) S → rc_Z Y S 23 [some (rc_q (some (rc_km (yr_K Y) 100))), some (rc_i v1)] [] := by
  intro n
  induction n with
  | zero => intro v1 S h; exact h.fail.elim
  | succ n ih =>
    intro v1 S h
    rw [rp_X9_restoreSnapshot_L23] at h
    refine rc_iload_n (pc := 23) hC dX9_restoreSnapshot_23 rfl rfl ?_
    refine rc_sipush (pc := 24) hC (v := (186 : Int32)) dX9_restoreSnapshot_24 rfl ?_
    refine rc_icmp_ge (pc := 27) (tgt := 48) hC dX9_restoreSnapshot_27 rfl h ?_ ?_
    · intro _ h
      refine rc_aload_n (pc := 48) hC dX9_restoreSnapshot_48 rfl rfl ?_
      refine rc_iconst (pc := 49) hC (v := (0 : Int32)) dX9_restoreSnapshot_49 rfl ?_
      refine rc_r_mput (pc := 50) hC (Or.inl hF) rP_X9_358 rfl dX9_restoreSnapshot_50 h ?_
      intro S h
      refine rc_aload_n (pc := 53) hC dX9_restoreSnapshot_53 rfl rfl ?_
      refine rc_r_mref (pc := 54) hC hF rF_X9_7 (by decide) dX9_restoreSnapshot_54 h ?_
      refine rc_iconst (pc := 57) hC (v := (3 : Int32)) dX9_restoreSnapshot_57 rfl ?_
      refine rc_r_mald (pc := 58) hC hF (j := 0) (by decide) rfl dX9_restoreSnapshot_58 h ?_
      intro x2 h
      exact rc_iret hC rfl rfl dX9_restoreSnapshot_59 h rfl
    intro _ h
    refine rc_aload_n (pc := 30) hC dX9_restoreSnapshot_30 rfl rfl ?_
    refine rc_r_mref (pc := 31) hC hF rF_X9_7 (by decide) dX9_restoreSnapshot_31 h ?_
    refine rc_iload_n (pc := 34) hC dX9_restoreSnapshot_34 rfl rfl ?_
    refine rc_aload_n (pc := 35) hC dX9_restoreSnapshot_35 rfl rfl ?_
    refine rc_r_mref (pc := 36) hC hF rF_X9_22 (by decide) dX9_restoreSnapshot_36 h ?_
    refine rc_iload_n (pc := 39) hC dX9_restoreSnapshot_39 rfl rfl ?_
    refine rc_r_mald (pc := 40) hC hF (j := 4) (by decide) rfl dX9_restoreSnapshot_40 h ?_
    intro x5 h
    refine rc_r_mast (pc := 41) hC hF (j := 0) (by decide) rfl dX9_restoreSnapshot_41 h ?_
    intro S h
    refine rc_iinc (pc := 42) hC (v := (v1 + (1 : Int32))) (L' := [some (rc_q (some (rc_km (yr_K Y) 100))), some (rc_i (v1 + (1 : Int32)))]) dX9_restoreSnapshot_42 rfl rfl rfl rfl ?_
    refine rc_goto (pc := 45) (tgt := 23) hC dX9_restoreSnapshot_45 rfl ?_
    exact ih (v1 + (1 : Int32)) S h
theorem rw_X9_restoreSnapshot_L13 {Y : rc_Y} (hC : rc_C Y cX9_restoreSnapshot RX9 (Option.some Jvm.ClassFile.FieldType.int) 2) (hH : rc_H Y 1 21 yX9_restoreSnapshot.name) (hF : yr_F Y = true) (s0 : Int32) (S : rc_S) (h : rc_Go Y rc_tI (rp_X9_restoreSnapshot_L13  s0) S) : rc_Z Y S 13 [some (rc_q (some (rc_km (yr_K Y) 100))), none] [rc_i s0, rc_q (some (rc_km (yr_K Y) 100))] := by
  unfold rp_X9_restoreSnapshot_L13 at h
  refine rc_callM (pc := 13) hC (rw_X9_throwsOne hH.1 s0) q2392 q2394 qs97 q149 q2395 rfl rd_X9_throwsOne (hH.room (Nat.le_of_ble_eq_true rfl) (Nat.le_of_ble_eq_true rfl)) rfl rfl (Nat.le_of_ble_eq_true rfl) 1 rfl h.le.2.2 (Or.inl hF) h.br rfl dX9_restoreSnapshot_13 ?_ (fun E q S hT => rc_out hC hH.2.2.2.2 hT)
  intro x1 S h
  show rc_Z Y S 16 [some (rc_q (some (rc_km (yr_K Y) 100))), none] [rc_i x1]
  refine rc_if_eq (pc := 16) (tgt := 21) hC dX9_restoreSnapshot_16 rfl h ?_ ?_
  · intro _ h
    refine rc_iconst (pc := 21) hC (v := (0 : Int32)) dX9_restoreSnapshot_21 rfl ?_
    refine rc_istore_n (pc := 22) hC (L' := [some (rc_q (some (rc_km (yr_K Y) 100))), some (rc_i (0 : Int32))]) dX9_restoreSnapshot_22 rfl (Nat.le_of_ble_eq_true rfl) rfl rfl ?_
    refine rc_r_fuel h ?_
    intro x2 h
    exact rw_X9_restoreSnapshot_L23 hC hH hF  x2 (0 : Int32) S h
  intro _ h
  refine rc_iconst (pc := 19) hC (v := (0 : Int32)) dX9_restoreSnapshot_19 rfl ?_
  exact rc_iret hC rfl rfl dX9_restoreSnapshot_20 h rfl
theorem rw_X9_restoreSnapshot {l : Launch} (hl : l.stackTraces = false) : rc_Cm l yX9_restoreSnapshot (ws_ yX9_restoreSnapshot cX9_restoreSnapshot 2 (Option.some Jvm.ClassFile.FieldType.int)) 1 21 rc_tI (rp_X9_restoreSnapshot ) [] := by
  refine rc_Cm_H hl (plainFor_of_name rY_X9) rfl (Nat.le_of_ble_eq_true rfl) ?_
  intro Y S hC hH hF h
  have hC : rc_C Y cX9_restoreSnapshot RX9 (Option.some Jvm.ClassFile.FieldType.int) 2 := hC
  show rc_Z Y S 0 [some (rc_q (some (rc_km (yr_K Y) 100))), none] []
  unfold rp_X9_restoreSnapshot at h
  refine rc_aload_n (pc := 0) hC dX9_restoreSnapshot_0 rfl rfl ?_
  refine rc_aload_n (pc := 1) hC dX9_restoreSnapshot_1 rfl rfl ?_
  refine rc_r_mget (pc := 2) hC hF rF_X9_388 rfl dX9_restoreSnapshot_2 h ?_
  intro x1 h
  refine rc_if_ne (pc := 5) (tgt := 12) hC dX9_restoreSnapshot_5 rfl h ?_ ?_
  · intro _ h
    refine rc_iconst (pc := 12) hC (v := (0 : Int32)) dX9_restoreSnapshot_12 rfl ?_
    exact rw_X9_restoreSnapshot_L13 hC hH hF  (0 : Int32) S h
  intro _ h
  refine rc_iconst (pc := 8) hC (v := (1 : Int32)) dX9_restoreSnapshot_8 rfl ?_
  refine rc_goto (pc := 9) (tgt := 13) hC dX9_restoreSnapshot_9 rfl ?_
  exact rw_X9_restoreSnapshot_L13 hC hH hF  (1 : Int32) S h
theorem rw_X9_scriptErrorKind {l : Launch} (hl : l.stackTraces = false) : rc_Cm l yX9_scriptErrorKind (ws_ yX9_scriptErrorKind cX9_scriptErrorKind 1 (Option.some Jvm.ClassFile.FieldType.int)) 0 0 rc_tI (rp_X9_scriptErrorKind ) [] := by
  refine rc_Cm_H hl (plainFor_of_name rY_X9) rfl (Nat.le_of_ble_eq_true rfl) ?_
  intro Y S hC hH hF h
  have hC : rc_C Y cX9_scriptErrorKind RX9 (Option.some Jvm.ClassFile.FieldType.int) 1 := hC
  show rc_Z Y S 0 [some (rc_q (some (rc_km (yr_K Y) 100)))] []
  unfold rp_X9_scriptErrorKind at h
  refine rc_aload_n (pc := 0) hC dX9_scriptErrorKind_0 rfl rfl ?_
  refine rc_iconst (pc := 1) hC (v := (0 : Int32)) dX9_scriptErrorKind_1 rfl ?_
  refine rc_r_mput (pc := 2) hC (Or.inl hF) rP_X9_57 rfl dX9_scriptErrorKind_2 h ?_
  intro S h
  refine rc_aload_n (pc := 5) hC dX9_scriptErrorKind_5 rfl rfl ?_
  refine rc_r_mget (pc := 6) hC hF rF_X9_179 rfl dX9_scriptErrorKind_6 h ?_
  intro x1 h
  exact rc_iret hC rfl rfl dX9_scriptErrorKind_9 h rfl
theorem rw_X9_scriptErrorOffset {l : Launch} (hl : l.stackTraces = false) : rc_Cm l yX9_scriptErrorOffset (ws_ yX9_scriptErrorOffset cX9_scriptErrorOffset 1 (Option.some Jvm.ClassFile.FieldType.int)) 0 0 rc_tI (rp_X9_scriptErrorOffset ) [] := by
  refine rc_Cm_H hl (plainFor_of_name rY_X9) rfl (Nat.le_of_ble_eq_true rfl) ?_
  intro Y S hC hH hF h
  have hC : rc_C Y cX9_scriptErrorOffset RX9 (Option.some Jvm.ClassFile.FieldType.int) 1 := hC
  show rc_Z Y S 0 [some (rc_q (some (rc_km (yr_K Y) 100)))] []
  unfold rp_X9_scriptErrorOffset at h
  refine rc_aload_n (pc := 0) hC dX9_scriptErrorOffset_0 rfl rfl ?_
  refine rc_iconst (pc := 1) hC (v := (0 : Int32)) dX9_scriptErrorOffset_1 rfl ?_
  refine rc_r_mput (pc := 2) hC (Or.inl hF) rP_X9_57 rfl dX9_scriptErrorOffset_2 h ?_
  intro S h
  refine rc_aload_n (pc := 5) hC dX9_scriptErrorOffset_5 rfl rfl ?_
  refine rc_r_mget (pc := 6) hC hF rF_X9_34 rfl dX9_scriptErrorOffset_6 h ?_
  intro x1 h
  exact rc_iret hC rfl rfl dX9_scriptErrorOffset_9 h rfl
theorem rw_X9_told {l : Launch} (hl : l.stackTraces = false) (v1 : Int32) : rc_Cm l yX9_told (ws_ yX9_told cX9_told 2 (Option.some Jvm.ClassFile.FieldType.int)) 0 0 rc_tI (rp_X9_told v1) [rc_i v1] := by
  refine rc_Cm_H hl (plainFor_of_name rY_X9) rfl (Nat.le_of_ble_eq_true rfl) ?_
  intro Y S hC hH hF h
  have hC : rc_C Y cX9_told RX9 (Option.some Jvm.ClassFile.FieldType.int) 2 := hC
  show rc_Z Y S 0 [some (rc_q (some (rc_km (yr_K Y) 100))), some (rc_i v1)] []
  unfold rp_X9_told at h
  refine rc_aload_n (pc := 0) hC dX9_told_0 rfl rfl ?_
  refine rc_iconst (pc := 1) hC (v := (0 : Int32)) dX9_told_1 rfl ?_
  refine rc_r_mput (pc := 2) hC (Or.inl hF) rP_X9_57 rfl dX9_told_2 h ?_
  intro S h
  refine rc_aload_n (pc := 5) hC dX9_told_5 rfl rfl ?_
  refine rc_r_mref (pc := 6) hC hF rF_X9_7 (by decide) dX9_told_6 h ?_
  refine rc_iload_n (pc := 9) hC dX9_told_9 rfl rfl ?_
  refine rc_r_mald (pc := 10) hC hF (j := 0) (by decide) rfl dX9_told_10 h ?_
  intro x2 h
  exact rc_iret hC rfl rfl dX9_told_11 h rfl
theorem rw_X9_chimneyCount {l : Launch} (hl : l.stackTraces = false) : rc_Cm l yX9_chimneyCount (ws_ yX9_chimneyCount cX9_chimneyCount 1 (Option.some Jvm.ClassFile.FieldType.int)) 1 21 rc_tI (rp_X9_chimneyCount ) [] := by
  refine rc_Cm_H hl (plainFor_of_name rY_X9) rfl (Nat.le_of_ble_eq_true rfl) ?_
  intro Y S hC hH hF h
  have hC : rc_C Y cX9_chimneyCount RX9 (Option.some Jvm.ClassFile.FieldType.int) 1 := hC
  show rc_Z Y S 0 [some (rc_q (some (rc_km (yr_K Y) 100)))] []
  unfold rp_X9_chimneyCount at h
  refine rc_aload_n (pc := 0) hC dX9_chimneyCount_0 rfl rfl ?_
  refine rc_iconst (pc := 1) hC (v := (0 : Int32)) dX9_chimneyCount_1 rfl ?_
  refine rc_callM (pc := 2) hC (rw_X9_told hH.1 (0 : Int32)) q2507 q2509 qs106 q149 q2510 rfl rd_X9_told (hH.room (Nat.le_of_ble_eq_true rfl) (Nat.le_of_ble_eq_true rfl)) rfl rfl (Nat.le_of_ble_eq_true rfl) 1 rfl h.le.2.2 (Or.inl hF) h.br rfl dX9_chimneyCount_2 ?_ (fun E q S hT => rc_out hC hH.2.2.2.2 hT)
  intro x1 S h
  show rc_Z Y S 5 [some (rc_q (some (rc_km (yr_K Y) 100)))] [rc_i x1]
  exact rc_iret hC rfl rfl dX9_chimneyCount_5 h rfl
theorem rw_X9_gutterCount {l : Launch} (hl : l.stackTraces = false) : rc_Cm l yX9_gutterCount (ws_ yX9_gutterCount cX9_gutterCount 1 (Option.some Jvm.ClassFile.FieldType.int)) 1 21 rc_tI (rp_X9_gutterCount ) [] := by
  refine rc_Cm_H hl (plainFor_of_name rY_X9) rfl (Nat.le_of_ble_eq_true rfl) ?_
  intro Y S hC hH hF h
  have hC : rc_C Y cX9_gutterCount RX9 (Option.some Jvm.ClassFile.FieldType.int) 1 := hC
  show rc_Z Y S 0 [some (rc_q (some (rc_km (yr_K Y) 100)))] []
  unfold rp_X9_gutterCount at h
  refine rc_aload_n (pc := 0) hC dX9_gutterCount_0 rfl rfl ?_
  refine rc_iconst (pc := 1) hC (v := (1 : Int32)) dX9_gutterCount_1 rfl ?_
  refine rc_callM (pc := 2) hC (rw_X9_told hH.1 (1 : Int32)) q2507 q2509 qs106 q149 q2510 rfl rd_X9_told (hH.room (Nat.le_of_ble_eq_true rfl) (Nat.le_of_ble_eq_true rfl)) rfl rfl (Nat.le_of_ble_eq_true rfl) 1 rfl h.le.2.2 (Or.inl hF) h.br rfl dX9_gutterCount_2 ?_ (fun E q S hT => rc_out hC hH.2.2.2.2 hT)
  intro x1 S h
  show rc_Z Y S 5 [some (rc_q (some (rc_km (yr_K Y) 100)))] [rc_i x1]
  exact rc_iret hC rfl rfl dX9_gutterCount_5 h rfl
theorem rw_X9_catCount {l : Launch} (hl : l.stackTraces = false) : rc_Cm l yX9_catCount (ws_ yX9_catCount cX9_catCount 1 (Option.some Jvm.ClassFile.FieldType.int)) 1 21 rc_tI (rp_X9_catCount ) [] := by
  refine rc_Cm_H hl (plainFor_of_name rY_X9) rfl (Nat.le_of_ble_eq_true rfl) ?_
  intro Y S hC hH hF h
  have hC : rc_C Y cX9_catCount RX9 (Option.some Jvm.ClassFile.FieldType.int) 1 := hC
  show rc_Z Y S 0 [some (rc_q (some (rc_km (yr_K Y) 100)))] []
  unfold rp_X9_catCount at h
  refine rc_aload_n (pc := 0) hC dX9_catCount_0 rfl rfl ?_
  refine rc_iconst (pc := 1) hC (v := (2 : Int32)) dX9_catCount_1 rfl ?_
  refine rc_callM (pc := 2) hC (rw_X9_told hH.1 (2 : Int32)) q2507 q2509 qs106 q149 q2510 rfl rd_X9_told (hH.room (Nat.le_of_ble_eq_true rfl) (Nat.le_of_ble_eq_true rfl)) rfl rfl (Nat.le_of_ble_eq_true rfl) 1 rfl h.le.2.2 (Or.inl hF) h.br rfl dX9_catCount_2 ?_ (fun E q S hT => rc_out hC hH.2.2.2.2 hT)
  intro x1 S h
  show rc_Z Y S 5 [some (rc_q (some (rc_km (yr_K Y) 100)))] [rc_i x1]
  exact rc_iret hC rfl rfl dX9_catCount_5 h rfl
theorem rw_X9_night {l : Launch} (hl : l.stackTraces = false) : rc_Cm l yX9_night (ws_ yX9_night cX9_night 1 (Option.some Jvm.ClassFile.FieldType.int)) 1 21 rc_tI (rp_X9_night ) [] := by
  refine rc_Cm_H hl (plainFor_of_name rY_X9) rfl (Nat.le_of_ble_eq_true rfl) ?_
  intro Y S hC hH hF h
  have hC : rc_C Y cX9_night RX9 (Option.some Jvm.ClassFile.FieldType.int) 1 := hC
  show rc_Z Y S 0 [some (rc_q (some (rc_km (yr_K Y) 100)))] []
  unfold rp_X9_night at h
  refine rc_aload_n (pc := 0) hC dX9_night_0 rfl rfl ?_
  refine rc_iconst (pc := 1) hC (v := (3 : Int32)) dX9_night_1 rfl ?_
  refine rc_callM (pc := 2) hC (rw_X9_told hH.1 (3 : Int32)) q2507 q2509 qs106 q149 q2510 rfl rd_X9_told (hH.room (Nat.le_of_ble_eq_true rfl) (Nat.le_of_ble_eq_true rfl)) rfl rfl (Nat.le_of_ble_eq_true rfl) 1 rfl h.le.2.2 (Or.inl hF) h.br rfl dX9_night_2 ?_ (fun E q S hT => rc_out hC hH.2.2.2.2 hT)
  intro x1 S h
  show rc_Z Y S 5 [some (rc_q (some (rc_km (yr_K Y) 100)))] [rc_i x1]
  exact rc_iret hC rfl rfl dX9_night_5 h rfl
theorem rw_X9_moonPhase {l : Launch} (hl : l.stackTraces = false) : rc_Cm l yX9_moonPhase (ws_ yX9_moonPhase cX9_moonPhase 1 (Option.some Jvm.ClassFile.FieldType.int)) 1 21 rc_tI (rp_X9_moonPhase ) [] := by
  refine rc_Cm_H hl (plainFor_of_name rY_X9) rfl (Nat.le_of_ble_eq_true rfl) ?_
  intro Y S hC hH hF h
  have hC : rc_C Y cX9_moonPhase RX9 (Option.some Jvm.ClassFile.FieldType.int) 1 := hC
  show rc_Z Y S 0 [some (rc_q (some (rc_km (yr_K Y) 100)))] []
  unfold rp_X9_moonPhase at h
  refine rc_aload_n (pc := 0) hC dX9_moonPhase_0 rfl rfl ?_
  refine rc_iconst (pc := 1) hC (v := (3 : Int32)) dX9_moonPhase_1 rfl ?_
  refine rc_callM (pc := 2) hC (rw_X9_told hH.1 (3 : Int32)) q2507 q2509 qs106 q149 q2510 rfl rd_X9_told (hH.room (Nat.le_of_ble_eq_true rfl) (Nat.le_of_ble_eq_true rfl)) rfl rfl (Nat.le_of_ble_eq_true rfl) 1 rfl h.le.2.2 (Or.inl hF) h.br rfl dX9_moonPhase_2 ?_ (fun E q S hT => rc_out hC hH.2.2.2.2 hT)
  intro x1 S h
  show rc_Z Y S 5 [some (rc_q (some (rc_km (yr_K Y) 100)))] [rc_i x1]
  refine rc_bipush (pc := 5) hC (v := (8 : Int32)) dX9_moonPhase_5 rfl ?_
  refine rc_irem (pc := 7) hC dX9_moonPhase_7 (by decide) ?_
  exact rc_iret hC rfl rfl dX9_moonPhase_8 h rfl
theorem rw_X9_warmth_L14 {Y : rc_Y} (hC : rc_C Y cX9_warmth RX9 (Option.some Jvm.ClassFile.FieldType.int) 2) (hH : rc_H Y 2 43 yX9_warmth.name) (hF : yr_F Y = true) (v1 : Int32) (s0 : Int32) (S : rc_S) (h : rc_Go Y rc_tI (rp_X9_warmth_L14  v1 s0) S) : rc_Z Y S 14 [some (rc_q (some (rc_km (yr_K Y) 100))), some (rc_i v1)] [rc_i s0, rc_q (some (rc_km (yr_K Y) 100))] := by
  unfold rp_X9_warmth_L14 at h
  refine rc_callM (pc := 14) hC (rw_X9_throwsOne hH.1 s0) q2392 q2394 qs97 q149 q2395 rfl rd_X9_throwsOne (hH.room (Nat.le_of_ble_eq_true rfl) (Nat.le_of_ble_eq_true rfl)) rfl rfl (Nat.le_of_ble_eq_true rfl) 1 rfl h.le.2.2 (Or.inl hF) h.br rfl dX9_warmth_14 ?_ (fun E q S hT => rc_out hC hH.2.2.2.2 hT)
  intro x1 S h
  show rc_Z Y S 17 [some (rc_q (some (rc_km (yr_K Y) 100))), some (rc_i v1)] [rc_i x1]
  refine rc_if_eq (pc := 17) (tgt := 24) hC dX9_warmth_17 rfl h ?_ ?_
  · intro _ h
    refine rc_aload_n (pc := 24) hC dX9_warmth_24 rfl rfl ?_
    refine rc_r_mref (pc := 25) hC hF rF_X9_7 (by decide) dX9_warmth_25 h ?_
    refine rc_bipush (pc := 28) hC (v := (10 : Int32)) dX9_warmth_28 rfl ?_
    refine rc_iload_n (pc := 30) hC dX9_warmth_30 rfl rfl ?_
    refine rc_iadd (pc := 31) hC dX9_warmth_31 ?_
    refine rc_r_mald (pc := 32) hC hF (j := 0) (by decide) rfl dX9_warmth_32 h ?_
    intro x3 h
    exact rc_iret hC rfl rfl dX9_warmth_33 h rfl
  intro _ h
  refine rc_iconst (pc := 20) hC (v := (0 : Int32)) dX9_warmth_20 rfl ?_
  refine rc_goto (pc := 21) (tgt := 33) hC dX9_warmth_21 rfl ?_
  exact rc_iret hC rfl rfl dX9_warmth_33 h rfl
theorem rw_X9_warmth {l : Launch} (hl : l.stackTraces = false) (v1 : Int32) : rc_Cm l yX9_warmth (ws_ yX9_warmth cX9_warmth 2 (Option.some Jvm.ClassFile.FieldType.int)) 2 43 rc_tI (rp_X9_warmth v1) [rc_i v1] := by
  refine rc_Cm_H hl (plainFor_of_name rY_X9) rfl (Nat.le_of_ble_eq_true rfl) ?_
  intro Y S hC hH hF h
  have hC : rc_C Y cX9_warmth RX9 (Option.some Jvm.ClassFile.FieldType.int) 2 := hC
  show rc_Z Y S 0 [some (rc_q (some (rc_km (yr_K Y) 100))), some (rc_i v1)] []
  unfold rp_X9_warmth at h
  refine rc_aload_n (pc := 0) hC dX9_warmth_0 rfl rfl ?_
  refine rc_aload_n (pc := 1) hC dX9_warmth_1 rfl rfl ?_
  refine rc_iload_n (pc := 2) hC dX9_warmth_2 rfl rfl ?_
  refine rc_callM (pc := 3) hC (rw_X9_isChimney hH.1 v1) q2420 q2422 qs101 q149 q2423 rfl rd_X9_isChimney (hH.room (Nat.le_of_ble_eq_true rfl) (Nat.le_of_ble_eq_true rfl)) rfl rfl (Nat.le_of_ble_eq_true rfl) 1 rfl h.le.2.2 (Or.inl hF) h.br rfl dX9_warmth_3 ?_ (fun E q S hT => rc_out hC hH.2.2.2.2 hT)
  intro x1 S h
  show rc_Z Y S 6 [some (rc_q (some (rc_km (yr_K Y) 100))), some (rc_i v1)] [rc_i x1, rc_q (some (rc_km (yr_K Y) 100))]
  refine rc_if_ne (pc := 6) (tgt := 13) hC dX9_warmth_6 rfl h ?_ ?_
  · intro _ h
    refine rc_iconst (pc := 13) hC (v := (0 : Int32)) dX9_warmth_13 rfl ?_
    exact rw_X9_warmth_L14 hC hH hF  v1 (0 : Int32) S h
  intro _ h
  refine rc_iconst (pc := 9) hC (v := (1 : Int32)) dX9_warmth_9 rfl ?_
  refine rc_goto (pc := 10) (tgt := 14) hC dX9_warmth_10 rfl ?_
  exact rw_X9_warmth_L14 hC hH hF  v1 (1 : Int32) S h
theorem rw_X9_ownerOf_L14 {Y : rc_Y} (hC : rc_C Y cX9_ownerOf RX9 (Option.some Jvm.ClassFile.FieldType.int) 2) (hH : rc_H Y 2 43 yX9_ownerOf.name) (hF : yr_F Y = true) (v1 : Int32) (s0 : Int32) (S : rc_S) (h : rc_Go Y rc_tI (rp_X9_ownerOf_L14  v1 s0) S) : rc_Z Y S 14 [some (rc_q (some (rc_km (yr_K Y) 100))), some (rc_i v1)] [rc_i s0, rc_q (some (rc_km (yr_K Y) 100))] := by
  unfold rp_X9_ownerOf_L14 at h
  refine rc_callM (pc := 14) hC (rw_X9_throwsOne hH.1 s0) q2392 q2394 qs97 q149 q2395 rfl rd_X9_throwsOne (hH.room (Nat.le_of_ble_eq_true rfl) (Nat.le_of_ble_eq_true rfl)) rfl rfl (Nat.le_of_ble_eq_true rfl) 1 rfl h.le.2.2 (Or.inl hF) h.br rfl dX9_ownerOf_14 ?_ (fun E q S hT => rc_out hC hH.2.2.2.2 hT)
  intro x1 S h
  show rc_Z Y S 17 [some (rc_q (some (rc_km (yr_K Y) 100))), some (rc_i v1)] [rc_i x1]
  refine rc_if_eq (pc := 17) (tgt := 24) hC dX9_ownerOf_17 rfl h ?_ ?_
  · intro _ h
    refine rc_aload_n (pc := 24) hC dX9_ownerOf_24 rfl rfl ?_
    refine rc_iload_n (pc := 25) hC dX9_ownerOf_25 rfl rfl ?_
    refine rc_callM (pc := 26) hC (rw_X9_owner hH.1 v1) q2160 q2162 qs61 q149 q2163 rfl rd_X9_owner (hH.room (Nat.le_of_ble_eq_true rfl) (Nat.le_of_ble_eq_true rfl)) rfl rfl (Nat.le_of_ble_eq_true rfl) 1 rfl h.le.2.2 (Or.inl hF) h.br rfl dX9_ownerOf_26 ?_ (fun E q S hT => rc_out hC hH.2.2.2.2 hT)
    intro x2 S h
    show rc_Z Y S 29 [some (rc_q (some (rc_km (yr_K Y) 100))), some (rc_i v1)] [rc_i x2]
    exact rc_iret hC rfl rfl dX9_ownerOf_29 h rfl
  intro _ h
  refine rc_iconst (pc := 20) hC (v := (0 : Int32)) dX9_ownerOf_20 rfl ?_
  refine rc_goto (pc := 21) (tgt := 29) hC dX9_ownerOf_21 rfl ?_
  exact rc_iret hC rfl rfl dX9_ownerOf_29 h rfl
theorem rw_X9_ownerOf {l : Launch} (hl : l.stackTraces = false) (v1 : Int32) : rc_Cm l yX9_ownerOf (ws_ yX9_ownerOf cX9_ownerOf 2 (Option.some Jvm.ClassFile.FieldType.int)) 2 43 rc_tI (rp_X9_ownerOf v1) [rc_i v1] := by
  refine rc_Cm_H hl (plainFor_of_name rY_X9) rfl (Nat.le_of_ble_eq_true rfl) ?_
  intro Y S hC hH hF h
  have hC : rc_C Y cX9_ownerOf RX9 (Option.some Jvm.ClassFile.FieldType.int) 2 := hC
  show rc_Z Y S 0 [some (rc_q (some (rc_km (yr_K Y) 100))), some (rc_i v1)] []
  unfold rp_X9_ownerOf at h
  refine rc_aload_n (pc := 0) hC dX9_ownerOf_0 rfl rfl ?_
  refine rc_aload_n (pc := 1) hC dX9_ownerOf_1 rfl rfl ?_
  refine rc_iload_n (pc := 2) hC dX9_ownerOf_2 rfl rfl ?_
  refine rc_callM (pc := 3) hC (rw_X9_isChimney hH.1 v1) q2420 q2422 qs101 q149 q2423 rfl rd_X9_isChimney (hH.room (Nat.le_of_ble_eq_true rfl) (Nat.le_of_ble_eq_true rfl)) rfl rfl (Nat.le_of_ble_eq_true rfl) 1 rfl h.le.2.2 (Or.inl hF) h.br rfl dX9_ownerOf_3 ?_ (fun E q S hT => rc_out hC hH.2.2.2.2 hT)
  intro x1 S h
  show rc_Z Y S 6 [some (rc_q (some (rc_km (yr_K Y) 100))), some (rc_i v1)] [rc_i x1, rc_q (some (rc_km (yr_K Y) 100))]
  refine rc_if_ne (pc := 6) (tgt := 13) hC dX9_ownerOf_6 rfl h ?_ ?_
  · intro _ h
    refine rc_iconst (pc := 13) hC (v := (0 : Int32)) dX9_ownerOf_13 rfl ?_
    exact rw_X9_ownerOf_L14 hC hH hF  v1 (0 : Int32) S h
  intro _ h
  refine rc_iconst (pc := 9) hC (v := (1 : Int32)) dX9_ownerOf_9 rfl ?_
  refine rc_goto (pc := 10) (tgt := 14) hC dX9_ownerOf_10 rfl ?_
  exact rw_X9_ownerOf_L14 hC hH hF  v1 (1 : Int32) S h
theorem rw_X9_catOn_L14 {Y : rc_Y} (hC : rc_C Y cX9_catOn RX9 (Option.some Jvm.ClassFile.FieldType.int) 2) (hH : rc_H Y 2 44 yX9_catOn.name) (hF : yr_F Y = true) (v1 : Int32) (s0 : Int32) (S : rc_S) (h : rc_Go Y rc_tI (rp_X9_catOn_L14  v1 s0) S) : rc_Z Y S 14 [some (rc_q (some (rc_km (yr_K Y) 100))), some (rc_i v1)] [rc_i s0, rc_q (some (rc_km (yr_K Y) 100))] := by
  unfold rp_X9_catOn_L14 at h
  refine rc_callM (pc := 14) hC (rw_X9_throwsOne hH.1 s0) q2392 q2394 qs97 q149 q2395 rfl rd_X9_throwsOne (hH.room (Nat.le_of_ble_eq_true rfl) (Nat.le_of_ble_eq_true rfl)) rfl rfl (Nat.le_of_ble_eq_true rfl) 1 rfl h.le.2.2 (Or.inl hF) h.br rfl dX9_catOn_14 ?_ (fun E q S hT => rc_out hC hH.2.2.2.2 hT)
  intro x1 S h
  show rc_Z Y S 17 [some (rc_q (some (rc_km (yr_K Y) 100))), some (rc_i v1)] [rc_i x1]
  refine rc_if_eq (pc := 17) (tgt := 24) hC dX9_catOn_17 rfl h ?_ ?_
  · intro _ h
    refine rc_aload_n (pc := 24) hC dX9_catOn_24 rfl rfl ?_
    refine rc_iload_n (pc := 25) hC dX9_catOn_25 rfl rfl ?_
    refine rc_callM (pc := 26) hC (rw_X9_sitter hH.1 v1) q2120 q2122 qs51 q149 q2123 rfl rd_X9_sitter (hH.room (Nat.le_of_ble_eq_true rfl) (Nat.le_of_ble_eq_true rfl)) rfl rfl (Nat.le_of_ble_eq_true rfl) 1 rfl h.le.2.2 (Or.inl hF) h.br rfl dX9_catOn_26 ?_ (fun E q S hT => rc_out hC hH.2.2.2.2 hT)
    intro x2 S h
    show rc_Z Y S 29 [some (rc_q (some (rc_km (yr_K Y) 100))), some (rc_i v1)] [rc_i x2]
    exact rc_iret hC rfl rfl dX9_catOn_29 h rfl
  intro _ h
  refine rc_iconst (pc := 20) hC (v := (0 : Int32)) dX9_catOn_20 rfl ?_
  refine rc_goto (pc := 21) (tgt := 29) hC dX9_catOn_21 rfl ?_
  exact rc_iret hC rfl rfl dX9_catOn_29 h rfl
theorem rw_X9_catOn {l : Launch} (hl : l.stackTraces = false) (v1 : Int32) : rc_Cm l yX9_catOn (ws_ yX9_catOn cX9_catOn 2 (Option.some Jvm.ClassFile.FieldType.int)) 2 44 rc_tI (rp_X9_catOn v1) [rc_i v1] := by
  refine rc_Cm_H hl (plainFor_of_name rY_X9) rfl (Nat.le_of_ble_eq_true rfl) ?_
  intro Y S hC hH hF h
  have hC : rc_C Y cX9_catOn RX9 (Option.some Jvm.ClassFile.FieldType.int) 2 := hC
  show rc_Z Y S 0 [some (rc_q (some (rc_km (yr_K Y) 100))), some (rc_i v1)] []
  unfold rp_X9_catOn at h
  refine rc_aload_n (pc := 0) hC dX9_catOn_0 rfl rfl ?_
  refine rc_aload_n (pc := 1) hC dX9_catOn_1 rfl rfl ?_
  refine rc_iload_n (pc := 2) hC dX9_catOn_2 rfl rfl ?_
  refine rc_callM (pc := 3) hC (rw_X9_isChimney hH.1 v1) q2420 q2422 qs101 q149 q2423 rfl rd_X9_isChimney (hH.room (Nat.le_of_ble_eq_true rfl) (Nat.le_of_ble_eq_true rfl)) rfl rfl (Nat.le_of_ble_eq_true rfl) 1 rfl h.le.2.2 (Or.inl hF) h.br rfl dX9_catOn_3 ?_ (fun E q S hT => rc_out hC hH.2.2.2.2 hT)
  intro x1 S h
  show rc_Z Y S 6 [some (rc_q (some (rc_km (yr_K Y) 100))), some (rc_i v1)] [rc_i x1, rc_q (some (rc_km (yr_K Y) 100))]
  refine rc_if_ne (pc := 6) (tgt := 13) hC dX9_catOn_6 rfl h ?_ ?_
  · intro _ h
    refine rc_iconst (pc := 13) hC (v := (0 : Int32)) dX9_catOn_13 rfl ?_
    exact rw_X9_catOn_L14 hC hH hF  v1 (0 : Int32) S h
  intro _ h
  refine rc_iconst (pc := 9) hC (v := (1 : Int32)) dX9_catOn_9 rfl ?_
  refine rc_goto (pc := 10) (tgt := 14) hC dX9_catOn_10 rfl ?_
  exact rw_X9_catOn_L14 hC hH hF  v1 (1 : Int32) S h
theorem rw_X9_gutterEnds_L14 {Y : rc_Y} (hC : rc_C Y cX9_gutterEnds RX9 (Option.some Jvm.ClassFile.FieldType.int) 2) (hH : rc_H Y 2 43 yX9_gutterEnds.name) (hF : yr_F Y = true) (v1 : Int32) (s0 : Int32) (S : rc_S) (h : rc_Go Y rc_tI (rp_X9_gutterEnds_L14  v1 s0) S) : rc_Z Y S 14 [some (rc_q (some (rc_km (yr_K Y) 100))), some (rc_i v1)] [rc_i s0, rc_q (some (rc_km (yr_K Y) 100))] := by
  unfold rp_X9_gutterEnds_L14 at h
  refine rc_callM (pc := 14) hC (rw_X9_throwsOne hH.1 s0) q2392 q2394 qs97 q149 q2395 rfl rd_X9_throwsOne (hH.room (Nat.le_of_ble_eq_true rfl) (Nat.le_of_ble_eq_true rfl)) rfl rfl (Nat.le_of_ble_eq_true rfl) 1 rfl h.le.2.2 (Or.inl hF) h.br rfl dX9_gutterEnds_14 ?_ (fun E q S hT => rc_out hC hH.2.2.2.2 hT)
  intro x1 S h
  show rc_Z Y S 17 [some (rc_q (some (rc_km (yr_K Y) 100))), some (rc_i v1)] [rc_i x1]
  refine rc_if_eq (pc := 17) (tgt := 24) hC dX9_gutterEnds_17 rfl h ?_ ?_
  · intro _ h
    refine rc_iconst (pc := 24) hC (v := (1 : Int32)) dX9_gutterEnds_24 rfl ?_
    refine rc_aload_n (pc := 25) hC dX9_gutterEnds_25 rfl rfl ?_
    refine rc_iload_n (pc := 26) hC dX9_gutterEnds_26 rfl rfl ?_
    refine rc_iconst (pc := 27) hC (v := (0 : Int32)) dX9_gutterEnds_27 rfl ?_
    refine rc_callM (pc := 28) hC (rw_X9_gutter hH.1 v1 (0 : Int32)) q2152 q2154 qs59 q149 q2155 rfl rd_X9_gutter (hH.room (Nat.le_of_ble_eq_true rfl) (Nat.le_of_ble_eq_true rfl)) rfl rfl (Nat.le_of_ble_eq_true rfl) 2 rfl h.le.2.2 (Or.inl hF) h.br rfl dX9_gutterEnds_28 ?_ (fun E q S hT => rc_out hC hH.2.2.2.2 hT)
    intro x2 S h
    show rc_Z Y S 31 [some (rc_q (some (rc_km (yr_K Y) 100))), some (rc_i v1)] [rc_i x2, rc_i (1 : Int32)]
    refine rc_ishl (pc := 31) hC dX9_gutterEnds_31 ?_
    refine rc_iconst (pc := 32) hC (v := (1 : Int32)) dX9_gutterEnds_32 rfl ?_
    refine rc_aload_n (pc := 33) hC dX9_gutterEnds_33 rfl rfl ?_
    refine rc_iload_n (pc := 34) hC dX9_gutterEnds_34 rfl rfl ?_
    refine rc_iconst (pc := 35) hC (v := (1 : Int32)) dX9_gutterEnds_35 rfl ?_
    refine rc_callM (pc := 36) hC (rw_X9_gutter hH.1 v1 (1 : Int32)) q2152 q2154 qs59 q149 q2155 rfl rd_X9_gutter (hH.room (Nat.le_of_ble_eq_true rfl) (Nat.le_of_ble_eq_true rfl)) rfl rfl (Nat.le_of_ble_eq_true rfl) 2 rfl h.le.2.2 (Or.inl hF) h.br rfl dX9_gutterEnds_36 ?_ (fun E q S hT => rc_out hC hH.2.2.2.2 hT)
    intro x3 S h
    show rc_Z Y S 39 [some (rc_q (some (rc_km (yr_K Y) 100))), some (rc_i v1)] [rc_i x3, rc_i (1 : Int32), rc_i ((1 : Int32) <<< (x2 &&& 31))]
    refine rc_ishl (pc := 39) hC dX9_gutterEnds_39 ?_
    refine rc_ior (pc := 40) hC dX9_gutterEnds_40 ?_
    exact rc_iret hC rfl rfl dX9_gutterEnds_41 h rfl
  intro _ h
  refine rc_iconst (pc := 20) hC (v := (0 : Int32)) dX9_gutterEnds_20 rfl ?_
  refine rc_goto (pc := 21) (tgt := 41) hC dX9_gutterEnds_21 rfl ?_
  exact rc_iret hC rfl rfl dX9_gutterEnds_41 h rfl
theorem rw_X9_gutterEnds {l : Launch} (hl : l.stackTraces = false) (v1 : Int32) : rc_Cm l yX9_gutterEnds (ws_ yX9_gutterEnds cX9_gutterEnds 2 (Option.some Jvm.ClassFile.FieldType.int)) 2 43 rc_tI (rp_X9_gutterEnds v1) [rc_i v1] := by
  refine rc_Cm_H hl (plainFor_of_name rY_X9) rfl (Nat.le_of_ble_eq_true rfl) ?_
  intro Y S hC hH hF h
  have hC : rc_C Y cX9_gutterEnds RX9 (Option.some Jvm.ClassFile.FieldType.int) 2 := hC
  show rc_Z Y S 0 [some (rc_q (some (rc_km (yr_K Y) 100))), some (rc_i v1)] []
  unfold rp_X9_gutterEnds at h
  refine rc_aload_n (pc := 0) hC dX9_gutterEnds_0 rfl rfl ?_
  refine rc_aload_n (pc := 1) hC dX9_gutterEnds_1 rfl rfl ?_
  refine rc_iload_n (pc := 2) hC dX9_gutterEnds_2 rfl rfl ?_
  refine rc_callM (pc := 3) hC (rw_X9_isGutter hH.1 v1) q2443 q2445 qs104 q149 q2446 rfl rd_X9_isGutter (hH.room (Nat.le_of_ble_eq_true rfl) (Nat.le_of_ble_eq_true rfl)) rfl rfl (Nat.le_of_ble_eq_true rfl) 1 rfl h.le.2.2 (Or.inl hF) h.br rfl dX9_gutterEnds_3 ?_ (fun E q S hT => rc_out hC hH.2.2.2.2 hT)
  intro x1 S h
  show rc_Z Y S 6 [some (rc_q (some (rc_km (yr_K Y) 100))), some (rc_i v1)] [rc_i x1, rc_q (some (rc_km (yr_K Y) 100))]
  refine rc_if_ne (pc := 6) (tgt := 13) hC dX9_gutterEnds_6 rfl h ?_ ?_
  · intro _ h
    refine rc_iconst (pc := 13) hC (v := (0 : Int32)) dX9_gutterEnds_13 rfl ?_
    exact rw_X9_gutterEnds_L14 hC hH hF  v1 (0 : Int32) S h
  intro _ h
  refine rc_iconst (pc := 9) hC (v := (1 : Int32)) dX9_gutterEnds_9 rfl ?_
  refine rc_goto (pc := 10) (tgt := 14) hC dX9_gutterEnds_10 rfl ?_
  exact rw_X9_gutterEnds_L14 hC hH hF  v1 (1 : Int32) S h
theorem rw_X9_width_L14 {Y : rc_Y} (hC : rc_C Y cX9_width RX9 (Option.some Jvm.ClassFile.FieldType.int) 2) (hH : rc_H Y 2 43 yX9_width.name) (hF : yr_F Y = true) (v1 : Int32) (s0 : Int32) (S : rc_S) (h : rc_Go Y rc_tI (rp_X9_width_L14  v1 s0) S) : rc_Z Y S 14 [some (rc_q (some (rc_km (yr_K Y) 100))), some (rc_i v1)] [rc_i s0, rc_q (some (rc_km (yr_K Y) 100))] := by
  unfold rp_X9_width_L14 at h
  refine rc_callM (pc := 14) hC (rw_X9_throwsOne hH.1 s0) q2392 q2394 qs97 q149 q2395 rfl rd_X9_throwsOne (hH.room (Nat.le_of_ble_eq_true rfl) (Nat.le_of_ble_eq_true rfl)) rfl rfl (Nat.le_of_ble_eq_true rfl) 1 rfl h.le.2.2 (Or.inl hF) h.br rfl dX9_width_14 ?_ (fun E q S hT => rc_out hC hH.2.2.2.2 hT)
  intro x1 S h
  show rc_Z Y S 17 [some (rc_q (some (rc_km (yr_K Y) 100))), some (rc_i v1)] [rc_i x1]
  refine rc_if_eq (pc := 17) (tgt := 24) hC dX9_width_17 rfl h ?_ ?_
  · intro _ h
    refine rc_aload_n (pc := 24) hC dX9_width_24 rfl rfl ?_
    refine rc_iload_n (pc := 25) hC dX9_width_25 rfl rfl ?_
    refine rc_iconst (pc := 26) hC (v := (2 : Int32)) dX9_width_26 rfl ?_
    refine rc_callM (pc := 27) hC (rw_X9_gutter hH.1 v1 (2 : Int32)) q2152 q2154 qs59 q149 q2155 rfl rd_X9_gutter (hH.room (Nat.le_of_ble_eq_true rfl) (Nat.le_of_ble_eq_true rfl)) rfl rfl (Nat.le_of_ble_eq_true rfl) 2 rfl h.le.2.2 (Or.inl hF) h.br rfl dX9_width_27 ?_ (fun E q S hT => rc_out hC hH.2.2.2.2 hT)
    intro x2 S h
    show rc_Z Y S 30 [some (rc_q (some (rc_km (yr_K Y) 100))), some (rc_i v1)] [rc_i x2]
    exact rc_iret hC rfl rfl dX9_width_30 h rfl
  intro _ h
  refine rc_iconst (pc := 20) hC (v := (0 : Int32)) dX9_width_20 rfl ?_
  refine rc_goto (pc := 21) (tgt := 30) hC dX9_width_21 rfl ?_
  exact rc_iret hC rfl rfl dX9_width_30 h rfl
theorem rw_X9_width {l : Launch} (hl : l.stackTraces = false) (v1 : Int32) : rc_Cm l yX9_width (ws_ yX9_width cX9_width 2 (Option.some Jvm.ClassFile.FieldType.int)) 2 43 rc_tI (rp_X9_width v1) [rc_i v1] := by
  refine rc_Cm_H hl (plainFor_of_name rY_X9) rfl (Nat.le_of_ble_eq_true rfl) ?_
  intro Y S hC hH hF h
  have hC : rc_C Y cX9_width RX9 (Option.some Jvm.ClassFile.FieldType.int) 2 := hC
  show rc_Z Y S 0 [some (rc_q (some (rc_km (yr_K Y) 100))), some (rc_i v1)] []
  unfold rp_X9_width at h
  refine rc_aload_n (pc := 0) hC dX9_width_0 rfl rfl ?_
  refine rc_aload_n (pc := 1) hC dX9_width_1 rfl rfl ?_
  refine rc_iload_n (pc := 2) hC dX9_width_2 rfl rfl ?_
  refine rc_callM (pc := 3) hC (rw_X9_isGutter hH.1 v1) q2443 q2445 qs104 q149 q2446 rfl rd_X9_isGutter (hH.room (Nat.le_of_ble_eq_true rfl) (Nat.le_of_ble_eq_true rfl)) rfl rfl (Nat.le_of_ble_eq_true rfl) 1 rfl h.le.2.2 (Or.inl hF) h.br rfl dX9_width_3 ?_ (fun E q S hT => rc_out hC hH.2.2.2.2 hT)
  intro x1 S h
  show rc_Z Y S 6 [some (rc_q (some (rc_km (yr_K Y) 100))), some (rc_i v1)] [rc_i x1, rc_q (some (rc_km (yr_K Y) 100))]
  refine rc_if_ne (pc := 6) (tgt := 13) hC dX9_width_6 rfl h ?_ ?_
  · intro _ h
    refine rc_iconst (pc := 13) hC (v := (0 : Int32)) dX9_width_13 rfl ?_
    exact rw_X9_width_L14 hC hH hF  v1 (0 : Int32) S h
  intro _ h
  refine rc_iconst (pc := 9) hC (v := (1 : Int32)) dX9_width_9 rfl ?_
  refine rc_goto (pc := 10) (tgt := 14) hC dX9_width_10 rfl ?_
  exact rw_X9_width_L14 hC hH hF  v1 (1 : Int32) S h
theorem rw_X9_reachedBy_L78 {Y : rc_Y} (hC : rc_C Y cX9_reachedBy RX9 (Option.some Jvm.ClassFile.FieldType.int) 7) (hH : rc_H Y 1 22 yX9_reachedBy.name) (hF : yr_F Y = true) {k7 : Int32 → Int32 → Int32 → rc_M Int32} (hk7 : ∀ (v1 : Int32) (v3 : Int32) (v4 : Int32) (S : rc_S), rc_Go Y rc_tI (k7 v1 v3 v4) S → rc_Z Y S 7 [some (rc_q (some (rc_km (yr_K Y) 100))), some (rc_i v1), none, some (rc_i v3), some (rc_i v4), none, none] []) {k21 : Int32 → Int32 → Int32 → Int32 → rc_M Int32} (hk21 : ∀ (v1 : Int32) (v3 : Int32) (v4 : Int32) (v5 : Int32) (S : rc_S), rc_Go Y rc_tI (k21 v1 v3 v4 v5) S → rc_Z Y S 21 [some (rc_q (some (rc_km (yr_K Y) 100))), some (rc_i v1), none, some (rc_i v3), some (rc_i v4), some (rc_i v5), none] []) (v1 : Int32) (v4 : Int32) (v5 : Int32) (s0 : Int32) (s1 : Int32) (S : rc_S) (h : rc_Go Y rc_tI (rp_X9_reachedBy_L78 k7 k21 v1 v4 v5 s0 s1) S) : rc_Z Y S 78 [some (rc_q (some (rc_km (yr_K Y) 100))), some (rc_i v1), none, none, some (rc_i v4), some (rc_i v5), none] [rc_i s0, rc_i s1] := by
  unfold rp_X9_reachedBy_L78 at h
  refine rc_ior (pc := 78) hC dX9_reachedBy_78 ?_
  refine rc_istore_n (pc := 79) hC (L' := [some (rc_q (some (rc_km (yr_K Y) 100))), some (rc_i v1), none, some (rc_i (s1 ||| s0)), some (rc_i v4), some (rc_i v5), none]) dX9_reachedBy_79 rfl (Nat.le_of_ble_eq_true rfl) rfl rfl ?_
  refine rc_iinc (pc := 80) hC (v := (v5 + (1 : Int32))) (L' := [some (rc_q (some (rc_km (yr_K Y) 100))), some (rc_i v1), none, some (rc_i (s1 ||| s0)), some (rc_i v4), some (rc_i (v5 + (1 : Int32))), none]) dX9_reachedBy_80 rfl rfl rfl rfl ?_
  refine rc_goto (pc := 83) (tgt := 21) hC dX9_reachedBy_83 rfl ?_
  exact hk21 v1 (s1 ||| s0) v4 (v5 + (1 : Int32)) S h
theorem rw_X9_reachedBy_L77 {Y : rc_Y} (hC : rc_C Y cX9_reachedBy RX9 (Option.some Jvm.ClassFile.FieldType.int) 7) (hH : rc_H Y 1 22 yX9_reachedBy.name) (hF : yr_F Y = true) {k7 : Int32 → Int32 → Int32 → rc_M Int32} (hk7 : ∀ (v1 : Int32) (v3 : Int32) (v4 : Int32) (S : rc_S), rc_Go Y rc_tI (k7 v1 v3 v4) S → rc_Z Y S 7 [some (rc_q (some (rc_km (yr_K Y) 100))), some (rc_i v1), none, some (rc_i v3), some (rc_i v4), none, none] []) {k21 : Int32 → Int32 → Int32 → Int32 → rc_M Int32} (hk21 : ∀ (v1 : Int32) (v3 : Int32) (v4 : Int32) (v5 : Int32) (S : rc_S), rc_Go Y rc_tI (k21 v1 v3 v4 v5) S → rc_Z Y S 21 [some (rc_q (some (rc_km (yr_K Y) 100))), some (rc_i v1), none, some (rc_i v3), some (rc_i v4), some (rc_i v5), none] []) (v1 : Int32) (v4 : Int32) (v5 : Int32) (s0 : Int32) (S : rc_S) (h : rc_Go Y rc_tI (rp_X9_reachedBy_L77 k7 k21 v1 v4 v5 s0) S) : rc_Z Y S 77 [some (rc_q (some (rc_km (yr_K Y) 100))), some (rc_i v1), none, none, some (rc_i v4), some (rc_i v5), none] [rc_i s0] := by
  unfold rp_X9_reachedBy_L77 at h
  refine rc_iconst (pc := 77) hC (v := (0 : Int32)) dX9_reachedBy_77 rfl ?_
  exact rw_X9_reachedBy_L78 hC hH hF hk7 hk21 v1 v4 v5 (0 : Int32) s0 S h
theorem rw_X9_reachedBy_L21 {Y : rc_Y} (hC : rc_C Y cX9_reachedBy RX9 (Option.some Jvm.ClassFile.FieldType.int) 7) (hH : rc_H Y 1 22 yX9_reachedBy.name) (hF : yr_F Y = true) {k7 : Int32 → Int32 → Int32 → rc_M Int32} (hk7 : ∀ (v1 : Int32) (v3 : Int32) (v4 : Int32) (S : rc_S), rc_Go Y rc_tI (k7 v1 v3 v4) S → rc_Z Y S 7 [some (rc_q (some (rc_km (yr_K Y) 100))), some (rc_i v1), none, some (rc_i v3), some (rc_i v4), none, none] []) : ∀ (n : Nat) (v1 : Int32) (v3 : Int32) (v4 : Int32) (v5 : Int32) (S : rc_S), rc_Go Y rc_tI (rp_X9_reachedBy_L21 k7 n v1 v3 v4 v5) S → rc_Z Y S 21 [some (rc_q (some (rc_km (yr_K Y) 100))), some (rc_i v1), none, some (rc_i v3), some (rc_i v4), some (rc_i v5), none] [] := by
  intro n
  induction n with
  | zero => intro v1 v3 v4 v5 S h; exact h.fail.elim
  | succ n ih =>
    intro v1 v3 v4 v5 S h
    rw [rp_X9_reachedBy_L21] at h
    refine rc_iload (pc := 21) hC dX9_reachedBy_21 rfl ?_
    refine rc_aload_n (pc := 23) hC dX9_reachedBy_23 rfl rfl ?_
    refine rc_r_mref (pc := 24) hC hF rF_X9_7 (by decide) dX9_reachedBy_24 h ?_
    refine rc_iconst (pc := 27) hC (v := (1 : Int32)) dX9_reachedBy_27 rfl ?_
    refine rc_r_mald (pc := 28) hC hF (j := 0) (by decide) rfl dX9_reachedBy_28 h ?_
    intro x2 h
    refine rc_icmp_ge (pc := 29) (tgt := 86) hC dX9_reachedBy_29 rfl h ?_ ?_
    · intro _ h
      refine rc_iinc (pc := 86) hC (v := (v4 + (1 : Int32))) (L' := [some (rc_q (some (rc_km (yr_K Y) 100))), some (rc_i v1), none, some (rc_i v3), some (rc_i (v4 + (1 : Int32))), some (rc_i v5), none]) dX9_reachedBy_86 rfl rfl rfl rfl ?_
      refine rc_goto (pc := 89) (tgt := 7) hC dX9_reachedBy_89 rfl ?_
      refine rc_drop [true, true, false, true, true, false, false] (L' := [some (rc_q (some (rc_km (yr_K Y) 100))), some (rc_i v1), none, some (rc_i v3), some (rc_i (v4 + (1 : Int32))), none, none]) rfl ?_
      exact hk7 v1 v3 (v4 + (1 : Int32)) S h
    intro _ h
    refine rc_iconst (pc := 32) hC (v := (1 : Int32)) dX9_reachedBy_32 rfl ?_
    refine rc_aload_n (pc := 33) hC dX9_reachedBy_33 rfl rfl ?_
    refine rc_iload (pc := 34) hC dX9_reachedBy_34 rfl ?_
    refine rc_iconst (pc := 36) hC (v := (0 : Int32)) dX9_reachedBy_36 rfl ?_
    refine rc_callM (pc := 37) hC (rw_X9_gutter hH.1 v5 (0 : Int32)) q2152 q2154 qs59 q149 q2155 rfl rd_X9_gutter (hH.room (Nat.le_of_ble_eq_true rfl) (Nat.le_of_ble_eq_true rfl)) rfl rfl (Nat.le_of_ble_eq_true rfl) 2 rfl h.le.2.2 (Or.inl hF) h.br rfl dX9_reachedBy_37 ?_ (fun E q S hT => rc_out hC hH.2.2.2.2 hT)
    intro x3 S h
    show rc_Z Y S 40 [some (rc_q (some (rc_km (yr_K Y) 100))), some (rc_i v1), none, some (rc_i v3), some (rc_i v4), some (rc_i v5), none] [rc_i x3, rc_i (1 : Int32)]
    refine rc_ishl (pc := 40) hC dX9_reachedBy_40 ?_
    refine rc_iconst (pc := 41) hC (v := (1 : Int32)) dX9_reachedBy_41 rfl ?_
    refine rc_aload_n (pc := 42) hC dX9_reachedBy_42 rfl rfl ?_
    refine rc_iload (pc := 43) hC dX9_reachedBy_43 rfl ?_
    refine rc_iconst (pc := 45) hC (v := (1 : Int32)) dX9_reachedBy_45 rfl ?_
    refine rc_callM (pc := 46) hC (rw_X9_gutter hH.1 v5 (1 : Int32)) q2152 q2154 qs59 q149 q2155 rfl rd_X9_gutter (hH.room (Nat.le_of_ble_eq_true rfl) (Nat.le_of_ble_eq_true rfl)) rfl rfl (Nat.le_of_ble_eq_true rfl) 2 rfl h.le.2.2 (Or.inl hF) h.br rfl dX9_reachedBy_46 ?_ (fun E q S hT => rc_out hC hH.2.2.2.2 hT)
    intro x4 S h
    show rc_Z Y S 49 [some (rc_q (some (rc_km (yr_K Y) 100))), some (rc_i v1), none, some (rc_i v3), some (rc_i v4), some (rc_i v5), none] [rc_i x4, rc_i (1 : Int32), rc_i ((1 : Int32) <<< (x3 &&& 31))]
    refine rc_ishl (pc := 49) hC dX9_reachedBy_49 ?_
    refine rc_ior (pc := 50) hC dX9_reachedBy_50 ?_
    refine rc_istore (pc := 51) hC (L' := [some (rc_q (some (rc_km (yr_K Y) 100))), some (rc_i v1), none, some (rc_i v3), some (rc_i v4), some (rc_i v5), some (rc_i (((1 : Int32) <<< (x3 &&& 31)) ||| ((1 : Int32) <<< (x4 &&& 31))))]) dX9_reachedBy_51 (Nat.le_of_ble_eq_true rfl) rfl rfl ?_
    refine rc_iload_n (pc := 53) hC dX9_reachedBy_53 rfl rfl ?_
    refine rc_aload_n (pc := 54) hC dX9_reachedBy_54 rfl rfl ?_
    refine rc_iload (pc := 55) hC dX9_reachedBy_55 rfl ?_
    refine rc_iconst (pc := 57) hC (v := (2 : Int32)) dX9_reachedBy_57 rfl ?_
    refine rc_callM (pc := 58) hC (rw_X9_gutter hH.1 v5 (2 : Int32)) q2152 q2154 qs59 q149 q2155 rfl rd_X9_gutter (hH.room (Nat.le_of_ble_eq_true rfl) (Nat.le_of_ble_eq_true rfl)) rfl rfl (Nat.le_of_ble_eq_true rfl) 2 rfl h.le.2.2 (Or.inl hF) h.br rfl dX9_reachedBy_58 ?_ (fun E q S hT => rc_out hC hH.2.2.2.2 hT)
    intro x5 S h
    show rc_Z Y S 61 [some (rc_q (some (rc_km (yr_K Y) 100))), some (rc_i v1), none, some (rc_i v3), some (rc_i v4), some (rc_i v5), some (rc_i (((1 : Int32) <<< (x3 &&& 31)) ||| ((1 : Int32) <<< (x4 &&& 31))))] [rc_i x5, rc_i v3]
    refine rc_iload_n (pc := 61) hC dX9_reachedBy_61 rfl rfl ?_
    refine rc_icmp_lt (pc := 62) (tgt := 77) hC dX9_reachedBy_62 rfl h ?_ ?_
    · intro _ h
      refine rc_drop [true, true, false, false, true, true, false] (L' := [some (rc_q (some (rc_km (yr_K Y) 100))), some (rc_i v1), none, none, some (rc_i v4), some (rc_i v5), none]) rfl ?_
      exact rw_X9_reachedBy_L77 hC hH hF hk7 ih v1 v4 v5 v3 S h
    intro _ h
    refine rc_iload_n (pc := 65) hC dX9_reachedBy_65 rfl rfl ?_
    refine rc_iload (pc := 66) hC dX9_reachedBy_66 rfl ?_
    refine rc_iand (pc := 68) hC dX9_reachedBy_68 ?_
    refine rc_if_eq (pc := 69) (tgt := 77) hC dX9_reachedBy_69 rfl h ?_ ?_
    · intro _ h
      refine rc_drop [true, true, false, false, true, true, false] (L' := [some (rc_q (some (rc_km (yr_K Y) 100))), some (rc_i v1), none, none, some (rc_i v4), some (rc_i v5), none]) rfl ?_
      exact rw_X9_reachedBy_L77 hC hH hF hk7 ih v1 v4 v5 v3 S h
    intro _ h
    refine rc_iload (pc := 72) hC dX9_reachedBy_72 rfl ?_
    refine rc_goto (pc := 74) (tgt := 78) hC dX9_reachedBy_74 rfl ?_
    refine rc_drop [true, true, false, false, true, true, false] (L' := [some (rc_q (some (rc_km (yr_K Y) 100))), some (rc_i v1), none, none, some (rc_i v4), some (rc_i v5), none]) rfl ?_
    exact rw_X9_reachedBy_L78 hC hH hF hk7 ih v1 v4 v5 (((1 : Int32) <<< (x3 &&& 31)) ||| ((1 : Int32) <<< (x4 &&& 31))) v3 S h
theorem rw_X9_reachedBy_L7 {Y : rc_Y} (hC : rc_C Y cX9_reachedBy RX9 (Option.some Jvm.ClassFile.FieldType.int) 7) (hH : rc_H Y 1 22 yX9_reachedBy.name) (hF : yr_F Y = true) : ∀ (n : Nat) (v1 : Int32) (v3 : Int32) (v4 : Int32) (S : rc_S), rc_Go Y rc_tI (rp_X9_reachedBy_L7  n v1 v3 v4) S → rc_Z Y S 7 [some (rc_q (some (rc_km (yr_K Y) 100))), some (rc_i v1), none, some (rc_i v3), some (rc_i v4), none, none] [] := by
  intro n
  induction n with
  | zero => intro v1 v3 v4 S h; exact h.fail.elim
  | succ n ih =>
    intro v1 v3 v4 S h
    rw [rp_X9_reachedBy_L7] at h
    refine rc_iload (pc := 7) hC dX9_reachedBy_7 rfl ?_
    refine rc_aload_n (pc := 9) hC dX9_reachedBy_9 rfl rfl ?_
    refine rc_r_mref (pc := 10) hC hF rF_X9_7 (by decide) dX9_reachedBy_10 h ?_
    refine rc_iconst (pc := 13) hC (v := (0 : Int32)) dX9_reachedBy_13 rfl ?_
    refine rc_r_mald (pc := 14) hC hF (j := 0) (by decide) rfl dX9_reachedBy_14 h ?_
    intro x2 h
    refine rc_icmp_ge (pc := 15) (tgt := 92) hC dX9_reachedBy_15 rfl h ?_ ?_
    · intro _ h
      refine rc_iload_n (pc := 92) hC dX9_reachedBy_92 rfl rfl ?_
      exact rc_iret hC rfl rfl dX9_reachedBy_93 h rfl
    intro _ h
    refine rc_iconst (pc := 18) hC (v := (0 : Int32)) dX9_reachedBy_18 rfl ?_
    refine rc_istore (pc := 19) hC (L' := [some (rc_q (some (rc_km (yr_K Y) 100))), some (rc_i v1), none, some (rc_i v3), some (rc_i v4), some (rc_i (0 : Int32)), none]) dX9_reachedBy_19 (Nat.le_of_ble_eq_true rfl) rfl rfl ?_
    refine rc_r_fuel h ?_
    intro x3 h
    exact rw_X9_reachedBy_L21 hC hH hF ih x3 v1 v3 v4 (0 : Int32) S h
theorem rw_X9_reachedBy {l : Launch} (hl : l.stackTraces = false) (v1 : Int32) (v2 : Int32) : rc_Cm l yX9_reachedBy (ws_ yX9_reachedBy cX9_reachedBy 7 (Option.some Jvm.ClassFile.FieldType.int)) 1 22 rc_tI (rp_X9_reachedBy v1 v2) [rc_i v1, rc_i v2] := by
  refine rc_Cm_H hl (plainFor_of_name rY_X9) rfl (Nat.le_of_ble_eq_true rfl) ?_
  intro Y S hC hH hF h
  have hC : rc_C Y cX9_reachedBy RX9 (Option.some Jvm.ClassFile.FieldType.int) 7 := hC
  show rc_Z Y S 0 [some (rc_q (some (rc_km (yr_K Y) 100))), some (rc_i v1), some (rc_i v2), none, none, none, none] []
  unfold rp_X9_reachedBy at h
  refine rc_iconst (pc := 0) hC (v := (1 : Int32)) dX9_reachedBy_0 rfl ?_
  refine rc_iload_n (pc := 1) hC dX9_reachedBy_1 rfl rfl ?_
  refine rc_ishl (pc := 2) hC dX9_reachedBy_2 ?_
  refine rc_istore_n (pc := 3) hC (L' := [some (rc_q (some (rc_km (yr_K Y) 100))), some (rc_i v1), some (rc_i v2), some (rc_i ((1 : Int32) <<< (v2 &&& 31))), none, none, none]) dX9_reachedBy_3 rfl (Nat.le_of_ble_eq_true rfl) rfl rfl ?_
  refine rc_iconst (pc := 4) hC (v := (0 : Int32)) dX9_reachedBy_4 rfl ?_
  refine rc_istore (pc := 5) hC (L' := [some (rc_q (some (rc_km (yr_K Y) 100))), some (rc_i v1), some (rc_i v2), some (rc_i ((1 : Int32) <<< (v2 &&& 31))), some (rc_i (0 : Int32)), none, none]) dX9_reachedBy_5 (Nat.le_of_ble_eq_true rfl) rfl rfl ?_
  refine rc_drop [true, true, false, true, true, false, false] (L' := [some (rc_q (some (rc_km (yr_K Y) 100))), some (rc_i v1), none, some (rc_i ((1 : Int32) <<< (v2 &&& 31))), some (rc_i (0 : Int32)), none, none]) rfl ?_
  refine rc_r_fuel h ?_
  intro x1 h
  exact rw_X9_reachedBy_L7 hC hH hF  x1 v1 ((1 : Int32) <<< (v2 &&& 31)) (0 : Int32) S h
theorem rw_X9_widestWay_L33 {Y : rc_Y} (hC : rc_C Y cX9_widestWay RX9 (Option.some Jvm.ClassFile.FieldType.int) 4) (hH : rc_H Y 2 48 yX9_widestWay.name) (hF : yr_F Y = true) : ∀ (n : Nat) (v1 : Int32) (v2 : Int32) (v3 : Int32) (S : rc_S), rc_Go Y rc_tI (rp_X9_widestWay_L33  n v1 v2 v3) S → rc_Z Y S 33 [some (rc_q (some (rc_km (yr_K Y) 100))), some (rc_i v1), some (rc_i v2), some (rc_i v3)] [] := by
  intro n
  induction n with
  | zero => intro v1 v2 v3 S h; exact h.fail.elim
  | succ n ih =>
    intro v1 v2 v3 S h
    rw [rp_X9_widestWay_L33] at h
    refine rc_iload_n (pc := 33) hC dX9_widestWay_33 rfl rfl ?_
    refine rc_if_le (pc := 34) (tgt := 59) hC dX9_widestWay_34 rfl h ?_ ?_
    · intro _ h
      refine rc_iconst (pc := 59) hC (v := (-1 : Int32)) dX9_widestWay_59 rfl ?_
      exact rc_iret hC rfl rfl dX9_widestWay_60 h rfl
    intro _ h
    refine rc_aload_n (pc := 37) hC dX9_widestWay_37 rfl rfl ?_
    refine rc_iload_n (pc := 38) hC dX9_widestWay_38 rfl rfl ?_
    refine rc_iload_n (pc := 39) hC dX9_widestWay_39 rfl rfl ?_
    refine rc_callM (pc := 40) hC (rw_X9_reachedBy hH.1 v3 v1) q2551 q2553 qs107 q149 q2554 rfl rd_X9_reachedBy (hH.room (Nat.le_of_ble_eq_true rfl) (Nat.le_of_ble_eq_true rfl)) rfl rfl (Nat.le_of_ble_eq_true rfl) 2 rfl h.le.2.2 (Or.inl hF) h.br rfl dX9_widestWay_40 ?_ (fun E q S hT => rc_out hC hH.2.2.2.2 hT)
    intro x1 S h
    show rc_Z Y S 43 [some (rc_q (some (rc_km (yr_K Y) 100))), some (rc_i v1), some (rc_i v2), some (rc_i v3)] [rc_i x1]
    refine rc_iload_n (pc := 43) hC dX9_widestWay_43 rfl rfl ?_
    refine rc_ishr (pc := 44) hC dX9_widestWay_44 ?_
    refine rc_iconst (pc := 45) hC (v := (1 : Int32)) dX9_widestWay_45 rfl ?_
    refine rc_iand (pc := 46) hC dX9_widestWay_46 ?_
    refine rc_iconst (pc := 47) hC (v := (1 : Int32)) dX9_widestWay_47 rfl ?_
    refine rc_icmp_ne (pc := 48) (tgt := 53) hC dX9_widestWay_48 rfl h ?_ ?_
    · intro _ h
      refine rc_iinc (pc := 53) hC (v := (v3 + (-1 : Int32))) (L' := [some (rc_q (some (rc_km (yr_K Y) 100))), some (rc_i v1), some (rc_i v2), some (rc_i (v3 + (-1 : Int32)))]) dX9_widestWay_53 rfl rfl rfl rfl ?_
      refine rc_goto (pc := 56) (tgt := 33) hC dX9_widestWay_56 rfl ?_
      exact ih v1 v2 (v3 + (-1 : Int32)) S h
    intro _ h
    refine rc_iload_n (pc := 51) hC dX9_widestWay_51 rfl rfl ?_
    exact rc_iret hC rfl rfl dX9_widestWay_52 h rfl
theorem rw_X9_widestWay_L22 {Y : rc_Y} (hC : rc_C Y cX9_widestWay RX9 (Option.some Jvm.ClassFile.FieldType.int) 4) (hH : rc_H Y 2 48 yX9_widestWay.name) (hF : yr_F Y = true) (v1 : Int32) (v2 : Int32) (s0 : Int32) (S : rc_S) (h : rc_Go Y rc_tI (rp_X9_widestWay_L22  v1 v2 s0) S) : rc_Z Y S 22 [some (rc_q (some (rc_km (yr_K Y) 100))), some (rc_i v1), some (rc_i v2), none] [rc_i s0, rc_q (some (rc_km (yr_K Y) 100))] := by
  unfold rp_X9_widestWay_L22 at h
  refine rc_callM (pc := 22) hC (rw_X9_throwsOne hH.1 s0) q2392 q2394 qs97 q149 q2395 rfl rd_X9_throwsOne (hH.room (Nat.le_of_ble_eq_true rfl) (Nat.le_of_ble_eq_true rfl)) rfl rfl (Nat.le_of_ble_eq_true rfl) 1 rfl h.le.2.2 (Or.inl hF) h.br rfl dX9_widestWay_22 ?_ (fun E q S hT => rc_out hC hH.2.2.2.2 hT)
  intro x1 S h
  show rc_Z Y S 25 [some (rc_q (some (rc_km (yr_K Y) 100))), some (rc_i v1), some (rc_i v2), none] [rc_i x1]
  refine rc_if_eq (pc := 25) (tgt := 30) hC dX9_widestWay_25 rfl h ?_ ?_
  · intro _ h
    refine rc_bipush (pc := 30) hC (v := (9 : Int32)) dX9_widestWay_30 rfl ?_
    refine rc_istore_n (pc := 32) hC (L' := [some (rc_q (some (rc_km (yr_K Y) 100))), some (rc_i v1), some (rc_i v2), some (rc_i (9 : Int32))]) dX9_widestWay_32 rfl (Nat.le_of_ble_eq_true rfl) rfl rfl ?_
    refine rc_r_fuel h ?_
    intro x2 h
    exact rw_X9_widestWay_L33 hC hH hF  x2 v1 v2 (9 : Int32) S h
  intro _ h
  refine rc_iconst (pc := 28) hC (v := (0 : Int32)) dX9_widestWay_28 rfl ?_
  exact rc_iret hC rfl rfl dX9_widestWay_29 h rfl
theorem rw_X9_widestWay_L17 {Y : rc_Y} (hC : rc_C Y cX9_widestWay RX9 (Option.some Jvm.ClassFile.FieldType.int) 4) (hH : rc_H Y 2 48 yX9_widestWay.name) (hF : yr_F Y = true) (v1 : Int32) (v2 : Int32) (S : rc_S) (h : rc_Go Y rc_tI (rp_X9_widestWay_L17  v1 v2) S) : rc_Z Y S 17 [some (rc_q (some (rc_km (yr_K Y) 100))), some (rc_i v1), some (rc_i v2), none] [rc_q (some (rc_km (yr_K Y) 100))] := by
  unfold rp_X9_widestWay_L17 at h
  refine rc_iconst (pc := 17) hC (v := (1 : Int32)) dX9_widestWay_17 rfl ?_
  refine rc_goto (pc := 18) (tgt := 22) hC dX9_widestWay_18 rfl ?_
  exact rw_X9_widestWay_L22 hC hH hF  v1 v2 (1 : Int32) S h
theorem rw_X9_widestWay {l : Launch} (hl : l.stackTraces = false) (v1 : Int32) (v2 : Int32) : rc_Cm l yX9_widestWay (ws_ yX9_widestWay cX9_widestWay 4 (Option.some Jvm.ClassFile.FieldType.int)) 2 48 rc_tI (rp_X9_widestWay v1 v2) [rc_i v1, rc_i v2] := by
  refine rc_Cm_H hl (plainFor_of_name rY_X9) rfl (Nat.le_of_ble_eq_true rfl) ?_
  intro Y S hC hH hF h
  have hC : rc_C Y cX9_widestWay RX9 (Option.some Jvm.ClassFile.FieldType.int) 4 := hC
  show rc_Z Y S 0 [some (rc_q (some (rc_km (yr_K Y) 100))), some (rc_i v1), some (rc_i v2), none] []
  unfold rp_X9_widestWay at h
  refine rc_aload_n (pc := 0) hC dX9_widestWay_0 rfl rfl ?_
  refine rc_aload_n (pc := 1) hC dX9_widestWay_1 rfl rfl ?_
  refine rc_iload_n (pc := 2) hC dX9_widestWay_2 rfl rfl ?_
  refine rc_callM (pc := 3) hC (rw_X9_isChimney hH.1 v1) q2420 q2422 qs101 q149 q2423 rfl rd_X9_isChimney (hH.room (Nat.le_of_ble_eq_true rfl) (Nat.le_of_ble_eq_true rfl)) rfl rfl (Nat.le_of_ble_eq_true rfl) 1 rfl h.le.2.2 (Or.inl hF) h.br rfl dX9_widestWay_3 ?_ (fun E q S hT => rc_out hC hH.2.2.2.2 hT)
  intro x1 S h
  show rc_Z Y S 6 [some (rc_q (some (rc_km (yr_K Y) 100))), some (rc_i v1), some (rc_i v2), none] [rc_i x1, rc_q (some (rc_km (yr_K Y) 100))]
  refine rc_if_eq (pc := 6) (tgt := 17) hC dX9_widestWay_6 rfl h ?_ ?_
  · intro _ h
    exact rw_X9_widestWay_L17 hC hH hF  v1 v2 S h
  intro _ h
  refine rc_aload_n (pc := 9) hC dX9_widestWay_9 rfl rfl ?_
  refine rc_iload_n (pc := 10) hC dX9_widestWay_10 rfl rfl ?_
  refine rc_callM (pc := 11) hC (rw_X9_isChimney hH.1 v2) q2420 q2422 qs101 q149 q2423 rfl rd_X9_isChimney (hH.room (Nat.le_of_ble_eq_true rfl) (Nat.le_of_ble_eq_true rfl)) rfl rfl (Nat.le_of_ble_eq_true rfl) 1 rfl h.le.2.2 (Or.inl hF) h.br rfl dX9_widestWay_11 ?_ (fun E q S hT => rc_out hC hH.2.2.2.2 hT)
  intro x2 S h
  show rc_Z Y S 14 [some (rc_q (some (rc_km (yr_K Y) 100))), some (rc_i v1), some (rc_i v2), none] [rc_i x2, rc_q (some (rc_km (yr_K Y) 100))]
  refine rc_if_ne (pc := 14) (tgt := 21) hC dX9_widestWay_14 rfl h ?_ ?_
  · intro _ h
    refine rc_iconst (pc := 21) hC (v := (0 : Int32)) dX9_widestWay_21 rfl ?_
    exact rw_X9_widestWay_L22 hC hH hF  v1 v2 (0 : Int32) S h
  intro _ h
  exact rw_X9_widestWay_L17 hC hH hF  v1 v2 S h
theorem rw_X9_warmestFree {l : Launch} (hl : l.stackTraces = false) : rc_Cm l yX9_warmestFree (ws_ yX9_warmestFree cX9_warmestFree 1 (Option.some Jvm.ClassFile.FieldType.int)) 3 66 rc_tI (rp_X9_warmestFree ) [] := by
  refine rc_Cm_H hl (plainFor_of_name rY_X9) rfl (Nat.le_of_ble_eq_true rfl) ?_
  intro Y S hC hH hF h
  have hC : rc_C Y cX9_warmestFree RX9 (Option.some Jvm.ClassFile.FieldType.int) 1 := hC
  show rc_Z Y S 0 [some (rc_q (some (rc_km (yr_K Y) 100)))] []
  unfold rp_X9_warmestFree at h
  refine rc_aload_n (pc := 0) hC dX9_warmestFree_0 rfl rfl ?_
  refine rc_iconst (pc := 1) hC (v := (0 : Int32)) dX9_warmestFree_1 rfl ?_
  refine rc_r_mput (pc := 2) hC (Or.inl hF) rP_X9_57 rfl dX9_warmestFree_2 h ?_
  intro S h
  refine rc_aload_n (pc := 5) hC dX9_warmestFree_5 rfl rfl ?_
  refine rc_callM (pc := 6) hC (rw_X9_warmestPlace hH.1) q2269 q2271 qs88 q149 q2272 rfl rd_X9_warmestPlace (hH.room (Nat.le_of_ble_eq_true rfl) (Nat.le_of_ble_eq_true rfl)) rfl rfl (Nat.le_of_ble_eq_true rfl) 0 rfl h.le.2.2 (Or.inl hF) h.br rfl dX9_warmestFree_6 ?_ (fun E q S hT => rc_out hC hH.2.2.2.2 hT)
  intro x1 S h
  show rc_Z Y S 9 [some (rc_q (some (rc_km (yr_K Y) 100)))] [rc_i x1]
  exact rc_iret hC rfl rfl dX9_warmestFree_9 h rfl
theorem rw_X9_catTold_L14 {Y : rc_Y} (hC : rc_C Y cX9_catTold RX9 (Option.some Jvm.ClassFile.FieldType.int) 3) (hH : rc_H Y 2 43 yX9_catTold.name) (hF : yr_F Y = true) (v1 : Int32) (v2 : Int32) (s0 : Int32) (S : rc_S) (h : rc_Go Y rc_tI (rp_X9_catTold_L14  v1 v2 s0) S) : rc_Z Y S 14 [some (rc_q (some (rc_km (yr_K Y) 100))), some (rc_i v1), some (rc_i v2)] [rc_i s0, rc_q (some (rc_km (yr_K Y) 100))] := by
  unfold rp_X9_catTold_L14 at h
  refine rc_callM (pc := 14) hC (rw_X9_throwsOne hH.1 s0) q2392 q2394 qs97 q149 q2395 rfl rd_X9_throwsOne (hH.room (Nat.le_of_ble_eq_true rfl) (Nat.le_of_ble_eq_true rfl)) rfl rfl (Nat.le_of_ble_eq_true rfl) 1 rfl h.le.2.2 (Or.inl hF) h.br rfl dX9_catTold_14 ?_ (fun E q S hT => rc_out hC hH.2.2.2.2 hT)
  intro x1 S h
  show rc_Z Y S 17 [some (rc_q (some (rc_km (yr_K Y) 100))), some (rc_i v1), some (rc_i v2)] [rc_i x1]
  refine rc_if_eq (pc := 17) (tgt := 24) hC dX9_catTold_17 rfl h ?_ ?_
  · intro _ h
    refine rc_aload_n (pc := 24) hC dX9_catTold_24 rfl rfl ?_
    refine rc_iload_n (pc := 25) hC dX9_catTold_25 rfl rfl ?_
    refine rc_iload_n (pc := 26) hC dX9_catTold_26 rfl rfl ?_
    refine rc_callM (pc := 27) hC (rw_X9_of hH.1 v1 v2) q2124 q2126 qs52 q149 q2127 rfl rd_X9_of (hH.room (Nat.le_of_ble_eq_true rfl) (Nat.le_of_ble_eq_true rfl)) rfl rfl (Nat.le_of_ble_eq_true rfl) 2 rfl h.le.2.2 (Or.inl hF) h.br rfl dX9_catTold_27 ?_ (fun E q S hT => rc_out hC hH.2.2.2.2 hT)
    intro x2 S h
    show rc_Z Y S 30 [some (rc_q (some (rc_km (yr_K Y) 100))), some (rc_i v1), some (rc_i v2)] [rc_i x2]
    exact rc_iret hC rfl rfl dX9_catTold_30 h rfl
  intro _ h
  refine rc_iconst (pc := 20) hC (v := (0 : Int32)) dX9_catTold_20 rfl ?_
  refine rc_goto (pc := 21) (tgt := 30) hC dX9_catTold_21 rfl ?_
  exact rc_iret hC rfl rfl dX9_catTold_30 h rfl
theorem rw_X9_catTold {l : Launch} (hl : l.stackTraces = false) (v1 : Int32) (v2 : Int32) : rc_Cm l yX9_catTold (ws_ yX9_catTold cX9_catTold 3 (Option.some Jvm.ClassFile.FieldType.int)) 2 43 rc_tI (rp_X9_catTold v1 v2) [rc_i v1, rc_i v2] := by
  refine rc_Cm_H hl (plainFor_of_name rY_X9) rfl (Nat.le_of_ble_eq_true rfl) ?_
  intro Y S hC hH hF h
  have hC : rc_C Y cX9_catTold RX9 (Option.some Jvm.ClassFile.FieldType.int) 3 := hC
  show rc_Z Y S 0 [some (rc_q (some (rc_km (yr_K Y) 100))), some (rc_i v1), some (rc_i v2)] []
  unfold rp_X9_catTold at h
  refine rc_aload_n (pc := 0) hC dX9_catTold_0 rfl rfl ?_
  refine rc_aload_n (pc := 1) hC dX9_catTold_1 rfl rfl ?_
  refine rc_iload_n (pc := 2) hC dX9_catTold_2 rfl rfl ?_
  refine rc_callM (pc := 3) hC (rw_X9_isCat hH.1 v1) q2439 q2441 qs103 q149 q2442 rfl rd_X9_isCat (hH.room (Nat.le_of_ble_eq_true rfl) (Nat.le_of_ble_eq_true rfl)) rfl rfl (Nat.le_of_ble_eq_true rfl) 1 rfl h.le.2.2 (Or.inl hF) h.br rfl dX9_catTold_3 ?_ (fun E q S hT => rc_out hC hH.2.2.2.2 hT)
  intro x1 S h
  show rc_Z Y S 6 [some (rc_q (some (rc_km (yr_K Y) 100))), some (rc_i v1), some (rc_i v2)] [rc_i x1, rc_q (some (rc_km (yr_K Y) 100))]
  refine rc_if_ne (pc := 6) (tgt := 13) hC dX9_catTold_6 rfl h ?_ ?_
  · intro _ h
    refine rc_iconst (pc := 13) hC (v := (0 : Int32)) dX9_catTold_13 rfl ?_
    exact rw_X9_catTold_L14 hC hH hF  v1 v2 (0 : Int32) S h
  intro _ h
  refine rc_iconst (pc := 9) hC (v := (1 : Int32)) dX9_catTold_9 rfl ?_
  refine rc_goto (pc := 10) (tgt := 14) hC dX9_catTold_10 rfl ?_
  exact rw_X9_catTold_L14 hC hH hF  v1 v2 (1 : Int32) S h
theorem rw_X9_girth {l : Launch} (hl : l.stackTraces = false) (v1 : Int32) : rc_Cm l yX9_girth (ws_ yX9_girth cX9_girth 2 (Option.some Jvm.ClassFile.FieldType.int)) 3 65 rc_tI (rp_X9_girth v1) [rc_i v1] := by
  refine rc_Cm_H hl (plainFor_of_name rY_X9) rfl (Nat.le_of_ble_eq_true rfl) ?_
  intro Y S hC hH hF h
  have hC : rc_C Y cX9_girth RX9 (Option.some Jvm.ClassFile.FieldType.int) 2 := hC
  show rc_Z Y S 0 [some (rc_q (some (rc_km (yr_K Y) 100))), some (rc_i v1)] []
  unfold rp_X9_girth at h
  refine rc_aload_n (pc := 0) hC dX9_girth_0 rfl rfl ?_
  refine rc_iload_n (pc := 1) hC dX9_girth_1 rfl rfl ?_
  refine rc_iconst (pc := 2) hC (v := (0 : Int32)) dX9_girth_2 rfl ?_
  refine rc_callM (pc := 3) hC (rw_X9_catTold hH.1 v1 (0 : Int32)) q2563 q2565 qs108 q149 q2566 rfl rd_X9_catTold (hH.room (Nat.le_of_ble_eq_true rfl) (Nat.le_of_ble_eq_true rfl)) rfl rfl (Nat.le_of_ble_eq_true rfl) 2 rfl h.le.2.2 (Or.inl hF) h.br rfl dX9_girth_3 ?_ (fun E q S hT => rc_out hC hH.2.2.2.2 hT)
  intro x1 S h
  show rc_Z Y S 6 [some (rc_q (some (rc_km (yr_K Y) 100))), some (rc_i v1)] [rc_i x1]
  exact rc_iret hC rfl rfl dX9_girth_6 h rfl
theorem rw_X9_power_L14 {Y : rc_Y} (hC : rc_C Y cX9_power RX9 (Option.some Jvm.ClassFile.FieldType.int) 2) (hH : rc_H Y 3 64 yX9_power.name) (hF : yr_F Y = true) (v1 : Int32) (s0 : Int32) (S : rc_S) (h : rc_Go Y rc_tI (rp_X9_power_L14  v1 s0) S) : rc_Z Y S 14 [some (rc_q (some (rc_km (yr_K Y) 100))), some (rc_i v1)] [rc_i s0, rc_q (some (rc_km (yr_K Y) 100))] := by
  unfold rp_X9_power_L14 at h
  refine rc_callM (pc := 14) hC (rw_X9_throwsOne hH.1 s0) q2392 q2394 qs97 q149 q2395 rfl rd_X9_throwsOne (hH.room (Nat.le_of_ble_eq_true rfl) (Nat.le_of_ble_eq_true rfl)) rfl rfl (Nat.le_of_ble_eq_true rfl) 1 rfl h.le.2.2 (Or.inl hF) h.br rfl dX9_power_14 ?_ (fun E q S hT => rc_out hC hH.2.2.2.2 hT)
  intro x1 S h
  show rc_Z Y S 17 [some (rc_q (some (rc_km (yr_K Y) 100))), some (rc_i v1)] [rc_i x1]
  refine rc_if_eq (pc := 17) (tgt := 24) hC dX9_power_17 rfl h ?_ ?_
  · intro _ h
    refine rc_aload_n (pc := 24) hC dX9_power_24 rfl rfl ?_
    refine rc_iload_n (pc := 25) hC dX9_power_25 rfl rfl ?_
    refine rc_callM (pc := 26) hC (rw_X9_powerOf hH.1 v1) q2213 q2215 qs74 q149 q2216 rfl rd_X9_powerOf (hH.room (Nat.le_of_ble_eq_true rfl) (Nat.le_of_ble_eq_true rfl)) rfl rfl (Nat.le_of_ble_eq_true rfl) 1 rfl h.le.2.2 (Or.inl hF) h.br rfl dX9_power_26 ?_ (fun E q S hT => rc_out hC hH.2.2.2.2 hT)
    intro x2 S h
    show rc_Z Y S 29 [some (rc_q (some (rc_km (yr_K Y) 100))), some (rc_i v1)] [rc_i x2]
    exact rc_iret hC rfl rfl dX9_power_29 h rfl
  intro _ h
  refine rc_iconst (pc := 20) hC (v := (0 : Int32)) dX9_power_20 rfl ?_
  refine rc_goto (pc := 21) (tgt := 29) hC dX9_power_21 rfl ?_
  exact rc_iret hC rfl rfl dX9_power_29 h rfl
theorem rw_X9_power {l : Launch} (hl : l.stackTraces = false) (v1 : Int32) : rc_Cm l yX9_power (ws_ yX9_power cX9_power 2 (Option.some Jvm.ClassFile.FieldType.int)) 3 64 rc_tI (rp_X9_power v1) [rc_i v1] := by
  refine rc_Cm_H hl (plainFor_of_name rY_X9) rfl (Nat.le_of_ble_eq_true rfl) ?_
  intro Y S hC hH hF h
  have hC : rc_C Y cX9_power RX9 (Option.some Jvm.ClassFile.FieldType.int) 2 := hC
  show rc_Z Y S 0 [some (rc_q (some (rc_km (yr_K Y) 100))), some (rc_i v1)] []
  unfold rp_X9_power at h
  refine rc_aload_n (pc := 0) hC dX9_power_0 rfl rfl ?_
  refine rc_aload_n (pc := 1) hC dX9_power_1 rfl rfl ?_
  refine rc_iload_n (pc := 2) hC dX9_power_2 rfl rfl ?_
  refine rc_callM (pc := 3) hC (rw_X9_isCat hH.1 v1) q2439 q2441 qs103 q149 q2442 rfl rd_X9_isCat (hH.room (Nat.le_of_ble_eq_true rfl) (Nat.le_of_ble_eq_true rfl)) rfl rfl (Nat.le_of_ble_eq_true rfl) 1 rfl h.le.2.2 (Or.inl hF) h.br rfl dX9_power_3 ?_ (fun E q S hT => rc_out hC hH.2.2.2.2 hT)
  intro x1 S h
  show rc_Z Y S 6 [some (rc_q (some (rc_km (yr_K Y) 100))), some (rc_i v1)] [rc_i x1, rc_q (some (rc_km (yr_K Y) 100))]
  refine rc_if_ne (pc := 6) (tgt := 13) hC dX9_power_6 rfl h ?_ ?_
  · intro _ h
    refine rc_iconst (pc := 13) hC (v := (0 : Int32)) dX9_power_13 rfl ?_
    exact rw_X9_power_L14 hC hH hF  v1 (0 : Int32) S h
  intro _ h
  refine rc_iconst (pc := 9) hC (v := (1 : Int32)) dX9_power_9 rfl ?_
  refine rc_goto (pc := 10) (tgt := 14) hC dX9_power_10 rfl ?_
  exact rw_X9_power_L14 hC hH hF  v1 (1 : Int32) S h
theorem rw_X9_fish {l : Launch} (hl : l.stackTraces = false) (v1 : Int32) : rc_Cm l yX9_fish (ws_ yX9_fish cX9_fish 2 (Option.some Jvm.ClassFile.FieldType.int)) 3 65 rc_tI (rp_X9_fish v1) [rc_i v1] := by
  refine rc_Cm_H hl (plainFor_of_name rY_X9) rfl (Nat.le_of_ble_eq_true rfl) ?_
  intro Y S hC hH hF h
  have hC : rc_C Y cX9_fish RX9 (Option.some Jvm.ClassFile.FieldType.int) 2 := hC
  show rc_Z Y S 0 [some (rc_q (some (rc_km (yr_K Y) 100))), some (rc_i v1)] []
  unfold rp_X9_fish at h
  refine rc_aload_n (pc := 0) hC dX9_fish_0 rfl rfl ?_
  refine rc_iload_n (pc := 1) hC dX9_fish_1 rfl rfl ?_
  refine rc_iconst (pc := 2) hC (v := (2 : Int32)) dX9_fish_2 rfl ?_
  refine rc_callM (pc := 3) hC (rw_X9_catTold hH.1 v1 (2 : Int32)) q2563 q2565 qs108 q149 q2566 rfl rd_X9_catTold (hH.room (Nat.le_of_ble_eq_true rfl) (Nat.le_of_ble_eq_true rfl)) rfl rfl (Nat.le_of_ble_eq_true rfl) 2 rfl h.le.2.2 (Or.inl hF) h.br rfl dX9_fish_3 ?_ (fun E q S hT => rc_out hC hH.2.2.2.2 hT)
  intro x1 S h
  show rc_Z Y S 6 [some (rc_q (some (rc_km (yr_K Y) 100))), some (rc_i v1)] [rc_i x1]
  exact rc_iret hC rfl rfl dX9_fish_6 h rfl
theorem rw_X9_chimneyOf {l : Launch} (hl : l.stackTraces = false) (v1 : Int32) : rc_Cm l yX9_chimneyOf (ws_ yX9_chimneyOf cX9_chimneyOf 2 (Option.some Jvm.ClassFile.FieldType.int)) 3 65 rc_tI (rp_X9_chimneyOf v1) [rc_i v1] := by
  refine rc_Cm_H hl (plainFor_of_name rY_X9) rfl (Nat.le_of_ble_eq_true rfl) ?_
  intro Y S hC hH hF h
  have hC : rc_C Y cX9_chimneyOf RX9 (Option.some Jvm.ClassFile.FieldType.int) 2 := hC
  show rc_Z Y S 0 [some (rc_q (some (rc_km (yr_K Y) 100))), some (rc_i v1)] []
  unfold rp_X9_chimneyOf at h
  refine rc_aload_n (pc := 0) hC dX9_chimneyOf_0 rfl rfl ?_
  refine rc_iload_n (pc := 1) hC dX9_chimneyOf_1 rfl rfl ?_
  refine rc_iconst (pc := 2) hC (v := (3 : Int32)) dX9_chimneyOf_2 rfl ?_
  refine rc_callM (pc := 3) hC (rw_X9_catTold hH.1 v1 (3 : Int32)) q2563 q2565 qs108 q149 q2566 rfl rd_X9_catTold (hH.room (Nat.le_of_ble_eq_true rfl) (Nat.le_of_ble_eq_true rfl)) rfl rfl (Nat.le_of_ble_eq_true rfl) 2 rfl h.le.2.2 (Or.inl hF) h.br rfl dX9_chimneyOf_3 ?_ (fun E q S hT => rc_out hC hH.2.2.2.2 hT)
  intro x1 S h
  show rc_Z Y S 6 [some (rc_q (some (rc_km (yr_K Y) 100))), some (rc_i v1)] [rc_i x1]
  exact rc_iret hC rfl rfl dX9_chimneyOf_6 h rfl
theorem rw_X9_ownedChimneys_L53 {Y : rc_Y} (hC : rc_C Y cX9_ownedChimneys RX9 (Option.some Jvm.ClassFile.FieldType.int) 4) (hH : rc_H Y 2 43 yX9_ownedChimneys.name) (hF : yr_F Y = true) {k26 : Int32 → Int32 → Int32 → rc_M Int32} (hk26 : ∀ (v1 : Int32) (v2 : Int32) (v3 : Int32) (S : rc_S), rc_Go Y rc_tI (k26 v1 v2 v3) S → rc_Z Y S 26 [some (rc_q (some (rc_km (yr_K Y) 100))), some (rc_i v1), some (rc_i v2), some (rc_i v3)] []) (v1 : Int32) (v3 : Int32) (s0 : Int32) (s1 : Int32) (S : rc_S) (h : rc_Go Y rc_tI (rp_X9_ownedChimneys_L53 k26 v1 v3 s0 s1) S) : rc_Z Y S 53 [some (rc_q (some (rc_km (yr_K Y) 100))), some (rc_i v1), none, some (rc_i v3)] [rc_i s0, rc_i s1] := by
  unfold rp_X9_ownedChimneys_L53 at h
  refine rc_ior (pc := 53) hC dX9_ownedChimneys_53 ?_
  refine rc_istore_n (pc := 54) hC (L' := [some (rc_q (some (rc_km (yr_K Y) 100))), some (rc_i v1), some (rc_i (s1 ||| s0)), some (rc_i v3)]) dX9_ownedChimneys_54 rfl (Nat.le_of_ble_eq_true rfl) rfl rfl ?_
  refine rc_iinc (pc := 55) hC (v := (v3 + (1 : Int32))) (L' := [some (rc_q (some (rc_km (yr_K Y) 100))), some (rc_i v1), some (rc_i (s1 ||| s0)), some (rc_i (v3 + (1 : Int32)))]) dX9_ownedChimneys_55 rfl rfl rfl rfl ?_
  refine rc_goto (pc := 58) (tgt := 26) hC dX9_ownedChimneys_58 rfl ?_
  exact hk26 v1 (s1 ||| s0) (v3 + (1 : Int32)) S h
theorem rw_X9_ownedChimneys_L26 {Y : rc_Y} (hC : rc_C Y cX9_ownedChimneys RX9 (Option.some Jvm.ClassFile.FieldType.int) 4) (hH : rc_H Y 2 43 yX9_ownedChimneys.name) (hF : yr_F Y = true) : ∀ (n : Nat) (v1 : Int32) (v2 : Int32) (v3 : Int32) (S : rc_S), rc_Go Y rc_tI (rp_X9_ownedChimneys_L26  n v1 v2 v3) S → rc_Z Y S 26 [some (rc_q (some (rc_km (yr_K Y) 100))), some (rc_i v1), some (rc_i v2), some (rc_i v3)] [] := by
  intro n
  induction n with
  | zero => intro v1 v2 v3 S h; exact h.fail.elim
  | succ n ih =>
    intro v1 v2 v3 S h
    rw [rp_X9_ownedChimneys_L26] at h
    refine rc_iload_n (pc := 26) hC dX9_ownedChimneys_26 rfl rfl ?_
    refine rc_aload_n (pc := 27) hC dX9_ownedChimneys_27 rfl rfl ?_
    refine rc_r_mref (pc := 28) hC hF rF_X9_7 (by decide) dX9_ownedChimneys_28 h ?_
    refine rc_iconst (pc := 31) hC (v := (0 : Int32)) dX9_ownedChimneys_31 rfl ?_
    refine rc_r_mald (pc := 32) hC hF (j := 0) (by decide) rfl dX9_ownedChimneys_32 h ?_
    intro x2 h
    refine rc_icmp_ge (pc := 33) (tgt := 61) hC dX9_ownedChimneys_33 rfl h ?_ ?_
    · intro _ h
      refine rc_iload_n (pc := 61) hC dX9_ownedChimneys_61 rfl rfl ?_
      exact rc_iret hC rfl rfl dX9_ownedChimneys_62 h rfl
    intro _ h
    refine rc_iload_n (pc := 36) hC dX9_ownedChimneys_36 rfl rfl ?_
    refine rc_aload_n (pc := 37) hC dX9_ownedChimneys_37 rfl rfl ?_
    refine rc_iload_n (pc := 38) hC dX9_ownedChimneys_38 rfl rfl ?_
    refine rc_callM (pc := 39) hC (rw_X9_owner hH.1 v3) q2160 q2162 qs61 q149 q2163 rfl rd_X9_owner (hH.room (Nat.le_of_ble_eq_true rfl) (Nat.le_of_ble_eq_true rfl)) rfl rfl (Nat.le_of_ble_eq_true rfl) 1 rfl h.le.2.2 (Or.inl hF) h.br rfl dX9_ownedChimneys_39 ?_ (fun E q S hT => rc_out hC hH.2.2.2.2 hT)
    intro x3 S h
    show rc_Z Y S 42 [some (rc_q (some (rc_km (yr_K Y) 100))), some (rc_i v1), some (rc_i v2), some (rc_i v3)] [rc_i x3, rc_i v2]
    refine rc_iload_n (pc := 42) hC dX9_ownedChimneys_42 rfl rfl ?_
    refine rc_icmp_ne (pc := 43) (tgt := 52) hC dX9_ownedChimneys_43 rfl h ?_ ?_
    · intro _ h
      refine rc_iconst (pc := 52) hC (v := (0 : Int32)) dX9_ownedChimneys_52 rfl ?_
      refine rc_drop [true, true, false, true] (L' := [some (rc_q (some (rc_km (yr_K Y) 100))), some (rc_i v1), none, some (rc_i v3)]) rfl ?_
      exact rw_X9_ownedChimneys_L53 hC hH hF ih v1 v3 (0 : Int32) v2 S h
    intro _ h
    refine rc_iconst (pc := 46) hC (v := (1 : Int32)) dX9_ownedChimneys_46 rfl ?_
    refine rc_iload_n (pc := 47) hC dX9_ownedChimneys_47 rfl rfl ?_
    refine rc_ishl (pc := 48) hC dX9_ownedChimneys_48 ?_
    refine rc_goto (pc := 49) (tgt := 53) hC dX9_ownedChimneys_49 rfl ?_
    refine rc_drop [true, true, false, true] (L' := [some (rc_q (some (rc_km (yr_K Y) 100))), some (rc_i v1), none, some (rc_i v3)]) rfl ?_
    exact rw_X9_ownedChimneys_L53 hC hH hF ih v1 v3 ((1 : Int32) <<< (v3 &&& 31)) v2 S h
theorem rw_X9_ownedChimneys_L14 {Y : rc_Y} (hC : rc_C Y cX9_ownedChimneys RX9 (Option.some Jvm.ClassFile.FieldType.int) 4) (hH : rc_H Y 2 43 yX9_ownedChimneys.name) (hF : yr_F Y = true) (v1 : Int32) (s0 : Int32) (S : rc_S) (h : rc_Go Y rc_tI (rp_X9_ownedChimneys_L14  v1 s0) S) : rc_Z Y S 14 [some (rc_q (some (rc_km (yr_K Y) 100))), some (rc_i v1), none, none] [rc_i s0, rc_q (some (rc_km (yr_K Y) 100))] := by
  unfold rp_X9_ownedChimneys_L14 at h
  refine rc_callM (pc := 14) hC (rw_X9_throwsOne hH.1 s0) q2392 q2394 qs97 q149 q2395 rfl rd_X9_throwsOne (hH.room (Nat.le_of_ble_eq_true rfl) (Nat.le_of_ble_eq_true rfl)) rfl rfl (Nat.le_of_ble_eq_true rfl) 1 rfl h.le.2.2 (Or.inl hF) h.br rfl dX9_ownedChimneys_14 ?_ (fun E q S hT => rc_out hC hH.2.2.2.2 hT)
  intro x1 S h
  show rc_Z Y S 17 [some (rc_q (some (rc_km (yr_K Y) 100))), some (rc_i v1), none, none] [rc_i x1]
  refine rc_if_eq (pc := 17) (tgt := 22) hC dX9_ownedChimneys_17 rfl h ?_ ?_
  · intro _ h
    refine rc_iconst (pc := 22) hC (v := (0 : Int32)) dX9_ownedChimneys_22 rfl ?_
    refine rc_istore_n (pc := 23) hC (L' := [some (rc_q (some (rc_km (yr_K Y) 100))), some (rc_i v1), some (rc_i (0 : Int32)), none]) dX9_ownedChimneys_23 rfl (Nat.le_of_ble_eq_true rfl) rfl rfl ?_
    refine rc_iconst (pc := 24) hC (v := (0 : Int32)) dX9_ownedChimneys_24 rfl ?_
    refine rc_istore_n (pc := 25) hC (L' := [some (rc_q (some (rc_km (yr_K Y) 100))), some (rc_i v1), some (rc_i (0 : Int32)), some (rc_i (0 : Int32))]) dX9_ownedChimneys_25 rfl (Nat.le_of_ble_eq_true rfl) rfl rfl ?_
    refine rc_r_fuel h ?_
    intro x2 h
    exact rw_X9_ownedChimneys_L26 hC hH hF  x2 v1 (0 : Int32) (0 : Int32) S h
  intro _ h
  refine rc_iconst (pc := 20) hC (v := (0 : Int32)) dX9_ownedChimneys_20 rfl ?_
  exact rc_iret hC rfl rfl dX9_ownedChimneys_21 h rfl
theorem rw_X9_ownedChimneys {l : Launch} (hl : l.stackTraces = false) (v1 : Int32) : rc_Cm l yX9_ownedChimneys (ws_ yX9_ownedChimneys cX9_ownedChimneys 4 (Option.some Jvm.ClassFile.FieldType.int)) 2 43 rc_tI (rp_X9_ownedChimneys v1) [rc_i v1] := by
  refine rc_Cm_H hl (plainFor_of_name rY_X9) rfl (Nat.le_of_ble_eq_true rfl) ?_
  intro Y S hC hH hF h
  have hC : rc_C Y cX9_ownedChimneys RX9 (Option.some Jvm.ClassFile.FieldType.int) 4 := hC
  show rc_Z Y S 0 [some (rc_q (some (rc_km (yr_K Y) 100))), some (rc_i v1), none, none] []
  unfold rp_X9_ownedChimneys at h
  refine rc_aload_n (pc := 0) hC dX9_ownedChimneys_0 rfl rfl ?_
  refine rc_aload_n (pc := 1) hC dX9_ownedChimneys_1 rfl rfl ?_
  refine rc_iload_n (pc := 2) hC dX9_ownedChimneys_2 rfl rfl ?_
  refine rc_callM (pc := 3) hC (rw_X9_isCat hH.1 v1) q2439 q2441 qs103 q149 q2442 rfl rd_X9_isCat (hH.room (Nat.le_of_ble_eq_true rfl) (Nat.le_of_ble_eq_true rfl)) rfl rfl (Nat.le_of_ble_eq_true rfl) 1 rfl h.le.2.2 (Or.inl hF) h.br rfl dX9_ownedChimneys_3 ?_ (fun E q S hT => rc_out hC hH.2.2.2.2 hT)
  intro x1 S h
  show rc_Z Y S 6 [some (rc_q (some (rc_km (yr_K Y) 100))), some (rc_i v1), none, none] [rc_i x1, rc_q (some (rc_km (yr_K Y) 100))]
  refine rc_if_ne (pc := 6) (tgt := 13) hC dX9_ownedChimneys_6 rfl h ?_ ?_
  · intro _ h
    refine rc_iconst (pc := 13) hC (v := (0 : Int32)) dX9_ownedChimneys_13 rfl ?_
    exact rw_X9_ownedChimneys_L14 hC hH hF  v1 (0 : Int32) S h
  intro _ h
  refine rc_iconst (pc := 9) hC (v := (1 : Int32)) dX9_ownedChimneys_9 rfl ?_
  refine rc_goto (pc := 10) (tgt := 14) hC dX9_ownedChimneys_10 rfl ?_
  exact rw_X9_ownedChimneys_L14 hC hH hF  v1 (1 : Int32) S h
theorem rw_X9_truceNights_L25 {Y : rc_Y} (hC : rc_C Y cX9_truceNights RX9 (Option.some Jvm.ClassFile.FieldType.int) 3) (hH : rc_H Y 3 65 yX9_truceNights.name) (hF : yr_F Y = true) (v1 : Int32) (v2 : Int32) (s0 : Int32) (s1 : Int32) (S : rc_S) (h : rc_Go Y rc_tI (rp_X9_truceNights_L25  v1 v2 s0 s1) S) : rc_Z Y S 25 [some (rc_q (some (rc_km (yr_K Y) 100))), some (rc_i v1), some (rc_i v2)] [rc_i s0, rc_i s1, rc_q (some (rc_km (yr_K Y) 100))] := by
  unfold rp_X9_truceNights_L25 at h
  refine rc_callM (pc := 25) hC (rw_X9_throwsOne_2 hH.1 s1 s0) q2412 q2414 qs100 q149 q2415 rfl rd_X9_throwsOne_2 (hH.room (Nat.le_of_ble_eq_true rfl) (Nat.le_of_ble_eq_true rfl)) rfl rfl (Nat.le_of_ble_eq_true rfl) 2 rfl h.le.2.2 (Or.inl hF) h.br rfl dX9_truceNights_25 ?_ (fun E q S hT => rc_out hC hH.2.2.2.2 hT)
  intro x1 S h
  show rc_Z Y S 28 [some (rc_q (some (rc_km (yr_K Y) 100))), some (rc_i v1), some (rc_i v2)] [rc_i x1]
  refine rc_if_eq (pc := 28) (tgt := 35) hC dX9_truceNights_28 rfl h ?_ ?_
  · intro _ h
    refine rc_aload_n (pc := 35) hC dX9_truceNights_35 rfl rfl ?_
    refine rc_iload_n (pc := 36) hC dX9_truceNights_36 rfl rfl ?_
    refine rc_iload_n (pc := 37) hC dX9_truceNights_37 rfl rfl ?_
    refine rc_callM (pc := 38) hC (rw_X9_truceLeft hH.1 v1 v2) q2164 q2166 qs62 q149 q2167 rfl rd_X9_truceLeft (hH.room (Nat.le_of_ble_eq_true rfl) (Nat.le_of_ble_eq_true rfl)) rfl rfl (Nat.le_of_ble_eq_true rfl) 2 rfl h.le.2.2 (Or.inl hF) h.br rfl dX9_truceNights_38 ?_ (fun E q S hT => rc_out hC hH.2.2.2.2 hT)
    intro x2 S h
    show rc_Z Y S 41 [some (rc_q (some (rc_km (yr_K Y) 100))), some (rc_i v1), some (rc_i v2)] [rc_i x2]
    exact rc_iret hC rfl rfl dX9_truceNights_41 h rfl
  intro _ h
  refine rc_iconst (pc := 31) hC (v := (0 : Int32)) dX9_truceNights_31 rfl ?_
  refine rc_goto (pc := 32) (tgt := 41) hC dX9_truceNights_32 rfl ?_
  exact rc_iret hC rfl rfl dX9_truceNights_41 h rfl
theorem rw_X9_truceNights_L15 {Y : rc_Y} (hC : rc_C Y cX9_truceNights RX9 (Option.some Jvm.ClassFile.FieldType.int) 3) (hH : rc_H Y 3 65 yX9_truceNights.name) (hF : yr_F Y = true) (v1 : Int32) (v2 : Int32) (s0 : Int32) (S : rc_S) (h : rc_Go Y rc_tI (rp_X9_truceNights_L15  v1 v2 s0) S) : rc_Z Y S 15 [some (rc_q (some (rc_km (yr_K Y) 100))), some (rc_i v1), some (rc_i v2)] [rc_i s0, rc_q (some (rc_km (yr_K Y) 100))] := by
  unfold rp_X9_truceNights_L15 at h
  refine rc_iload_n (pc := 15) hC dX9_truceNights_15 rfl rfl ?_
  refine rc_iload_n (pc := 16) hC dX9_truceNights_16 rfl rfl ?_
  refine rc_icmp_ne (pc := 17) (tgt := 24) hC dX9_truceNights_17 rfl h ?_ ?_
  · intro _ h
    refine rc_iconst (pc := 24) hC (v := (0 : Int32)) dX9_truceNights_24 rfl ?_
    exact rw_X9_truceNights_L25 hC hH hF  v1 v2 (0 : Int32) s0 S h
  intro _ h
  refine rc_iconst (pc := 20) hC (v := (1 : Int32)) dX9_truceNights_20 rfl ?_
  refine rc_goto (pc := 21) (tgt := 25) hC dX9_truceNights_21 rfl ?_
  exact rw_X9_truceNights_L25 hC hH hF  v1 v2 (1 : Int32) s0 S h
theorem rw_X9_truceNights {l : Launch} (hl : l.stackTraces = false) (v1 : Int32) (v2 : Int32) : rc_Cm l yX9_truceNights (ws_ yX9_truceNights cX9_truceNights 3 (Option.some Jvm.ClassFile.FieldType.int)) 3 65 rc_tI (rp_X9_truceNights v1 v2) [rc_i v1, rc_i v2] := by
  refine rc_Cm_H hl (plainFor_of_name rY_X9) rfl (Nat.le_of_ble_eq_true rfl) ?_
  intro Y S hC hH hF h
  have hC : rc_C Y cX9_truceNights RX9 (Option.some Jvm.ClassFile.FieldType.int) 3 := hC
  show rc_Z Y S 0 [some (rc_q (some (rc_km (yr_K Y) 100))), some (rc_i v1), some (rc_i v2)] []
  unfold rp_X9_truceNights at h
  refine rc_aload_n (pc := 0) hC dX9_truceNights_0 rfl rfl ?_
  refine rc_aload_n (pc := 1) hC dX9_truceNights_1 rfl rfl ?_
  refine rc_iload_n (pc := 2) hC dX9_truceNights_2 rfl rfl ?_
  refine rc_iload_n (pc := 3) hC dX9_truceNights_3 rfl rfl ?_
  refine rc_callM (pc := 4) hC (rw_X9_areCats hH.1 v1 v2) q2459 q2461 qs105 q149 q2462 rfl rd_X9_areCats (hH.room (Nat.le_of_ble_eq_true rfl) (Nat.le_of_ble_eq_true rfl)) rfl rfl (Nat.le_of_ble_eq_true rfl) 2 rfl h.le.2.2 (Or.inl hF) h.br rfl dX9_truceNights_4 ?_ (fun E q S hT => rc_out hC hH.2.2.2.2 hT)
  intro x1 S h
  show rc_Z Y S 7 [some (rc_q (some (rc_km (yr_K Y) 100))), some (rc_i v1), some (rc_i v2)] [rc_i x1, rc_q (some (rc_km (yr_K Y) 100))]
  refine rc_if_ne (pc := 7) (tgt := 14) hC dX9_truceNights_7 rfl h ?_ ?_
  · intro _ h
    refine rc_iconst (pc := 14) hC (v := (0 : Int32)) dX9_truceNights_14 rfl ?_
    exact rw_X9_truceNights_L15 hC hH hF  v1 v2 (0 : Int32) S h
  intro _ h
  refine rc_iconst (pc := 10) hC (v := (1 : Int32)) dX9_truceNights_10 rfl ?_
  refine rc_goto (pc := 11) (tgt := 15) hC dX9_truceNights_11 rfl ?_
  exact rw_X9_truceNights_L15 hC hH hF  v1 v2 (1 : Int32) S h
theorem rw_X9_spreads_L74 {Y : rc_Y} (hC : rc_C Y cX9_spreads RX9 (Option.none : Option Jvm.ClassFile.FieldType) 6) (hH : rc_H Y 3 68 yX9_spreads.name) (hF : yr_F Y = true) {k3 : Int32 → Int32 → Int32 → Int32 → rc_M Unit} (hk3 : ∀ (v1 : Int32) (v2 : Int32) (v3 : Int32) (v4 : Int32) (S : rc_S), rc_Go Y rc_tU (k3 v1 v2 v3 v4) S → rc_Z Y S 3 [some (rc_q (some (rc_km (yr_K Y) 100))), some (rc_i v1), some (rc_i v2), some (rc_i v3), some (rc_i v4), none] []) (v1 : Int32) (v2 : Int32) (v3 : Int32) (v4 : Int32) (S : rc_S) (h : rc_Go Y rc_tU (rp_X9_spreads_L74 k3 v1 v2 v3 v4) S) : rc_Z Y S 74 [some (rc_q (some (rc_km (yr_K Y) 100))), some (rc_i v1), some (rc_i v2), some (rc_i v3), some (rc_i v4), none] [] := by
  unfold rp_X9_spreads_L74 at h
  refine rc_iinc (pc := 74) hC (v := (v4 + (1 : Int32))) (L' := [some (rc_q (some (rc_km (yr_K Y) 100))), some (rc_i v1), some (rc_i v2), some (rc_i v3), some (rc_i (v4 + (1 : Int32))), none]) dX9_spreads_74 rfl rfl rfl rfl ?_
  refine rc_goto (pc := 77) (tgt := 3) hC dX9_spreads_77 rfl ?_
  exact hk3 v1 v2 v3 (v4 + (1 : Int32)) S h
theorem rw_X9_spreads_L3 {Y : rc_Y} (hC : rc_C Y cX9_spreads RX9 (Option.none : Option Jvm.ClassFile.FieldType) 6) (hH : rc_H Y 3 68 yX9_spreads.name) (hF : yr_F Y = true) : ∀ (n : Nat) (v1 : Int32) (v2 : Int32) (v3 : Int32) (v4 : Int32) (S : rc_S), rc_Go Y rc_tU (rp_X9_spreads_L3  n v1 v2 v3 v4) S → rc_Z Y S 3 [some (rc_q (some (rc_km (yr_K Y) 100))), some (rc_i v1), some (rc_i v2), some (rc_i v3), some (rc_i v4), none] [] := by
  intro n
  induction n with
  | zero => intro v1 v2 v3 v4 S h; exact h.fail.elim
  | succ n ih =>
    intro v1 v2 v3 v4 S h
    rw [rp_X9_spreads_L3] at h
    refine rc_iload (pc := 3) hC dX9_spreads_3 rfl ?_
    refine rc_aload_n (pc := 5) hC dX9_spreads_5 rfl rfl ?_
    refine rc_r_mref (pc := 6) hC hF rF_X9_7 (by decide) dX9_spreads_6 h ?_
    refine rc_iconst (pc := 9) hC (v := (1 : Int32)) dX9_spreads_9 rfl ?_
    refine rc_r_mald (pc := 10) hC hF (j := 0) (by decide) rfl dX9_spreads_10 h ?_
    intro x2 h
    refine rc_icmp_ge (pc := 11) (tgt := 80) hC dX9_spreads_11 rfl h ?_ ?_
    · intro _ h
      exact rc_vret hC rfl dX9_spreads_80 h rfl
    intro _ h
    refine rc_aload_n (pc := 14) hC dX9_spreads_14 rfl rfl ?_
    refine rc_iload (pc := 15) hC dX9_spreads_15 rfl ?_
    refine rc_iload_n (pc := 17) hC dX9_spreads_17 rfl rfl ?_
    refine rc_callM (pc := 18) hC (rw_X9_across hH.1 v4 v2) q2148 q2150 qs58 q149 q2151 rfl rd_X9_across (hH.room (Nat.le_of_ble_eq_true rfl) (Nat.le_of_ble_eq_true rfl)) rfl rfl (Nat.le_of_ble_eq_true rfl) 2 rfl h.le.2.2 (Or.inl hF) h.br rfl dX9_spreads_18 ?_ (fun E q S hT => rc_out hC hH.2.2.2.2 hT)
    intro x3 S h
    show rc_Z Y S 21 [some (rc_q (some (rc_km (yr_K Y) 100))), some (rc_i v1), some (rc_i v2), some (rc_i v3), some (rc_i v4), none] [rc_i x3]
    refine rc_istore (pc := 21) hC (L' := [some (rc_q (some (rc_km (yr_K Y) 100))), some (rc_i v1), some (rc_i v2), some (rc_i v3), some (rc_i v4), some (rc_i x3)]) dX9_spreads_21 (Nat.le_of_ble_eq_true rfl) rfl rfl ?_
    refine rc_iload (pc := 23) hC dX9_spreads_23 rfl ?_
    refine rc_iconst (pc := 25) hC (v := (-1 : Int32)) dX9_spreads_25 rfl ?_
    refine rc_icmp_eq (pc := 26) (tgt := 74) hC dX9_spreads_26 rfl h ?_ ?_
    · intro _ h
      refine rc_drop [true, true, true, true, true, false] (L' := [some (rc_q (some (rc_km (yr_K Y) 100))), some (rc_i v1), some (rc_i v2), some (rc_i v3), some (rc_i v4), none]) rfl ?_
      exact rw_X9_spreads_L74 hC hH hF ih v1 v2 v3 v4 S h
    intro _ h
    refine rc_aload_n (pc := 29) hC dX9_spreads_29 rfl rfl ?_
    refine rc_r_mref (pc := 30) hC hF rF_X9_31 (by decide) dX9_spreads_30 h ?_
    refine rc_iload (pc := 33) hC dX9_spreads_33 rfl ?_
    refine rc_r_mald (pc := 35) hC hF (j := 9) (by decide) rfl dX9_spreads_35 h ?_
    intro x5 h
    refine rc_iconst (pc := 36) hC (v := (-1 : Int32)) dX9_spreads_36 rfl ?_
    refine rc_icmp_ne (pc := 37) (tgt := 74) hC dX9_spreads_37 rfl h ?_ ?_
    · intro _ h
      refine rc_drop [true, true, true, true, true, false] (L' := [some (rc_q (some (rc_km (yr_K Y) 100))), some (rc_i v1), some (rc_i v2), some (rc_i v3), some (rc_i v4), none]) rfl ?_
      exact rw_X9_spreads_L74 hC hH hF ih v1 v2 v3 v4 S h
    intro _ h
    refine rc_aload_n (pc := 40) hC dX9_spreads_40 rfl rfl ?_
    refine rc_iload (pc := 41) hC dX9_spreads_41 rfl ?_
    refine rc_iconst (pc := 43) hC (v := (2 : Int32)) dX9_spreads_43 rfl ?_
    refine rc_callM (pc := 44) hC (rw_X9_gutter hH.1 v4 (2 : Int32)) q2152 q2154 qs59 q149 q2155 rfl rd_X9_gutter (hH.room (Nat.le_of_ble_eq_true rfl) (Nat.le_of_ble_eq_true rfl)) rfl rfl (Nat.le_of_ble_eq_true rfl) 2 rfl h.le.2.2 (Or.inl hF) h.br rfl dX9_spreads_44 ?_ (fun E q S hT => rc_out hC hH.2.2.2.2 hT)
    intro x6 S h
    show rc_Z Y S 47 [some (rc_q (some (rc_km (yr_K Y) 100))), some (rc_i v1), some (rc_i v2), some (rc_i v3), some (rc_i v4), some (rc_i x3)] [rc_i x6]
    refine rc_aload_n (pc := 47) hC dX9_spreads_47 rfl rfl ?_
    refine rc_iload_n (pc := 48) hC dX9_spreads_48 rfl rfl ?_
    refine rc_iconst (pc := 49) hC (v := (0 : Int32)) dX9_spreads_49 rfl ?_
    refine rc_callM (pc := 50) hC (rw_X9_of hH.1 v1 (0 : Int32)) q2124 q2126 qs52 q149 q2127 rfl rd_X9_of (hH.room (Nat.le_of_ble_eq_true rfl) (Nat.le_of_ble_eq_true rfl)) rfl rfl (Nat.le_of_ble_eq_true rfl) 2 rfl h.le.2.2 (Or.inl hF) h.br rfl dX9_spreads_50 ?_ (fun E q S hT => rc_out hC hH.2.2.2.2 hT)
    intro x7 S h
    show rc_Z Y S 53 [some (rc_q (some (rc_km (yr_K Y) 100))), some (rc_i v1), some (rc_i v2), some (rc_i v3), some (rc_i v4), some (rc_i x3)] [rc_i x7, rc_i x6]
    refine rc_icmp_lt (pc := 53) (tgt := 74) hC dX9_spreads_53 rfl h ?_ ?_
    · intro _ h
      refine rc_drop [true, true, true, true, true, false] (L' := [some (rc_q (some (rc_km (yr_K Y) 100))), some (rc_i v1), some (rc_i v2), some (rc_i v3), some (rc_i v4), none]) rfl ?_
      exact rw_X9_spreads_L74 hC hH hF ih v1 v2 v3 v4 S h
    intro _ h
    refine rc_aload_n (pc := 56) hC dX9_spreads_56 rfl rfl ?_
    refine rc_iload_n (pc := 57) hC dX9_spreads_57 rfl rfl ?_
    refine rc_iload (pc := 58) hC dX9_spreads_58 rfl ?_
    refine rc_callM (pc := 60) hC (rw_X9_whyNotIn hH.1 v1 x3) q2156 q2158 qs60 q149 q2159 rfl rd_X9_whyNotIn (hH.room (Nat.le_of_ble_eq_true rfl) (Nat.le_of_ble_eq_true rfl)) rfl rfl (Nat.le_of_ble_eq_true rfl) 2 rfl h.le.2.2 (Or.inl hF) h.br rfl dX9_spreads_60 ?_ (fun E q S hT => rc_out hC hH.2.2.2.2 hT)
    intro x8 S h
    show rc_Z Y S 63 [some (rc_q (some (rc_km (yr_K Y) 100))), some (rc_i v1), some (rc_i v2), some (rc_i v3), some (rc_i v4), some (rc_i x3)] [rc_i x8]
    refine rc_if_ne (pc := 63) (tgt := 74) hC dX9_spreads_63 rfl h ?_ ?_
    · intro _ h
      refine rc_drop [true, true, true, true, true, false] (L' := [some (rc_q (some (rc_km (yr_K Y) 100))), some (rc_i v1), some (rc_i v2), some (rc_i v3), some (rc_i v4), none]) rfl ?_
      exact rw_X9_spreads_L74 hC hH hF ih v1 v2 v3 v4 S h
    intro _ h
    refine rc_aload_n (pc := 66) hC dX9_spreads_66 rfl rfl ?_
    refine rc_r_mref (pc := 67) hC hF rF_X9_31 (by decide) dX9_spreads_67 h ?_
    refine rc_iload (pc := 70) hC dX9_spreads_70 rfl ?_
    refine rc_iload_n (pc := 72) hC dX9_spreads_72 rfl rfl ?_
    refine rc_r_mast (pc := 73) hC hF (j := 9) (by decide) rfl dX9_spreads_73 h ?_
    intro S h
    refine rc_drop [true, true, true, true, true, false] (L' := [some (rc_q (some (rc_km (yr_K Y) 100))), some (rc_i v1), some (rc_i v2), some (rc_i v3), some (rc_i v4), none]) rfl ?_
    exact rw_X9_spreads_L74 hC hH hF ih v1 v2 v3 v4 S h
theorem rw_X9_spreads {l : Launch} (hl : l.stackTraces = false) (v1 : Int32) (v2 : Int32) (v3 : Int32) : rc_Cm l yX9_spreads (ws_ yX9_spreads cX9_spreads 6 (Option.none : Option Jvm.ClassFile.FieldType)) 3 68 rc_tU (rp_X9_spreads v1 v2 v3) [rc_i v1, rc_i v2, rc_i v3] := by
  refine rc_Cm_H hl (plainFor_of_name rY_X9) rfl (Nat.le_of_ble_eq_true rfl) ?_
  intro Y S hC hH hF h
  have hC : rc_C Y cX9_spreads RX9 (Option.none : Option Jvm.ClassFile.FieldType) 6 := hC
  show rc_Z Y S 0 [some (rc_q (some (rc_km (yr_K Y) 100))), some (rc_i v1), some (rc_i v2), some (rc_i v3), none, none] []
  unfold rp_X9_spreads at h
  refine rc_iconst (pc := 0) hC (v := (0 : Int32)) dX9_spreads_0 rfl ?_
  refine rc_istore (pc := 1) hC (L' := [some (rc_q (some (rc_km (yr_K Y) 100))), some (rc_i v1), some (rc_i v2), some (rc_i v3), some (rc_i (0 : Int32)), none]) dX9_spreads_1 (Nat.le_of_ble_eq_true rfl) rfl rfl ?_
  refine rc_r_fuel h ?_
  intro x1 h
  exact rw_X9_spreads_L3 hC hH hF  x1 v1 v2 v3 (0 : Int32) S h
theorem rw_X9_walks_L76 {Y : rc_Y} (hC : rc_C Y cX9_walks RX9 (Option.none : Option Jvm.ClassFile.FieldType) 4) (hH : rc_H Y 4 93 yX9_walks.name) (hF : yr_F Y = true) {k35 : Int32 → Int32 → rc_M Unit} (hk35 : ∀ (v1 : Int32) (v2 : Int32) (S : rc_S), rc_Go Y rc_tU (k35 v1 v2) S → rc_Z Y S 35 [some (rc_q (some (rc_km (yr_K Y) 100))), some (rc_i v1), some (rc_i v2), none] []) {k47 : Int32 → Int32 → Int32 → rc_M Unit} (hk47 : ∀ (v1 : Int32) (v2 : Int32) (v3 : Int32) (S : rc_S), rc_Go Y rc_tU (k47 v1 v2 v3) S → rc_Z Y S 47 [some (rc_q (some (rc_km (yr_K Y) 100))), some (rc_i v1), some (rc_i v2), some (rc_i v3)] []) (v1 : Int32) (v2 : Int32) (v3 : Int32) (S : rc_S) (h : rc_Go Y rc_tU (rp_X9_walks_L76 k35 k47 v1 v2 v3) S) : rc_Z Y S 76 [some (rc_q (some (rc_km (yr_K Y) 100))), some (rc_i v1), some (rc_i v2), some (rc_i v3)] [] := by
  unfold rp_X9_walks_L76 at h
  refine rc_iinc (pc := 76) hC (v := (v3 + (1 : Int32))) (L' := [some (rc_q (some (rc_km (yr_K Y) 100))), some (rc_i v1), some (rc_i v2), some (rc_i (v3 + (1 : Int32)))]) dX9_walks_76 rfl rfl rfl rfl ?_
  refine rc_goto (pc := 79) (tgt := 47) hC dX9_walks_79 rfl ?_
  exact hk47 v1 v2 (v3 + (1 : Int32)) S h
theorem rw_X9_walks_L47 {Y : rc_Y} (hC : rc_C Y cX9_walks RX9 (Option.none : Option Jvm.ClassFile.FieldType) 4) (hH : rc_H Y 4 93 yX9_walks.name) (hF : yr_F Y = true) {k35 : Int32 → Int32 → rc_M Unit} (hk35 : ∀ (v1 : Int32) (v2 : Int32) (S : rc_S), rc_Go Y rc_tU (k35 v1 v2) S → rc_Z Y S 35 [some (rc_q (some (rc_km (yr_K Y) 100))), some (rc_i v1), some (rc_i v2), none] []) : ∀ (n : Nat) (v1 : Int32) (v2 : Int32) (v3 : Int32) (S : rc_S), rc_Go Y rc_tU (rp_X9_walks_L47 k35 n v1 v2 v3) S → rc_Z Y S 47 [some (rc_q (some (rc_km (yr_K Y) 100))), some (rc_i v1), some (rc_i v2), some (rc_i v3)] [] := by
  intro n
  induction n with
  | zero => intro v1 v2 v3 S h; exact h.fail.elim
  | succ n ih =>
    intro v1 v2 v3 S h
    rw [rp_X9_walks_L47] at h
    refine rc_iload_n (pc := 47) hC dX9_walks_47 rfl rfl ?_
    refine rc_aload_n (pc := 48) hC dX9_walks_48 rfl rfl ?_
    refine rc_r_mref (pc := 49) hC hF rF_X9_7 (by decide) dX9_walks_49 h ?_
    refine rc_iconst (pc := 52) hC (v := (0 : Int32)) dX9_walks_52 rfl ?_
    refine rc_r_mald (pc := 53) hC hF (j := 0) (by decide) rfl dX9_walks_53 h ?_
    intro x2 h
    refine rc_icmp_ge (pc := 54) (tgt := 82) hC dX9_walks_54 rfl h ?_ ?_
    · intro _ h
      refine rc_iinc (pc := 82) hC (v := (v2 + (1 : Int32))) (L' := [some (rc_q (some (rc_km (yr_K Y) 100))), some (rc_i v1), some (rc_i (v2 + (1 : Int32))), some (rc_i v3)]) dX9_walks_82 rfl rfl rfl rfl ?_
      refine rc_goto (pc := 85) (tgt := 35) hC dX9_walks_85 rfl ?_
      refine rc_drop [true, true, true, false] (L' := [some (rc_q (some (rc_km (yr_K Y) 100))), some (rc_i v1), some (rc_i (v2 + (1 : Int32))), none]) rfl ?_
      exact hk35 v1 (v2 + (1 : Int32)) S h
    intro _ h
    refine rc_aload_n (pc := 57) hC dX9_walks_57 rfl rfl ?_
    refine rc_r_mref (pc := 58) hC hF rF_X9_31 (by decide) dX9_walks_58 h ?_
    refine rc_iload_n (pc := 61) hC dX9_walks_61 rfl rfl ?_
    refine rc_r_mald (pc := 62) hC hF (j := 9) (by decide) rfl dX9_walks_62 h ?_
    intro x4 h
    refine rc_iload_n (pc := 63) hC dX9_walks_63 rfl rfl ?_
    refine rc_icmp_ne (pc := 64) (tgt := 76) hC dX9_walks_64 rfl h ?_ ?_
    · intro _ h
      exact rw_X9_walks_L76 hC hH hF hk35 ih v1 v2 v3 S h
    intro _ h
    refine rc_aload_n (pc := 67) hC dX9_walks_67 rfl rfl ?_
    refine rc_iload_n (pc := 68) hC dX9_walks_68 rfl rfl ?_
    refine rc_iload_n (pc := 69) hC dX9_walks_69 rfl rfl ?_
    refine rc_iload_n (pc := 70) hC dX9_walks_70 rfl rfl ?_
    refine rc_iconst (pc := 71) hC (v := (1 : Int32)) dX9_walks_71 rfl ?_
    refine rc_iadd (pc := 72) hC dX9_walks_72 ?_
    refine rc_callM (pc := 73) hC (rw_X9_spreads hH.1 v1 v3 (v2 + (1 : Int32))) q2595 q2597 qs110 q149 q2598 rfl rd_X9_spreads (hH.room (Nat.le_of_ble_eq_true rfl) (Nat.le_of_ble_eq_true rfl)) rfl rfl (Nat.le_of_ble_eq_true rfl) 3 rfl h.le.2.2 (Or.inl hF) h.br rfl dX9_walks_73 ?_ (fun E q S hT => rc_out hC hH.2.2.2.2 hT)
    intro _ S h
    show rc_Z Y S 76 [some (rc_q (some (rc_km (yr_K Y) 100))), some (rc_i v1), some (rc_i v2), some (rc_i v3)] []
    exact rw_X9_walks_L76 hC hH hF hk35 ih v1 v2 v3 S h
theorem rw_X9_walks_L35 {Y : rc_Y} (hC : rc_C Y cX9_walks RX9 (Option.none : Option Jvm.ClassFile.FieldType) 4) (hH : rc_H Y 4 93 yX9_walks.name) (hF : yr_F Y = true) : ∀ (n : Nat) (v1 : Int32) (v2 : Int32) (S : rc_S), rc_Go Y rc_tU (rp_X9_walks_L35  n v1 v2) S → rc_Z Y S 35 [some (rc_q (some (rc_km (yr_K Y) 100))), some (rc_i v1), some (rc_i v2), none] [] := by
  intro n
  induction n with
  | zero => intro v1 v2 S h; exact h.fail.elim
  | succ n ih =>
    intro v1 v2 S h
    rw [rp_X9_walks_L35] at h
    refine rc_iload_n (pc := 35) hC dX9_walks_35 rfl rfl ?_
    refine rc_aload_n (pc := 36) hC dX9_walks_36 rfl rfl ?_
    refine rc_r_mref (pc := 37) hC hF rF_X9_7 (by decide) dX9_walks_37 h ?_
    refine rc_iconst (pc := 40) hC (v := (0 : Int32)) dX9_walks_40 rfl ?_
    refine rc_r_mald (pc := 41) hC hF (j := 0) (by decide) rfl dX9_walks_41 h ?_
    intro x2 h
    refine rc_icmp_ge (pc := 42) (tgt := 88) hC dX9_walks_42 rfl h ?_ ?_
    · intro _ h
      exact rc_vret hC rfl dX9_walks_88 h rfl
    intro _ h
    refine rc_iconst (pc := 45) hC (v := (0 : Int32)) dX9_walks_45 rfl ?_
    refine rc_istore_n (pc := 46) hC (L' := [some (rc_q (some (rc_km (yr_K Y) 100))), some (rc_i v1), some (rc_i v2), some (rc_i (0 : Int32))]) dX9_walks_46 rfl (Nat.le_of_ble_eq_true rfl) rfl rfl ?_
    refine rc_r_fuel h ?_
    intro x3 h
    exact rw_X9_walks_L47 hC hH hF ih x3 v1 v2 (0 : Int32) S h
theorem rw_X9_walks_L2 {Y : rc_Y} (hC : rc_C Y cX9_walks RX9 (Option.none : Option Jvm.ClassFile.FieldType) 4) (hH : rc_H Y 4 93 yX9_walks.name) (hF : yr_F Y = true) : ∀ (n : Nat) (v1 : Int32) (v2 : Int32) (S : rc_S), rc_Go Y rc_tU (rp_X9_walks_L2  n v1 v2) S → rc_Z Y S 2 [some (rc_q (some (rc_km (yr_K Y) 100))), some (rc_i v1), some (rc_i v2), none] [] := by
  intro n
  induction n with
  | zero => intro v1 v2 S h; exact h.fail.elim
  | succ n ih =>
    intro v1 v2 S h
    rw [rp_X9_walks_L2] at h
    refine rc_iload_n (pc := 2) hC dX9_walks_2 rfl rfl ?_
    refine rc_bipush (pc := 3) hC (v := (10 : Int32)) dX9_walks_3 rfl ?_
    refine rc_icmp_ge (pc := 5) (tgt := 21) hC dX9_walks_5 rfl h ?_ ?_
    · intro _ h
      refine rc_aload_n (pc := 21) hC dX9_walks_21 rfl rfl ?_
      refine rc_r_mref (pc := 22) hC hF rF_X9_31 (by decide) dX9_walks_22 h ?_
      refine rc_aload_n (pc := 25) hC dX9_walks_25 rfl rfl ?_
      refine rc_iload_n (pc := 26) hC dX9_walks_26 rfl rfl ?_
      refine rc_iconst (pc := 27) hC (v := (3 : Int32)) dX9_walks_27 rfl ?_
      refine rc_callM (pc := 28) hC (rw_X9_of hH.1 v1 (3 : Int32)) q2124 q2126 qs52 q149 q2127 rfl rd_X9_of (hH.room (Nat.le_of_ble_eq_true rfl) (Nat.le_of_ble_eq_true rfl)) rfl rfl (Nat.le_of_ble_eq_true rfl) 2 rfl h.le.2.2 (Or.inl hF) h.br rfl dX9_walks_28 ?_ (fun E q S hT => rc_out hC hH.2.2.2.2 hT)
      intro x2 S h
      show rc_Z Y S 31 [some (rc_q (some (rc_km (yr_K Y) 100))), some (rc_i v1), some (rc_i v2), none] [rc_i x2, rc_q (some (rc_km (yr_K Y) 9))]
      refine rc_iconst (pc := 31) hC (v := (0 : Int32)) dX9_walks_31 rfl ?_
      refine rc_r_mast (pc := 32) hC hF (j := 9) (by decide) rfl dX9_walks_32 h ?_
      intro S h
      refine rc_iconst (pc := 33) hC (v := (0 : Int32)) dX9_walks_33 rfl ?_
      refine rc_istore_n (pc := 34) hC (L' := [some (rc_q (some (rc_km (yr_K Y) 100))), some (rc_i v1), some (rc_i (0 : Int32)), none]) dX9_walks_34 rfl (Nat.le_of_ble_eq_true rfl) rfl rfl ?_
      refine rc_r_fuel h ?_
      intro x3 h
      exact rw_X9_walks_L35 hC hH hF  x3 v1 (0 : Int32) S h
    intro _ h
    refine rc_aload_n (pc := 8) hC dX9_walks_8 rfl rfl ?_
    refine rc_r_mref (pc := 9) hC hF rF_X9_31 (by decide) dX9_walks_9 h ?_
    refine rc_iload_n (pc := 12) hC dX9_walks_12 rfl rfl ?_
    refine rc_iconst (pc := 13) hC (v := (-1 : Int32)) dX9_walks_13 rfl ?_
    refine rc_r_mast (pc := 14) hC hF (j := 9) (by decide) rfl dX9_walks_14 h ?_
    intro S h
    refine rc_iinc (pc := 15) hC (v := (v2 + (1 : Int32))) (L' := [some (rc_q (some (rc_km (yr_K Y) 100))), some (rc_i v1), some (rc_i (v2 + (1 : Int32))), none]) dX9_walks_15 rfl rfl rfl rfl ?_
    refine rc_goto (pc := 18) (tgt := 2) hC dX9_walks_18 rfl ?_
    exact ih v1 (v2 + (1 : Int32)) S h
theorem rw_X9_walks {l : Launch} (hl : l.stackTraces = false) (v1 : Int32) : rc_Cm l yX9_walks (ws_ yX9_walks cX9_walks 4 (Option.none : Option Jvm.ClassFile.FieldType)) 4 93 rc_tU (rp_X9_walks v1) [rc_i v1] := by
  refine rc_Cm_H hl (plainFor_of_name rY_X9) rfl (Nat.le_of_ble_eq_true rfl) ?_
  intro Y S hC hH hF h
  have hC : rc_C Y cX9_walks RX9 (Option.none : Option Jvm.ClassFile.FieldType) 4 := hC
  show rc_Z Y S 0 [some (rc_q (some (rc_km (yr_K Y) 100))), some (rc_i v1), none, none] []
  unfold rp_X9_walks at h
  refine rc_iconst (pc := 0) hC (v := (0 : Int32)) dX9_walks_0 rfl ?_
  refine rc_istore_n (pc := 1) hC (L' := [some (rc_q (some (rc_km (yr_K Y) 100))), some (rc_i v1), some (rc_i (0 : Int32)), none]) dX9_walks_1 rfl (Nat.le_of_ble_eq_true rfl) rfl rfl ?_
  refine rc_r_fuel h ?_
  intro x1 h
  exact rw_X9_walks_L2 hC hH hF  x1 v1 (0 : Int32) S h
theorem rw_X9_reachable_L59 {Y : rc_Y} (hC : rc_C Y cX9_reachable RX9 (Option.some Jvm.ClassFile.FieldType.int) 4) (hH : rc_H Y 5 116 yX9_reachable.name) (hF : yr_F Y = true) {k31 : Int32 → Int32 → rc_M Int32} (hk31 : ∀ (v2 : Int32) (v3 : Int32) (S : rc_S), rc_Go Y rc_tI (k31 v2 v3) S → rc_Z Y S 31 [some (rc_q (some (rc_km (yr_K Y) 100))), none, some (rc_i v2), some (rc_i v3)] []) (v3 : Int32) (s0 : Int32) (s1 : Int32) (S : rc_S) (h : rc_Go Y rc_tI (rp_X9_reachable_L59 k31 v3 s0 s1) S) : rc_Z Y S 59 [some (rc_q (some (rc_km (yr_K Y) 100))), none, none, some (rc_i v3)] [rc_i s0, rc_i s1] := by
  unfold rp_X9_reachable_L59 at h
  refine rc_ior (pc := 59) hC dX9_reachable_59 ?_
  refine rc_istore_n (pc := 60) hC (L' := [some (rc_q (some (rc_km (yr_K Y) 100))), none, some (rc_i (s1 ||| s0)), some (rc_i v3)]) dX9_reachable_60 rfl (Nat.le_of_ble_eq_true rfl) rfl rfl ?_
  refine rc_iinc (pc := 61) hC (v := (v3 + (1 : Int32))) (L' := [some (rc_q (some (rc_km (yr_K Y) 100))), none, some (rc_i (s1 ||| s0)), some (rc_i (v3 + (1 : Int32)))]) dX9_reachable_61 rfl rfl rfl rfl ?_
  refine rc_goto (pc := 64) (tgt := 31) hC dX9_reachable_64 rfl ?_
  exact hk31 (s1 ||| s0) (v3 + (1 : Int32)) S h
theorem rw_X9_reachable_L31 {Y : rc_Y} (hC : rc_C Y cX9_reachable RX9 (Option.some Jvm.ClassFile.FieldType.int) 4) (hH : rc_H Y 5 116 yX9_reachable.name) (hF : yr_F Y = true) : ∀ (n : Nat) (v2 : Int32) (v3 : Int32) (S : rc_S), rc_Go Y rc_tI (rp_X9_reachable_L31  n v2 v3) S → rc_Z Y S 31 [some (rc_q (some (rc_km (yr_K Y) 100))), none, some (rc_i v2), some (rc_i v3)] [] := by
  intro n
  induction n with
  | zero => intro v2 v3 S h; exact h.fail.elim
  | succ n ih =>
    intro v2 v3 S h
    rw [rp_X9_reachable_L31] at h
    refine rc_iload_n (pc := 31) hC dX9_reachable_31 rfl rfl ?_
    refine rc_aload_n (pc := 32) hC dX9_reachable_32 rfl rfl ?_
    refine rc_r_mref (pc := 33) hC hF rF_X9_7 (by decide) dX9_reachable_33 h ?_
    refine rc_iconst (pc := 36) hC (v := (0 : Int32)) dX9_reachable_36 rfl ?_
    refine rc_r_mald (pc := 37) hC hF (j := 0) (by decide) rfl dX9_reachable_37 h ?_
    intro x2 h
    refine rc_icmp_ge (pc := 38) (tgt := 67) hC dX9_reachable_38 rfl h ?_ ?_
    · intro _ h
      refine rc_iload_n (pc := 67) hC dX9_reachable_67 rfl rfl ?_
      exact rc_iret hC rfl rfl dX9_reachable_68 h rfl
    intro _ h
    refine rc_iload_n (pc := 41) hC dX9_reachable_41 rfl rfl ?_
    refine rc_aload_n (pc := 42) hC dX9_reachable_42 rfl rfl ?_
    refine rc_r_mref (pc := 43) hC hF rF_X9_31 (by decide) dX9_reachable_43 h ?_
    refine rc_iload_n (pc := 46) hC dX9_reachable_46 rfl rfl ?_
    refine rc_r_mald (pc := 47) hC hF (j := 9) (by decide) rfl dX9_reachable_47 h ?_
    intro x4 h
    refine rc_iconst (pc := 48) hC (v := (-1 : Int32)) dX9_reachable_48 rfl ?_
    refine rc_icmp_ne (pc := 49) (tgt := 56) hC dX9_reachable_49 rfl h ?_ ?_
    · intro _ h
      refine rc_iconst (pc := 56) hC (v := (1 : Int32)) dX9_reachable_56 rfl ?_
      refine rc_iload_n (pc := 57) hC dX9_reachable_57 rfl rfl ?_
      refine rc_ishl (pc := 58) hC dX9_reachable_58 ?_
      refine rc_drop [true, false, false, true] (L' := [some (rc_q (some (rc_km (yr_K Y) 100))), none, none, some (rc_i v3)]) rfl ?_
      exact rw_X9_reachable_L59 hC hH hF ih v3 ((1 : Int32) <<< (v3 &&& 31)) v2 S h
    intro _ h
    refine rc_iconst (pc := 52) hC (v := (0 : Int32)) dX9_reachable_52 rfl ?_
    refine rc_goto (pc := 53) (tgt := 59) hC dX9_reachable_53 rfl ?_
    refine rc_drop [true, false, false, true] (L' := [some (rc_q (some (rc_km (yr_K Y) 100))), none, none, some (rc_i v3)]) rfl ?_
    exact rw_X9_reachable_L59 hC hH hF ih v3 (0 : Int32) v2 S h
theorem rw_X9_reachable_L14 {Y : rc_Y} (hC : rc_C Y cX9_reachable RX9 (Option.some Jvm.ClassFile.FieldType.int) 4) (hH : rc_H Y 5 116 yX9_reachable.name) (hF : yr_F Y = true) (v1 : Int32) (s0 : Int32) (S : rc_S) (h : rc_Go Y rc_tI (rp_X9_reachable_L14  v1 s0) S) : rc_Z Y S 14 [some (rc_q (some (rc_km (yr_K Y) 100))), some (rc_i v1), none, none] [rc_i s0, rc_q (some (rc_km (yr_K Y) 100))] := by
  unfold rp_X9_reachable_L14 at h
  refine rc_callM (pc := 14) hC (rw_X9_throwsOne hH.1 s0) q2392 q2394 qs97 q149 q2395 rfl rd_X9_throwsOne (hH.room (Nat.le_of_ble_eq_true rfl) (Nat.le_of_ble_eq_true rfl)) rfl rfl (Nat.le_of_ble_eq_true rfl) 1 rfl h.le.2.2 (Or.inl hF) h.br rfl dX9_reachable_14 ?_ (fun E q S hT => rc_out hC hH.2.2.2.2 hT)
  intro x1 S h
  show rc_Z Y S 17 [some (rc_q (some (rc_km (yr_K Y) 100))), some (rc_i v1), none, none] [rc_i x1]
  refine rc_if_eq (pc := 17) (tgt := 22) hC dX9_reachable_17 rfl h ?_ ?_
  · intro _ h
    refine rc_aload_n (pc := 22) hC dX9_reachable_22 rfl rfl ?_
    refine rc_iload_n (pc := 23) hC dX9_reachable_23 rfl rfl ?_
    refine rc_callM (pc := 24) hC (rw_X9_walks hH.1 v1) q2591 q2593 qs109 q149 q2594 rfl rd_X9_walks (hH.room (Nat.le_of_ble_eq_true rfl) (Nat.le_of_ble_eq_true rfl)) rfl rfl (Nat.le_of_ble_eq_true rfl) 1 rfl h.le.2.2 (Or.inl hF) h.br rfl dX9_reachable_24 ?_ (fun E q S hT => rc_out hC hH.2.2.2.2 hT)
    intro _ S h
    show rc_Z Y S 27 [some (rc_q (some (rc_km (yr_K Y) 100))), some (rc_i v1), none, none] []
    refine rc_iconst (pc := 27) hC (v := (0 : Int32)) dX9_reachable_27 rfl ?_
    refine rc_istore_n (pc := 28) hC (L' := [some (rc_q (some (rc_km (yr_K Y) 100))), some (rc_i v1), some (rc_i (0 : Int32)), none]) dX9_reachable_28 rfl (Nat.le_of_ble_eq_true rfl) rfl rfl ?_
    refine rc_iconst (pc := 29) hC (v := (0 : Int32)) dX9_reachable_29 rfl ?_
    refine rc_istore_n (pc := 30) hC (L' := [some (rc_q (some (rc_km (yr_K Y) 100))), some (rc_i v1), some (rc_i (0 : Int32)), some (rc_i (0 : Int32))]) dX9_reachable_30 rfl (Nat.le_of_ble_eq_true rfl) rfl rfl ?_
    refine rc_drop [true, false, true, true] (L' := [some (rc_q (some (rc_km (yr_K Y) 100))), none, some (rc_i (0 : Int32)), some (rc_i (0 : Int32))]) rfl ?_
    refine rc_r_fuel h ?_
    intro x2 h
    exact rw_X9_reachable_L31 hC hH hF  x2 (0 : Int32) (0 : Int32) S h
  intro _ h
  refine rc_iconst (pc := 20) hC (v := (0 : Int32)) dX9_reachable_20 rfl ?_
  exact rc_iret hC rfl rfl dX9_reachable_21 h rfl
theorem rw_X9_reachable {l : Launch} (hl : l.stackTraces = false) (v1 : Int32) : rc_Cm l yX9_reachable (ws_ yX9_reachable cX9_reachable 4 (Option.some Jvm.ClassFile.FieldType.int)) 5 116 rc_tI (rp_X9_reachable v1) [rc_i v1] := by
  refine rc_Cm_H hl (plainFor_of_name rY_X9) rfl (Nat.le_of_ble_eq_true rfl) ?_
  intro Y S hC hH hF h
  have hC : rc_C Y cX9_reachable RX9 (Option.some Jvm.ClassFile.FieldType.int) 4 := hC
  show rc_Z Y S 0 [some (rc_q (some (rc_km (yr_K Y) 100))), some (rc_i v1), none, none] []
  unfold rp_X9_reachable at h
  refine rc_aload_n (pc := 0) hC dX9_reachable_0 rfl rfl ?_
  refine rc_aload_n (pc := 1) hC dX9_reachable_1 rfl rfl ?_
  refine rc_iload_n (pc := 2) hC dX9_reachable_2 rfl rfl ?_
  refine rc_callM (pc := 3) hC (rw_X9_isCat hH.1 v1) q2439 q2441 qs103 q149 q2442 rfl rd_X9_isCat (hH.room (Nat.le_of_ble_eq_true rfl) (Nat.le_of_ble_eq_true rfl)) rfl rfl (Nat.le_of_ble_eq_true rfl) 1 rfl h.le.2.2 (Or.inl hF) h.br rfl dX9_reachable_3 ?_ (fun E q S hT => rc_out hC hH.2.2.2.2 hT)
  intro x1 S h
  show rc_Z Y S 6 [some (rc_q (some (rc_km (yr_K Y) 100))), some (rc_i v1), none, none] [rc_i x1, rc_q (some (rc_km (yr_K Y) 100))]
  refine rc_if_ne (pc := 6) (tgt := 13) hC dX9_reachable_6 rfl h ?_ ?_
  · intro _ h
    refine rc_iconst (pc := 13) hC (v := (0 : Int32)) dX9_reachable_13 rfl ?_
    exact rw_X9_reachable_L14 hC hH hF  v1 (0 : Int32) S h
  intro _ h
  refine rc_iconst (pc := 9) hC (v := (1 : Int32)) dX9_reachable_9 rfl ?_
  refine rc_goto (pc := 10) (tgt := 14) hC dX9_reachable_10 rfl ?_
  exact rw_X9_reachable_L14 hC hH hF  v1 (1 : Int32) S h
theorem rw_X9_stepsTo_L22 {Y : rc_Y} (hC : rc_C Y cX9_stepsTo RX9 (Option.some Jvm.ClassFile.FieldType.int) 3) (hH : rc_H Y 5 116 yX9_stepsTo.name) (hF : yr_F Y = true) (v1 : Int32) (v2 : Int32) (s0 : Int32) (S : rc_S) (h : rc_Go Y rc_tI (rp_X9_stepsTo_L22  v1 v2 s0) S) : rc_Z Y S 22 [some (rc_q (some (rc_km (yr_K Y) 100))), some (rc_i v1), some (rc_i v2)] [rc_i s0, rc_q (some (rc_km (yr_K Y) 100))] := by
  unfold rp_X9_stepsTo_L22 at h
  refine rc_callM (pc := 22) hC (rw_X9_throwsOne hH.1 s0) q2392 q2394 qs97 q149 q2395 rfl rd_X9_throwsOne (hH.room (Nat.le_of_ble_eq_true rfl) (Nat.le_of_ble_eq_true rfl)) rfl rfl (Nat.le_of_ble_eq_true rfl) 1 rfl h.le.2.2 (Or.inl hF) h.br rfl dX9_stepsTo_22 ?_ (fun E q S hT => rc_out hC hH.2.2.2.2 hT)
  intro x1 S h
  show rc_Z Y S 25 [some (rc_q (some (rc_km (yr_K Y) 100))), some (rc_i v1), some (rc_i v2)] [rc_i x1]
  refine rc_if_eq (pc := 25) (tgt := 30) hC dX9_stepsTo_25 rfl h ?_ ?_
  · intro _ h
    refine rc_aload_n (pc := 30) hC dX9_stepsTo_30 rfl rfl ?_
    refine rc_iload_n (pc := 31) hC dX9_stepsTo_31 rfl rfl ?_
    refine rc_callM (pc := 32) hC (rw_X9_walks hH.1 v1) q2591 q2593 qs109 q149 q2594 rfl rd_X9_walks (hH.room (Nat.le_of_ble_eq_true rfl) (Nat.le_of_ble_eq_true rfl)) rfl rfl (Nat.le_of_ble_eq_true rfl) 1 rfl h.le.2.2 (Or.inl hF) h.br rfl dX9_stepsTo_32 ?_ (fun E q S hT => rc_out hC hH.2.2.2.2 hT)
    intro _ S h
    show rc_Z Y S 35 [some (rc_q (some (rc_km (yr_K Y) 100))), some (rc_i v1), some (rc_i v2)] []
    refine rc_aload_n (pc := 35) hC dX9_stepsTo_35 rfl rfl ?_
    refine rc_r_mref (pc := 36) hC hF rF_X9_31 (by decide) dX9_stepsTo_36 h ?_
    refine rc_iload_n (pc := 39) hC dX9_stepsTo_39 rfl rfl ?_
    refine rc_r_mald (pc := 40) hC hF (j := 9) (by decide) rfl dX9_stepsTo_40 h ?_
    intro x3 h
    exact rc_iret hC rfl rfl dX9_stepsTo_41 h rfl
  intro _ h
  refine rc_iconst (pc := 28) hC (v := (0 : Int32)) dX9_stepsTo_28 rfl ?_
  exact rc_iret hC rfl rfl dX9_stepsTo_29 h rfl
theorem rw_X9_stepsTo_L17 {Y : rc_Y} (hC : rc_C Y cX9_stepsTo RX9 (Option.some Jvm.ClassFile.FieldType.int) 3) (hH : rc_H Y 5 116 yX9_stepsTo.name) (hF : yr_F Y = true) (v1 : Int32) (v2 : Int32) (S : rc_S) (h : rc_Go Y rc_tI (rp_X9_stepsTo_L17  v1 v2) S) : rc_Z Y S 17 [some (rc_q (some (rc_km (yr_K Y) 100))), some (rc_i v1), some (rc_i v2)] [rc_q (some (rc_km (yr_K Y) 100))] := by
  unfold rp_X9_stepsTo_L17 at h
  refine rc_iconst (pc := 17) hC (v := (1 : Int32)) dX9_stepsTo_17 rfl ?_
  refine rc_goto (pc := 18) (tgt := 22) hC dX9_stepsTo_18 rfl ?_
  exact rw_X9_stepsTo_L22 hC hH hF  v1 v2 (1 : Int32) S h
theorem rw_X9_stepsTo {l : Launch} (hl : l.stackTraces = false) (v1 : Int32) (v2 : Int32) : rc_Cm l yX9_stepsTo (ws_ yX9_stepsTo cX9_stepsTo 3 (Option.some Jvm.ClassFile.FieldType.int)) 5 116 rc_tI (rp_X9_stepsTo v1 v2) [rc_i v1, rc_i v2] := by
  refine rc_Cm_H hl (plainFor_of_name rY_X9) rfl (Nat.le_of_ble_eq_true rfl) ?_
  intro Y S hC hH hF h
  have hC : rc_C Y cX9_stepsTo RX9 (Option.some Jvm.ClassFile.FieldType.int) 3 := hC
  show rc_Z Y S 0 [some (rc_q (some (rc_km (yr_K Y) 100))), some (rc_i v1), some (rc_i v2)] []
  unfold rp_X9_stepsTo at h
  refine rc_aload_n (pc := 0) hC dX9_stepsTo_0 rfl rfl ?_
  refine rc_aload_n (pc := 1) hC dX9_stepsTo_1 rfl rfl ?_
  refine rc_iload_n (pc := 2) hC dX9_stepsTo_2 rfl rfl ?_
  refine rc_callM (pc := 3) hC (rw_X9_isCat hH.1 v1) q2439 q2441 qs103 q149 q2442 rfl rd_X9_isCat (hH.room (Nat.le_of_ble_eq_true rfl) (Nat.le_of_ble_eq_true rfl)) rfl rfl (Nat.le_of_ble_eq_true rfl) 1 rfl h.le.2.2 (Or.inl hF) h.br rfl dX9_stepsTo_3 ?_ (fun E q S hT => rc_out hC hH.2.2.2.2 hT)
  intro x1 S h
  show rc_Z Y S 6 [some (rc_q (some (rc_km (yr_K Y) 100))), some (rc_i v1), some (rc_i v2)] [rc_i x1, rc_q (some (rc_km (yr_K Y) 100))]
  refine rc_if_eq (pc := 6) (tgt := 17) hC dX9_stepsTo_6 rfl h ?_ ?_
  · intro _ h
    exact rw_X9_stepsTo_L17 hC hH hF  v1 v2 S h
  intro _ h
  refine rc_aload_n (pc := 9) hC dX9_stepsTo_9 rfl rfl ?_
  refine rc_iload_n (pc := 10) hC dX9_stepsTo_10 rfl rfl ?_
  refine rc_callM (pc := 11) hC (rw_X9_isChimney hH.1 v2) q2420 q2422 qs101 q149 q2423 rfl rd_X9_isChimney (hH.room (Nat.le_of_ble_eq_true rfl) (Nat.le_of_ble_eq_true rfl)) rfl rfl (Nat.le_of_ble_eq_true rfl) 1 rfl h.le.2.2 (Or.inl hF) h.br rfl dX9_stepsTo_11 ?_ (fun E q S hT => rc_out hC hH.2.2.2.2 hT)
  intro x2 S h
  show rc_Z Y S 14 [some (rc_q (some (rc_km (yr_K Y) 100))), some (rc_i v1), some (rc_i v2)] [rc_i x2, rc_q (some (rc_km (yr_K Y) 100))]
  refine rc_if_ne (pc := 14) (tgt := 21) hC dX9_stepsTo_14 rfl h ?_ ?_
  · intro _ h
    refine rc_iconst (pc := 21) hC (v := (0 : Int32)) dX9_stepsTo_21 rfl ?_
    exact rw_X9_stepsTo_L22 hC hH hF  v1 v2 (0 : Int32) S h
  intro _ h
  exact rw_X9_stepsTo_L17 hC hH hF  v1 v2 S h
theorem rw_X9_openGutters_L53 {Y : rc_Y} (hC : rc_C Y cX9_openGutters RX9 (Option.some Jvm.ClassFile.FieldType.int) 4) (hH : rc_H Y 4 91 yX9_openGutters.name) (hF : yr_F Y = true) {k26 : Int32 → Int32 → Int32 → rc_M Int32} (hk26 : ∀ (v1 : Int32) (v2 : Int32) (v3 : Int32) (S : rc_S), rc_Go Y rc_tI (k26 v1 v2 v3) S → rc_Z Y S 26 [some (rc_q (some (rc_km (yr_K Y) 100))), some (rc_i v1), some (rc_i v2), some (rc_i v3)] []) (v1 : Int32) (v3 : Int32) (s0 : Int32) (s1 : Int32) (S : rc_S) (h : rc_Go Y rc_tI (rp_X9_openGutters_L53 k26 v1 v3 s0 s1) S) : rc_Z Y S 53 [some (rc_q (some (rc_km (yr_K Y) 100))), some (rc_i v1), none, some (rc_i v3)] [rc_i s0, rc_i s1] := by
  unfold rp_X9_openGutters_L53 at h
  refine rc_ior (pc := 53) hC dX9_openGutters_53 ?_
  refine rc_istore_n (pc := 54) hC (L' := [some (rc_q (some (rc_km (yr_K Y) 100))), some (rc_i v1), some (rc_i (s1 ||| s0)), some (rc_i v3)]) dX9_openGutters_54 rfl (Nat.le_of_ble_eq_true rfl) rfl rfl ?_
  refine rc_iinc (pc := 55) hC (v := (v3 + (1 : Int32))) (L' := [some (rc_q (some (rc_km (yr_K Y) 100))), some (rc_i v1), some (rc_i (s1 ||| s0)), some (rc_i (v3 + (1 : Int32)))]) dX9_openGutters_55 rfl rfl rfl rfl ?_
  refine rc_goto (pc := 58) (tgt := 26) hC dX9_openGutters_58 rfl ?_
  exact hk26 v1 (s1 ||| s0) (v3 + (1 : Int32)) S h
theorem rw_X9_openGutters_L26 {Y : rc_Y} (hC : rc_C Y cX9_openGutters RX9 (Option.some Jvm.ClassFile.FieldType.int) 4) (hH : rc_H Y 4 91 yX9_openGutters.name) (hF : yr_F Y = true) : ∀ (n : Nat) (v1 : Int32) (v2 : Int32) (v3 : Int32) (S : rc_S), rc_Go Y rc_tI (rp_X9_openGutters_L26  n v1 v2 v3) S → rc_Z Y S 26 [some (rc_q (some (rc_km (yr_K Y) 100))), some (rc_i v1), some (rc_i v2), some (rc_i v3)] [] := by
  intro n
  induction n with
  | zero => intro v1 v2 v3 S h; exact h.fail.elim
  | succ n ih =>
    intro v1 v2 v3 S h
    rw [rp_X9_openGutters_L26] at h
    refine rc_iload_n (pc := 26) hC dX9_openGutters_26 rfl rfl ?_
    refine rc_aload_n (pc := 27) hC dX9_openGutters_27 rfl rfl ?_
    refine rc_r_mref (pc := 28) hC hF rF_X9_7 (by decide) dX9_openGutters_28 h ?_
    refine rc_iconst (pc := 31) hC (v := (1 : Int32)) dX9_openGutters_31 rfl ?_
    refine rc_r_mald (pc := 32) hC hF (j := 0) (by decide) rfl dX9_openGutters_32 h ?_
    intro x2 h
    refine rc_icmp_ge (pc := 33) (tgt := 61) hC dX9_openGutters_33 rfl h ?_ ?_
    · intro _ h
      refine rc_iload_n (pc := 61) hC dX9_openGutters_61 rfl rfl ?_
      exact rc_iret hC rfl rfl dX9_openGutters_62 h rfl
    intro _ h
    refine rc_iload_n (pc := 36) hC dX9_openGutters_36 rfl rfl ?_
    refine rc_aload_n (pc := 37) hC dX9_openGutters_37 rfl rfl ?_
    refine rc_iload_n (pc := 38) hC dX9_openGutters_38 rfl rfl ?_
    refine rc_iload_n (pc := 39) hC dX9_openGutters_39 rfl rfl ?_
    refine rc_callM (pc := 40) hC (rw_X9_whyStays hH.1 v1 v3) q2144 q2146 qs57 q149 q2147 rfl rd_X9_whyStays (hH.room (Nat.le_of_ble_eq_true rfl) (Nat.le_of_ble_eq_true rfl)) rfl rfl (Nat.le_of_ble_eq_true rfl) 2 rfl h.le.2.2 (Or.inl hF) h.br rfl dX9_openGutters_40 ?_ (fun E q S hT => rc_out hC hH.2.2.2.2 hT)
    intro x3 S h
    show rc_Z Y S 43 [some (rc_q (some (rc_km (yr_K Y) 100))), some (rc_i v1), some (rc_i v2), some (rc_i v3)] [rc_i x3, rc_i v2]
    refine rc_if_ne (pc := 43) (tgt := 52) hC dX9_openGutters_43 rfl h ?_ ?_
    · intro _ h
      refine rc_iconst (pc := 52) hC (v := (0 : Int32)) dX9_openGutters_52 rfl ?_
      refine rc_drop [true, true, false, true] (L' := [some (rc_q (some (rc_km (yr_K Y) 100))), some (rc_i v1), none, some (rc_i v3)]) rfl ?_
      exact rw_X9_openGutters_L53 hC hH hF ih v1 v3 (0 : Int32) v2 S h
    intro _ h
    refine rc_iconst (pc := 46) hC (v := (1 : Int32)) dX9_openGutters_46 rfl ?_
    refine rc_iload_n (pc := 47) hC dX9_openGutters_47 rfl rfl ?_
    refine rc_ishl (pc := 48) hC dX9_openGutters_48 ?_
    refine rc_goto (pc := 49) (tgt := 53) hC dX9_openGutters_49 rfl ?_
    refine rc_drop [true, true, false, true] (L' := [some (rc_q (some (rc_km (yr_K Y) 100))), some (rc_i v1), none, some (rc_i v3)]) rfl ?_
    exact rw_X9_openGutters_L53 hC hH hF ih v1 v3 ((1 : Int32) <<< (v3 &&& 31)) v2 S h
theorem rw_X9_openGutters_L14 {Y : rc_Y} (hC : rc_C Y cX9_openGutters RX9 (Option.some Jvm.ClassFile.FieldType.int) 4) (hH : rc_H Y 4 91 yX9_openGutters.name) (hF : yr_F Y = true) (v1 : Int32) (s0 : Int32) (S : rc_S) (h : rc_Go Y rc_tI (rp_X9_openGutters_L14  v1 s0) S) : rc_Z Y S 14 [some (rc_q (some (rc_km (yr_K Y) 100))), some (rc_i v1), none, none] [rc_i s0, rc_q (some (rc_km (yr_K Y) 100))] := by
  unfold rp_X9_openGutters_L14 at h
  refine rc_callM (pc := 14) hC (rw_X9_throwsOne hH.1 s0) q2392 q2394 qs97 q149 q2395 rfl rd_X9_throwsOne (hH.room (Nat.le_of_ble_eq_true rfl) (Nat.le_of_ble_eq_true rfl)) rfl rfl (Nat.le_of_ble_eq_true rfl) 1 rfl h.le.2.2 (Or.inl hF) h.br rfl dX9_openGutters_14 ?_ (fun E q S hT => rc_out hC hH.2.2.2.2 hT)
  intro x1 S h
  show rc_Z Y S 17 [some (rc_q (some (rc_km (yr_K Y) 100))), some (rc_i v1), none, none] [rc_i x1]
  refine rc_if_eq (pc := 17) (tgt := 22) hC dX9_openGutters_17 rfl h ?_ ?_
  · intro _ h
    refine rc_iconst (pc := 22) hC (v := (0 : Int32)) dX9_openGutters_22 rfl ?_
    refine rc_istore_n (pc := 23) hC (L' := [some (rc_q (some (rc_km (yr_K Y) 100))), some (rc_i v1), some (rc_i (0 : Int32)), none]) dX9_openGutters_23 rfl (Nat.le_of_ble_eq_true rfl) rfl rfl ?_
    refine rc_iconst (pc := 24) hC (v := (0 : Int32)) dX9_openGutters_24 rfl ?_
    refine rc_istore_n (pc := 25) hC (L' := [some (rc_q (some (rc_km (yr_K Y) 100))), some (rc_i v1), some (rc_i (0 : Int32)), some (rc_i (0 : Int32))]) dX9_openGutters_25 rfl (Nat.le_of_ble_eq_true rfl) rfl rfl ?_
    refine rc_r_fuel h ?_
    intro x2 h
    exact rw_X9_openGutters_L26 hC hH hF  x2 v1 (0 : Int32) (0 : Int32) S h
  intro _ h
  refine rc_iconst (pc := 20) hC (v := (0 : Int32)) dX9_openGutters_20 rfl ?_
  exact rc_iret hC rfl rfl dX9_openGutters_21 h rfl
theorem rw_X9_openGutters {l : Launch} (hl : l.stackTraces = false) (v1 : Int32) : rc_Cm l yX9_openGutters (ws_ yX9_openGutters cX9_openGutters 4 (Option.some Jvm.ClassFile.FieldType.int)) 4 91 rc_tI (rp_X9_openGutters v1) [rc_i v1] := by
  refine rc_Cm_H hl (plainFor_of_name rY_X9) rfl (Nat.le_of_ble_eq_true rfl) ?_
  intro Y S hC hH hF h
  have hC : rc_C Y cX9_openGutters RX9 (Option.some Jvm.ClassFile.FieldType.int) 4 := hC
  show rc_Z Y S 0 [some (rc_q (some (rc_km (yr_K Y) 100))), some (rc_i v1), none, none] []
  unfold rp_X9_openGutters at h
  refine rc_aload_n (pc := 0) hC dX9_openGutters_0 rfl rfl ?_
  refine rc_aload_n (pc := 1) hC dX9_openGutters_1 rfl rfl ?_
  refine rc_iload_n (pc := 2) hC dX9_openGutters_2 rfl rfl ?_
  refine rc_callM (pc := 3) hC (rw_X9_isCat hH.1 v1) q2439 q2441 qs103 q149 q2442 rfl rd_X9_isCat (hH.room (Nat.le_of_ble_eq_true rfl) (Nat.le_of_ble_eq_true rfl)) rfl rfl (Nat.le_of_ble_eq_true rfl) 1 rfl h.le.2.2 (Or.inl hF) h.br rfl dX9_openGutters_3 ?_ (fun E q S hT => rc_out hC hH.2.2.2.2 hT)
  intro x1 S h
  show rc_Z Y S 6 [some (rc_q (some (rc_km (yr_K Y) 100))), some (rc_i v1), none, none] [rc_i x1, rc_q (some (rc_km (yr_K Y) 100))]
  refine rc_if_ne (pc := 6) (tgt := 13) hC dX9_openGutters_6 rfl h ?_ ?_
  · intro _ h
    refine rc_iconst (pc := 13) hC (v := (0 : Int32)) dX9_openGutters_13 rfl ?_
    exact rw_X9_openGutters_L14 hC hH hF  v1 (0 : Int32) S h
  intro _ h
  refine rc_iconst (pc := 9) hC (v := (1 : Int32)) dX9_openGutters_9 rfl ?_
  refine rc_goto (pc := 10) (tgt := 14) hC dX9_openGutters_10 rfl ?_
  exact rw_X9_openGutters_L14 hC hH hF  v1 (1 : Int32) S h
theorem rw_X9_whyNoStep_L22 {Y : rc_Y} (hC : rc_C Y cX9_whyNoStep RX9 (Option.some Jvm.ClassFile.FieldType.int) 3) (hH : rc_H Y 4 91 yX9_whyNoStep.name) (hF : yr_F Y = true) (v1 : Int32) (v2 : Int32) (s0 : Int32) (S : rc_S) (h : rc_Go Y rc_tI (rp_X9_whyNoStep_L22  v1 v2 s0) S) : rc_Z Y S 22 [some (rc_q (some (rc_km (yr_K Y) 100))), some (rc_i v1), some (rc_i v2)] [rc_i s0, rc_q (some (rc_km (yr_K Y) 100))] := by
  unfold rp_X9_whyNoStep_L22 at h
  refine rc_callM (pc := 22) hC (rw_X9_throwsOne hH.1 s0) q2392 q2394 qs97 q149 q2395 rfl rd_X9_throwsOne (hH.room (Nat.le_of_ble_eq_true rfl) (Nat.le_of_ble_eq_true rfl)) rfl rfl (Nat.le_of_ble_eq_true rfl) 1 rfl h.le.2.2 (Or.inl hF) h.br rfl dX9_whyNoStep_22 ?_ (fun E q S hT => rc_out hC hH.2.2.2.2 hT)
  intro x1 S h
  show rc_Z Y S 25 [some (rc_q (some (rc_km (yr_K Y) 100))), some (rc_i v1), some (rc_i v2)] [rc_i x1]
  refine rc_if_eq (pc := 25) (tgt := 32) hC dX9_whyNoStep_25 rfl h ?_ ?_
  · intro _ h
    refine rc_aload_n (pc := 32) hC dX9_whyNoStep_32 rfl rfl ?_
    refine rc_iload_n (pc := 33) hC dX9_whyNoStep_33 rfl rfl ?_
    refine rc_iload_n (pc := 34) hC dX9_whyNoStep_34 rfl rfl ?_
    refine rc_callM (pc := 35) hC (rw_X9_whyStays hH.1 v1 v2) q2144 q2146 qs57 q149 q2147 rfl rd_X9_whyStays (hH.room (Nat.le_of_ble_eq_true rfl) (Nat.le_of_ble_eq_true rfl)) rfl rfl (Nat.le_of_ble_eq_true rfl) 2 rfl h.le.2.2 (Or.inl hF) h.br rfl dX9_whyNoStep_35 ?_ (fun E q S hT => rc_out hC hH.2.2.2.2 hT)
    intro x2 S h
    show rc_Z Y S 38 [some (rc_q (some (rc_km (yr_K Y) 100))), some (rc_i v1), some (rc_i v2)] [rc_i x2]
    exact rc_iret hC rfl rfl dX9_whyNoStep_38 h rfl
  intro _ h
  refine rc_iconst (pc := 28) hC (v := (0 : Int32)) dX9_whyNoStep_28 rfl ?_
  refine rc_goto (pc := 29) (tgt := 38) hC dX9_whyNoStep_29 rfl ?_
  exact rc_iret hC rfl rfl dX9_whyNoStep_38 h rfl
theorem rw_X9_whyNoStep_L17 {Y : rc_Y} (hC : rc_C Y cX9_whyNoStep RX9 (Option.some Jvm.ClassFile.FieldType.int) 3) (hH : rc_H Y 4 91 yX9_whyNoStep.name) (hF : yr_F Y = true) (v1 : Int32) (v2 : Int32) (S : rc_S) (h : rc_Go Y rc_tI (rp_X9_whyNoStep_L17  v1 v2) S) : rc_Z Y S 17 [some (rc_q (some (rc_km (yr_K Y) 100))), some (rc_i v1), some (rc_i v2)] [rc_q (some (rc_km (yr_K Y) 100))] := by
  unfold rp_X9_whyNoStep_L17 at h
  refine rc_iconst (pc := 17) hC (v := (1 : Int32)) dX9_whyNoStep_17 rfl ?_
  refine rc_goto (pc := 18) (tgt := 22) hC dX9_whyNoStep_18 rfl ?_
  exact rw_X9_whyNoStep_L22 hC hH hF  v1 v2 (1 : Int32) S h
theorem rw_X9_whyNoStep {l : Launch} (hl : l.stackTraces = false) (v1 : Int32) (v2 : Int32) : rc_Cm l yX9_whyNoStep (ws_ yX9_whyNoStep cX9_whyNoStep 3 (Option.some Jvm.ClassFile.FieldType.int)) 4 91 rc_tI (rp_X9_whyNoStep v1 v2) [rc_i v1, rc_i v2] := by
  refine rc_Cm_H hl (plainFor_of_name rY_X9) rfl (Nat.le_of_ble_eq_true rfl) ?_
  intro Y S hC hH hF h
  have hC : rc_C Y cX9_whyNoStep RX9 (Option.some Jvm.ClassFile.FieldType.int) 3 := hC
  show rc_Z Y S 0 [some (rc_q (some (rc_km (yr_K Y) 100))), some (rc_i v1), some (rc_i v2)] []
  unfold rp_X9_whyNoStep at h
  refine rc_aload_n (pc := 0) hC dX9_whyNoStep_0 rfl rfl ?_
  refine rc_aload_n (pc := 1) hC dX9_whyNoStep_1 rfl rfl ?_
  refine rc_iload_n (pc := 2) hC dX9_whyNoStep_2 rfl rfl ?_
  refine rc_callM (pc := 3) hC (rw_X9_isCat hH.1 v1) q2439 q2441 qs103 q149 q2442 rfl rd_X9_isCat (hH.room (Nat.le_of_ble_eq_true rfl) (Nat.le_of_ble_eq_true rfl)) rfl rfl (Nat.le_of_ble_eq_true rfl) 1 rfl h.le.2.2 (Or.inl hF) h.br rfl dX9_whyNoStep_3 ?_ (fun E q S hT => rc_out hC hH.2.2.2.2 hT)
  intro x1 S h
  show rc_Z Y S 6 [some (rc_q (some (rc_km (yr_K Y) 100))), some (rc_i v1), some (rc_i v2)] [rc_i x1, rc_q (some (rc_km (yr_K Y) 100))]
  refine rc_if_eq (pc := 6) (tgt := 17) hC dX9_whyNoStep_6 rfl h ?_ ?_
  · intro _ h
    exact rw_X9_whyNoStep_L17 hC hH hF  v1 v2 S h
  intro _ h
  refine rc_aload_n (pc := 9) hC dX9_whyNoStep_9 rfl rfl ?_
  refine rc_iload_n (pc := 10) hC dX9_whyNoStep_10 rfl rfl ?_
  refine rc_callM (pc := 11) hC (rw_X9_isGutter hH.1 v2) q2443 q2445 qs104 q149 q2446 rfl rd_X9_isGutter (hH.room (Nat.le_of_ble_eq_true rfl) (Nat.le_of_ble_eq_true rfl)) rfl rfl (Nat.le_of_ble_eq_true rfl) 1 rfl h.le.2.2 (Or.inl hF) h.br rfl dX9_whyNoStep_11 ?_ (fun E q S hT => rc_out hC hH.2.2.2.2 hT)
  intro x2 S h
  show rc_Z Y S 14 [some (rc_q (some (rc_km (yr_K Y) 100))), some (rc_i v1), some (rc_i v2)] [rc_i x2, rc_q (some (rc_km (yr_K Y) 100))]
  refine rc_if_ne (pc := 14) (tgt := 21) hC dX9_whyNoStep_14 rfl h ?_ ?_
  · intro _ h
    refine rc_iconst (pc := 21) hC (v := (0 : Int32)) dX9_whyNoStep_21 rfl ?_
    exact rw_X9_whyNoStep_L22 hC hH hF  v1 v2 (0 : Int32) S h
  intro _ h
  exact rw_X9_whyNoStep_L17 hC hH hF  v1 v2 S h
theorem rw_X9_whyNoClaim_L14 {Y : rc_Y} (hC : rc_C Y cX9_whyNoClaim RX9 (Option.some Jvm.ClassFile.FieldType.int) 2) (hH : rc_H Y 3 65 yX9_whyNoClaim.name) (hF : yr_F Y = true) (v1 : Int32) (s0 : Int32) (S : rc_S) (h : rc_Go Y rc_tI (rp_X9_whyNoClaim_L14  v1 s0) S) : rc_Z Y S 14 [some (rc_q (some (rc_km (yr_K Y) 100))), some (rc_i v1)] [rc_i s0, rc_q (some (rc_km (yr_K Y) 100))] := by
  unfold rp_X9_whyNoClaim_L14 at h
  refine rc_callM (pc := 14) hC (rw_X9_throwsOne hH.1 s0) q2392 q2394 qs97 q149 q2395 rfl rd_X9_throwsOne (hH.room (Nat.le_of_ble_eq_true rfl) (Nat.le_of_ble_eq_true rfl)) rfl rfl (Nat.le_of_ble_eq_true rfl) 1 rfl h.le.2.2 (Or.inl hF) h.br rfl dX9_whyNoClaim_14 ?_ (fun E q S hT => rc_out hC hH.2.2.2.2 hT)
  intro x1 S h
  show rc_Z Y S 17 [some (rc_q (some (rc_km (yr_K Y) 100))), some (rc_i v1)] [rc_i x1]
  refine rc_if_eq (pc := 17) (tgt := 24) hC dX9_whyNoClaim_17 rfl h ?_ ?_
  · intro _ h
    refine rc_aload_n (pc := 24) hC dX9_whyNoClaim_24 rfl rfl ?_
    refine rc_iload_n (pc := 25) hC dX9_whyNoClaim_25 rfl rfl ?_
    refine rc_callM (pc := 26) hC (rw_X9_whyLeaves hH.1 v1) q2177 q2179 qs65 q149 q2180 rfl rd_X9_whyLeaves (hH.room (Nat.le_of_ble_eq_true rfl) (Nat.le_of_ble_eq_true rfl)) rfl rfl (Nat.le_of_ble_eq_true rfl) 1 rfl h.le.2.2 (Or.inl hF) h.br rfl dX9_whyNoClaim_26 ?_ (fun E q S hT => rc_out hC hH.2.2.2.2 hT)
    intro x2 S h
    show rc_Z Y S 29 [some (rc_q (some (rc_km (yr_K Y) 100))), some (rc_i v1)] [rc_i x2]
    exact rc_iret hC rfl rfl dX9_whyNoClaim_29 h rfl
  intro _ h
  refine rc_iconst (pc := 20) hC (v := (0 : Int32)) dX9_whyNoClaim_20 rfl ?_
  refine rc_goto (pc := 21) (tgt := 29) hC dX9_whyNoClaim_21 rfl ?_
  exact rc_iret hC rfl rfl dX9_whyNoClaim_29 h rfl
theorem rw_X9_whyNoClaim {l : Launch} (hl : l.stackTraces = false) (v1 : Int32) : rc_Cm l yX9_whyNoClaim (ws_ yX9_whyNoClaim cX9_whyNoClaim 2 (Option.some Jvm.ClassFile.FieldType.int)) 3 65 rc_tI (rp_X9_whyNoClaim v1) [rc_i v1] := by
  refine rc_Cm_H hl (plainFor_of_name rY_X9) rfl (Nat.le_of_ble_eq_true rfl) ?_
  intro Y S hC hH hF h
  have hC : rc_C Y cX9_whyNoClaim RX9 (Option.some Jvm.ClassFile.FieldType.int) 2 := hC
  show rc_Z Y S 0 [some (rc_q (some (rc_km (yr_K Y) 100))), some (rc_i v1)] []
  unfold rp_X9_whyNoClaim at h
  refine rc_aload_n (pc := 0) hC dX9_whyNoClaim_0 rfl rfl ?_
  refine rc_aload_n (pc := 1) hC dX9_whyNoClaim_1 rfl rfl ?_
  refine rc_iload_n (pc := 2) hC dX9_whyNoClaim_2 rfl rfl ?_
  refine rc_callM (pc := 3) hC (rw_X9_isCat hH.1 v1) q2439 q2441 qs103 q149 q2442 rfl rd_X9_isCat (hH.room (Nat.le_of_ble_eq_true rfl) (Nat.le_of_ble_eq_true rfl)) rfl rfl (Nat.le_of_ble_eq_true rfl) 1 rfl h.le.2.2 (Or.inl hF) h.br rfl dX9_whyNoClaim_3 ?_ (fun E q S hT => rc_out hC hH.2.2.2.2 hT)
  intro x1 S h
  show rc_Z Y S 6 [some (rc_q (some (rc_km (yr_K Y) 100))), some (rc_i v1)] [rc_i x1, rc_q (some (rc_km (yr_K Y) 100))]
  refine rc_if_ne (pc := 6) (tgt := 13) hC dX9_whyNoClaim_6 rfl h ?_ ?_
  · intro _ h
    refine rc_iconst (pc := 13) hC (v := (0 : Int32)) dX9_whyNoClaim_13 rfl ?_
    exact rw_X9_whyNoClaim_L14 hC hH hF  v1 (0 : Int32) S h
  intro _ h
  refine rc_iconst (pc := 9) hC (v := (1 : Int32)) dX9_whyNoClaim_9 rfl ?_
  refine rc_goto (pc := 10) (tgt := 14) hC dX9_whyNoClaim_10 rfl ?_
  exact rw_X9_whyNoClaim_L14 hC hH hF  v1 (1 : Int32) S h
theorem rw_X9_whyNoChase_L25 {Y : rc_Y} (hC : rc_C Y cX9_whyNoChase RX9 (Option.some Jvm.ClassFile.FieldType.int) 3) (hH : rc_H Y 4 91 yX9_whyNoChase.name) (hF : yr_F Y = true) (v1 : Int32) (v2 : Int32) (s0 : Int32) (s1 : Int32) (S : rc_S) (h : rc_Go Y rc_tI (rp_X9_whyNoChase_L25  v1 v2 s0 s1) S) : rc_Z Y S 25 [some (rc_q (some (rc_km (yr_K Y) 100))), some (rc_i v1), some (rc_i v2)] [rc_i s0, rc_i s1, rc_q (some (rc_km (yr_K Y) 100))] := by
  unfold rp_X9_whyNoChase_L25 at h
  refine rc_callM (pc := 25) hC (rw_X9_throwsOne_2 hH.1 s1 s0) q2412 q2414 qs100 q149 q2415 rfl rd_X9_throwsOne_2 (hH.room (Nat.le_of_ble_eq_true rfl) (Nat.le_of_ble_eq_true rfl)) rfl rfl (Nat.le_of_ble_eq_true rfl) 2 rfl h.le.2.2 (Or.inl hF) h.br rfl dX9_whyNoChase_25 ?_ (fun E q S hT => rc_out hC hH.2.2.2.2 hT)
  intro x1 S h
  show rc_Z Y S 28 [some (rc_q (some (rc_km (yr_K Y) 100))), some (rc_i v1), some (rc_i v2)] [rc_i x1]
  refine rc_if_eq (pc := 28) (tgt := 35) hC dX9_whyNoChase_28 rfl h ?_ ?_
  · intro _ h
    refine rc_aload_n (pc := 35) hC dX9_whyNoChase_35 rfl rfl ?_
    refine rc_iload_n (pc := 36) hC dX9_whyNoChase_36 rfl rfl ?_
    refine rc_iload_n (pc := 37) hC dX9_whyNoChase_37 rfl rfl ?_
    refine rc_callM (pc := 38) hC (rw_X9_whySpares hH.1 v1 v2) q2201 q2203 qs71 q149 q2204 rfl rd_X9_whySpares (hH.room (Nat.le_of_ble_eq_true rfl) (Nat.le_of_ble_eq_true rfl)) rfl rfl (Nat.le_of_ble_eq_true rfl) 2 rfl h.le.2.2 (Or.inl hF) h.br rfl dX9_whyNoChase_38 ?_ (fun E q S hT => rc_out hC hH.2.2.2.2 hT)
    intro x2 S h
    show rc_Z Y S 41 [some (rc_q (some (rc_km (yr_K Y) 100))), some (rc_i v1), some (rc_i v2)] [rc_i x2]
    exact rc_iret hC rfl rfl dX9_whyNoChase_41 h rfl
  intro _ h
  refine rc_iconst (pc := 31) hC (v := (0 : Int32)) dX9_whyNoChase_31 rfl ?_
  refine rc_goto (pc := 32) (tgt := 41) hC dX9_whyNoChase_32 rfl ?_
  exact rc_iret hC rfl rfl dX9_whyNoChase_41 h rfl
theorem rw_X9_whyNoChase_L15 {Y : rc_Y} (hC : rc_C Y cX9_whyNoChase RX9 (Option.some Jvm.ClassFile.FieldType.int) 3) (hH : rc_H Y 4 91 yX9_whyNoChase.name) (hF : yr_F Y = true) (v1 : Int32) (v2 : Int32) (s0 : Int32) (S : rc_S) (h : rc_Go Y rc_tI (rp_X9_whyNoChase_L15  v1 v2 s0) S) : rc_Z Y S 15 [some (rc_q (some (rc_km (yr_K Y) 100))), some (rc_i v1), some (rc_i v2)] [rc_i s0, rc_q (some (rc_km (yr_K Y) 100))] := by
  unfold rp_X9_whyNoChase_L15 at h
  refine rc_iload_n (pc := 15) hC dX9_whyNoChase_15 rfl rfl ?_
  refine rc_iload_n (pc := 16) hC dX9_whyNoChase_16 rfl rfl ?_
  refine rc_icmp_ne (pc := 17) (tgt := 24) hC dX9_whyNoChase_17 rfl h ?_ ?_
  · intro _ h
    refine rc_iconst (pc := 24) hC (v := (0 : Int32)) dX9_whyNoChase_24 rfl ?_
    exact rw_X9_whyNoChase_L25 hC hH hF  v1 v2 (0 : Int32) s0 S h
  intro _ h
  refine rc_iconst (pc := 20) hC (v := (1 : Int32)) dX9_whyNoChase_20 rfl ?_
  refine rc_goto (pc := 21) (tgt := 25) hC dX9_whyNoChase_21 rfl ?_
  exact rw_X9_whyNoChase_L25 hC hH hF  v1 v2 (1 : Int32) s0 S h
theorem rw_X9_whyNoChase {l : Launch} (hl : l.stackTraces = false) (v1 : Int32) (v2 : Int32) : rc_Cm l yX9_whyNoChase (ws_ yX9_whyNoChase cX9_whyNoChase 3 (Option.some Jvm.ClassFile.FieldType.int)) 4 91 rc_tI (rp_X9_whyNoChase v1 v2) [rc_i v1, rc_i v2] := by
  refine rc_Cm_H hl (plainFor_of_name rY_X9) rfl (Nat.le_of_ble_eq_true rfl) ?_
  intro Y S hC hH hF h
  have hC : rc_C Y cX9_whyNoChase RX9 (Option.some Jvm.ClassFile.FieldType.int) 3 := hC
  show rc_Z Y S 0 [some (rc_q (some (rc_km (yr_K Y) 100))), some (rc_i v1), some (rc_i v2)] []
  unfold rp_X9_whyNoChase at h
  refine rc_aload_n (pc := 0) hC dX9_whyNoChase_0 rfl rfl ?_
  refine rc_aload_n (pc := 1) hC dX9_whyNoChase_1 rfl rfl ?_
  refine rc_iload_n (pc := 2) hC dX9_whyNoChase_2 rfl rfl ?_
  refine rc_iload_n (pc := 3) hC dX9_whyNoChase_3 rfl rfl ?_
  refine rc_callM (pc := 4) hC (rw_X9_areCats hH.1 v1 v2) q2459 q2461 qs105 q149 q2462 rfl rd_X9_areCats (hH.room (Nat.le_of_ble_eq_true rfl) (Nat.le_of_ble_eq_true rfl)) rfl rfl (Nat.le_of_ble_eq_true rfl) 2 rfl h.le.2.2 (Or.inl hF) h.br rfl dX9_whyNoChase_4 ?_ (fun E q S hT => rc_out hC hH.2.2.2.2 hT)
  intro x1 S h
  show rc_Z Y S 7 [some (rc_q (some (rc_km (yr_K Y) 100))), some (rc_i v1), some (rc_i v2)] [rc_i x1, rc_q (some (rc_km (yr_K Y) 100))]
  refine rc_if_ne (pc := 7) (tgt := 14) hC dX9_whyNoChase_7 rfl h ?_ ?_
  · intro _ h
    refine rc_iconst (pc := 14) hC (v := (0 : Int32)) dX9_whyNoChase_14 rfl ?_
    exact rw_X9_whyNoChase_L15 hC hH hF  v1 v2 (0 : Int32) S h
  intro _ h
  refine rc_iconst (pc := 10) hC (v := (1 : Int32)) dX9_whyNoChase_10 rfl ?_
  refine rc_goto (pc := 11) (tgt := 15) hC dX9_whyNoChase_11 rfl ?_
  exact rw_X9_whyNoChase_L15 hC hH hF  v1 v2 (1 : Int32) S h
theorem rw_X9_preyOf_L58 {Y : rc_Y} (hC : rc_C Y cX9_preyOf RX9 (Option.some Jvm.ClassFile.FieldType.int) 4) (hH : rc_H Y 4 91 yX9_preyOf.name) (hF : yr_F Y = true) {k26 : Int32 → Int32 → Int32 → rc_M Int32} (hk26 : ∀ (v1 : Int32) (v2 : Int32) (v3 : Int32) (S : rc_S), rc_Go Y rc_tI (k26 v1 v2 v3) S → rc_Z Y S 26 [some (rc_q (some (rc_km (yr_K Y) 100))), some (rc_i v1), some (rc_i v2), some (rc_i v3)] []) (v1 : Int32) (v3 : Int32) (s0 : Int32) (s1 : Int32) (S : rc_S) (h : rc_Go Y rc_tI (rp_X9_preyOf_L58 k26 v1 v3 s0 s1) S) : rc_Z Y S 58 [some (rc_q (some (rc_km (yr_K Y) 100))), some (rc_i v1), none, some (rc_i v3)] [rc_i s0, rc_i s1] := by
  unfold rp_X9_preyOf_L58 at h
  refine rc_ior (pc := 58) hC dX9_preyOf_58 ?_
  refine rc_istore_n (pc := 59) hC (L' := [some (rc_q (some (rc_km (yr_K Y) 100))), some (rc_i v1), some (rc_i (s1 ||| s0)), some (rc_i v3)]) dX9_preyOf_59 rfl (Nat.le_of_ble_eq_true rfl) rfl rfl ?_
  refine rc_iinc (pc := 60) hC (v := (v3 + (1 : Int32))) (L' := [some (rc_q (some (rc_km (yr_K Y) 100))), some (rc_i v1), some (rc_i (s1 ||| s0)), some (rc_i (v3 + (1 : Int32)))]) dX9_preyOf_60 rfl rfl rfl rfl ?_
  refine rc_goto (pc := 63) (tgt := 26) hC dX9_preyOf_63 rfl ?_
  exact hk26 v1 (s1 ||| s0) (v3 + (1 : Int32)) S h
theorem rw_X9_preyOf_L57 {Y : rc_Y} (hC : rc_C Y cX9_preyOf RX9 (Option.some Jvm.ClassFile.FieldType.int) 4) (hH : rc_H Y 4 91 yX9_preyOf.name) (hF : yr_F Y = true) {k26 : Int32 → Int32 → Int32 → rc_M Int32} (hk26 : ∀ (v1 : Int32) (v2 : Int32) (v3 : Int32) (S : rc_S), rc_Go Y rc_tI (k26 v1 v2 v3) S → rc_Z Y S 26 [some (rc_q (some (rc_km (yr_K Y) 100))), some (rc_i v1), some (rc_i v2), some (rc_i v3)] []) (v1 : Int32) (v3 : Int32) (s0 : Int32) (S : rc_S) (h : rc_Go Y rc_tI (rp_X9_preyOf_L57 k26 v1 v3 s0) S) : rc_Z Y S 57 [some (rc_q (some (rc_km (yr_K Y) 100))), some (rc_i v1), none, some (rc_i v3)] [rc_i s0] := by
  unfold rp_X9_preyOf_L57 at h
  refine rc_iconst (pc := 57) hC (v := (0 : Int32)) dX9_preyOf_57 rfl ?_
  exact rw_X9_preyOf_L58 hC hH hF hk26 v1 v3 (0 : Int32) s0 S h
theorem rw_X9_preyOf_L26 {Y : rc_Y} (hC : rc_C Y cX9_preyOf RX9 (Option.some Jvm.ClassFile.FieldType.int) 4) (hH : rc_H Y 4 91 yX9_preyOf.name) (hF : yr_F Y = true) : ∀ (n : Nat) (v1 : Int32) (v2 : Int32) (v3 : Int32) (S : rc_S), rc_Go Y rc_tI (rp_X9_preyOf_L26  n v1 v2 v3) S → rc_Z Y S 26 [some (rc_q (some (rc_km (yr_K Y) 100))), some (rc_i v1), some (rc_i v2), some (rc_i v3)] [] := by
  intro n
  induction n with
  | zero => intro v1 v2 v3 S h; exact h.fail.elim
  | succ n ih =>
    intro v1 v2 v3 S h
    rw [rp_X9_preyOf_L26] at h
    refine rc_iload_n (pc := 26) hC dX9_preyOf_26 rfl rfl ?_
    refine rc_aload_n (pc := 27) hC dX9_preyOf_27 rfl rfl ?_
    refine rc_r_mref (pc := 28) hC hF rF_X9_7 (by decide) dX9_preyOf_28 h ?_
    refine rc_iconst (pc := 31) hC (v := (2 : Int32)) dX9_preyOf_31 rfl ?_
    refine rc_r_mald (pc := 32) hC hF (j := 0) (by decide) rfl dX9_preyOf_32 h ?_
    intro x2 h
    refine rc_icmp_ge (pc := 33) (tgt := 66) hC dX9_preyOf_33 rfl h ?_ ?_
    · intro _ h
      refine rc_iload_n (pc := 66) hC dX9_preyOf_66 rfl rfl ?_
      exact rc_iret hC rfl rfl dX9_preyOf_67 h rfl
    intro _ h
    refine rc_iload_n (pc := 36) hC dX9_preyOf_36 rfl rfl ?_
    refine rc_iload_n (pc := 37) hC dX9_preyOf_37 rfl rfl ?_
    refine rc_iload_n (pc := 38) hC dX9_preyOf_38 rfl rfl ?_
    refine rc_icmp_eq (pc := 39) (tgt := 57) hC dX9_preyOf_39 rfl h ?_ ?_
    · intro _ h
      refine rc_drop [true, true, false, true] (L' := [some (rc_q (some (rc_km (yr_K Y) 100))), some (rc_i v1), none, some (rc_i v3)]) rfl ?_
      exact rw_X9_preyOf_L57 hC hH hF ih v1 v3 v2 S h
    intro _ h
    refine rc_aload_n (pc := 42) hC dX9_preyOf_42 rfl rfl ?_
    refine rc_iload_n (pc := 43) hC dX9_preyOf_43 rfl rfl ?_
    refine rc_iload_n (pc := 44) hC dX9_preyOf_44 rfl rfl ?_
    refine rc_callM (pc := 45) hC (rw_X9_whySpares hH.1 v1 v3) q2201 q2203 qs71 q149 q2204 rfl rd_X9_whySpares (hH.room (Nat.le_of_ble_eq_true rfl) (Nat.le_of_ble_eq_true rfl)) rfl rfl (Nat.le_of_ble_eq_true rfl) 2 rfl h.le.2.2 (Or.inl hF) h.br rfl dX9_preyOf_45 ?_ (fun E q S hT => rc_out hC hH.2.2.2.2 hT)
    intro x3 S h
    show rc_Z Y S 48 [some (rc_q (some (rc_km (yr_K Y) 100))), some (rc_i v1), some (rc_i v2), some (rc_i v3)] [rc_i x3, rc_i v2]
    refine rc_if_ne (pc := 48) (tgt := 57) hC dX9_preyOf_48 rfl h ?_ ?_
    · intro _ h
      refine rc_drop [true, true, false, true] (L' := [some (rc_q (some (rc_km (yr_K Y) 100))), some (rc_i v1), none, some (rc_i v3)]) rfl ?_
      exact rw_X9_preyOf_L57 hC hH hF ih v1 v3 v2 S h
    intro _ h
    refine rc_iconst (pc := 51) hC (v := (1 : Int32)) dX9_preyOf_51 rfl ?_
    refine rc_iload_n (pc := 52) hC dX9_preyOf_52 rfl rfl ?_
    refine rc_ishl (pc := 53) hC dX9_preyOf_53 ?_
    refine rc_goto (pc := 54) (tgt := 58) hC dX9_preyOf_54 rfl ?_
    refine rc_drop [true, true, false, true] (L' := [some (rc_q (some (rc_km (yr_K Y) 100))), some (rc_i v1), none, some (rc_i v3)]) rfl ?_
    exact rw_X9_preyOf_L58 hC hH hF ih v1 v3 ((1 : Int32) <<< (v3 &&& 31)) v2 S h
theorem rw_X9_preyOf_L14 {Y : rc_Y} (hC : rc_C Y cX9_preyOf RX9 (Option.some Jvm.ClassFile.FieldType.int) 4) (hH : rc_H Y 4 91 yX9_preyOf.name) (hF : yr_F Y = true) (v1 : Int32) (s0 : Int32) (S : rc_S) (h : rc_Go Y rc_tI (rp_X9_preyOf_L14  v1 s0) S) : rc_Z Y S 14 [some (rc_q (some (rc_km (yr_K Y) 100))), some (rc_i v1), none, none] [rc_i s0, rc_q (some (rc_km (yr_K Y) 100))] := by
  unfold rp_X9_preyOf_L14 at h
  refine rc_callM (pc := 14) hC (rw_X9_throwsOne hH.1 s0) q2392 q2394 qs97 q149 q2395 rfl rd_X9_throwsOne (hH.room (Nat.le_of_ble_eq_true rfl) (Nat.le_of_ble_eq_true rfl)) rfl rfl (Nat.le_of_ble_eq_true rfl) 1 rfl h.le.2.2 (Or.inl hF) h.br rfl dX9_preyOf_14 ?_ (fun E q S hT => rc_out hC hH.2.2.2.2 hT)
  intro x1 S h
  show rc_Z Y S 17 [some (rc_q (some (rc_km (yr_K Y) 100))), some (rc_i v1), none, none] [rc_i x1]
  refine rc_if_eq (pc := 17) (tgt := 22) hC dX9_preyOf_17 rfl h ?_ ?_
  · intro _ h
    refine rc_iconst (pc := 22) hC (v := (0 : Int32)) dX9_preyOf_22 rfl ?_
    refine rc_istore_n (pc := 23) hC (L' := [some (rc_q (some (rc_km (yr_K Y) 100))), some (rc_i v1), some (rc_i (0 : Int32)), none]) dX9_preyOf_23 rfl (Nat.le_of_ble_eq_true rfl) rfl rfl ?_
    refine rc_iconst (pc := 24) hC (v := (0 : Int32)) dX9_preyOf_24 rfl ?_
    refine rc_istore_n (pc := 25) hC (L' := [some (rc_q (some (rc_km (yr_K Y) 100))), some (rc_i v1), some (rc_i (0 : Int32)), some (rc_i (0 : Int32))]) dX9_preyOf_25 rfl (Nat.le_of_ble_eq_true rfl) rfl rfl ?_
    refine rc_r_fuel h ?_
    intro x2 h
    exact rw_X9_preyOf_L26 hC hH hF  x2 v1 (0 : Int32) (0 : Int32) S h
  intro _ h
  refine rc_iconst (pc := 20) hC (v := (0 : Int32)) dX9_preyOf_20 rfl ?_
  exact rc_iret hC rfl rfl dX9_preyOf_21 h rfl
theorem rw_X9_preyOf {l : Launch} (hl : l.stackTraces = false) (v1 : Int32) : rc_Cm l yX9_preyOf (ws_ yX9_preyOf cX9_preyOf 4 (Option.some Jvm.ClassFile.FieldType.int)) 4 91 rc_tI (rp_X9_preyOf v1) [rc_i v1] := by
  refine rc_Cm_H hl (plainFor_of_name rY_X9) rfl (Nat.le_of_ble_eq_true rfl) ?_
  intro Y S hC hH hF h
  have hC : rc_C Y cX9_preyOf RX9 (Option.some Jvm.ClassFile.FieldType.int) 4 := hC
  show rc_Z Y S 0 [some (rc_q (some (rc_km (yr_K Y) 100))), some (rc_i v1), none, none] []
  unfold rp_X9_preyOf at h
  refine rc_aload_n (pc := 0) hC dX9_preyOf_0 rfl rfl ?_
  refine rc_aload_n (pc := 1) hC dX9_preyOf_1 rfl rfl ?_
  refine rc_iload_n (pc := 2) hC dX9_preyOf_2 rfl rfl ?_
  refine rc_callM (pc := 3) hC (rw_X9_isCat hH.1 v1) q2439 q2441 qs103 q149 q2442 rfl rd_X9_isCat (hH.room (Nat.le_of_ble_eq_true rfl) (Nat.le_of_ble_eq_true rfl)) rfl rfl (Nat.le_of_ble_eq_true rfl) 1 rfl h.le.2.2 (Or.inl hF) h.br rfl dX9_preyOf_3 ?_ (fun E q S hT => rc_out hC hH.2.2.2.2 hT)
  intro x1 S h
  show rc_Z Y S 6 [some (rc_q (some (rc_km (yr_K Y) 100))), some (rc_i v1), none, none] [rc_i x1, rc_q (some (rc_km (yr_K Y) 100))]
  refine rc_if_ne (pc := 6) (tgt := 13) hC dX9_preyOf_6 rfl h ?_ ?_
  · intro _ h
    refine rc_iconst (pc := 13) hC (v := (0 : Int32)) dX9_preyOf_13 rfl ?_
    exact rw_X9_preyOf_L14 hC hH hF  v1 (0 : Int32) S h
  intro _ h
  refine rc_iconst (pc := 9) hC (v := (1 : Int32)) dX9_preyOf_9 rfl ?_
  refine rc_goto (pc := 10) (tgt := 14) hC dX9_preyOf_10 rfl ?_
  exact rw_X9_preyOf_L14 hC hH hF  v1 (1 : Int32) S h
theorem rw_X9_isKittenWaiting {l : Launch} (hl : l.stackTraces = false) : rc_Cm l yX9_isKittenWaiting (ws_ yX9_isKittenWaiting cX9_isKittenWaiting 1 (Option.some Jvm.ClassFile.FieldType.boolean)) 1 20 rc_tI (rp_X9_isKittenWaiting ) [] := by
  refine rc_Cm_H hl (plainFor_of_name rY_X9) rfl (Nat.le_of_ble_eq_true rfl) ?_
  intro Y S hC hH hF h
  have hC : rc_C Y cX9_isKittenWaiting RX9 (Option.some Jvm.ClassFile.FieldType.boolean) 1 := hC
  show rc_Z Y S 0 [some (rc_q (some (rc_km (yr_K Y) 100)))] []
  unfold rp_X9_isKittenWaiting at h
  refine rc_aload_n (pc := 0) hC dX9_isKittenWaiting_0 rfl rfl ?_
  refine rc_iconst (pc := 1) hC (v := (0 : Int32)) dX9_isKittenWaiting_1 rfl ?_
  refine rc_r_mput (pc := 2) hC (Or.inl hF) rP_X9_57 rfl dX9_isKittenWaiting_2 h ?_
  intro S h
  refine rc_aload_n (pc := 5) hC dX9_isKittenWaiting_5 rfl rfl ?_
  refine rc_callM (pc := 6) hC (rw_X9_waits hH.1) q2245 q2247 qs82 q149 q2248 rfl rd_X9_waits (hH.room (Nat.le_of_ble_eq_true rfl) (Nat.le_of_ble_eq_true rfl)) rfl rfl (Nat.le_of_ble_eq_true rfl) 0 rfl h.le.2.2 (Or.inl hF) h.br rfl dX9_isKittenWaiting_6 ?_ (fun E q S hT => rc_out hC hH.2.2.2.2 hT)
  intro x1 S h
  show rc_Z Y S 9 [some (rc_q (some (rc_km (yr_K Y) 100)))] [rc_i x1]
  obtain ⟨hn, h⟩ := h.nar
  exact rc_iret hC rfl hn dX9_isKittenWaiting_9 h rfl
theorem rw_X9_votesFor {l : Launch} (hl : l.stackTraces = false) : rc_Cm l yX9_votesFor (ws_ yX9_votesFor cX9_votesFor 1 (Option.some Jvm.ClassFile.FieldType.int)) 1 22 rc_tI (rp_X9_votesFor ) [] := by
  refine rc_Cm_H hl (plainFor_of_name rY_X9) rfl (Nat.le_of_ble_eq_true rfl) ?_
  intro Y S hC hH hF h
  have hC : rc_C Y cX9_votesFor RX9 (Option.some Jvm.ClassFile.FieldType.int) 1 := hC
  show rc_Z Y S 0 [some (rc_q (some (rc_km (yr_K Y) 100)))] []
  unfold rp_X9_votesFor at h
  refine rc_aload_n (pc := 0) hC dX9_votesFor_0 rfl rfl ?_
  refine rc_iconst (pc := 1) hC (v := (0 : Int32)) dX9_votesFor_1 rfl ?_
  refine rc_r_mput (pc := 2) hC (Or.inl hF) rP_X9_57 rfl dX9_votesFor_2 h ?_
  intro S h
  refine rc_aload_n (pc := 5) hC dX9_votesFor_5 rfl rfl ?_
  refine rc_r_mref (pc := 6) hC hF rF_X9_7 (by decide) dX9_votesFor_6 h ?_
  refine rc_bipush (pc := 9) hC (v := (7 : Int32)) dX9_votesFor_9 rfl ?_
  refine rc_r_mald (pc := 11) hC hF (j := 0) (by decide) rfl dX9_votesFor_11 h ?_
  intro x2 h
  refine rc_callS (pc := 12) hC (rw_X9_bits hH.1 x2) q2273 q2274 q149 q2275 rd_X9_bits (hH.room (Nat.le_of_ble_eq_true rfl) (Nat.le_of_ble_eq_true rfl)) rfl rfl (Nat.le_of_ble_eq_true rfl) 1 rfl h.le.2.2 h.br rfl dX9_votesFor_12 ?_ (fun E q S hT => rc_out hC hH.2.2.2.2 hT)
  intro x3 S h
  show rc_Z Y S 15 [some (rc_q (some (rc_km (yr_K Y) 100)))] [rc_i x3]
  exact rc_iret hC rfl rfl dX9_votesFor_15 h rfl
theorem rw_X9_votesAgainst {l : Launch} (hl : l.stackTraces = false) : rc_Cm l yX9_votesAgainst (ws_ yX9_votesAgainst cX9_votesAgainst 1 (Option.some Jvm.ClassFile.FieldType.int)) 1 22 rc_tI (rp_X9_votesAgainst ) [] := by
  refine rc_Cm_H hl (plainFor_of_name rY_X9) rfl (Nat.le_of_ble_eq_true rfl) ?_
  intro Y S hC hH hF h
  have hC : rc_C Y cX9_votesAgainst RX9 (Option.some Jvm.ClassFile.FieldType.int) 1 := hC
  show rc_Z Y S 0 [some (rc_q (some (rc_km (yr_K Y) 100)))] []
  unfold rp_X9_votesAgainst at h
  refine rc_aload_n (pc := 0) hC dX9_votesAgainst_0 rfl rfl ?_
  refine rc_iconst (pc := 1) hC (v := (0 : Int32)) dX9_votesAgainst_1 rfl ?_
  refine rc_r_mput (pc := 2) hC (Or.inl hF) rP_X9_57 rfl dX9_votesAgainst_2 h ?_
  intro S h
  refine rc_aload_n (pc := 5) hC dX9_votesAgainst_5 rfl rfl ?_
  refine rc_r_mref (pc := 6) hC hF rF_X9_7 (by decide) dX9_votesAgainst_6 h ?_
  refine rc_bipush (pc := 9) hC (v := (6 : Int32)) dX9_votesAgainst_9 rfl ?_
  refine rc_r_mald (pc := 11) hC hF (j := 0) (by decide) rfl dX9_votesAgainst_11 h ?_
  intro x2 h
  refine rc_callS (pc := 12) hC (rw_X9_bits hH.1 x2) q2273 q2274 q149 q2275 rd_X9_bits (hH.room (Nat.le_of_ble_eq_true rfl) (Nat.le_of_ble_eq_true rfl)) rfl rfl (Nat.le_of_ble_eq_true rfl) 1 rfl h.le.2.2 h.br rfl dX9_votesAgainst_12 ?_ (fun E q S hT => rc_out hC hH.2.2.2.2 hT)
  intro x3 S h
  show rc_Z Y S 15 [some (rc_q (some (rc_km (yr_K Y) 100)))] [rc_i x3]
  refine rc_aload_n (pc := 15) hC dX9_votesAgainst_15 rfl rfl ?_
  refine rc_r_mref (pc := 16) hC hF rF_X9_7 (by decide) dX9_votesAgainst_16 h ?_
  refine rc_bipush (pc := 19) hC (v := (7 : Int32)) dX9_votesAgainst_19 rfl ?_
  refine rc_r_mald (pc := 21) hC hF (j := 0) (by decide) rfl dX9_votesAgainst_21 h ?_
  intro x5 h
  refine rc_callS (pc := 22) hC (rw_X9_bits hH.1 x5) q2273 q2274 q149 q2275 rd_X9_bits (hH.room (Nat.le_of_ble_eq_true rfl) (Nat.le_of_ble_eq_true rfl)) rfl rfl (Nat.le_of_ble_eq_true rfl) 1 rfl h.le.2.2 h.br rfl dX9_votesAgainst_22 ?_ (fun E q S hT => rc_out hC hH.2.2.2.2 hT)
  intro x6 S h
  show rc_Z Y S 25 [some (rc_q (some (rc_km (yr_K Y) 100)))] [rc_i x6, rc_i x3]
  refine rc_isub (pc := 25) hC dX9_votesAgainst_25 ?_
  exact rc_iret hC rfl rfl dX9_votesAgainst_26 h rfl
theorem rw_X9_hasVoted_L14 {Y : rc_Y} (hC : rc_C Y cX9_hasVoted RX9 (Option.some Jvm.ClassFile.FieldType.boolean) 2) (hH : rc_H Y 2 43 yX9_hasVoted.name) (hF : yr_F Y = true) (v1 : Int32) (s0 : Int32) (S : rc_S) (h : rc_Go Y rc_tI (rp_X9_hasVoted_L14  v1 s0) S) : rc_Z Y S 14 [some (rc_q (some (rc_km (yr_K Y) 100))), some (rc_i v1)] [rc_i s0, rc_q (some (rc_km (yr_K Y) 100))] := by
  unfold rp_X9_hasVoted_L14 at h
  refine rc_callM (pc := 14) hC (rw_X9_throwsOne hH.1 s0) q2392 q2394 qs97 q149 q2395 rfl rd_X9_throwsOne (hH.room (Nat.le_of_ble_eq_true rfl) (Nat.le_of_ble_eq_true rfl)) rfl rfl (Nat.le_of_ble_eq_true rfl) 1 rfl h.le.2.2 (Or.inl hF) h.br rfl dX9_hasVoted_14 ?_ (fun E q S hT => rc_out hC hH.2.2.2.2 hT)
  intro x1 S h
  show rc_Z Y S 17 [some (rc_q (some (rc_km (yr_K Y) 100))), some (rc_i v1)] [rc_i x1]
  refine rc_if_ne (pc := 17) (tgt := 39) hC dX9_hasVoted_17 rfl h ?_ ?_
  · intro _ h
    refine rc_iconst (pc := 39) hC (v := (0 : Int32)) dX9_hasVoted_39 rfl ?_
    exact rc_iret hC rfl rfl dX9_hasVoted_40 h rfl
  intro _ h
  refine rc_aload_n (pc := 20) hC dX9_hasVoted_20 rfl rfl ?_
  refine rc_r_mref (pc := 21) hC hF rF_X9_7 (by decide) dX9_hasVoted_21 h ?_
  refine rc_bipush (pc := 24) hC (v := (6 : Int32)) dX9_hasVoted_24 rfl ?_
  refine rc_r_mald (pc := 26) hC hF (j := 0) (by decide) rfl dX9_hasVoted_26 h ?_
  intro x3 h
  refine rc_iload_n (pc := 27) hC dX9_hasVoted_27 rfl rfl ?_
  refine rc_ishr (pc := 28) hC dX9_hasVoted_28 ?_
  refine rc_iconst (pc := 29) hC (v := (1 : Int32)) dX9_hasVoted_29 rfl ?_
  refine rc_iand (pc := 30) hC dX9_hasVoted_30 ?_
  refine rc_iconst (pc := 31) hC (v := (1 : Int32)) dX9_hasVoted_31 rfl ?_
  refine rc_icmp_ne (pc := 32) (tgt := 39) hC dX9_hasVoted_32 rfl h ?_ ?_
  · intro _ h
    refine rc_iconst (pc := 39) hC (v := (0 : Int32)) dX9_hasVoted_39 rfl ?_
    exact rc_iret hC rfl rfl dX9_hasVoted_40 h rfl
  intro _ h
  refine rc_iconst (pc := 35) hC (v := (1 : Int32)) dX9_hasVoted_35 rfl ?_
  refine rc_goto (pc := 36) (tgt := 40) hC dX9_hasVoted_36 rfl ?_
  exact rc_iret hC rfl rfl dX9_hasVoted_40 h rfl
theorem rw_X9_hasVoted {l : Launch} (hl : l.stackTraces = false) (v1 : Int32) : rc_Cm l yX9_hasVoted (ws_ yX9_hasVoted cX9_hasVoted 2 (Option.some Jvm.ClassFile.FieldType.boolean)) 2 43 rc_tI (rp_X9_hasVoted v1) [rc_i v1] := by
  refine rc_Cm_H hl (plainFor_of_name rY_X9) rfl (Nat.le_of_ble_eq_true rfl) ?_
  intro Y S hC hH hF h
  have hC : rc_C Y cX9_hasVoted RX9 (Option.some Jvm.ClassFile.FieldType.boolean) 2 := hC
  show rc_Z Y S 0 [some (rc_q (some (rc_km (yr_K Y) 100))), some (rc_i v1)] []
  unfold rp_X9_hasVoted at h
  refine rc_aload_n (pc := 0) hC dX9_hasVoted_0 rfl rfl ?_
  refine rc_aload_n (pc := 1) hC dX9_hasVoted_1 rfl rfl ?_
  refine rc_iload_n (pc := 2) hC dX9_hasVoted_2 rfl rfl ?_
  refine rc_callM (pc := 3) hC (rw_X9_isCat hH.1 v1) q2439 q2441 qs103 q149 q2442 rfl rd_X9_isCat (hH.room (Nat.le_of_ble_eq_true rfl) (Nat.le_of_ble_eq_true rfl)) rfl rfl (Nat.le_of_ble_eq_true rfl) 1 rfl h.le.2.2 (Or.inl hF) h.br rfl dX9_hasVoted_3 ?_ (fun E q S hT => rc_out hC hH.2.2.2.2 hT)
  intro x1 S h
  show rc_Z Y S 6 [some (rc_q (some (rc_km (yr_K Y) 100))), some (rc_i v1)] [rc_i x1, rc_q (some (rc_km (yr_K Y) 100))]
  refine rc_if_ne (pc := 6) (tgt := 13) hC dX9_hasVoted_6 rfl h ?_ ?_
  · intro _ h
    refine rc_iconst (pc := 13) hC (v := (0 : Int32)) dX9_hasVoted_13 rfl ?_
    exact rw_X9_hasVoted_L14 hC hH hF  v1 (0 : Int32) S h
  intro _ h
  refine rc_iconst (pc := 9) hC (v := (1 : Int32)) dX9_hasVoted_9 rfl ?_
  refine rc_goto (pc := 10) (tgt := 14) hC dX9_hasVoted_10 rfl ?_
  exact rw_X9_hasVoted_L14 hC hH hF  v1 (1 : Int32) S h
theorem rw_X9_choirOf_L14 {Y : rc_Y} (hC : rc_C Y cX9_choirOf RX9 (Option.some Jvm.ClassFile.FieldType.int) 2) (hH : rc_H Y 4 95 yX9_choirOf.name) (hF : yr_F Y = true) (v1 : Int32) (s0 : Int32) (S : rc_S) (h : rc_Go Y rc_tI (rp_X9_choirOf_L14  v1 s0) S) : rc_Z Y S 14 [some (rc_q (some (rc_km (yr_K Y) 100))), some (rc_i v1)] [rc_i s0, rc_q (some (rc_km (yr_K Y) 100))] := by
  unfold rp_X9_choirOf_L14 at h
  refine rc_callM (pc := 14) hC (rw_X9_throwsOne hH.1 s0) q2392 q2394 qs97 q149 q2395 rfl rd_X9_throwsOne (hH.room (Nat.le_of_ble_eq_true rfl) (Nat.le_of_ble_eq_true rfl)) rfl rfl (Nat.le_of_ble_eq_true rfl) 1 rfl h.le.2.2 (Or.inl hF) h.br rfl dX9_choirOf_14 ?_ (fun E q S hT => rc_out hC hH.2.2.2.2 hT)
  intro x1 S h
  show rc_Z Y S 17 [some (rc_q (some (rc_km (yr_K Y) 100))), some (rc_i v1)] [rc_i x1]
  refine rc_if_eq (pc := 17) (tgt := 24) hC dX9_choirOf_17 rfl h ?_ ?_
  · intro _ h
    refine rc_aload_n (pc := 24) hC dX9_choirOf_24 rfl rfl ?_
    refine rc_iload_n (pc := 25) hC dX9_choirOf_25 rfl rfl ?_
    refine rc_callM (pc := 26) hC (rw_X9_choir hH.1 v1) q2301 q2303 qs95 q149 q2304 rfl rd_X9_choir (hH.room (Nat.le_of_ble_eq_true rfl) (Nat.le_of_ble_eq_true rfl)) rfl rfl (Nat.le_of_ble_eq_true rfl) 1 rfl h.le.2.2 (Or.inl hF) h.br rfl dX9_choirOf_26 ?_ (fun E q S hT => rc_out hC hH.2.2.2.2 hT)
    intro x2 S h
    show rc_Z Y S 29 [some (rc_q (some (rc_km (yr_K Y) 100))), some (rc_i v1)] [rc_i x2]
    exact rc_iret hC rfl rfl dX9_choirOf_29 h rfl
  intro _ h
  refine rc_iconst (pc := 20) hC (v := (0 : Int32)) dX9_choirOf_20 rfl ?_
  refine rc_goto (pc := 21) (tgt := 29) hC dX9_choirOf_21 rfl ?_
  exact rc_iret hC rfl rfl dX9_choirOf_29 h rfl
theorem rw_X9_choirOf {l : Launch} (hl : l.stackTraces = false) (v1 : Int32) : rc_Cm l yX9_choirOf (ws_ yX9_choirOf cX9_choirOf 2 (Option.some Jvm.ClassFile.FieldType.int)) 4 95 rc_tI (rp_X9_choirOf v1) [rc_i v1] := by
  refine rc_Cm_H hl (plainFor_of_name rY_X9) rfl (Nat.le_of_ble_eq_true rfl) ?_
  intro Y S hC hH hF h
  have hC : rc_C Y cX9_choirOf RX9 (Option.some Jvm.ClassFile.FieldType.int) 2 := hC
  show rc_Z Y S 0 [some (rc_q (some (rc_km (yr_K Y) 100))), some (rc_i v1)] []
  unfold rp_X9_choirOf at h
  refine rc_aload_n (pc := 0) hC dX9_choirOf_0 rfl rfl ?_
  refine rc_aload_n (pc := 1) hC dX9_choirOf_1 rfl rfl ?_
  refine rc_iload_n (pc := 2) hC dX9_choirOf_2 rfl rfl ?_
  refine rc_callM (pc := 3) hC (rw_X9_isCat hH.1 v1) q2439 q2441 qs103 q149 q2442 rfl rd_X9_isCat (hH.room (Nat.le_of_ble_eq_true rfl) (Nat.le_of_ble_eq_true rfl)) rfl rfl (Nat.le_of_ble_eq_true rfl) 1 rfl h.le.2.2 (Or.inl hF) h.br rfl dX9_choirOf_3 ?_ (fun E q S hT => rc_out hC hH.2.2.2.2 hT)
  intro x1 S h
  show rc_Z Y S 6 [some (rc_q (some (rc_km (yr_K Y) 100))), some (rc_i v1)] [rc_i x1, rc_q (some (rc_km (yr_K Y) 100))]
  refine rc_if_ne (pc := 6) (tgt := 13) hC dX9_choirOf_6 rfl h ?_ ?_
  · intro _ h
    refine rc_iconst (pc := 13) hC (v := (0 : Int32)) dX9_choirOf_13 rfl ?_
    exact rw_X9_choirOf_L14 hC hH hF  v1 (0 : Int32) S h
  intro _ h
  refine rc_iconst (pc := 9) hC (v := (1 : Int32)) dX9_choirOf_9 rfl ?_
  refine rc_goto (pc := 10) (tgt := 14) hC dX9_choirOf_10 rfl ?_
  exact rw_X9_choirOf_L14 hC hH hF  v1 (1 : Int32) S h
theorem rw_X9_choirCount_L37 {Y : rc_Y} (hC : rc_C Y cX9_choirCount RX9 (Option.some Jvm.ClassFile.FieldType.int) 3) (hH : rc_H Y 4 95 yX9_choirCount.name) (hF : yr_F Y = true) {k9 : Int32 → Int32 → rc_M Int32} (hk9 : ∀ (v1 : Int32) (v2 : Int32) (S : rc_S), rc_Go Y rc_tI (k9 v1 v2) S → rc_Z Y S 9 [some (rc_q (some (rc_km (yr_K Y) 100))), some (rc_i v1), some (rc_i v2)] []) (v2 : Int32) (s0 : Int32) (s1 : Int32) (S : rc_S) (h : rc_Go Y rc_tI (rp_X9_choirCount_L37 k9 v2 s0 s1) S) : rc_Z Y S 37 [some (rc_q (some (rc_km (yr_K Y) 100))), none, some (rc_i v2)] [rc_i s0, rc_i s1] := by
  unfold rp_X9_choirCount_L37 at h
  refine rc_iadd (pc := 37) hC dX9_choirCount_37 ?_
  refine rc_istore_n (pc := 38) hC (L' := [some (rc_q (some (rc_km (yr_K Y) 100))), some (rc_i (s1 + s0)), some (rc_i v2)]) dX9_choirCount_38 rfl (Nat.le_of_ble_eq_true rfl) rfl rfl ?_
  refine rc_iinc (pc := 39) hC (v := (v2 + (1 : Int32))) (L' := [some (rc_q (some (rc_km (yr_K Y) 100))), some (rc_i (s1 + s0)), some (rc_i (v2 + (1 : Int32)))]) dX9_choirCount_39 rfl rfl rfl rfl ?_
  refine rc_goto (pc := 42) (tgt := 9) hC dX9_choirCount_42 rfl ?_
  exact hk9 (s1 + s0) (v2 + (1 : Int32)) S h
theorem rw_X9_choirCount_L9 {Y : rc_Y} (hC : rc_C Y cX9_choirCount RX9 (Option.some Jvm.ClassFile.FieldType.int) 3) (hH : rc_H Y 4 95 yX9_choirCount.name) (hF : yr_F Y = true) : ∀ (n : Nat) (v1 : Int32) (v2 : Int32) (S : rc_S), rc_Go Y rc_tI (rp_X9_choirCount_L9  n v1 v2) S → rc_Z Y S 9 [some (rc_q (some (rc_km (yr_K Y) 100))), some (rc_i v1), some (rc_i v2)] [] := by
  intro n
  induction n with
  | zero => intro v1 v2 S h; exact h.fail.elim
  | succ n ih =>
    intro v1 v2 S h
    rw [rp_X9_choirCount_L9] at h
    refine rc_iload_n (pc := 9) hC dX9_choirCount_9 rfl rfl ?_
    refine rc_aload_n (pc := 10) hC dX9_choirCount_10 rfl rfl ?_
    refine rc_r_mref (pc := 11) hC hF rF_X9_7 (by decide) dX9_choirCount_11 h ?_
    refine rc_iconst (pc := 14) hC (v := (2 : Int32)) dX9_choirCount_14 rfl ?_
    refine rc_r_mald (pc := 15) hC hF (j := 0) (by decide) rfl dX9_choirCount_15 h ?_
    intro x2 h
    refine rc_icmp_ge (pc := 16) (tgt := 45) hC dX9_choirCount_16 rfl h ?_ ?_
    · intro _ h
      refine rc_iload_n (pc := 45) hC dX9_choirCount_45 rfl rfl ?_
      exact rc_iret hC rfl rfl dX9_choirCount_46 h rfl
    intro _ h
    refine rc_iload_n (pc := 19) hC dX9_choirCount_19 rfl rfl ?_
    refine rc_aload_n (pc := 20) hC dX9_choirCount_20 rfl rfl ?_
    refine rc_iload_n (pc := 21) hC dX9_choirCount_21 rfl rfl ?_
    refine rc_callM (pc := 22) hC (rw_X9_choir hH.1 v2) q2301 q2303 qs95 q149 q2304 rfl rd_X9_choir (hH.room (Nat.le_of_ble_eq_true rfl) (Nat.le_of_ble_eq_true rfl)) rfl rfl (Nat.le_of_ble_eq_true rfl) 1 rfl h.le.2.2 (Or.inl hF) h.br rfl dX9_choirCount_22 ?_ (fun E q S hT => rc_out hC hH.2.2.2.2 hT)
    intro x3 S h
    show rc_Z Y S 25 [some (rc_q (some (rc_km (yr_K Y) 100))), some (rc_i v1), some (rc_i v2)] [rc_i x3, rc_i v1]
    refine rc_iconst (pc := 25) hC (v := (1 : Int32)) dX9_choirCount_25 rfl ?_
    refine rc_iload_n (pc := 26) hC dX9_choirCount_26 rfl rfl ?_
    refine rc_ishl (pc := 27) hC dX9_choirCount_27 ?_
    rcases h.ite with ⟨_, h⟩ | ⟨hne, h⟩
    · exact h.fail.elim
    refine rc_irem (pc := 28) hC dX9_choirCount_28 hne ?_
    refine rc_if_ne (pc := 29) (tgt := 36) hC dX9_choirCount_29 rfl h ?_ ?_
    · intro _ h
      refine rc_iconst (pc := 36) hC (v := (0 : Int32)) dX9_choirCount_36 rfl ?_
      refine rc_drop [true, false, true] (L' := [some (rc_q (some (rc_km (yr_K Y) 100))), none, some (rc_i v2)]) rfl ?_
      exact rw_X9_choirCount_L37 hC hH hF ih v2 (0 : Int32) v1 S h
    intro _ h
    refine rc_iconst (pc := 32) hC (v := (1 : Int32)) dX9_choirCount_32 rfl ?_
    refine rc_goto (pc := 33) (tgt := 37) hC dX9_choirCount_33 rfl ?_
    refine rc_drop [true, false, true] (L' := [some (rc_q (some (rc_km (yr_K Y) 100))), none, some (rc_i v2)]) rfl ?_
    exact rw_X9_choirCount_L37 hC hH hF ih v2 (1 : Int32) v1 S h
theorem rw_X9_choirCount {l : Launch} (hl : l.stackTraces = false) : rc_Cm l yX9_choirCount (ws_ yX9_choirCount cX9_choirCount 3 (Option.some Jvm.ClassFile.FieldType.int)) 4 95 rc_tI (rp_X9_choirCount ) [] := by
  refine rc_Cm_H hl (plainFor_of_name rY_X9) rfl (Nat.le_of_ble_eq_true rfl) ?_
  intro Y S hC hH hF h
  have hC : rc_C Y cX9_choirCount RX9 (Option.some Jvm.ClassFile.FieldType.int) 3 := hC
  show rc_Z Y S 0 [some (rc_q (some (rc_km (yr_K Y) 100))), none, none] []
  unfold rp_X9_choirCount at h
  refine rc_aload_n (pc := 0) hC dX9_choirCount_0 rfl rfl ?_
  refine rc_iconst (pc := 1) hC (v := (0 : Int32)) dX9_choirCount_1 rfl ?_
  refine rc_r_mput (pc := 2) hC (Or.inl hF) rP_X9_57 rfl dX9_choirCount_2 h ?_
  intro S h
  refine rc_iconst (pc := 5) hC (v := (0 : Int32)) dX9_choirCount_5 rfl ?_
  refine rc_istore_n (pc := 6) hC (L' := [some (rc_q (some (rc_km (yr_K Y) 100))), some (rc_i (0 : Int32)), none]) dX9_choirCount_6 rfl (Nat.le_of_ble_eq_true rfl) rfl rfl ?_
  refine rc_iconst (pc := 7) hC (v := (0 : Int32)) dX9_choirCount_7 rfl ?_
  refine rc_istore_n (pc := 8) hC (L' := [some (rc_q (some (rc_km (yr_K Y) 100))), some (rc_i (0 : Int32)), some (rc_i (0 : Int32))]) dX9_choirCount_8 rfl (Nat.le_of_ble_eq_true rfl) rfl rfl ?_
  refine rc_r_fuel h ?_
  intro x1 h
  exact rw_X9_choirCount_L9 hC hH hF  x1 (0 : Int32) (0 : Int32) S h
theorem rw_X9_largestChoir {l : Launch} (hl : l.stackTraces = false) : rc_Cm l yX9_largestChoir (ws_ yX9_largestChoir cX9_largestChoir 1 (Option.some Jvm.ClassFile.FieldType.int)) 5 118 rc_tI (rp_X9_largestChoir ) [] := by
  refine rc_Cm_H hl (plainFor_of_name rY_X9) rfl (Nat.le_of_ble_eq_true rfl) ?_
  intro Y S hC hH hF h
  have hC : rc_C Y cX9_largestChoir RX9 (Option.some Jvm.ClassFile.FieldType.int) 1 := hC
  show rc_Z Y S 0 [some (rc_q (some (rc_km (yr_K Y) 100)))] []
  unfold rp_X9_largestChoir at h
  refine rc_aload_n (pc := 0) hC dX9_largestChoir_0 rfl rfl ?_
  refine rc_iconst (pc := 1) hC (v := (0 : Int32)) dX9_largestChoir_1 rfl ?_
  refine rc_r_mput (pc := 2) hC (Or.inl hF) rP_X9_57 rfl dX9_largestChoir_2 h ?_
  intro S h
  refine rc_aload_n (pc := 5) hC dX9_largestChoir_5 rfl rfl ?_
  refine rc_callM (pc := 6) hC (rw_X9_greatestChoir hH.1) q2297 q2299 qs94 q149 q2300 rfl rd_X9_greatestChoir (hH.room (Nat.le_of_ble_eq_true rfl) (Nat.le_of_ble_eq_true rfl)) rfl rfl (Nat.le_of_ble_eq_true rfl) 0 rfl h.le.2.2 (Or.inl hF) h.br rfl dX9_largestChoir_6 ?_ (fun E q S hT => rc_out hC hH.2.2.2.2 hT)
  intro x1 S h
  show rc_Z Y S 9 [some (rc_q (some (rc_km (yr_K Y) 100)))] [rc_i x1]
  exact rc_iret hC rfl rfl dX9_largestChoir_9 h rfl
theorem rw_X9_nightsToFullMoon_L7 {Y : rc_Y} (hC : rc_C Y cX9_nightsToFullMoon RX9 (Option.some Jvm.ClassFile.FieldType.int) 2) (hH : rc_H Y 0 0 yX9_nightsToFullMoon.name) (hF : yr_F Y = true) : ∀ (n : Nat) (v1 : Int32) (S : rc_S), rc_Go Y rc_tI (rp_X9_nightsToFullMoon_L7  n v1) S → rc_Z Y S 7 [some (rc_q (some (rc_km (yr_K Y) 100))), some (rc_i v1)] [] := by
  intro n
  induction n with
  | zero => intro v1 S h; exact h.fail.elim
  | succ n ih =>
    intro v1 S h
    rw [rp_X9_nightsToFullMoon_L7] at h
    refine rc_aload_n (pc := 7) hC dX9_nightsToFullMoon_7 rfl rfl ?_
    refine rc_r_mref (pc := 8) hC hF rF_X9_7 (by decide) dX9_nightsToFullMoon_8 h ?_
    refine rc_iconst (pc := 11) hC (v := (3 : Int32)) dX9_nightsToFullMoon_11 rfl ?_
    refine rc_r_mald (pc := 12) hC hF (j := 0) (by decide) rfl dX9_nightsToFullMoon_12 h ?_
    intro x2 h
    refine rc_iload_n (pc := 13) hC dX9_nightsToFullMoon_13 rfl rfl ?_
    refine rc_iadd (pc := 14) hC dX9_nightsToFullMoon_14 ?_
    refine rc_bipush (pc := 15) hC (v := (8 : Int32)) dX9_nightsToFullMoon_15 rfl ?_
    refine rc_irem (pc := 17) hC dX9_nightsToFullMoon_17 (by decide) ?_
    refine rc_iconst (pc := 18) hC (v := (4 : Int32)) dX9_nightsToFullMoon_18 rfl ?_
    refine rc_icmp_eq (pc := 19) (tgt := 28) hC dX9_nightsToFullMoon_19 rfl h ?_ ?_
    · intro _ h
      refine rc_iload_n (pc := 28) hC dX9_nightsToFullMoon_28 rfl rfl ?_
      exact rc_iret hC rfl rfl dX9_nightsToFullMoon_29 h rfl
    intro _ h
    refine rc_iinc (pc := 22) hC (v := (v1 + (1 : Int32))) (L' := [some (rc_q (some (rc_km (yr_K Y) 100))), some (rc_i (v1 + (1 : Int32)))]) dX9_nightsToFullMoon_22 rfl rfl rfl rfl ?_
    refine rc_goto (pc := 25) (tgt := 7) hC dX9_nightsToFullMoon_25 rfl ?_
    exact ih (v1 + (1 : Int32)) S h
theorem rw_X9_nightsToFullMoon {l : Launch} (hl : l.stackTraces = false) : rc_Cm l yX9_nightsToFullMoon (ws_ yX9_nightsToFullMoon cX9_nightsToFullMoon 2 (Option.some Jvm.ClassFile.FieldType.int)) 0 0 rc_tI (rp_X9_nightsToFullMoon ) [] := by
  refine rc_Cm_H hl (plainFor_of_name rY_X9) rfl (Nat.le_of_ble_eq_true rfl) ?_
  intro Y S hC hH hF h
  have hC : rc_C Y cX9_nightsToFullMoon RX9 (Option.some Jvm.ClassFile.FieldType.int) 2 := hC
  show rc_Z Y S 0 [some (rc_q (some (rc_km (yr_K Y) 100))), none] []
  unfold rp_X9_nightsToFullMoon at h
  refine rc_aload_n (pc := 0) hC dX9_nightsToFullMoon_0 rfl rfl ?_
  refine rc_iconst (pc := 1) hC (v := (0 : Int32)) dX9_nightsToFullMoon_1 rfl ?_
  refine rc_r_mput (pc := 2) hC (Or.inl hF) rP_X9_57 rfl dX9_nightsToFullMoon_2 h ?_
  intro S h
  refine rc_iconst (pc := 5) hC (v := (1 : Int32)) dX9_nightsToFullMoon_5 rfl ?_
  refine rc_istore_n (pc := 6) hC (L' := [some (rc_q (some (rc_km (yr_K Y) 100))), some (rc_i (1 : Int32))]) dX9_nightsToFullMoon_6 rfl (Nat.le_of_ble_eq_true rfl) rfl rfl ?_
  refine rc_r_fuel h ?_
  intro x1 h
  exact rw_X9_nightsToFullMoon_L7 hC hH hF  x1 (1 : Int32) S h
theorem rw_X9_fishAfter_L80 {Y : rc_Y} (hC : rc_C Y cX9_fishAfter RX9 (Option.some Jvm.ClassFile.FieldType.int) 5) (hH : rc_H Y 7 163 yX9_fishAfter.name) (hF : yr_F Y = true) : ∀ (n : Nat) (v3 : Int32) (v4 : Int32) (S : rc_S), rc_Go Y rc_tI (rp_X9_fishAfter_L80  n v3 v4) S → rc_Z Y S 80 [some (rc_q (some (rc_km (yr_K Y) 100))), none, none, some (rc_i v3), some (rc_i v4)] [] := by
  intro n
  induction n with
  | zero => intro v3 v4 S h; exact h.fail.elim
  | succ n ih =>
    intro v3 v4 S h
    rw [rp_X9_fishAfter_L80] at h
    refine rc_iload (pc := 80) hC dX9_fishAfter_80 rfl ?_
    refine rc_sipush (pc := 82) hC (v := (186 : Int32)) dX9_fishAfter_82 rfl ?_
    refine rc_icmp_ge (pc := 85) (tgt := 108) hC dX9_fishAfter_85 rfl h ?_ ?_
    · intro _ h
      refine rc_iload_n (pc := 108) hC dX9_fishAfter_108 rfl rfl ?_
      exact rc_iret hC rfl rfl dX9_fishAfter_109 h rfl
    intro _ h
    refine rc_aload_n (pc := 88) hC dX9_fishAfter_88 rfl rfl ?_
    refine rc_r_mref (pc := 89) hC hF rF_X9_7 (by decide) dX9_fishAfter_89 h ?_
    refine rc_iload (pc := 92) hC dX9_fishAfter_92 rfl ?_
    refine rc_aload_n (pc := 94) hC dX9_fishAfter_94 rfl rfl ?_
    refine rc_r_mref (pc := 95) hC hF rF_X9_16 (by decide) dX9_fishAfter_95 h ?_
    refine rc_iload (pc := 98) hC dX9_fishAfter_98 rfl ?_
    refine rc_r_mald (pc := 100) hC hF (j := 2) (by decide) rfl dX9_fishAfter_100 h ?_
    intro x3 h
    refine rc_r_mast (pc := 101) hC hF (j := 0) (by decide) rfl dX9_fishAfter_101 h ?_
    intro S h
    refine rc_iinc (pc := 102) hC (v := (v4 + (1 : Int32))) (L' := [some (rc_q (some (rc_km (yr_K Y) 100))), none, none, some (rc_i v3), some (rc_i (v4 + (1 : Int32)))]) dX9_fishAfter_102 rfl rfl rfl rfl ?_
    refine rc_goto (pc := 105) (tgt := 80) hC dX9_fishAfter_105 rfl ?_
    exact ih v3 (v4 + (1 : Int32)) S h
theorem rw_X9_fishAfter_L39 {Y : rc_Y} (hC : rc_C Y cX9_fishAfter RX9 (Option.some Jvm.ClassFile.FieldType.int) 5) (hH : rc_H Y 7 163 yX9_fishAfter.name) (hF : yr_F Y = true) : ∀ (n : Nat) (v1 : Int32) (v2 : Int32) (v3 : Int32) (S : rc_S), rc_Go Y rc_tI (rp_X9_fishAfter_L39  n v1 v2 v3) S → rc_Z Y S 39 [some (rc_q (some (rc_km (yr_K Y) 100))), some (rc_i v1), some (rc_i v2), some (rc_i v3), none] [] := by
  intro n
  induction n with
  | zero => intro v1 v2 v3 S h; exact h.fail.elim
  | succ n ih =>
    intro v1 v2 v3 S h
    rw [rp_X9_fishAfter_L39] at h
    refine rc_iload_n (pc := 39) hC dX9_fishAfter_39 rfl rfl ?_
    refine rc_sipush (pc := 40) hC (v := (186 : Int32)) dX9_fishAfter_40 rfl ?_
    refine rc_icmp_ge (pc := 43) (tgt := 64) hC dX9_fishAfter_43 rfl h ?_ ?_
    · intro _ h
      refine rc_aload_n (pc := 64) hC dX9_fishAfter_64 rfl rfl ?_
      refine rc_iload_n (pc := 65) hC dX9_fishAfter_65 rfl rfl ?_
      refine rc_callM (pc := 66) hC (rw_X9_passes hH.1 v2) q2280 q2282 qs90 q149 q2283 rfl rd_X9_passes (hH.room (Nat.le_of_ble_eq_true rfl) (Nat.le_of_ble_eq_true rfl)) rfl rfl (Nat.le_of_ble_eq_true rfl) 1 rfl h.le.2.2 (Or.inl hF) h.br rfl dX9_fishAfter_66 ?_ (fun E q S hT => rc_out hC hH.2.2.2.2 hT)
      intro x1 S h
      show rc_Z Y S 69 [some (rc_q (some (rc_km (yr_K Y) 100))), some (rc_i v1), some (rc_i v2), some (rc_i v3), none] [rc_i x1]
      refine rc_pop (pc := 69) hC dX9_fishAfter_69 rfl ?_
      refine rc_aload_n (pc := 70) hC dX9_fishAfter_70 rfl rfl ?_
      refine rc_iload_n (pc := 71) hC dX9_fishAfter_71 rfl rfl ?_
      refine rc_iconst (pc := 72) hC (v := (2 : Int32)) dX9_fishAfter_72 rfl ?_
      refine rc_callM (pc := 73) hC (rw_X9_of hH.1 v1 (2 : Int32)) q2124 q2126 qs52 q149 q2127 rfl rd_X9_of (hH.room (Nat.le_of_ble_eq_true rfl) (Nat.le_of_ble_eq_true rfl)) rfl rfl (Nat.le_of_ble_eq_true rfl) 2 rfl h.le.2.2 (Or.inl hF) h.br rfl dX9_fishAfter_73 ?_ (fun E q S hT => rc_out hC hH.2.2.2.2 hT)
      intro x2 S h
      show rc_Z Y S 76 [some (rc_q (some (rc_km (yr_K Y) 100))), some (rc_i v1), some (rc_i v2), some (rc_i v3), none] [rc_i x2]
      refine rc_istore_n (pc := 76) hC (L' := [some (rc_q (some (rc_km (yr_K Y) 100))), some (rc_i v1), some (rc_i v2), some (rc_i x2), none]) dX9_fishAfter_76 rfl (Nat.le_of_ble_eq_true rfl) rfl rfl ?_
      refine rc_iconst (pc := 77) hC (v := (0 : Int32)) dX9_fishAfter_77 rfl ?_
      refine rc_istore (pc := 78) hC (L' := [some (rc_q (some (rc_km (yr_K Y) 100))), some (rc_i v1), some (rc_i v2), some (rc_i x2), some (rc_i (0 : Int32))]) dX9_fishAfter_78 (Nat.le_of_ble_eq_true rfl) rfl rfl ?_
      refine rc_drop [true, false, false, true, true] (L' := [some (rc_q (some (rc_km (yr_K Y) 100))), none, none, some (rc_i x2), some (rc_i (0 : Int32))]) rfl ?_
      refine rc_r_fuel h ?_
      intro x3 h
      exact rw_X9_fishAfter_L80 hC hH hF  x3 x2 (0 : Int32) S h
    intro _ h
    refine rc_aload_n (pc := 46) hC dX9_fishAfter_46 rfl rfl ?_
    refine rc_r_mref (pc := 47) hC hF rF_X9_16 (by decide) dX9_fishAfter_47 h ?_
    refine rc_iload_n (pc := 50) hC dX9_fishAfter_50 rfl rfl ?_
    refine rc_aload_n (pc := 51) hC dX9_fishAfter_51 rfl rfl ?_
    refine rc_r_mref (pc := 52) hC hF rF_X9_7 (by decide) dX9_fishAfter_52 h ?_
    refine rc_iload_n (pc := 55) hC dX9_fishAfter_55 rfl rfl ?_
    refine rc_r_mald (pc := 56) hC hF (j := 0) (by decide) rfl dX9_fishAfter_56 h ?_
    intro x6 h
    refine rc_r_mast (pc := 57) hC hF (j := 2) (by decide) rfl dX9_fishAfter_57 h ?_
    intro S h
    refine rc_iinc (pc := 58) hC (v := (v3 + (1 : Int32))) (L' := [some (rc_q (some (rc_km (yr_K Y) 100))), some (rc_i v1), some (rc_i v2), some (rc_i (v3 + (1 : Int32))), none]) dX9_fishAfter_58 rfl rfl rfl rfl ?_
    refine rc_goto (pc := 61) (tgt := 39) hC dX9_fishAfter_61 rfl ?_
    exact ih v1 v2 (v3 + (1 : Int32)) S h
theorem rw_X9_fishAfter_L29 {Y : rc_Y} (hC : rc_C Y cX9_fishAfter RX9 (Option.some Jvm.ClassFile.FieldType.int) 5) (hH : rc_H Y 7 163 yX9_fishAfter.name) (hF : yr_F Y = true) (v1 : Int32) (v2 : Int32) (s0 : Int32) (s1 : Int32) (S : rc_S) (h : rc_Go Y rc_tI (rp_X9_fishAfter_L29  v1 v2 s0 s1) S) : rc_Z Y S 29 [some (rc_q (some (rc_km (yr_K Y) 100))), some (rc_i v1), some (rc_i v2), none, none] [rc_i s0, rc_i s1, rc_q (some (rc_km (yr_K Y) 100))] := by
  unfold rp_X9_fishAfter_L29 at h
  refine rc_callM (pc := 29) hC (rw_X9_throwsOne_2 hH.1 s1 s0) q2412 q2414 qs100 q149 q2415 rfl rd_X9_throwsOne_2 (hH.room (Nat.le_of_ble_eq_true rfl) (Nat.le_of_ble_eq_true rfl)) rfl rfl (Nat.le_of_ble_eq_true rfl) 2 rfl h.le.2.2 (Or.inl hF) h.br rfl dX9_fishAfter_29 ?_ (fun E q S hT => rc_out hC hH.2.2.2.2 hT)
  intro x1 S h
  show rc_Z Y S 32 [some (rc_q (some (rc_km (yr_K Y) 100))), some (rc_i v1), some (rc_i v2), none, none] [rc_i x1]
  refine rc_if_eq (pc := 32) (tgt := 37) hC dX9_fishAfter_32 rfl h ?_ ?_
  · intro _ h
    refine rc_iconst (pc := 37) hC (v := (0 : Int32)) dX9_fishAfter_37 rfl ?_
    refine rc_istore_n (pc := 38) hC (L' := [some (rc_q (some (rc_km (yr_K Y) 100))), some (rc_i v1), some (rc_i v2), some (rc_i (0 : Int32)), none]) dX9_fishAfter_38 rfl (Nat.le_of_ble_eq_true rfl) rfl rfl ?_
    refine rc_r_fuel h ?_
    intro x2 h
    exact rw_X9_fishAfter_L39 hC hH hF  x2 v1 v2 (0 : Int32) S h
  intro _ h
  refine rc_iconst (pc := 35) hC (v := (0 : Int32)) dX9_fishAfter_35 rfl ?_
  exact rc_iret hC rfl rfl dX9_fishAfter_36 h rfl
theorem rw_X9_fishAfter_L14 {Y : rc_Y} (hC : rc_C Y cX9_fishAfter RX9 (Option.some Jvm.ClassFile.FieldType.int) 5) (hH : rc_H Y 7 163 yX9_fishAfter.name) (hF : yr_F Y = true) (v1 : Int32) (v2 : Int32) (s0 : Int32) (S : rc_S) (h : rc_Go Y rc_tI (rp_X9_fishAfter_L14  v1 v2 s0) S) : rc_Z Y S 14 [some (rc_q (some (rc_km (yr_K Y) 100))), some (rc_i v1), some (rc_i v2), none, none] [rc_i s0, rc_q (some (rc_km (yr_K Y) 100))] := by
  unfold rp_X9_fishAfter_L14 at h
  refine rc_iload_n (pc := 14) hC dX9_fishAfter_14 rfl rfl ?_
  refine rc_iconst (pc := 15) hC (v := (0 : Int32)) dX9_fishAfter_15 rfl ?_
  refine rc_bipush (pc := 16) hC (v := (30 : Int32)) dX9_fishAfter_16 rfl ?_
  refine rc_callS (pc := 18) hC (rw_X9_in hH.1 v2 (0 : Int32) (30 : Int32)) q2073 q2074 q149 q2075 rd_X9_in (hH.room (Nat.le_of_ble_eq_true rfl) (Nat.le_of_ble_eq_true rfl)) rfl rfl (Nat.le_of_ble_eq_true rfl) 3 rfl h.le.2.2 h.br rfl dX9_fishAfter_18 ?_ (fun E q S hT => rc_out hC hH.2.2.2.2 hT)
  intro x1 S h
  show rc_Z Y S 21 [some (rc_q (some (rc_km (yr_K Y) 100))), some (rc_i v1), some (rc_i v2), none, none] [rc_i x1, rc_i s0, rc_q (some (rc_km (yr_K Y) 100))]
  refine rc_if_ne (pc := 21) (tgt := 28) hC dX9_fishAfter_21 rfl h ?_ ?_
  · intro _ h
    refine rc_iconst (pc := 28) hC (v := (0 : Int32)) dX9_fishAfter_28 rfl ?_
    exact rw_X9_fishAfter_L29 hC hH hF  v1 v2 (0 : Int32) s0 S h
  intro _ h
  refine rc_iconst (pc := 24) hC (v := (1 : Int32)) dX9_fishAfter_24 rfl ?_
  refine rc_goto (pc := 25) (tgt := 29) hC dX9_fishAfter_25 rfl ?_
  exact rw_X9_fishAfter_L29 hC hH hF  v1 v2 (1 : Int32) s0 S h
theorem rw_X9_fishAfter {l : Launch} (hl : l.stackTraces = false) (v1 : Int32) (v2 : Int32) : rc_Cm l yX9_fishAfter (ws_ yX9_fishAfter cX9_fishAfter 5 (Option.some Jvm.ClassFile.FieldType.int)) 7 163 rc_tI (rp_X9_fishAfter v1 v2) [rc_i v1, rc_i v2] := by
  refine rc_Cm_H hl (plainFor_of_name rY_X9) rfl (Nat.le_of_ble_eq_true rfl) ?_
  intro Y S hC hH hF h
  have hC : rc_C Y cX9_fishAfter RX9 (Option.some Jvm.ClassFile.FieldType.int) 5 := hC
  show rc_Z Y S 0 [some (rc_q (some (rc_km (yr_K Y) 100))), some (rc_i v1), some (rc_i v2), none, none] []
  unfold rp_X9_fishAfter at h
  refine rc_aload_n (pc := 0) hC dX9_fishAfter_0 rfl rfl ?_
  refine rc_aload_n (pc := 1) hC dX9_fishAfter_1 rfl rfl ?_
  refine rc_iload_n (pc := 2) hC dX9_fishAfter_2 rfl rfl ?_
  refine rc_callM (pc := 3) hC (rw_X9_isCat hH.1 v1) q2439 q2441 qs103 q149 q2442 rfl rd_X9_isCat (hH.room (Nat.le_of_ble_eq_true rfl) (Nat.le_of_ble_eq_true rfl)) rfl rfl (Nat.le_of_ble_eq_true rfl) 1 rfl h.le.2.2 (Or.inl hF) h.br rfl dX9_fishAfter_3 ?_ (fun E q S hT => rc_out hC hH.2.2.2.2 hT)
  intro x1 S h
  show rc_Z Y S 6 [some (rc_q (some (rc_km (yr_K Y) 100))), some (rc_i v1), some (rc_i v2), none, none] [rc_i x1, rc_q (some (rc_km (yr_K Y) 100))]
  refine rc_if_ne (pc := 6) (tgt := 13) hC dX9_fishAfter_6 rfl h ?_ ?_
  · intro _ h
    refine rc_iconst (pc := 13) hC (v := (0 : Int32)) dX9_fishAfter_13 rfl ?_
    exact rw_X9_fishAfter_L14 hC hH hF  v1 v2 (0 : Int32) S h
  intro _ h
  refine rc_iconst (pc := 9) hC (v := (1 : Int32)) dX9_fishAfter_9 rfl ?_
  refine rc_goto (pc := 10) (tgt := 14) hC dX9_fishAfter_10 rfl ?_
  exact rw_X9_fishAfter_L14 hC hH hF  v1 v2 (1 : Int32) S h
theorem rw_X9_richestCat_L41 {Y : rc_Y} (hC : rc_C Y cX9_richestCat RX9 (Option.some Jvm.ClassFile.FieldType.int) 3) (hH : rc_H Y 1 22 yX9_richestCat.name) (hF : yr_F Y = true) {k9 : Int32 → Int32 → rc_M Int32} (hk9 : ∀ (v1 : Int32) (v2 : Int32) (S : rc_S), rc_Go Y rc_tI (k9 v1 v2) S → rc_Z Y S 9 [some (rc_q (some (rc_km (yr_K Y) 100))), some (rc_i v1), some (rc_i v2)] []) (v1 : Int32) (v2 : Int32) (S : rc_S) (h : rc_Go Y rc_tI (rp_X9_richestCat_L41 k9 v1 v2) S) : rc_Z Y S 41 [some (rc_q (some (rc_km (yr_K Y) 100))), some (rc_i v1), some (rc_i v2)] [] := by
  unfold rp_X9_richestCat_L41 at h
  refine rc_iinc (pc := 41) hC (v := (v2 + (1 : Int32))) (L' := [some (rc_q (some (rc_km (yr_K Y) 100))), some (rc_i v1), some (rc_i (v2 + (1 : Int32)))]) dX9_richestCat_41 rfl rfl rfl rfl ?_
  refine rc_goto (pc := 44) (tgt := 9) hC dX9_richestCat_44 rfl ?_
  exact hk9 v1 (v2 + (1 : Int32)) S h
theorem rw_X9_richestCat_L39 {Y : rc_Y} (hC : rc_C Y cX9_richestCat RX9 (Option.some Jvm.ClassFile.FieldType.int) 3) (hH : rc_H Y 1 22 yX9_richestCat.name) (hF : yr_F Y = true) {k9 : Int32 → Int32 → rc_M Int32} (hk9 : ∀ (v1 : Int32) (v2 : Int32) (S : rc_S), rc_Go Y rc_tI (k9 v1 v2) S → rc_Z Y S 9 [some (rc_q (some (rc_km (yr_K Y) 100))), some (rc_i v1), some (rc_i v2)] []) (v2 : Int32) (S : rc_S) (h : rc_Go Y rc_tI (rp_X9_richestCat_L39 k9 v2) S) : rc_Z Y S 39 [some (rc_q (some (rc_km (yr_K Y) 100))), none, some (rc_i v2)] [] := by
  unfold rp_X9_richestCat_L39 at h
  refine rc_iload_n (pc := 39) hC dX9_richestCat_39 rfl rfl ?_
  refine rc_istore_n (pc := 40) hC (L' := [some (rc_q (some (rc_km (yr_K Y) 100))), some (rc_i v2), some (rc_i v2)]) dX9_richestCat_40 rfl (Nat.le_of_ble_eq_true rfl) rfl rfl ?_
  exact rw_X9_richestCat_L41 hC hH hF hk9 v2 v2 S h
theorem rw_X9_richestCat_L9 {Y : rc_Y} (hC : rc_C Y cX9_richestCat RX9 (Option.some Jvm.ClassFile.FieldType.int) 3) (hH : rc_H Y 1 22 yX9_richestCat.name) (hF : yr_F Y = true) : ∀ (n : Nat) (v1 : Int32) (v2 : Int32) (S : rc_S), rc_Go Y rc_tI (rp_X9_richestCat_L9  n v1 v2) S → rc_Z Y S 9 [some (rc_q (some (rc_km (yr_K Y) 100))), some (rc_i v1), some (rc_i v2)] [] := by
  intro n
  induction n with
  | zero => intro v1 v2 S h; exact h.fail.elim
  | succ n ih =>
    intro v1 v2 S h
    rw [rp_X9_richestCat_L9] at h
    refine rc_iload_n (pc := 9) hC dX9_richestCat_9 rfl rfl ?_
    refine rc_aload_n (pc := 10) hC dX9_richestCat_10 rfl rfl ?_
    refine rc_r_mref (pc := 11) hC hF rF_X9_7 (by decide) dX9_richestCat_11 h ?_
    refine rc_iconst (pc := 14) hC (v := (2 : Int32)) dX9_richestCat_14 rfl ?_
    refine rc_r_mald (pc := 15) hC hF (j := 0) (by decide) rfl dX9_richestCat_15 h ?_
    intro x2 h
    refine rc_icmp_ge (pc := 16) (tgt := 47) hC dX9_richestCat_16 rfl h ?_ ?_
    · intro _ h
      refine rc_iload_n (pc := 47) hC dX9_richestCat_47 rfl rfl ?_
      exact rc_iret hC rfl rfl dX9_richestCat_48 h rfl
    intro _ h
    refine rc_iload_n (pc := 19) hC dX9_richestCat_19 rfl rfl ?_
    refine rc_iconst (pc := 20) hC (v := (-1 : Int32)) dX9_richestCat_20 rfl ?_
    refine rc_icmp_eq (pc := 21) (tgt := 39) hC dX9_richestCat_21 rfl h ?_ ?_
    · intro _ h
      refine rc_drop [true, false, true] (L' := [some (rc_q (some (rc_km (yr_K Y) 100))), none, some (rc_i v2)]) rfl ?_
      exact rw_X9_richestCat_L39 hC hH hF ih v2 S h
    intro _ h
    refine rc_aload_n (pc := 24) hC dX9_richestCat_24 rfl rfl ?_
    refine rc_iload_n (pc := 25) hC dX9_richestCat_25 rfl rfl ?_
    refine rc_iconst (pc := 26) hC (v := (2 : Int32)) dX9_richestCat_26 rfl ?_
    refine rc_callM (pc := 27) hC (rw_X9_of hH.1 v2 (2 : Int32)) q2124 q2126 qs52 q149 q2127 rfl rd_X9_of (hH.room (Nat.le_of_ble_eq_true rfl) (Nat.le_of_ble_eq_true rfl)) rfl rfl (Nat.le_of_ble_eq_true rfl) 2 rfl h.le.2.2 (Or.inl hF) h.br rfl dX9_richestCat_27 ?_ (fun E q S hT => rc_out hC hH.2.2.2.2 hT)
    intro x3 S h
    show rc_Z Y S 30 [some (rc_q (some (rc_km (yr_K Y) 100))), some (rc_i v1), some (rc_i v2)] [rc_i x3]
    refine rc_aload_n (pc := 30) hC dX9_richestCat_30 rfl rfl ?_
    refine rc_iload_n (pc := 31) hC dX9_richestCat_31 rfl rfl ?_
    refine rc_iconst (pc := 32) hC (v := (2 : Int32)) dX9_richestCat_32 rfl ?_
    refine rc_callM (pc := 33) hC (rw_X9_of hH.1 v1 (2 : Int32)) q2124 q2126 qs52 q149 q2127 rfl rd_X9_of (hH.room (Nat.le_of_ble_eq_true rfl) (Nat.le_of_ble_eq_true rfl)) rfl rfl (Nat.le_of_ble_eq_true rfl) 2 rfl h.le.2.2 (Or.inl hF) h.br rfl dX9_richestCat_33 ?_ (fun E q S hT => rc_out hC hH.2.2.2.2 hT)
    intro x4 S h
    show rc_Z Y S 36 [some (rc_q (some (rc_km (yr_K Y) 100))), some (rc_i v1), some (rc_i v2)] [rc_i x4, rc_i x3]
    refine rc_icmp_le (pc := 36) (tgt := 41) hC dX9_richestCat_36 rfl h ?_ ?_
    · intro _ h
      exact rw_X9_richestCat_L41 hC hH hF ih v1 v2 S h
    intro _ h
    refine rc_drop [true, false, true] (L' := [some (rc_q (some (rc_km (yr_K Y) 100))), none, some (rc_i v2)]) rfl ?_
    exact rw_X9_richestCat_L39 hC hH hF ih v2 S h
theorem rw_X9_richestCat {l : Launch} (hl : l.stackTraces = false) : rc_Cm l yX9_richestCat (ws_ yX9_richestCat cX9_richestCat 3 (Option.some Jvm.ClassFile.FieldType.int)) 1 22 rc_tI (rp_X9_richestCat ) [] := by
  refine rc_Cm_H hl (plainFor_of_name rY_X9) rfl (Nat.le_of_ble_eq_true rfl) ?_
  intro Y S hC hH hF h
  have hC : rc_C Y cX9_richestCat RX9 (Option.some Jvm.ClassFile.FieldType.int) 3 := hC
  show rc_Z Y S 0 [some (rc_q (some (rc_km (yr_K Y) 100))), none, none] []
  unfold rp_X9_richestCat at h
  refine rc_aload_n (pc := 0) hC dX9_richestCat_0 rfl rfl ?_
  refine rc_iconst (pc := 1) hC (v := (0 : Int32)) dX9_richestCat_1 rfl ?_
  refine rc_r_mput (pc := 2) hC (Or.inl hF) rP_X9_57 rfl dX9_richestCat_2 h ?_
  intro S h
  refine rc_iconst (pc := 5) hC (v := (-1 : Int32)) dX9_richestCat_5 rfl ?_
  refine rc_istore_n (pc := 6) hC (L' := [some (rc_q (some (rc_km (yr_K Y) 100))), some (rc_i (-1 : Int32)), none]) dX9_richestCat_6 rfl (Nat.le_of_ble_eq_true rfl) rfl rfl ?_
  refine rc_iconst (pc := 7) hC (v := (0 : Int32)) dX9_richestCat_7 rfl ?_
  refine rc_istore_n (pc := 8) hC (L' := [some (rc_q (some (rc_km (yr_K Y) 100))), some (rc_i (-1 : Int32)), some (rc_i (0 : Int32))]) dX9_richestCat_8 rfl (Nat.le_of_ble_eq_true rfl) rfl rfl ?_
  refine rc_r_fuel h ?_
  intro x1 h
  exact rw_X9_richestCat_L9 hC hH hF  x1 (-1 : Int32) (0 : Int32) S h
theorem rw_X9_allFish_L4 {Y : rc_Y} (hC : rc_C Y cX9_allFish RX9 (Option.some Jvm.ClassFile.FieldType.int) 3) (hH : rc_H Y 1 22 yX9_allFish.name) (hF : yr_F Y = true) : ∀ (n : Nat) (v1 : Int32) (v2 : Int32) (S : rc_S), rc_Go Y rc_tI (rp_X9_allFish_L4  n v1 v2) S → rc_Z Y S 4 [some (rc_q (some (rc_km (yr_K Y) 100))), some (rc_i v1), some (rc_i v2)] [] := by
  intro n
  induction n with
  | zero => intro v1 v2 S h; exact h.fail.elim
  | succ n ih =>
    intro v1 v2 S h
    rw [rp_X9_allFish_L4] at h
    refine rc_iload_n (pc := 4) hC dX9_allFish_4 rfl rfl ?_
    refine rc_aload_n (pc := 5) hC dX9_allFish_5 rfl rfl ?_
    refine rc_r_mref (pc := 6) hC hF rF_X9_7 (by decide) dX9_allFish_6 h ?_
    refine rc_iconst (pc := 9) hC (v := (2 : Int32)) dX9_allFish_9 rfl ?_
    refine rc_r_mald (pc := 10) hC hF (j := 0) (by decide) rfl dX9_allFish_10 h ?_
    intro x2 h
    refine rc_icmp_ge (pc := 11) (tgt := 29) hC dX9_allFish_11 rfl h ?_ ?_
    · intro _ h
      refine rc_iload_n (pc := 29) hC dX9_allFish_29 rfl rfl ?_
      exact rc_iret hC rfl rfl dX9_allFish_30 h rfl
    intro _ h
    refine rc_iload_n (pc := 14) hC dX9_allFish_14 rfl rfl ?_
    refine rc_aload_n (pc := 15) hC dX9_allFish_15 rfl rfl ?_
    refine rc_iload_n (pc := 16) hC dX9_allFish_16 rfl rfl ?_
    refine rc_iconst (pc := 17) hC (v := (2 : Int32)) dX9_allFish_17 rfl ?_
    refine rc_callM (pc := 18) hC (rw_X9_of hH.1 v2 (2 : Int32)) q2124 q2126 qs52 q149 q2127 rfl rd_X9_of (hH.room (Nat.le_of_ble_eq_true rfl) (Nat.le_of_ble_eq_true rfl)) rfl rfl (Nat.le_of_ble_eq_true rfl) 2 rfl h.le.2.2 (Or.inl hF) h.br rfl dX9_allFish_18 ?_ (fun E q S hT => rc_out hC hH.2.2.2.2 hT)
    intro x3 S h
    show rc_Z Y S 21 [some (rc_q (some (rc_km (yr_K Y) 100))), some (rc_i v1), some (rc_i v2)] [rc_i x3, rc_i v1]
    refine rc_iadd (pc := 21) hC dX9_allFish_21 ?_
    refine rc_istore_n (pc := 22) hC (L' := [some (rc_q (some (rc_km (yr_K Y) 100))), some (rc_i (v1 + x3)), some (rc_i v2)]) dX9_allFish_22 rfl (Nat.le_of_ble_eq_true rfl) rfl rfl ?_
    refine rc_iinc (pc := 23) hC (v := (v2 + (1 : Int32))) (L' := [some (rc_q (some (rc_km (yr_K Y) 100))), some (rc_i (v1 + x3)), some (rc_i (v2 + (1 : Int32)))]) dX9_allFish_23 rfl rfl rfl rfl ?_
    refine rc_goto (pc := 26) (tgt := 4) hC dX9_allFish_26 rfl ?_
    exact ih (v1 + x3) (v2 + (1 : Int32)) S h
theorem rw_X9_allFish {l : Launch} (hl : l.stackTraces = false) : rc_Cm l yX9_allFish (ws_ yX9_allFish cX9_allFish 3 (Option.some Jvm.ClassFile.FieldType.int)) 1 22 rc_tI (rp_X9_allFish ) [] := by
  refine rc_Cm_H hl (plainFor_of_name rY_X9) rfl (Nat.le_of_ble_eq_true rfl) ?_
  intro Y S hC hH hF h
  have hC : rc_C Y cX9_allFish RX9 (Option.some Jvm.ClassFile.FieldType.int) 3 := hC
  show rc_Z Y S 0 [some (rc_q (some (rc_km (yr_K Y) 100))), none, none] []
  unfold rp_X9_allFish at h
  refine rc_iconst (pc := 0) hC (v := (0 : Int32)) dX9_allFish_0 rfl ?_
  refine rc_istore_n (pc := 1) hC (L' := [some (rc_q (some (rc_km (yr_K Y) 100))), some (rc_i (0 : Int32)), none]) dX9_allFish_1 rfl (Nat.le_of_ble_eq_true rfl) rfl rfl ?_
  refine rc_iconst (pc := 2) hC (v := (0 : Int32)) dX9_allFish_2 rfl ?_
  refine rc_istore_n (pc := 3) hC (L' := [some (rc_q (some (rc_km (yr_K Y) 100))), some (rc_i (0 : Int32)), some (rc_i (0 : Int32))]) dX9_allFish_3 rfl (Nat.le_of_ble_eq_true rfl) rfl rfl ?_
  refine rc_r_fuel h ?_
  intro x1 h
  exact rw_X9_allFish_L4 hC hH hF  x1 (0 : Int32) (0 : Int32) S h
theorem rw_X9_totalFish {l : Launch} (hl : l.stackTraces = false) : rc_Cm l yX9_totalFish (ws_ yX9_totalFish cX9_totalFish 1 (Option.some Jvm.ClassFile.FieldType.int)) 2 44 rc_tI (rp_X9_totalFish ) [] := by
  refine rc_Cm_H hl (plainFor_of_name rY_X9) rfl (Nat.le_of_ble_eq_true rfl) ?_
  intro Y S hC hH hF h
  have hC : rc_C Y cX9_totalFish RX9 (Option.some Jvm.ClassFile.FieldType.int) 1 := hC
  show rc_Z Y S 0 [some (rc_q (some (rc_km (yr_K Y) 100)))] []
  unfold rp_X9_totalFish at h
  refine rc_aload_n (pc := 0) hC dX9_totalFish_0 rfl rfl ?_
  refine rc_iconst (pc := 1) hC (v := (0 : Int32)) dX9_totalFish_1 rfl ?_
  refine rc_r_mput (pc := 2) hC (Or.inl hF) rP_X9_57 rfl dX9_totalFish_2 h ?_
  intro S h
  refine rc_aload_n (pc := 5) hC dX9_totalFish_5 rfl rfl ?_
  refine rc_callM (pc := 6) hC (rw_X9_allFish hH.1) q2667 q2669 qs111 q149 q2670 rfl rd_X9_allFish (hH.room (Nat.le_of_ble_eq_true rfl) (Nat.le_of_ble_eq_true rfl)) rfl rfl (Nat.le_of_ble_eq_true rfl) 0 rfl h.le.2.2 (Or.inl hF) h.br rfl dX9_totalFish_6 ?_ (fun E q S hT => rc_out hC hH.2.2.2.2 hT)
  intro x1 S h
  show rc_Z Y S 9 [some (rc_q (some (rc_km (yr_K Y) 100)))] [rc_i x1]
  exact rc_iret hC rfl rfl dX9_totalFish_9 h rfl
theorem rw_X9_meanFish {l : Launch} (hl : l.stackTraces = false) : rc_Cm l yX9_meanFish (ws_ yX9_meanFish cX9_meanFish 1 (Option.some Jvm.ClassFile.FieldType.double)) 2 44 rc_tD (rp_X9_meanFish ) [] := by
  refine rc_Cm_H hl (plainFor_of_name rY_X9) rfl (Nat.le_of_ble_eq_true rfl) ?_
  intro Y S hC hH hF h
  have hC : rc_C Y cX9_meanFish RX9 (Option.some Jvm.ClassFile.FieldType.double) 1 := hC
  show rc_Z Y S 0 [some (rc_q (some (rc_km (yr_K Y) 100)))] []
  unfold rp_X9_meanFish at h
  refine rc_aload_n (pc := 0) hC dX9_meanFish_0 rfl rfl ?_
  refine rc_iconst (pc := 1) hC (v := (0 : Int32)) dX9_meanFish_1 rfl ?_
  refine rc_r_mput (pc := 2) hC (Or.inl hF) rP_X9_57 rfl dX9_meanFish_2 h ?_
  intro S h
  refine rc_aload_n (pc := 5) hC dX9_meanFish_5 rfl rfl ?_
  refine rc_r_mref (pc := 6) hC hF rF_X9_7 (by decide) dX9_meanFish_6 h ?_
  refine rc_iconst (pc := 9) hC (v := (2 : Int32)) dX9_meanFish_9 rfl ?_
  refine rc_r_mald (pc := 10) hC hF (j := 0) (by decide) rfl dX9_meanFish_10 h ?_
  intro x2 h
  refine rc_if_ne (pc := 11) (tgt := 18) hC dX9_meanFish_11 rfl h ?_ ?_
  · intro _ h
    refine rc_aload_n (pc := 18) hC dX9_meanFish_18 rfl rfl ?_
    refine rc_callM (pc := 19) hC (rw_X9_allFish hH.1) q2667 q2669 qs111 q149 q2670 rfl rd_X9_allFish (hH.room (Nat.le_of_ble_eq_true rfl) (Nat.le_of_ble_eq_true rfl)) rfl rfl (Nat.le_of_ble_eq_true rfl) 0 rfl h.le.2.2 (Or.inl hF) h.br rfl dX9_meanFish_19 ?_ (fun E q S hT => rc_out hC hH.2.2.2.2 hT)
    intro x3 S h
    show rc_Z Y S 22 [some (rc_q (some (rc_km (yr_K Y) 100)))] [rc_i x3]
    refine rc_i2d (pc := 22) hC dX9_meanFish_22 ?_
    refine rc_aload_n (pc := 23) hC dX9_meanFish_23 rfl rfl ?_
    refine rc_r_mref (pc := 24) hC hF rF_X9_7 (by decide) dX9_meanFish_24 h ?_
    refine rc_iconst (pc := 27) hC (v := (2 : Int32)) dX9_meanFish_27 rfl ?_
    refine rc_r_mald (pc := 28) hC hF (j := 0) (by decide) rfl dX9_meanFish_28 h ?_
    intro x5 h
    refine rc_i2d (pc := 29) hC dX9_meanFish_29 ?_
    refine rc_ddiv (pc := 30) hC dX9_meanFish_30 h ?_
    intro x6 h
    exact rc_dret hC rfl dX9_meanFish_31 h rfl
  intro _ h
  refine rc_dconst0 (pc := 14) hC dX9_meanFish_14 ?_
  refine rc_goto (pc := 15) (tgt := 31) hC dX9_meanFish_15 rfl ?_
  exact rc_dret hC rfl dX9_meanFish_31 h rfl
theorem rw_X9_ownedShare_L34 {Y : rc_Y} (hC : rc_C Y cX9_ownedShare RX9 (Option.some Jvm.ClassFile.FieldType.float) 3) (hH : rc_H Y 1 21 yX9_ownedShare.name) (hF : yr_F Y = true) {k9 : Int32 → Int32 → rc_M UInt32} (hk9 : ∀ (v1 : Int32) (v2 : Int32) (S : rc_S), rc_Go Y rc_tF (k9 v1 v2) S → rc_Z Y S 9 [some (rc_q (some (rc_km (yr_K Y) 100))), some (rc_i v1), some (rc_i v2)] []) (v2 : Int32) (s0 : Int32) (s1 : Int32) (S : rc_S) (h : rc_Go Y rc_tF (rp_X9_ownedShare_L34 k9 v2 s0 s1) S) : rc_Z Y S 34 [some (rc_q (some (rc_km (yr_K Y) 100))), none, some (rc_i v2)] [rc_i s0, rc_i s1] := by
  unfold rp_X9_ownedShare_L34 at h
  refine rc_iadd (pc := 34) hC dX9_ownedShare_34 ?_
  refine rc_istore_n (pc := 35) hC (L' := [some (rc_q (some (rc_km (yr_K Y) 100))), some (rc_i (s1 + s0)), some (rc_i v2)]) dX9_ownedShare_35 rfl (Nat.le_of_ble_eq_true rfl) rfl rfl ?_
  refine rc_iinc (pc := 36) hC (v := (v2 + (1 : Int32))) (L' := [some (rc_q (some (rc_km (yr_K Y) 100))), some (rc_i (s1 + s0)), some (rc_i (v2 + (1 : Int32)))]) dX9_ownedShare_36 rfl rfl rfl rfl ?_
  refine rc_goto (pc := 39) (tgt := 9) hC dX9_ownedShare_39 rfl ?_
  exact hk9 (s1 + s0) (v2 + (1 : Int32)) S h
theorem rw_X9_ownedShare_L9 {Y : rc_Y} (hC : rc_C Y cX9_ownedShare RX9 (Option.some Jvm.ClassFile.FieldType.float) 3) (hH : rc_H Y 1 21 yX9_ownedShare.name) (hF : yr_F Y = true) : ∀ (n : Nat) (v1 : Int32) (v2 : Int32) (S : rc_S), rc_Go Y rc_tF (rp_X9_ownedShare_L9  n v1 v2) S → rc_Z Y S 9 [some (rc_q (some (rc_km (yr_K Y) 100))), some (rc_i v1), some (rc_i v2)] [] := by
  intro n
  induction n with
  | zero => intro v1 v2 S h; exact h.fail.elim
  | succ n ih =>
    intro v1 v2 S h
    rw [rp_X9_ownedShare_L9] at h
    refine rc_iload_n (pc := 9) hC dX9_ownedShare_9 rfl rfl ?_
    refine rc_aload_n (pc := 10) hC dX9_ownedShare_10 rfl rfl ?_
    refine rc_r_mref (pc := 11) hC hF rF_X9_7 (by decide) dX9_ownedShare_11 h ?_
    refine rc_iconst (pc := 14) hC (v := (0 : Int32)) dX9_ownedShare_14 rfl ?_
    refine rc_r_mald (pc := 15) hC hF (j := 0) (by decide) rfl dX9_ownedShare_15 h ?_
    intro x2 h
    refine rc_icmp_ge (pc := 16) (tgt := 42) hC dX9_ownedShare_16 rfl h ?_ ?_
    · intro _ h
      refine rc_aload_n (pc := 42) hC dX9_ownedShare_42 rfl rfl ?_
      refine rc_r_mref (pc := 43) hC hF rF_X9_7 (by decide) dX9_ownedShare_43 h ?_
      refine rc_iconst (pc := 46) hC (v := (0 : Int32)) dX9_ownedShare_46 rfl ?_
      refine rc_r_mald (pc := 47) hC hF (j := 0) (by decide) rfl dX9_ownedShare_47 h ?_
      intro x4 h
      refine rc_if_ne (pc := 48) (tgt := 55) hC dX9_ownedShare_48 rfl h ?_ ?_
      · intro _ h
        refine rc_iload_n (pc := 55) hC dX9_ownedShare_55 rfl rfl ?_
        refine rc_i2f (pc := 56) hC dX9_ownedShare_56 ?_
        refine rc_aload_n (pc := 57) hC dX9_ownedShare_57 rfl rfl ?_
        refine rc_r_mref (pc := 58) hC hF rF_X9_7 (by decide) dX9_ownedShare_58 h ?_
        refine rc_iconst (pc := 61) hC (v := (0 : Int32)) dX9_ownedShare_61 rfl ?_
        refine rc_r_mald (pc := 62) hC hF (j := 0) (by decide) rfl dX9_ownedShare_62 h ?_
        intro x6 h
        refine rc_i2f (pc := 63) hC dX9_ownedShare_63 ?_
        refine rc_fdiv (pc := 64) hC dX9_ownedShare_64 h ?_
        intro x7 h
        exact rc_fret hC rfl dX9_ownedShare_65 h rfl
      intro _ h
      refine rc_fconst0 (pc := 51) hC dX9_ownedShare_51 ?_
      refine rc_goto (pc := 52) (tgt := 65) hC dX9_ownedShare_52 rfl ?_
      exact rc_fret hC rfl dX9_ownedShare_65 h rfl
    intro _ h
    refine rc_iload_n (pc := 19) hC dX9_ownedShare_19 rfl rfl ?_
    refine rc_aload_n (pc := 20) hC dX9_ownedShare_20 rfl rfl ?_
    refine rc_iload_n (pc := 21) hC dX9_ownedShare_21 rfl rfl ?_
    refine rc_callM (pc := 22) hC (rw_X9_owner hH.1 v2) q2160 q2162 qs61 q149 q2163 rfl rd_X9_owner (hH.room (Nat.le_of_ble_eq_true rfl) (Nat.le_of_ble_eq_true rfl)) rfl rfl (Nat.le_of_ble_eq_true rfl) 1 rfl h.le.2.2 (Or.inl hF) h.br rfl dX9_ownedShare_22 ?_ (fun E q S hT => rc_out hC hH.2.2.2.2 hT)
    intro x8 S h
    show rc_Z Y S 25 [some (rc_q (some (rc_km (yr_K Y) 100))), some (rc_i v1), some (rc_i v2)] [rc_i x8, rc_i v1]
    refine rc_iconst (pc := 25) hC (v := (-1 : Int32)) dX9_ownedShare_25 rfl ?_
    refine rc_icmp_ne (pc := 26) (tgt := 33) hC dX9_ownedShare_26 rfl h ?_ ?_
    · intro _ h
      refine rc_iconst (pc := 33) hC (v := (1 : Int32)) dX9_ownedShare_33 rfl ?_
      refine rc_drop [true, false, true] (L' := [some (rc_q (some (rc_km (yr_K Y) 100))), none, some (rc_i v2)]) rfl ?_
      exact rw_X9_ownedShare_L34 hC hH hF ih v2 (1 : Int32) v1 S h
    intro _ h
    refine rc_iconst (pc := 29) hC (v := (0 : Int32)) dX9_ownedShare_29 rfl ?_
    refine rc_goto (pc := 30) (tgt := 34) hC dX9_ownedShare_30 rfl ?_
    refine rc_drop [true, false, true] (L' := [some (rc_q (some (rc_km (yr_K Y) 100))), none, some (rc_i v2)]) rfl ?_
    exact rw_X9_ownedShare_L34 hC hH hF ih v2 (0 : Int32) v1 S h
theorem rw_X9_ownedShare {l : Launch} (hl : l.stackTraces = false) : rc_Cm l yX9_ownedShare (ws_ yX9_ownedShare cX9_ownedShare 3 (Option.some Jvm.ClassFile.FieldType.float)) 1 21 rc_tF (rp_X9_ownedShare ) [] := by
  refine rc_Cm_H hl (plainFor_of_name rY_X9) rfl (Nat.le_of_ble_eq_true rfl) ?_
  intro Y S hC hH hF h
  have hC : rc_C Y cX9_ownedShare RX9 (Option.some Jvm.ClassFile.FieldType.float) 3 := hC
  show rc_Z Y S 0 [some (rc_q (some (rc_km (yr_K Y) 100))), none, none] []
  unfold rp_X9_ownedShare at h
  refine rc_aload_n (pc := 0) hC dX9_ownedShare_0 rfl rfl ?_
  refine rc_iconst (pc := 1) hC (v := (0 : Int32)) dX9_ownedShare_1 rfl ?_
  refine rc_r_mput (pc := 2) hC (Or.inl hF) rP_X9_57 rfl dX9_ownedShare_2 h ?_
  intro S h
  refine rc_iconst (pc := 5) hC (v := (0 : Int32)) dX9_ownedShare_5 rfl ?_
  refine rc_istore_n (pc := 6) hC (L' := [some (rc_q (some (rc_km (yr_K Y) 100))), some (rc_i (0 : Int32)), none]) dX9_ownedShare_6 rfl (Nat.le_of_ble_eq_true rfl) rfl rfl ?_
  refine rc_iconst (pc := 7) hC (v := (0 : Int32)) dX9_ownedShare_7 rfl ?_
  refine rc_istore_n (pc := 8) hC (L' := [some (rc_q (some (rc_km (yr_K Y) 100))), some (rc_i (0 : Int32)), some (rc_i (0 : Int32))]) dX9_ownedShare_8 rfl (Nat.le_of_ble_eq_true rfl) rfl rfl ?_
  refine rc_r_fuel h ?_
  intro x1 h
  exact rw_X9_ownedShare_L9 hC hH hF  x1 (0 : Int32) (0 : Int32) S h
theorem rw_X9_isCrowded_L30 {Y : rc_Y} (hC : rc_C Y cX9_isCrowded RX9 (Option.some Jvm.ClassFile.FieldType.boolean) 4) (hH : rc_H Y 1 22 yX9_isCrowded.name) (hF : yr_F Y = true) {k4 : Int32 → Int32 → Int32 → rc_M Int32} (hk4 : ∀ (v1 : Int32) (v2 : Int32) (v3 : Int32) (S : rc_S), rc_Go Y rc_tI (k4 v1 v2 v3) S → rc_Z Y S 4 [some (rc_q (some (rc_km (yr_K Y) 100))), some (rc_i v1), some (rc_i v2), some (rc_i v3)] []) (v1 : Int32) (v3 : Int32) (s0 : Int32) (s1 : Int32) (S : rc_S) (h : rc_Go Y rc_tI (rp_X9_isCrowded_L30 k4 v1 v3 s0 s1) S) : rc_Z Y S 30 [some (rc_q (some (rc_km (yr_K Y) 100))), some (rc_i v1), none, some (rc_i v3)] [rc_i s0, rc_i s1] := by
  unfold rp_X9_isCrowded_L30 at h
  refine rc_iadd (pc := 30) hC dX9_isCrowded_30 ?_
  refine rc_istore_n (pc := 31) hC (L' := [some (rc_q (some (rc_km (yr_K Y) 100))), some (rc_i v1), some (rc_i (s1 + s0)), some (rc_i v3)]) dX9_isCrowded_31 rfl (Nat.le_of_ble_eq_true rfl) rfl rfl ?_
  refine rc_iinc (pc := 32) hC (v := (v3 + (1 : Int32))) (L' := [some (rc_q (some (rc_km (yr_K Y) 100))), some (rc_i v1), some (rc_i (s1 + s0)), some (rc_i (v3 + (1 : Int32)))]) dX9_isCrowded_32 rfl rfl rfl rfl ?_
  refine rc_goto (pc := 35) (tgt := 4) hC dX9_isCrowded_35 rfl ?_
  exact hk4 v1 (s1 + s0) (v3 + (1 : Int32)) S h
theorem rw_X9_isCrowded_L4 {Y : rc_Y} (hC : rc_C Y cX9_isCrowded RX9 (Option.some Jvm.ClassFile.FieldType.boolean) 4) (hH : rc_H Y 1 22 yX9_isCrowded.name) (hF : yr_F Y = true) : ∀ (n : Nat) (v1 : Int32) (v2 : Int32) (v3 : Int32) (S : rc_S), rc_Go Y rc_tI (rp_X9_isCrowded_L4  n v1 v2 v3) S → rc_Z Y S 4 [some (rc_q (some (rc_km (yr_K Y) 100))), some (rc_i v1), some (rc_i v2), some (rc_i v3)] [] := by
  intro n
  induction n with
  | zero => intro v1 v2 v3 S h; exact h.fail.elim
  | succ n ih =>
    intro v1 v2 v3 S h
    rw [rp_X9_isCrowded_L4] at h
    refine rc_iload_n (pc := 4) hC dX9_isCrowded_4 rfl rfl ?_
    refine rc_aload_n (pc := 5) hC dX9_isCrowded_5 rfl rfl ?_
    refine rc_r_mref (pc := 6) hC hF rF_X9_7 (by decide) dX9_isCrowded_6 h ?_
    refine rc_iconst (pc := 9) hC (v := (2 : Int32)) dX9_isCrowded_9 rfl ?_
    refine rc_r_mald (pc := 10) hC hF (j := 0) (by decide) rfl dX9_isCrowded_10 h ?_
    intro x2 h
    refine rc_icmp_ge (pc := 11) (tgt := 38) hC dX9_isCrowded_11 rfl h ?_ ?_
    · intro _ h
      refine rc_iload_n (pc := 38) hC dX9_isCrowded_38 rfl rfl ?_
      refine rc_iconst (pc := 39) hC (v := (1 : Int32)) dX9_isCrowded_39 rfl ?_
      refine rc_icmp_le (pc := 40) (tgt := 47) hC dX9_isCrowded_40 rfl h ?_ ?_
      · intro _ h
        refine rc_iconst (pc := 47) hC (v := (0 : Int32)) dX9_isCrowded_47 rfl ?_
        exact rc_iret hC rfl rfl dX9_isCrowded_48 h rfl
      intro _ h
      refine rc_iconst (pc := 43) hC (v := (1 : Int32)) dX9_isCrowded_43 rfl ?_
      refine rc_goto (pc := 44) (tgt := 48) hC dX9_isCrowded_44 rfl ?_
      exact rc_iret hC rfl rfl dX9_isCrowded_48 h rfl
    intro _ h
    refine rc_iload_n (pc := 14) hC dX9_isCrowded_14 rfl rfl ?_
    refine rc_aload_n (pc := 15) hC dX9_isCrowded_15 rfl rfl ?_
    refine rc_iload_n (pc := 16) hC dX9_isCrowded_16 rfl rfl ?_
    refine rc_iconst (pc := 17) hC (v := (3 : Int32)) dX9_isCrowded_17 rfl ?_
    refine rc_callM (pc := 18) hC (rw_X9_of hH.1 v3 (3 : Int32)) q2124 q2126 qs52 q149 q2127 rfl rd_X9_of (hH.room (Nat.le_of_ble_eq_true rfl) (Nat.le_of_ble_eq_true rfl)) rfl rfl (Nat.le_of_ble_eq_true rfl) 2 rfl h.le.2.2 (Or.inl hF) h.br rfl dX9_isCrowded_18 ?_ (fun E q S hT => rc_out hC hH.2.2.2.2 hT)
    intro x3 S h
    show rc_Z Y S 21 [some (rc_q (some (rc_km (yr_K Y) 100))), some (rc_i v1), some (rc_i v2), some (rc_i v3)] [rc_i x3, rc_i v2]
    refine rc_iload_n (pc := 21) hC dX9_isCrowded_21 rfl rfl ?_
    refine rc_icmp_ne (pc := 22) (tgt := 29) hC dX9_isCrowded_22 rfl h ?_ ?_
    · intro _ h
      refine rc_iconst (pc := 29) hC (v := (0 : Int32)) dX9_isCrowded_29 rfl ?_
      refine rc_drop [true, true, false, true] (L' := [some (rc_q (some (rc_km (yr_K Y) 100))), some (rc_i v1), none, some (rc_i v3)]) rfl ?_
      exact rw_X9_isCrowded_L30 hC hH hF ih v1 v3 (0 : Int32) v2 S h
    intro _ h
    refine rc_iconst (pc := 25) hC (v := (1 : Int32)) dX9_isCrowded_25 rfl ?_
    refine rc_goto (pc := 26) (tgt := 30) hC dX9_isCrowded_26 rfl ?_
    refine rc_drop [true, true, false, true] (L' := [some (rc_q (some (rc_km (yr_K Y) 100))), some (rc_i v1), none, some (rc_i v3)]) rfl ?_
    exact rw_X9_isCrowded_L30 hC hH hF ih v1 v3 (1 : Int32) v2 S h
theorem rw_X9_isCrowded {l : Launch} (hl : l.stackTraces = false) (v1 : Int32) : rc_Cm l yX9_isCrowded (ws_ yX9_isCrowded cX9_isCrowded 4 (Option.some Jvm.ClassFile.FieldType.boolean)) 1 22 rc_tI (rp_X9_isCrowded v1) [rc_i v1] := by
  refine rc_Cm_H hl (plainFor_of_name rY_X9) rfl (Nat.le_of_ble_eq_true rfl) ?_
  intro Y S hC hH hF h
  have hC : rc_C Y cX9_isCrowded RX9 (Option.some Jvm.ClassFile.FieldType.boolean) 4 := hC
  show rc_Z Y S 0 [some (rc_q (some (rc_km (yr_K Y) 100))), some (rc_i v1), none, none] []
  unfold rp_X9_isCrowded at h
  refine rc_iconst (pc := 0) hC (v := (0 : Int32)) dX9_isCrowded_0 rfl ?_
  refine rc_istore_n (pc := 1) hC (L' := [some (rc_q (some (rc_km (yr_K Y) 100))), some (rc_i v1), some (rc_i (0 : Int32)), none]) dX9_isCrowded_1 rfl (Nat.le_of_ble_eq_true rfl) rfl rfl ?_
  refine rc_iconst (pc := 2) hC (v := (0 : Int32)) dX9_isCrowded_2 rfl ?_
  refine rc_istore_n (pc := 3) hC (L' := [some (rc_q (some (rc_km (yr_K Y) 100))), some (rc_i v1), some (rc_i (0 : Int32)), some (rc_i (0 : Int32))]) dX9_isCrowded_3 rfl (Nat.le_of_ble_eq_true rfl) rfl rfl ?_
  refine rc_r_fuel h ?_
  intro x1 h
  exact rw_X9_isCrowded_L4 hC hH hF  x1 v1 (0 : Int32) (0 : Int32) S h
theorem rw_X9_violations_L72 {Y : rc_Y} (hC : rc_C Y cX9_violations RX9 (Option.some Jvm.ClassFile.FieldType.int) 4) (hH : rc_H Y 2 45 yX9_violations.name) (hF : yr_F Y = true) {k48 : Int32 → Int32 → rc_M Int32} (hk48 : ∀ (v2 : Int32) (v3 : Int32) (S : rc_S), rc_Go Y rc_tI (k48 v2 v3) S → rc_Z Y S 48 [some (rc_q (some (rc_km (yr_K Y) 100))), none, some (rc_i v2), some (rc_i v3)] []) (v3 : Int32) (s0 : Int32) (s1 : Int32) (S : rc_S) (h : rc_Go Y rc_tI (rp_X9_violations_L72 k48 v3 s0 s1) S) : rc_Z Y S 72 [some (rc_q (some (rc_km (yr_K Y) 100))), none, none, some (rc_i v3)] [rc_i s0, rc_i s1] := by
  unfold rp_X9_violations_L72 at h
  refine rc_iadd (pc := 72) hC dX9_violations_72 ?_
  refine rc_istore_n (pc := 73) hC (L' := [some (rc_q (some (rc_km (yr_K Y) 100))), none, some (rc_i (s1 + s0)), some (rc_i v3)]) dX9_violations_73 rfl (Nat.le_of_ble_eq_true rfl) rfl rfl ?_
  refine rc_iinc (pc := 74) hC (v := (v3 + (1 : Int32))) (L' := [some (rc_q (some (rc_km (yr_K Y) 100))), none, some (rc_i (s1 + s0)), some (rc_i (v3 + (1 : Int32)))]) dX9_violations_74 rfl rfl rfl rfl ?_
  refine rc_goto (pc := 77) (tgt := 48) hC dX9_violations_77 rfl ?_
  exact hk48 (s1 + s0) (v3 + (1 : Int32)) S h
theorem rw_X9_violations_L130 {Y : rc_Y} (hC : rc_C Y cX9_violations RX9 (Option.some Jvm.ClassFile.FieldType.int) 4) (hH : rc_H Y 2 45 yX9_violations.name) (hF : yr_F Y = true) {k82 : Int32 → Int32 → rc_M Int32} (hk82 : ∀ (v2 : Int32) (v3 : Int32) (S : rc_S), rc_Go Y rc_tI (k82 v2 v3) S → rc_Z Y S 82 [some (rc_q (some (rc_km (yr_K Y) 100))), none, some (rc_i v2), some (rc_i v3)] []) (v3 : Int32) (s0 : Int32) (s1 : Int32) (S : rc_S) (h : rc_Go Y rc_tI (rp_X9_violations_L130 k82 v3 s0 s1) S) : rc_Z Y S 130 [some (rc_q (some (rc_km (yr_K Y) 100))), none, none, some (rc_i v3)] [rc_i s0, rc_i s1] := by
  unfold rp_X9_violations_L130 at h
  refine rc_iadd (pc := 130) hC dX9_violations_130 ?_
  refine rc_istore_n (pc := 131) hC (L' := [some (rc_q (some (rc_km (yr_K Y) 100))), none, some (rc_i (s1 + s0)), some (rc_i v3)]) dX9_violations_131 rfl (Nat.le_of_ble_eq_true rfl) rfl rfl ?_
  refine rc_iinc (pc := 132) hC (v := (v3 + (1 : Int32))) (L' := [some (rc_q (some (rc_km (yr_K Y) 100))), none, some (rc_i (s1 + s0)), some (rc_i (v3 + (1 : Int32)))]) dX9_violations_132 rfl rfl rfl rfl ?_
  refine rc_goto (pc := 135) (tgt := 82) hC dX9_violations_135 rfl ?_
  exact hk82 (s1 + s0) (v3 + (1 : Int32)) S h
theorem rw_X9_violations_L107 {Y : rc_Y} (hC : rc_C Y cX9_violations RX9 (Option.some Jvm.ClassFile.FieldType.int) 4) (hH : rc_H Y 2 45 yX9_violations.name) (hF : yr_F Y = true) {k82 : Int32 → Int32 → rc_M Int32} (hk82 : ∀ (v2 : Int32) (v3 : Int32) (S : rc_S), rc_Go Y rc_tI (k82 v2 v3) S → rc_Z Y S 82 [some (rc_q (some (rc_km (yr_K Y) 100))), none, some (rc_i v2), some (rc_i v3)] []) (v3 : Int32) (s0 : Int32) (s1 : Int32) (S : rc_S) (h : rc_Go Y rc_tI (rp_X9_violations_L107 k82 v3 s0 s1) S) : rc_Z Y S 107 [some (rc_q (some (rc_km (yr_K Y) 100))), none, none, some (rc_i v3)] [rc_i s0, rc_i s1] := by
  unfold rp_X9_violations_L107 at h
  refine rc_iadd (pc := 107) hC dX9_violations_107 ?_
  refine rc_istore_n (pc := 108) hC (L' := [some (rc_q (some (rc_km (yr_K Y) 100))), none, some (rc_i (s1 + s0)), some (rc_i v3)]) dX9_violations_108 rfl (Nat.le_of_ble_eq_true rfl) rfl rfl ?_
  refine rc_iload_n (pc := 109) hC dX9_violations_109 rfl rfl ?_
  refine rc_aload_n (pc := 110) hC dX9_violations_110 rfl rfl ?_
  refine rc_iload_n (pc := 111) hC dX9_violations_111 rfl rfl ?_
  refine rc_iconst (pc := 112) hC (v := (2 : Int32)) dX9_violations_112 rfl ?_
  refine rc_callM (pc := 113) hC (rw_X9_of hH.1 v3 (2 : Int32)) q2124 q2126 qs52 q149 q2127 rfl rd_X9_of (hH.room (Nat.le_of_ble_eq_true rfl) (Nat.le_of_ble_eq_true rfl)) rfl rfl (Nat.le_of_ble_eq_true rfl) 2 rfl h.le.2.2 (Or.inl hF) h.br rfl dX9_violations_113 ?_ (fun E q S hT => rc_out hC hH.2.2.2.2 hT)
  intro x1 S h
  show rc_Z Y S 116 [some (rc_q (some (rc_km (yr_K Y) 100))), none, some (rc_i (s1 + s0)), some (rc_i v3)] [rc_i x1, rc_i (s1 + s0)]
  refine rc_iconst (pc := 116) hC (v := (0 : Int32)) dX9_violations_116 rfl ?_
  refine rc_bipush (pc := 117) hC (v := (99 : Int32)) dX9_violations_117 rfl ?_
  refine rc_callS (pc := 119) hC (rw_X9_in hH.1 x1 (0 : Int32) (99 : Int32)) q2073 q2074 q149 q2075 rd_X9_in (hH.room (Nat.le_of_ble_eq_true rfl) (Nat.le_of_ble_eq_true rfl)) rfl rfl (Nat.le_of_ble_eq_true rfl) 3 rfl h.le.2.2 h.br rfl dX9_violations_119 ?_ (fun E q S hT => rc_out hC hH.2.2.2.2 hT)
  intro x2 S h
  show rc_Z Y S 122 [some (rc_q (some (rc_km (yr_K Y) 100))), none, some (rc_i (s1 + s0)), some (rc_i v3)] [rc_i x2, rc_i (s1 + s0)]
  refine rc_if_eq (pc := 122) (tgt := 129) hC dX9_violations_122 rfl h ?_ ?_
  · intro _ h
    refine rc_iconst (pc := 129) hC (v := (1 : Int32)) dX9_violations_129 rfl ?_
    refine rc_drop [true, false, false, true] (L' := [some (rc_q (some (rc_km (yr_K Y) 100))), none, none, some (rc_i v3)]) rfl ?_
    exact rw_X9_violations_L130 hC hH hF hk82 v3 (1 : Int32) (s1 + s0) S h
  intro _ h
  refine rc_iconst (pc := 125) hC (v := (0 : Int32)) dX9_violations_125 rfl ?_
  refine rc_goto (pc := 126) (tgt := 130) hC dX9_violations_126 rfl ?_
  refine rc_drop [true, false, false, true] (L' := [some (rc_q (some (rc_km (yr_K Y) 100))), none, none, some (rc_i v3)]) rfl ?_
  exact rw_X9_violations_L130 hC hH hF hk82 v3 (0 : Int32) (s1 + s0) S h
theorem rw_X9_violations_L82 {Y : rc_Y} (hC : rc_C Y cX9_violations RX9 (Option.some Jvm.ClassFile.FieldType.int) 4) (hH : rc_H Y 2 45 yX9_violations.name) (hF : yr_F Y = true) : ∀ (n : Nat) (v2 : Int32) (v3 : Int32) (S : rc_S), rc_Go Y rc_tI (rp_X9_violations_L82  n v2 v3) S → rc_Z Y S 82 [some (rc_q (some (rc_km (yr_K Y) 100))), none, some (rc_i v2), some (rc_i v3)] [] := by
  intro n
  induction n with
  | zero => intro v2 v3 S h; exact h.fail.elim
  | succ n ih =>
    intro v2 v3 S h
    rw [rp_X9_violations_L82] at h
    refine rc_iload_n (pc := 82) hC dX9_violations_82 rfl rfl ?_
    refine rc_aload_n (pc := 83) hC dX9_violations_83 rfl rfl ?_
    refine rc_r_mref (pc := 84) hC hF rF_X9_7 (by decide) dX9_violations_84 h ?_
    refine rc_iconst (pc := 87) hC (v := (2 : Int32)) dX9_violations_87 rfl ?_
    refine rc_r_mald (pc := 88) hC hF (j := 0) (by decide) rfl dX9_violations_88 h ?_
    intro x2 h
    refine rc_icmp_ge (pc := 89) (tgt := 138) hC dX9_violations_89 rfl h ?_ ?_
    · intro _ h
      refine rc_iload_n (pc := 138) hC dX9_violations_138 rfl rfl ?_
      exact rc_iret hC rfl rfl dX9_violations_139 h rfl
    intro _ h
    refine rc_iload_n (pc := 92) hC dX9_violations_92 rfl rfl ?_
    refine rc_aload_n (pc := 93) hC dX9_violations_93 rfl rfl ?_
    refine rc_iload_n (pc := 94) hC dX9_violations_94 rfl rfl ?_
    refine rc_callM (pc := 95) hC (rw_X9_owns hH.1 v3) q2181 q2183 qs66 q149 q2184 rfl rd_X9_owns (hH.room (Nat.le_of_ble_eq_true rfl) (Nat.le_of_ble_eq_true rfl)) rfl rfl (Nat.le_of_ble_eq_true rfl) 1 rfl h.le.2.2 (Or.inl hF) h.br rfl dX9_violations_95 ?_ (fun E q S hT => rc_out hC hH.2.2.2.2 hT)
    intro x3 S h
    show rc_Z Y S 98 [some (rc_q (some (rc_km (yr_K Y) 100))), none, some (rc_i v2), some (rc_i v3)] [rc_i x3, rc_i v2]
    refine rc_iconst (pc := 98) hC (v := (4 : Int32)) dX9_violations_98 rfl ?_
    refine rc_icmp_le (pc := 99) (tgt := 106) hC dX9_violations_99 rfl h ?_ ?_
    · intro _ h
      refine rc_iconst (pc := 106) hC (v := (0 : Int32)) dX9_violations_106 rfl ?_
      refine rc_drop [true, false, false, true] (L' := [some (rc_q (some (rc_km (yr_K Y) 100))), none, none, some (rc_i v3)]) rfl ?_
      exact rw_X9_violations_L107 hC hH hF ih v3 (0 : Int32) v2 S h
    intro _ h
    refine rc_iconst (pc := 102) hC (v := (1 : Int32)) dX9_violations_102 rfl ?_
    refine rc_goto (pc := 103) (tgt := 107) hC dX9_violations_103 rfl ?_
    refine rc_drop [true, false, false, true] (L' := [some (rc_q (some (rc_km (yr_K Y) 100))), none, none, some (rc_i v3)]) rfl ?_
    exact rw_X9_violations_L107 hC hH hF ih v3 (1 : Int32) v2 S h
theorem rw_X9_violations_L48 {Y : rc_Y} (hC : rc_C Y cX9_violations RX9 (Option.some Jvm.ClassFile.FieldType.int) 4) (hH : rc_H Y 2 45 yX9_violations.name) (hF : yr_F Y = true) : ∀ (n : Nat) (v2 : Int32) (v3 : Int32) (S : rc_S), rc_Go Y rc_tI (rp_X9_violations_L48  n v2 v3) S → rc_Z Y S 48 [some (rc_q (some (rc_km (yr_K Y) 100))), none, some (rc_i v2), some (rc_i v3)] [] := by
  intro n
  induction n with
  | zero => intro v2 v3 S h; exact h.fail.elim
  | succ n ih =>
    intro v2 v3 S h
    rw [rp_X9_violations_L48] at h
    refine rc_iload_n (pc := 48) hC dX9_violations_48 rfl rfl ?_
    refine rc_aload_n (pc := 49) hC dX9_violations_49 rfl rfl ?_
    refine rc_r_mref (pc := 50) hC hF rF_X9_7 (by decide) dX9_violations_50 h ?_
    refine rc_iconst (pc := 53) hC (v := (0 : Int32)) dX9_violations_53 rfl ?_
    refine rc_r_mald (pc := 54) hC hF (j := 0) (by decide) rfl dX9_violations_54 h ?_
    intro x2 h
    refine rc_icmp_ge (pc := 55) (tgt := 80) hC dX9_violations_55 rfl h ?_ ?_
    · intro _ h
      refine rc_iconst (pc := 80) hC (v := (0 : Int32)) dX9_violations_80 rfl ?_
      refine rc_istore_n (pc := 81) hC (L' := [some (rc_q (some (rc_km (yr_K Y) 100))), none, some (rc_i v2), some (rc_i (0 : Int32))]) dX9_violations_81 rfl (Nat.le_of_ble_eq_true rfl) rfl rfl ?_
      refine rc_r_fuel h ?_
      intro x3 h
      exact rw_X9_violations_L82 hC hH hF  x3 v2 (0 : Int32) S h
    intro _ h
    refine rc_iload_n (pc := 58) hC dX9_violations_58 rfl rfl ?_
    refine rc_aload_n (pc := 59) hC dX9_violations_59 rfl rfl ?_
    refine rc_iload_n (pc := 60) hC dX9_violations_60 rfl rfl ?_
    refine rc_callM (pc := 61) hC (rw_X9_isCrowded hH.1 v3) q2683 q2685 qs112 q149 q2686 rfl rd_X9_isCrowded (hH.room (Nat.le_of_ble_eq_true rfl) (Nat.le_of_ble_eq_true rfl)) rfl rfl (Nat.le_of_ble_eq_true rfl) 1 rfl h.le.2.2 (Or.inl hF) h.br rfl dX9_violations_61 ?_ (fun E q S hT => rc_out hC hH.2.2.2.2 hT)
    intro x4 S h
    show rc_Z Y S 64 [some (rc_q (some (rc_km (yr_K Y) 100))), none, some (rc_i v2), some (rc_i v3)] [rc_i x4, rc_i v2]
    refine rc_if_eq (pc := 64) (tgt := 71) hC dX9_violations_64 rfl h ?_ ?_
    · intro _ h
      refine rc_iconst (pc := 71) hC (v := (0 : Int32)) dX9_violations_71 rfl ?_
      refine rc_drop [true, false, false, true] (L' := [some (rc_q (some (rc_km (yr_K Y) 100))), none, none, some (rc_i v3)]) rfl ?_
      exact rw_X9_violations_L72 hC hH hF ih v3 (0 : Int32) v2 S h
    intro _ h
    refine rc_iconst (pc := 67) hC (v := (1 : Int32)) dX9_violations_67 rfl ?_
    refine rc_goto (pc := 68) (tgt := 72) hC dX9_violations_68 rfl ?_
    refine rc_drop [true, false, false, true] (L' := [some (rc_q (some (rc_km (yr_K Y) 100))), none, none, some (rc_i v3)]) rfl ?_
    exact rw_X9_violations_L72 hC hH hF ih v3 (1 : Int32) v2 S h
theorem rw_X9_violations_L45 {Y : rc_Y} (hC : rc_C Y cX9_violations RX9 (Option.some Jvm.ClassFile.FieldType.int) 4) (hH : rc_H Y 2 45 yX9_violations.name) (hF : yr_F Y = true) (s0 : Int32) (S : rc_S) (h : rc_Go Y rc_tI (rp_X9_violations_L45  s0) S) : rc_Z Y S 45 [some (rc_q (some (rc_km (yr_K Y) 100))), none, none, none] [rc_i s0] := by
  unfold rp_X9_violations_L45 at h
  refine rc_istore_n (pc := 45) hC (L' := [some (rc_q (some (rc_km (yr_K Y) 100))), none, some (rc_i s0), none]) dX9_violations_45 rfl (Nat.le_of_ble_eq_true rfl) rfl rfl ?_
  refine rc_iconst (pc := 46) hC (v := (0 : Int32)) dX9_violations_46 rfl ?_
  refine rc_istore_n (pc := 47) hC (L' := [some (rc_q (some (rc_km (yr_K Y) 100))), none, some (rc_i s0), some (rc_i (0 : Int32))]) dX9_violations_47 rfl (Nat.le_of_ble_eq_true rfl) rfl rfl ?_
  refine rc_r_fuel h ?_
  intro x1 h
  exact rw_X9_violations_L48 hC hH hF  x1 s0 (0 : Int32) S h
theorem rw_X9_violations {l : Launch} (hl : l.stackTraces = false) : rc_Cm l yX9_violations (ws_ yX9_violations cX9_violations 4 (Option.some Jvm.ClassFile.FieldType.int)) 2 45 rc_tI (rp_X9_violations ) [] := by
  refine rc_Cm_H hl (plainFor_of_name rY_X9) rfl (Nat.le_of_ble_eq_true rfl) ?_
  intro Y S hC hH hF h
  have hC : rc_C Y cX9_violations RX9 (Option.some Jvm.ClassFile.FieldType.int) 4 := hC
  show rc_Z Y S 0 [some (rc_q (some (rc_km (yr_K Y) 100))), none, none, none] []
  unfold rp_X9_violations at h
  refine rc_aload_n (pc := 0) hC dX9_violations_0 rfl rfl ?_
  refine rc_iconst (pc := 1) hC (v := (0 : Int32)) dX9_violations_1 rfl ?_
  refine rc_r_mput (pc := 2) hC (Or.inl hF) rP_X9_57 rfl dX9_violations_2 h ?_
  intro S h
  refine rc_aload_n (pc := 5) hC dX9_violations_5 rfl rfl ?_
  refine rc_callM (pc := 6) hC (rw_X9_allFish hH.1) q2667 q2669 qs111 q149 q2670 rfl rd_X9_allFish (hH.room (Nat.le_of_ble_eq_true rfl) (Nat.le_of_ble_eq_true rfl)) rfl rfl (Nat.le_of_ble_eq_true rfl) 0 rfl h.le.2.2 (Or.inl hF) h.br rfl dX9_violations_6 ?_ (fun E q S hT => rc_out hC hH.2.2.2.2 hT)
  intro x1 S h
  show rc_Z Y S 9 [some (rc_q (some (rc_km (yr_K Y) 100))), none, none, none] [rc_i x1]
  refine rc_iconst (pc := 9) hC (v := (5 : Int32)) dX9_violations_9 rfl ?_
  refine rc_aload_n (pc := 10) hC dX9_violations_10 rfl rfl ?_
  refine rc_r_mref (pc := 11) hC hF rF_X9_7 (by decide) dX9_violations_11 h ?_
  refine rc_iconst (pc := 14) hC (v := (2 : Int32)) dX9_violations_14 rfl ?_
  refine rc_r_mald (pc := 15) hC hF (j := 0) (by decide) rfl dX9_violations_15 h ?_
  intro x3 h
  refine rc_imul (pc := 16) hC dX9_violations_16 ?_
  refine rc_isub (pc := 17) hC dX9_violations_17 ?_
  refine rc_aload_n (pc := 18) hC dX9_violations_18 rfl rfl ?_
  refine rc_r_mref (pc := 19) hC hF rF_X9_7 (by decide) dX9_violations_19 h ?_
  refine rc_bipush (pc := 22) hC (v := (8 : Int32)) dX9_violations_22 rfl ?_
  refine rc_r_mald (pc := 24) hC hF (j := 0) (by decide) rfl dX9_violations_24 h ?_
  intro x5 h
  refine rc_isub (pc := 25) hC dX9_violations_25 ?_
  refine rc_aload_n (pc := 26) hC dX9_violations_26 rfl rfl ?_
  refine rc_r_mref (pc := 27) hC hF rF_X9_7 (by decide) dX9_violations_27 h ?_
  refine rc_bipush (pc := 30) hC (v := (9 : Int32)) dX9_violations_30 rfl ?_
  refine rc_r_mald (pc := 32) hC hF (j := 0) (by decide) rfl dX9_violations_32 h ?_
  intro x7 h
  refine rc_iadd (pc := 33) hC dX9_violations_33 ?_
  refine rc_istore_n (pc := 34) hC (L' := [some (rc_q (some (rc_km (yr_K Y) 100))), some (rc_i (((x1 - ((5 : Int32) * x3)) - x5) + x7)), none, none]) dX9_violations_34 rfl (Nat.le_of_ble_eq_true rfl) rfl rfl ?_
  refine rc_iload_n (pc := 35) hC dX9_violations_35 rfl rfl ?_
  refine rc_if_ge (pc := 36) (tgt := 44) hC dX9_violations_36 rfl h ?_ ?_
  · intro _ h
    refine rc_iload_n (pc := 44) hC dX9_violations_44 rfl rfl ?_
    refine rc_drop [true, false, false, false] (L' := [some (rc_q (some (rc_km (yr_K Y) 100))), none, none, none]) rfl ?_
    exact rw_X9_violations_L45 hC hH hF  (((x1 - ((5 : Int32) * x3)) - x5) + x7) S h
  intro _ h
  refine rc_iload_n (pc := 39) hC dX9_violations_39 rfl rfl ?_
  refine rc_ineg (pc := 40) hC dX9_violations_40 ?_
  refine rc_goto (pc := 41) (tgt := 45) hC dX9_violations_41 rfl ?_
  refine rc_drop [true, false, false, false] (L' := [some (rc_q (some (rc_km (yr_K Y) 100))), none, none, none]) rfl ?_
  exact rw_X9_violations_L45 hC hH hF  (-(((x1 - ((5 : Int32) * x3)) - x5) + x7)) S h
theorem rw_X9_write {l : Launch} (hl : l.stackTraces = false) (v1 : Int32) : rc_Cm l yX9_write (ws_ yX9_write cX9_write 2 (Option.none : Option Jvm.ClassFile.FieldType)) 0 0 rc_tU (rp_X9_write v1) [rc_i v1] := by
  refine rc_Cm_H hl (plainFor_of_name rY_X9) rfl (Nat.le_of_ble_eq_true rfl) ?_
  intro Y S hC hH hF h
  have hC : rc_C Y cX9_write RX9 (Option.none : Option Jvm.ClassFile.FieldType) 2 := hC
  show rc_Z Y S 0 [some (rc_q (some (rc_km (yr_K Y) 100))), some (rc_i v1)] []
  unfold rp_X9_write at h
  refine rc_aload_n (pc := 0) hC dX9_write_0 rfl rfl ?_
  refine rc_r_mref (pc := 1) hC hF rF_X9_38 (by decide) dX9_write_1 h ?_
  refine rc_aload_n (pc := 4) hC dX9_write_4 rfl rfl ?_
  refine rc_r_mget (pc := 5) hC hF rF_X9_410 rfl dX9_write_5 h ?_
  intro x2 h
  refine rc_iload_n (pc := 8) hC dX9_write_8 rfl rfl ?_
  refine rc_i2c (pc := 9) hC dX9_write_9 ?_
  refine rc_r_mcast (pc := 10) hC hF (j := 14) (by decide) rfl dX9_write_10 h ?_
  intro S h
  refine rc_aload_n (pc := 11) hC dX9_write_11 rfl rfl ?_
  refine rc_dup (pc := 12) hC dX9_write_12 rfl ?_
  refine rc_r_mget (pc := 13) hC hF rF_X9_410 rfl dX9_write_13 h ?_
  intro x3 h
  refine rc_iconst (pc := 16) hC (v := (1 : Int32)) dX9_write_16 rfl ?_
  refine rc_iadd (pc := 17) hC dX9_write_17 ?_
  refine rc_r_mput (pc := 18) hC (Or.inl hF) rP_X9_410 rfl dX9_write_18 h ?_
  intro S h
  exact rc_vret hC rfl dX9_write_21 h rfl
theorem rw_X9_writeCat {l : Launch} (hl : l.stackTraces = false) (v1 : Int32) (v2 : Int32) : rc_Cm l yX9_writeCat (ws_ yX9_writeCat cX9_writeCat 3 (Option.none : Option Jvm.ClassFile.FieldType)) 1 21 rc_tU (rp_X9_writeCat v1 v2) [rc_i v1, rc_i v2] := by
  refine rc_Cm_H hl (plainFor_of_name rY_X9) rfl (Nat.le_of_ble_eq_true rfl) ?_
  intro Y S hC hH hF h
  have hC : rc_C Y cX9_writeCat RX9 (Option.none : Option Jvm.ClassFile.FieldType) 3 := hC
  show rc_Z Y S 0 [some (rc_q (some (rc_km (yr_K Y) 100))), some (rc_i v1), some (rc_i v2)] []
  unfold rp_X9_writeCat at h
  refine rc_iload_n (pc := 0) hC dX9_writeCat_0 rfl rfl ?_
  refine rc_iconst (pc := 1) hC (v := (-1 : Int32)) dX9_writeCat_1 rfl ?_
  refine rc_icmp_eq (pc := 2) (tgt := 18) hC dX9_writeCat_2 rfl h ?_ ?_
  · intro _ h
    exact rc_vret hC rfl dX9_writeCat_18 h rfl
  intro _ h
  refine rc_aload_n (pc := 5) hC dX9_writeCat_5 rfl rfl ?_
  refine rc_iload_n (pc := 6) hC dX9_writeCat_6 rfl rfl ?_
  refine rc_callM (pc := 7) hC (rw_X9_write hH.1 v1) q2691 q2693 qs113 q149 q2694 rfl rd_X9_write (hH.room (Nat.le_of_ble_eq_true rfl) (Nat.le_of_ble_eq_true rfl)) rfl rfl (Nat.le_of_ble_eq_true rfl) 1 rfl h.le.2.2 (Or.inl hF) h.br rfl dX9_writeCat_7 ?_ (fun E q S hT => rc_out hC hH.2.2.2.2 hT)
  intro _ S h
  show rc_Z Y S 10 [some (rc_q (some (rc_km (yr_K Y) 100))), some (rc_i v1), some (rc_i v2)] []
  refine rc_aload_n (pc := 10) hC dX9_writeCat_10 rfl rfl ?_
  refine rc_bipush (pc := 11) hC (v := (48 : Int32)) dX9_writeCat_11 rfl ?_
  refine rc_iload_n (pc := 13) hC dX9_writeCat_13 rfl rfl ?_
  refine rc_iadd (pc := 14) hC dX9_writeCat_14 ?_
  refine rc_callM (pc := 15) hC (rw_X9_write hH.1 ((48 : Int32) + v2)) q2691 q2693 qs113 q149 q2694 rfl rd_X9_write (hH.room (Nat.le_of_ble_eq_true rfl) (Nat.le_of_ble_eq_true rfl)) rfl rfl (Nat.le_of_ble_eq_true rfl) 1 rfl h.le.2.2 (Or.inl hF) h.br rfl dX9_writeCat_15 ?_ (fun E q S hT => rc_out hC hH.2.2.2.2 hT)
  intro _ S h
  show rc_Z Y S 18 [some (rc_q (some (rc_km (yr_K Y) 100))), some (rc_i v1), some (rc_i v2)] []
  exact rc_vret hC rfl dX9_writeCat_18 h rfl
theorem rw_X9_writeRoof_L32 {Y : rc_Y} (hC : rc_C Y cX9_writeRoof RX9 (Option.some Jvm.ClassFile.FieldType.int) 2) (hH : rc_H Y 2 44 yX9_writeRoof.name) (hF : yr_F Y = true) {k12 : Int32 → rc_M Int32} (hk12 : ∀ (v1 : Int32) (S : rc_S), rc_Go Y rc_tI (k12 v1) S → rc_Z Y S 12 [some (rc_q (some (rc_km (yr_K Y) 100))), some (rc_i v1)] []) (v1 : Int32) (S : rc_S) (h : rc_Go Y rc_tI (rp_X9_writeRoof_L32 k12 v1) S) : rc_Z Y S 32 [some (rc_q (some (rc_km (yr_K Y) 100))), some (rc_i v1)] [] := by
  unfold rp_X9_writeRoof_L32 at h
  refine rc_aload_n (pc := 32) hC dX9_writeRoof_32 rfl rfl ?_
  refine rc_bipush (pc := 33) hC (v := (48 : Int32)) dX9_writeRoof_33 rfl ?_
  refine rc_aload_n (pc := 35) hC dX9_writeRoof_35 rfl rfl ?_
  refine rc_r_mref (pc := 36) hC hF rF_X9_7 (by decide) dX9_writeRoof_36 h ?_
  refine rc_bipush (pc := 39) hC (v := (10 : Int32)) dX9_writeRoof_39 rfl ?_
  refine rc_iload_n (pc := 41) hC dX9_writeRoof_41 rfl rfl ?_
  refine rc_iadd (pc := 42) hC dX9_writeRoof_42 ?_
  refine rc_r_mald (pc := 43) hC hF (j := 0) (by decide) rfl dX9_writeRoof_43 h ?_
  intro x2 h
  refine rc_iadd (pc := 44) hC dX9_writeRoof_44 ?_
  refine rc_callM (pc := 45) hC (rw_X9_write hH.1 ((48 : Int32) + x2)) q2691 q2693 qs113 q149 q2694 rfl rd_X9_write (hH.room (Nat.le_of_ble_eq_true rfl) (Nat.le_of_ble_eq_true rfl)) rfl rfl (Nat.le_of_ble_eq_true rfl) 1 rfl h.le.2.2 (Or.inl hF) h.br rfl dX9_writeRoof_45 ?_ (fun E q S hT => rc_out hC hH.2.2.2.2 hT)
  intro _ S h
  show rc_Z Y S 48 [some (rc_q (some (rc_km (yr_K Y) 100))), some (rc_i v1)] []
  refine rc_aload_n (pc := 48) hC dX9_writeRoof_48 rfl rfl ?_
  refine rc_bipush (pc := 49) hC (v := (99 : Int32)) dX9_writeRoof_49 rfl ?_
  refine rc_aload_n (pc := 51) hC dX9_writeRoof_51 rfl rfl ?_
  refine rc_iload_n (pc := 52) hC dX9_writeRoof_52 rfl rfl ?_
  refine rc_callM (pc := 53) hC (rw_X9_sitter hH.1 v1) q2120 q2122 qs51 q149 q2123 rfl rd_X9_sitter (hH.room (Nat.le_of_ble_eq_true rfl) (Nat.le_of_ble_eq_true rfl)) rfl rfl (Nat.le_of_ble_eq_true rfl) 1 rfl h.le.2.2 (Or.inl hF) h.br rfl dX9_writeRoof_53 ?_ (fun E q S hT => rc_out hC hH.2.2.2.2 hT)
  intro x3 S h
  show rc_Z Y S 56 [some (rc_q (some (rc_km (yr_K Y) 100))), some (rc_i v1)] [rc_i x3, rc_i (99 : Int32), rc_q (some (rc_km (yr_K Y) 100))]
  refine rc_callM (pc := 56) hC (rw_X9_writeCat hH.1 (99 : Int32) x3) q2695 q2697 qs114 q149 q2698 rfl rd_X9_writeCat (hH.room (Nat.le_of_ble_eq_true rfl) (Nat.le_of_ble_eq_true rfl)) rfl rfl (Nat.le_of_ble_eq_true rfl) 2 rfl h.le.2.2 (Or.inl hF) h.br rfl dX9_writeRoof_56 ?_ (fun E q S hT => rc_out hC hH.2.2.2.2 hT)
  intro _ S h
  show rc_Z Y S 59 [some (rc_q (some (rc_km (yr_K Y) 100))), some (rc_i v1)] []
  refine rc_aload_n (pc := 59) hC dX9_writeRoof_59 rfl rfl ?_
  refine rc_bipush (pc := 60) hC (v := (111 : Int32)) dX9_writeRoof_60 rfl ?_
  refine rc_aload_n (pc := 62) hC dX9_writeRoof_62 rfl rfl ?_
  refine rc_iload_n (pc := 63) hC dX9_writeRoof_63 rfl rfl ?_
  refine rc_callM (pc := 64) hC (rw_X9_owner hH.1 v1) q2160 q2162 qs61 q149 q2163 rfl rd_X9_owner (hH.room (Nat.le_of_ble_eq_true rfl) (Nat.le_of_ble_eq_true rfl)) rfl rfl (Nat.le_of_ble_eq_true rfl) 1 rfl h.le.2.2 (Or.inl hF) h.br rfl dX9_writeRoof_64 ?_ (fun E q S hT => rc_out hC hH.2.2.2.2 hT)
  intro x4 S h
  show rc_Z Y S 67 [some (rc_q (some (rc_km (yr_K Y) 100))), some (rc_i v1)] [rc_i x4, rc_i (111 : Int32), rc_q (some (rc_km (yr_K Y) 100))]
  refine rc_callM (pc := 67) hC (rw_X9_writeCat hH.1 (111 : Int32) x4) q2695 q2697 qs114 q149 q2698 rfl rd_X9_writeCat (hH.room (Nat.le_of_ble_eq_true rfl) (Nat.le_of_ble_eq_true rfl)) rfl rfl (Nat.le_of_ble_eq_true rfl) 2 rfl h.le.2.2 (Or.inl hF) h.br rfl dX9_writeRoof_67 ?_ (fun E q S hT => rc_out hC hH.2.2.2.2 hT)
  intro _ S h
  show rc_Z Y S 70 [some (rc_q (some (rc_km (yr_K Y) 100))), some (rc_i v1)] []
  refine rc_iinc (pc := 70) hC (v := (v1 + (1 : Int32))) (L' := [some (rc_q (some (rc_km (yr_K Y) 100))), some (rc_i (v1 + (1 : Int32)))]) dX9_writeRoof_70 rfl rfl rfl rfl ?_
  refine rc_goto (pc := 73) (tgt := 12) hC dX9_writeRoof_73 rfl ?_
  exact hk12 (v1 + (1 : Int32)) S h
theorem rw_X9_writeRoof_L12 {Y : rc_Y} (hC : rc_C Y cX9_writeRoof RX9 (Option.some Jvm.ClassFile.FieldType.int) 2) (hH : rc_H Y 2 44 yX9_writeRoof.name) (hF : yr_F Y = true) : ∀ (n : Nat) (v1 : Int32) (S : rc_S), rc_Go Y rc_tI (rp_X9_writeRoof_L12  n v1) S → rc_Z Y S 12 [some (rc_q (some (rc_km (yr_K Y) 100))), some (rc_i v1)] [] := by
  intro n
  induction n with
  | zero => intro v1 S h; exact h.fail.elim
  | succ n ih =>
    intro v1 S h
    rw [rp_X9_writeRoof_L12] at h
    refine rc_iload_n (pc := 12) hC dX9_writeRoof_12 rfl rfl ?_
    refine rc_aload_n (pc := 13) hC dX9_writeRoof_13 rfl rfl ?_
    refine rc_r_mref (pc := 14) hC hF rF_X9_7 (by decide) dX9_writeRoof_14 h ?_
    refine rc_iconst (pc := 17) hC (v := (0 : Int32)) dX9_writeRoof_17 rfl ?_
    refine rc_r_mald (pc := 18) hC hF (j := 0) (by decide) rfl dX9_writeRoof_18 h ?_
    intro x2 h
    refine rc_icmp_ge (pc := 19) (tgt := 76) hC dX9_writeRoof_19 rfl h ?_ ?_
    · intro _ h
      refine rc_aload_n (pc := 76) hC dX9_writeRoof_76 rfl rfl ?_
      refine rc_r_mget (pc := 77) hC hF rF_X9_410 rfl dX9_writeRoof_77 h ?_
      intro x3 h
      exact rc_iret hC rfl rfl dX9_writeRoof_80 h rfl
    intro _ h
    refine rc_iload_n (pc := 22) hC dX9_writeRoof_22 rfl rfl ?_
    refine rc_if_le (pc := 23) (tgt := 32) hC dX9_writeRoof_23 rfl h ?_ ?_
    · intro _ h
      exact rw_X9_writeRoof_L32 hC hH hF ih v1 S h
    intro _ h
    refine rc_aload_n (pc := 26) hC dX9_writeRoof_26 rfl rfl ?_
    refine rc_bipush (pc := 27) hC (v := (32 : Int32)) dX9_writeRoof_27 rfl ?_
    refine rc_callM (pc := 29) hC (rw_X9_write hH.1 (32 : Int32)) q2691 q2693 qs113 q149 q2694 rfl rd_X9_write (hH.room (Nat.le_of_ble_eq_true rfl) (Nat.le_of_ble_eq_true rfl)) rfl rfl (Nat.le_of_ble_eq_true rfl) 1 rfl h.le.2.2 (Or.inl hF) h.br rfl dX9_writeRoof_29 ?_ (fun E q S hT => rc_out hC hH.2.2.2.2 hT)
    intro _ S h
    show rc_Z Y S 32 [some (rc_q (some (rc_km (yr_K Y) 100))), some (rc_i v1)] []
    exact rw_X9_writeRoof_L32 hC hH hF ih v1 S h
theorem rw_X9_writeRoof {l : Launch} (hl : l.stackTraces = false) : rc_Cm l yX9_writeRoof (ws_ yX9_writeRoof cX9_writeRoof 2 (Option.some Jvm.ClassFile.FieldType.int)) 2 44 rc_tI (rp_X9_writeRoof ) [] := by
  refine rc_Cm_H hl (plainFor_of_name rY_X9) rfl (Nat.le_of_ble_eq_true rfl) ?_
  intro Y S hC hH hF h
  have hC : rc_C Y cX9_writeRoof RX9 (Option.some Jvm.ClassFile.FieldType.int) 2 := hC
  show rc_Z Y S 0 [some (rc_q (some (rc_km (yr_K Y) 100))), none] []
  unfold rp_X9_writeRoof at h
  refine rc_aload_n (pc := 0) hC dX9_writeRoof_0 rfl rfl ?_
  refine rc_iconst (pc := 1) hC (v := (0 : Int32)) dX9_writeRoof_1 rfl ?_
  refine rc_r_mput (pc := 2) hC (Or.inl hF) rP_X9_57 rfl dX9_writeRoof_2 h ?_
  intro S h
  refine rc_aload_n (pc := 5) hC dX9_writeRoof_5 rfl rfl ?_
  refine rc_iconst (pc := 6) hC (v := (0 : Int32)) dX9_writeRoof_6 rfl ?_
  refine rc_r_mput (pc := 7) hC (Or.inl hF) rP_X9_410 rfl dX9_writeRoof_7 h ?_
  intro S h
  refine rc_iconst (pc := 10) hC (v := (0 : Int32)) dX9_writeRoof_10 rfl ?_
  refine rc_istore_n (pc := 11) hC (L' := [some (rc_q (some (rc_km (yr_K Y) 100))), some (rc_i (0 : Int32))]) dX9_writeRoof_11 rfl (Nat.le_of_ble_eq_true rfl) rfl rfl ?_
  refine rc_r_fuel h ?_
  intro x1 h
  exact rw_X9_writeRoof_L12 hC hH hF  x1 (0 : Int32) S h
theorem rw_X9_reportByte {l : Launch} (hl : l.stackTraces = false) (v1 : Int32) : rc_Cm l yX9_reportByte (ws_ yX9_reportByte cX9_reportByte 2 (Option.some Jvm.ClassFile.FieldType.int)) 1 22 rc_tI (rp_X9_reportByte v1) [rc_i v1] := by
  refine rc_Cm_H hl (plainFor_of_name rY_X9) rfl (Nat.le_of_ble_eq_true rfl) ?_
  intro Y S hC hH hF h
  have hC : rc_C Y cX9_reportByte RX9 (Option.some Jvm.ClassFile.FieldType.int) 2 := hC
  show rc_Z Y S 0 [some (rc_q (some (rc_km (yr_K Y) 100))), some (rc_i v1)] []
  unfold rp_X9_reportByte at h
  refine rc_aload_n (pc := 0) hC dX9_reportByte_0 rfl rfl ?_
  refine rc_iconst (pc := 1) hC (v := (0 : Int32)) dX9_reportByte_1 rfl ?_
  refine rc_r_mput (pc := 2) hC (Or.inl hF) rP_X9_57 rfl dX9_reportByte_2 h ?_
  intro S h
  refine rc_iload_n (pc := 5) hC dX9_reportByte_5 rfl rfl ?_
  refine rc_iconst (pc := 6) hC (v := (0 : Int32)) dX9_reportByte_6 rfl ?_
  refine rc_aload_n (pc := 7) hC dX9_reportByte_7 rfl rfl ?_
  refine rc_r_mget (pc := 8) hC hF rF_X9_410 rfl dX9_reportByte_8 h ?_
  intro x1 h
  refine rc_iconst (pc := 11) hC (v := (1 : Int32)) dX9_reportByte_11 rfl ?_
  refine rc_isub (pc := 12) hC dX9_reportByte_12 ?_
  refine rc_callS (pc := 13) hC (rw_X9_in hH.1 v1 (0 : Int32) (x1 - (1 : Int32))) q2073 q2074 q149 q2075 rd_X9_in (hH.room (Nat.le_of_ble_eq_true rfl) (Nat.le_of_ble_eq_true rfl)) rfl rfl (Nat.le_of_ble_eq_true rfl) 3 rfl h.le.2.2 h.br rfl dX9_reportByte_13 ?_ (fun E q S hT => rc_out hC hH.2.2.2.2 hT)
  intro x2 S h
  show rc_Z Y S 16 [some (rc_q (some (rc_km (yr_K Y) 100))), some (rc_i v1)] [rc_i x2]
  refine rc_if_eq (pc := 16) (tgt := 28) hC dX9_reportByte_16 rfl h ?_ ?_
  · intro _ h
    refine rc_iconst (pc := 28) hC (v := (-1 : Int32)) dX9_reportByte_28 rfl ?_
    exact rc_iret hC rfl rfl dX9_reportByte_29 h rfl
  intro _ h
  refine rc_aload_n (pc := 19) hC dX9_reportByte_19 rfl rfl ?_
  refine rc_r_mref (pc := 20) hC hF rF_X9_38 (by decide) dX9_reportByte_20 h ?_
  refine rc_iload_n (pc := 23) hC dX9_reportByte_23 rfl rfl ?_
  refine rc_r_mcald (pc := 24) hC hF (j := 14) (by decide) rfl dX9_reportByte_24 h ?_
  intro x4 h
  refine rc_goto (pc := 25) (tgt := 29) hC dX9_reportByte_25 rfl ?_
  exact rc_iret hC rfl rfl dX9_reportByte_29 h rfl
