set_option maxRecDepth 100000
/-! PROGRAMS AND WALKS of the methods with handlers (printed by gen.py) -/
theorem rN_X1_7 : rc_New RX1 7 9 3 [rc_q none, rc_i 0, rc_i 0] := ⟨RJ1, TJ1, tyJ1, rfl, in_J1, q164, q165, q118, tyJ1_ok, (by
  intro k hk
  have h : k = 0 ∨ k = 1 ∨ k = 2 := by omega
  rcases h with rfl | rfl | rfl <;> rfl)⟩
theorem rd_J1_init : yJ1_init.cls ≠ "java/lang/invoke/MethodHandle" ∧ yJ1_init.cls ≠ "java/lang/invoke/VarHandle" ∧ (parseMethodDescriptor yJ1_init.desc).map (fun d => d.parameters.length) = some 0 := by decide +kernel
theorem rP_X1_10 : rc_Fld RX1 10 0 1 (.object "java/util/ArrayDeque") true := ⟨"RooftopCats", RX1, TX1, 7, rfl, in_X1, by decide, (Or.inl q1220), (Or.inl rfl), ⟨tyX1, tyX1_ok⟩, nmX1, rfl, tyX1_ok 1 (by decide), fun _ => rfl⟩
theorem rP_X1_19 : rc_Fld RX1 19 0 3 (.object "java/lang/StringBuilder") true := ⟨"RooftopCats", RX1, TX1, 7, rfl, in_X1, by decide, (Or.inl q1222), (Or.inl rfl), ⟨tyX1, tyX1_ok⟩, nmX1, rfl, tyX1_ok 3 (by decide), fun _ => rfl⟩
theorem rP_X1_29 : rc_Fld RX1 29 0 6 .int false := ⟨"RooftopCats", RX1, TX1, 7, rfl, in_X1, by decide, (Or.inl q1225), (Or.inl rfl), ⟨tyX1, tyX1_ok⟩, nmX1, rfl, tyX1_ok 6 (by decide), nofun⟩
theorem rN_X1_33 : rc_New RX1 33 1 9 [rc_q none, rc_i 0, rc_i 0, rc_q none, rc_q none, rc_i 0, rc_i 0, rc_i 0, rc_q none] := ⟨RX2, TX2, tyX2, rfl, in_X2, q219, q220, q123, tyX2_ok, (by
  intro k hk
  have h : k = 0 ∨ k = 1 ∨ k = 2 ∨ k = 3 ∨ k = 4 ∨ k = 5 ∨ k = 6 ∨ k = 7 ∨ k = 8 := by omega
  rcases h with rfl | rfl | rfl | rfl | rfl | rfl | rfl | rfl | rfl <;> rfl)⟩
theorem rd_X2_init : yX2_init.cls ≠ "java/lang/invoke/MethodHandle" ∧ yX2_init.cls ≠ "java/lang/invoke/VarHandle" ∧ (parseMethodDescriptor yX2_init.desc).map (fun d => d.parameters.length) = some 1 := by decide +kernel
theorem rd_X2_parse : yX2_parse.cls ≠ "java/lang/invoke/MethodHandle" ∧ yX2_parse.cls ≠ "java/lang/invoke/VarHandle" ∧ (parseMethodDescriptor yX2_parse.desc).map (fun d => d.parameters.length) = some 0 := by decide +kernel
theorem rP_X1_133 : rc_Fld RX1 133 0 5 .int false := ⟨"RooftopCats", RX1, TX1, 7, rfl, in_X1, by decide, (Or.inl q1224), (Or.inl rfl), ⟨tyX1, tyX1_ok⟩, nmX1, rfl, tyX1_ok 5 (by decide), nofun⟩
theorem rF_X1_136 : rc_FldG RX1 136 3 6 := ⟨"RooftopCats$ScriptException", RX4, TX4, 8, rfl, in_X4, by decide, (Or.inr ⟨_, lw_o q716 rfl⟩), (Or.inl rfl)⟩
theorem rF_X1_139 : rc_FldG RX1 139 3 7 := ⟨"RooftopCats$ScriptException", RX4, TX4, 8, rfl, in_X4, by decide, (Or.inr ⟨_, lw_o q718 rfl⟩), (Or.inl rfl)⟩
theorem rP_X9_7 : rc_Fld RX9 7 8 0 (.array .int) true := ⟨"RooftopCatsModel", RX9, TX9, 23, rfl, in_X9, by decide, (Or.inl q2305), (Or.inl rfl), ⟨tyX9, tyX9_ok⟩, nmX9, rfl, tyX9_ok 0 (by decide), fun _ => rfl⟩
theorem rP_X9_13 : rc_Fld RX9 13 8 1 (.array .int) true := ⟨"RooftopCatsModel", RX9, TX9, 23, rfl, in_X9, by decide, (Or.inl q2306), (Or.inl rfl), ⟨tyX9, tyX9_ok⟩, nmX9, rfl, tyX9_ok 1 (by decide), fun _ => rfl⟩
theorem rP_X9_16 : rc_Fld RX9 16 8 2 (.array .int) true := ⟨"RooftopCatsModel", RX9, TX9, 23, rfl, in_X9, by decide, (Or.inl q2307), (Or.inl rfl), ⟨tyX9, tyX9_ok⟩, nmX9, rfl, tyX9_ok 2 (by decide), fun _ => rfl⟩
theorem rP_X9_19 : rc_Fld RX9 19 8 3 (.array .int) true := ⟨"RooftopCatsModel", RX9, TX9, 23, rfl, in_X9, by decide, (Or.inl q2308), (Or.inl rfl), ⟨tyX9, tyX9_ok⟩, nmX9, rfl, tyX9_ok 3 (by decide), fun _ => rfl⟩
theorem rP_X9_22 : rc_Fld RX9 22 8 4 (.array .int) true := ⟨"RooftopCatsModel", RX9, TX9, 23, rfl, in_X9, by decide, (Or.inl q2309), (Or.inl rfl), ⟨tyX9, tyX9_ok⟩, nmX9, rfl, tyX9_ok 4 (by decide), fun _ => rfl⟩
theorem rP_X9_25 : rc_Fld RX9 25 8 7 (.array .int) true := ⟨"RooftopCatsModel", RX9, TX9, 23, rfl, in_X9, by decide, (Or.inl q2312), (Or.inl rfl), ⟨tyX9, tyX9_ok⟩, nmX9, rfl, tyX9_ok 7 (by decide), fun _ => rfl⟩
theorem rP_X9_28 : rc_Fld RX9 28 8 8 (.array .int) true := ⟨"RooftopCatsModel", RX9, TX9, 23, rfl, in_X9, by decide, (Or.inl q2313), (Or.inl rfl), ⟨tyX9, tyX9_ok⟩, nmX9, rfl, tyX9_ok 8 (by decide), fun _ => rfl⟩
theorem rP_X9_31 : rc_Fld RX9 31 8 9 (.array .int) true := ⟨"RooftopCatsModel", RX9, TX9, 23, rfl, in_X9, by decide, (Or.inl q2314), (Or.inl rfl), ⟨tyX9, tyX9_ok⟩, nmX9, rfl, tyX9_ok 9 (by decide), fun _ => rfl⟩
theorem rP_X9_38 : rc_Fld RX9 38 8 14 (.array .char) true := ⟨"RooftopCatsModel", RX9, TX9, 23, rfl, in_X9, by decide, (Or.inl q2319), (Or.inl rfl), ⟨tyX9, tyX9_ok⟩, nmX9, rfl, tyX9_ok 14 (by decide), fun _ => rfl⟩
theorem rP_X9_42 : rc_Fld RX9 42 8 22 (.array .int) true := ⟨"RooftopCatsModel", RX9, TX9, 23, rfl, in_X9, by decide, (Or.inl q2327), (Or.inl rfl), ⟨tyX9, tyX9_ok⟩, nmX9, rfl, tyX9_ok 22 (by decide), fun _ => rfl⟩
theorem rd_X9_tell : yX9_tell.cls ≠ "java/lang/invoke/MethodHandle" ∧ yX9_tell.cls ≠ "java/lang/invoke/VarHandle" ∧ (parseMethodDescriptor yX9_tell.desc).map (fun d => d.parameters.length) = some 1 := by decide +kernel
theorem rd_X1_truncateInput : yX1_truncateInput.cls ≠ "java/lang/invoke/MethodHandle" ∧ yX1_truncateInput.cls ≠ "java/lang/invoke/VarHandle" ∧ (parseMethodDescriptor yX1_truncateInput.desc).map (fun d => d.parameters.length) = some 1 := by decide +kernel
theorem rY_X0 : plainName RX0 = true := by decide +kernel
theorem rd_X1_addChimney : yX1_addChimney.cls ≠ "java/lang/invoke/MethodHandle" ∧ yX1_addChimney.cls ≠ "java/lang/invoke/VarHandle" ∧ (parseMethodDescriptor yX1_addChimney.desc).map (fun d => d.parameters.length) = some 1 := by decide +kernel
theorem rd_X1_addGutter : yX1_addGutter.cls ≠ "java/lang/invoke/MethodHandle" ∧ yX1_addGutter.cls ≠ "java/lang/invoke/VarHandle" ∧ (parseMethodDescriptor yX1_addGutter.desc).map (fun d => d.parameters.length) = some 3 := by decide +kernel
theorem rd_X1_addCat : yX1_addCat.cls ≠ "java/lang/invoke/MethodHandle" ∧ yX1_addCat.cls ≠ "java/lang/invoke/VarHandle" ∧ (parseMethodDescriptor yX1_addCat.desc).map (fun d => d.parameters.length) = some 3 := by decide +kernel
theorem rd_X1_step : yX1_step.cls ≠ "java/lang/invoke/MethodHandle" ∧ yX1_step.cls ≠ "java/lang/invoke/VarHandle" ∧ (parseMethodDescriptor yX1_step.desc).map (fun d => d.parameters.length) = some 2 := by decide +kernel
theorem rd_X1_claim : yX1_claim.cls ≠ "java/lang/invoke/MethodHandle" ∧ yX1_claim.cls ≠ "java/lang/invoke/VarHandle" ∧ (parseMethodDescriptor yX1_claim.desc).map (fun d => d.parameters.length) = some 1 := by decide +kernel
theorem rd_X1_abandon : yX1_abandon.cls ≠ "java/lang/invoke/MethodHandle" ∧ yX1_abandon.cls ≠ "java/lang/invoke/VarHandle" ∧ (parseMethodDescriptor yX1_abandon.desc).map (fun d => d.parameters.length) = some 1 := by decide +kernel
theorem rd_X1_chase : yX1_chase.cls ≠ "java/lang/invoke/MethodHandle" ∧ yX1_chase.cls ≠ "java/lang/invoke/VarHandle" ∧ (parseMethodDescriptor yX1_chase.desc).map (fun d => d.parameters.length) = some 2 := by decide +kernel
theorem rd_X1_buyTruce : yX1_buyTruce.cls ≠ "java/lang/invoke/MethodHandle" ∧ yX1_buyTruce.cls ≠ "java/lang/invoke/VarHandle" ∧ (parseMethodDescriptor yX1_buyTruce.desc).map (fun d => d.parameters.length) = some 4 := by decide +kernel
theorem rd_X1_nominate : yX1_nominate.cls ≠ "java/lang/invoke/MethodHandle" ∧ yX1_nominate.cls ≠ "java/lang/invoke/VarHandle" ∧ (parseMethodDescriptor yX1_nominate.desc).map (fun d => d.parameters.length) = some 2 := by decide +kernel
theorem rd_X1_vote : yX1_vote.cls ≠ "java/lang/invoke/MethodHandle" ∧ yX1_vote.cls ≠ "java/lang/invoke/VarHandle" ∧ (parseMethodDescriptor yX1_vote.desc).map (fun d => d.parameters.length) = some 2 := by decide +kernel
theorem rd_X1_passNights : yX1_passNights.cls ≠ "java/lang/invoke/MethodHandle" ∧ yX1_passNights.cls ≠ "java/lang/invoke/VarHandle" ∧ (parseMethodDescriptor yX1_passNights.desc).map (fun d => d.parameters.length) = some 1 := by decide +kernel
theorem rd_X1_restoreSnapshot : yX1_restoreSnapshot.cls ≠ "java/lang/invoke/MethodHandle" ∧ yX1_restoreSnapshot.cls ≠ "java/lang/invoke/VarHandle" ∧ (parseMethodDescriptor yX1_restoreSnapshot.desc).map (fun d => d.parameters.length) = some 0 := by decide +kernel
theorem rd_X1_warmth : yX1_warmth.cls ≠ "java/lang/invoke/MethodHandle" ∧ yX1_warmth.cls ≠ "java/lang/invoke/VarHandle" ∧ (parseMethodDescriptor yX1_warmth.desc).map (fun d => d.parameters.length) = some 1 := by decide +kernel
theorem rd_X1_catOn : yX1_catOn.cls ≠ "java/lang/invoke/MethodHandle" ∧ yX1_catOn.cls ≠ "java/lang/invoke/VarHandle" ∧ (parseMethodDescriptor yX1_catOn.desc).map (fun d => d.parameters.length) = some 1 := by decide +kernel
theorem rd_X1_gutterEnds : yX1_gutterEnds.cls ≠ "java/lang/invoke/MethodHandle" ∧ yX1_gutterEnds.cls ≠ "java/lang/invoke/VarHandle" ∧ (parseMethodDescriptor yX1_gutterEnds.desc).map (fun d => d.parameters.length) = some 1 := by decide +kernel
theorem rd_X1_width : yX1_width.cls ≠ "java/lang/invoke/MethodHandle" ∧ yX1_width.cls ≠ "java/lang/invoke/VarHandle" ∧ (parseMethodDescriptor yX1_width.desc).map (fun d => d.parameters.length) = some 1 := by decide +kernel
theorem rd_X1_widestWay : yX1_widestWay.cls ≠ "java/lang/invoke/MethodHandle" ∧ yX1_widestWay.cls ≠ "java/lang/invoke/VarHandle" ∧ (parseMethodDescriptor yX1_widestWay.desc).map (fun d => d.parameters.length) = some 2 := by decide +kernel
theorem rd_X1_girth : yX1_girth.cls ≠ "java/lang/invoke/MethodHandle" ∧ yX1_girth.cls ≠ "java/lang/invoke/VarHandle" ∧ (parseMethodDescriptor yX1_girth.desc).map (fun d => d.parameters.length) = some 1 := by decide +kernel
theorem rd_X1_power : yX1_power.cls ≠ "java/lang/invoke/MethodHandle" ∧ yX1_power.cls ≠ "java/lang/invoke/VarHandle" ∧ (parseMethodDescriptor yX1_power.desc).map (fun d => d.parameters.length) = some 1 := by decide +kernel
theorem rd_X1_fish : yX1_fish.cls ≠ "java/lang/invoke/MethodHandle" ∧ yX1_fish.cls ≠ "java/lang/invoke/VarHandle" ∧ (parseMethodDescriptor yX1_fish.desc).map (fun d => d.parameters.length) = some 1 := by decide +kernel
theorem rd_X1_chimneyOf : yX1_chimneyOf.cls ≠ "java/lang/invoke/MethodHandle" ∧ yX1_chimneyOf.cls ≠ "java/lang/invoke/VarHandle" ∧ (parseMethodDescriptor yX1_chimneyOf.desc).map (fun d => d.parameters.length) = some 1 := by decide +kernel
theorem rd_X1_ownedChimneys : yX1_ownedChimneys.cls ≠ "java/lang/invoke/MethodHandle" ∧ yX1_ownedChimneys.cls ≠ "java/lang/invoke/VarHandle" ∧ (parseMethodDescriptor yX1_ownedChimneys.desc).map (fun d => d.parameters.length) = some 1 := by decide +kernel
theorem rd_X1_truceNights : yX1_truceNights.cls ≠ "java/lang/invoke/MethodHandle" ∧ yX1_truceNights.cls ≠ "java/lang/invoke/VarHandle" ∧ (parseMethodDescriptor yX1_truceNights.desc).map (fun d => d.parameters.length) = some 2 := by decide +kernel
theorem rd_X1_reachable : yX1_reachable.cls ≠ "java/lang/invoke/MethodHandle" ∧ yX1_reachable.cls ≠ "java/lang/invoke/VarHandle" ∧ (parseMethodDescriptor yX1_reachable.desc).map (fun d => d.parameters.length) = some 1 := by decide +kernel
theorem rd_X1_stepsTo : yX1_stepsTo.cls ≠ "java/lang/invoke/MethodHandle" ∧ yX1_stepsTo.cls ≠ "java/lang/invoke/VarHandle" ∧ (parseMethodDescriptor yX1_stepsTo.desc).map (fun d => d.parameters.length) = some 2 := by decide +kernel
theorem rd_X1_openGutters : yX1_openGutters.cls ≠ "java/lang/invoke/MethodHandle" ∧ yX1_openGutters.cls ≠ "java/lang/invoke/VarHandle" ∧ (parseMethodDescriptor yX1_openGutters.desc).map (fun d => d.parameters.length) = some 1 := by decide +kernel
theorem rd_X1_preyOf : yX1_preyOf.cls ≠ "java/lang/invoke/MethodHandle" ∧ yX1_preyOf.cls ≠ "java/lang/invoke/VarHandle" ∧ (parseMethodDescriptor yX1_preyOf.desc).map (fun d => d.parameters.length) = some 1 := by decide +kernel
theorem rd_X1_hasVoted : yX1_hasVoted.cls ≠ "java/lang/invoke/MethodHandle" ∧ yX1_hasVoted.cls ≠ "java/lang/invoke/VarHandle" ∧ (parseMethodDescriptor yX1_hasVoted.desc).map (fun d => d.parameters.length) = some 1 := by decide +kernel
theorem rd_X1_choirOf : yX1_choirOf.cls ≠ "java/lang/invoke/MethodHandle" ∧ yX1_choirOf.cls ≠ "java/lang/invoke/VarHandle" ∧ (parseMethodDescriptor yX1_choirOf.desc).map (fun d => d.parameters.length) = some 1 := by decide +kernel
theorem rd_X1_fishAfter : yX1_fishAfter.cls ≠ "java/lang/invoke/MethodHandle" ∧ yX1_fishAfter.cls ≠ "java/lang/invoke/VarHandle" ∧ (parseMethodDescriptor yX1_fishAfter.desc).map (fun d => d.parameters.length) = some 2 := by decide +kernel
theorem rN_X0_8 : rc_New RX0 8 0 7 [rc_q none, rc_q none, rc_q none, rc_q none, rc_q none, rc_i 0, rc_i 0] := ⟨RX1, TX1, tyX1, rfl, in_X1, q155, q156, q116, tyX1_ok, (by
  intro k hk
  have h : k = 0 ∨ k = 1 ∨ k = 2 ∨ k = 3 ∨ k = 4 ∨ k = 5 ∨ k = 6 := by omega
  rcases h with rfl | rfl | rfl | rfl | rfl | rfl | rfl <;> rfl)⟩
theorem rd_X1_init : yX1_init.cls ≠ "java/lang/invoke/MethodHandle" ∧ yX1_init.cls ≠ "java/lang/invoke/VarHandle" ∧ (parseMethodDescriptor yX1_init.desc).map (fun d => d.parameters.length) = some 0 := by decide +kernel
theorem rN_X0_131 : rc_New RX0 131 8 23 [rc_q none, rc_q none, rc_q none, rc_q none, rc_q none, rc_i 0, rc_i 0, rc_q none, rc_q none, rc_q none, rc_i 0, rc_i 0, rc_i 0, rc_i 0, rc_q none, rc_i 0, rc_i 0, rc_i 0, rc_i 0, rc_i 0, rc_i 0, rc_i 0, rc_q none] := ⟨RX9, TX9, tyX9, rfl, in_X9, q1998, q1999, q149, tyX9_ok, (by
  intro k hk
  have h : k = 0 ∨ k = 1 ∨ k = 2 ∨ k = 3 ∨ k = 4 ∨ k = 5 ∨ k = 6 ∨ k = 7 ∨ k = 8 ∨ k = 9 ∨ k = 10 ∨ k = 11 ∨ k = 12 ∨ k = 13 ∨ k = 14 ∨ k = 15 ∨ k = 16 ∨ k = 17 ∨ k = 18 ∨ k = 19 ∨ k = 20 ∨ k = 21 ∨ k = 22 := by omega
  rcases h with rfl | rfl | rfl | rfl | rfl | rfl | rfl | rfl | rfl | rfl | rfl | rfl | rfl | rfl | rfl | rfl | rfl | rfl | rfl | rfl | rfl | rfl | rfl <;> rfl)⟩
theorem rd_X9_init : yX9_init.cls ≠ "java/lang/invoke/MethodHandle" ∧ yX9_init.cls ≠ "java/lang/invoke/VarHandle" ∧ (parseMethodDescriptor yX9_init.desc).map (fun d => d.parameters.length) = some 0 := by decide +kernel
theorem rd_X1_append : yX1_append.cls ≠ "java/lang/invoke/MethodHandle" ∧ yX1_append.cls ≠ "java/lang/invoke/VarHandle" ∧ (parseMethodDescriptor yX1_append.desc).map (fun d => d.parameters.length) = some 5 := by decide +kernel
theorem rd_X9_append : yX9_append.cls ≠ "java/lang/invoke/MethodHandle" ∧ yX9_append.cls ≠ "java/lang/invoke/VarHandle" ∧ (parseMethodDescriptor yX9_append.desc).map (fun d => d.parameters.length) = some 5 := by decide +kernel
theorem rd_X0_truncateInput : yX0_truncateInput.cls ≠ "java/lang/invoke/MethodHandle" ∧ yX0_truncateInput.cls ≠ "java/lang/invoke/VarHandle" ∧ (parseMethodDescriptor yX0_truncateInput.desc).map (fun d => d.parameters.length) = some 3 := by decide +kernel
theorem rd_X9_truncateInput : yX9_truncateInput.cls ≠ "java/lang/invoke/MethodHandle" ∧ yX9_truncateInput.cls ≠ "java/lang/invoke/VarHandle" ∧ (parseMethodDescriptor yX9_truncateInput.desc).map (fun d => d.parameters.length) = some 1 := by decide +kernel
theorem rd_X9_thrown : yX9_thrown.cls ≠ "java/lang/invoke/MethodHandle" ∧ yX9_thrown.cls ≠ "java/lang/invoke/VarHandle" ∧ (parseMethodDescriptor yX9_thrown.desc).map (fun d => d.parameters.length) = some 0 := by decide +kernel
theorem rd_X1_runScript : yX1_runScript.cls ≠ "java/lang/invoke/MethodHandle" ∧ yX1_runScript.cls ≠ "java/lang/invoke/VarHandle" ∧ (parseMethodDescriptor yX1_runScript.desc).map (fun d => d.parameters.length) = some 0 := by decide +kernel
theorem rd_X9_runScript : yX9_runScript.cls ≠ "java/lang/invoke/MethodHandle" ∧ yX9_runScript.cls ≠ "java/lang/invoke/VarHandle" ∧ (parseMethodDescriptor yX9_runScript.desc).map (fun d => d.parameters.length) = some 0 := by decide +kernel
theorem rd_X0_addChimney : yX0_addChimney.cls ≠ "java/lang/invoke/MethodHandle" ∧ yX0_addChimney.cls ≠ "java/lang/invoke/VarHandle" ∧ (parseMethodDescriptor yX0_addChimney.desc).map (fun d => d.parameters.length) = some 3 := by decide +kernel
theorem rd_X9_addChimney : yX9_addChimney.cls ≠ "java/lang/invoke/MethodHandle" ∧ yX9_addChimney.cls ≠ "java/lang/invoke/VarHandle" ∧ (parseMethodDescriptor yX9_addChimney.desc).map (fun d => d.parameters.length) = some 1 := by decide +kernel
theorem rd_X0_addGutter : yX0_addGutter.cls ≠ "java/lang/invoke/MethodHandle" ∧ yX0_addGutter.cls ≠ "java/lang/invoke/VarHandle" ∧ (parseMethodDescriptor yX0_addGutter.desc).map (fun d => d.parameters.length) = some 5 := by decide +kernel
theorem rd_X9_addGutter : yX9_addGutter.cls ≠ "java/lang/invoke/MethodHandle" ∧ yX9_addGutter.cls ≠ "java/lang/invoke/VarHandle" ∧ (parseMethodDescriptor yX9_addGutter.desc).map (fun d => d.parameters.length) = some 3 := by decide +kernel
theorem rd_X0_addCat : yX0_addCat.cls ≠ "java/lang/invoke/MethodHandle" ∧ yX0_addCat.cls ≠ "java/lang/invoke/VarHandle" ∧ (parseMethodDescriptor yX0_addCat.desc).map (fun d => d.parameters.length) = some 5 := by decide +kernel
theorem rd_X9_addCat : yX9_addCat.cls ≠ "java/lang/invoke/MethodHandle" ∧ yX9_addCat.cls ≠ "java/lang/invoke/VarHandle" ∧ (parseMethodDescriptor yX9_addCat.desc).map (fun d => d.parameters.length) = some 3 := by decide +kernel
theorem rd_X0_step : yX0_step.cls ≠ "java/lang/invoke/MethodHandle" ∧ yX0_step.cls ≠ "java/lang/invoke/VarHandle" ∧ (parseMethodDescriptor yX0_step.desc).map (fun d => d.parameters.length) = some 4 := by decide +kernel
theorem rd_X9_step : yX9_step.cls ≠ "java/lang/invoke/MethodHandle" ∧ yX9_step.cls ≠ "java/lang/invoke/VarHandle" ∧ (parseMethodDescriptor yX9_step.desc).map (fun d => d.parameters.length) = some 2 := by decide +kernel
theorem rd_X0_claim : yX0_claim.cls ≠ "java/lang/invoke/MethodHandle" ∧ yX0_claim.cls ≠ "java/lang/invoke/VarHandle" ∧ (parseMethodDescriptor yX0_claim.desc).map (fun d => d.parameters.length) = some 3 := by decide +kernel
theorem rd_X9_claim : yX9_claim.cls ≠ "java/lang/invoke/MethodHandle" ∧ yX9_claim.cls ≠ "java/lang/invoke/VarHandle" ∧ (parseMethodDescriptor yX9_claim.desc).map (fun d => d.parameters.length) = some 1 := by decide +kernel
theorem rd_X0_abandon : yX0_abandon.cls ≠ "java/lang/invoke/MethodHandle" ∧ yX0_abandon.cls ≠ "java/lang/invoke/VarHandle" ∧ (parseMethodDescriptor yX0_abandon.desc).map (fun d => d.parameters.length) = some 3 := by decide +kernel
theorem rd_X9_abandon : yX9_abandon.cls ≠ "java/lang/invoke/MethodHandle" ∧ yX9_abandon.cls ≠ "java/lang/invoke/VarHandle" ∧ (parseMethodDescriptor yX9_abandon.desc).map (fun d => d.parameters.length) = some 1 := by decide +kernel
theorem rd_X0_chase : yX0_chase.cls ≠ "java/lang/invoke/MethodHandle" ∧ yX0_chase.cls ≠ "java/lang/invoke/VarHandle" ∧ (parseMethodDescriptor yX0_chase.desc).map (fun d => d.parameters.length) = some 4 := by decide +kernel
theorem rd_X9_chase : yX9_chase.cls ≠ "java/lang/invoke/MethodHandle" ∧ yX9_chase.cls ≠ "java/lang/invoke/VarHandle" ∧ (parseMethodDescriptor yX9_chase.desc).map (fun d => d.parameters.length) = some 2 := by decide +kernel
theorem rd_X0_buyTruce : yX0_buyTruce.cls ≠ "java/lang/invoke/MethodHandle" ∧ yX0_buyTruce.cls ≠ "java/lang/invoke/VarHandle" ∧ (parseMethodDescriptor yX0_buyTruce.desc).map (fun d => d.parameters.length) = some 6 := by decide +kernel
theorem rd_X9_buyTruce : yX9_buyTruce.cls ≠ "java/lang/invoke/MethodHandle" ∧ yX9_buyTruce.cls ≠ "java/lang/invoke/VarHandle" ∧ (parseMethodDescriptor yX9_buyTruce.desc).map (fun d => d.parameters.length) = some 4 := by decide +kernel
theorem rd_X0_nominate : yX0_nominate.cls ≠ "java/lang/invoke/MethodHandle" ∧ yX0_nominate.cls ≠ "java/lang/invoke/VarHandle" ∧ (parseMethodDescriptor yX0_nominate.desc).map (fun d => d.parameters.length) = some 4 := by decide +kernel
theorem rd_X9_nominate : yX9_nominate.cls ≠ "java/lang/invoke/MethodHandle" ∧ yX9_nominate.cls ≠ "java/lang/invoke/VarHandle" ∧ (parseMethodDescriptor yX9_nominate.desc).map (fun d => d.parameters.length) = some 2 := by decide +kernel
theorem rd_X0_vote : yX0_vote.cls ≠ "java/lang/invoke/MethodHandle" ∧ yX0_vote.cls ≠ "java/lang/invoke/VarHandle" ∧ (parseMethodDescriptor yX0_vote.desc).map (fun d => d.parameters.length) = some 4 := by decide +kernel
theorem rd_X9_vote : yX9_vote.cls ≠ "java/lang/invoke/MethodHandle" ∧ yX9_vote.cls ≠ "java/lang/invoke/VarHandle" ∧ (parseMethodDescriptor yX9_vote.desc).map (fun d => d.parameters.length) = some 2 := by decide +kernel
theorem rd_X0_passNights : yX0_passNights.cls ≠ "java/lang/invoke/MethodHandle" ∧ yX0_passNights.cls ≠ "java/lang/invoke/VarHandle" ∧ (parseMethodDescriptor yX0_passNights.desc).map (fun d => d.parameters.length) = some 3 := by decide +kernel
theorem rd_X9_passNights : yX9_passNights.cls ≠ "java/lang/invoke/MethodHandle" ∧ yX9_passNights.cls ≠ "java/lang/invoke/VarHandle" ∧ (parseMethodDescriptor yX9_passNights.desc).map (fun d => d.parameters.length) = some 1 := by decide +kernel
theorem rd_X1_undo : yX1_undo.cls ≠ "java/lang/invoke/MethodHandle" ∧ yX1_undo.cls ≠ "java/lang/invoke/VarHandle" ∧ (parseMethodDescriptor yX1_undo.desc).map (fun d => d.parameters.length) = some 0 := by decide +kernel
theorem rd_X9_undo : yX9_undo.cls ≠ "java/lang/invoke/MethodHandle" ∧ yX9_undo.cls ≠ "java/lang/invoke/VarHandle" ∧ (parseMethodDescriptor yX9_undo.desc).map (fun d => d.parameters.length) = some 0 := by decide +kernel
theorem rd_X1_undoCount : yX1_undoCount.cls ≠ "java/lang/invoke/MethodHandle" ∧ yX1_undoCount.cls ≠ "java/lang/invoke/VarHandle" ∧ (parseMethodDescriptor yX1_undoCount.desc).map (fun d => d.parameters.length) = some 0 := by decide +kernel
theorem rd_X9_undoCount : yX9_undoCount.cls ≠ "java/lang/invoke/MethodHandle" ∧ yX9_undoCount.cls ≠ "java/lang/invoke/VarHandle" ∧ (parseMethodDescriptor yX9_undoCount.desc).map (fun d => d.parameters.length) = some 0 := by decide +kernel
theorem rd_X1_saveSnapshot : yX1_saveSnapshot.cls ≠ "java/lang/invoke/MethodHandle" ∧ yX1_saveSnapshot.cls ≠ "java/lang/invoke/VarHandle" ∧ (parseMethodDescriptor yX1_saveSnapshot.desc).map (fun d => d.parameters.length) = some 0 := by decide +kernel
theorem rd_X9_saveSnapshot : yX9_saveSnapshot.cls ≠ "java/lang/invoke/MethodHandle" ∧ yX9_saveSnapshot.cls ≠ "java/lang/invoke/VarHandle" ∧ (parseMethodDescriptor yX9_saveSnapshot.desc).map (fun d => d.parameters.length) = some 0 := by decide +kernel
theorem rd_X0_restoreSnapshot : yX0_restoreSnapshot.cls ≠ "java/lang/invoke/MethodHandle" ∧ yX0_restoreSnapshot.cls ≠ "java/lang/invoke/VarHandle" ∧ (parseMethodDescriptor yX0_restoreSnapshot.desc).map (fun d => d.parameters.length) = some 2 := by decide +kernel
theorem rd_X9_restoreSnapshot : yX9_restoreSnapshot.cls ≠ "java/lang/invoke/MethodHandle" ∧ yX9_restoreSnapshot.cls ≠ "java/lang/invoke/VarHandle" ∧ (parseMethodDescriptor yX9_restoreSnapshot.desc).map (fun d => d.parameters.length) = some 0 := by decide +kernel
theorem rd_X1_scriptErrorKind : yX1_scriptErrorKind.cls ≠ "java/lang/invoke/MethodHandle" ∧ yX1_scriptErrorKind.cls ≠ "java/lang/invoke/VarHandle" ∧ (parseMethodDescriptor yX1_scriptErrorKind.desc).map (fun d => d.parameters.length) = some 0 := by decide +kernel
theorem rd_X9_scriptErrorKind : yX9_scriptErrorKind.cls ≠ "java/lang/invoke/MethodHandle" ∧ yX9_scriptErrorKind.cls ≠ "java/lang/invoke/VarHandle" ∧ (parseMethodDescriptor yX9_scriptErrorKind.desc).map (fun d => d.parameters.length) = some 0 := by decide +kernel
theorem rd_X1_scriptErrorOffset : yX1_scriptErrorOffset.cls ≠ "java/lang/invoke/MethodHandle" ∧ yX1_scriptErrorOffset.cls ≠ "java/lang/invoke/VarHandle" ∧ (parseMethodDescriptor yX1_scriptErrorOffset.desc).map (fun d => d.parameters.length) = some 0 := by decide +kernel
theorem rd_X9_scriptErrorOffset : yX9_scriptErrorOffset.cls ≠ "java/lang/invoke/MethodHandle" ∧ yX9_scriptErrorOffset.cls ≠ "java/lang/invoke/VarHandle" ∧ (parseMethodDescriptor yX9_scriptErrorOffset.desc).map (fun d => d.parameters.length) = some 0 := by decide +kernel
theorem rd_X1_chimneyCount : yX1_chimneyCount.cls ≠ "java/lang/invoke/MethodHandle" ∧ yX1_chimneyCount.cls ≠ "java/lang/invoke/VarHandle" ∧ (parseMethodDescriptor yX1_chimneyCount.desc).map (fun d => d.parameters.length) = some 0 := by decide +kernel
theorem rd_X9_chimneyCount : yX9_chimneyCount.cls ≠ "java/lang/invoke/MethodHandle" ∧ yX9_chimneyCount.cls ≠ "java/lang/invoke/VarHandle" ∧ (parseMethodDescriptor yX9_chimneyCount.desc).map (fun d => d.parameters.length) = some 0 := by decide +kernel
theorem rd_X1_gutterCount : yX1_gutterCount.cls ≠ "java/lang/invoke/MethodHandle" ∧ yX1_gutterCount.cls ≠ "java/lang/invoke/VarHandle" ∧ (parseMethodDescriptor yX1_gutterCount.desc).map (fun d => d.parameters.length) = some 0 := by decide +kernel
theorem rd_X9_gutterCount : yX9_gutterCount.cls ≠ "java/lang/invoke/MethodHandle" ∧ yX9_gutterCount.cls ≠ "java/lang/invoke/VarHandle" ∧ (parseMethodDescriptor yX9_gutterCount.desc).map (fun d => d.parameters.length) = some 0 := by decide +kernel
theorem rd_X1_catCount : yX1_catCount.cls ≠ "java/lang/invoke/MethodHandle" ∧ yX1_catCount.cls ≠ "java/lang/invoke/VarHandle" ∧ (parseMethodDescriptor yX1_catCount.desc).map (fun d => d.parameters.length) = some 0 := by decide +kernel
theorem rd_X9_catCount : yX9_catCount.cls ≠ "java/lang/invoke/MethodHandle" ∧ yX9_catCount.cls ≠ "java/lang/invoke/VarHandle" ∧ (parseMethodDescriptor yX9_catCount.desc).map (fun d => d.parameters.length) = some 0 := by decide +kernel
theorem rd_X1_night : yX1_night.cls ≠ "java/lang/invoke/MethodHandle" ∧ yX1_night.cls ≠ "java/lang/invoke/VarHandle" ∧ (parseMethodDescriptor yX1_night.desc).map (fun d => d.parameters.length) = some 0 := by decide +kernel
theorem rd_X9_night : yX9_night.cls ≠ "java/lang/invoke/MethodHandle" ∧ yX9_night.cls ≠ "java/lang/invoke/VarHandle" ∧ (parseMethodDescriptor yX9_night.desc).map (fun d => d.parameters.length) = some 0 := by decide +kernel
theorem rd_X1_moonPhase : yX1_moonPhase.cls ≠ "java/lang/invoke/MethodHandle" ∧ yX1_moonPhase.cls ≠ "java/lang/invoke/VarHandle" ∧ (parseMethodDescriptor yX1_moonPhase.desc).map (fun d => d.parameters.length) = some 0 := by decide +kernel
theorem rd_X9_moonPhase : yX9_moonPhase.cls ≠ "java/lang/invoke/MethodHandle" ∧ yX9_moonPhase.cls ≠ "java/lang/invoke/VarHandle" ∧ (parseMethodDescriptor yX9_moonPhase.desc).map (fun d => d.parameters.length) = some 0 := by decide +kernel
theorem rd_X0_warmth : yX0_warmth.cls ≠ "java/lang/invoke/MethodHandle" ∧ yX0_warmth.cls ≠ "java/lang/invoke/VarHandle" ∧ (parseMethodDescriptor yX0_warmth.desc).map (fun d => d.parameters.length) = some 3 := by decide +kernel
theorem rd_X9_warmth : yX9_warmth.cls ≠ "java/lang/invoke/MethodHandle" ∧ yX9_warmth.cls ≠ "java/lang/invoke/VarHandle" ∧ (parseMethodDescriptor yX9_warmth.desc).map (fun d => d.parameters.length) = some 1 := by decide +kernel
theorem rd_X0_ownerOf : yX0_ownerOf.cls ≠ "java/lang/invoke/MethodHandle" ∧ yX0_ownerOf.cls ≠ "java/lang/invoke/VarHandle" ∧ (parseMethodDescriptor yX0_ownerOf.desc).map (fun d => d.parameters.length) = some 3 := by decide +kernel
theorem rd_X9_ownerOf : yX9_ownerOf.cls ≠ "java/lang/invoke/MethodHandle" ∧ yX9_ownerOf.cls ≠ "java/lang/invoke/VarHandle" ∧ (parseMethodDescriptor yX9_ownerOf.desc).map (fun d => d.parameters.length) = some 1 := by decide +kernel
theorem rd_X0_catOn : yX0_catOn.cls ≠ "java/lang/invoke/MethodHandle" ∧ yX0_catOn.cls ≠ "java/lang/invoke/VarHandle" ∧ (parseMethodDescriptor yX0_catOn.desc).map (fun d => d.parameters.length) = some 3 := by decide +kernel
theorem rd_X9_catOn : yX9_catOn.cls ≠ "java/lang/invoke/MethodHandle" ∧ yX9_catOn.cls ≠ "java/lang/invoke/VarHandle" ∧ (parseMethodDescriptor yX9_catOn.desc).map (fun d => d.parameters.length) = some 1 := by decide +kernel
theorem rd_X0_gutterEnds : yX0_gutterEnds.cls ≠ "java/lang/invoke/MethodHandle" ∧ yX0_gutterEnds.cls ≠ "java/lang/invoke/VarHandle" ∧ (parseMethodDescriptor yX0_gutterEnds.desc).map (fun d => d.parameters.length) = some 3 := by decide +kernel
theorem rd_X9_gutterEnds : yX9_gutterEnds.cls ≠ "java/lang/invoke/MethodHandle" ∧ yX9_gutterEnds.cls ≠ "java/lang/invoke/VarHandle" ∧ (parseMethodDescriptor yX9_gutterEnds.desc).map (fun d => d.parameters.length) = some 1 := by decide +kernel
theorem rd_X0_width : yX0_width.cls ≠ "java/lang/invoke/MethodHandle" ∧ yX0_width.cls ≠ "java/lang/invoke/VarHandle" ∧ (parseMethodDescriptor yX0_width.desc).map (fun d => d.parameters.length) = some 3 := by decide +kernel
theorem rd_X9_width : yX9_width.cls ≠ "java/lang/invoke/MethodHandle" ∧ yX9_width.cls ≠ "java/lang/invoke/VarHandle" ∧ (parseMethodDescriptor yX9_width.desc).map (fun d => d.parameters.length) = some 1 := by decide +kernel
theorem rd_X0_widestWay : yX0_widestWay.cls ≠ "java/lang/invoke/MethodHandle" ∧ yX0_widestWay.cls ≠ "java/lang/invoke/VarHandle" ∧ (parseMethodDescriptor yX0_widestWay.desc).map (fun d => d.parameters.length) = some 4 := by decide +kernel
theorem rd_X9_widestWay : yX9_widestWay.cls ≠ "java/lang/invoke/MethodHandle" ∧ yX9_widestWay.cls ≠ "java/lang/invoke/VarHandle" ∧ (parseMethodDescriptor yX9_widestWay.desc).map (fun d => d.parameters.length) = some 2 := by decide +kernel
theorem rd_X1_warmestFree : yX1_warmestFree.cls ≠ "java/lang/invoke/MethodHandle" ∧ yX1_warmestFree.cls ≠ "java/lang/invoke/VarHandle" ∧ (parseMethodDescriptor yX1_warmestFree.desc).map (fun d => d.parameters.length) = some 0 := by decide +kernel
theorem rd_X9_warmestFree : yX9_warmestFree.cls ≠ "java/lang/invoke/MethodHandle" ∧ yX9_warmestFree.cls ≠ "java/lang/invoke/VarHandle" ∧ (parseMethodDescriptor yX9_warmestFree.desc).map (fun d => d.parameters.length) = some 0 := by decide +kernel
theorem rd_X0_girth : yX0_girth.cls ≠ "java/lang/invoke/MethodHandle" ∧ yX0_girth.cls ≠ "java/lang/invoke/VarHandle" ∧ (parseMethodDescriptor yX0_girth.desc).map (fun d => d.parameters.length) = some 3 := by decide +kernel
theorem rd_X9_girth : yX9_girth.cls ≠ "java/lang/invoke/MethodHandle" ∧ yX9_girth.cls ≠ "java/lang/invoke/VarHandle" ∧ (parseMethodDescriptor yX9_girth.desc).map (fun d => d.parameters.length) = some 1 := by decide +kernel
theorem rd_X0_power : yX0_power.cls ≠ "java/lang/invoke/MethodHandle" ∧ yX0_power.cls ≠ "java/lang/invoke/VarHandle" ∧ (parseMethodDescriptor yX0_power.desc).map (fun d => d.parameters.length) = some 3 := by decide +kernel
theorem rd_X9_power : yX9_power.cls ≠ "java/lang/invoke/MethodHandle" ∧ yX9_power.cls ≠ "java/lang/invoke/VarHandle" ∧ (parseMethodDescriptor yX9_power.desc).map (fun d => d.parameters.length) = some 1 := by decide +kernel
theorem rd_X0_fish : yX0_fish.cls ≠ "java/lang/invoke/MethodHandle" ∧ yX0_fish.cls ≠ "java/lang/invoke/VarHandle" ∧ (parseMethodDescriptor yX0_fish.desc).map (fun d => d.parameters.length) = some 3 := by decide +kernel
theorem rd_X9_fish : yX9_fish.cls ≠ "java/lang/invoke/MethodHandle" ∧ yX9_fish.cls ≠ "java/lang/invoke/VarHandle" ∧ (parseMethodDescriptor yX9_fish.desc).map (fun d => d.parameters.length) = some 1 := by decide +kernel
theorem rd_X0_chimneyOf : yX0_chimneyOf.cls ≠ "java/lang/invoke/MethodHandle" ∧ yX0_chimneyOf.cls ≠ "java/lang/invoke/VarHandle" ∧ (parseMethodDescriptor yX0_chimneyOf.desc).map (fun d => d.parameters.length) = some 3 := by decide +kernel
theorem rd_X9_chimneyOf : yX9_chimneyOf.cls ≠ "java/lang/invoke/MethodHandle" ∧ yX9_chimneyOf.cls ≠ "java/lang/invoke/VarHandle" ∧ (parseMethodDescriptor yX9_chimneyOf.desc).map (fun d => d.parameters.length) = some 1 := by decide +kernel
theorem rd_X0_ownedChimneys : yX0_ownedChimneys.cls ≠ "java/lang/invoke/MethodHandle" ∧ yX0_ownedChimneys.cls ≠ "java/lang/invoke/VarHandle" ∧ (parseMethodDescriptor yX0_ownedChimneys.desc).map (fun d => d.parameters.length) = some 3 := by decide +kernel
theorem rd_X9_ownedChimneys : yX9_ownedChimneys.cls ≠ "java/lang/invoke/MethodHandle" ∧ yX9_ownedChimneys.cls ≠ "java/lang/invoke/VarHandle" ∧ (parseMethodDescriptor yX9_ownedChimneys.desc).map (fun d => d.parameters.length) = some 1 := by decide +kernel
theorem rd_X0_truceNights : yX0_truceNights.cls ≠ "java/lang/invoke/MethodHandle" ∧ yX0_truceNights.cls ≠ "java/lang/invoke/VarHandle" ∧ (parseMethodDescriptor yX0_truceNights.desc).map (fun d => d.parameters.length) = some 4 := by decide +kernel
theorem rd_X9_truceNights : yX9_truceNights.cls ≠ "java/lang/invoke/MethodHandle" ∧ yX9_truceNights.cls ≠ "java/lang/invoke/VarHandle" ∧ (parseMethodDescriptor yX9_truceNights.desc).map (fun d => d.parameters.length) = some 2 := by decide +kernel
theorem rd_X0_reachable : yX0_reachable.cls ≠ "java/lang/invoke/MethodHandle" ∧ yX0_reachable.cls ≠ "java/lang/invoke/VarHandle" ∧ (parseMethodDescriptor yX0_reachable.desc).map (fun d => d.parameters.length) = some 3 := by decide +kernel
theorem rd_X9_reachable : yX9_reachable.cls ≠ "java/lang/invoke/MethodHandle" ∧ yX9_reachable.cls ≠ "java/lang/invoke/VarHandle" ∧ (parseMethodDescriptor yX9_reachable.desc).map (fun d => d.parameters.length) = some 1 := by decide +kernel
theorem rd_X0_stepsTo : yX0_stepsTo.cls ≠ "java/lang/invoke/MethodHandle" ∧ yX0_stepsTo.cls ≠ "java/lang/invoke/VarHandle" ∧ (parseMethodDescriptor yX0_stepsTo.desc).map (fun d => d.parameters.length) = some 4 := by decide +kernel
theorem rd_X9_stepsTo : yX9_stepsTo.cls ≠ "java/lang/invoke/MethodHandle" ∧ yX9_stepsTo.cls ≠ "java/lang/invoke/VarHandle" ∧ (parseMethodDescriptor yX9_stepsTo.desc).map (fun d => d.parameters.length) = some 2 := by decide +kernel
theorem rd_X0_openGutters : yX0_openGutters.cls ≠ "java/lang/invoke/MethodHandle" ∧ yX0_openGutters.cls ≠ "java/lang/invoke/VarHandle" ∧ (parseMethodDescriptor yX0_openGutters.desc).map (fun d => d.parameters.length) = some 3 := by decide +kernel
theorem rd_X9_openGutters : yX9_openGutters.cls ≠ "java/lang/invoke/MethodHandle" ∧ yX9_openGutters.cls ≠ "java/lang/invoke/VarHandle" ∧ (parseMethodDescriptor yX9_openGutters.desc).map (fun d => d.parameters.length) = some 1 := by decide +kernel
theorem rd_X0_whyNoStep : yX0_whyNoStep.cls ≠ "java/lang/invoke/MethodHandle" ∧ yX0_whyNoStep.cls ≠ "java/lang/invoke/VarHandle" ∧ (parseMethodDescriptor yX0_whyNoStep.desc).map (fun d => d.parameters.length) = some 4 := by decide +kernel
theorem rd_X9_whyNoStep : yX9_whyNoStep.cls ≠ "java/lang/invoke/MethodHandle" ∧ yX9_whyNoStep.cls ≠ "java/lang/invoke/VarHandle" ∧ (parseMethodDescriptor yX9_whyNoStep.desc).map (fun d => d.parameters.length) = some 2 := by decide +kernel
theorem rd_X0_whyNoClaim : yX0_whyNoClaim.cls ≠ "java/lang/invoke/MethodHandle" ∧ yX0_whyNoClaim.cls ≠ "java/lang/invoke/VarHandle" ∧ (parseMethodDescriptor yX0_whyNoClaim.desc).map (fun d => d.parameters.length) = some 3 := by decide +kernel
theorem rd_X9_whyNoClaim : yX9_whyNoClaim.cls ≠ "java/lang/invoke/MethodHandle" ∧ yX9_whyNoClaim.cls ≠ "java/lang/invoke/VarHandle" ∧ (parseMethodDescriptor yX9_whyNoClaim.desc).map (fun d => d.parameters.length) = some 1 := by decide +kernel
theorem rd_X0_whyNoChase : yX0_whyNoChase.cls ≠ "java/lang/invoke/MethodHandle" ∧ yX0_whyNoChase.cls ≠ "java/lang/invoke/VarHandle" ∧ (parseMethodDescriptor yX0_whyNoChase.desc).map (fun d => d.parameters.length) = some 4 := by decide +kernel
theorem rd_X9_whyNoChase : yX9_whyNoChase.cls ≠ "java/lang/invoke/MethodHandle" ∧ yX9_whyNoChase.cls ≠ "java/lang/invoke/VarHandle" ∧ (parseMethodDescriptor yX9_whyNoChase.desc).map (fun d => d.parameters.length) = some 2 := by decide +kernel
theorem rd_X0_preyOf : yX0_preyOf.cls ≠ "java/lang/invoke/MethodHandle" ∧ yX0_preyOf.cls ≠ "java/lang/invoke/VarHandle" ∧ (parseMethodDescriptor yX0_preyOf.desc).map (fun d => d.parameters.length) = some 3 := by decide +kernel
theorem rd_X9_preyOf : yX9_preyOf.cls ≠ "java/lang/invoke/MethodHandle" ∧ yX9_preyOf.cls ≠ "java/lang/invoke/VarHandle" ∧ (parseMethodDescriptor yX9_preyOf.desc).map (fun d => d.parameters.length) = some 1 := by decide +kernel
theorem rd_X1_isKittenWaiting : yX1_isKittenWaiting.cls ≠ "java/lang/invoke/MethodHandle" ∧ yX1_isKittenWaiting.cls ≠ "java/lang/invoke/VarHandle" ∧ (parseMethodDescriptor yX1_isKittenWaiting.desc).map (fun d => d.parameters.length) = some 0 := by decide +kernel
theorem rd_X9_isKittenWaiting : yX9_isKittenWaiting.cls ≠ "java/lang/invoke/MethodHandle" ∧ yX9_isKittenWaiting.cls ≠ "java/lang/invoke/VarHandle" ∧ (parseMethodDescriptor yX9_isKittenWaiting.desc).map (fun d => d.parameters.length) = some 0 := by decide +kernel
theorem rd_X1_votesFor : yX1_votesFor.cls ≠ "java/lang/invoke/MethodHandle" ∧ yX1_votesFor.cls ≠ "java/lang/invoke/VarHandle" ∧ (parseMethodDescriptor yX1_votesFor.desc).map (fun d => d.parameters.length) = some 0 := by decide +kernel
theorem rd_X9_votesFor : yX9_votesFor.cls ≠ "java/lang/invoke/MethodHandle" ∧ yX9_votesFor.cls ≠ "java/lang/invoke/VarHandle" ∧ (parseMethodDescriptor yX9_votesFor.desc).map (fun d => d.parameters.length) = some 0 := by decide +kernel
theorem rd_X1_votesAgainst : yX1_votesAgainst.cls ≠ "java/lang/invoke/MethodHandle" ∧ yX1_votesAgainst.cls ≠ "java/lang/invoke/VarHandle" ∧ (parseMethodDescriptor yX1_votesAgainst.desc).map (fun d => d.parameters.length) = some 0 := by decide +kernel
theorem rd_X9_votesAgainst : yX9_votesAgainst.cls ≠ "java/lang/invoke/MethodHandle" ∧ yX9_votesAgainst.cls ≠ "java/lang/invoke/VarHandle" ∧ (parseMethodDescriptor yX9_votesAgainst.desc).map (fun d => d.parameters.length) = some 0 := by decide +kernel
theorem rd_X0_hasVoted : yX0_hasVoted.cls ≠ "java/lang/invoke/MethodHandle" ∧ yX0_hasVoted.cls ≠ "java/lang/invoke/VarHandle" ∧ (parseMethodDescriptor yX0_hasVoted.desc).map (fun d => d.parameters.length) = some 3 := by decide +kernel
theorem rd_X9_hasVoted : yX9_hasVoted.cls ≠ "java/lang/invoke/MethodHandle" ∧ yX9_hasVoted.cls ≠ "java/lang/invoke/VarHandle" ∧ (parseMethodDescriptor yX9_hasVoted.desc).map (fun d => d.parameters.length) = some 1 := by decide +kernel
theorem rd_X0_choirOf : yX0_choirOf.cls ≠ "java/lang/invoke/MethodHandle" ∧ yX0_choirOf.cls ≠ "java/lang/invoke/VarHandle" ∧ (parseMethodDescriptor yX0_choirOf.desc).map (fun d => d.parameters.length) = some 3 := by decide +kernel
theorem rd_X9_choirOf : yX9_choirOf.cls ≠ "java/lang/invoke/MethodHandle" ∧ yX9_choirOf.cls ≠ "java/lang/invoke/VarHandle" ∧ (parseMethodDescriptor yX9_choirOf.desc).map (fun d => d.parameters.length) = some 1 := by decide +kernel
theorem rd_X1_choirCount : yX1_choirCount.cls ≠ "java/lang/invoke/MethodHandle" ∧ yX1_choirCount.cls ≠ "java/lang/invoke/VarHandle" ∧ (parseMethodDescriptor yX1_choirCount.desc).map (fun d => d.parameters.length) = some 0 := by decide +kernel
theorem rd_X9_choirCount : yX9_choirCount.cls ≠ "java/lang/invoke/MethodHandle" ∧ yX9_choirCount.cls ≠ "java/lang/invoke/VarHandle" ∧ (parseMethodDescriptor yX9_choirCount.desc).map (fun d => d.parameters.length) = some 0 := by decide +kernel
theorem rd_X1_largestChoir : yX1_largestChoir.cls ≠ "java/lang/invoke/MethodHandle" ∧ yX1_largestChoir.cls ≠ "java/lang/invoke/VarHandle" ∧ (parseMethodDescriptor yX1_largestChoir.desc).map (fun d => d.parameters.length) = some 0 := by decide +kernel
theorem rd_X9_largestChoir : yX9_largestChoir.cls ≠ "java/lang/invoke/MethodHandle" ∧ yX9_largestChoir.cls ≠ "java/lang/invoke/VarHandle" ∧ (parseMethodDescriptor yX9_largestChoir.desc).map (fun d => d.parameters.length) = some 0 := by decide +kernel
theorem rd_X1_nightsToFullMoon : yX1_nightsToFullMoon.cls ≠ "java/lang/invoke/MethodHandle" ∧ yX1_nightsToFullMoon.cls ≠ "java/lang/invoke/VarHandle" ∧ (parseMethodDescriptor yX1_nightsToFullMoon.desc).map (fun d => d.parameters.length) = some 0 := by decide +kernel
theorem rd_X9_nightsToFullMoon : yX9_nightsToFullMoon.cls ≠ "java/lang/invoke/MethodHandle" ∧ yX9_nightsToFullMoon.cls ≠ "java/lang/invoke/VarHandle" ∧ (parseMethodDescriptor yX9_nightsToFullMoon.desc).map (fun d => d.parameters.length) = some 0 := by decide +kernel
theorem rd_X0_fishAfter : yX0_fishAfter.cls ≠ "java/lang/invoke/MethodHandle" ∧ yX0_fishAfter.cls ≠ "java/lang/invoke/VarHandle" ∧ (parseMethodDescriptor yX0_fishAfter.desc).map (fun d => d.parameters.length) = some 4 := by decide +kernel
theorem rd_X9_fishAfter : yX9_fishAfter.cls ≠ "java/lang/invoke/MethodHandle" ∧ yX9_fishAfter.cls ≠ "java/lang/invoke/VarHandle" ∧ (parseMethodDescriptor yX9_fishAfter.desc).map (fun d => d.parameters.length) = some 2 := by decide +kernel
theorem rd_X1_richestCat : yX1_richestCat.cls ≠ "java/lang/invoke/MethodHandle" ∧ yX1_richestCat.cls ≠ "java/lang/invoke/VarHandle" ∧ (parseMethodDescriptor yX1_richestCat.desc).map (fun d => d.parameters.length) = some 0 := by decide +kernel
theorem rd_X9_richestCat : yX9_richestCat.cls ≠ "java/lang/invoke/MethodHandle" ∧ yX9_richestCat.cls ≠ "java/lang/invoke/VarHandle" ∧ (parseMethodDescriptor yX9_richestCat.desc).map (fun d => d.parameters.length) = some 0 := by decide +kernel
theorem rd_X1_totalFish : yX1_totalFish.cls ≠ "java/lang/invoke/MethodHandle" ∧ yX1_totalFish.cls ≠ "java/lang/invoke/VarHandle" ∧ (parseMethodDescriptor yX1_totalFish.desc).map (fun d => d.parameters.length) = some 0 := by decide +kernel
theorem rd_X9_totalFish : yX9_totalFish.cls ≠ "java/lang/invoke/MethodHandle" ∧ yX9_totalFish.cls ≠ "java/lang/invoke/VarHandle" ∧ (parseMethodDescriptor yX9_totalFish.desc).map (fun d => d.parameters.length) = some 0 := by decide +kernel
theorem rd_X1_meanFish : yX1_meanFish.cls ≠ "java/lang/invoke/MethodHandle" ∧ yX1_meanFish.cls ≠ "java/lang/invoke/VarHandle" ∧ (parseMethodDescriptor yX1_meanFish.desc).map (fun d => d.parameters.length) = some 0 := by decide +kernel
theorem rd_X9_meanFish : yX9_meanFish.cls ≠ "java/lang/invoke/MethodHandle" ∧ yX9_meanFish.cls ≠ "java/lang/invoke/VarHandle" ∧ (parseMethodDescriptor yX9_meanFish.desc).map (fun d => d.parameters.length) = some 0 := by decide +kernel
theorem rd_X1_ownedShare : yX1_ownedShare.cls ≠ "java/lang/invoke/MethodHandle" ∧ yX1_ownedShare.cls ≠ "java/lang/invoke/VarHandle" ∧ (parseMethodDescriptor yX1_ownedShare.desc).map (fun d => d.parameters.length) = some 0 := by decide +kernel
theorem rd_X9_ownedShare : yX9_ownedShare.cls ≠ "java/lang/invoke/MethodHandle" ∧ yX9_ownedShare.cls ≠ "java/lang/invoke/VarHandle" ∧ (parseMethodDescriptor yX9_ownedShare.desc).map (fun d => d.parameters.length) = some 0 := by decide +kernel
theorem rd_X1_violations : yX1_violations.cls ≠ "java/lang/invoke/MethodHandle" ∧ yX1_violations.cls ≠ "java/lang/invoke/VarHandle" ∧ (parseMethodDescriptor yX1_violations.desc).map (fun d => d.parameters.length) = some 0 := by decide +kernel
theorem rd_X9_violations : yX9_violations.cls ≠ "java/lang/invoke/MethodHandle" ∧ yX9_violations.cls ≠ "java/lang/invoke/VarHandle" ∧ (parseMethodDescriptor yX9_violations.desc).map (fun d => d.parameters.length) = some 0 := by decide +kernel
theorem rd_X1_writeRoof : yX1_writeRoof.cls ≠ "java/lang/invoke/MethodHandle" ∧ yX1_writeRoof.cls ≠ "java/lang/invoke/VarHandle" ∧ (parseMethodDescriptor yX1_writeRoof.desc).map (fun d => d.parameters.length) = some 0 := by decide +kernel
theorem rd_X9_writeRoof : yX9_writeRoof.cls ≠ "java/lang/invoke/MethodHandle" ∧ yX9_writeRoof.cls ≠ "java/lang/invoke/VarHandle" ∧ (parseMethodDescriptor yX9_writeRoof.desc).map (fun d => d.parameters.length) = some 0 := by decide +kernel
theorem rd_X1_reportByte : yX1_reportByte.cls ≠ "java/lang/invoke/MethodHandle" ∧ yX1_reportByte.cls ≠ "java/lang/invoke/VarHandle" ∧ (parseMethodDescriptor yX1_reportByte.desc).map (fun d => d.parameters.length) = some 1 := by decide +kernel
theorem rd_X9_reportByte : yX9_reportByte.cls ≠ "java/lang/invoke/MethodHandle" ∧ yX9_reportByte.cls ≠ "java/lang/invoke/VarHandle" ∧ (parseMethodDescriptor yX9_reportByte.desc).map (fun d => d.parameters.length) = some 1 := by decide +kernel
def rp_X1_init_L56 (s0 : Option Nat) : rc_M Unit :=
rc_fail
def rp_X1_init (v0 : Option Nat) : rc_M Unit :=
rc_bind (rc_nn v0) fun _ =>
rc_bind (rc_new 9 3 [rc_q none, rc_i 0, rc_i 0]) fun x1 =>
rc_bind (rc_nn x1) fun _ =>
rc_bind (rp_J1_init x1) fun _ =>
rc_bind (rc_put 0 1 (.object "java/util/ArrayDeque") v0 (rc_q x1)) fun _ =>
rc_bind (rc_new 10 4 [rc_q none, rc_i 0, rc_i 0, rc_i 0]) fun x2 =>
rc_bind (rc_nn x2) fun _ =>
rc_bind (rp_J3_init x2) fun _ =>
rc_bind (rc_put 0 3 (.object "java/lang/StringBuilder") v0 (rc_q x2)) fun _ =>
rc_bind (rc_text 0) fun x3 =>
rc_bind (rc_put 0 4 (.object "java/lang/String") v0 (rc_q x3)) fun _ =>
rc_bind (rc_put 0 6 .int v0 (rc_i (-1 : Int32))) fun _ =>
rc_bind (rc_new 1 9 [rc_q none, rc_i 0, rc_i 0, rc_q none, rc_q none, rc_i 0, rc_i 0, rc_i 0, rc_q none]) fun x4 =>
rc_bind (rc_text 1) fun x5 =>
rc_bind (rc_nn x4) fun _ =>
rc_bindX (rp_X2_init x4 x5) (fun _ =>
rc_bind (rc_is 1 x4) fun _ =>
rc_bindX (rp_X2_parse x4) (fun x6 =>
rc_bind (rc_put 0 0 (.object "RooftopCats$Roof") v0 (rc_q x6)) fun _ =>
rc_pure ()) (fun E q =>
(if E = 100 then
rp_X1_init_L56 (some q)
else
rc_fail))) (fun E q =>
(if E = 100 then
rp_X1_init_L56 (some q)
else
rc_fail))
def rp_X1_runScript_L60 (v0 : Option Nat) (s0 : Option Nat) : rc_M Int32 :=
rc_bind (rc_geti 3 6 s0) fun x1 =>
rc_bind (rc_put 0 5 .int v0 (rc_i x1)) fun _ =>
rc_bind (rc_geti 3 7 s0) fun x2 =>
rc_bind (rc_put 0 6 .int v0 (rc_i x2)) fun _ =>
rc_pure (-1 : Int32)
def rp_X1_runScript (v0 : Option Nat) : rc_M Int32 :=
rc_bind (rc_getq 0 3 v0) fun x1 =>
rc_bind (rc_is 10 x1) fun _ =>
rc_bind (rp_J3_toString x1) fun x2 =>
rc_bind (rc_getq 0 3 v0) fun x3 =>
rc_bind (rc_is 10 x3) fun _ =>
rc_bind (rp_J3_setLength x3 (0 : Int32)) fun _ =>
rc_bind (rc_new 1 9 [rc_q none, rc_i 0, rc_i 0, rc_q none, rc_q none, rc_i 0, rc_i 0, rc_i 0, rc_q none]) fun x4 =>
rc_bind (rc_nn x4) fun _ =>
rc_bindX (rp_X2_init x4 x2) (fun _ =>
rc_bind (rc_is 1 x4) fun _ =>
rc_bindX (rp_X2_parse x4) (fun x5 =>
rc_bind (rc_is 0 v0) fun _ =>
rc_bindX (rp_X1_remember v0) (fun _ =>
rc_bind (rc_put 0 0 (.object "RooftopCats$Roof") v0 (rc_q x5)) fun _ =>
rc_bind (rc_put 0 5 .int v0 (rc_i (0 : Int32))) fun _ =>
rc_bind (rc_put 0 6 .int v0 (rc_i (-1 : Int32))) fun _ =>
rc_bind (rc_getq 0 0 v0) fun x6 =>
rc_bind (rc_getq 2 2 x6) fun x7 =>
rc_bind (rc_is 12 x7) fun _ =>
rc_bindX (rp_J7_size x7) (fun x8 =>
rc_pure x8) (fun E q =>
(if E = 100 then
rp_X1_runScript_L60 v0 (some q)
else
rc_fail))) (fun E q =>
(if E = 100 then
rp_X1_runScript_L60 v0 (some q)
else
rc_fail))) (fun E q =>
(if E = 100 then
rp_X1_runScript_L60 v0 (some q)
else
rc_fail))) (fun E q =>
(if E = 100 then
rp_X1_runScript_L60 v0 (some q)
else
rc_fail))
def rp_X0_truncateInput (v0 : Option Nat) (v1 : Int32) (v2 : Option Nat) : rc_M Int32 :=
rc_bind (rc_is 0 v0) fun _ =>
rc_bindX (rp_X1_truncateInput v0 v1) (fun x1 =>
rc_bind (rc_astl v2 (0 : Int32) (x1.toInt64)) fun _ =>
rc_pure (0 : Int32)) (fun E q =>
(if E = 1 then
rc_pure (1 : Int32)
else
rc_fail))
def rp_X0_addChimney (v0 : Option Nat) (v1 : Int32) (v2 : Option Nat) : rc_M Int32 :=
rc_bind (rc_is 0 v0) fun _ =>
rc_bindX (rp_X1_addChimney v0 v1) (fun x1 =>
rc_bind (rc_astl v2 (0 : Int32) (x1.toInt64)) fun _ =>
rc_pure (0 : Int32)) (fun E q =>
(if E = 1 then
rc_pure (1 : Int32)
else
(if E = 2 then
rc_pure (2 : Int32)
else
rc_fail)))
def rp_X0_addGutter (v0 : Option Nat) (v1 : Int32) (v2 : Int32) (v3 : Int32) (v4 : Option Nat) : rc_M Int32 :=
rc_bind (rc_is 0 v0) fun _ =>
rc_bindX (rp_X1_addGutter v0 v1 v2 v3) (fun x1 =>
rc_bind (rc_astl v4 (0 : Int32) (x1.toInt64)) fun _ =>
rc_pure (0 : Int32)) (fun E q =>
(if E = 0 then
rc_pure (1 : Int32)
else
(if E = 1 then
rc_pure (2 : Int32)
else
(if E = 2 then
rc_pure (3 : Int32)
else
rc_fail))))
def rp_X0_addCat (v0 : Option Nat) (v1 : Int32) (v2 : Int32) (v3 : Int32) (v4 : Option Nat) : rc_M Int32 :=
rc_bind (rc_is 0 v0) fun _ =>
rc_bindX (rp_X1_addCat v0 v1 v2 v3) (fun x1 =>
rc_bind (rc_astl v4 (0 : Int32) (x1.toInt64)) fun _ =>
rc_pure (0 : Int32)) (fun E q =>
(if E = 0 then
rc_pure (1 : Int32)
else
(if E = 1 then
rc_pure (2 : Int32)
else
(if E = 2 then
rc_pure (3 : Int32)
else
rc_fail))))
def rp_X0_step (v0 : Option Nat) (v1 : Int32) (v2 : Int32) (v3 : Option Nat) : rc_M Int32 :=
rc_bind (rc_is 0 v0) fun _ =>
rc_bindX (rp_X1_step v0 v1 v2) (fun x1 =>
rc_bind (rc_astl v3 (0 : Int32) (x1.toInt64)) fun _ =>
rc_pure (0 : Int32)) (fun E q =>
(if E = 0 then
rc_pure (1 : Int32)
else
(if E = 2 then
rc_pure (2 : Int32)
else
rc_fail)))
def rp_X0_claim (v0 : Option Nat) (v1 : Int32) (v2 : Option Nat) : rc_M Int32 :=
rc_bind (rc_is 0 v0) fun _ =>
rc_bindX (rp_X1_claim v0 v1) (fun x1 =>
rc_bind (rc_astl v2 (0 : Int32) (x1.toInt64)) fun _ =>
rc_pure (0 : Int32)) (fun E q =>
(if E = 0 then
rc_pure (1 : Int32)
else
(if E = 2 then
rc_pure (2 : Int32)
else
rc_fail)))
def rp_X0_abandon (v0 : Option Nat) (v1 : Int32) (v2 : Option Nat) : rc_M Int32 :=
rc_bind (rc_is 0 v0) fun _ =>
rc_bindX (rp_X1_abandon v0 v1) (fun x1 =>
rc_bind (rc_astl v2 (0 : Int32) (x1.toInt64)) fun _ =>
rc_pure (0 : Int32)) (fun E q =>
(if E = 0 then
rc_pure (1 : Int32)
else
(if E = 2 then
rc_pure (2 : Int32)
else
rc_fail)))
def rp_X0_chase_L16 (s0 : Int64) (s1 : Int32) (s2 : Option Nat) : rc_M Int32 :=
rc_bind (rc_astl s2 s1 s0) fun _ =>
rc_pure (0 : Int32)
def rp_X0_chase (v0 : Option Nat) (v1 : Int32) (v2 : Int32) (v3 : Option Nat) : rc_M Int32 :=
rc_bind (rc_is 0 v0) fun _ =>
rc_bindX (rp_X1_chase v0 v1 v2) (fun x1 =>
(if x1 = 0 then
rp_X0_chase_L16 (0 : Int64) (0 : Int32) v3
else
rp_X0_chase_L16 (1 : Int64) (0 : Int32) v3)) (fun E q =>
(if E = 0 then
rc_pure (1 : Int32)
else
(if E = 1 then
rc_pure (2 : Int32)
else
(if E = 2 then
rc_pure (3 : Int32)
else
rc_fail))))
def rp_X0_buyTruce (v0 : Option Nat) (v1 : Int32) (v2 : Int32) (v3 : Int32) (v4 : Int32) (v5 : Option Nat) : rc_M Int32 :=
rc_bind (rc_is 0 v0) fun _ =>
rc_bindX (rp_X1_buyTruce v0 v1 v2 v3 v4) (fun x1 =>
rc_bind (rc_astl v5 (0 : Int32) (x1.toInt64)) fun _ =>
rc_pure (0 : Int32)) (fun E q =>
(if E = 0 then
rc_pure (1 : Int32)
else
(if E = 1 then
rc_pure (2 : Int32)
else
(if E = 2 then
rc_pure (3 : Int32)
else
rc_fail))))
def rp_X0_nominate (v0 : Option Nat) (v1 : Int32) (v2 : Int32) (v3 : Option Nat) : rc_M Int32 :=
rc_bind (rc_is 0 v0) fun _ =>
rc_bindX (rp_X1_nominate v0 v1 v2) (fun x1 =>
rc_bind (rc_astl v3 (0 : Int32) (x1.toInt64)) fun _ =>
rc_pure (0 : Int32)) (fun E q =>
(if E = 1 then
rc_pure (1 : Int32)
else
(if E = 2 then
rc_pure (2 : Int32)
else
rc_fail)))
def rp_X0_vote_L16 (s0 : Int64) (s1 : Int32) (s2 : Option Nat) : rc_M Int32 :=
rc_bind (rc_astl s2 s1 s0) fun _ =>
rc_pure (0 : Int32)
def rp_X0_vote (v0 : Option Nat) (v1 : Int32) (v2 : Int32) (v3 : Option Nat) : rc_M Int32 :=
rc_bind (rc_is 0 v0) fun _ =>
rc_bindX (rp_X1_vote v0 v1 v2) (fun x1 =>
(if x1 = 0 then
rp_X0_vote_L16 (0 : Int64) (0 : Int32) v3
else
rp_X0_vote_L16 (1 : Int64) (0 : Int32) v3)) (fun E q =>
(if E = 0 then
rc_pure (1 : Int32)
else
(if E = 2 then
rc_pure (2 : Int32)
else
rc_fail)))
def rp_X0_passNights (v0 : Option Nat) (v1 : Int32) (v2 : Option Nat) : rc_M Int32 :=
rc_bind (rc_is 0 v0) fun _ =>
rc_bindX (rp_X1_passNights v0 v1) (fun x1 =>
rc_bind (rc_astl v2 (0 : Int32) (x1.toInt64)) fun _ =>
rc_pure (0 : Int32)) (fun E q =>
(if E = 1 then
rc_pure (1 : Int32)
else
(if E = 2 then
rc_pure (2 : Int32)
else
rc_fail)))
def rp_X0_restoreSnapshot (v0 : Option Nat) (v1 : Option Nat) : rc_M Int32 :=
rc_bind (rc_is 0 v0) fun _ =>
rc_bindX (rp_X1_restoreSnapshot v0) (fun x1 =>
rc_bind (rc_astl v1 (0 : Int32) (x1.toInt64)) fun _ =>
rc_pure (0 : Int32)) (fun E q =>
(if E = 3 then
rc_pure (1 : Int32)
else
rc_fail))
def rp_X0_warmth (v0 : Option Nat) (v1 : Int32) (v2 : Option Nat) : rc_M Int32 :=
rc_bind (rc_is 0 v0) fun _ =>
rc_bindX (rp_X1_warmth v0 v1) (fun x1 =>
rc_bind (rc_astl v2 (0 : Int32) (x1.toInt64)) fun _ =>
rc_pure (0 : Int32)) (fun E q =>
(if E = 0 then
rc_pure (1 : Int32)
else
rc_fail))
def rp_X0_ownerOf (v0 : Option Nat) (v1 : Int32) (v2 : Option Nat) : rc_M Int32 :=
rc_bind (rc_is 0 v0) fun _ =>
rc_bindX (rp_X1_ownerOf v0 v1) (fun x1 =>
rc_bind (rc_astl v2 (0 : Int32) (x1.toInt64)) fun _ =>
rc_pure (0 : Int32)) (fun E q =>
(if E = 0 then
rc_pure (1 : Int32)
else
rc_fail))
def rp_X0_catOn (v0 : Option Nat) (v1 : Int32) (v2 : Option Nat) : rc_M Int32 :=
rc_bind (rc_is 0 v0) fun _ =>
rc_bindX (rp_X1_catOn v0 v1) (fun x1 =>
rc_bind (rc_astl v2 (0 : Int32) (x1.toInt64)) fun _ =>
rc_pure (0 : Int32)) (fun E q =>
(if E = 0 then
rc_pure (1 : Int32)
else
rc_fail))
def rp_X0_gutterEnds (v0 : Option Nat) (v1 : Int32) (v2 : Option Nat) : rc_M Int32 :=
rc_bind (rc_is 0 v0) fun _ =>
rc_bindX (rp_X1_gutterEnds v0 v1) (fun x1 =>
rc_bind (rc_astl v2 (0 : Int32) (x1.toInt64)) fun _ =>
rc_pure (0 : Int32)) (fun E q =>
(if E = 0 then
rc_pure (1 : Int32)
else
rc_fail))
def rp_X0_width (v0 : Option Nat) (v1 : Int32) (v2 : Option Nat) : rc_M Int32 :=
rc_bind (rc_is 0 v0) fun _ =>
rc_bindX (rp_X1_width v0 v1) (fun x1 =>
rc_bind (rc_astl v2 (0 : Int32) (x1.toInt64)) fun _ =>
rc_pure (0 : Int32)) (fun E q =>
(if E = 0 then
rc_pure (1 : Int32)
else
rc_fail))
def rp_X0_widestWay (v0 : Option Nat) (v1 : Int32) (v2 : Int32) (v3 : Option Nat) : rc_M Int32 :=
rc_bind (rc_is 0 v0) fun _ =>
rc_bindX (rp_X1_widestWay v0 v1 v2) (fun x1 =>
rc_bind (rc_astl v3 (0 : Int32) (x1.toInt64)) fun _ =>
rc_pure (0 : Int32)) (fun E q =>
(if E = 0 then
rc_pure (1 : Int32)
else
rc_fail))
def rp_X0_girth (v0 : Option Nat) (v1 : Int32) (v2 : Option Nat) : rc_M Int32 :=
rc_bind (rc_is 0 v0) fun _ =>
rc_bindX (rp_X1_girth v0 v1) (fun x1 =>
rc_bind (rc_astl v2 (0 : Int32) (x1.toInt64)) fun _ =>
rc_pure (0 : Int32)) (fun E q =>
(if E = 0 then
rc_pure (1 : Int32)
else
rc_fail))
def rp_X0_power (v0 : Option Nat) (v1 : Int32) (v2 : Option Nat) : rc_M Int32 :=
rc_bind (rc_is 0 v0) fun _ =>
rc_bindX (rp_X1_power v0 v1) (fun x1 =>
rc_bind (rc_astl v2 (0 : Int32) (x1.toInt64)) fun _ =>
rc_pure (0 : Int32)) (fun E q =>
(if E = 0 then
rc_pure (1 : Int32)
else
rc_fail))
def rp_X0_fish (v0 : Option Nat) (v1 : Int32) (v2 : Option Nat) : rc_M Int32 :=
rc_bind (rc_is 0 v0) fun _ =>
rc_bindX (rp_X1_fish v0 v1) (fun x1 =>
rc_bind (rc_astl v2 (0 : Int32) (x1.toInt64)) fun _ =>
rc_pure (0 : Int32)) (fun E q =>
(if E = 0 then
rc_pure (1 : Int32)
else
rc_fail))
def rp_X0_chimneyOf (v0 : Option Nat) (v1 : Int32) (v2 : Option Nat) : rc_M Int32 :=
rc_bind (rc_is 0 v0) fun _ =>
rc_bindX (rp_X1_chimneyOf v0 v1) (fun x1 =>
rc_bind (rc_astl v2 (0 : Int32) (x1.toInt64)) fun _ =>
rc_pure (0 : Int32)) (fun E q =>
(if E = 0 then
rc_pure (1 : Int32)
else
rc_fail))
def rp_X0_ownedChimneys (v0 : Option Nat) (v1 : Int32) (v2 : Option Nat) : rc_M Int32 :=
rc_bind (rc_is 0 v0) fun _ =>
rc_bindX (rp_X1_ownedChimneys v0 v1) (fun x1 =>
rc_bind (rc_astl v2 (0 : Int32) (x1.toInt64)) fun _ =>
rc_pure (0 : Int32)) (fun E q =>
(if E = 0 then
rc_pure (1 : Int32)
else
rc_fail))
def rp_X0_truceNights (v0 : Option Nat) (v1 : Int32) (v2 : Int32) (v3 : Option Nat) : rc_M Int32 :=
rc_bind (rc_is 0 v0) fun _ =>
rc_bindX (rp_X1_truceNights v0 v1 v2) (fun x1 =>
rc_bind (rc_astl v3 (0 : Int32) (x1.toInt64)) fun _ =>
rc_pure (0 : Int32)) (fun E q =>
(if E = 0 then
rc_pure (1 : Int32)
else
(if E = 1 then
rc_pure (2 : Int32)
else
rc_fail)))
def rp_X0_reachable (v0 : Option Nat) (v1 : Int32) (v2 : Option Nat) : rc_M Int32 :=
rc_bind (rc_is 0 v0) fun _ =>
rc_bindX (rp_X1_reachable v0 v1) (fun x1 =>
rc_bind (rc_astl v2 (0 : Int32) (x1.toInt64)) fun _ =>
rc_pure (0 : Int32)) (fun E q =>
(if E = 0 then
rc_pure (1 : Int32)
else
rc_fail))
def rp_X0_stepsTo (v0 : Option Nat) (v1 : Int32) (v2 : Int32) (v3 : Option Nat) : rc_M Int32 :=
rc_bind (rc_is 0 v0) fun _ =>
rc_bindX (rp_X1_stepsTo v0 v1 v2) (fun x1 =>
rc_bind (rc_astl v3 (0 : Int32) (x1.toInt64)) fun _ =>
rc_pure (0 : Int32)) (fun E q =>
(if E = 0 then
rc_pure (1 : Int32)
else
rc_fail))
def rp_X0_openGutters (v0 : Option Nat) (v1 : Int32) (v2 : Option Nat) : rc_M Int32 :=
rc_bind (rc_is 0 v0) fun _ =>
rc_bindX (rp_X1_openGutters v0 v1) (fun x1 =>
rc_bind (rc_astl v2 (0 : Int32) (x1.toInt64)) fun _ =>
rc_pure (0 : Int32)) (fun E q =>
(if E = 0 then
rc_pure (1 : Int32)
else
rc_fail))
def rp_X0_whyNoStep (v0 : Option Nat) (v1 : Int32) (v2 : Int32) (v3 : Option Nat) : rc_M Int32 :=
rc_bind (rc_is 0 v0) fun _ =>
rc_bindX (rp_X1_whyNoStep v0 v1 v2) (fun x1 =>
rc_bind (rc_astl v3 (0 : Int32) (x1.toInt64)) fun _ =>
rc_pure (0 : Int32)) (fun E q =>
(if E = 0 then
rc_pure (1 : Int32)
else
rc_fail))
def rp_X0_whyNoClaim (v0 : Option Nat) (v1 : Int32) (v2 : Option Nat) : rc_M Int32 :=
rc_bind (rc_is 0 v0) fun _ =>
rc_bindX (rp_X1_whyNoClaim v0 v1) (fun x1 =>
rc_bind (rc_astl v2 (0 : Int32) (x1.toInt64)) fun _ =>
rc_pure (0 : Int32)) (fun E q =>
(if E = 0 then
rc_pure (1 : Int32)
else
rc_fail))
def rp_X0_whyNoChase (v0 : Option Nat) (v1 : Int32) (v2 : Int32) (v3 : Option Nat) : rc_M Int32 :=
rc_bind (rc_is 0 v0) fun _ =>
rc_bindX (rp_X1_whyNoChase v0 v1 v2) (fun x1 =>
rc_bind (rc_astl v3 (0 : Int32) (x1.toInt64)) fun _ =>
rc_pure (0 : Int32)) (fun E q =>
(if E = 0 then
rc_pure (1 : Int32)
else
(if E = 1 then
rc_pure (2 : Int32)
else
rc_fail)))
def rp_X0_preyOf (v0 : Option Nat) (v1 : Int32) (v2 : Option Nat) : rc_M Int32 :=
rc_bind (rc_is 0 v0) fun _ =>
rc_bindX (rp_X1_preyOf v0 v1) (fun x1 =>
rc_bind (rc_astl v2 (0 : Int32) (x1.toInt64)) fun _ =>
rc_pure (0 : Int32)) (fun E q =>
(if E = 0 then
rc_pure (1 : Int32)
else
rc_fail))
def rp_X0_hasVoted_L15 (s0 : Int64) (s1 : Int32) (s2 : Option Nat) : rc_M Int32 :=
rc_bind (rc_astl s2 s1 s0) fun _ =>
rc_pure (0 : Int32)
def rp_X0_hasVoted (v0 : Option Nat) (v1 : Int32) (v2 : Option Nat) : rc_M Int32 :=
rc_bind (rc_is 0 v0) fun _ =>
rc_bindX (rp_X1_hasVoted v0 v1) (fun x1 =>
(if x1 = 0 then
rp_X0_hasVoted_L15 (0 : Int64) (0 : Int32) v2
else
rp_X0_hasVoted_L15 (1 : Int64) (0 : Int32) v2)) (fun E q =>
(if E = 0 then
rc_pure (1 : Int32)
else
rc_fail))
def rp_X0_choirOf (v0 : Option Nat) (v1 : Int32) (v2 : Option Nat) : rc_M Int32 :=
rc_bind (rc_is 0 v0) fun _ =>
rc_bindX (rp_X1_choirOf v0 v1) (fun x1 =>
rc_bind (rc_astl v2 (0 : Int32) (x1.toInt64)) fun _ =>
rc_pure (0 : Int32)) (fun E q =>
(if E = 0 then
rc_pure (1 : Int32)
else
rc_fail))
def rp_X0_fishAfter (v0 : Option Nat) (v1 : Int32) (v2 : Int32) (v3 : Option Nat) : rc_M Int32 :=
rc_bind (rc_is 0 v0) fun _ =>
rc_bindX (rp_X1_fishAfter v0 v1 v2) (fun x1 =>
rc_bind (rc_astl v3 (0 : Int32) (x1.toInt64)) fun _ =>
rc_pure (0 : Int32)) (fun E q =>
(if E = 0 then
rc_pure (1 : Int32)
else
(if E = 1 then
rc_pure (2 : Int32)
else
rc_fail)))
theorem rw_X1_init_L56 {Y : rc_Y} (hC : rc_C Y cX1_init RX1 (Option.none : Option Jvm.ClassFile.FieldType) 2) (hH : rc_HW Y 19 397 yX1_init.name [((37 : Nat), (53 : Nat), (56 : Nat), (48 : Nat))]) (s0 : Option Nat) (S : rc_S) (h : rc_Go Y rc_tU (rp_X1_init_L56  s0) S) : rc_Z Y S 56 [none, none] [rc_q s0] := by
  unfold rp_X1_init_L56 at h
  refine rc_astore_n (pc := 56) hC (L' := [none, some (rc_q s0)]) dX1_init_56 rfl (Nat.le_of_ble_eq_true rfl) rfl rfl ?_
  exact h.fail.elim
theorem rw_X1_init {l : Launch} (hl : l.stackTraces = false) (v0 : Option Nat) : rc_Ct l yX1_init (wsW_ yX1_init cX1_init 2 (Option.none : Option Jvm.ClassFile.FieldType) [((37 : Nat), (53 : Nat), (56 : Nat), (48 : Nat))]) 19 397 rc_tU (rp_X1_init v0) [rc_q v0] := by
  refine rc_CtW_H hl (plainFor_of_name rY_X1) rfl (Nat.le_of_ble_eq_true rfl) (L0 := [some (rc_q v0), none]) rfl ?_
  intro Y S hC hH h
  have hC : rc_C Y cX1_init RX1 (Option.none : Option Jvm.ClassFile.FieldType) 2 := hC
  unfold rp_X1_init at h
  refine rc_aload_n (pc := 0) hC dX1_init_0 rfl rfl ?_
  refine rc_objInit (pc := 1) hC q161 q162 q163 rfl dX1_init_1 (hH.frm (Nat.le_of_ble_eq_true rfl)) (hH.lom (Nat.le_of_ble_eq_true rfl)) (Nat.zero_le _) h ?_
  intro h
  refine rc_aload_n (pc := 4) hC dX1_init_4 rfl rfl ?_
  refine rc_r_new (pc := 5) hC rN_X1_7 dX1_init_5 h ?_
  intro x1 S h
  refine rc_dup (pc := 8) hC dX1_init_8 rfl ?_
  obtain ⟨⟨b9, ho⟩, h⟩ := h.nn
  refine rc_callI (pc := 9) hC ho (rw_J1_init hH.1 x1) q166 q167 q118 q168 rfl rfl rd_J1_init (hH.room (Nat.le_of_ble_eq_true rfl) (Nat.le_of_ble_eq_true rfl)) rfl rfl (Nat.le_of_ble_eq_true rfl) 0 rfl h.le.2.2 h.br rfl dX1_init_9 ?_ (fun E q S hT => rc_outW hC hH.2.2.2.2 (by decide) hT)
  intro _ S h
  show rc_Z Y S 12 [some (rc_q v0), none] [rc_q x1, rc_q v0]
  refine rc_r_put (pc := 12) hC rP_X1_10 (fun _ => hH.2.1) dX1_init_12 h ?_
  intro S h
  refine rc_aload_n (pc := 15) hC dX1_init_15 rfl rfl ?_
  refine rc_r_new (pc := 16) hC rN_X1_16 dX1_init_16 h ?_
  intro x2 S h
  refine rc_dup (pc := 19) hC dX1_init_19 rfl ?_
  obtain ⟨⟨b9, ho⟩, h⟩ := h.nn
  refine rc_callI (pc := 20) hC ho (rw_J3_init hH.1 x2) q187 q188 q120 q189 rfl rfl rd_J3_init (hH.room (Nat.le_of_ble_eq_true rfl) (Nat.le_of_ble_eq_true rfl)) rfl rfl (Nat.le_of_ble_eq_true rfl) 0 rfl h.le.2.2 h.br rfl dX1_init_20 ?_ (fun E q S hT => rc_outW hC hH.2.2.2.2 (by decide) hT)
  intro _ S h
  show rc_Z Y S 23 [some (rc_q v0), none] [rc_q x2, rc_q v0]
  refine rc_r_put (pc := 23) hC rP_X1_19 (fun _ => hH.2.1) dX1_init_23 h ?_
  intro S h
  refine rc_aload_n (pc := 26) hC dX1_init_26 rfl rfl ?_
  refine rc_r_text (pc := 27) hC (i := 0) rfl dX1_init_27 h ?_
  intro x3 h
  refine rc_r_put (pc := 29) hC rP_X1_25 (nofun) dX1_init_29 h ?_
  intro S h
  refine rc_aload_n (pc := 32) hC dX1_init_32 rfl rfl ?_
  refine rc_iconst (pc := 33) hC (v := (-1 : Int32)) dX1_init_33 rfl ?_
  refine rc_r_put (pc := 34) hC rP_X1_29 (nofun) dX1_init_34 h ?_
  intro S h
  refine rc_aload_n (pc := 37) hC dX1_init_37 rfl rfl ?_
  refine rc_r_new (pc := 38) hC rN_X1_33 dX1_init_38 h ?_
  intro x4 S h
  refine rc_dup (pc := 41) hC dX1_init_41 rfl ?_
  refine rc_r_text (pc := 42) hC (i := 1) rfl dX1_init_42 h ?_
  intro x5 h
  obtain ⟨⟨b9, ho⟩, h⟩ := h.nn
  refine rc_callI (pc := 44) hC ho (rw_X2_init hH.1 x4 x5) q222 q223 q123 q224 rfl rfl rd_X2_init (hH.room (Nat.le_of_ble_eq_true rfl) (Nat.le_of_ble_eq_true rfl)) rfl rfl (Nat.le_of_ble_eq_true rfl) 1 rfl h.le.2.2 h.brx rfl dX1_init_44 ?_ ?_
  · intro _ S h
    show rc_Z Y S 47 [some (rc_q v0), none] [rc_q x4, rc_q v0]
    obtain ⟨⟨fs, ho⟩, h⟩ := h.is
    refine rc_callV (pc := 47) hC rfl ho (rw_X2_parse hH.1 x4) q682 q683 q684 q123 q685 rfl rd_X2_parse (hH.room (Nat.le_of_ble_eq_true rfl) (Nat.le_of_ble_eq_true rfl)) rfl rfl (Nat.le_of_ble_eq_true rfl) 0 rfl h.le.2.2 h.brx rfl dX1_init_47 ?_ ?_
    · intro x6 S h
      show rc_Z Y S 50 [some (rc_q v0), none] [rc_q x6, rc_q v0]
      refine rc_r_put (pc := 50) hC rP_X1_44 (nofun) dX1_init_50 h ?_
      intro S h
      refine rc_goto (pc := 53) (tgt := 65) hC dX1_init_53 rfl ?_
      exact rc_vret hC rfl dX1_init_65 h rfl
    intro E q S h
    rcases h.ite with ⟨hE, h⟩ | ⟨_, h⟩
    · subst hE
      have hps : ∀ z ∈ ([] : List ExceptionTableEntry), covers z 47 = false ∨ (z.catchType ≠ 0 ∧ ∃ nm : String, Cond.classLink RX1 z.catchType nm ∈ lw_all ∧ (rc_en 100, nm) ∈ rc_ncs) := fun z hz => nomatch hz
      refine rc_catch (pc := 47) (tgt := 56) (E := 100) hC hH.2.2.2.2 [] ⟨37, 53, 56, 48⟩ [] rfl hps rfl (by decide) q160 (lw_o q701 rfl) rfl ?_
      refine rc_drop [false, false] (L' := [none, none]) rfl ?_
      exact rw_X1_init_L56 hC hH  (some q) S h
    exact h.fail.elim
  intro E q S h
  rcases h.ite with ⟨hE, h⟩ | ⟨_, h⟩
  · subst hE
    have hps : ∀ z ∈ ([] : List ExceptionTableEntry), covers z 44 = false ∨ (z.catchType ≠ 0 ∧ ∃ nm : String, Cond.classLink RX1 z.catchType nm ∈ lw_all ∧ (rc_en 100, nm) ∈ rc_ncs) := fun z hz => nomatch hz
    refine rc_catch (pc := 44) (tgt := 56) (E := 100) hC hH.2.2.2.2 [] ⟨37, 53, 56, 48⟩ [] rfl hps rfl (by decide) q160 (lw_o q701 rfl) rfl ?_
    refine rc_drop [false, false] (L' := [none, none]) rfl ?_
    exact rw_X1_init_L56 hC hH  (some q) S h
  exact h.fail.elim
theorem rw_X1_runScript_L60 {Y : rc_Y} (hC : rc_C Y cX1_runScript RX1 (Option.some Jvm.ClassFile.FieldType.int) 3) (hH : rc_HW Y 19 397 yX1_runScript.name [((16 : Nat), (59 : Nat), (60 : Nat), (48 : Nat))]) (v0 : Option Nat) (s0 : Option Nat) (S : rc_S) (h : rc_Go Y rc_tI (rp_X1_runScript_L60  v0 s0) S) : rc_Z Y S 60 [some (rc_q v0), none, none] [rc_q s0] := by
  unfold rp_X1_runScript_L60 at h
  refine rc_astore_n (pc := 60) hC (L' := [some (rc_q v0), none, some (rc_q s0)]) dX1_runScript_60 rfl (Nat.le_of_ble_eq_true rfl) rfl rfl ?_
  refine rc_aload_n (pc := 61) hC dX1_runScript_61 rfl rfl ?_
  refine rc_aload_n (pc := 62) hC dX1_runScript_62 rfl rfl ?_
  refine rc_r_geti (pc := 63) hC rF_X1_136 dX1_runScript_63 h ?_
  intro x1 h
  refine rc_r_put (pc := 66) hC rP_X1_133 (nofun) dX1_runScript_66 h ?_
  intro S h
  refine rc_aload_n (pc := 69) hC dX1_runScript_69 rfl rfl ?_
  refine rc_aload_n (pc := 70) hC dX1_runScript_70 rfl rfl ?_
  refine rc_r_geti (pc := 71) hC rF_X1_139 dX1_runScript_71 h ?_
  intro x2 h
  refine rc_r_put (pc := 74) hC rP_X1_29 (nofun) dX1_runScript_74 h ?_
  intro S h
  refine rc_iconst (pc := 77) hC (v := (-1 : Int32)) dX1_runScript_77 rfl ?_
  exact rc_iret hC rfl rfl dX1_runScript_78 h rfl
theorem rw_X1_runScript {l : Launch} (hl : l.stackTraces = false) (v0 : Option Nat) : rc_Ct l yX1_runScript (wsW_ yX1_runScript cX1_runScript 3 (Option.some Jvm.ClassFile.FieldType.int) [((16 : Nat), (59 : Nat), (60 : Nat), (48 : Nat))]) 19 397 rc_tI (rp_X1_runScript v0) [rc_q v0] := by
  refine rc_CtW_H hl (plainFor_of_name rY_X1) rfl (Nat.le_of_ble_eq_true rfl) (L0 := [some (rc_q v0), none, none]) rfl ?_
  intro Y S hC hH h
  have hC : rc_C Y cX1_runScript RX1 (Option.some Jvm.ClassFile.FieldType.int) 3 := hC
  unfold rp_X1_runScript at h
  refine rc_aload_n (pc := 0) hC dX1_runScript_0 rfl rfl ?_
  refine rc_r_getq (pc := 1) hC rF_X1_19 dX1_runScript_1 h ?_
  intro x1 h
  obtain ⟨⟨fs, ho⟩, h⟩ := h.is
  refine rc_callV (pc := 4) hC rfl ho (rw_J3_toString hH.1 x1) q1267 q549 q550 q120 q551 rfl rd_J3_toString (hH.room (Nat.le_of_ble_eq_true rfl) (Nat.le_of_ble_eq_true rfl)) rfl rfl (Nat.le_of_ble_eq_true rfl) 0 rfl h.le.2.2 h.br rfl dX1_runScript_4 ?_ (fun E q S hT => rc_outW hC hH.2.2.2.2 (by decide) hT)
  intro x2 S h
  show rc_Z Y S 7 [some (rc_q v0), none, none] [rc_q x2]
  refine rc_astore_n (pc := 7) hC (L' := [some (rc_q v0), some (rc_q x2), none]) dX1_runScript_7 rfl (Nat.le_of_ble_eq_true rfl) rfl rfl ?_
  refine rc_aload_n (pc := 8) hC dX1_runScript_8 rfl rfl ?_
  refine rc_r_getq (pc := 9) hC rF_X1_19 dX1_runScript_9 h ?_
  intro x3 h
  refine rc_iconst (pc := 12) hC (v := (0 : Int32)) dX1_runScript_12 rfl ?_
  obtain ⟨⟨fs, ho⟩, h⟩ := h.is
  refine rc_callV (pc := 13) hC rfl ho (rw_J3_setLength hH.1 x3 (0 : Int32)) q1268 q1269 q1270 q120 q1271 rfl rd_J3_setLength (hH.room (Nat.le_of_ble_eq_true rfl) (Nat.le_of_ble_eq_true rfl)) rfl rfl (Nat.le_of_ble_eq_true rfl) 1 rfl h.le.2.2 h.br rfl dX1_runScript_13 ?_ (fun E q S hT => rc_outW hC hH.2.2.2.2 (by decide) hT)
  intro _ S h
  show rc_Z Y S 16 [some (rc_q v0), some (rc_q x2), none] []
  refine rc_r_new (pc := 16) hC rN_X1_33 dX1_runScript_16 h ?_
  intro x4 S h
  refine rc_dup (pc := 19) hC dX1_runScript_19 rfl ?_
  refine rc_aload_n (pc := 20) hC dX1_runScript_20 rfl rfl ?_
  obtain ⟨⟨b9, ho⟩, h⟩ := h.nn
  refine rc_callI (pc := 21) hC ho (rw_X2_init hH.1 x4 x2) q222 q223 q123 q224 rfl rfl rd_X2_init (hH.room (Nat.le_of_ble_eq_true rfl) (Nat.le_of_ble_eq_true rfl)) rfl rfl (Nat.le_of_ble_eq_true rfl) 1 rfl h.le.2.2 h.brx rfl dX1_runScript_21 ?_ ?_
  · intro _ S h
    show rc_Z Y S 24 [some (rc_q v0), some (rc_q x2), none] [rc_q x4]
    obtain ⟨⟨fs, ho⟩, h⟩ := h.is
    refine rc_callV (pc := 24) hC rfl ho (rw_X2_parse hH.1 x4) q682 q683 q684 q123 q685 rfl rd_X2_parse (hH.room (Nat.le_of_ble_eq_true rfl) (Nat.le_of_ble_eq_true rfl)) rfl rfl (Nat.le_of_ble_eq_true rfl) 0 rfl h.le.2.2 h.brx rfl dX1_runScript_24 ?_ ?_
    · intro x5 S h
      show rc_Z Y S 27 [some (rc_q v0), some (rc_q x2), none] [rc_q x5]
      refine rc_astore_n (pc := 27) hC (L' := [some (rc_q v0), some (rc_q x2), some (rc_q x5)]) dX1_runScript_27 rfl (Nat.le_of_ble_eq_true rfl) rfl rfl ?_
      refine rc_aload_n (pc := 28) hC dX1_runScript_28 rfl rfl ?_
      obtain ⟨⟨fs, ho⟩, h⟩ := h.is
      refine rc_callV (pc := 29) hC rfl ho (rw_X1_remember hH.1 v0) q1336 q1338 qs20 q116 q1339 rfl rd_X1_remember (hH.room (Nat.le_of_ble_eq_true rfl) (Nat.le_of_ble_eq_true rfl)) rfl rfl (Nat.le_of_ble_eq_true rfl) 0 rfl h.le.2.2 h.brx rfl dX1_runScript_29 ?_ ?_
      · intro _ S h
        show rc_Z Y S 32 [some (rc_q v0), some (rc_q x2), some (rc_q x5)] []
        refine rc_aload_n (pc := 32) hC dX1_runScript_32 rfl rfl ?_
        refine rc_aload_n (pc := 33) hC dX1_runScript_33 rfl rfl ?_
        refine rc_r_put (pc := 34) hC rP_X1_44 (nofun) dX1_runScript_34 h ?_
        intro S h
        refine rc_aload_n (pc := 37) hC dX1_runScript_37 rfl rfl ?_
        refine rc_iconst (pc := 38) hC (v := (0 : Int32)) dX1_runScript_38 rfl ?_
        refine rc_r_put (pc := 39) hC rP_X1_133 (nofun) dX1_runScript_39 h ?_
        intro S h
        refine rc_aload_n (pc := 42) hC dX1_runScript_42 rfl rfl ?_
        refine rc_iconst (pc := 43) hC (v := (-1 : Int32)) dX1_runScript_43 rfl ?_
        refine rc_r_put (pc := 44) hC rP_X1_29 (nofun) dX1_runScript_44 h ?_
        intro S h
        refine rc_aload_n (pc := 47) hC dX1_runScript_47 rfl rfl ?_
        refine rc_r_getq (pc := 48) hC rF_X1_44 dX1_runScript_48 h ?_
        intro x6 h
        refine rc_r_getq (pc := 51) hC rF_X1_72 dX1_runScript_51 h ?_
        intro x7 h
        obtain ⟨⟨fs, ho⟩, h⟩ := h.is
        refine rc_callF (x0 := rc_xsize) (y := yJ7_size) (pc := 54) hC rfl ho (rw_J7_size hH.1 x7) q1471 q823 q825 q128 q827 (List.mem_of_getElem? (i := 0) rfl) ⟨by decide, by decide, rd_J7_size.2.2⟩ (hH.room (Nat.le_of_ble_eq_true rfl) (Nat.le_of_ble_eq_true rfl)) rfl rfl (Nat.le_of_ble_eq_true rfl) 0 rfl h.le.2.2 h.brx rfl dX1_runScript_54 ?_ ?_
        · intro x8 S h
          show rc_Z Y S 59 [some (rc_q v0), some (rc_q x2), some (rc_q x5)] [rc_i x8]
          exact rc_iret hC rfl rfl dX1_runScript_59 h rfl
        intro E q S h
        rcases h.ite with ⟨hE, h⟩ | ⟨_, h⟩
        · subst hE
          have hps : ∀ z ∈ ([] : List ExceptionTableEntry), covers z 54 = false ∨ (z.catchType ≠ 0 ∧ ∃ nm : String, Cond.classLink RX1 z.catchType nm ∈ lw_all ∧ (rc_en 100, nm) ∈ rc_ncs) := fun z hz => nomatch hz
          refine rc_catch (pc := 54) (tgt := 60) (E := 100) hC hH.2.2.2.2 [] ⟨16, 59, 60, 48⟩ [] rfl hps rfl (by decide) q160 (lw_o q701 rfl) rfl ?_
          refine rc_drop [true, false, false] (L' := [some (rc_q v0), none, none]) rfl ?_
          exact rw_X1_runScript_L60 hC hH  v0 (some q) S h
        exact h.fail.elim
      intro E q S h
      rcases h.ite with ⟨hE, h⟩ | ⟨_, h⟩
      · subst hE
        have hps : ∀ z ∈ ([] : List ExceptionTableEntry), covers z 29 = false ∨ (z.catchType ≠ 0 ∧ ∃ nm : String, Cond.classLink RX1 z.catchType nm ∈ lw_all ∧ (rc_en 100, nm) ∈ rc_ncs) := fun z hz => nomatch hz
        refine rc_catch (pc := 29) (tgt := 60) (E := 100) hC hH.2.2.2.2 [] ⟨16, 59, 60, 48⟩ [] rfl hps rfl (by decide) q160 (lw_o q701 rfl) rfl ?_
        refine rc_drop [true, false, false] (L' := [some (rc_q v0), none, none]) rfl ?_
        exact rw_X1_runScript_L60 hC hH  v0 (some q) S h
      exact h.fail.elim
    intro E q S h
    rcases h.ite with ⟨hE, h⟩ | ⟨_, h⟩
    · subst hE
      have hps : ∀ z ∈ ([] : List ExceptionTableEntry), covers z 24 = false ∨ (z.catchType ≠ 0 ∧ ∃ nm : String, Cond.classLink RX1 z.catchType nm ∈ lw_all ∧ (rc_en 100, nm) ∈ rc_ncs) := fun z hz => nomatch hz
      refine rc_catch (pc := 24) (tgt := 60) (E := 100) hC hH.2.2.2.2 [] ⟨16, 59, 60, 48⟩ [] rfl hps rfl (by decide) q160 (lw_o q701 rfl) rfl ?_
      refine rc_drop [true, false, false] (L' := [some (rc_q v0), none, none]) rfl ?_
      exact rw_X1_runScript_L60 hC hH  v0 (some q) S h
    exact h.fail.elim
  intro E q S h
  rcases h.ite with ⟨hE, h⟩ | ⟨_, h⟩
  · subst hE
    have hps : ∀ z ∈ ([] : List ExceptionTableEntry), covers z 21 = false ∨ (z.catchType ≠ 0 ∧ ∃ nm : String, Cond.classLink RX1 z.catchType nm ∈ lw_all ∧ (rc_en 100, nm) ∈ rc_ncs) := fun z hz => nomatch hz
    refine rc_catch (pc := 21) (tgt := 60) (E := 100) hC hH.2.2.2.2 [] ⟨16, 59, 60, 48⟩ [] rfl hps rfl (by decide) q160 (lw_o q701 rfl) rfl ?_
    refine rc_drop [true, false, false] (L' := [some (rc_q v0), none, none]) rfl ?_
    exact rw_X1_runScript_L60 hC hH  v0 (some q) S h
  exact h.fail.elim
theorem rw_X0_truncateInput {l : Launch} (hl : l.stackTraces = false) (v0 : Option Nat) (v1 : Int32) (v2 : Option Nat) : rc_Ct l yX0_truncateInput (wsW_ yX0_truncateInput cX0_truncateInput 4 (Option.some Jvm.ClassFile.FieldType.int) [((0 : Nat), (9 : Nat), (12 : Nat), (13 : Nat))]) 9 155 rc_tI (rp_X0_truncateInput v0 v1 v2) [rc_q v0, rc_i v1, rc_q v2] := by
  refine rc_CtW_H hl (plainFor_of_name rY_X0) rfl (Nat.le_of_ble_eq_true rfl) (L0 := [some (rc_q v0), some (rc_i v1), some (rc_q v2), none]) rfl ?_
  intro Y S hC hH h
  have hC : rc_C Y cX0_truncateInput RX0 (Option.some Jvm.ClassFile.FieldType.int) 4 := hC
  unfold rp_X0_truncateInput at h
  refine rc_aload_n (pc := 0) hC dX0_truncateInput_0 rfl rfl ?_
  refine rc_iconst (pc := 1) hC (v := (0 : Int32)) dX0_truncateInput_1 rfl ?_
  refine rc_aload_n (pc := 2) hC dX0_truncateInput_2 rfl rfl ?_
  refine rc_iload_n (pc := 3) hC dX0_truncateInput_3 rfl rfl ?_
  obtain ⟨⟨fs, ho⟩, h⟩ := h.is
  refine rc_callV (pc := 4) hC rfl ho (rw_X1_truncateInput hH.1 v0 v1) q1632 q1633 q1634 q116 q1635 rfl rd_X1_truncateInput (hH.room (Nat.le_of_ble_eq_true rfl) (Nat.le_of_ble_eq_true rfl)) rfl rfl (Nat.le_of_ble_eq_true rfl) 1 rfl h.le.2.2 h.brx rfl dX0_truncateInput_4 ?_ ?_
  · intro x1 S h
    show rc_Z Y S 7 [some (rc_q v0), some (rc_i v1), some (rc_q v2), none] [rc_i x1, rc_i (0 : Int32), rc_q v2]
    refine rc_i2l (pc := 7) hC dX0_truncateInput_7 ?_
    refine rc_r_last (pc := 8) hC dX0_truncateInput_8 h ?_
    intro S h
    refine rc_goto (pc := 9) (tgt := 15) hC dX0_truncateInput_9 rfl ?_
    refine rc_iconst (pc := 15) hC (v := (0 : Int32)) dX0_truncateInput_15 rfl ?_
    exact rc_iret hC rfl rfl dX0_truncateInput_16 h rfl
  intro E q S h
  rcases h.ite with ⟨hE, h⟩ | ⟨_, h⟩
  · subst hE
    have hps : ∀ z ∈ ([] : List ExceptionTableEntry), covers z 4 = false ∨ (z.catchType ≠ 0 ∧ ∃ nm : String, Cond.classLink RX0 z.catchType nm ∈ lw_all ∧ (rc_en 1, nm) ∈ rc_ncs) := fun z hz => nomatch hz
    refine rc_catch (pc := 4) (tgt := 12) (E := 1) hC hH.2.2.2.2 [] ⟨0, 9, 12, 13⟩ [] rfl hps rfl (by decide) q1631 (lw_o q381 rfl) rfl ?_
    refine rc_astore_n (pc := 12) hC (L' := [some (rc_q v0), some (rc_i v1), some (rc_q v2), some (rc_q (some q))]) dX0_truncateInput_12 rfl (Nat.le_of_ble_eq_true rfl) rfl rfl ?_
    refine rc_iconst (pc := 13) hC (v := (1 : Int32)) dX0_truncateInput_13 rfl ?_
    exact rc_iret hC rfl rfl dX0_truncateInput_14 h rfl
  exact h.fail.elim
theorem rw_X0_addChimney {l : Launch} (hl : l.stackTraces = false) (v0 : Option Nat) (v1 : Int32) (v2 : Option Nat) : rc_Ct l yX0_addChimney (wsW_ yX0_addChimney cX0_addChimney 4 (Option.some Jvm.ClassFile.FieldType.int) [((0 : Nat), (9 : Nat), (12 : Nat), (13 : Nat)), ((0 : Nat), (9 : Nat), (15 : Nat), (18 : Nat))]) 10 235 rc_tI (rp_X0_addChimney v0 v1 v2) [rc_q v0, rc_i v1, rc_q v2] := by
  refine rc_CtW_H hl (plainFor_of_name rY_X0) rfl (Nat.le_of_ble_eq_true rfl) (L0 := [some (rc_q v0), some (rc_i v1), some (rc_q v2), none]) rfl ?_
  intro Y S hC hH h
  have hC : rc_C Y cX0_addChimney RX0 (Option.some Jvm.ClassFile.FieldType.int) 4 := hC
  unfold rp_X0_addChimney at h
  refine rc_aload_n (pc := 0) hC dX0_addChimney_0 rfl rfl ?_
  refine rc_iconst (pc := 1) hC (v := (0 : Int32)) dX0_addChimney_1 rfl ?_
  refine rc_aload_n (pc := 2) hC dX0_addChimney_2 rfl rfl ?_
  refine rc_iload_n (pc := 3) hC dX0_addChimney_3 rfl rfl ?_
  obtain ⟨⟨fs, ho⟩, h⟩ := h.is
  refine rc_callV (pc := 4) hC rfl ho (rw_X1_addChimney hH.1 v0 v1) q1651 q1652 q1653 q116 q1654 rfl rd_X1_addChimney (hH.room (Nat.le_of_ble_eq_true rfl) (Nat.le_of_ble_eq_true rfl)) rfl rfl (Nat.le_of_ble_eq_true rfl) 1 rfl h.le.2.2 h.brx rfl dX0_addChimney_4 ?_ ?_
  · intro x1 S h
    show rc_Z Y S 7 [some (rc_q v0), some (rc_i v1), some (rc_q v2), none] [rc_i x1, rc_i (0 : Int32), rc_q v2]
    refine rc_i2l (pc := 7) hC dX0_addChimney_7 ?_
    refine rc_r_last (pc := 8) hC dX0_addChimney_8 h ?_
    intro S h
    refine rc_goto (pc := 9) (tgt := 18) hC dX0_addChimney_9 rfl ?_
    refine rc_iconst (pc := 18) hC (v := (0 : Int32)) dX0_addChimney_18 rfl ?_
    exact rc_iret hC rfl rfl dX0_addChimney_19 h rfl
  intro E q S h
  rcases h.ite with ⟨hE, h⟩ | ⟨_, h⟩
  · subst hE
    have hps : ∀ z ∈ ([] : List ExceptionTableEntry), covers z 4 = false ∨ (z.catchType ≠ 0 ∧ ∃ nm : String, Cond.classLink RX0 z.catchType nm ∈ lw_all ∧ (rc_en 1, nm) ∈ rc_ncs) := fun z hz => nomatch hz
    refine rc_catch (pc := 4) (tgt := 12) (E := 1) hC hH.2.2.2.2 [] ⟨0, 9, 12, 13⟩ [⟨0, 9, 15, 18⟩] rfl hps rfl (by decide) q1631 (lw_o q381 rfl) rfl ?_
    refine rc_astore_n (pc := 12) hC (L' := [some (rc_q v0), some (rc_i v1), some (rc_q v2), some (rc_q (some q))]) dX0_addChimney_12 rfl (Nat.le_of_ble_eq_true rfl) rfl rfl ?_
    refine rc_iconst (pc := 13) hC (v := (1 : Int32)) dX0_addChimney_13 rfl ?_
    exact rc_iret hC rfl rfl dX0_addChimney_14 h rfl
  rcases h.ite with ⟨hE, h⟩ | ⟨_, h⟩
  · subst hE
    have hps : ∀ z ∈ ([⟨0, 9, 12, 13⟩] : List ExceptionTableEntry), covers z 4 = false ∨ (z.catchType ≠ 0 ∧ ∃ nm : String, Cond.classLink RX0 z.catchType nm ∈ lw_all ∧ (rc_en 2, nm) ∈ rc_ncs) := fun z hz => by
      rcases List.mem_cons.mp hz with rfl | hz
      · exact Or.inr ⟨by decide, _, q1631, List.mem_of_getElem? (i := 2) rfl⟩
      exact nomatch hz
    refine rc_catch (pc := 4) (tgt := 15) (E := 2) hC hH.2.2.2.2 [⟨0, 9, 12, 13⟩] ⟨0, 9, 15, 18⟩ [] rfl hps rfl (by decide) q1650 (lw_o q1203 rfl) rfl ?_
    refine rc_astore_n (pc := 15) hC (L' := [some (rc_q v0), some (rc_i v1), some (rc_q v2), some (rc_q (some q))]) dX0_addChimney_15 rfl (Nat.le_of_ble_eq_true rfl) rfl rfl ?_
    refine rc_iconst (pc := 16) hC (v := (2 : Int32)) dX0_addChimney_16 rfl ?_
    exact rc_iret hC rfl rfl dX0_addChimney_17 h rfl
  exact h.fail.elim
theorem rw_X0_addGutter {l : Launch} (hl : l.stackTraces = false) (v0 : Option Nat) (v1 : Int32) (v2 : Int32) (v3 : Int32) (v4 : Option Nat) : rc_Ct l yX0_addGutter (wsW_ yX0_addGutter cX0_addGutter 6 (Option.some Jvm.ClassFile.FieldType.int) [((0 : Nat), (12 : Nat), (15 : Nat), (24 : Nat)), ((0 : Nat), (12 : Nat), (19 : Nat), (13 : Nat)), ((0 : Nat), (12 : Nat), (23 : Nat), (18 : Nat))]) 10 237 rc_tI (rp_X0_addGutter v0 v1 v2 v3 v4) [rc_q v0, rc_i v1, rc_i v2, rc_i v3, rc_q v4] := by
  refine rc_CtW_H hl (plainFor_of_name rY_X0) rfl (Nat.le_of_ble_eq_true rfl) (L0 := [some (rc_q v0), some (rc_i v1), some (rc_i v2), some (rc_i v3), some (rc_q v4), none]) rfl ?_
  intro Y S hC hH h
  have hC : rc_C Y cX0_addGutter RX0 (Option.some Jvm.ClassFile.FieldType.int) 6 := hC
  unfold rp_X0_addGutter at h
  refine rc_aload (pc := 0) hC dX0_addGutter_0 rfl ?_
  refine rc_iconst (pc := 2) hC (v := (0 : Int32)) dX0_addGutter_2 rfl ?_
  refine rc_aload_n (pc := 3) hC dX0_addGutter_3 rfl rfl ?_
  refine rc_iload_n (pc := 4) hC dX0_addGutter_4 rfl rfl ?_
  refine rc_iload_n (pc := 5) hC dX0_addGutter_5 rfl rfl ?_
  refine rc_iload_n (pc := 6) hC dX0_addGutter_6 rfl rfl ?_
  obtain ⟨⟨fs, ho⟩, h⟩ := h.is
  refine rc_callV (pc := 7) hC rfl ho (rw_X1_addGutter hH.1 v0 v1 v2 v3) q1667 q1668 q1669 q116 q1670 rfl rd_X1_addGutter (hH.room (Nat.le_of_ble_eq_true rfl) (Nat.le_of_ble_eq_true rfl)) rfl rfl (Nat.le_of_ble_eq_true rfl) 3 rfl h.le.2.2 h.brx rfl dX0_addGutter_7 ?_ ?_
  · intro x1 S h
    show rc_Z Y S 10 [some (rc_q v0), some (rc_i v1), some (rc_i v2), some (rc_i v3), some (rc_q v4), none] [rc_i x1, rc_i (0 : Int32), rc_q v4]
    refine rc_i2l (pc := 10) hC dX0_addGutter_10 ?_
    refine rc_r_last (pc := 11) hC dX0_addGutter_11 h ?_
    intro S h
    refine rc_goto (pc := 12) (tgt := 27) hC dX0_addGutter_12 rfl ?_
    refine rc_iconst (pc := 27) hC (v := (0 : Int32)) dX0_addGutter_27 rfl ?_
    exact rc_iret hC rfl rfl dX0_addGutter_28 h rfl
  intro E q S h
  rcases h.ite with ⟨hE, h⟩ | ⟨_, h⟩
  · subst hE
    have hps : ∀ z ∈ ([] : List ExceptionTableEntry), covers z 7 = false ∨ (z.catchType ≠ 0 ∧ ∃ nm : String, Cond.classLink RX0 z.catchType nm ∈ lw_all ∧ (rc_en 0, nm) ∈ rc_ncs) := fun z hz => nomatch hz
    refine rc_catch (pc := 7) (tgt := 15) (E := 0) hC hH.2.2.2.2 [] ⟨0, 12, 15, 24⟩ [⟨0, 12, 19, 13⟩, ⟨0, 12, 23, 18⟩] rfl hps rfl (by decide) q1664 (lw_o q1680 rfl) rfl ?_
    refine rc_astore (pc := 15) hC (L' := [some (rc_q v0), some (rc_i v1), some (rc_i v2), some (rc_i v3), some (rc_q v4), some (rc_q (some q))]) dX0_addGutter_15 (Nat.le_of_ble_eq_true rfl) rfl rfl ?_
    refine rc_iconst (pc := 17) hC (v := (1 : Int32)) dX0_addGutter_17 rfl ?_
    exact rc_iret hC rfl rfl dX0_addGutter_18 h rfl
  rcases h.ite with ⟨hE, h⟩ | ⟨_, h⟩
  · subst hE
    have hps : ∀ z ∈ ([⟨0, 12, 15, 24⟩] : List ExceptionTableEntry), covers z 7 = false ∨ (z.catchType ≠ 0 ∧ ∃ nm : String, Cond.classLink RX0 z.catchType nm ∈ lw_all ∧ (rc_en 1, nm) ∈ rc_ncs) := fun z hz => by
      rcases List.mem_cons.mp hz with rfl | hz
      · exact Or.inr ⟨by decide, _, q1664, List.mem_of_getElem? (i := 0) rfl⟩
      exact nomatch hz
    refine rc_catch (pc := 7) (tgt := 19) (E := 1) hC hH.2.2.2.2 [⟨0, 12, 15, 24⟩] ⟨0, 12, 19, 13⟩ [⟨0, 12, 23, 18⟩] rfl hps rfl (by decide) q1631 (lw_o q381 rfl) rfl ?_
    refine rc_astore (pc := 19) hC (L' := [some (rc_q v0), some (rc_i v1), some (rc_i v2), some (rc_i v3), some (rc_q v4), some (rc_q (some q))]) dX0_addGutter_19 (Nat.le_of_ble_eq_true rfl) rfl rfl ?_
    refine rc_iconst (pc := 21) hC (v := (2 : Int32)) dX0_addGutter_21 rfl ?_
    exact rc_iret hC rfl rfl dX0_addGutter_22 h rfl
  rcases h.ite with ⟨hE, h⟩ | ⟨_, h⟩
  · subst hE
    have hps : ∀ z ∈ ([⟨0, 12, 15, 24⟩, ⟨0, 12, 19, 13⟩] : List ExceptionTableEntry), covers z 7 = false ∨ (z.catchType ≠ 0 ∧ ∃ nm : String, Cond.classLink RX0 z.catchType nm ∈ lw_all ∧ (rc_en 2, nm) ∈ rc_ncs) := fun z hz => by
      rcases List.mem_cons.mp hz with rfl | hz
      · exact Or.inr ⟨by decide, _, q1664, List.mem_of_getElem? (i := 1) rfl⟩
      rcases List.mem_cons.mp hz with rfl | hz
      · exact Or.inr ⟨by decide, _, q1631, List.mem_of_getElem? (i := 2) rfl⟩
      exact nomatch hz
    refine rc_catch (pc := 7) (tgt := 23) (E := 2) hC hH.2.2.2.2 [⟨0, 12, 15, 24⟩, ⟨0, 12, 19, 13⟩] ⟨0, 12, 23, 18⟩ [] rfl hps rfl (by decide) q1650 (lw_o q1203 rfl) rfl ?_
    refine rc_astore (pc := 23) hC (L' := [some (rc_q v0), some (rc_i v1), some (rc_i v2), some (rc_i v3), some (rc_q v4), some (rc_q (some q))]) dX0_addGutter_23 (Nat.le_of_ble_eq_true rfl) rfl rfl ?_
    refine rc_iconst (pc := 25) hC (v := (3 : Int32)) dX0_addGutter_25 rfl ?_
    exact rc_iret hC rfl rfl dX0_addGutter_26 h rfl
  exact h.fail.elim
theorem rw_X0_addCat {l : Launch} (hl : l.stackTraces = false) (v0 : Option Nat) (v1 : Int32) (v2 : Int32) (v3 : Int32) (v4 : Option Nat) : rc_Ct l yX0_addCat (wsW_ yX0_addCat cX0_addCat 6 (Option.some Jvm.ClassFile.FieldType.int) [((0 : Nat), (12 : Nat), (15 : Nat), (24 : Nat)), ((0 : Nat), (12 : Nat), (19 : Nat), (13 : Nat)), ((0 : Nat), (12 : Nat), (23 : Nat), (18 : Nat))]) 10 237 rc_tI (rp_X0_addCat v0 v1 v2 v3 v4) [rc_q v0, rc_i v1, rc_i v2, rc_i v3, rc_q v4] := by
  refine rc_CtW_H hl (plainFor_of_name rY_X0) rfl (Nat.le_of_ble_eq_true rfl) (L0 := [some (rc_q v0), some (rc_i v1), some (rc_i v2), some (rc_i v3), some (rc_q v4), none]) rfl ?_
  intro Y S hC hH h
  have hC : rc_C Y cX0_addCat RX0 (Option.some Jvm.ClassFile.FieldType.int) 6 := hC
  unfold rp_X0_addCat at h
  refine rc_aload (pc := 0) hC dX0_addCat_0 rfl ?_
  refine rc_iconst (pc := 2) hC (v := (0 : Int32)) dX0_addCat_2 rfl ?_
  refine rc_aload_n (pc := 3) hC dX0_addCat_3 rfl rfl ?_
  refine rc_iload_n (pc := 4) hC dX0_addCat_4 rfl rfl ?_
  refine rc_iload_n (pc := 5) hC dX0_addCat_5 rfl rfl ?_
  refine rc_iload_n (pc := 6) hC dX0_addCat_6 rfl rfl ?_
  obtain ⟨⟨fs, ho⟩, h⟩ := h.is
  refine rc_callV (pc := 7) hC rfl ho (rw_X1_addCat hH.1 v0 v1 v2 v3) q1698 q1699 q1700 q116 q1701 rfl rd_X1_addCat (hH.room (Nat.le_of_ble_eq_true rfl) (Nat.le_of_ble_eq_true rfl)) rfl rfl (Nat.le_of_ble_eq_true rfl) 3 rfl h.le.2.2 h.brx rfl dX0_addCat_7 ?_ ?_
  · intro x1 S h
    show rc_Z Y S 10 [some (rc_q v0), some (rc_i v1), some (rc_i v2), some (rc_i v3), some (rc_q v4), none] [rc_i x1, rc_i (0 : Int32), rc_q v4]
    refine rc_i2l (pc := 10) hC dX0_addCat_10 ?_
    refine rc_r_last (pc := 11) hC dX0_addCat_11 h ?_
    intro S h
    refine rc_goto (pc := 12) (tgt := 27) hC dX0_addCat_12 rfl ?_
    refine rc_iconst (pc := 27) hC (v := (0 : Int32)) dX0_addCat_27 rfl ?_
    exact rc_iret hC rfl rfl dX0_addCat_28 h rfl
  intro E q S h
  rcases h.ite with ⟨hE, h⟩ | ⟨_, h⟩
  · subst hE
    have hps : ∀ z ∈ ([] : List ExceptionTableEntry), covers z 7 = false ∨ (z.catchType ≠ 0 ∧ ∃ nm : String, Cond.classLink RX0 z.catchType nm ∈ lw_all ∧ (rc_en 0, nm) ∈ rc_ncs) := fun z hz => nomatch hz
    refine rc_catch (pc := 7) (tgt := 15) (E := 0) hC hH.2.2.2.2 [] ⟨0, 12, 15, 24⟩ [⟨0, 12, 19, 13⟩, ⟨0, 12, 23, 18⟩] rfl hps rfl (by decide) q1664 (lw_o q1680 rfl) rfl ?_
    refine rc_astore (pc := 15) hC (L' := [some (rc_q v0), some (rc_i v1), some (rc_i v2), some (rc_i v3), some (rc_q v4), some (rc_q (some q))]) dX0_addCat_15 (Nat.le_of_ble_eq_true rfl) rfl rfl ?_
    refine rc_iconst (pc := 17) hC (v := (1 : Int32)) dX0_addCat_17 rfl ?_
    exact rc_iret hC rfl rfl dX0_addCat_18 h rfl
  rcases h.ite with ⟨hE, h⟩ | ⟨_, h⟩
  · subst hE
    have hps : ∀ z ∈ ([⟨0, 12, 15, 24⟩] : List ExceptionTableEntry), covers z 7 = false ∨ (z.catchType ≠ 0 ∧ ∃ nm : String, Cond.classLink RX0 z.catchType nm ∈ lw_all ∧ (rc_en 1, nm) ∈ rc_ncs) := fun z hz => by
      rcases List.mem_cons.mp hz with rfl | hz
      · exact Or.inr ⟨by decide, _, q1664, List.mem_of_getElem? (i := 0) rfl⟩
      exact nomatch hz
    refine rc_catch (pc := 7) (tgt := 19) (E := 1) hC hH.2.2.2.2 [⟨0, 12, 15, 24⟩] ⟨0, 12, 19, 13⟩ [⟨0, 12, 23, 18⟩] rfl hps rfl (by decide) q1631 (lw_o q381 rfl) rfl ?_
    refine rc_astore (pc := 19) hC (L' := [some (rc_q v0), some (rc_i v1), some (rc_i v2), some (rc_i v3), some (rc_q v4), some (rc_q (some q))]) dX0_addCat_19 (Nat.le_of_ble_eq_true rfl) rfl rfl ?_
    refine rc_iconst (pc := 21) hC (v := (2 : Int32)) dX0_addCat_21 rfl ?_
    exact rc_iret hC rfl rfl dX0_addCat_22 h rfl
  rcases h.ite with ⟨hE, h⟩ | ⟨_, h⟩
  · subst hE
    have hps : ∀ z ∈ ([⟨0, 12, 15, 24⟩, ⟨0, 12, 19, 13⟩] : List ExceptionTableEntry), covers z 7 = false ∨ (z.catchType ≠ 0 ∧ ∃ nm : String, Cond.classLink RX0 z.catchType nm ∈ lw_all ∧ (rc_en 2, nm) ∈ rc_ncs) := fun z hz => by
      rcases List.mem_cons.mp hz with rfl | hz
      · exact Or.inr ⟨by decide, _, q1664, List.mem_of_getElem? (i := 1) rfl⟩
      rcases List.mem_cons.mp hz with rfl | hz
      · exact Or.inr ⟨by decide, _, q1631, List.mem_of_getElem? (i := 2) rfl⟩
      exact nomatch hz
    refine rc_catch (pc := 7) (tgt := 23) (E := 2) hC hH.2.2.2.2 [⟨0, 12, 15, 24⟩, ⟨0, 12, 19, 13⟩] ⟨0, 12, 23, 18⟩ [] rfl hps rfl (by decide) q1650 (lw_o q1203 rfl) rfl ?_
    refine rc_astore (pc := 23) hC (L' := [some (rc_q v0), some (rc_i v1), some (rc_i v2), some (rc_i v3), some (rc_q v4), some (rc_q (some q))]) dX0_addCat_23 (Nat.le_of_ble_eq_true rfl) rfl rfl ?_
    refine rc_iconst (pc := 25) hC (v := (3 : Int32)) dX0_addCat_25 rfl ?_
    exact rc_iret hC rfl rfl dX0_addCat_26 h rfl
  exact h.fail.elim
theorem rw_X0_step {l : Launch} (hl : l.stackTraces = false) (v0 : Option Nat) (v1 : Int32) (v2 : Int32) (v3 : Option Nat) : rc_Ct l yX0_step (wsW_ yX0_step cX0_step 5 (Option.some Jvm.ClassFile.FieldType.int) [((0 : Nat), (10 : Nat), (13 : Nat), (24 : Nat)), ((0 : Nat), (10 : Nat), (17 : Nat), (18 : Nat))]) 10 236 rc_tI (rp_X0_step v0 v1 v2 v3) [rc_q v0, rc_i v1, rc_i v2, rc_q v3] := by
  refine rc_CtW_H hl (plainFor_of_name rY_X0) rfl (Nat.le_of_ble_eq_true rfl) (L0 := [some (rc_q v0), some (rc_i v1), some (rc_i v2), some (rc_q v3), none]) rfl ?_
  intro Y S hC hH h
  have hC : rc_C Y cX0_step RX0 (Option.some Jvm.ClassFile.FieldType.int) 5 := hC
  unfold rp_X0_step at h
  refine rc_aload_n (pc := 0) hC dX0_step_0 rfl rfl ?_
  refine rc_iconst (pc := 1) hC (v := (0 : Int32)) dX0_step_1 rfl ?_
  refine rc_aload_n (pc := 2) hC dX0_step_2 rfl rfl ?_
  refine rc_iload_n (pc := 3) hC dX0_step_3 rfl rfl ?_
  refine rc_iload_n (pc := 4) hC dX0_step_4 rfl rfl ?_
  obtain ⟨⟨fs, ho⟩, h⟩ := h.is
  refine rc_callV (pc := 5) hC rfl ho (rw_X1_step hH.1 v0 v1 v2) q1709 q1710 q1711 q116 q1712 rfl rd_X1_step (hH.room (Nat.le_of_ble_eq_true rfl) (Nat.le_of_ble_eq_true rfl)) rfl rfl (Nat.le_of_ble_eq_true rfl) 2 rfl h.le.2.2 h.brx rfl dX0_step_5 ?_ ?_
  · intro x1 S h
    show rc_Z Y S 8 [some (rc_q v0), some (rc_i v1), some (rc_i v2), some (rc_q v3), none] [rc_i x1, rc_i (0 : Int32), rc_q v3]
    refine rc_i2l (pc := 8) hC dX0_step_8 ?_
    refine rc_r_last (pc := 9) hC dX0_step_9 h ?_
    intro S h
    refine rc_goto (pc := 10) (tgt := 21) hC dX0_step_10 rfl ?_
    refine rc_iconst (pc := 21) hC (v := (0 : Int32)) dX0_step_21 rfl ?_
    exact rc_iret hC rfl rfl dX0_step_22 h rfl
  intro E q S h
  rcases h.ite with ⟨hE, h⟩ | ⟨_, h⟩
  · subst hE
    have hps : ∀ z ∈ ([] : List ExceptionTableEntry), covers z 5 = false ∨ (z.catchType ≠ 0 ∧ ∃ nm : String, Cond.classLink RX0 z.catchType nm ∈ lw_all ∧ (rc_en 0, nm) ∈ rc_ncs) := fun z hz => nomatch hz
    refine rc_catch (pc := 5) (tgt := 13) (E := 0) hC hH.2.2.2.2 [] ⟨0, 10, 13, 24⟩ [⟨0, 10, 17, 18⟩] rfl hps rfl (by decide) q1664 (lw_o q1680 rfl) rfl ?_
    refine rc_astore (pc := 13) hC (L' := [some (rc_q v0), some (rc_i v1), some (rc_i v2), some (rc_q v3), some (rc_q (some q))]) dX0_step_13 (Nat.le_of_ble_eq_true rfl) rfl rfl ?_
    refine rc_iconst (pc := 15) hC (v := (1 : Int32)) dX0_step_15 rfl ?_
    exact rc_iret hC rfl rfl dX0_step_16 h rfl
  rcases h.ite with ⟨hE, h⟩ | ⟨_, h⟩
  · subst hE
    have hps : ∀ z ∈ ([⟨0, 10, 13, 24⟩] : List ExceptionTableEntry), covers z 5 = false ∨ (z.catchType ≠ 0 ∧ ∃ nm : String, Cond.classLink RX0 z.catchType nm ∈ lw_all ∧ (rc_en 2, nm) ∈ rc_ncs) := fun z hz => by
      rcases List.mem_cons.mp hz with rfl | hz
      · exact Or.inr ⟨by decide, _, q1664, List.mem_of_getElem? (i := 1) rfl⟩
      exact nomatch hz
    refine rc_catch (pc := 5) (tgt := 17) (E := 2) hC hH.2.2.2.2 [⟨0, 10, 13, 24⟩] ⟨0, 10, 17, 18⟩ [] rfl hps rfl (by decide) q1650 (lw_o q1203 rfl) rfl ?_
    refine rc_astore (pc := 17) hC (L' := [some (rc_q v0), some (rc_i v1), some (rc_i v2), some (rc_q v3), some (rc_q (some q))]) dX0_step_17 (Nat.le_of_ble_eq_true rfl) rfl rfl ?_
    refine rc_iconst (pc := 19) hC (v := (2 : Int32)) dX0_step_19 rfl ?_
    exact rc_iret hC rfl rfl dX0_step_20 h rfl
  exact h.fail.elim
theorem rw_X0_claim {l : Launch} (hl : l.stackTraces = false) (v0 : Option Nat) (v1 : Int32) (v2 : Option Nat) : rc_Ct l yX0_claim (wsW_ yX0_claim cX0_claim 4 (Option.some Jvm.ClassFile.FieldType.int) [((0 : Nat), (9 : Nat), (12 : Nat), (24 : Nat)), ((0 : Nat), (9 : Nat), (15 : Nat), (18 : Nat))]) 10 235 rc_tI (rp_X0_claim v0 v1 v2) [rc_q v0, rc_i v1, rc_q v2] := by
  refine rc_CtW_H hl (plainFor_of_name rY_X0) rfl (Nat.le_of_ble_eq_true rfl) (L0 := [some (rc_q v0), some (rc_i v1), some (rc_q v2), none]) rfl ?_
  intro Y S hC hH h
  have hC : rc_C Y cX0_claim RX0 (Option.some Jvm.ClassFile.FieldType.int) 4 := hC
  unfold rp_X0_claim at h
  refine rc_aload_n (pc := 0) hC dX0_claim_0 rfl rfl ?_
  refine rc_iconst (pc := 1) hC (v := (0 : Int32)) dX0_claim_1 rfl ?_
  refine rc_aload_n (pc := 2) hC dX0_claim_2 rfl rfl ?_
  refine rc_iload_n (pc := 3) hC dX0_claim_3 rfl rfl ?_
  obtain ⟨⟨fs, ho⟩, h⟩ := h.is
  refine rc_callV (pc := 4) hC rfl ho (rw_X1_claim hH.1 v0 v1) q1726 q1727 q1728 q116 q1729 rfl rd_X1_claim (hH.room (Nat.le_of_ble_eq_true rfl) (Nat.le_of_ble_eq_true rfl)) rfl rfl (Nat.le_of_ble_eq_true rfl) 1 rfl h.le.2.2 h.brx rfl dX0_claim_4 ?_ ?_
  · intro x1 S h
    show rc_Z Y S 7 [some (rc_q v0), some (rc_i v1), some (rc_q v2), none] [rc_i x1, rc_i (0 : Int32), rc_q v2]
    refine rc_i2l (pc := 7) hC dX0_claim_7 ?_
    refine rc_r_last (pc := 8) hC dX0_claim_8 h ?_
    intro S h
    refine rc_goto (pc := 9) (tgt := 18) hC dX0_claim_9 rfl ?_
    refine rc_iconst (pc := 18) hC (v := (0 : Int32)) dX0_claim_18 rfl ?_
    exact rc_iret hC rfl rfl dX0_claim_19 h rfl
  intro E q S h
  rcases h.ite with ⟨hE, h⟩ | ⟨_, h⟩
  · subst hE
    have hps : ∀ z ∈ ([] : List ExceptionTableEntry), covers z 4 = false ∨ (z.catchType ≠ 0 ∧ ∃ nm : String, Cond.classLink RX0 z.catchType nm ∈ lw_all ∧ (rc_en 0, nm) ∈ rc_ncs) := fun z hz => nomatch hz
    refine rc_catch (pc := 4) (tgt := 12) (E := 0) hC hH.2.2.2.2 [] ⟨0, 9, 12, 24⟩ [⟨0, 9, 15, 18⟩] rfl hps rfl (by decide) q1664 (lw_o q1680 rfl) rfl ?_
    refine rc_astore_n (pc := 12) hC (L' := [some (rc_q v0), some (rc_i v1), some (rc_q v2), some (rc_q (some q))]) dX0_claim_12 rfl (Nat.le_of_ble_eq_true rfl) rfl rfl ?_
    refine rc_iconst (pc := 13) hC (v := (1 : Int32)) dX0_claim_13 rfl ?_
    exact rc_iret hC rfl rfl dX0_claim_14 h rfl
  rcases h.ite with ⟨hE, h⟩ | ⟨_, h⟩
  · subst hE
    have hps : ∀ z ∈ ([⟨0, 9, 12, 24⟩] : List ExceptionTableEntry), covers z 4 = false ∨ (z.catchType ≠ 0 ∧ ∃ nm : String, Cond.classLink RX0 z.catchType nm ∈ lw_all ∧ (rc_en 2, nm) ∈ rc_ncs) := fun z hz => by
      rcases List.mem_cons.mp hz with rfl | hz
      · exact Or.inr ⟨by decide, _, q1664, List.mem_of_getElem? (i := 1) rfl⟩
      exact nomatch hz
    refine rc_catch (pc := 4) (tgt := 15) (E := 2) hC hH.2.2.2.2 [⟨0, 9, 12, 24⟩] ⟨0, 9, 15, 18⟩ [] rfl hps rfl (by decide) q1650 (lw_o q1203 rfl) rfl ?_
    refine rc_astore_n (pc := 15) hC (L' := [some (rc_q v0), some (rc_i v1), some (rc_q v2), some (rc_q (some q))]) dX0_claim_15 rfl (Nat.le_of_ble_eq_true rfl) rfl rfl ?_
    refine rc_iconst (pc := 16) hC (v := (2 : Int32)) dX0_claim_16 rfl ?_
    exact rc_iret hC rfl rfl dX0_claim_17 h rfl
  exact h.fail.elim
theorem rw_X0_abandon {l : Launch} (hl : l.stackTraces = false) (v0 : Option Nat) (v1 : Int32) (v2 : Option Nat) : rc_Ct l yX0_abandon (wsW_ yX0_abandon cX0_abandon 4 (Option.some Jvm.ClassFile.FieldType.int) [((0 : Nat), (9 : Nat), (12 : Nat), (24 : Nat)), ((0 : Nat), (9 : Nat), (15 : Nat), (18 : Nat))]) 10 236 rc_tI (rp_X0_abandon v0 v1 v2) [rc_q v0, rc_i v1, rc_q v2] := by
  refine rc_CtW_H hl (plainFor_of_name rY_X0) rfl (Nat.le_of_ble_eq_true rfl) (L0 := [some (rc_q v0), some (rc_i v1), some (rc_q v2), none]) rfl ?_
  intro Y S hC hH h
  have hC : rc_C Y cX0_abandon RX0 (Option.some Jvm.ClassFile.FieldType.int) 4 := hC
  unfold rp_X0_abandon at h
  refine rc_aload_n (pc := 0) hC dX0_abandon_0 rfl rfl ?_
  refine rc_iconst (pc := 1) hC (v := (0 : Int32)) dX0_abandon_1 rfl ?_
  refine rc_aload_n (pc := 2) hC dX0_abandon_2 rfl rfl ?_
  refine rc_iload_n (pc := 3) hC dX0_abandon_3 rfl rfl ?_
  obtain ⟨⟨fs, ho⟩, h⟩ := h.is
  refine rc_callV (pc := 4) hC rfl ho (rw_X1_abandon hH.1 v0 v1) q1739 q1740 q1741 q116 q1742 rfl rd_X1_abandon (hH.room (Nat.le_of_ble_eq_true rfl) (Nat.le_of_ble_eq_true rfl)) rfl rfl (Nat.le_of_ble_eq_true rfl) 1 rfl h.le.2.2 h.brx rfl dX0_abandon_4 ?_ ?_
  · intro x1 S h
    show rc_Z Y S 7 [some (rc_q v0), some (rc_i v1), some (rc_q v2), none] [rc_i x1, rc_i (0 : Int32), rc_q v2]
    refine rc_i2l (pc := 7) hC dX0_abandon_7 ?_
    refine rc_r_last (pc := 8) hC dX0_abandon_8 h ?_
    intro S h
    refine rc_goto (pc := 9) (tgt := 18) hC dX0_abandon_9 rfl ?_
    refine rc_iconst (pc := 18) hC (v := (0 : Int32)) dX0_abandon_18 rfl ?_
    exact rc_iret hC rfl rfl dX0_abandon_19 h rfl
  intro E q S h
  rcases h.ite with ⟨hE, h⟩ | ⟨_, h⟩
  · subst hE
    have hps : ∀ z ∈ ([] : List ExceptionTableEntry), covers z 4 = false ∨ (z.catchType ≠ 0 ∧ ∃ nm : String, Cond.classLink RX0 z.catchType nm ∈ lw_all ∧ (rc_en 0, nm) ∈ rc_ncs) := fun z hz => nomatch hz
    refine rc_catch (pc := 4) (tgt := 12) (E := 0) hC hH.2.2.2.2 [] ⟨0, 9, 12, 24⟩ [⟨0, 9, 15, 18⟩] rfl hps rfl (by decide) q1664 (lw_o q1680 rfl) rfl ?_
    refine rc_astore_n (pc := 12) hC (L' := [some (rc_q v0), some (rc_i v1), some (rc_q v2), some (rc_q (some q))]) dX0_abandon_12 rfl (Nat.le_of_ble_eq_true rfl) rfl rfl ?_
    refine rc_iconst (pc := 13) hC (v := (1 : Int32)) dX0_abandon_13 rfl ?_
    exact rc_iret hC rfl rfl dX0_abandon_14 h rfl
  rcases h.ite with ⟨hE, h⟩ | ⟨_, h⟩
  · subst hE
    have hps : ∀ z ∈ ([⟨0, 9, 12, 24⟩] : List ExceptionTableEntry), covers z 4 = false ∨ (z.catchType ≠ 0 ∧ ∃ nm : String, Cond.classLink RX0 z.catchType nm ∈ lw_all ∧ (rc_en 2, nm) ∈ rc_ncs) := fun z hz => by
      rcases List.mem_cons.mp hz with rfl | hz
      · exact Or.inr ⟨by decide, _, q1664, List.mem_of_getElem? (i := 1) rfl⟩
      exact nomatch hz
    refine rc_catch (pc := 4) (tgt := 15) (E := 2) hC hH.2.2.2.2 [⟨0, 9, 12, 24⟩] ⟨0, 9, 15, 18⟩ [] rfl hps rfl (by decide) q1650 (lw_o q1203 rfl) rfl ?_
    refine rc_astore_n (pc := 15) hC (L' := [some (rc_q v0), some (rc_i v1), some (rc_q v2), some (rc_q (some q))]) dX0_abandon_15 rfl (Nat.le_of_ble_eq_true rfl) rfl rfl ?_
    refine rc_iconst (pc := 16) hC (v := (2 : Int32)) dX0_abandon_16 rfl ?_
    exact rc_iret hC rfl rfl dX0_abandon_17 h rfl
  exact h.fail.elim
theorem rw_X0_chase_L16 {Y : rc_Y} (hC : rc_C Y cX0_chase RX0 (Option.some Jvm.ClassFile.FieldType.int) 5) (hH : rc_HW Y 11 236 yX0_chase.name [((0 : Nat), (17 : Nat), (20 : Nat), (24 : Nat)), ((0 : Nat), (17 : Nat), (24 : Nat), (13 : Nat)), ((0 : Nat), (17 : Nat), (28 : Nat), (18 : Nat))]) (s0 : Int64) (s1 : Int32) (s2 : Option Nat) (S : rc_S) (h : rc_Go Y rc_tI (rp_X0_chase_L16  s0 s1 s2) S) : rc_Z Y S 16 [none, none, none, none, none] [rc_l s0, rc_i s1, rc_q s2] := by
  unfold rp_X0_chase_L16 at h
  refine rc_r_last (pc := 16) hC dX0_chase_16 h ?_
  intro S h
  refine rc_goto (pc := 17) (tgt := 32) hC dX0_chase_17 rfl ?_
  refine rc_iconst (pc := 32) hC (v := (0 : Int32)) dX0_chase_32 rfl ?_
  exact rc_iret hC rfl rfl dX0_chase_33 h rfl
theorem rw_X0_chase {l : Launch} (hl : l.stackTraces = false) (v0 : Option Nat) (v1 : Int32) (v2 : Int32) (v3 : Option Nat) : rc_Ct l yX0_chase (wsW_ yX0_chase cX0_chase 5 (Option.some Jvm.ClassFile.FieldType.int) [((0 : Nat), (17 : Nat), (20 : Nat), (24 : Nat)), ((0 : Nat), (17 : Nat), (24 : Nat), (13 : Nat)), ((0 : Nat), (17 : Nat), (28 : Nat), (18 : Nat))]) 11 236 rc_tI (rp_X0_chase v0 v1 v2 v3) [rc_q v0, rc_i v1, rc_i v2, rc_q v3] := by
  refine rc_CtW_H hl (plainFor_of_name rY_X0) rfl (Nat.le_of_ble_eq_true rfl) (L0 := [some (rc_q v0), some (rc_i v1), some (rc_i v2), some (rc_q v3), none]) rfl ?_
  intro Y S hC hH h
  have hC : rc_C Y cX0_chase RX0 (Option.some Jvm.ClassFile.FieldType.int) 5 := hC
  unfold rp_X0_chase at h
  refine rc_aload_n (pc := 0) hC dX0_chase_0 rfl rfl ?_
  refine rc_iconst (pc := 1) hC (v := (0 : Int32)) dX0_chase_1 rfl ?_
  refine rc_aload_n (pc := 2) hC dX0_chase_2 rfl rfl ?_
  refine rc_iload_n (pc := 3) hC dX0_chase_3 rfl rfl ?_
  refine rc_iload_n (pc := 4) hC dX0_chase_4 rfl rfl ?_
  obtain ⟨⟨fs, ho⟩, h⟩ := h.is
  refine rc_callV (pc := 5) hC rfl ho (rw_X1_chase hH.1 v0 v1 v2) q1750 q1751 q1752 q116 q1753 rfl rd_X1_chase (hH.room (Nat.le_of_ble_eq_true rfl) (Nat.le_of_ble_eq_true rfl)) rfl rfl (Nat.le_of_ble_eq_true rfl) 2 rfl h.le.2.2 h.brx rfl dX0_chase_5 ?_ ?_
  · intro x1 S h
    show rc_Z Y S 8 [some (rc_q v0), some (rc_i v1), some (rc_i v2), some (rc_q v3), none] [rc_i x1, rc_i (0 : Int32), rc_q v3]
    refine rc_if_eq (pc := 8) (tgt := 15) hC dX0_chase_8 rfl h ?_ ?_
    · intro _ h
      refine rc_lconst (pc := 15) hC (v := (0 : Int64)) dX0_chase_15 rfl ?_
      refine rc_drop [false, false, false, false, false] (L' := [none, none, none, none, none]) rfl ?_
      exact rw_X0_chase_L16 hC hH  (0 : Int64) (0 : Int32) v3 S h
    intro _ h
    refine rc_lconst (pc := 11) hC (v := (1 : Int64)) dX0_chase_11 rfl ?_
    refine rc_goto (pc := 12) (tgt := 16) hC dX0_chase_12 rfl ?_
    refine rc_drop [false, false, false, false, false] (L' := [none, none, none, none, none]) rfl ?_
    exact rw_X0_chase_L16 hC hH  (1 : Int64) (0 : Int32) v3 S h
  intro E q S h
  rcases h.ite with ⟨hE, h⟩ | ⟨_, h⟩
  · subst hE
    have hps : ∀ z ∈ ([] : List ExceptionTableEntry), covers z 5 = false ∨ (z.catchType ≠ 0 ∧ ∃ nm : String, Cond.classLink RX0 z.catchType nm ∈ lw_all ∧ (rc_en 0, nm) ∈ rc_ncs) := fun z hz => nomatch hz
    refine rc_catch (pc := 5) (tgt := 20) (E := 0) hC hH.2.2.2.2 [] ⟨0, 17, 20, 24⟩ [⟨0, 17, 24, 13⟩, ⟨0, 17, 28, 18⟩] rfl hps rfl (by decide) q1664 (lw_o q1680 rfl) rfl ?_
    refine rc_astore (pc := 20) hC (L' := [some (rc_q v0), some (rc_i v1), some (rc_i v2), some (rc_q v3), some (rc_q (some q))]) dX0_chase_20 (Nat.le_of_ble_eq_true rfl) rfl rfl ?_
    refine rc_iconst (pc := 22) hC (v := (1 : Int32)) dX0_chase_22 rfl ?_
    exact rc_iret hC rfl rfl dX0_chase_23 h rfl
  rcases h.ite with ⟨hE, h⟩ | ⟨_, h⟩
  · subst hE
    have hps : ∀ z ∈ ([⟨0, 17, 20, 24⟩] : List ExceptionTableEntry), covers z 5 = false ∨ (z.catchType ≠ 0 ∧ ∃ nm : String, Cond.classLink RX0 z.catchType nm ∈ lw_all ∧ (rc_en 1, nm) ∈ rc_ncs) := fun z hz => by
      rcases List.mem_cons.mp hz with rfl | hz
      · exact Or.inr ⟨by decide, _, q1664, List.mem_of_getElem? (i := 0) rfl⟩
      exact nomatch hz
    refine rc_catch (pc := 5) (tgt := 24) (E := 1) hC hH.2.2.2.2 [⟨0, 17, 20, 24⟩] ⟨0, 17, 24, 13⟩ [⟨0, 17, 28, 18⟩] rfl hps rfl (by decide) q1631 (lw_o q381 rfl) rfl ?_
    refine rc_astore (pc := 24) hC (L' := [some (rc_q v0), some (rc_i v1), some (rc_i v2), some (rc_q v3), some (rc_q (some q))]) dX0_chase_24 (Nat.le_of_ble_eq_true rfl) rfl rfl ?_
    refine rc_iconst (pc := 26) hC (v := (2 : Int32)) dX0_chase_26 rfl ?_
    exact rc_iret hC rfl rfl dX0_chase_27 h rfl
  rcases h.ite with ⟨hE, h⟩ | ⟨_, h⟩
  · subst hE
    have hps : ∀ z ∈ ([⟨0, 17, 20, 24⟩, ⟨0, 17, 24, 13⟩] : List ExceptionTableEntry), covers z 5 = false ∨ (z.catchType ≠ 0 ∧ ∃ nm : String, Cond.classLink RX0 z.catchType nm ∈ lw_all ∧ (rc_en 2, nm) ∈ rc_ncs) := fun z hz => by
      rcases List.mem_cons.mp hz with rfl | hz
      · exact Or.inr ⟨by decide, _, q1664, List.mem_of_getElem? (i := 1) rfl⟩
      rcases List.mem_cons.mp hz with rfl | hz
      · exact Or.inr ⟨by decide, _, q1631, List.mem_of_getElem? (i := 2) rfl⟩
      exact nomatch hz
    refine rc_catch (pc := 5) (tgt := 28) (E := 2) hC hH.2.2.2.2 [⟨0, 17, 20, 24⟩, ⟨0, 17, 24, 13⟩] ⟨0, 17, 28, 18⟩ [] rfl hps rfl (by decide) q1650 (lw_o q1203 rfl) rfl ?_
    refine rc_astore (pc := 28) hC (L' := [some (rc_q v0), some (rc_i v1), some (rc_i v2), some (rc_q v3), some (rc_q (some q))]) dX0_chase_28 (Nat.le_of_ble_eq_true rfl) rfl rfl ?_
    refine rc_iconst (pc := 30) hC (v := (3 : Int32)) dX0_chase_30 rfl ?_
    exact rc_iret hC rfl rfl dX0_chase_31 h rfl
  exact h.fail.elim
theorem rw_X0_buyTruce {l : Launch} (hl : l.stackTraces = false) (v0 : Option Nat) (v1 : Int32) (v2 : Int32) (v3 : Int32) (v4 : Int32) (v5 : Option Nat) : rc_Ct l yX0_buyTruce (wsW_ yX0_buyTruce cX0_buyTruce 7 (Option.some Jvm.ClassFile.FieldType.int) [((0 : Nat), (14 : Nat), (17 : Nat), (24 : Nat)), ((0 : Nat), (14 : Nat), (21 : Nat), (13 : Nat)), ((0 : Nat), (14 : Nat), (25 : Nat), (18 : Nat))]) 10 238 rc_tI (rp_X0_buyTruce v0 v1 v2 v3 v4 v5) [rc_q v0, rc_i v1, rc_i v2, rc_i v3, rc_i v4, rc_q v5] := by
  refine rc_CtW_H hl (plainFor_of_name rY_X0) rfl (Nat.le_of_ble_eq_true rfl) (L0 := [some (rc_q v0), some (rc_i v1), some (rc_i v2), some (rc_i v3), some (rc_i v4), some (rc_q v5), none]) rfl ?_
  intro Y S hC hH h
  have hC : rc_C Y cX0_buyTruce RX0 (Option.some Jvm.ClassFile.FieldType.int) 7 := hC
  unfold rp_X0_buyTruce at h
  refine rc_aload (pc := 0) hC dX0_buyTruce_0 rfl ?_
  refine rc_iconst (pc := 2) hC (v := (0 : Int32)) dX0_buyTruce_2 rfl ?_
  refine rc_aload_n (pc := 3) hC dX0_buyTruce_3 rfl rfl ?_
  refine rc_iload_n (pc := 4) hC dX0_buyTruce_4 rfl rfl ?_
  refine rc_iload_n (pc := 5) hC dX0_buyTruce_5 rfl rfl ?_
  refine rc_iload_n (pc := 6) hC dX0_buyTruce_6 rfl rfl ?_
  refine rc_iload (pc := 7) hC dX0_buyTruce_7 rfl ?_
  obtain ⟨⟨fs, ho⟩, h⟩ := h.is
  refine rc_callV (pc := 9) hC rfl ho (rw_X1_buyTruce hH.1 v0 v1 v2 v3 v4) q1767 q1768 q1769 q116 q1770 rfl rd_X1_buyTruce (hH.room (Nat.le_of_ble_eq_true rfl) (Nat.le_of_ble_eq_true rfl)) rfl rfl (Nat.le_of_ble_eq_true rfl) 4 rfl h.le.2.2 h.brx rfl dX0_buyTruce_9 ?_ ?_
  · intro x1 S h
    show rc_Z Y S 12 [some (rc_q v0), some (rc_i v1), some (rc_i v2), some (rc_i v3), some (rc_i v4), some (rc_q v5), none] [rc_i x1, rc_i (0 : Int32), rc_q v5]
    refine rc_i2l (pc := 12) hC dX0_buyTruce_12 ?_
    refine rc_r_last (pc := 13) hC dX0_buyTruce_13 h ?_
    intro S h
    refine rc_goto (pc := 14) (tgt := 29) hC dX0_buyTruce_14 rfl ?_
    refine rc_iconst (pc := 29) hC (v := (0 : Int32)) dX0_buyTruce_29 rfl ?_
    exact rc_iret hC rfl rfl dX0_buyTruce_30 h rfl
  intro E q S h
  rcases h.ite with ⟨hE, h⟩ | ⟨_, h⟩
  · subst hE
    have hps : ∀ z ∈ ([] : List ExceptionTableEntry), covers z 9 = false ∨ (z.catchType ≠ 0 ∧ ∃ nm : String, Cond.classLink RX0 z.catchType nm ∈ lw_all ∧ (rc_en 0, nm) ∈ rc_ncs) := fun z hz => nomatch hz
    refine rc_catch (pc := 9) (tgt := 17) (E := 0) hC hH.2.2.2.2 [] ⟨0, 14, 17, 24⟩ [⟨0, 14, 21, 13⟩, ⟨0, 14, 25, 18⟩] rfl hps rfl (by decide) q1664 (lw_o q1680 rfl) rfl ?_
    refine rc_astore (pc := 17) hC (L' := [some (rc_q v0), some (rc_i v1), some (rc_i v2), some (rc_i v3), some (rc_i v4), some (rc_q v5), some (rc_q (some q))]) dX0_buyTruce_17 (Nat.le_of_ble_eq_true rfl) rfl rfl ?_
    refine rc_iconst (pc := 19) hC (v := (1 : Int32)) dX0_buyTruce_19 rfl ?_
    exact rc_iret hC rfl rfl dX0_buyTruce_20 h rfl
  rcases h.ite with ⟨hE, h⟩ | ⟨_, h⟩
  · subst hE
    have hps : ∀ z ∈ ([⟨0, 14, 17, 24⟩] : List ExceptionTableEntry), covers z 9 = false ∨ (z.catchType ≠ 0 ∧ ∃ nm : String, Cond.classLink RX0 z.catchType nm ∈ lw_all ∧ (rc_en 1, nm) ∈ rc_ncs) := fun z hz => by
      rcases List.mem_cons.mp hz with rfl | hz
      · exact Or.inr ⟨by decide, _, q1664, List.mem_of_getElem? (i := 0) rfl⟩
      exact nomatch hz
    refine rc_catch (pc := 9) (tgt := 21) (E := 1) hC hH.2.2.2.2 [⟨0, 14, 17, 24⟩] ⟨0, 14, 21, 13⟩ [⟨0, 14, 25, 18⟩] rfl hps rfl (by decide) q1631 (lw_o q381 rfl) rfl ?_
    refine rc_astore (pc := 21) hC (L' := [some (rc_q v0), some (rc_i v1), some (rc_i v2), some (rc_i v3), some (rc_i v4), some (rc_q v5), some (rc_q (some q))]) dX0_buyTruce_21 (Nat.le_of_ble_eq_true rfl) rfl rfl ?_
    refine rc_iconst (pc := 23) hC (v := (2 : Int32)) dX0_buyTruce_23 rfl ?_
    exact rc_iret hC rfl rfl dX0_buyTruce_24 h rfl
  rcases h.ite with ⟨hE, h⟩ | ⟨_, h⟩
  · subst hE
    have hps : ∀ z ∈ ([⟨0, 14, 17, 24⟩, ⟨0, 14, 21, 13⟩] : List ExceptionTableEntry), covers z 9 = false ∨ (z.catchType ≠ 0 ∧ ∃ nm : String, Cond.classLink RX0 z.catchType nm ∈ lw_all ∧ (rc_en 2, nm) ∈ rc_ncs) := fun z hz => by
      rcases List.mem_cons.mp hz with rfl | hz
      · exact Or.inr ⟨by decide, _, q1664, List.mem_of_getElem? (i := 1) rfl⟩
      rcases List.mem_cons.mp hz with rfl | hz
      · exact Or.inr ⟨by decide, _, q1631, List.mem_of_getElem? (i := 2) rfl⟩
      exact nomatch hz
    refine rc_catch (pc := 9) (tgt := 25) (E := 2) hC hH.2.2.2.2 [⟨0, 14, 17, 24⟩, ⟨0, 14, 21, 13⟩] ⟨0, 14, 25, 18⟩ [] rfl hps rfl (by decide) q1650 (lw_o q1203 rfl) rfl ?_
    refine rc_astore (pc := 25) hC (L' := [some (rc_q v0), some (rc_i v1), some (rc_i v2), some (rc_i v3), some (rc_i v4), some (rc_q v5), some (rc_q (some q))]) dX0_buyTruce_25 (Nat.le_of_ble_eq_true rfl) rfl rfl ?_
    refine rc_iconst (pc := 27) hC (v := (3 : Int32)) dX0_buyTruce_27 rfl ?_
    exact rc_iret hC rfl rfl dX0_buyTruce_28 h rfl
  exact h.fail.elim
theorem rw_X0_nominate {l : Launch} (hl : l.stackTraces = false) (v0 : Option Nat) (v1 : Int32) (v2 : Int32) (v3 : Option Nat) : rc_Ct l yX0_nominate (wsW_ yX0_nominate cX0_nominate 5 (Option.some Jvm.ClassFile.FieldType.int) [((0 : Nat), (10 : Nat), (13 : Nat), (13 : Nat)), ((0 : Nat), (10 : Nat), (17 : Nat), (18 : Nat))]) 10 236 rc_tI (rp_X0_nominate v0 v1 v2 v3) [rc_q v0, rc_i v1, rc_i v2, rc_q v3] := by
  refine rc_CtW_H hl (plainFor_of_name rY_X0) rfl (Nat.le_of_ble_eq_true rfl) (L0 := [some (rc_q v0), some (rc_i v1), some (rc_i v2), some (rc_q v3), none]) rfl ?_
  intro Y S hC hH h
  have hC : rc_C Y cX0_nominate RX0 (Option.some Jvm.ClassFile.FieldType.int) 5 := hC
  unfold rp_X0_nominate at h
  refine rc_aload_n (pc := 0) hC dX0_nominate_0 rfl rfl ?_
  refine rc_iconst (pc := 1) hC (v := (0 : Int32)) dX0_nominate_1 rfl ?_
  refine rc_aload_n (pc := 2) hC dX0_nominate_2 rfl rfl ?_
  refine rc_iload_n (pc := 3) hC dX0_nominate_3 rfl rfl ?_
  refine rc_iload_n (pc := 4) hC dX0_nominate_4 rfl rfl ?_
  obtain ⟨⟨fs, ho⟩, h⟩ := h.is
  refine rc_callV (pc := 5) hC rfl ho (rw_X1_nominate hH.1 v0 v1 v2) q1776 q1777 q1778 q116 q1779 rfl rd_X1_nominate (hH.room (Nat.le_of_ble_eq_true rfl) (Nat.le_of_ble_eq_true rfl)) rfl rfl (Nat.le_of_ble_eq_true rfl) 2 rfl h.le.2.2 h.brx rfl dX0_nominate_5 ?_ ?_
  · intro x1 S h
    show rc_Z Y S 8 [some (rc_q v0), some (rc_i v1), some (rc_i v2), some (rc_q v3), none] [rc_i x1, rc_i (0 : Int32), rc_q v3]
    refine rc_i2l (pc := 8) hC dX0_nominate_8 ?_
    refine rc_r_last (pc := 9) hC dX0_nominate_9 h ?_
    intro S h
    refine rc_goto (pc := 10) (tgt := 21) hC dX0_nominate_10 rfl ?_
    refine rc_iconst (pc := 21) hC (v := (0 : Int32)) dX0_nominate_21 rfl ?_
    exact rc_iret hC rfl rfl dX0_nominate_22 h rfl
  intro E q S h
  rcases h.ite with ⟨hE, h⟩ | ⟨_, h⟩
  · subst hE
    have hps : ∀ z ∈ ([] : List ExceptionTableEntry), covers z 5 = false ∨ (z.catchType ≠ 0 ∧ ∃ nm : String, Cond.classLink RX0 z.catchType nm ∈ lw_all ∧ (rc_en 1, nm) ∈ rc_ncs) := fun z hz => nomatch hz
    refine rc_catch (pc := 5) (tgt := 13) (E := 1) hC hH.2.2.2.2 [] ⟨0, 10, 13, 13⟩ [⟨0, 10, 17, 18⟩] rfl hps rfl (by decide) q1631 (lw_o q381 rfl) rfl ?_
    refine rc_astore (pc := 13) hC (L' := [some (rc_q v0), some (rc_i v1), some (rc_i v2), some (rc_q v3), some (rc_q (some q))]) dX0_nominate_13 (Nat.le_of_ble_eq_true rfl) rfl rfl ?_
    refine rc_iconst (pc := 15) hC (v := (1 : Int32)) dX0_nominate_15 rfl ?_
    exact rc_iret hC rfl rfl dX0_nominate_16 h rfl
  rcases h.ite with ⟨hE, h⟩ | ⟨_, h⟩
  · subst hE
    have hps : ∀ z ∈ ([⟨0, 10, 13, 13⟩] : List ExceptionTableEntry), covers z 5 = false ∨ (z.catchType ≠ 0 ∧ ∃ nm : String, Cond.classLink RX0 z.catchType nm ∈ lw_all ∧ (rc_en 2, nm) ∈ rc_ncs) := fun z hz => by
      rcases List.mem_cons.mp hz with rfl | hz
      · exact Or.inr ⟨by decide, _, q1631, List.mem_of_getElem? (i := 2) rfl⟩
      exact nomatch hz
    refine rc_catch (pc := 5) (tgt := 17) (E := 2) hC hH.2.2.2.2 [⟨0, 10, 13, 13⟩] ⟨0, 10, 17, 18⟩ [] rfl hps rfl (by decide) q1650 (lw_o q1203 rfl) rfl ?_
    refine rc_astore (pc := 17) hC (L' := [some (rc_q v0), some (rc_i v1), some (rc_i v2), some (rc_q v3), some (rc_q (some q))]) dX0_nominate_17 (Nat.le_of_ble_eq_true rfl) rfl rfl ?_
    refine rc_iconst (pc := 19) hC (v := (2 : Int32)) dX0_nominate_19 rfl ?_
    exact rc_iret hC rfl rfl dX0_nominate_20 h rfl
  exact h.fail.elim
theorem rw_X0_vote_L16 {Y : rc_Y} (hC : rc_C Y cX0_vote RX0 (Option.some Jvm.ClassFile.FieldType.int) 5) (hH : rc_HW Y 10 236 yX0_vote.name [((0 : Nat), (17 : Nat), (20 : Nat), (24 : Nat)), ((0 : Nat), (17 : Nat), (24 : Nat), (18 : Nat))]) (s0 : Int64) (s1 : Int32) (s2 : Option Nat) (S : rc_S) (h : rc_Go Y rc_tI (rp_X0_vote_L16  s0 s1 s2) S) : rc_Z Y S 16 [none, none, none, none, none] [rc_l s0, rc_i s1, rc_q s2] := by
  unfold rp_X0_vote_L16 at h
  refine rc_r_last (pc := 16) hC dX0_vote_16 h ?_
  intro S h
  refine rc_goto (pc := 17) (tgt := 28) hC dX0_vote_17 rfl ?_
  refine rc_iconst (pc := 28) hC (v := (0 : Int32)) dX0_vote_28 rfl ?_
  exact rc_iret hC rfl rfl dX0_vote_29 h rfl
theorem rw_X0_vote {l : Launch} (hl : l.stackTraces = false) (v0 : Option Nat) (v1 : Int32) (v2 : Int32) (v3 : Option Nat) : rc_Ct l yX0_vote (wsW_ yX0_vote cX0_vote 5 (Option.some Jvm.ClassFile.FieldType.int) [((0 : Nat), (17 : Nat), (20 : Nat), (24 : Nat)), ((0 : Nat), (17 : Nat), (24 : Nat), (18 : Nat))]) 10 236 rc_tI (rp_X0_vote v0 v1 v2 v3) [rc_q v0, rc_i v1, rc_i v2, rc_q v3] := by
  refine rc_CtW_H hl (plainFor_of_name rY_X0) rfl (Nat.le_of_ble_eq_true rfl) (L0 := [some (rc_q v0), some (rc_i v1), some (rc_i v2), some (rc_q v3), none]) rfl ?_
  intro Y S hC hH h
  have hC : rc_C Y cX0_vote RX0 (Option.some Jvm.ClassFile.FieldType.int) 5 := hC
  unfold rp_X0_vote at h
  refine rc_aload_n (pc := 0) hC dX0_vote_0 rfl rfl ?_
  refine rc_iconst (pc := 1) hC (v := (0 : Int32)) dX0_vote_1 rfl ?_
  refine rc_aload_n (pc := 2) hC dX0_vote_2 rfl rfl ?_
  refine rc_iload_n (pc := 3) hC dX0_vote_3 rfl rfl ?_
  refine rc_iload_n (pc := 4) hC dX0_vote_4 rfl rfl ?_
  obtain ⟨⟨fs, ho⟩, h⟩ := h.is
  refine rc_callV (pc := 5) hC rfl ho (rw_X1_vote hH.1 v0 v1 v2) q1785 q1786 q1787 q116 q1788 rfl rd_X1_vote (hH.room (Nat.le_of_ble_eq_true rfl) (Nat.le_of_ble_eq_true rfl)) rfl rfl (Nat.le_of_ble_eq_true rfl) 2 rfl h.le.2.2 h.brx rfl dX0_vote_5 ?_ ?_
  · intro x1 S h
    show rc_Z Y S 8 [some (rc_q v0), some (rc_i v1), some (rc_i v2), some (rc_q v3), none] [rc_i x1, rc_i (0 : Int32), rc_q v3]
    refine rc_if_eq (pc := 8) (tgt := 15) hC dX0_vote_8 rfl h ?_ ?_
    · intro _ h
      refine rc_lconst (pc := 15) hC (v := (0 : Int64)) dX0_vote_15 rfl ?_
      refine rc_drop [false, false, false, false, false] (L' := [none, none, none, none, none]) rfl ?_
      exact rw_X0_vote_L16 hC hH  (0 : Int64) (0 : Int32) v3 S h
    intro _ h
    refine rc_lconst (pc := 11) hC (v := (1 : Int64)) dX0_vote_11 rfl ?_
    refine rc_goto (pc := 12) (tgt := 16) hC dX0_vote_12 rfl ?_
    refine rc_drop [false, false, false, false, false] (L' := [none, none, none, none, none]) rfl ?_
    exact rw_X0_vote_L16 hC hH  (1 : Int64) (0 : Int32) v3 S h
  intro E q S h
  rcases h.ite with ⟨hE, h⟩ | ⟨_, h⟩
  · subst hE
    have hps : ∀ z ∈ ([] : List ExceptionTableEntry), covers z 5 = false ∨ (z.catchType ≠ 0 ∧ ∃ nm : String, Cond.classLink RX0 z.catchType nm ∈ lw_all ∧ (rc_en 0, nm) ∈ rc_ncs) := fun z hz => nomatch hz
    refine rc_catch (pc := 5) (tgt := 20) (E := 0) hC hH.2.2.2.2 [] ⟨0, 17, 20, 24⟩ [⟨0, 17, 24, 18⟩] rfl hps rfl (by decide) q1664 (lw_o q1680 rfl) rfl ?_
    refine rc_astore (pc := 20) hC (L' := [some (rc_q v0), some (rc_i v1), some (rc_i v2), some (rc_q v3), some (rc_q (some q))]) dX0_vote_20 (Nat.le_of_ble_eq_true rfl) rfl rfl ?_
    refine rc_iconst (pc := 22) hC (v := (1 : Int32)) dX0_vote_22 rfl ?_
    exact rc_iret hC rfl rfl dX0_vote_23 h rfl
  rcases h.ite with ⟨hE, h⟩ | ⟨_, h⟩
  · subst hE
    have hps : ∀ z ∈ ([⟨0, 17, 20, 24⟩] : List ExceptionTableEntry), covers z 5 = false ∨ (z.catchType ≠ 0 ∧ ∃ nm : String, Cond.classLink RX0 z.catchType nm ∈ lw_all ∧ (rc_en 2, nm) ∈ rc_ncs) := fun z hz => by
      rcases List.mem_cons.mp hz with rfl | hz
      · exact Or.inr ⟨by decide, _, q1664, List.mem_of_getElem? (i := 1) rfl⟩
      exact nomatch hz
    refine rc_catch (pc := 5) (tgt := 24) (E := 2) hC hH.2.2.2.2 [⟨0, 17, 20, 24⟩] ⟨0, 17, 24, 18⟩ [] rfl hps rfl (by decide) q1650 (lw_o q1203 rfl) rfl ?_
    refine rc_astore (pc := 24) hC (L' := [some (rc_q v0), some (rc_i v1), some (rc_i v2), some (rc_q v3), some (rc_q (some q))]) dX0_vote_24 (Nat.le_of_ble_eq_true rfl) rfl rfl ?_
    refine rc_iconst (pc := 26) hC (v := (2 : Int32)) dX0_vote_26 rfl ?_
    exact rc_iret hC rfl rfl dX0_vote_27 h rfl
  exact h.fail.elim
theorem rw_X0_passNights {l : Launch} (hl : l.stackTraces = false) (v0 : Option Nat) (v1 : Int32) (v2 : Option Nat) : rc_Ct l yX0_passNights (wsW_ yX0_passNights cX0_passNights 4 (Option.some Jvm.ClassFile.FieldType.int) [((0 : Nat), (9 : Nat), (12 : Nat), (13 : Nat)), ((0 : Nat), (9 : Nat), (15 : Nat), (18 : Nat))]) 10 235 rc_tI (rp_X0_passNights v0 v1 v2) [rc_q v0, rc_i v1, rc_q v2] := by
  refine rc_CtW_H hl (plainFor_of_name rY_X0) rfl (Nat.le_of_ble_eq_true rfl) (L0 := [some (rc_q v0), some (rc_i v1), some (rc_q v2), none]) rfl ?_
  intro Y S hC hH h
  have hC : rc_C Y cX0_passNights RX0 (Option.some Jvm.ClassFile.FieldType.int) 4 := hC
  unfold rp_X0_passNights at h
  refine rc_aload_n (pc := 0) hC dX0_passNights_0 rfl rfl ?_
  refine rc_iconst (pc := 1) hC (v := (0 : Int32)) dX0_passNights_1 rfl ?_
  refine rc_aload_n (pc := 2) hC dX0_passNights_2 rfl rfl ?_
  refine rc_iload_n (pc := 3) hC dX0_passNights_3 rfl rfl ?_
  obtain ⟨⟨fs, ho⟩, h⟩ := h.is
  refine rc_callV (pc := 4) hC rfl ho (rw_X1_passNights hH.1 v0 v1) q1794 q1795 q1796 q116 q1797 rfl rd_X1_passNights (hH.room (Nat.le_of_ble_eq_true rfl) (Nat.le_of_ble_eq_true rfl)) rfl rfl (Nat.le_of_ble_eq_true rfl) 1 rfl h.le.2.2 h.brx rfl dX0_passNights_4 ?_ ?_
  · intro x1 S h
    show rc_Z Y S 7 [some (rc_q v0), some (rc_i v1), some (rc_q v2), none] [rc_i x1, rc_i (0 : Int32), rc_q v2]
    refine rc_i2l (pc := 7) hC dX0_passNights_7 ?_
    refine rc_r_last (pc := 8) hC dX0_passNights_8 h ?_
    intro S h
    refine rc_goto (pc := 9) (tgt := 18) hC dX0_passNights_9 rfl ?_
    refine rc_iconst (pc := 18) hC (v := (0 : Int32)) dX0_passNights_18 rfl ?_
    exact rc_iret hC rfl rfl dX0_passNights_19 h rfl
  intro E q S h
  rcases h.ite with ⟨hE, h⟩ | ⟨_, h⟩
  · subst hE
    have hps : ∀ z ∈ ([] : List ExceptionTableEntry), covers z 4 = false ∨ (z.catchType ≠ 0 ∧ ∃ nm : String, Cond.classLink RX0 z.catchType nm ∈ lw_all ∧ (rc_en 1, nm) ∈ rc_ncs) := fun z hz => nomatch hz
    refine rc_catch (pc := 4) (tgt := 12) (E := 1) hC hH.2.2.2.2 [] ⟨0, 9, 12, 13⟩ [⟨0, 9, 15, 18⟩] rfl hps rfl (by decide) q1631 (lw_o q381 rfl) rfl ?_
    refine rc_astore_n (pc := 12) hC (L' := [some (rc_q v0), some (rc_i v1), some (rc_q v2), some (rc_q (some q))]) dX0_passNights_12 rfl (Nat.le_of_ble_eq_true rfl) rfl rfl ?_
    refine rc_iconst (pc := 13) hC (v := (1 : Int32)) dX0_passNights_13 rfl ?_
    exact rc_iret hC rfl rfl dX0_passNights_14 h rfl
  rcases h.ite with ⟨hE, h⟩ | ⟨_, h⟩
  · subst hE
    have hps : ∀ z ∈ ([⟨0, 9, 12, 13⟩] : List ExceptionTableEntry), covers z 4 = false ∨ (z.catchType ≠ 0 ∧ ∃ nm : String, Cond.classLink RX0 z.catchType nm ∈ lw_all ∧ (rc_en 2, nm) ∈ rc_ncs) := fun z hz => by
      rcases List.mem_cons.mp hz with rfl | hz
      · exact Or.inr ⟨by decide, _, q1631, List.mem_of_getElem? (i := 2) rfl⟩
      exact nomatch hz
    refine rc_catch (pc := 4) (tgt := 15) (E := 2) hC hH.2.2.2.2 [⟨0, 9, 12, 13⟩] ⟨0, 9, 15, 18⟩ [] rfl hps rfl (by decide) q1650 (lw_o q1203 rfl) rfl ?_
    refine rc_astore_n (pc := 15) hC (L' := [some (rc_q v0), some (rc_i v1), some (rc_q v2), some (rc_q (some q))]) dX0_passNights_15 rfl (Nat.le_of_ble_eq_true rfl) rfl rfl ?_
    refine rc_iconst (pc := 16) hC (v := (2 : Int32)) dX0_passNights_16 rfl ?_
    exact rc_iret hC rfl rfl dX0_passNights_17 h rfl
  exact h.fail.elim
theorem rw_X0_restoreSnapshot {l : Launch} (hl : l.stackTraces = false) (v0 : Option Nat) (v1 : Option Nat) : rc_Ct l yX0_restoreSnapshot (wsW_ yX0_restoreSnapshot cX0_restoreSnapshot 3 (Option.some Jvm.ClassFile.FieldType.int) [((0 : Nat), (8 : Nat), (11 : Nat), (61 : Nat))]) 9 214 rc_tI (rp_X0_restoreSnapshot v0 v1) [rc_q v0, rc_q v1] := by
  refine rc_CtW_H hl (plainFor_of_name rY_X0) rfl (Nat.le_of_ble_eq_true rfl) (L0 := [some (rc_q v0), some (rc_q v1), none]) rfl ?_
  intro Y S hC hH h
  have hC : rc_C Y cX0_restoreSnapshot RX0 (Option.some Jvm.ClassFile.FieldType.int) 3 := hC
  unfold rp_X0_restoreSnapshot at h
  refine rc_aload_n (pc := 0) hC dX0_restoreSnapshot_0 rfl rfl ?_
  refine rc_iconst (pc := 1) hC (v := (0 : Int32)) dX0_restoreSnapshot_1 rfl ?_
  refine rc_aload_n (pc := 2) hC dX0_restoreSnapshot_2 rfl rfl ?_
  obtain ⟨⟨fs, ho⟩, h⟩ := h.is
  refine rc_callV (pc := 3) hC rfl ho (rw_X1_restoreSnapshot hH.1 v0) q1803 q1804 q1805 q116 q1806 rfl rd_X1_restoreSnapshot (hH.room (Nat.le_of_ble_eq_true rfl) (Nat.le_of_ble_eq_true rfl)) rfl rfl (Nat.le_of_ble_eq_true rfl) 0 rfl h.le.2.2 h.brx rfl dX0_restoreSnapshot_3 ?_ ?_
  · intro x1 S h
    show rc_Z Y S 6 [some (rc_q v0), some (rc_q v1), none] [rc_i x1, rc_i (0 : Int32), rc_q v1]
    refine rc_i2l (pc := 6) hC dX0_restoreSnapshot_6 ?_
    refine rc_r_last (pc := 7) hC dX0_restoreSnapshot_7 h ?_
    intro S h
    refine rc_goto (pc := 8) (tgt := 14) hC dX0_restoreSnapshot_8 rfl ?_
    refine rc_iconst (pc := 14) hC (v := (0 : Int32)) dX0_restoreSnapshot_14 rfl ?_
    exact rc_iret hC rfl rfl dX0_restoreSnapshot_15 h rfl
  intro E q S h
  rcases h.ite with ⟨hE, h⟩ | ⟨_, h⟩
  · subst hE
    have hps : ∀ z ∈ ([] : List ExceptionTableEntry), covers z 3 = false ∨ (z.catchType ≠ 0 ∧ ∃ nm : String, Cond.classLink RX0 z.catchType nm ∈ lw_all ∧ (rc_en 3, nm) ∈ rc_ncs) := fun z hz => nomatch hz
    refine rc_catch (pc := 3) (tgt := 11) (E := 3) hC hH.2.2.2.2 [] ⟨0, 8, 11, 61⟩ [] rfl hps rfl (by decide) q1802 (lw_o q1385 rfl) rfl ?_
    refine rc_astore_n (pc := 11) hC (L' := [some (rc_q v0), some (rc_q v1), some (rc_q (some q))]) dX0_restoreSnapshot_11 rfl (Nat.le_of_ble_eq_true rfl) rfl rfl ?_
    refine rc_iconst (pc := 12) hC (v := (1 : Int32)) dX0_restoreSnapshot_12 rfl ?_
    exact rc_iret hC rfl rfl dX0_restoreSnapshot_13 h rfl
  exact h.fail.elim
theorem rw_X0_warmth {l : Launch} (hl : l.stackTraces = false) (v0 : Option Nat) (v1 : Int32) (v2 : Option Nat) : rc_Ct l yX0_warmth (wsW_ yX0_warmth cX0_warmth 4 (Option.some Jvm.ClassFile.FieldType.int) [((0 : Nat), (9 : Nat), (12 : Nat), (24 : Nat))]) 9 152 rc_tI (rp_X0_warmth v0 v1 v2) [rc_q v0, rc_i v1, rc_q v2] := by
  refine rc_CtW_H hl (plainFor_of_name rY_X0) rfl (Nat.le_of_ble_eq_true rfl) (L0 := [some (rc_q v0), some (rc_i v1), some (rc_q v2), none]) rfl ?_
  intro Y S hC hH h
  have hC : rc_C Y cX0_warmth RX0 (Option.some Jvm.ClassFile.FieldType.int) 4 := hC
  unfold rp_X0_warmth at h
  refine rc_aload_n (pc := 0) hC dX0_warmth_0 rfl rfl ?_
  refine rc_iconst (pc := 1) hC (v := (0 : Int32)) dX0_warmth_1 rfl ?_
  refine rc_aload_n (pc := 2) hC dX0_warmth_2 rfl rfl ?_
  refine rc_iload_n (pc := 3) hC dX0_warmth_3 rfl rfl ?_
  obtain ⟨⟨fs, ho⟩, h⟩ := h.is
  refine rc_callV (pc := 4) hC rfl ho (rw_X1_warmth hH.1 v0 v1) q1819 q1820 q1821 q116 q1822 rfl rd_X1_warmth (hH.room (Nat.le_of_ble_eq_true rfl) (Nat.le_of_ble_eq_true rfl)) rfl rfl (Nat.le_of_ble_eq_true rfl) 1 rfl h.le.2.2 h.brx rfl dX0_warmth_4 ?_ ?_
  · intro x1 S h
    show rc_Z Y S 7 [some (rc_q v0), some (rc_i v1), some (rc_q v2), none] [rc_i x1, rc_i (0 : Int32), rc_q v2]
    refine rc_i2l (pc := 7) hC dX0_warmth_7 ?_
    refine rc_r_last (pc := 8) hC dX0_warmth_8 h ?_
    intro S h
    refine rc_goto (pc := 9) (tgt := 15) hC dX0_warmth_9 rfl ?_
    refine rc_iconst (pc := 15) hC (v := (0 : Int32)) dX0_warmth_15 rfl ?_
    exact rc_iret hC rfl rfl dX0_warmth_16 h rfl
  intro E q S h
  rcases h.ite with ⟨hE, h⟩ | ⟨_, h⟩
  · subst hE
    have hps : ∀ z ∈ ([] : List ExceptionTableEntry), covers z 4 = false ∨ (z.catchType ≠ 0 ∧ ∃ nm : String, Cond.classLink RX0 z.catchType nm ∈ lw_all ∧ (rc_en 0, nm) ∈ rc_ncs) := fun z hz => nomatch hz
    refine rc_catch (pc := 4) (tgt := 12) (E := 0) hC hH.2.2.2.2 [] ⟨0, 9, 12, 24⟩ [] rfl hps rfl (by decide) q1664 (lw_o q1680 rfl) rfl ?_
    refine rc_astore_n (pc := 12) hC (L' := [some (rc_q v0), some (rc_i v1), some (rc_q v2), some (rc_q (some q))]) dX0_warmth_12 rfl (Nat.le_of_ble_eq_true rfl) rfl rfl ?_
    refine rc_iconst (pc := 13) hC (v := (1 : Int32)) dX0_warmth_13 rfl ?_
    exact rc_iret hC rfl rfl dX0_warmth_14 h rfl
  exact h.fail.elim
theorem rw_X0_ownerOf {l : Launch} (hl : l.stackTraces = false) (v0 : Option Nat) (v1 : Int32) (v2 : Option Nat) : rc_Ct l yX0_ownerOf (wsW_ yX0_ownerOf cX0_ownerOf 4 (Option.some Jvm.ClassFile.FieldType.int) [((0 : Nat), (9 : Nat), (12 : Nat), (24 : Nat))]) 9 152 rc_tI (rp_X0_ownerOf v0 v1 v2) [rc_q v0, rc_i v1, rc_q v2] := by
  refine rc_CtW_H hl (plainFor_of_name rY_X0) rfl (Nat.le_of_ble_eq_true rfl) (L0 := [some (rc_q v0), some (rc_i v1), some (rc_q v2), none]) rfl ?_
  intro Y S hC hH h
  have hC : rc_C Y cX0_ownerOf RX0 (Option.some Jvm.ClassFile.FieldType.int) 4 := hC
  unfold rp_X0_ownerOf at h
  refine rc_aload_n (pc := 0) hC dX0_ownerOf_0 rfl rfl ?_
  refine rc_iconst (pc := 1) hC (v := (0 : Int32)) dX0_ownerOf_1 rfl ?_
  refine rc_aload_n (pc := 2) hC dX0_ownerOf_2 rfl rfl ?_
  refine rc_iload_n (pc := 3) hC dX0_ownerOf_3 rfl rfl ?_
  obtain ⟨⟨fs, ho⟩, h⟩ := h.is
  refine rc_callV (pc := 4) hC rfl ho (rw_X1_ownerOf hH.1 v0 v1) q1826 q1744 q1745 q116 q1746 rfl rd_X1_ownerOf (hH.room (Nat.le_of_ble_eq_true rfl) (Nat.le_of_ble_eq_true rfl)) rfl rfl (Nat.le_of_ble_eq_true rfl) 1 rfl h.le.2.2 h.brx rfl dX0_ownerOf_4 ?_ ?_
  · intro x1 S h
    show rc_Z Y S 7 [some (rc_q v0), some (rc_i v1), some (rc_q v2), none] [rc_i x1, rc_i (0 : Int32), rc_q v2]
    refine rc_i2l (pc := 7) hC dX0_ownerOf_7 ?_
    refine rc_r_last (pc := 8) hC dX0_ownerOf_8 h ?_
    intro S h
    refine rc_goto (pc := 9) (tgt := 15) hC dX0_ownerOf_9 rfl ?_
    refine rc_iconst (pc := 15) hC (v := (0 : Int32)) dX0_ownerOf_15 rfl ?_
    exact rc_iret hC rfl rfl dX0_ownerOf_16 h rfl
  intro E q S h
  rcases h.ite with ⟨hE, h⟩ | ⟨_, h⟩
  · subst hE
    have hps : ∀ z ∈ ([] : List ExceptionTableEntry), covers z 4 = false ∨ (z.catchType ≠ 0 ∧ ∃ nm : String, Cond.classLink RX0 z.catchType nm ∈ lw_all ∧ (rc_en 0, nm) ∈ rc_ncs) := fun z hz => nomatch hz
    refine rc_catch (pc := 4) (tgt := 12) (E := 0) hC hH.2.2.2.2 [] ⟨0, 9, 12, 24⟩ [] rfl hps rfl (by decide) q1664 (lw_o q1680 rfl) rfl ?_
    refine rc_astore_n (pc := 12) hC (L' := [some (rc_q v0), some (rc_i v1), some (rc_q v2), some (rc_q (some q))]) dX0_ownerOf_12 rfl (Nat.le_of_ble_eq_true rfl) rfl rfl ?_
    refine rc_iconst (pc := 13) hC (v := (1 : Int32)) dX0_ownerOf_13 rfl ?_
    exact rc_iret hC rfl rfl dX0_ownerOf_14 h rfl
  exact h.fail.elim
theorem rw_X0_catOn {l : Launch} (hl : l.stackTraces = false) (v0 : Option Nat) (v1 : Int32) (v2 : Option Nat) : rc_Ct l yX0_catOn (wsW_ yX0_catOn cX0_catOn 4 (Option.some Jvm.ClassFile.FieldType.int) [((0 : Nat), (9 : Nat), (12 : Nat), (24 : Nat))]) 9 152 rc_tI (rp_X0_catOn v0 v1 v2) [rc_q v0, rc_i v1, rc_q v2] := by
  refine rc_CtW_H hl (plainFor_of_name rY_X0) rfl (Nat.le_of_ble_eq_true rfl) (L0 := [some (rc_q v0), some (rc_i v1), some (rc_q v2), none]) rfl ?_
  intro Y S hC hH h
  have hC : rc_C Y cX0_catOn RX0 (Option.some Jvm.ClassFile.FieldType.int) 4 := hC
  unfold rp_X0_catOn at h
  refine rc_aload_n (pc := 0) hC dX0_catOn_0 rfl rfl ?_
  refine rc_iconst (pc := 1) hC (v := (0 : Int32)) dX0_catOn_1 rfl ?_
  refine rc_aload_n (pc := 2) hC dX0_catOn_2 rfl rfl ?_
  refine rc_iload_n (pc := 3) hC dX0_catOn_3 rfl rfl ?_
  obtain ⟨⟨fs, ho⟩, h⟩ := h.is
  refine rc_callV (pc := 4) hC rfl ho (rw_X1_catOn hH.1 v0 v1) q1830 q1831 q1832 q116 q1833 rfl rd_X1_catOn (hH.room (Nat.le_of_ble_eq_true rfl) (Nat.le_of_ble_eq_true rfl)) rfl rfl (Nat.le_of_ble_eq_true rfl) 1 rfl h.le.2.2 h.brx rfl dX0_catOn_4 ?_ ?_
  · intro x1 S h
    show rc_Z Y S 7 [some (rc_q v0), some (rc_i v1), some (rc_q v2), none] [rc_i x1, rc_i (0 : Int32), rc_q v2]
    refine rc_i2l (pc := 7) hC dX0_catOn_7 ?_
    refine rc_r_last (pc := 8) hC dX0_catOn_8 h ?_
    intro S h
    refine rc_goto (pc := 9) (tgt := 15) hC dX0_catOn_9 rfl ?_
    refine rc_iconst (pc := 15) hC (v := (0 : Int32)) dX0_catOn_15 rfl ?_
    exact rc_iret hC rfl rfl dX0_catOn_16 h rfl
  intro E q S h
  rcases h.ite with ⟨hE, h⟩ | ⟨_, h⟩
  · subst hE
    have hps : ∀ z ∈ ([] : List ExceptionTableEntry), covers z 4 = false ∨ (z.catchType ≠ 0 ∧ ∃ nm : String, Cond.classLink RX0 z.catchType nm ∈ lw_all ∧ (rc_en 0, nm) ∈ rc_ncs) := fun z hz => nomatch hz
    refine rc_catch (pc := 4) (tgt := 12) (E := 0) hC hH.2.2.2.2 [] ⟨0, 9, 12, 24⟩ [] rfl hps rfl (by decide) q1664 (lw_o q1680 rfl) rfl ?_
    refine rc_astore_n (pc := 12) hC (L' := [some (rc_q v0), some (rc_i v1), some (rc_q v2), some (rc_q (some q))]) dX0_catOn_12 rfl (Nat.le_of_ble_eq_true rfl) rfl rfl ?_
    refine rc_iconst (pc := 13) hC (v := (1 : Int32)) dX0_catOn_13 rfl ?_
    exact rc_iret hC rfl rfl dX0_catOn_14 h rfl
  exact h.fail.elim
theorem rw_X0_gutterEnds {l : Launch} (hl : l.stackTraces = false) (v0 : Option Nat) (v1 : Int32) (v2 : Option Nat) : rc_Ct l yX0_gutterEnds (wsW_ yX0_gutterEnds cX0_gutterEnds 4 (Option.some Jvm.ClassFile.FieldType.int) [((0 : Nat), (9 : Nat), (12 : Nat), (24 : Nat))]) 9 152 rc_tI (rp_X0_gutterEnds v0 v1 v2) [rc_q v0, rc_i v1, rc_q v2] := by
  refine rc_CtW_H hl (plainFor_of_name rY_X0) rfl (Nat.le_of_ble_eq_true rfl) (L0 := [some (rc_q v0), some (rc_i v1), some (rc_q v2), none]) rfl ?_
  intro Y S hC hH h
  have hC : rc_C Y cX0_gutterEnds RX0 (Option.some Jvm.ClassFile.FieldType.int) 4 := hC
  unfold rp_X0_gutterEnds at h
  refine rc_aload_n (pc := 0) hC dX0_gutterEnds_0 rfl rfl ?_
  refine rc_iconst (pc := 1) hC (v := (0 : Int32)) dX0_gutterEnds_1 rfl ?_
  refine rc_aload_n (pc := 2) hC dX0_gutterEnds_2 rfl rfl ?_
  refine rc_iload_n (pc := 3) hC dX0_gutterEnds_3 rfl rfl ?_
  obtain ⟨⟨fs, ho⟩, h⟩ := h.is
  refine rc_callV (pc := 4) hC rfl ho (rw_X1_gutterEnds hH.1 v0 v1) q1837 q1838 q1839 q116 q1840 rfl rd_X1_gutterEnds (hH.room (Nat.le_of_ble_eq_true rfl) (Nat.le_of_ble_eq_true rfl)) rfl rfl (Nat.le_of_ble_eq_true rfl) 1 rfl h.le.2.2 h.brx rfl dX0_gutterEnds_4 ?_ ?_
  · intro x1 S h
    show rc_Z Y S 7 [some (rc_q v0), some (rc_i v1), some (rc_q v2), none] [rc_i x1, rc_i (0 : Int32), rc_q v2]
    refine rc_i2l (pc := 7) hC dX0_gutterEnds_7 ?_
    refine rc_r_last (pc := 8) hC dX0_gutterEnds_8 h ?_
    intro S h
    refine rc_goto (pc := 9) (tgt := 15) hC dX0_gutterEnds_9 rfl ?_
    refine rc_iconst (pc := 15) hC (v := (0 : Int32)) dX0_gutterEnds_15 rfl ?_
    exact rc_iret hC rfl rfl dX0_gutterEnds_16 h rfl
  intro E q S h
  rcases h.ite with ⟨hE, h⟩ | ⟨_, h⟩
  · subst hE
    have hps : ∀ z ∈ ([] : List ExceptionTableEntry), covers z 4 = false ∨ (z.catchType ≠ 0 ∧ ∃ nm : String, Cond.classLink RX0 z.catchType nm ∈ lw_all ∧ (rc_en 0, nm) ∈ rc_ncs) := fun z hz => nomatch hz
    refine rc_catch (pc := 4) (tgt := 12) (E := 0) hC hH.2.2.2.2 [] ⟨0, 9, 12, 24⟩ [] rfl hps rfl (by decide) q1664 (lw_o q1680 rfl) rfl ?_
    refine rc_astore_n (pc := 12) hC (L' := [some (rc_q v0), some (rc_i v1), some (rc_q v2), some (rc_q (some q))]) dX0_gutterEnds_12 rfl (Nat.le_of_ble_eq_true rfl) rfl rfl ?_
    refine rc_iconst (pc := 13) hC (v := (1 : Int32)) dX0_gutterEnds_13 rfl ?_
    exact rc_iret hC rfl rfl dX0_gutterEnds_14 h rfl
  exact h.fail.elim
theorem rw_X0_width {l : Launch} (hl : l.stackTraces = false) (v0 : Option Nat) (v1 : Int32) (v2 : Option Nat) : rc_Ct l yX0_width (wsW_ yX0_width cX0_width 4 (Option.some Jvm.ClassFile.FieldType.int) [((0 : Nat), (9 : Nat), (12 : Nat), (24 : Nat))]) 9 152 rc_tI (rp_X0_width v0 v1 v2) [rc_q v0, rc_i v1, rc_q v2] := by
  refine rc_CtW_H hl (plainFor_of_name rY_X0) rfl (Nat.le_of_ble_eq_true rfl) (L0 := [some (rc_q v0), some (rc_i v1), some (rc_q v2), none]) rfl ?_
  intro Y S hC hH h
  have hC : rc_C Y cX0_width RX0 (Option.some Jvm.ClassFile.FieldType.int) 4 := hC
  unfold rp_X0_width at h
  refine rc_aload_n (pc := 0) hC dX0_width_0 rfl rfl ?_
  refine rc_iconst (pc := 1) hC (v := (0 : Int32)) dX0_width_1 rfl ?_
  refine rc_aload_n (pc := 2) hC dX0_width_2 rfl rfl ?_
  refine rc_iload_n (pc := 3) hC dX0_width_3 rfl rfl ?_
  obtain ⟨⟨fs, ho⟩, h⟩ := h.is
  refine rc_callV (pc := 4) hC rfl ho (rw_X1_width hH.1 v0 v1) q1856 q1857 q1858 q116 q1859 rfl rd_X1_width (hH.room (Nat.le_of_ble_eq_true rfl) (Nat.le_of_ble_eq_true rfl)) rfl rfl (Nat.le_of_ble_eq_true rfl) 1 rfl h.le.2.2 h.brx rfl dX0_width_4 ?_ ?_
  · intro x1 S h
    show rc_Z Y S 7 [some (rc_q v0), some (rc_i v1), some (rc_q v2), none] [rc_i x1, rc_i (0 : Int32), rc_q v2]
    refine rc_i2l (pc := 7) hC dX0_width_7 ?_
    refine rc_r_last (pc := 8) hC dX0_width_8 h ?_
    intro S h
    refine rc_goto (pc := 9) (tgt := 15) hC dX0_width_9 rfl ?_
    refine rc_iconst (pc := 15) hC (v := (0 : Int32)) dX0_width_15 rfl ?_
    exact rc_iret hC rfl rfl dX0_width_16 h rfl
  intro E q S h
  rcases h.ite with ⟨hE, h⟩ | ⟨_, h⟩
  · subst hE
    have hps : ∀ z ∈ ([] : List ExceptionTableEntry), covers z 4 = false ∨ (z.catchType ≠ 0 ∧ ∃ nm : String, Cond.classLink RX0 z.catchType nm ∈ lw_all ∧ (rc_en 0, nm) ∈ rc_ncs) := fun z hz => nomatch hz
    refine rc_catch (pc := 4) (tgt := 12) (E := 0) hC hH.2.2.2.2 [] ⟨0, 9, 12, 24⟩ [] rfl hps rfl (by decide) q1664 (lw_o q1680 rfl) rfl ?_
    refine rc_astore_n (pc := 12) hC (L' := [some (rc_q v0), some (rc_i v1), some (rc_q v2), some (rc_q (some q))]) dX0_width_12 rfl (Nat.le_of_ble_eq_true rfl) rfl rfl ?_
    refine rc_iconst (pc := 13) hC (v := (1 : Int32)) dX0_width_13 rfl ?_
    exact rc_iret hC rfl rfl dX0_width_14 h rfl
  exact h.fail.elim
theorem rw_X0_widestWay {l : Launch} (hl : l.stackTraces = false) (v0 : Option Nat) (v1 : Int32) (v2 : Int32) (v3 : Option Nat) : rc_Ct l yX0_widestWay (wsW_ yX0_widestWay cX0_widestWay 5 (Option.some Jvm.ClassFile.FieldType.int) [((0 : Nat), (10 : Nat), (13 : Nat), (24 : Nat))]) 9 153 rc_tI (rp_X0_widestWay v0 v1 v2 v3) [rc_q v0, rc_i v1, rc_i v2, rc_q v3] := by
  refine rc_CtW_H hl (plainFor_of_name rY_X0) rfl (Nat.le_of_ble_eq_true rfl) (L0 := [some (rc_q v0), some (rc_i v1), some (rc_i v2), some (rc_q v3), none]) rfl ?_
  intro Y S hC hH h
  have hC : rc_C Y cX0_widestWay RX0 (Option.some Jvm.ClassFile.FieldType.int) 5 := hC
  unfold rp_X0_widestWay at h
  refine rc_aload_n (pc := 0) hC dX0_widestWay_0 rfl rfl ?_
  refine rc_iconst (pc := 1) hC (v := (0 : Int32)) dX0_widestWay_1 rfl ?_
  refine rc_aload_n (pc := 2) hC dX0_widestWay_2 rfl rfl ?_
  refine rc_iload_n (pc := 3) hC dX0_widestWay_3 rfl rfl ?_
  refine rc_iload_n (pc := 4) hC dX0_widestWay_4 rfl rfl ?_
  obtain ⟨⟨fs, ho⟩, h⟩ := h.is
  refine rc_callV (pc := 5) hC rfl ho (rw_X1_widestWay hH.1 v0 v1 v2) q1864 q1865 q1866 q116 q1867 rfl rd_X1_widestWay (hH.room (Nat.le_of_ble_eq_true rfl) (Nat.le_of_ble_eq_true rfl)) rfl rfl (Nat.le_of_ble_eq_true rfl) 2 rfl h.le.2.2 h.brx rfl dX0_widestWay_5 ?_ ?_
  · intro x1 S h
    show rc_Z Y S 8 [some (rc_q v0), some (rc_i v1), some (rc_i v2), some (rc_q v3), none] [rc_i x1, rc_i (0 : Int32), rc_q v3]
    refine rc_i2l (pc := 8) hC dX0_widestWay_8 ?_
    refine rc_r_last (pc := 9) hC dX0_widestWay_9 h ?_
    intro S h
    refine rc_goto (pc := 10) (tgt := 17) hC dX0_widestWay_10 rfl ?_
    refine rc_iconst (pc := 17) hC (v := (0 : Int32)) dX0_widestWay_17 rfl ?_
    exact rc_iret hC rfl rfl dX0_widestWay_18 h rfl
  intro E q S h
  rcases h.ite with ⟨hE, h⟩ | ⟨_, h⟩
  · subst hE
    have hps : ∀ z ∈ ([] : List ExceptionTableEntry), covers z 5 = false ∨ (z.catchType ≠ 0 ∧ ∃ nm : String, Cond.classLink RX0 z.catchType nm ∈ lw_all ∧ (rc_en 0, nm) ∈ rc_ncs) := fun z hz => nomatch hz
    refine rc_catch (pc := 5) (tgt := 13) (E := 0) hC hH.2.2.2.2 [] ⟨0, 10, 13, 24⟩ [] rfl hps rfl (by decide) q1664 (lw_o q1680 rfl) rfl ?_
    refine rc_astore (pc := 13) hC (L' := [some (rc_q v0), some (rc_i v1), some (rc_i v2), some (rc_q v3), some (rc_q (some q))]) dX0_widestWay_13 (Nat.le_of_ble_eq_true rfl) rfl rfl ?_
    refine rc_iconst (pc := 15) hC (v := (1 : Int32)) dX0_widestWay_15 rfl ?_
    exact rc_iret hC rfl rfl dX0_widestWay_16 h rfl
  exact h.fail.elim
theorem rw_X0_girth {l : Launch} (hl : l.stackTraces = false) (v0 : Option Nat) (v1 : Int32) (v2 : Option Nat) : rc_Ct l yX0_girth (wsW_ yX0_girth cX0_girth 4 (Option.some Jvm.ClassFile.FieldType.int) [((0 : Nat), (9 : Nat), (12 : Nat), (24 : Nat))]) 9 152 rc_tI (rp_X0_girth v0 v1 v2) [rc_q v0, rc_i v1, rc_q v2] := by
  refine rc_CtW_H hl (plainFor_of_name rY_X0) rfl (Nat.le_of_ble_eq_true rfl) (L0 := [some (rc_q v0), some (rc_i v1), some (rc_q v2), none]) rfl ?_
  intro Y S hC hH h
  have hC : rc_C Y cX0_girth RX0 (Option.some Jvm.ClassFile.FieldType.int) 4 := hC
  unfold rp_X0_girth at h
  refine rc_aload_n (pc := 0) hC dX0_girth_0 rfl rfl ?_
  refine rc_iconst (pc := 1) hC (v := (0 : Int32)) dX0_girth_1 rfl ?_
  refine rc_aload_n (pc := 2) hC dX0_girth_2 rfl rfl ?_
  refine rc_iload_n (pc := 3) hC dX0_girth_3 rfl rfl ?_
  obtain ⟨⟨fs, ho⟩, h⟩ := h.is
  refine rc_callV (pc := 4) hC rfl ho (rw_X1_girth hH.1 v0 v1) q1881 q1882 q1883 q116 q1884 rfl rd_X1_girth (hH.room (Nat.le_of_ble_eq_true rfl) (Nat.le_of_ble_eq_true rfl)) rfl rfl (Nat.le_of_ble_eq_true rfl) 1 rfl h.le.2.2 h.brx rfl dX0_girth_4 ?_ ?_
  · intro x1 S h
    show rc_Z Y S 7 [some (rc_q v0), some (rc_i v1), some (rc_q v2), none] [rc_i x1, rc_i (0 : Int32), rc_q v2]
    refine rc_i2l (pc := 7) hC dX0_girth_7 ?_
    refine rc_r_last (pc := 8) hC dX0_girth_8 h ?_
    intro S h
    refine rc_goto (pc := 9) (tgt := 15) hC dX0_girth_9 rfl ?_
    refine rc_iconst (pc := 15) hC (v := (0 : Int32)) dX0_girth_15 rfl ?_
    exact rc_iret hC rfl rfl dX0_girth_16 h rfl
  intro E q S h
  rcases h.ite with ⟨hE, h⟩ | ⟨_, h⟩
  · subst hE
    have hps : ∀ z ∈ ([] : List ExceptionTableEntry), covers z 4 = false ∨ (z.catchType ≠ 0 ∧ ∃ nm : String, Cond.classLink RX0 z.catchType nm ∈ lw_all ∧ (rc_en 0, nm) ∈ rc_ncs) := fun z hz => nomatch hz
    refine rc_catch (pc := 4) (tgt := 12) (E := 0) hC hH.2.2.2.2 [] ⟨0, 9, 12, 24⟩ [] rfl hps rfl (by decide) q1664 (lw_o q1680 rfl) rfl ?_
    refine rc_astore_n (pc := 12) hC (L' := [some (rc_q v0), some (rc_i v1), some (rc_q v2), some (rc_q (some q))]) dX0_girth_12 rfl (Nat.le_of_ble_eq_true rfl) rfl rfl ?_
    refine rc_iconst (pc := 13) hC (v := (1 : Int32)) dX0_girth_13 rfl ?_
    exact rc_iret hC rfl rfl dX0_girth_14 h rfl
  exact h.fail.elim
theorem rw_X0_power {l : Launch} (hl : l.stackTraces = false) (v0 : Option Nat) (v1 : Int32) (v2 : Option Nat) : rc_Ct l yX0_power (wsW_ yX0_power cX0_power 4 (Option.some Jvm.ClassFile.FieldType.int) [((0 : Nat), (9 : Nat), (12 : Nat), (24 : Nat))]) 9 152 rc_tI (rp_X0_power v0 v1 v2) [rc_q v0, rc_i v1, rc_q v2] := by
  refine rc_CtW_H hl (plainFor_of_name rY_X0) rfl (Nat.le_of_ble_eq_true rfl) (L0 := [some (rc_q v0), some (rc_i v1), some (rc_q v2), none]) rfl ?_
  intro Y S hC hH h
  have hC : rc_C Y cX0_power RX0 (Option.some Jvm.ClassFile.FieldType.int) 4 := hC
  unfold rp_X0_power at h
  refine rc_aload_n (pc := 0) hC dX0_power_0 rfl rfl ?_
  refine rc_iconst (pc := 1) hC (v := (0 : Int32)) dX0_power_1 rfl ?_
  refine rc_aload_n (pc := 2) hC dX0_power_2 rfl rfl ?_
  refine rc_iload_n (pc := 3) hC dX0_power_3 rfl rfl ?_
  obtain ⟨⟨fs, ho⟩, h⟩ := h.is
  refine rc_callV (pc := 4) hC rfl ho (rw_X1_power hH.1 v0 v1) q1888 q1889 q1890 q116 q1891 rfl rd_X1_power (hH.room (Nat.le_of_ble_eq_true rfl) (Nat.le_of_ble_eq_true rfl)) rfl rfl (Nat.le_of_ble_eq_true rfl) 1 rfl h.le.2.2 h.brx rfl dX0_power_4 ?_ ?_
  · intro x1 S h
    show rc_Z Y S 7 [some (rc_q v0), some (rc_i v1), some (rc_q v2), none] [rc_i x1, rc_i (0 : Int32), rc_q v2]
    refine rc_i2l (pc := 7) hC dX0_power_7 ?_
    refine rc_r_last (pc := 8) hC dX0_power_8 h ?_
    intro S h
    refine rc_goto (pc := 9) (tgt := 15) hC dX0_power_9 rfl ?_
    refine rc_iconst (pc := 15) hC (v := (0 : Int32)) dX0_power_15 rfl ?_
    exact rc_iret hC rfl rfl dX0_power_16 h rfl
  intro E q S h
  rcases h.ite with ⟨hE, h⟩ | ⟨_, h⟩
  · subst hE
    have hps : ∀ z ∈ ([] : List ExceptionTableEntry), covers z 4 = false ∨ (z.catchType ≠ 0 ∧ ∃ nm : String, Cond.classLink RX0 z.catchType nm ∈ lw_all ∧ (rc_en 0, nm) ∈ rc_ncs) := fun z hz => nomatch hz
    refine rc_catch (pc := 4) (tgt := 12) (E := 0) hC hH.2.2.2.2 [] ⟨0, 9, 12, 24⟩ [] rfl hps rfl (by decide) q1664 (lw_o q1680 rfl) rfl ?_
    refine rc_astore_n (pc := 12) hC (L' := [some (rc_q v0), some (rc_i v1), some (rc_q v2), some (rc_q (some q))]) dX0_power_12 rfl (Nat.le_of_ble_eq_true rfl) rfl rfl ?_
    refine rc_iconst (pc := 13) hC (v := (1 : Int32)) dX0_power_13 rfl ?_
    exact rc_iret hC rfl rfl dX0_power_14 h rfl
  exact h.fail.elim
theorem rw_X0_fish {l : Launch} (hl : l.stackTraces = false) (v0 : Option Nat) (v1 : Int32) (v2 : Option Nat) : rc_Ct l yX0_fish (wsW_ yX0_fish cX0_fish 4 (Option.some Jvm.ClassFile.FieldType.int) [((0 : Nat), (9 : Nat), (12 : Nat), (24 : Nat))]) 9 152 rc_tI (rp_X0_fish v0 v1 v2) [rc_q v0, rc_i v1, rc_q v2] := by
  refine rc_CtW_H hl (plainFor_of_name rY_X0) rfl (Nat.le_of_ble_eq_true rfl) (L0 := [some (rc_q v0), some (rc_i v1), some (rc_q v2), none]) rfl ?_
  intro Y S hC hH h
  have hC : rc_C Y cX0_fish RX0 (Option.some Jvm.ClassFile.FieldType.int) 4 := hC
  unfold rp_X0_fish at h
  refine rc_aload_n (pc := 0) hC dX0_fish_0 rfl rfl ?_
  refine rc_iconst (pc := 1) hC (v := (0 : Int32)) dX0_fish_1 rfl ?_
  refine rc_aload_n (pc := 2) hC dX0_fish_2 rfl rfl ?_
  refine rc_iload_n (pc := 3) hC dX0_fish_3 rfl rfl ?_
  obtain ⟨⟨fs, ho⟩, h⟩ := h.is
  refine rc_callV (pc := 4) hC rfl ho (rw_X1_fish hH.1 v0 v1) q1896 q1897 q1898 q116 q1899 rfl rd_X1_fish (hH.room (Nat.le_of_ble_eq_true rfl) (Nat.le_of_ble_eq_true rfl)) rfl rfl (Nat.le_of_ble_eq_true rfl) 1 rfl h.le.2.2 h.brx rfl dX0_fish_4 ?_ ?_
  · intro x1 S h
    show rc_Z Y S 7 [some (rc_q v0), some (rc_i v1), some (rc_q v2), none] [rc_i x1, rc_i (0 : Int32), rc_q v2]
    refine rc_i2l (pc := 7) hC dX0_fish_7 ?_
    refine rc_r_last (pc := 8) hC dX0_fish_8 h ?_
    intro S h
    refine rc_goto (pc := 9) (tgt := 15) hC dX0_fish_9 rfl ?_
    refine rc_iconst (pc := 15) hC (v := (0 : Int32)) dX0_fish_15 rfl ?_
    exact rc_iret hC rfl rfl dX0_fish_16 h rfl
  intro E q S h
  rcases h.ite with ⟨hE, h⟩ | ⟨_, h⟩
  · subst hE
    have hps : ∀ z ∈ ([] : List ExceptionTableEntry), covers z 4 = false ∨ (z.catchType ≠ 0 ∧ ∃ nm : String, Cond.classLink RX0 z.catchType nm ∈ lw_all ∧ (rc_en 0, nm) ∈ rc_ncs) := fun z hz => nomatch hz
    refine rc_catch (pc := 4) (tgt := 12) (E := 0) hC hH.2.2.2.2 [] ⟨0, 9, 12, 24⟩ [] rfl hps rfl (by decide) q1664 (lw_o q1680 rfl) rfl ?_
    refine rc_astore_n (pc := 12) hC (L' := [some (rc_q v0), some (rc_i v1), some (rc_q v2), some (rc_q (some q))]) dX0_fish_12 rfl (Nat.le_of_ble_eq_true rfl) rfl rfl ?_
    refine rc_iconst (pc := 13) hC (v := (1 : Int32)) dX0_fish_13 rfl ?_
    exact rc_iret hC rfl rfl dX0_fish_14 h rfl
  exact h.fail.elim
theorem rw_X0_chimneyOf {l : Launch} (hl : l.stackTraces = false) (v0 : Option Nat) (v1 : Int32) (v2 : Option Nat) : rc_Ct l yX0_chimneyOf (wsW_ yX0_chimneyOf cX0_chimneyOf 4 (Option.some Jvm.ClassFile.FieldType.int) [((0 : Nat), (9 : Nat), (12 : Nat), (24 : Nat))]) 9 152 rc_tI (rp_X0_chimneyOf v0 v1 v2) [rc_q v0, rc_i v1, rc_q v2] := by
  refine rc_CtW_H hl (plainFor_of_name rY_X0) rfl (Nat.le_of_ble_eq_true rfl) (L0 := [some (rc_q v0), some (rc_i v1), some (rc_q v2), none]) rfl ?_
  intro Y S hC hH h
  have hC : rc_C Y cX0_chimneyOf RX0 (Option.some Jvm.ClassFile.FieldType.int) 4 := hC
  unfold rp_X0_chimneyOf at h
  refine rc_aload_n (pc := 0) hC dX0_chimneyOf_0 rfl rfl ?_
  refine rc_iconst (pc := 1) hC (v := (0 : Int32)) dX0_chimneyOf_1 rfl ?_
  refine rc_aload_n (pc := 2) hC dX0_chimneyOf_2 rfl rfl ?_
  refine rc_iload_n (pc := 3) hC dX0_chimneyOf_3 rfl rfl ?_
  obtain ⟨⟨fs, ho⟩, h⟩ := h.is
  refine rc_callV (pc := 4) hC rfl ho (rw_X1_chimneyOf hH.1 v0 v1) q1903 q1904 q1905 q116 q1906 rfl rd_X1_chimneyOf (hH.room (Nat.le_of_ble_eq_true rfl) (Nat.le_of_ble_eq_true rfl)) rfl rfl (Nat.le_of_ble_eq_true rfl) 1 rfl h.le.2.2 h.brx rfl dX0_chimneyOf_4 ?_ ?_
  · intro x1 S h
    show rc_Z Y S 7 [some (rc_q v0), some (rc_i v1), some (rc_q v2), none] [rc_i x1, rc_i (0 : Int32), rc_q v2]
    refine rc_i2l (pc := 7) hC dX0_chimneyOf_7 ?_
    refine rc_r_last (pc := 8) hC dX0_chimneyOf_8 h ?_
    intro S h
    refine rc_goto (pc := 9) (tgt := 15) hC dX0_chimneyOf_9 rfl ?_
    refine rc_iconst (pc := 15) hC (v := (0 : Int32)) dX0_chimneyOf_15 rfl ?_
    exact rc_iret hC rfl rfl dX0_chimneyOf_16 h rfl
  intro E q S h
  rcases h.ite with ⟨hE, h⟩ | ⟨_, h⟩
  · subst hE
    have hps : ∀ z ∈ ([] : List ExceptionTableEntry), covers z 4 = false ∨ (z.catchType ≠ 0 ∧ ∃ nm : String, Cond.classLink RX0 z.catchType nm ∈ lw_all ∧ (rc_en 0, nm) ∈ rc_ncs) := fun z hz => nomatch hz
    refine rc_catch (pc := 4) (tgt := 12) (E := 0) hC hH.2.2.2.2 [] ⟨0, 9, 12, 24⟩ [] rfl hps rfl (by decide) q1664 (lw_o q1680 rfl) rfl ?_
    refine rc_astore_n (pc := 12) hC (L' := [some (rc_q v0), some (rc_i v1), some (rc_q v2), some (rc_q (some q))]) dX0_chimneyOf_12 rfl (Nat.le_of_ble_eq_true rfl) rfl rfl ?_
    refine rc_iconst (pc := 13) hC (v := (1 : Int32)) dX0_chimneyOf_13 rfl ?_
    exact rc_iret hC rfl rfl dX0_chimneyOf_14 h rfl
  exact h.fail.elim
theorem rw_X0_ownedChimneys {l : Launch} (hl : l.stackTraces = false) (v0 : Option Nat) (v1 : Int32) (v2 : Option Nat) : rc_Ct l yX0_ownedChimneys (wsW_ yX0_ownedChimneys cX0_ownedChimneys 4 (Option.some Jvm.ClassFile.FieldType.int) [((0 : Nat), (9 : Nat), (12 : Nat), (24 : Nat))]) 9 152 rc_tI (rp_X0_ownedChimneys v0 v1 v2) [rc_q v0, rc_i v1, rc_q v2] := by
  refine rc_CtW_H hl (plainFor_of_name rY_X0) rfl (Nat.le_of_ble_eq_true rfl) (L0 := [some (rc_q v0), some (rc_i v1), some (rc_q v2), none]) rfl ?_
  intro Y S hC hH h
  have hC : rc_C Y cX0_ownedChimneys RX0 (Option.some Jvm.ClassFile.FieldType.int) 4 := hC
  unfold rp_X0_ownedChimneys at h
  refine rc_aload_n (pc := 0) hC dX0_ownedChimneys_0 rfl rfl ?_
  refine rc_iconst (pc := 1) hC (v := (0 : Int32)) dX0_ownedChimneys_1 rfl ?_
  refine rc_aload_n (pc := 2) hC dX0_ownedChimneys_2 rfl rfl ?_
  refine rc_iload_n (pc := 3) hC dX0_ownedChimneys_3 rfl rfl ?_
  obtain ⟨⟨fs, ho⟩, h⟩ := h.is
  refine rc_callV (pc := 4) hC rfl ho (rw_X1_ownedChimneys hH.1 v0 v1) q1910 q1911 q1912 q116 q1913 rfl rd_X1_ownedChimneys (hH.room (Nat.le_of_ble_eq_true rfl) (Nat.le_of_ble_eq_true rfl)) rfl rfl (Nat.le_of_ble_eq_true rfl) 1 rfl h.le.2.2 h.brx rfl dX0_ownedChimneys_4 ?_ ?_
  · intro x1 S h
    show rc_Z Y S 7 [some (rc_q v0), some (rc_i v1), some (rc_q v2), none] [rc_i x1, rc_i (0 : Int32), rc_q v2]
    refine rc_i2l (pc := 7) hC dX0_ownedChimneys_7 ?_
    refine rc_r_last (pc := 8) hC dX0_ownedChimneys_8 h ?_
    intro S h
    refine rc_goto (pc := 9) (tgt := 15) hC dX0_ownedChimneys_9 rfl ?_
    refine rc_iconst (pc := 15) hC (v := (0 : Int32)) dX0_ownedChimneys_15 rfl ?_
    exact rc_iret hC rfl rfl dX0_ownedChimneys_16 h rfl
  intro E q S h
  rcases h.ite with ⟨hE, h⟩ | ⟨_, h⟩
  · subst hE
    have hps : ∀ z ∈ ([] : List ExceptionTableEntry), covers z 4 = false ∨ (z.catchType ≠ 0 ∧ ∃ nm : String, Cond.classLink RX0 z.catchType nm ∈ lw_all ∧ (rc_en 0, nm) ∈ rc_ncs) := fun z hz => nomatch hz
    refine rc_catch (pc := 4) (tgt := 12) (E := 0) hC hH.2.2.2.2 [] ⟨0, 9, 12, 24⟩ [] rfl hps rfl (by decide) q1664 (lw_o q1680 rfl) rfl ?_
    refine rc_astore_n (pc := 12) hC (L' := [some (rc_q v0), some (rc_i v1), some (rc_q v2), some (rc_q (some q))]) dX0_ownedChimneys_12 rfl (Nat.le_of_ble_eq_true rfl) rfl rfl ?_
    refine rc_iconst (pc := 13) hC (v := (1 : Int32)) dX0_ownedChimneys_13 rfl ?_
    exact rc_iret hC rfl rfl dX0_ownedChimneys_14 h rfl
  exact h.fail.elim
theorem rw_X0_truceNights {l : Launch} (hl : l.stackTraces = false) (v0 : Option Nat) (v1 : Int32) (v2 : Int32) (v3 : Option Nat) : rc_Ct l yX0_truceNights (wsW_ yX0_truceNights cX0_truceNights 5 (Option.some Jvm.ClassFile.FieldType.int) [((0 : Nat), (10 : Nat), (13 : Nat), (24 : Nat)), ((0 : Nat), (10 : Nat), (17 : Nat), (13 : Nat))]) 10 175 rc_tI (rp_X0_truceNights v0 v1 v2 v3) [rc_q v0, rc_i v1, rc_i v2, rc_q v3] := by
  refine rc_CtW_H hl (plainFor_of_name rY_X0) rfl (Nat.le_of_ble_eq_true rfl) (L0 := [some (rc_q v0), some (rc_i v1), some (rc_i v2), some (rc_q v3), none]) rfl ?_
  intro Y S hC hH h
  have hC : rc_C Y cX0_truceNights RX0 (Option.some Jvm.ClassFile.FieldType.int) 5 := hC
  unfold rp_X0_truceNights at h
  refine rc_aload_n (pc := 0) hC dX0_truceNights_0 rfl rfl ?_
  refine rc_iconst (pc := 1) hC (v := (0 : Int32)) dX0_truceNights_1 rfl ?_
  refine rc_aload_n (pc := 2) hC dX0_truceNights_2 rfl rfl ?_
  refine rc_iload_n (pc := 3) hC dX0_truceNights_3 rfl rfl ?_
  refine rc_iload_n (pc := 4) hC dX0_truceNights_4 rfl rfl ?_
  obtain ⟨⟨fs, ho⟩, h⟩ := h.is
  refine rc_callV (pc := 5) hC rfl ho (rw_X1_truceNights hH.1 v0 v1 v2) q1917 q1918 q1919 q116 q1920 rfl rd_X1_truceNights (hH.room (Nat.le_of_ble_eq_true rfl) (Nat.le_of_ble_eq_true rfl)) rfl rfl (Nat.le_of_ble_eq_true rfl) 2 rfl h.le.2.2 h.brx rfl dX0_truceNights_5 ?_ ?_
  · intro x1 S h
    show rc_Z Y S 8 [some (rc_q v0), some (rc_i v1), some (rc_i v2), some (rc_q v3), none] [rc_i x1, rc_i (0 : Int32), rc_q v3]
    refine rc_i2l (pc := 8) hC dX0_truceNights_8 ?_
    refine rc_r_last (pc := 9) hC dX0_truceNights_9 h ?_
    intro S h
    refine rc_goto (pc := 10) (tgt := 21) hC dX0_truceNights_10 rfl ?_
    refine rc_iconst (pc := 21) hC (v := (0 : Int32)) dX0_truceNights_21 rfl ?_
    exact rc_iret hC rfl rfl dX0_truceNights_22 h rfl
  intro E q S h
  rcases h.ite with ⟨hE, h⟩ | ⟨_, h⟩
  · subst hE
    have hps : ∀ z ∈ ([] : List ExceptionTableEntry), covers z 5 = false ∨ (z.catchType ≠ 0 ∧ ∃ nm : String, Cond.classLink RX0 z.catchType nm ∈ lw_all ∧ (rc_en 0, nm) ∈ rc_ncs) := fun z hz => nomatch hz
    refine rc_catch (pc := 5) (tgt := 13) (E := 0) hC hH.2.2.2.2 [] ⟨0, 10, 13, 24⟩ [⟨0, 10, 17, 13⟩] rfl hps rfl (by decide) q1664 (lw_o q1680 rfl) rfl ?_
    refine rc_astore (pc := 13) hC (L' := [some (rc_q v0), some (rc_i v1), some (rc_i v2), some (rc_q v3), some (rc_q (some q))]) dX0_truceNights_13 (Nat.le_of_ble_eq_true rfl) rfl rfl ?_
    refine rc_iconst (pc := 15) hC (v := (1 : Int32)) dX0_truceNights_15 rfl ?_
    exact rc_iret hC rfl rfl dX0_truceNights_16 h rfl
  rcases h.ite with ⟨hE, h⟩ | ⟨_, h⟩
  · subst hE
    have hps : ∀ z ∈ ([⟨0, 10, 13, 24⟩] : List ExceptionTableEntry), covers z 5 = false ∨ (z.catchType ≠ 0 ∧ ∃ nm : String, Cond.classLink RX0 z.catchType nm ∈ lw_all ∧ (rc_en 1, nm) ∈ rc_ncs) := fun z hz => by
      rcases List.mem_cons.mp hz with rfl | hz
      · exact Or.inr ⟨by decide, _, q1664, List.mem_of_getElem? (i := 0) rfl⟩
      exact nomatch hz
    refine rc_catch (pc := 5) (tgt := 17) (E := 1) hC hH.2.2.2.2 [⟨0, 10, 13, 24⟩] ⟨0, 10, 17, 13⟩ [] rfl hps rfl (by decide) q1631 (lw_o q381 rfl) rfl ?_
    refine rc_astore (pc := 17) hC (L' := [some (rc_q v0), some (rc_i v1), some (rc_i v2), some (rc_q v3), some (rc_q (some q))]) dX0_truceNights_17 (Nat.le_of_ble_eq_true rfl) rfl rfl ?_
    refine rc_iconst (pc := 19) hC (v := (2 : Int32)) dX0_truceNights_19 rfl ?_
    exact rc_iret hC rfl rfl dX0_truceNights_20 h rfl
  exact h.fail.elim
theorem rw_X0_reachable {l : Launch} (hl : l.stackTraces = false) (v0 : Option Nat) (v1 : Int32) (v2 : Option Nat) : rc_Ct l yX0_reachable (wsW_ yX0_reachable cX0_reachable 4 (Option.some Jvm.ClassFile.FieldType.int) [((0 : Nat), (9 : Nat), (12 : Nat), (24 : Nat))]) 9 181 rc_tI (rp_X0_reachable v0 v1 v2) [rc_q v0, rc_i v1, rc_q v2] := by
  refine rc_CtW_H hl (plainFor_of_name rY_X0) rfl (Nat.le_of_ble_eq_true rfl) (L0 := [some (rc_q v0), some (rc_i v1), some (rc_q v2), none]) rfl ?_
  intro Y S hC hH h
  have hC : rc_C Y cX0_reachable RX0 (Option.some Jvm.ClassFile.FieldType.int) 4 := hC
  unfold rp_X0_reachable at h
  refine rc_aload_n (pc := 0) hC dX0_reachable_0 rfl rfl ?_
  refine rc_iconst (pc := 1) hC (v := (0 : Int32)) dX0_reachable_1 rfl ?_
  refine rc_aload_n (pc := 2) hC dX0_reachable_2 rfl rfl ?_
  refine rc_iload_n (pc := 3) hC dX0_reachable_3 rfl rfl ?_
  obtain ⟨⟨fs, ho⟩, h⟩ := h.is
  refine rc_callV (pc := 4) hC rfl ho (rw_X1_reachable hH.1 v0 v1) q1925 q1926 q1927 q116 q1928 rfl rd_X1_reachable (hH.room (Nat.le_of_ble_eq_true rfl) (Nat.le_of_ble_eq_true rfl)) rfl rfl (Nat.le_of_ble_eq_true rfl) 1 rfl h.le.2.2 h.brx rfl dX0_reachable_4 ?_ ?_
  · intro x1 S h
    show rc_Z Y S 7 [some (rc_q v0), some (rc_i v1), some (rc_q v2), none] [rc_i x1, rc_i (0 : Int32), rc_q v2]
    refine rc_i2l (pc := 7) hC dX0_reachable_7 ?_
    refine rc_r_last (pc := 8) hC dX0_reachable_8 h ?_
    intro S h
    refine rc_goto (pc := 9) (tgt := 15) hC dX0_reachable_9 rfl ?_
    refine rc_iconst (pc := 15) hC (v := (0 : Int32)) dX0_reachable_15 rfl ?_
    exact rc_iret hC rfl rfl dX0_reachable_16 h rfl
  intro E q S h
  rcases h.ite with ⟨hE, h⟩ | ⟨_, h⟩
  · subst hE
    have hps : ∀ z ∈ ([] : List ExceptionTableEntry), covers z 4 = false ∨ (z.catchType ≠ 0 ∧ ∃ nm : String, Cond.classLink RX0 z.catchType nm ∈ lw_all ∧ (rc_en 0, nm) ∈ rc_ncs) := fun z hz => nomatch hz
    refine rc_catch (pc := 4) (tgt := 12) (E := 0) hC hH.2.2.2.2 [] ⟨0, 9, 12, 24⟩ [] rfl hps rfl (by decide) q1664 (lw_o q1680 rfl) rfl ?_
    refine rc_astore_n (pc := 12) hC (L' := [some (rc_q v0), some (rc_i v1), some (rc_q v2), some (rc_q (some q))]) dX0_reachable_12 rfl (Nat.le_of_ble_eq_true rfl) rfl rfl ?_
    refine rc_iconst (pc := 13) hC (v := (1 : Int32)) dX0_reachable_13 rfl ?_
    exact rc_iret hC rfl rfl dX0_reachable_14 h rfl
  exact h.fail.elim
theorem rw_X0_stepsTo {l : Launch} (hl : l.stackTraces = false) (v0 : Option Nat) (v1 : Int32) (v2 : Int32) (v3 : Option Nat) : rc_Ct l yX0_stepsTo (wsW_ yX0_stepsTo cX0_stepsTo 5 (Option.some Jvm.ClassFile.FieldType.int) [((0 : Nat), (10 : Nat), (13 : Nat), (24 : Nat))]) 9 183 rc_tI (rp_X0_stepsTo v0 v1 v2 v3) [rc_q v0, rc_i v1, rc_i v2, rc_q v3] := by
  refine rc_CtW_H hl (plainFor_of_name rY_X0) rfl (Nat.le_of_ble_eq_true rfl) (L0 := [some (rc_q v0), some (rc_i v1), some (rc_i v2), some (rc_q v3), none]) rfl ?_
  intro Y S hC hH h
  have hC : rc_C Y cX0_stepsTo RX0 (Option.some Jvm.ClassFile.FieldType.int) 5 := hC
  unfold rp_X0_stepsTo at h
  refine rc_aload_n (pc := 0) hC dX0_stepsTo_0 rfl rfl ?_
  refine rc_iconst (pc := 1) hC (v := (0 : Int32)) dX0_stepsTo_1 rfl ?_
  refine rc_aload_n (pc := 2) hC dX0_stepsTo_2 rfl rfl ?_
  refine rc_iload_n (pc := 3) hC dX0_stepsTo_3 rfl rfl ?_
  refine rc_iload_n (pc := 4) hC dX0_stepsTo_4 rfl rfl ?_
  obtain ⟨⟨fs, ho⟩, h⟩ := h.is
  refine rc_callV (pc := 5) hC rfl ho (rw_X1_stepsTo hH.1 v0 v1 v2) q1940 q1941 q1942 q116 q1943 rfl rd_X1_stepsTo (hH.room (Nat.le_of_ble_eq_true rfl) (Nat.le_of_ble_eq_true rfl)) rfl rfl (Nat.le_of_ble_eq_true rfl) 2 rfl h.le.2.2 h.brx rfl dX0_stepsTo_5 ?_ ?_
  · intro x1 S h
    show rc_Z Y S 8 [some (rc_q v0), some (rc_i v1), some (rc_i v2), some (rc_q v3), none] [rc_i x1, rc_i (0 : Int32), rc_q v3]
    refine rc_i2l (pc := 8) hC dX0_stepsTo_8 ?_
    refine rc_r_last (pc := 9) hC dX0_stepsTo_9 h ?_
    intro S h
    refine rc_goto (pc := 10) (tgt := 17) hC dX0_stepsTo_10 rfl ?_
    refine rc_iconst (pc := 17) hC (v := (0 : Int32)) dX0_stepsTo_17 rfl ?_
    exact rc_iret hC rfl rfl dX0_stepsTo_18 h rfl
  intro E q S h
  rcases h.ite with ⟨hE, h⟩ | ⟨_, h⟩
  · subst hE
    have hps : ∀ z ∈ ([] : List ExceptionTableEntry), covers z 5 = false ∨ (z.catchType ≠ 0 ∧ ∃ nm : String, Cond.classLink RX0 z.catchType nm ∈ lw_all ∧ (rc_en 0, nm) ∈ rc_ncs) := fun z hz => nomatch hz
    refine rc_catch (pc := 5) (tgt := 13) (E := 0) hC hH.2.2.2.2 [] ⟨0, 10, 13, 24⟩ [] rfl hps rfl (by decide) q1664 (lw_o q1680 rfl) rfl ?_
    refine rc_astore (pc := 13) hC (L' := [some (rc_q v0), some (rc_i v1), some (rc_i v2), some (rc_q v3), some (rc_q (some q))]) dX0_stepsTo_13 (Nat.le_of_ble_eq_true rfl) rfl rfl ?_
    refine rc_iconst (pc := 15) hC (v := (1 : Int32)) dX0_stepsTo_15 rfl ?_
    exact rc_iret hC rfl rfl dX0_stepsTo_16 h rfl
  exact h.fail.elim
theorem rw_X0_openGutters {l : Launch} (hl : l.stackTraces = false) (v0 : Option Nat) (v1 : Int32) (v2 : Option Nat) : rc_Ct l yX0_openGutters (wsW_ yX0_openGutters cX0_openGutters 4 (Option.some Jvm.ClassFile.FieldType.int) [((0 : Nat), (9 : Nat), (12 : Nat), (24 : Nat))]) 9 157 rc_tI (rp_X0_openGutters v0 v1 v2) [rc_q v0, rc_i v1, rc_q v2] := by
  refine rc_CtW_H hl (plainFor_of_name rY_X0) rfl (Nat.le_of_ble_eq_true rfl) (L0 := [some (rc_q v0), some (rc_i v1), some (rc_q v2), none]) rfl ?_
  intro Y S hC hH h
  have hC : rc_C Y cX0_openGutters RX0 (Option.some Jvm.ClassFile.FieldType.int) 4 := hC
  unfold rp_X0_openGutters at h
  refine rc_aload_n (pc := 0) hC dX0_openGutters_0 rfl rfl ?_
  refine rc_iconst (pc := 1) hC (v := (0 : Int32)) dX0_openGutters_1 rfl ?_
  refine rc_aload_n (pc := 2) hC dX0_openGutters_2 rfl rfl ?_
  refine rc_iload_n (pc := 3) hC dX0_openGutters_3 rfl rfl ?_
  obtain ⟨⟨fs, ho⟩, h⟩ := h.is
  refine rc_callV (pc := 4) hC rfl ho (rw_X1_openGutters hH.1 v0 v1) q1951 q1952 q1953 q116 q1954 rfl rd_X1_openGutters (hH.room (Nat.le_of_ble_eq_true rfl) (Nat.le_of_ble_eq_true rfl)) rfl rfl (Nat.le_of_ble_eq_true rfl) 1 rfl h.le.2.2 h.brx rfl dX0_openGutters_4 ?_ ?_
  · intro x1 S h
    show rc_Z Y S 7 [some (rc_q v0), some (rc_i v1), some (rc_q v2), none] [rc_i x1, rc_i (0 : Int32), rc_q v2]
    refine rc_i2l (pc := 7) hC dX0_openGutters_7 ?_
    refine rc_r_last (pc := 8) hC dX0_openGutters_8 h ?_
    intro S h
    refine rc_goto (pc := 9) (tgt := 15) hC dX0_openGutters_9 rfl ?_
    refine rc_iconst (pc := 15) hC (v := (0 : Int32)) dX0_openGutters_15 rfl ?_
    exact rc_iret hC rfl rfl dX0_openGutters_16 h rfl
  intro E q S h
  rcases h.ite with ⟨hE, h⟩ | ⟨_, h⟩
  · subst hE
    have hps : ∀ z ∈ ([] : List ExceptionTableEntry), covers z 4 = false ∨ (z.catchType ≠ 0 ∧ ∃ nm : String, Cond.classLink RX0 z.catchType nm ∈ lw_all ∧ (rc_en 0, nm) ∈ rc_ncs) := fun z hz => nomatch hz
    refine rc_catch (pc := 4) (tgt := 12) (E := 0) hC hH.2.2.2.2 [] ⟨0, 9, 12, 24⟩ [] rfl hps rfl (by decide) q1664 (lw_o q1680 rfl) rfl ?_
    refine rc_astore_n (pc := 12) hC (L' := [some (rc_q v0), some (rc_i v1), some (rc_q v2), some (rc_q (some q))]) dX0_openGutters_12 rfl (Nat.le_of_ble_eq_true rfl) rfl rfl ?_
    refine rc_iconst (pc := 13) hC (v := (1 : Int32)) dX0_openGutters_13 rfl ?_
    exact rc_iret hC rfl rfl dX0_openGutters_14 h rfl
  exact h.fail.elim
theorem rw_X0_whyNoStep {l : Launch} (hl : l.stackTraces = false) (v0 : Option Nat) (v1 : Int32) (v2 : Int32) (v3 : Option Nat) : rc_Ct l yX0_whyNoStep (wsW_ yX0_whyNoStep cX0_whyNoStep 5 (Option.some Jvm.ClassFile.FieldType.int) [((0 : Nat), (10 : Nat), (13 : Nat), (24 : Nat))]) 9 156 rc_tI (rp_X0_whyNoStep v0 v1 v2 v3) [rc_q v0, rc_i v1, rc_i v2, rc_q v3] := by
  refine rc_CtW_H hl (plainFor_of_name rY_X0) rfl (Nat.le_of_ble_eq_true rfl) (L0 := [some (rc_q v0), some (rc_i v1), some (rc_i v2), some (rc_q v3), none]) rfl ?_
  intro Y S hC hH h
  have hC : rc_C Y cX0_whyNoStep RX0 (Option.some Jvm.ClassFile.FieldType.int) 5 := hC
  unfold rp_X0_whyNoStep at h
  refine rc_aload_n (pc := 0) hC dX0_whyNoStep_0 rfl rfl ?_
  refine rc_iconst (pc := 1) hC (v := (0 : Int32)) dX0_whyNoStep_1 rfl ?_
  refine rc_aload_n (pc := 2) hC dX0_whyNoStep_2 rfl rfl ?_
  refine rc_iload_n (pc := 3) hC dX0_whyNoStep_3 rfl rfl ?_
  refine rc_iload_n (pc := 4) hC dX0_whyNoStep_4 rfl rfl ?_
  obtain ⟨⟨fs, ho⟩, h⟩ := h.is
  refine rc_callV (pc := 5) hC rfl ho (rw_X1_whyNoStep hH.1 v0 v1 v2) q1958 q1714 q1715 q116 q1716 rfl rd_X1_whyNoStep (hH.room (Nat.le_of_ble_eq_true rfl) (Nat.le_of_ble_eq_true rfl)) rfl rfl (Nat.le_of_ble_eq_true rfl) 2 rfl h.le.2.2 h.brx rfl dX0_whyNoStep_5 ?_ ?_
  · intro x1 S h
    show rc_Z Y S 8 [some (rc_q v0), some (rc_i v1), some (rc_i v2), some (rc_q v3), none] [rc_i x1, rc_i (0 : Int32), rc_q v3]
    refine rc_i2l (pc := 8) hC dX0_whyNoStep_8 ?_
    refine rc_r_last (pc := 9) hC dX0_whyNoStep_9 h ?_
    intro S h
    refine rc_goto (pc := 10) (tgt := 17) hC dX0_whyNoStep_10 rfl ?_
    refine rc_iconst (pc := 17) hC (v := (0 : Int32)) dX0_whyNoStep_17 rfl ?_
    exact rc_iret hC rfl rfl dX0_whyNoStep_18 h rfl
  intro E q S h
  rcases h.ite with ⟨hE, h⟩ | ⟨_, h⟩
  · subst hE
    have hps : ∀ z ∈ ([] : List ExceptionTableEntry), covers z 5 = false ∨ (z.catchType ≠ 0 ∧ ∃ nm : String, Cond.classLink RX0 z.catchType nm ∈ lw_all ∧ (rc_en 0, nm) ∈ rc_ncs) := fun z hz => nomatch hz
    refine rc_catch (pc := 5) (tgt := 13) (E := 0) hC hH.2.2.2.2 [] ⟨0, 10, 13, 24⟩ [] rfl hps rfl (by decide) q1664 (lw_o q1680 rfl) rfl ?_
    refine rc_astore (pc := 13) hC (L' := [some (rc_q v0), some (rc_i v1), some (rc_i v2), some (rc_q v3), some (rc_q (some q))]) dX0_whyNoStep_13 (Nat.le_of_ble_eq_true rfl) rfl rfl ?_
    refine rc_iconst (pc := 15) hC (v := (1 : Int32)) dX0_whyNoStep_15 rfl ?_
    exact rc_iret hC rfl rfl dX0_whyNoStep_16 h rfl
  exact h.fail.elim
theorem rw_X0_whyNoClaim {l : Launch} (hl : l.stackTraces = false) (v0 : Option Nat) (v1 : Int32) (v2 : Option Nat) : rc_Ct l yX0_whyNoClaim (wsW_ yX0_whyNoClaim cX0_whyNoClaim 4 (Option.some Jvm.ClassFile.FieldType.int) [((0 : Nat), (9 : Nat), (12 : Nat), (24 : Nat))]) 9 171 rc_tI (rp_X0_whyNoClaim v0 v1 v2) [rc_q v0, rc_i v1, rc_q v2] := by
  refine rc_CtW_H hl (plainFor_of_name rY_X0) rfl (Nat.le_of_ble_eq_true rfl) (L0 := [some (rc_q v0), some (rc_i v1), some (rc_q v2), none]) rfl ?_
  intro Y S hC hH h
  have hC : rc_C Y cX0_whyNoClaim RX0 (Option.some Jvm.ClassFile.FieldType.int) 4 := hC
  unfold rp_X0_whyNoClaim at h
  refine rc_aload_n (pc := 0) hC dX0_whyNoClaim_0 rfl rfl ?_
  refine rc_iconst (pc := 1) hC (v := (0 : Int32)) dX0_whyNoClaim_1 rfl ?_
  refine rc_aload_n (pc := 2) hC dX0_whyNoClaim_2 rfl rfl ?_
  refine rc_iload_n (pc := 3) hC dX0_whyNoClaim_3 rfl rfl ?_
  obtain ⟨⟨fs, ho⟩, h⟩ := h.is
  refine rc_callV (pc := 4) hC rfl ho (rw_X1_whyNoClaim hH.1 v0 v1) q1962 q1731 q1732 q116 q1733 rfl rd_X1_whyNoClaim (hH.room (Nat.le_of_ble_eq_true rfl) (Nat.le_of_ble_eq_true rfl)) rfl rfl (Nat.le_of_ble_eq_true rfl) 1 rfl h.le.2.2 h.brx rfl dX0_whyNoClaim_4 ?_ ?_
  · intro x1 S h
    show rc_Z Y S 7 [some (rc_q v0), some (rc_i v1), some (rc_q v2), none] [rc_i x1, rc_i (0 : Int32), rc_q v2]
    refine rc_i2l (pc := 7) hC dX0_whyNoClaim_7 ?_
    refine rc_r_last (pc := 8) hC dX0_whyNoClaim_8 h ?_
    intro S h
    refine rc_goto (pc := 9) (tgt := 15) hC dX0_whyNoClaim_9 rfl ?_
    refine rc_iconst (pc := 15) hC (v := (0 : Int32)) dX0_whyNoClaim_15 rfl ?_
    exact rc_iret hC rfl rfl dX0_whyNoClaim_16 h rfl
  intro E q S h
  rcases h.ite with ⟨hE, h⟩ | ⟨_, h⟩
  · subst hE
    have hps : ∀ z ∈ ([] : List ExceptionTableEntry), covers z 4 = false ∨ (z.catchType ≠ 0 ∧ ∃ nm : String, Cond.classLink RX0 z.catchType nm ∈ lw_all ∧ (rc_en 0, nm) ∈ rc_ncs) := fun z hz => nomatch hz
    refine rc_catch (pc := 4) (tgt := 12) (E := 0) hC hH.2.2.2.2 [] ⟨0, 9, 12, 24⟩ [] rfl hps rfl (by decide) q1664 (lw_o q1680 rfl) rfl ?_
    refine rc_astore_n (pc := 12) hC (L' := [some (rc_q v0), some (rc_i v1), some (rc_q v2), some (rc_q (some q))]) dX0_whyNoClaim_12 rfl (Nat.le_of_ble_eq_true rfl) rfl rfl ?_
    refine rc_iconst (pc := 13) hC (v := (1 : Int32)) dX0_whyNoClaim_13 rfl ?_
    exact rc_iret hC rfl rfl dX0_whyNoClaim_14 h rfl
  exact h.fail.elim
theorem rw_X0_whyNoChase {l : Launch} (hl : l.stackTraces = false) (v0 : Option Nat) (v1 : Int32) (v2 : Int32) (v3 : Option Nat) : rc_Ct l yX0_whyNoChase (wsW_ yX0_whyNoChase cX0_whyNoChase 5 (Option.some Jvm.ClassFile.FieldType.int) [((0 : Nat), (10 : Nat), (13 : Nat), (24 : Nat)), ((0 : Nat), (10 : Nat), (17 : Nat), (13 : Nat))]) 10 175 rc_tI (rp_X0_whyNoChase v0 v1 v2 v3) [rc_q v0, rc_i v1, rc_i v2, rc_q v3] := by
  refine rc_CtW_H hl (plainFor_of_name rY_X0) rfl (Nat.le_of_ble_eq_true rfl) (L0 := [some (rc_q v0), some (rc_i v1), some (rc_i v2), some (rc_q v3), none]) rfl ?_
  intro Y S hC hH h
  have hC : rc_C Y cX0_whyNoChase RX0 (Option.some Jvm.ClassFile.FieldType.int) 5 := hC
  unfold rp_X0_whyNoChase at h
  refine rc_aload_n (pc := 0) hC dX0_whyNoChase_0 rfl rfl ?_
  refine rc_iconst (pc := 1) hC (v := (0 : Int32)) dX0_whyNoChase_1 rfl ?_
  refine rc_aload_n (pc := 2) hC dX0_whyNoChase_2 rfl rfl ?_
  refine rc_iload_n (pc := 3) hC dX0_whyNoChase_3 rfl rfl ?_
  refine rc_iload_n (pc := 4) hC dX0_whyNoChase_4 rfl rfl ?_
  obtain ⟨⟨fs, ho⟩, h⟩ := h.is
  refine rc_callV (pc := 5) hC rfl ho (rw_X1_whyNoChase hH.1 v0 v1 v2) q1966 q1755 q1756 q116 q1757 rfl rd_X1_whyNoChase (hH.room (Nat.le_of_ble_eq_true rfl) (Nat.le_of_ble_eq_true rfl)) rfl rfl (Nat.le_of_ble_eq_true rfl) 2 rfl h.le.2.2 h.brx rfl dX0_whyNoChase_5 ?_ ?_
  · intro x1 S h
    show rc_Z Y S 8 [some (rc_q v0), some (rc_i v1), some (rc_i v2), some (rc_q v3), none] [rc_i x1, rc_i (0 : Int32), rc_q v3]
    refine rc_i2l (pc := 8) hC dX0_whyNoChase_8 ?_
    refine rc_r_last (pc := 9) hC dX0_whyNoChase_9 h ?_
    intro S h
    refine rc_goto (pc := 10) (tgt := 21) hC dX0_whyNoChase_10 rfl ?_
    refine rc_iconst (pc := 21) hC (v := (0 : Int32)) dX0_whyNoChase_21 rfl ?_
    exact rc_iret hC rfl rfl dX0_whyNoChase_22 h rfl
  intro E q S h
  rcases h.ite with ⟨hE, h⟩ | ⟨_, h⟩
  · subst hE
    have hps : ∀ z ∈ ([] : List ExceptionTableEntry), covers z 5 = false ∨ (z.catchType ≠ 0 ∧ ∃ nm : String, Cond.classLink RX0 z.catchType nm ∈ lw_all ∧ (rc_en 0, nm) ∈ rc_ncs) := fun z hz => nomatch hz
    refine rc_catch (pc := 5) (tgt := 13) (E := 0) hC hH.2.2.2.2 [] ⟨0, 10, 13, 24⟩ [⟨0, 10, 17, 13⟩] rfl hps rfl (by decide) q1664 (lw_o q1680 rfl) rfl ?_
    refine rc_astore (pc := 13) hC (L' := [some (rc_q v0), some (rc_i v1), some (rc_i v2), some (rc_q v3), some (rc_q (some q))]) dX0_whyNoChase_13 (Nat.le_of_ble_eq_true rfl) rfl rfl ?_
    refine rc_iconst (pc := 15) hC (v := (1 : Int32)) dX0_whyNoChase_15 rfl ?_
    exact rc_iret hC rfl rfl dX0_whyNoChase_16 h rfl
  rcases h.ite with ⟨hE, h⟩ | ⟨_, h⟩
  · subst hE
    have hps : ∀ z ∈ ([⟨0, 10, 13, 24⟩] : List ExceptionTableEntry), covers z 5 = false ∨ (z.catchType ≠ 0 ∧ ∃ nm : String, Cond.classLink RX0 z.catchType nm ∈ lw_all ∧ (rc_en 1, nm) ∈ rc_ncs) := fun z hz => by
      rcases List.mem_cons.mp hz with rfl | hz
      · exact Or.inr ⟨by decide, _, q1664, List.mem_of_getElem? (i := 0) rfl⟩
      exact nomatch hz
    refine rc_catch (pc := 5) (tgt := 17) (E := 1) hC hH.2.2.2.2 [⟨0, 10, 13, 24⟩] ⟨0, 10, 17, 13⟩ [] rfl hps rfl (by decide) q1631 (lw_o q381 rfl) rfl ?_
    refine rc_astore (pc := 17) hC (L' := [some (rc_q v0), some (rc_i v1), some (rc_i v2), some (rc_q v3), some (rc_q (some q))]) dX0_whyNoChase_17 (Nat.le_of_ble_eq_true rfl) rfl rfl ?_
    refine rc_iconst (pc := 19) hC (v := (2 : Int32)) dX0_whyNoChase_19 rfl ?_
    exact rc_iret hC rfl rfl dX0_whyNoChase_20 h rfl
  exact h.fail.elim
theorem rw_X0_preyOf {l : Launch} (hl : l.stackTraces = false) (v0 : Option Nat) (v1 : Int32) (v2 : Option Nat) : rc_Ct l yX0_preyOf (wsW_ yX0_preyOf cX0_preyOf 4 (Option.some Jvm.ClassFile.FieldType.int) [((0 : Nat), (9 : Nat), (12 : Nat), (24 : Nat))]) 9 172 rc_tI (rp_X0_preyOf v0 v1 v2) [rc_q v0, rc_i v1, rc_q v2] := by
  refine rc_CtW_H hl (plainFor_of_name rY_X0) rfl (Nat.le_of_ble_eq_true rfl) (L0 := [some (rc_q v0), some (rc_i v1), some (rc_q v2), none]) rfl ?_
  intro Y S hC hH h
  have hC : rc_C Y cX0_preyOf RX0 (Option.some Jvm.ClassFile.FieldType.int) 4 := hC
  unfold rp_X0_preyOf at h
  refine rc_aload_n (pc := 0) hC dX0_preyOf_0 rfl rfl ?_
  refine rc_iconst (pc := 1) hC (v := (0 : Int32)) dX0_preyOf_1 rfl ?_
  refine rc_aload_n (pc := 2) hC dX0_preyOf_2 rfl rfl ?_
  refine rc_iload_n (pc := 3) hC dX0_preyOf_3 rfl rfl ?_
  obtain ⟨⟨fs, ho⟩, h⟩ := h.is
  refine rc_callV (pc := 4) hC rfl ho (rw_X1_preyOf hH.1 v0 v1) q1970 q1971 q1972 q116 q1973 rfl rd_X1_preyOf (hH.room (Nat.le_of_ble_eq_true rfl) (Nat.le_of_ble_eq_true rfl)) rfl rfl (Nat.le_of_ble_eq_true rfl) 1 rfl h.le.2.2 h.brx rfl dX0_preyOf_4 ?_ ?_
  · intro x1 S h
    show rc_Z Y S 7 [some (rc_q v0), some (rc_i v1), some (rc_q v2), none] [rc_i x1, rc_i (0 : Int32), rc_q v2]
    refine rc_i2l (pc := 7) hC dX0_preyOf_7 ?_
    refine rc_r_last (pc := 8) hC dX0_preyOf_8 h ?_
    intro S h
    refine rc_goto (pc := 9) (tgt := 15) hC dX0_preyOf_9 rfl ?_
    refine rc_iconst (pc := 15) hC (v := (0 : Int32)) dX0_preyOf_15 rfl ?_
    exact rc_iret hC rfl rfl dX0_preyOf_16 h rfl
  intro E q S h
  rcases h.ite with ⟨hE, h⟩ | ⟨_, h⟩
  · subst hE
    have hps : ∀ z ∈ ([] : List ExceptionTableEntry), covers z 4 = false ∨ (z.catchType ≠ 0 ∧ ∃ nm : String, Cond.classLink RX0 z.catchType nm ∈ lw_all ∧ (rc_en 0, nm) ∈ rc_ncs) := fun z hz => nomatch hz
    refine rc_catch (pc := 4) (tgt := 12) (E := 0) hC hH.2.2.2.2 [] ⟨0, 9, 12, 24⟩ [] rfl hps rfl (by decide) q1664 (lw_o q1680 rfl) rfl ?_
    refine rc_astore_n (pc := 12) hC (L' := [some (rc_q v0), some (rc_i v1), some (rc_q v2), some (rc_q (some q))]) dX0_preyOf_12 rfl (Nat.le_of_ble_eq_true rfl) rfl rfl ?_
    refine rc_iconst (pc := 13) hC (v := (1 : Int32)) dX0_preyOf_13 rfl ?_
    exact rc_iret hC rfl rfl dX0_preyOf_14 h rfl
  exact h.fail.elim
theorem rw_X0_hasVoted_L15 {Y : rc_Y} (hC : rc_C Y cX0_hasVoted RX0 (Option.some Jvm.ClassFile.FieldType.int) 4) (hH : rc_HW Y 9 152 yX0_hasVoted.name [((0 : Nat), (16 : Nat), (19 : Nat), (24 : Nat))]) (s0 : Int64) (s1 : Int32) (s2 : Option Nat) (S : rc_S) (h : rc_Go Y rc_tI (rp_X0_hasVoted_L15  s0 s1 s2) S) : rc_Z Y S 15 [none, none, none, none] [rc_l s0, rc_i s1, rc_q s2] := by
  unfold rp_X0_hasVoted_L15 at h
  refine rc_r_last (pc := 15) hC dX0_hasVoted_15 h ?_
  intro S h
  refine rc_goto (pc := 16) (tgt := 22) hC dX0_hasVoted_16 rfl ?_
  refine rc_iconst (pc := 22) hC (v := (0 : Int32)) dX0_hasVoted_22 rfl ?_
  exact rc_iret hC rfl rfl dX0_hasVoted_23 h rfl
theorem rw_X0_hasVoted {l : Launch} (hl : l.stackTraces = false) (v0 : Option Nat) (v1 : Int32) (v2 : Option Nat) : rc_Ct l yX0_hasVoted (wsW_ yX0_hasVoted cX0_hasVoted 4 (Option.some Jvm.ClassFile.FieldType.int) [((0 : Nat), (16 : Nat), (19 : Nat), (24 : Nat))]) 9 152 rc_tI (rp_X0_hasVoted v0 v1 v2) [rc_q v0, rc_i v1, rc_q v2] := by
  refine rc_CtW_H hl (plainFor_of_name rY_X0) rfl (Nat.le_of_ble_eq_true rfl) (L0 := [some (rc_q v0), some (rc_i v1), some (rc_q v2), none]) rfl ?_
  intro Y S hC hH h
  have hC : rc_C Y cX0_hasVoted RX0 (Option.some Jvm.ClassFile.FieldType.int) 4 := hC
  unfold rp_X0_hasVoted at h
  refine rc_aload_n (pc := 0) hC dX0_hasVoted_0 rfl rfl ?_
  refine rc_iconst (pc := 1) hC (v := (0 : Int32)) dX0_hasVoted_1 rfl ?_
  refine rc_aload_n (pc := 2) hC dX0_hasVoted_2 rfl rfl ?_
  refine rc_iload_n (pc := 3) hC dX0_hasVoted_3 rfl rfl ?_
  obtain ⟨⟨fs, ho⟩, h⟩ := h.is
  refine rc_callV (pc := 4) hC rfl ho (rw_X1_hasVoted hH.1 v0 v1) q1977 q1978 q1979 q116 q1980 rfl rd_X1_hasVoted (hH.room (Nat.le_of_ble_eq_true rfl) (Nat.le_of_ble_eq_true rfl)) rfl rfl (Nat.le_of_ble_eq_true rfl) 1 rfl h.le.2.2 h.brx rfl dX0_hasVoted_4 ?_ ?_
  · intro x1 S h
    show rc_Z Y S 7 [some (rc_q v0), some (rc_i v1), some (rc_q v2), none] [rc_i x1, rc_i (0 : Int32), rc_q v2]
    refine rc_if_eq (pc := 7) (tgt := 14) hC dX0_hasVoted_7 rfl h ?_ ?_
    · intro _ h
      refine rc_lconst (pc := 14) hC (v := (0 : Int64)) dX0_hasVoted_14 rfl ?_
      refine rc_drop [false, false, false, false] (L' := [none, none, none, none]) rfl ?_
      exact rw_X0_hasVoted_L15 hC hH  (0 : Int64) (0 : Int32) v2 S h
    intro _ h
    refine rc_lconst (pc := 10) hC (v := (1 : Int64)) dX0_hasVoted_10 rfl ?_
    refine rc_goto (pc := 11) (tgt := 15) hC dX0_hasVoted_11 rfl ?_
    refine rc_drop [false, false, false, false] (L' := [none, none, none, none]) rfl ?_
    exact rw_X0_hasVoted_L15 hC hH  (1 : Int64) (0 : Int32) v2 S h
  intro E q S h
  rcases h.ite with ⟨hE, h⟩ | ⟨_, h⟩
  · subst hE
    have hps : ∀ z ∈ ([] : List ExceptionTableEntry), covers z 4 = false ∨ (z.catchType ≠ 0 ∧ ∃ nm : String, Cond.classLink RX0 z.catchType nm ∈ lw_all ∧ (rc_en 0, nm) ∈ rc_ncs) := fun z hz => nomatch hz
    refine rc_catch (pc := 4) (tgt := 19) (E := 0) hC hH.2.2.2.2 [] ⟨0, 16, 19, 24⟩ [] rfl hps rfl (by decide) q1664 (lw_o q1680 rfl) rfl ?_
    refine rc_astore_n (pc := 19) hC (L' := [some (rc_q v0), some (rc_i v1), some (rc_q v2), some (rc_q (some q))]) dX0_hasVoted_19 rfl (Nat.le_of_ble_eq_true rfl) rfl rfl ?_
    refine rc_iconst (pc := 20) hC (v := (1 : Int32)) dX0_hasVoted_20 rfl ?_
    exact rc_iret hC rfl rfl dX0_hasVoted_21 h rfl
  exact h.fail.elim
theorem rw_X0_choirOf {l : Launch} (hl : l.stackTraces = false) (v0 : Option Nat) (v1 : Int32) (v2 : Option Nat) : rc_Ct l yX0_choirOf (wsW_ yX0_choirOf cX0_choirOf 4 (Option.some Jvm.ClassFile.FieldType.int) [((0 : Nat), (9 : Nat), (12 : Nat), (24 : Nat))]) 9 152 rc_tI (rp_X0_choirOf v0 v1 v2) [rc_q v0, rc_i v1, rc_q v2] := by
  refine rc_CtW_H hl (plainFor_of_name rY_X0) rfl (Nat.le_of_ble_eq_true rfl) (L0 := [some (rc_q v0), some (rc_i v1), some (rc_q v2), none]) rfl ?_
  intro Y S hC hH h
  have hC : rc_C Y cX0_choirOf RX0 (Option.some Jvm.ClassFile.FieldType.int) 4 := hC
  unfold rp_X0_choirOf at h
  refine rc_aload_n (pc := 0) hC dX0_choirOf_0 rfl rfl ?_
  refine rc_iconst (pc := 1) hC (v := (0 : Int32)) dX0_choirOf_1 rfl ?_
  refine rc_aload_n (pc := 2) hC dX0_choirOf_2 rfl rfl ?_
  refine rc_iload_n (pc := 3) hC dX0_choirOf_3 rfl rfl ?_
  obtain ⟨⟨fs, ho⟩, h⟩ := h.is
  refine rc_callV (pc := 4) hC rfl ho (rw_X1_choirOf hH.1 v0 v1) q1985 q1986 q1987 q116 q1988 rfl rd_X1_choirOf (hH.room (Nat.le_of_ble_eq_true rfl) (Nat.le_of_ble_eq_true rfl)) rfl rfl (Nat.le_of_ble_eq_true rfl) 1 rfl h.le.2.2 h.brx rfl dX0_choirOf_4 ?_ ?_
  · intro x1 S h
    show rc_Z Y S 7 [some (rc_q v0), some (rc_i v1), some (rc_q v2), none] [rc_i x1, rc_i (0 : Int32), rc_q v2]
    refine rc_i2l (pc := 7) hC dX0_choirOf_7 ?_
    refine rc_r_last (pc := 8) hC dX0_choirOf_8 h ?_
    intro S h
    refine rc_goto (pc := 9) (tgt := 15) hC dX0_choirOf_9 rfl ?_
    refine rc_iconst (pc := 15) hC (v := (0 : Int32)) dX0_choirOf_15 rfl ?_
    exact rc_iret hC rfl rfl dX0_choirOf_16 h rfl
  intro E q S h
  rcases h.ite with ⟨hE, h⟩ | ⟨_, h⟩
  · subst hE
    have hps : ∀ z ∈ ([] : List ExceptionTableEntry), covers z 4 = false ∨ (z.catchType ≠ 0 ∧ ∃ nm : String, Cond.classLink RX0 z.catchType nm ∈ lw_all ∧ (rc_en 0, nm) ∈ rc_ncs) := fun z hz => nomatch hz
    refine rc_catch (pc := 4) (tgt := 12) (E := 0) hC hH.2.2.2.2 [] ⟨0, 9, 12, 24⟩ [] rfl hps rfl (by decide) q1664 (lw_o q1680 rfl) rfl ?_
    refine rc_astore_n (pc := 12) hC (L' := [some (rc_q v0), some (rc_i v1), some (rc_q v2), some (rc_q (some q))]) dX0_choirOf_12 rfl (Nat.le_of_ble_eq_true rfl) rfl rfl ?_
    refine rc_iconst (pc := 13) hC (v := (1 : Int32)) dX0_choirOf_13 rfl ?_
    exact rc_iret hC rfl rfl dX0_choirOf_14 h rfl
  exact h.fail.elim
theorem rw_X0_fishAfter {l : Launch} (hl : l.stackTraces = false) (v0 : Option Nat) (v1 : Int32) (v2 : Int32) (v3 : Option Nat) : rc_Ct l yX0_fishAfter (wsW_ yX0_fishAfter cX0_fishAfter 5 (Option.some Jvm.ClassFile.FieldType.int) [((0 : Nat), (10 : Nat), (13 : Nat), (24 : Nat)), ((0 : Nat), (10 : Nat), (17 : Nat), (13 : Nat))]) 9 218 rc_tI (rp_X0_fishAfter v0 v1 v2 v3) [rc_q v0, rc_i v1, rc_i v2, rc_q v3] := by
  refine rc_CtW_H hl (plainFor_of_name rY_X0) rfl (Nat.le_of_ble_eq_true rfl) (L0 := [some (rc_q v0), some (rc_i v1), some (rc_i v2), some (rc_q v3), none]) rfl ?_
  intro Y S hC hH h
  have hC : rc_C Y cX0_fishAfter RX0 (Option.some Jvm.ClassFile.FieldType.int) 5 := hC
  unfold rp_X0_fishAfter at h
  refine rc_aload_n (pc := 0) hC dX0_fishAfter_0 rfl rfl ?_
  refine rc_iconst (pc := 1) hC (v := (0 : Int32)) dX0_fishAfter_1 rfl ?_
  refine rc_aload_n (pc := 2) hC dX0_fishAfter_2 rfl rfl ?_
  refine rc_iload_n (pc := 3) hC dX0_fishAfter_3 rfl rfl ?_
  refine rc_iload_n (pc := 4) hC dX0_fishAfter_4 rfl rfl ?_
  obtain ⟨⟨fs, ho⟩, h⟩ := h.is
  refine rc_callV (pc := 5) hC rfl ho (rw_X1_fishAfter hH.1 v0 v1 v2) q1993 q1994 q1995 q116 q1996 rfl rd_X1_fishAfter (hH.room (Nat.le_of_ble_eq_true rfl) (Nat.le_of_ble_eq_true rfl)) rfl rfl (Nat.le_of_ble_eq_true rfl) 2 rfl h.le.2.2 h.brx rfl dX0_fishAfter_5 ?_ ?_
  · intro x1 S h
    show rc_Z Y S 8 [some (rc_q v0), some (rc_i v1), some (rc_i v2), some (rc_q v3), none] [rc_i x1, rc_i (0 : Int32), rc_q v3]
    refine rc_i2l (pc := 8) hC dX0_fishAfter_8 ?_
    refine rc_r_last (pc := 9) hC dX0_fishAfter_9 h ?_
    intro S h
    refine rc_goto (pc := 10) (tgt := 21) hC dX0_fishAfter_10 rfl ?_
    refine rc_iconst (pc := 21) hC (v := (0 : Int32)) dX0_fishAfter_21 rfl ?_
    exact rc_iret hC rfl rfl dX0_fishAfter_22 h rfl
  intro E q S h
  rcases h.ite with ⟨hE, h⟩ | ⟨_, h⟩
  · subst hE
    have hps : ∀ z ∈ ([] : List ExceptionTableEntry), covers z 5 = false ∨ (z.catchType ≠ 0 ∧ ∃ nm : String, Cond.classLink RX0 z.catchType nm ∈ lw_all ∧ (rc_en 0, nm) ∈ rc_ncs) := fun z hz => nomatch hz
    refine rc_catch (pc := 5) (tgt := 13) (E := 0) hC hH.2.2.2.2 [] ⟨0, 10, 13, 24⟩ [⟨0, 10, 17, 13⟩] rfl hps rfl (by decide) q1664 (lw_o q1680 rfl) rfl ?_
    refine rc_astore (pc := 13) hC (L' := [some (rc_q v0), some (rc_i v1), some (rc_i v2), some (rc_q v3), some (rc_q (some q))]) dX0_fishAfter_13 (Nat.le_of_ble_eq_true rfl) rfl rfl ?_
    refine rc_iconst (pc := 15) hC (v := (1 : Int32)) dX0_fishAfter_15 rfl ?_
    exact rc_iret hC rfl rfl dX0_fishAfter_16 h rfl
  rcases h.ite with ⟨hE, h⟩ | ⟨_, h⟩
  · subst hE
    have hps : ∀ z ∈ ([⟨0, 10, 13, 24⟩] : List ExceptionTableEntry), covers z 5 = false ∨ (z.catchType ≠ 0 ∧ ∃ nm : String, Cond.classLink RX0 z.catchType nm ∈ lw_all ∧ (rc_en 1, nm) ∈ rc_ncs) := fun z hz => by
      rcases List.mem_cons.mp hz with rfl | hz
      · exact Or.inr ⟨by decide, _, q1664, List.mem_of_getElem? (i := 0) rfl⟩
      exact nomatch hz
    refine rc_catch (pc := 5) (tgt := 17) (E := 1) hC hH.2.2.2.2 [⟨0, 10, 13, 24⟩] ⟨0, 10, 17, 13⟩ [] rfl hps rfl (by decide) q1631 (lw_o q381 rfl) rfl ?_
    refine rc_astore (pc := 17) hC (L' := [some (rc_q v0), some (rc_i v1), some (rc_i v2), some (rc_q v3), some (rc_q (some q))]) dX0_fishAfter_17 (Nat.le_of_ble_eq_true rfl) rfl rfl ?_
    refine rc_iconst (pc := 19) hC (v := (2 : Int32)) dX0_fishAfter_19 rfl ?_
    exact rc_iret hC rfl rfl dX0_fishAfter_20 h rfl
  exact h.fail.elim
