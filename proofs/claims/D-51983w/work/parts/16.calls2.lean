set_option maxRecDepth 100000
/-! ROWS: calls -/
theorem vy_keepK {A0 A1 : Nat → Prop} {H0 H : Heap} {locs L : List Loc} {st₀ t T' : State} (h0 : st₀.heap = H) (e1 : T'.heap = t.heap) (hS : va_S A0 H0 H locs) (hA : A0 = A1) (hL : ∀ q ∈ L, A1 q.base) (hF : va_F A1 st₀ t) :
    H.size ≤ T'.heap.size ∧ (∀ q : Nat, q < H.size → ¬ A1 q → T'.heap[q]? = H[q]?) ∧ va_S A0 H0 T'.heap (locs ++ L) := by
  subst hA
  obtain ⟨hz, hk⟩ := hF
  rw [h0] at hz hk
  exact ⟨by rw [e1]; exact hz, fun q h1 h2 => by rw [e1]; exact hk q h1 h2,
    ⟨Nat.le_trans hS.1 (by rw [e1]; exact hz), fun q h1 h2 => by rw [e1, hk q (Nat.lt_of_lt_of_le h1 hS.1) h2]; exact hS.2.1 q h1 h2, fun q hq => by
      rcases List.mem_append.mp hq with h | h
      · exact hS.2.2 q h
      · exact hL q h⟩⟩
theorem rc_wU {own : String} {idx : Nat} {C owner : String} {x y : MethodName} {b : ByteArray} {L : Nat} {r : Option FieldType} (h1 : Cond.methodLink own idx x ∈ lw_all) (h2 : Cond.sameMethod x.cls owner x.name x.desc ∈ lw_all) (h3 : Cond.selects C x y ∈ lw_all) (h4 : Cond.instanceMethod y ∈ lw_all) (h6 : Cond.initialized y.cls ∈ lw_all) (h5 : Cond.code y b L r ∈ lw_all) : GoodIn lw_all (va_wsU own idx C owner x y (ws_ y b L r)) := by
  refine lw_app ?_ (lw_meth h5)
  intro w hw
  simp only [List.mem_cons, List.not_mem_nil, or_false] at hw
  rcases hw with e | e | e | e | e
  · rw [e]; exact h1
  · rw [e]; exact h2
  · rw [e]; exact h3
  · rw [e]; exact h4
  · rw [e]; exact h6
theorem rc_wSU {own : String} {idx : Nat} {y : MethodName} {b : ByteArray} {L : Nat} {r : Option FieldType} (h1 : Cond.methodLink own idx y ∈ lw_all) (h2 : Cond.sameMethod y.cls y.cls y.name y.desc ∈ lw_all) (h3 : Cond.superclass own y.cls ∈ lw_all) (h4 : Cond.instanceMethod y ∈ lw_all) (h6 : Cond.initialized y.cls ∈ lw_all) (h5 : Cond.code y b L r ∈ lw_all) : GoodIn lw_all (va_wsSU own idx y (ws_ y b L r)) := by
  refine lw_app ?_ (lw_meth h5)
  intro w hw
  simp only [List.mem_cons, List.not_mem_nil, or_false] at hw
  rcases hw with e | e | e | e | e
  · rw [e]; exact h1
  · rw [e]; exact h2
  · rw [e]; exact h3
  · rw [e]; exact h4
  · rw [e]; exact h6
theorem rc_wF {own : String} {idx : Nat} {C : String} {x y : MethodName} {b : ByteArray} {L : Nat} {r : Option FieldType} (h1 : Cond.methodLink own idx x ∈ lw_all) (h3 : Cond.selects C x y ∈ lw_all) (h4 : Cond.instanceMethod y ∈ lw_all) (h6 : Cond.initialized y.cls ∈ lw_all) (h5 : Cond.code y b L r ∈ lw_all) : GoodIn lw_all (va_wsF own idx C x y (ws_ y b L r)) := by
  refine lw_app ?_ (lw_meth h5)
  intro w hw
  simp only [List.mem_cons, List.not_mem_nil, or_false] at hw
  rcases hw with e | e | e | e
  · rw [e]; exact h1
  · rw [e]; exact h3
  · rw [e]; exact h4
  · rw [e]; exact h6
theorem rc_blind {D : rc_D} {S : rc_S} {av : List Value} : FrameBlind (va_Pc av (fun U => rc_Env D (rc_k S) U U.heap ∧ rc_Rp D S U.heap)) := by
  intro a U g mk q
  obtain ⟨q1, q2, q3⟩ := q
  exact ⟨q1, rc_Env.moved (s := U) (U := U.calling g mk a) (State.WarmedH.refl U) q2, q3⟩
section RCC
variable {Y : rc_Y} {cc : ByteArray} {own : String} {ret : Option FieldType} {nL : Nat} {S : rc_S} {pc : Nat} {L : List (Option rc_V)} {st : List rc_V} {α β : Type} {tv : α → Option rc_V} {tv' : β → Option rc_V}
theorem rc_preS (hC : rc_C Y cc own ret nL) (hk : yr_K Y = rc_k S) {H : Heap} {locs : List Loc} (hR : rc_Rp (yr_D Y) S H) (hS : va_S (rc_kw (yr_K Y)) (yr_s Y).heap H locs) {As : List Value} : PreS (yr_s Y) H (va_Pc As (fun U => rc_Env (yr_D Y) (rc_k S) U U.heap ∧ rc_Rp (yr_D Y) S U.heap)) As := by
  refine ⟨rc_blind, fun U hU hW => ⟨rfl, ?_, by rw [hU]; exact hR⟩⟩
  rw [hU, ← hk]
  exact (rc_Env.moved hW hC.2.2.2.2.2.2.2.1).kept hS.2.1
theorem rc_preV (hC : rc_C Y cc own ret nL) (hk : yr_K Y = rc_k S) {H : Heap} {locs : List Loc} (hR : rc_Rp (yr_D Y) S H) (hS : va_S (rc_kw (yr_K Y)) (yr_s Y).heap H locs) {ci : Nat} {C : String} {T : u_T} {N : Nat} (hcl : rc_cl[ci]? = some (C, T, N)) {v : Option Nat} {fs : List rc_V} (ho : rc_obj S ci v = some fs) {As : List rc_V} :
    ∃ b, v = some b ∧ PreV (yr_s Y) H C b (va_Pc ((rc_q v :: As).map rc_val) (fun U => rc_Env (yr_D Y) (rc_k S) U U.heap ∧ rc_Rp (yr_D Y) S U.heap)) (As.map rc_val) := by
  obtain ⟨a, cell, r, rfl, h1, h2, h3, h4, h5, h6⟩ := rc_rdo hC.2.2.2.2.2.2.2.1 hk hR hS ho
  cases h2.symm.trans hcl
  refine ⟨a, rfl, rc_blind, ⟨cell, h1, h5, by rw [h3]; exact (hC.2.2.2.2.2.2.2.1.1.1 _ _ hcl).2.1⟩, fun U hU hW => ⟨rfl, ?_, by rw [hU]; exact hR⟩⟩
  rw [hU, ← hk]
  exact (rc_Env.moved hW hC.2.2.2.2.2.2.2.1).kept hS.2.1
theorem rc_Go.is {ci : Nat} {v : Option Nat} {f : Unit → rc_M α} (h : rc_Go Y tv (rc_bind (rc_is ci v) f) S) : (∃ fs, rc_obj S ci v = some fs) ∧ rc_Go Y tv (f ()) S := by
  obtain ⟨x, hx, h9⟩ := h.read
  split at hx
  · cases hx
  · rename_i fs ho
    exact ⟨⟨fs, ho⟩, h9⟩
theorem rc_Go.nn {v : Option Nat} {f : Unit → rc_M α} (h : rc_Go Y tv (rc_bind (rc_nn v) f) S) : (∃ b, v = some b) ∧ rc_Go Y tv (f ()) S := by
  obtain ⟨x, hx, h9⟩ := h.read
  cases v with
  | none => cases hx
  | some b => exact ⟨⟨b, rfl⟩, h9⟩
/-- what goes on behind the program x: it has returned (Pk), or thrown (Px) -/
def rc_Br (Y : rc_Y) (x : rc_M β) (S : rc_S) (Pk : β → rc_S → Prop) (Px : Nat → Nat → rc_S → Prop) : Prop :=
  ∃ T, x.1 S = some T ∧ (rc_n T.2 ≤ rc_n (yr_T Y).2 ∧ rc_s T.2 ≤ rc_s (yr_T Y).2) ∧ ((∃ v S1, T = (.inl v, S1) ∧ Pk v S1) ∨ (∃ E q S1, T = (.inr (E, q), S1) ∧ Px E q S1))
theorem rc_Go.br {x : rc_M β} {f : β → rc_M α} (h : rc_Go Y tv (rc_bind x f) S) : rc_Br Y x S (fun v S1 => rc_Go Y tv (f v) S1) (fun E q S1 => yr_T Y = (.inr (E, q), S1)) := by
  rcases h.bind with ⟨v, S1, h1, h2⟩ | ⟨⟨E, q⟩, S1, h1, h2⟩
  · exact ⟨_, h1, ⟨h2.le.1, h2.le.2.1⟩, Or.inl ⟨v, S1, rfl, h2⟩⟩
  · exact ⟨_, h1, by rw [h2]; exact ⟨Nat.le_refl _, Nat.le_refl _⟩, Or.inr ⟨E, q, S1, rfl, h2⟩⟩
theorem rc_len {o : Option rc_V} {st : List rc_V} : (o.toList ++ st).map rc_val = (o.map rc_val).toList ++ st.map rc_val := by
  cases o <;> rfl

theorem rc_ofRun {x : rc_M β} (hk : yr_K Y = rc_k S) {Pk : β → rc_S → Prop} {Px : Nat → Nat → rc_S → Prop} (h : rc_Br Y x S Pk Px) {st0 : List rc_V} {a : Array Value}
    (hr : ∀ T : (β ⊕ (Nat × Nat)) × rc_S, x.1 S = some T → ∀ (H : Heap) (locs : List Loc) (ls : Array Slot), rc_Rp (yr_D Y) S H → va_S (rc_kw (yr_K Y)) (yr_s Y).heap H locs → rc_loc ls L → (rc_n S - (yr_B Y).1 + (rc_n T.2 - rc_n S) ≤ yr_mc Y ∧ rc_s S - (yr_B Y).2 + (rc_s T.2 - rc_s S) ≤ yr_ms Y) →
      vy_Run (yr_p Y) (yr_l Y) (yr_e Y) (yr_R Y) (yr_s Y) (yr_m Y) (yr_a Y) (yr_b Y) (yr_t Y) (yr_c Y) H locs (rc_n S - (yr_B Y).1) (rc_s S - (yr_B Y).2) (rc_n T.2 - rc_n S) (rc_s T.2 - rc_s S) (F0 (yr_m Y) pc ls (st0.map rc_val)) (st.map rc_val) (rc_Qc (yr_D Y) (rc_mp tv' T) (rc_kw (rc_k S)) a) (rc_XC (yr_D Y) (rc_mp tv' T) (rc_kw (rc_k S))) (rc_kw (rc_k S)))
    (kk : ∀ v S1, Pk v S1 → rc_Z Y S1 (pc + 3) L ((tv' v).toList ++ st)) (kx : ∀ E q S1, Px E q S1 → rc_ZX Y S1 pc L E q) : rc_Z Y S pc L st0 := by
  obtain ⟨T, hT, hle, hcase⟩ := h
  obtain ⟨m1, m2, m3, m4⟩ := x.2 S T hT
  intro H locs ls hR hS hL hB Tm hTm X
  have e1 : rc_n S - (yr_B Y).1 + (rc_n T.2 - rc_n S) = rc_n T.2 - (yr_B Y).1 := by have := hB.1; omega
  have e2 : rc_s S - (yr_B Y).2 + (rc_s T.2 - rc_s S) = rc_s T.2 - (yr_B Y).2 := by have := hB.2.1; omega
  have hB1 : (yr_B Y).1 ≤ rc_n T.2 ∧ (yr_B Y).2 ≤ rc_s T.2 ∧ (yr_F Y = true → rc_fl T.2 = true) := ⟨Nat.le_trans hB.1 m1, Nat.le_trans hB.2.1 m2, fun h => m4 (hB.2.2 h)⟩
  have hrun := hr T hT H locs ls hR hS hL (by rw [e1, e2]; exact ⟨Nat.sub_le_sub_right hle.1 _, Nat.sub_le_sub_right hle.2 _⟩) Tm hTm X
  rcases hrun with ⟨v, st₀, t, T', L9, h0, X', hL9, q1, q2, ⟨v9, g1, g2, g3, g4⟩, stp⟩ | ⟨q, st₀, t, T', L9, E, ce, h0, X', hL9, q1, q2, ⟨i, g1, g2, g3, g4⟩, hce, hcv, hcl, stp⟩
  · rcases hcase with ⟨v1, S1, rfl, hk1⟩ | ⟨E, q, S1, rfl, hk1⟩
    · cases g1
      cases g2
      obtain ⟨k1, k2, k3⟩ := vy_keepK h0 q1 hS (by rw [hk]) hL9 g4
      rw [rc_mpS] at g3
      have hz := kk v1 S1 hk1 T'.heap (locs ++ L9) ls (by rw [q1]; exact g3) k3 hL hB1
      rw [rc_len] at hz
      rw [e1, e2] at X'
      obtain ⟨t2, a1, b1⟩ := hz T' rfl X'
      exact ⟨t2, stp t2 a1, b1⟩
    · cases g1
  · rcases hcase with ⟨v1, S1, rfl, hk1⟩ | ⟨E9, q9, S1, rfl, hk1⟩
    · cases g1
    · cases g1
      subst g2
      obtain ⟨k1, k2, k3⟩ := vy_keepK h0 q1 hS (by rw [hk]) hL9 g4
      rw [rc_mpS] at g3
      rw [e1, e2] at X'
      obtain ⟨t2, a1, b1⟩ := kx _ _ S1 hk1 T'.heap (locs ++ L9) ls (st.map rc_val) ce (by rw [q1]; exact g3) k3 hL hB1 (by rw [q1]; exact hce) hcv hcl T' rfl X'
      exact ⟨t2, stp.trans a1, b1⟩
theorem rc_ofRun5 {x : rc_M β} (hk : yr_K Y = rc_k S) {Pk : β → rc_S → Prop} {Px : Nat → Nat → rc_S → Prop} (h : rc_Br Y x S Pk Px) {st0 : List rc_V} {a : Array Value}
    (hr : ∀ T : (β ⊕ (Nat × Nat)) × rc_S, x.1 S = some T → ∀ (H : Heap) (locs : List Loc) (ls : Array Slot), rc_Rp (yr_D Y) S H → va_S (rc_kw (yr_K Y)) (yr_s Y).heap H locs → rc_loc ls L → (rc_n S - (yr_B Y).1 + (rc_n T.2 - rc_n S) ≤ yr_mc Y ∧ rc_s S - (yr_B Y).2 + (rc_s T.2 - rc_s S) ≤ yr_ms Y) →
      vy_Run5 (yr_p Y) (yr_l Y) (yr_e Y) (yr_R Y) (yr_s Y) (yr_m Y) (yr_a Y) (yr_b Y) (yr_t Y) (yr_c Y) H locs (rc_n S - (yr_B Y).1) (rc_s S - (yr_B Y).2) (rc_n T.2 - rc_n S) (rc_s T.2 - rc_s S) (F0 (yr_m Y) pc ls (st0.map rc_val)) (st.map rc_val) (rc_Qc (yr_D Y) (rc_mp tv' T) (rc_kw (rc_k S)) a) (rc_XC (yr_D Y) (rc_mp tv' T) (rc_kw (rc_k S))) (rc_kw (rc_k S)))
    (kk : ∀ v S1, Pk v S1 → rc_Z Y S1 (pc + 5) L ((tv' v).toList ++ st)) (kx : ∀ E q S1, Px E q S1 → rc_ZX Y S1 pc L E q) : rc_Z Y S pc L st0 := by
  obtain ⟨T, hT, hle, hcase⟩ := h
  obtain ⟨m1, m2, m3, m4⟩ := x.2 S T hT
  intro H locs ls hR hS hL hB Tm hTm X
  have e1 : rc_n S - (yr_B Y).1 + (rc_n T.2 - rc_n S) = rc_n T.2 - (yr_B Y).1 := by have := hB.1; omega
  have e2 : rc_s S - (yr_B Y).2 + (rc_s T.2 - rc_s S) = rc_s T.2 - (yr_B Y).2 := by have := hB.2.1; omega
  have hB1 : (yr_B Y).1 ≤ rc_n T.2 ∧ (yr_B Y).2 ≤ rc_s T.2 ∧ (yr_F Y = true → rc_fl T.2 = true) := ⟨Nat.le_trans hB.1 m1, Nat.le_trans hB.2.1 m2, fun h => m4 (hB.2.2 h)⟩
  have hrun := hr T hT H locs ls hR hS hL (by rw [e1, e2]; exact ⟨Nat.sub_le_sub_right hle.1 _, Nat.sub_le_sub_right hle.2 _⟩) Tm hTm X
  rcases hrun with ⟨v, st₀, t, T', L9, h0, X', hL9, q1, q2, ⟨v9, g1, g2, g3, g4⟩, stp⟩ | ⟨q, st₀, t, T', L9, E, ce, h0, X', hL9, q1, q2, ⟨i, g1, g2, g3, g4⟩, hce, hcv, hcl, stp⟩
  · rcases hcase with ⟨v1, S1, rfl, hk1⟩ | ⟨E, q, S1, rfl, hk1⟩
    · cases g1
      cases g2
      obtain ⟨k1, k2, k3⟩ := vy_keepK h0 q1 hS (by rw [hk]) hL9 g4
      rw [rc_mpS] at g3
      have hz := kk v1 S1 hk1 T'.heap (locs ++ L9) ls (by rw [q1]; exact g3) k3 hL hB1
      rw [rc_len] at hz
      rw [e1, e2] at X'
      obtain ⟨t2, a1, b1⟩ := hz T' rfl X'
      exact ⟨t2, stp t2 a1, b1⟩
    · cases g1
  · rcases hcase with ⟨v1, S1, rfl, hk1⟩ | ⟨E9, q9, S1, rfl, hk1⟩
    · cases g1
    · cases g1
      subst g2
      obtain ⟨k1, k2, k3⟩ := vy_keepK h0 q1 hS (by rw [hk]) hL9 g4
      rw [rc_mpS] at g3
      rw [e1, e2] at X'
      obtain ⟨t2, a1, b1⟩ := kx _ _ S1 hk1 T'.heap (locs ++ L9) ls (st.map rc_val) ce (by rw [q1]; exact g3) k3 hL hB1 (by rw [q1]; exact hce) hcv hcl T' rfl X'
      exact ⟨t2, stp.trans a1, b1⟩
theorem rc_callV (hC : rc_C Y cc own ret nL) {y : MethodName} {b' : ByteArray} {L' fr' lo' idx : Nat} {r' : Option FieldType} {x : rc_M β} {ci : Nat} {C : String} {T9 : u_T} {N9 : Nat} (hcl : rc_cl[ci]? = some (C, T9, N9)) {v : Option Nat} {fs : List rc_V} (ho : rc_obj S ci v = some fs) {As : List rc_V} (hM : rc_Ct (yr_l Y) y (ws_ y b' L' r') fr' lo' tv' x (rc_q v :: As)) (h1 : Cond.methodLink own idx y ∈ lw_all) (h2 : Cond.instanceMethod y ∈ lw_all) (h3 : Cond.selects C y y ∈ lw_all) (h4 : Cond.initialized C ∈ lw_all) (h5 : Cond.code y b' L' r' ∈ lw_all) (hy : y.cls = C) (hd : y.cls ≠ "java/lang/invoke/MethodHandle" ∧ y.cls ≠ "java/lang/invoke/VarHandle" ∧ (parseMethodDescriptor y.desc).map (fun d => d.parameters.length) = some As.length) (hroom : fr' + 1 ≤ yr_fr Y ∧ 8 + (L' + 11) + lo' ≤ yr_lo Y) (hnL : nL = L.length) (hst : rc_wst st = true) (hsl : st.length ≤ 8) (n : Nat) (hn : As.length = n) (hk : yr_K Y = rc_k S) {Pk : β → rc_S → Prop} {Px : Nat → Nat → rc_S → Prop} (h : rc_Br Y x S Pk Px) {st0 : List rc_V} (hs0 : As.reverse ++ rc_q v :: st = st0) (d : decode cc pc = .ok (.invokevirtual idx, 3))
    (kk : ∀ v S1, Pk v S1 → rc_Z Y S1 (pc + 3) L ((tv' v).toList ++ st)) (kx : ∀ E q S1, Px E q S1 → rc_ZX Y S1 pc L E q) : rc_Z Y S pc L st0 := by
  subst hs0
  have hsum := rc_sum hst hsl
  obtain ⟨b9, rfl⟩ : ∃ b, v = some b := by
    cases v with
    | none => simp [rc_obj] at ho
    | some b => exact ⟨b, rfl⟩
  refine rc_ofRun (a := (Value.ref b9 :: As.map rc_val).toArray) (tv' := tv') (L := L) (st := st) hk h (fun T hT H locs ls hR hS hL hf => ?_) kk kx
  have hw : ∀ q, rc_n S ≤ q → rc_kw (rc_k S) q := fun q hq => by rw [← hk]; exact hC.2.2.2.2.2.2.2.2.1 q (Nat.le_trans hS.1 (by rw [hR.1]; exact hq))
  have hM1 := hM (yr_D Y) S T hT hw
  obtain ⟨b, e9, hp⟩ := rc_preV (As := As) hC hk hR hS hcl ho
  cases e9
  exact vy_runV ⟨hC.1, hC.2.1, hC.2.2.1, hC.2.2.2.1, hC.2.2.2.2.1⟩ hM1 (cwV n hC.2.2.2.2.1 (lw_V h1 h2 h3 h4 h5) rfl rfl rfl (by rw [← hn]; exact ⟨hy, hd⟩) hroom) hp rfl (by rw [List.length_map]; exact hn) (by rw [hnL]; exact hL.1) (by simp [rc_val, va_rf]) (lv_room hsum) d hf
theorem rc_callVN (hC : rc_C Y cc own ret nL) {y : MethodName} {b' : ByteArray} {L' fr' lo' idx : Nat} {r' : Option FieldType} {x : rc_M β} {ci : Nat} {C : String} {T9 : u_T} {N9 : Nat} (hcl : rc_cl[ci]? = some (C, T9, N9)) {v : Option Nat} {fs : List rc_V} (ho : rc_obj S ci v = some fs) {As : List rc_V} (hM : rc_Ct (yr_l Y) y (ws_ y b' L' r') fr' lo' tv' x (rc_q v :: As)) {host : String} (h1 : Cond.methodLinkNest own idx y host ∈ lw_odd) (h2 : Cond.instanceMethod y ∈ lw_all) (h3 : Cond.selects C y y ∈ lw_all) (h4 : Cond.initialized y.cls ∈ lw_all) (h5 : Cond.code y b' L' r' ∈ lw_all) (hd : y.cls ≠ "java/lang/invoke/MethodHandle" ∧ y.cls ≠ "java/lang/invoke/VarHandle" ∧ (parseMethodDescriptor y.desc).map (fun d => d.parameters.length) = some As.length) (hroom : fr' + 1 ≤ yr_fr Y ∧ 8 + (L' + 11) + lo' ≤ yr_lo Y) (hnL : nL = L.length) (hst : rc_wst st = true) (hsl : st.length ≤ 8) (n : Nat) (hn : As.length = n) (hk : yr_K Y = rc_k S) {Pk : β → rc_S → Prop} {Px : Nat → Nat → rc_S → Prop} (h : rc_Br Y x S Pk Px) {st0 : List rc_V} (hs0 : As.reverse ++ rc_q v :: st = st0) (d : decode cc pc = .ok (.invokevirtual idx, 3))
    (kk : ∀ v S1, Pk v S1 → rc_Z Y S1 (pc + 3) L ((tv' v).toList ++ st)) (kx : ∀ E q S1, Px E q S1 → rc_ZX Y S1 pc L E q) : rc_Z Y S pc L st0 := by
  subst hs0
  have hsum := rc_sum hst hsl
  obtain ⟨b9, rfl⟩ : ∃ b, v = some b := by
    cases v with
    | none => simp [rc_obj] at ho
    | some b => exact ⟨b, rfl⟩
  refine rc_ofRun (a := (Value.ref b9 :: As.map rc_val).toArray) (tv' := tv') (L := L) (st := st) hk h (fun T hT H locs ls hR hS hL hf => ?_) kk kx
  have hw : ∀ q, rc_n S ≤ q → rc_kw (rc_k S) q := fun q hq => by rw [← hk]; exact hC.2.2.2.2.2.2.2.2.1 q (Nat.le_trans hS.1 (by rw [hR.1]; exact hq))
  have hM1 := hM (yr_D Y) S T hT hw
  obtain ⟨b, e9, hp⟩ := rc_preV (As := As) hC hk hR hS hcl ho
  cases e9
  exact vy_runVN ⟨hC.1, hC.2.1, hC.2.2.1, hC.2.2.2.1, hC.2.2.2.2.1⟩ hM1 ⟨va_cnB n hC.2.2.2.2.1 (lw_meth h5) rfl rfl rfl (hC.2.2.2.2.2.2.2.1.2.2.1 _ h1) (hC.2.2.2.2.1 _ h4) (by rw [← hn]; exact hd) hroom, hC.2.2.2.2.1 _ h2, hC.2.2.2.2.1 _ h3⟩ hp rfl (by rw [List.length_map]; exact hn) (by rw [hnL]; exact hL.1) (by simp [rc_val, va_rf]) (lv_room hsum) d hf
theorem rc_callS (hC : rc_C Y cc own ret nL) {y : MethodName} {b' : ByteArray} {L' fr' lo' idx : Nat} {r' : Option FieldType} {x : rc_M β} {As : List rc_V} (hM : rc_Ct (yr_l Y) y (ws_ y b' L' r') fr' lo' tv' x As) (h1 : Cond.methodLink own idx y ∈ lw_all) (h2 : Cond.static y ∈ lw_all) (h3 : Cond.initialized y.cls ∈ lw_all) (h5 : Cond.code y b' L' r' ∈ lw_all) (hd : y.cls ≠ "java/lang/invoke/MethodHandle" ∧ y.cls ≠ "java/lang/invoke/VarHandle" ∧ (parseMethodDescriptor y.desc).map (fun d => d.parameters.length) = some As.length) (hroom : fr' + 1 ≤ yr_fr Y ∧ 8 + (L' + 11) + lo' ≤ yr_lo Y) (hnL : nL = L.length) (hst : rc_wst st = true) (hsl : st.length ≤ 8) (n : Nat) (hn : As.length = n) (hk : yr_K Y = rc_k S) {Pk : β → rc_S → Prop} {Px : Nat → Nat → rc_S → Prop} (h : rc_Br Y x S Pk Px) {st0 : List rc_V} (hs0 : As.reverse ++ st = st0) (d : decode cc pc = .ok (.invokestatic idx, 3))
    (kk : ∀ v S1, Pk v S1 → rc_Z Y S1 (pc + 3) L ((tv' v).toList ++ st)) (kx : ∀ E q S1, Px E q S1 → rc_ZX Y S1 pc L E q) : rc_Z Y S pc L st0 := by
  subst hs0
  have hsum := rc_sum hst hsl
  refine rc_ofRun (a := (As.map rc_val).toArray) (tv' := tv') (L := L) (st := st) hk h (fun T hT H locs ls hR hS hL hf => ?_) kk kx
  have hw : ∀ q, rc_n S ≤ q → rc_kw (rc_k S) q := fun q hq => by rw [← hk]; exact hC.2.2.2.2.2.2.2.2.1 q (Nat.le_trans hS.1 (by rw [hR.1]; exact hq))
  have hM1 := hM (yr_D Y) S T hT hw
  have hp := rc_preS (As := As.map rc_val) hC hk hR hS
  exact vy_runS ⟨hC.1, hC.2.1, hC.2.2.1, hC.2.2.2.1, hC.2.2.2.2.1⟩ hM1 (va_cwS n hC.2.2.2.2.1 (lw_S h1 h2 h3 h5) rfl rfl rfl (by rw [← hn]; exact hd) hroom) hp rfl (by rw [List.length_map]; exact hn) (by rw [hnL]; exact hL.1) (by simp) (lv_room hsum) d hf
theorem rc_callI (hC : rc_C Y cc own ret nL) {y : MethodName} {b' : ByteArray} {L' fr' lo' idx : Nat} {r' : Option FieldType} {x : rc_M β} {v : Option Nat} {b9 : Nat} (ho : v = some b9) {As : List rc_V} (hM : rc_Ct (yr_l Y) y (ws_ y b' L' r') fr' lo' tv' x (rc_q v :: As)) (h1 : Cond.methodLink own idx y ∈ lw_all) (h2 : Cond.instanceMethod y ∈ lw_all) (h3 : Cond.initialized y.cls ∈ lw_all) (h5 : Cond.code y b' L' r' ∈ lw_all) (hr : r' = none) (hi : y.name = "<init>") (hd : y.cls ≠ "java/lang/invoke/MethodHandle" ∧ y.cls ≠ "java/lang/invoke/VarHandle" ∧ (parseMethodDescriptor y.desc).map (fun d => d.parameters.length) = some As.length) (hroom : fr' + 1 ≤ yr_fr Y ∧ 8 + (L' + 11) + lo' ≤ yr_lo Y) (hnL : nL = L.length) (hst : rc_wst st = true) (hsl : st.length ≤ 8) (n : Nat) (hn : As.length = n) (hk : yr_K Y = rc_k S) {Pk : β → rc_S → Prop} {Px : Nat → Nat → rc_S → Prop} (h : rc_Br Y x S Pk Px) {st0 : List rc_V} (hs0 : As.reverse ++ rc_q v :: st = st0) (d : decode cc pc = .ok (.invokespecial idx, 3))
    (kk : ∀ v S1, Pk v S1 → rc_Z Y S1 (pc + 3) L ((tv' v).toList ++ st)) (kx : ∀ E q S1, Px E q S1 → rc_ZX Y S1 pc L E q) : rc_Z Y S pc L st0 := by
  subst hs0
  have hsum := rc_sum hst hsl
  subst ho
  refine rc_ofRun (a := (Value.ref b9 :: As.map rc_val).toArray) (tv' := tv') (L := L) (st := st) hk h (fun T hT H locs ls hR hS hL hf => ?_) kk kx
  have hw : ∀ q, rc_n S ≤ q → rc_kw (rc_k S) q := fun q hq => by rw [← hk]; exact hC.2.2.2.2.2.2.2.2.1 q (Nat.le_trans hS.1 (by rw [hR.1]; exact hq))
  have hM1 := hM (yr_D Y) S T hT hw
  have hp := rc_preS (As := (rc_q (some b9) :: As).map rc_val) hC hk hR hS
  exact vy_runI ⟨hC.1, hC.2.1, hC.2.2.1, hC.2.2.2.1, hC.2.2.2.2.1⟩ hM1 (by subst hr; exact cwI n hC.2.2.2.2.1 (lw_meth h5) rfl rfl rfl (hC.2.2.2.2.1 _ h3) (hC.2.2.2.2.1 _ h1) (hC.2.2.2.2.1 _ h2) hi (by rw [← hn]; exact hd) hroom) hp rfl (by rw [List.length_map]; exact hn) (by rw [hnL]; exact hL.1) (by simp [rc_val, va_rf]) (lv_room hsum) d hf
theorem rc_callIN (hC : rc_C Y cc own ret nL) {y : MethodName} {b' : ByteArray} {L' fr' lo' idx : Nat} {r' : Option FieldType} {x : rc_M β} {v : Option Nat} {b9 : Nat} (ho : v = some b9) {As : List rc_V} (hM : rc_Ct (yr_l Y) y (ws_ y b' L' r') fr' lo' tv' x (rc_q v :: As)) {host : String} (h1 : Cond.methodLinkNest own idx y host ∈ lw_odd) (h2 : Cond.instanceMethod y ∈ lw_all) (h3 : Cond.initialized y.cls ∈ lw_all) (h5 : Cond.code y b' L' r' ∈ lw_all) (hr : r' = none) (hi : y.name = "<init>") (hd : y.cls ≠ "java/lang/invoke/MethodHandle" ∧ y.cls ≠ "java/lang/invoke/VarHandle" ∧ (parseMethodDescriptor y.desc).map (fun d => d.parameters.length) = some As.length) (hroom : fr' + 1 ≤ yr_fr Y ∧ 8 + (L' + 11) + lo' ≤ yr_lo Y) (hnL : nL = L.length) (hst : rc_wst st = true) (hsl : st.length ≤ 8) (n : Nat) (hn : As.length = n) (hk : yr_K Y = rc_k S) {Pk : β → rc_S → Prop} {Px : Nat → Nat → rc_S → Prop} (h : rc_Br Y x S Pk Px) {st0 : List rc_V} (hs0 : As.reverse ++ rc_q v :: st = st0) (d : decode cc pc = .ok (.invokespecial idx, 3))
    (kk : ∀ v S1, Pk v S1 → rc_Z Y S1 (pc + 3) L ((tv' v).toList ++ st)) (kx : ∀ E q S1, Px E q S1 → rc_ZX Y S1 pc L E q) : rc_Z Y S pc L st0 := by
  subst hs0
  have hsum := rc_sum hst hsl
  subst ho
  refine rc_ofRun (a := (Value.ref b9 :: As.map rc_val).toArray) (tv' := tv') (L := L) (st := st) hk h (fun T hT H locs ls hR hS hL hf => ?_) kk kx
  have hw : ∀ q, rc_n S ≤ q → rc_kw (rc_k S) q := fun q hq => by rw [← hk]; exact hC.2.2.2.2.2.2.2.2.1 q (Nat.le_trans hS.1 (by rw [hR.1]; exact hq))
  have hM1 := hM (yr_D Y) S T hT hw
  have hp := rc_preS (As := (rc_q (some b9) :: As).map rc_val) hC hk hR hS
  exact vy_runIN ⟨hC.1, hC.2.1, hC.2.2.1, hC.2.2.2.1, hC.2.2.2.2.1⟩ hM1 (by subst hr; exact ⟨va_cnB n hC.2.2.2.2.1 (lw_meth h5) rfl rfl rfl (hC.2.2.2.2.2.2.2.1.2.2.1 _ h1) (hC.2.2.2.2.1 _ h3) (by rw [← hn]; exact hd) hroom, hi, hC.2.2.2.2.1 _ h2⟩) hp rfl (by rw [List.length_map]; exact hn) (by rw [hnL]; exact hL.1) (by simp [rc_val, va_rf]) (lv_room hsum) d hf
theorem rc_callU (hC : rc_C Y cc own ret nL) {y : MethodName} {b' : ByteArray} {L' fr' lo' idx : Nat} {r' : Option FieldType} {x : rc_M β} {ci : Nat} {C : String} {T9 : u_T} {N9 : Nat} (hcl : rc_cl[ci]? = some (C, T9, N9)) {v : Option Nat} {fs : List rc_V} (ho : rc_obj S ci v = some fs) {As : List rc_V} (hM : rc_Ct (yr_l Y) y (ws_ y b' L' r') fr' lo' tv' x (rc_q v :: As)) {x0 : MethodName} {owner : String} (h1 : Cond.methodLink own idx x0 ∈ lw_all) (h2 : Cond.sameMethod x0.cls owner x0.name x0.desc ∈ lw_all) (h3 : Cond.selects C x0 y ∈ lw_all) (h4 : Cond.instanceMethod y ∈ lw_all) (h6 : Cond.initialized y.cls ∈ lw_all) (h5 : Cond.code y b' L' r' ∈ lw_all) (hyx : y = ⟨owner, x0.name, x0.desc⟩) (hd : owner ≠ "java/lang/invoke/MethodHandle" ∧ owner ≠ "java/lang/invoke/VarHandle" ∧ (parseMethodDescriptor x0.desc).map (fun d => d.parameters.length) = some As.length) (hroom : fr' + 1 ≤ yr_fr Y ∧ 8 + (L' + 11) + lo' ≤ yr_lo Y) (hnL : nL = L.length) (hst : rc_wst st = true) (hsl : st.length ≤ 8) (n : Nat) (hn : As.length = n) (hk : yr_K Y = rc_k S) {Pk : β → rc_S → Prop} {Px : Nat → Nat → rc_S → Prop} (h : rc_Br Y x S Pk Px) {st0 : List rc_V} (hs0 : As.reverse ++ rc_q v :: st = st0) (d : decode cc pc = .ok (.invokevirtual idx, 3))
    (kk : ∀ v S1, Pk v S1 → rc_Z Y S1 (pc + 3) L ((tv' v).toList ++ st)) (kx : ∀ E q S1, Px E q S1 → rc_ZX Y S1 pc L E q) : rc_Z Y S pc L st0 := by
  subst hs0
  have hsum := rc_sum hst hsl
  obtain ⟨b9, rfl⟩ : ∃ b, v = some b := by
    cases v with
    | none => simp [rc_obj] at ho
    | some b => exact ⟨b, rfl⟩
  refine rc_ofRun (a := (Value.ref b9 :: As.map rc_val).toArray) (tv' := tv') (L := L) (st := st) hk h (fun T hT H locs ls hR hS hL hf => ?_) kk kx
  have hw : ∀ q, rc_n S ≤ q → rc_kw (rc_k S) q := fun q hq => by rw [← hk]; exact hC.2.2.2.2.2.2.2.2.1 q (Nat.le_trans hS.1 (by rw [hR.1]; exact hq))
  have hM1 := hM (yr_D Y) S T hT hw
  obtain ⟨b, e9, hp⟩ := rc_preV (As := As) hC hk hR hS hcl ho
  cases e9
  exact vy_runU ⟨hC.1, hC.2.1, hC.2.2.1, hC.2.2.2.1, hC.2.2.2.2.1⟩ hM1 (va_cwU n hC.2.2.2.2.1 (rc_wU h1 h2 h3 h4 h6 h5) rfl rfl rfl hyx (by rw [← hn]; exact hd) hroom) hp rfl (by rw [List.length_map]; exact hn) (by rw [hnL]; exact hL.1) (by simp [rc_val, va_rf]) (lv_room hsum) d hf
theorem rc_callSU (hC : rc_C Y cc own ret nL) {y : MethodName} {b' : ByteArray} {L' fr' lo' idx : Nat} {r' : Option FieldType} {x : rc_M β} {ci : Nat} {C : String} {T9 : u_T} {N9 : Nat} (hcl : rc_cl[ci]? = some (C, T9, N9)) {v : Option Nat} {fs : List rc_V} (ho : rc_obj S ci v = some fs) {As : List rc_V} (hM : rc_Ct (yr_l Y) y (ws_ y b' L' r') fr' lo' tv' x (rc_q v :: As)) (h1 : Cond.methodLink own idx y ∈ lw_all) (h2 : Cond.sameMethod y.cls y.cls y.name y.desc ∈ lw_all) (h3 : Cond.superclass own y.cls ∈ lw_all) (h4 : Cond.instanceMethod y ∈ lw_all) (h6 : Cond.initialized y.cls ∈ lw_all) (h5 : Cond.code y b' L' r' ∈ lw_all) (hd : y.name ≠ "<init>" ∧ (parseMethodDescriptor y.desc).map (fun d => d.parameters.length) = some As.length) (hroom : fr' + 1 ≤ yr_fr Y ∧ 8 + (L' + 11) + lo' ≤ yr_lo Y) (hnL : nL = L.length) (hst : rc_wst st = true) (hsl : st.length ≤ 8) (n : Nat) (hn : As.length = n) (hk : yr_K Y = rc_k S) {Pk : β → rc_S → Prop} {Px : Nat → Nat → rc_S → Prop} (h : rc_Br Y x S Pk Px) {st0 : List rc_V} (hs0 : As.reverse ++ rc_q v :: st = st0) (d : decode cc pc = .ok (.invokespecial idx, 3))
    (kk : ∀ v S1, Pk v S1 → rc_Z Y S1 (pc + 3) L ((tv' v).toList ++ st)) (kx : ∀ E q S1, Px E q S1 → rc_ZX Y S1 pc L E q) : rc_Z Y S pc L st0 := by
  subst hs0
  have hsum := rc_sum hst hsl
  obtain ⟨b9, rfl⟩ : ∃ b, v = some b := by
    cases v with
    | none => simp [rc_obj] at ho
    | some b => exact ⟨b, rfl⟩
  refine rc_ofRun (a := (Value.ref b9 :: As.map rc_val).toArray) (tv' := tv') (L := L) (st := st) hk h (fun T hT H locs ls hR hS hL hf => ?_) kk kx
  have hw : ∀ q, rc_n S ≤ q → rc_kw (rc_k S) q := fun q hq => by rw [← hk]; exact hC.2.2.2.2.2.2.2.2.1 q (Nat.le_trans hS.1 (by rw [hR.1]; exact hq))
  have hM1 := hM (yr_D Y) S T hT hw
  obtain ⟨b, e9, hp⟩ := rc_preV (As := As) hC hk hR hS hcl ho
  cases e9
  exact vy_runSU (hC.2.2.2.2.2.2.2.1.1.1 _ _ hcl).2 ⟨hC.1, hC.2.1, hC.2.2.1, hC.2.2.2.1, hC.2.2.2.2.1⟩ hM1 (va_cwSU n hC.2.2.2.2.1 (rc_wSU h1 h2 h3 h4 h6 h5) rfl rfl rfl (by rw [← hn]; exact hd) hroom) hp rfl (by rw [List.length_map]; exact hn) (by rw [hnL]; exact hL.1) (by simp [rc_val, va_rf]) (lv_room hsum) d hf
theorem rc_callF (hC : rc_C Y cc own ret nL) {y : MethodName} {b' : ByteArray} {L' fr' lo' idx : Nat} {r' : Option FieldType} {x : rc_M β} {ci : Nat} {C : String} {T9 : u_T} {N9 : Nat} (hcl : rc_cl[ci]? = some (C, T9, N9)) {v : Option Nat} {fs : List rc_V} (ho : rc_obj S ci v = some fs) {As : List rc_V} (hM : rc_Ct (yr_l Y) y (ws_ y b' L' r') fr' lo' tv' x (rc_q v :: As)) {x0 : MethodName} {count : Nat} (h1 : Cond.methodLink own idx x0 ∈ lw_all) (h3 : Cond.selects C x0 y ∈ lw_all) (h4 : Cond.instanceMethod y ∈ lw_all) (h6 : Cond.initialized y.cls ∈ lw_all) (h5 : Cond.code y b' L' r' ∈ lw_all) (hfw : (C, x0, y) ∈ rc_fws) (hd : x0.cls ≠ "java/lang/invoke/MethodHandle" ∧ x0.cls ≠ "java/lang/invoke/VarHandle" ∧ (parseMethodDescriptor x0.desc).map (fun d => d.parameters.length) = some As.length) (hroom : fr' + 1 ≤ yr_fr Y ∧ 8 + (L' + 11) + lo' ≤ yr_lo Y) (hnL : nL = L.length) (hst : rc_wst st = true) (hsl : st.length ≤ 8) (n : Nat) (hn : As.length = n) (hk : yr_K Y = rc_k S) {Pk : β → rc_S → Prop} {Px : Nat → Nat → rc_S → Prop} (h : rc_Br Y x S Pk Px) {st0 : List rc_V} (hs0 : As.reverse ++ rc_q v :: st = st0) (d : decode cc pc = .ok (.invokeinterface idx count, 5))
    (kk : ∀ v S1, Pk v S1 → rc_Z Y S1 (pc + 5) L ((tv' v).toList ++ st)) (kx : ∀ E q S1, Px E q S1 → rc_ZX Y S1 pc L E q) : rc_Z Y S pc L st0 := by
  subst hs0
  have hsum := rc_sum hst hsl
  obtain ⟨b9, rfl⟩ : ∃ b, v = some b := by
    cases v with
    | none => simp [rc_obj] at ho
    | some b => exact ⟨b, rfl⟩
  refine rc_ofRun5 (a := (Value.ref b9 :: As.map rc_val).toArray) (tv' := tv') (L := L) (st := st) hk h (fun T hT H locs ls hR hS hL hf => ?_) kk kx
  have hw : ∀ q, rc_n S ≤ q → rc_kw (rc_k S) q := fun q hq => by rw [← hk]; exact hC.2.2.2.2.2.2.2.2.1 q (Nat.le_trans hS.1 (by rw [hR.1]; exact hq))
  have hM1 := hM (yr_D Y) S T hT hw
  obtain ⟨b, e9, hp⟩ := rc_preV (As := As) hC hk hR hS hcl ho
  cases e9
  exact vy_runF (hC.2.2.2.2.2.2.2.1.1.1 _ _ hcl).2 ⟨hC.1, hC.2.1, hC.2.2.1, hC.2.2.2.1, hC.2.2.2.2.1⟩ hM1 (va_cwF n hC.2.2.2.2.1 (rc_wF h1 h3 h4 h6 h5) rfl rfl rfl (hC.2.2.2.2.2.2.2.1.2.2.2.1 _ hfw) (by rw [← hn]; exact hd) hroom) hp rfl (by rw [List.length_map]; exact hn) (by rw [hnL]; exact hL.1) (by simp [rc_val, va_rf]) (lv_room hsum) d hf
end RCC
