set_option maxRecDepth 100000
/-! ROWS: the model's numbers; contracts of the model's methods -/
theorem rc_mN_lt {j : Nat} (h : rc_mN j ≠ 0) : j < 23 := by
  rcases Nat.lt_or_ge j 23 with q | q
  · exact q
  · exfalso
    apply h
    unfold rc_mN
    split <;> first | omega | rfl
section RCMD
variable {D : rc_D} {S : rc_S} {H H1 : Heap}
/-- the model's numbers are written -/
theorem rc_Rp.setg {g' : Nat → Nat → Int32} {j0 : Nat} (hj0 : rc_mN j0 ≠ 0 ∨ j0 = 100) (hf : rc_fl S = true) (hR : rc_Rp D S H) (hz : H1.size = H.size) (oq : ∀ q : Nat, q ≠ rc_km (rc_k S) j0 → H1[q]? = H[q]?)
    (ho : ∀ j, j ≠ j0 → g' j = rc_g S j) (h1 : j0 = 100 → t_OB (rc_km (rc_k S) 100) (D.1.1 8) 23 (D.1.2 8) H1 (rc_mF (rc_k S) g')) (h2 : rc_mN j0 ≠ 0 → H1[rc_km (rc_k S) j0]? = some (vp_cell (D.2 (rc_mT j0)) (rc_mN j0, .inl (g' j0)))) : rc_Rp D (S.1, S.2.1, S.2.2.1, S.2.2.2.1, g', S.2.2.2.2.2) H1 := by
  obtain ⟨r1, r2, r3⟩ := hR
  obtain ⟨m1, m2, m3, m4⟩ := r3 hf
  refine ⟨hz.trans r1, fun a e he => ⟨(r2 a e he).1.kept (oq a (fun q => ?_)), (r2 a e he).2⟩, fun _ => ⟨?_, ?_, m3, m4⟩⟩
  · have := (m4 j0 hj0).1
    rw [← q, show S.1 a = some e from he] at this
    cases this
  · by_cases h : j0 = 100
    · exact h1 h
    · have hne : rc_km (rc_k S) 100 ≠ rc_km (rc_k S) j0 := fun q => h (m3 100 j0 (Or.inr rfl) hj0 q).symm
      refine (m1.kept (oq _ hne)).to (fun k hk => ?_)
      have h9 : g' 100 = rc_g S 100 := ho 100 (fun q => h q.symm)
      show (if rc_mN k = 0 then Value.int (rc_g S 100 k) else Value.ref (rc_km (rc_k S) k)) = (if rc_mN k = 0 then Value.int (g' 100 k) else Value.ref (rc_km (rc_k S) k))
      rw [h9]
  · intro j hj
    by_cases h : j = j0
    · subst h
      exact h2 hj
    · have hne : rc_km (rc_k S) j ≠ rc_km (rc_k S) j0 := fun q => h (m3 j j0 (Or.inl hj) hj0 q)
      show H1[rc_km (rc_k S) j]? = some (vp_cell _ (rc_mN j, .inl (g' j)))
      rw [oq _ hne, ho j h]
      exact m2 j hj
end RCMD
/-- a contract of a method of the model's -/
def rc_Cm {α : Type} (l : Launch) (y : MethodName) (ws : List Cond) (fr lo : Nat) (tv : α → Option rc_V) (x : rc_M α) (As : List rc_V) : Prop :=
  ∀ (D : rc_D) (S : rc_S) (T : (α ⊕ (Nat × Nat)) × rc_S), rc_fl S = true → x.1 S = some T → (yy : ∀ q, rc_n S ≤ q → rc_kw (rc_k S) q) →
    vy_Met l y ws ({ frames := fr, cells := rc_n T.2 - rc_n S, slots := rc_s T.2 - rc_s S, locals := lo }) (va_Pc ((rc_q (some (rc_km (rc_k S) 100)) :: As).map rc_val) (fun U => rc_Env D (rc_k S) U U.heap ∧ rc_Rp D S U.heap)) (rc_Qc D (rc_mp tv T) (rc_kw (rc_k S))) (rc_XC D (rc_mp tv T) (rc_kw (rc_k S))) (rc_n T.2 - rc_n S) (rc_s T.2 - rc_s S) (rc_kw (rc_k S))
theorem rc_Cm_of {α : Type} {l : Launch} {y : MethodName} {cc : ByteArray} {maxL : Nat} {ret : Option FieldType} {fr lo : Nat} {tv : α → Option rc_V} {x : rc_M α} {As : List rc_V} (hst : l.stackTraces = false) (hy : plainFor y = true) (hc : As.all rc_cat1 = true) (hn : As.length + 1 ≤ maxL)
    (body : ∀ (Y : rc_Y) (S : rc_S), rc_C Y cc y.cls ret maxL → (yr_l Y = l ∧ (yr_t Y).name = y.name ∧ yr_fr Y = fr ∧ yr_lo Y = lo) → yr_F Y = true → (∀ z ∈ (yr_c Y).exceptionTable.toList, False) → rc_Go Y tv x S → rc_Z Y S 0 (rc_lc (rc_q (some (rc_km (yr_K Y) 100)) :: As) maxL) []) : rc_Cm l y (ws_ y cc maxL ret) fr lo tv x As := by
  intro D S T hfl hT hw
  have hkk : rc_k T.2 = rc_k S := (x.2 S T hT).2.2.1
  refine vy_ofW (cc := cc) (maxL := maxL) (ret := ret) hy rfl ?_
  intro p e s m args below meth c s₁ B hml htab hv
  obtain ⟨rfl, hE, hR⟩ := hv
  have hts := atoms_spec (ws := ws_ y cc maxL ret) B.pre
  have hts : ∀ w ∈ lw_all, w.before _ s = true := fun w h => hts w (List.mem_cons_of_mem _ h)
  rw [lg_entry_eq]
  have hkT : rc_k (rc_mp tv T).2 = rc_k S := by rw [rc_mpS]; exact hkk
  have hb := body (((p, l, e), (s, m, ((rc_q (some (rc_km (rc_k S) 100)) :: As).map rc_val).toArray), below, meth, c), D, (rc_n S, rc_s S), rc_mp tv T, (fr, lo, rc_fl S)) S
    ⟨B.exec, B.bytes, hml, findClass_of_methodNamed B.named, hts, B.returns, B.notSynchronized, by show rc_Env D (rc_k (rc_mp tv T).2) s s.heap; rw [hkT]; exact hE, fun q hq => by show rc_kw (rc_k (rc_mp tv T).2) q; rw [hkT]; exact hw q (by rw [← hR.1]; exact hq), hR.1⟩
    ⟨rfl, (name_of_methodNamed B.named B.method).1, rfl, rfl⟩ hfl htab ⟨T, hT, rfl⟩
  have hc2 : (rc_q (some (rc_km (rc_k S) 100)) :: As).all rc_cat1 = true := by simp only [List.all_cons, hc]; rfl
  have h1 := hb s.heap [] _ hR va_S.rf (by
    show rc_loc _ (rc_lc (rc_q (some (rc_km (rc_k (rc_mp tv T).2) 100)) :: As) maxL)
    rw [hkT]
    exact rc_entry _ hc2 hn) ⟨Nat.le_refl _, Nat.le_refl _, fun h => h⟩
  have h2 := W.cs (Nat.sub_self (rc_n S)).symm (Nat.sub_self (rc_s S)).symm h1
  dsimp only [yr_p, yr_l, yr_e, yr_R, yr_s, yr_m, yr_a, yr_b, yr_t, yr_c, yr_Q, yr_D, yr_B, yr_T, yr_K, yr_fr, yr_lo, yr_mc, yr_ms] at h2
  rw [hkT, rc_mpS] at h2
  exact h2
section RCMR
variable {Y : rc_Y} {cc : ByteArray} {own : String} {ret : Option FieldType} {nL : Nat} {S : rc_S} {pc : Nat} {L : List (Option rc_V)} {st : List rc_V} {α β : Type} {tv : α → Option rc_V} {tv' : β → Option rc_V}
theorem rc_cl8 : rc_cl[8]? = some (RX9, TX9, 23) := rfl
theorem rc_r_mget (hC : rc_C Y cc own ret nL) (hF : yr_F Y = true) {idx k : Nat} (F : rc_FldG own idx 8 k) (hk0 : rc_mN k = 0) (d : decode cc pc = .ok (.getfield idx, 3)) {f : Int32 → rc_M α} (h : rc_Go Y tv (rc_bind (rc_mget k) f) S) (kk : ∀ x, rc_Go Y tv (f x) S → rc_Z Y S (pc + 3) L (rc_i x :: st)) : rc_Z Y S pc L (rc_q (some (rc_km (yr_K Y) 100)) :: st) := by
  intro H locs ls hR hS hL hB
  have hk := h.le.2.2
  obtain ⟨x, hx, h9⟩ := h.read
  split at hx
  · cases hx
    obtain ⟨⟨cell, q1, q2, q3, q4⟩, m2, m3, m4⟩ := hR.2.2 (hB.2.2 hF)
    rw [← hk] at q1
    refine rc_getW hC F d q1 rc_cl8 (by rw [q3]; exact fun h => by cases h) (v := .int (rc_g S 100 k)) (fun hk9 => ?_) (kk _ h9 H locs ls hR hS hL hB)
    rw [q4 k hk9]
    simp [rc_mF, hk0]
  · cases hx
theorem rc_r_mref (hC : rc_C Y cc own ret nL) (hF : yr_F Y = true) {idx j : Nat} (F : rc_FldG own idx 8 j) (hj : rc_mN j ≠ 0) (d : decode cc pc = .ok (.getfield idx, 3)) {x : rc_M α} (h : rc_Go Y tv x S) (kk : rc_Z Y S (pc + 3) L (rc_q (some (rc_km (yr_K Y) j)) :: st)) : rc_Z Y S pc L (rc_q (some (rc_km (yr_K Y) 100)) :: st) := by
  intro H locs ls hR hS hL hB
  have hk := h.le.2.2
  obtain ⟨⟨cell, q1, q2, q3, q4⟩, m2, m3, m4⟩ := hR.2.2 (hB.2.2 hF)
  rw [← hk] at q1
  refine rc_getW hC F d q1 rc_cl8 (by rw [q3]; exact fun h => by cases h) (v := .ref (rc_km (yr_K Y) j)) (fun hk9 => ?_) (kk H locs ls hR hS hL hB)
  rw [q4 j hk9, hk]
  simp [rc_mF, hj]
theorem rc_r_mput (hC : rc_C Y cc own ret nL) (hF : yr_F Y = true ∨ rc_fl S = true) {idx k : Nat} {ty : FieldType} (F : rc_Fld own idx 8 k ty false) (hk0 : rc_mN k = 0) (d : decode cc pc = .ok (.putfield idx, 3)) {x : Int32} {f : Unit → rc_M α} (h : rc_Go Y tv (rc_bind (rc_mput k ty x) f) S) (kk : ∀ S1, rc_Go Y tv (f ()) S1 → rc_Z Y S1 (pc + 3) L st) : rc_Z Y S pc L (rc_i x :: rc_q (some (rc_km (yr_K Y) 100)) :: st) := by
  intro H locs ls hR hS hL hB
  have hk := h.le.2.2
  obtain ⟨g', hx, h9⟩ := h.sg
  split at hx
  · rename_i hc
    cases hx
    have hf := hF.elim hB.2.2 id
    obtain ⟨⟨cell, q1, q2, q3, q4⟩, m2, m3, m4⟩ := hR.2.2 hf
    have hfx := hc.2
    simp only [rc_fit, Bool.and_eq_true, decide_eq_true_eq] at hfx
    obtain ⟨ex, hb, hml, hown, hts, hret, hlk, hE, hw, hsz⟩ := hC
    obtain ⟨ref, C, T, N, f1, f2, f3, f4, f5, ⟨ty0, f6⟩, f7, f8, f9, f10⟩ := F
    cases rc_cl8.symm.trans f1
    have hap := va_apart (own := own) hts f2 ty0 f6 f7 hE.1 f1
    obtain ⟨hSl, hfc, kC, hkC, hkind⟩ := hE.1.1 8 _ f1
    obtain ⟨cf, kf, fi, fl, hi, hsl⟩ := hSl k f3
    have hst := (u_facts hfc hkC (u_lays hts f2 f3) hi).1
    have hi' : (yr_s Y).fieldFound? ref (TX9 k).2.1 (TX9 k).2.2.1 = some (cf, kf, fi, fl) := by
      rcases f5 with e | e
      · rw [e]; exact hi
      · exact u_same (hts _ e) _ hi
    have hlt : fl.slot < cell.slots.size := by rw [hsl]; exact k2_hasslot (q4 k f3)
    have hlay := hts _ (f2 _ (u_in_lay f3))
    unfold u_lay at hlay
    rw [if_neg (by rw [f8]; decide)] at hlay
    have h6 := u_store hfc hkC hkind hlay hi f9 hfx.2 hfx.1
    have fin1 : ∀ H' : Heap, H'[rc_km (yr_K Y) 100]? = some (cell.setSlot fl.slot (.int x)) → H'.size = H.size → (∀ q, q ≠ rc_km (yr_K Y) 100 → H'[q]? = H[q]?) → W (yr_p Y) (yr_l Y) (yr_e Y) (yr_R Y) (yr_s Y) (yr_m Y) (yr_a Y) (yr_b Y) (yr_t Y) (yr_c Y) H' (locs ++ [⟨rc_km (yr_K Y) 100, fl.slot⟩]) (rc_n S - (yr_B Y).1) (rc_s S - (yr_B Y).2) (yr_Q Y) (F0 (yr_m Y) (pc + 3) ls (st.map rc_val)) := by
      intro H' e1 e2 e3
      have haw := (m4 100 (Or.inr rfl)).2
      rw [hk] at e1 e3 ⊢
      refine kk _ h9 H' _ ls (rc_Rp.setg (j0 := 100) (Or.inr rfl) hf hR e2 e3 (fun j hj => ?_) (fun _ => ?_) (fun h => absurd rfl h)) (hS.put e2 e3 (by rw [hk]; exact haw)) hL hB
      · funext i
        simp [rc_up2, hj]
      · rw [hsl] at e1
        refine t_OB.to (V := updV (rc_mF (rc_k S) (rc_g S)) k (.int x)) ⟨_, e1, q2, q3, t_set q4 hap f3 _⟩ (fun j hj => ?_)
        by_cases hjk : j = k
        · subst hjk
          simp [updV, rc_mF, hk0, rc_up2]
        · simp [updV, rc_mF, hjk, rc_up2]
    rw [← hk] at q1
    rcases f4 with e | ⟨host, e⟩
    · exact W.putK ex hb (f := fl) ⟨hown, hts _ e, ⟨_, _, _, hi'⟩, hst⟩ (by rw [q2]; exact h6) q1 q3 hlt rfl rfl d fin1
    · exact va_WputK ex hb (f := fl) hown (va_Nw.use (w := .fieldLinkNest _ _ _ _ _ _) rfl (hE.2.2.1 _ e)) hi' hst (by rw [q2]; exact h6) q1 q3 hlt rfl rfl d fin1
  · cases hx
theorem rc_mT_lt (j : Nat) : rc_mT j < 5 := by
  unfold rc_mT
  split <;> decide
theorem rc_r_mald (hC : rc_C Y cc own ret nL) (hF : yr_F Y = true) {j : Nat} (hj : rc_mN j ≠ 0) (hj2 : rc_mT j = 0) (d : decode cc pc = .ok (.iaload, 1)) {i : Int32} {f : Int32 → rc_M α} (h : rc_Go Y tv (rc_bind (rc_mald j i) f) S) (kk : ∀ x, rc_Go Y tv (f x) S → rc_Z Y S (pc + 1) L (rc_i x :: st)) : rc_Z Y S pc L (rc_i i :: rc_q (some (rc_km (yr_K Y) j)) :: st) := by
  intro H locs ls hR hS hL hB
  have hk := h.le.2.2
  obtain ⟨x, hx, h9⟩ := h.read
  split at hx
  · rename_i hc
    cases hx
    obtain ⟨m1, m2, m3, m4⟩ := hR.2.2 (hB.2.2 hF)
    have hcell := m2 j hj
    rw [← hk, hj2] at hcell
    refine W.iald (v := .int (rc_g S j i.toNatClampNeg)) hC.1 hC.2.1 hcell ((hC.2.2.2.2.2.2.2.1.1.2 _ _ (rc_tys_get (D := yr_D Y) (t := 0) (by decide))).1 (rc_mN j) (fun i => .int (rc_g S j i))) (fun q => by cases q) (by show ¬ (i < 0 ∨ (arrV _ _ _).slots.size ≤ _); rw [arrV_size]; exact rc_inS hc.2 (Nat.le_refl _)) (by show (arrV _ _ _).slots[_]? = _; rw [arrV_read _ _ (rc_in_ok hc.2).2]) rfl rfl d (kk _ h9 H locs ls hR hS hL hB)
  · cases hx
theorem rc_r_mcald (hC : rc_C Y cc own ret nL) (hF : yr_F Y = true) {j : Nat} (hj : rc_mN j ≠ 0) (hj2 : rc_mT j = 3) (d : decode cc pc = .ok (.caload, 1)) {i : Int32} {f : Int32 → rc_M α} (h : rc_Go Y tv (rc_bind (rc_mald j i) f) S) (kk : ∀ x, rc_Go Y tv (f x) S → rc_Z Y S (pc + 1) L (rc_i x :: st)) : rc_Z Y S pc L (rc_i i :: rc_q (some (rc_km (yr_K Y) j)) :: st) := by
  intro H locs ls hR hS hL hB
  have hk := h.le.2.2
  obtain ⟨x, hx, h9⟩ := h.read
  split at hx
  · rename_i hc
    cases hx
    obtain ⟨m1, m2, m3, m4⟩ := hR.2.2 (hB.2.2 hF)
    have hcell := m2 j hj
    rw [← hk, hj2] at hcell
    refine W.cald (v := .int (rc_g S j i.toNatClampNeg)) hC.1 hC.2.1 hcell ((hC.2.2.2.2.2.2.2.1.1.2 _ _ (rc_tys_get (D := yr_D Y) (t := 3) (by decide))).1 (rc_mN j) (fun i => .int (rc_g S j i))) (fun q => by cases q) (by show ¬ (i < 0 ∨ (arrV _ _ _).slots.size ≤ _); rw [arrV_size]; exact rc_inS hc.2 (Nat.le_refl _)) (by show (arrV _ _ _).slots[_]? = _; rw [arrV_read _ _ (rc_in_ok hc.2).2]) rfl rfl d (kk _ h9 H locs ls hR hS hL hB)
  · cases hx
theorem rc_r_mast (hC : rc_C Y cc own ret nL) (hF : yr_F Y = true) {j : Nat} (hj : rc_mN j ≠ 0) (hj2 : rc_mT j = 0) (d : decode cc pc = .ok (.iastore, 1)) {i x : Int32} {f : Unit → rc_M α} (h : rc_Go Y tv (rc_bind (rc_mast j i x) f) S) (kk : ∀ S1, rc_Go Y tv (f ()) S1 → rc_Z Y S1 (pc + 1) L st) : rc_Z Y S pc L (rc_i x :: rc_i i :: rc_q (some (rc_km (yr_K Y) j)) :: st) := by
  intro H locs ls hR hS hL hB
  have hk := h.le.2.2
  obtain ⟨g', hx, h9⟩ := h.sg
  split at hx
  · rename_i hc
    cases hx
    have hf := hB.2.2 hF
    obtain ⟨m1, m2, m3, m4⟩ := hR.2.2 hf
    have hcell := m2 j hj
    have haw := (m4 j (Or.inl hj)).2
    rw [hj2] at hcell
    rw [hk]
    refine W.iast hC.1 hC.2.1 hcell ((hC.2.2.2.2.2.2.2.1.1.2 _ _ (rc_tys_get (D := yr_D Y) (t := 0) (by decide))).1 (rc_mN j) (fun i => .int (rc_g S j i))) (fun q => by cases q) (by show ¬ (i < 0 ∨ (arrV _ _ _).slots.size ≤ _); rw [arrV_size]; exact rc_inS hc.2 (Nat.le_refl _)) rfl rfl d fun H1 e z oq => ?_
    refine kk _ h9 H1 _ ls (rc_Rp.setg (j0 := j) (Or.inl hj) hf hR z oq (fun a ha => ?_) (fun e9 => ?_) (fun _ => ?_)) (hS.put z oq (by rw [hk]; exact haw)) hL hB
    · funext b
      simp [rc_up2, ha]
    · subst e9
      exact absurd rfl hj
    · rw [e, hj2]
      rw [vp_cell_i, vp_cell_i, arrV_store]
      congr 2
      funext q
      by_cases hq : q = i.toNatClampNeg
      · subst hq
        simp [updV, rc_up2, vp_nar, rc_ty]
        try rfl
      · simp [updV, rc_up2, hq]
  · cases hx
theorem rc_r_mcast (hC : rc_C Y cc own ret nL) (hF : yr_F Y = true) {j : Nat} (hj : rc_mN j ≠ 0) (hj2 : rc_mT j = 3) (d : decode cc pc = .ok (.castore, 1)) {i x : Int32} {f : Unit → rc_M α} (h : rc_Go Y tv (rc_bind (rc_mast j i x) f) S) (kk : ∀ S1, rc_Go Y tv (f ()) S1 → rc_Z Y S1 (pc + 1) L st) : rc_Z Y S pc L (rc_i x :: rc_i i :: rc_q (some (rc_km (yr_K Y) j)) :: st) := by
  intro H locs ls hR hS hL hB
  have hk := h.le.2.2
  obtain ⟨g', hx, h9⟩ := h.sg
  split at hx
  · rename_i hc
    cases hx
    have hf := hB.2.2 hF
    obtain ⟨m1, m2, m3, m4⟩ := hR.2.2 hf
    have hcell := m2 j hj
    have haw := (m4 j (Or.inl hj)).2
    rw [hj2] at hcell
    rw [hk]
    refine W.cast hC.1 hC.2.1 hcell ((hC.2.2.2.2.2.2.2.1.1.2 _ _ (rc_tys_get (D := yr_D Y) (t := 3) (by decide))).1 (rc_mN j) (fun i => .int (rc_g S j i))) (fun q => by cases q) (by show ¬ (i < 0 ∨ (arrV _ _ _).slots.size ≤ _); rw [arrV_size]; exact rc_inS hc.2 (Nat.le_refl _)) rfl rfl d fun H1 e z oq => ?_
    refine kk _ h9 H1 _ ls (rc_Rp.setg (j0 := j) (Or.inl hj) hf hR z oq (fun a ha => ?_) (fun e9 => ?_) (fun _ => ?_)) (hS.put z oq (by rw [hk]; exact haw)) hL hB
    · funext b
      simp [rc_up2, ha]
    · subst e9
      exact absurd rfl hj
    · rw [e, hj2]
      rw [vp_cell_i, vp_cell_i, arrV_store]
      congr 2
      funext q
      by_cases hq : q = i.toNatClampNeg
      · subst hq
        simp [updV, rc_up2, vp_nar, rc_ty]
        try rfl
      · simp [updV, rc_up2, hq]
  · cases hx
/-- a call of a method of the model's -/
theorem rc_callM (hC : rc_C Y cc own ret nL) {y : MethodName} {b' : ByteArray} {L' fr' lo' idx : Nat} {r' : Option FieldType} {x : rc_M β} {As : List rc_V} (hM : rc_Cm (yr_l Y) y (ws_ y b' L' r') fr' lo' tv' x As) (h1 : Cond.methodLink own idx y ∈ lw_all) (h2 : Cond.instanceMethod y ∈ lw_all) (h3 : Cond.selects RX9 y y ∈ lw_all) (h4 : Cond.initialized RX9 ∈ lw_all) (h5 : Cond.code y b' L' r' ∈ lw_all) (hy : y.cls = RX9)
    (hd : y.cls ≠ "java/lang/invoke/MethodHandle" ∧ y.cls ≠ "java/lang/invoke/VarHandle" ∧ (parseMethodDescriptor y.desc).map (fun d => d.parameters.length) = some As.length) (hroom : fr' + 1 ≤ yr_fr Y ∧ 8 + (L' + 11) + lo' ≤ yr_lo Y) (hnL : nL = L.length) (hst : rc_wst st = true) (hsl : st.length ≤ 8) (n : Nat) (hn : As.length = n) (hk : yr_K Y = rc_k S) (hF : yr_F Y = true ∨ rc_fl S = true)
    {Pk : β → rc_S → Prop} {Px : Nat → Nat → rc_S → Prop} (h : rc_Br Y x S Pk Px) {st0 : List rc_V} (hs0 : As.reverse ++ rc_q (some (rc_km (yr_K Y) 100)) :: st = st0) (d : decode cc pc = .ok (.invokevirtual idx, 3))
    (kk : ∀ v S1, Pk v S1 → rc_Z Y S1 (pc + 3) L ((tv' v).toList ++ st)) (kx : ∀ E q S1, Px E q S1 → rc_ZX Y S1 pc L E q) : rc_Z Y S pc L st0 := by
  subst hs0
  have hsum := rc_sum hst hsl
  intro H0 locs0 ls0 hR0 hS0 hL0 hB0
  have hf : rc_fl S = true := hF.elim hB0.2.2 id
  refine rc_ofRun (a := (Value.ref (rc_km (yr_K Y) 100) :: As.map rc_val).toArray) (tv' := tv') (L := L) (st := st) hk h (fun T hT H locs ls hR hS hL hf9 => ?_) kk kx H0 locs0 ls0 hR0 hS0 hL0 hB0
  have hw : ∀ q, rc_n S ≤ q → rc_kw (rc_k S) q := fun q hq => by rw [← hk]; exact hC.2.2.2.2.2.2.2.2.1 q (Nat.le_trans hS.1 (by rw [hR.1]; exact hq))
  have hM1 := hM (yr_D Y) S T hf hT hw
  obtain ⟨⟨cell, q1, q2, q3, q4⟩, -, -, -⟩ := hR.2.2 hf
  have hp : PreV (yr_s Y) H RX9 (rc_km (yr_K Y) 100) (va_Pc ((rc_q (some (rc_km (rc_k S) 100)) :: As).map rc_val) (fun U => rc_Env (yr_D Y) (rc_k S) U U.heap ∧ rc_Rp (yr_D Y) S U.heap)) (As.map rc_val) := by
    refine ⟨rc_blind, ⟨cell, by rw [hk]; exact q1, by rw [q3]; rfl, by rw [q2]; exact (hC.2.2.2.2.2.2.2.1.1.1 8 _ rc_cl8).2.1⟩, fun U hU hW => ⟨by rw [hk]; rfl, ?_, by rw [hU]; exact hR⟩⟩
    rw [hU, ← hk]
    exact (rc_Env.moved hW hC.2.2.2.2.2.2.2.1).kept hS.2.1
  exact vy_runV ⟨hC.1, hC.2.1, hC.2.2.1, hC.2.2.2.1, hC.2.2.2.2.1⟩ hM1 (cwV n hC.2.2.2.2.1 (lw_V h1 h2 h3 h4 h5) rfl rfl rfl (by rw [← hn]; exact ⟨hy, hd⟩) hroom) hp rfl (by rw [List.length_map]; exact hn) (by rw [hnL]; exact hL.1) (by simp [rc_val, va_rf]) (lv_room hsum) d hf9
end RCMR
