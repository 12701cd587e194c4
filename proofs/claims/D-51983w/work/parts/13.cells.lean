set_option maxRecDepth 100000
/-! ROWS: cells -/
theorem rc_vp {fs : List rc_V} {k : Nat} {u : rc_V} (h : fs[k]? = some u) : vp_V (fs.map rc_val) k = rc_val u := by
  simp [vp_V, h]
theorem rc_cellV (cA : ClassId) (x : vp_A) : vp_cell cA x = arrV cA x.1 (rc_el x) := by
  obtain ⟨n, f | f | f | f | f⟩ := x <;> rfl
theorem rc_tys_get {D : rc_D} {t : Nat} (h : t < 5) : (rc_tys D)[t]? = some (D.2 t, rc_ty t) := by
  match t, h with
  | 0, _ => rfl
  | 1, _ => rfl
  | 2, _ => rfl
  | 3, _ => rfl
  | 4, _ => rfl
theorem rc_isI_some {o : Option rc_V} {x : Int32} (h : rc_isI o = some x) : o = some (rc_i x) := by
  unfold rc_isI at h
  split at h
  · cases h; rfl
  · cases h
theorem rc_isQ_some {o : Option rc_V} {x : Option Nat} (h : rc_isQ o = some x) : o = some (rc_q x) := by
  unfold rc_isQ at h
  split at h
  · cases h; rfl
  · cases h
theorem rc_in_ok {i : Int32} {n : Nat} (h : rc_in i n = true) : ¬ i < 0 ∧ i.toNatClampNeg < n := by
  simp only [rc_in, Bool.and_eq_true, decide_eq_true_eq] at h
  exact ⟨Int32.not_lt.mpr h.1, h.2⟩
/-- a field that is read, as an instruction of the class own names it: by pool entry idx, field k of class ci -/
def rc_FldG (own : String) (idx ci k : Nat) : Prop := ∃ (ref C : String) (T : u_T) (N : Nat), rc_cl[ci]? = some (C, T, N) ∧ (∀ w ∈ u_ws C T N, w ∈ lw_all) ∧ k < N ∧
  (Cond.fieldLink own idx ref (T k).2.1 (T k).2.2.1 ∈ lw_all ∨ ∃ host, Cond.fieldLinkNest own idx ref (T k).2.1 (T k).2.2.1 host ∈ lw_odd) ∧ (ref = (T k).1 ∨ Cond.sameField ref (T k).1 (T k).2.1 (T k).2.2.1 ∈ lw_all)
/-- a field that is written -/
def rc_Fld (own : String) (idx ci k : Nat) (ty : FieldType) (fin : Bool) : Prop := ∃ (ref C : String) (T : u_T) (N : Nat), rc_cl[ci]? = some (C, T, N) ∧ (∀ w ∈ u_ws C T N, w ∈ lw_all) ∧ k < N ∧
  (Cond.fieldLink own idx ref (T k).2.1 (T k).2.2.1 ∈ lw_all ∨ ∃ host, Cond.fieldLinkNest own idx ref (T k).2.1 (T k).2.2.1 host ∈ lw_odd) ∧ (ref = (T k).1 ∨ Cond.sameField ref (T k).1 (T k).2.1 (T k).2.2.1 ∈ lw_all) ∧
  (∃ ty0 : Nat → FieldType, ∀ k, k < N → parseFieldDescriptor (T k).2.2.1 = some (ty0 k)) ∧ (∀ a, a < N → ∀ b, b < N → a ≠ b → (T a).2.1 ≠ (T b).2.1) ∧ (T k).2.2.2 = fin ∧ parseFieldDescriptor (T k).2.2.1 = some ty ∧ (fin = true → (T k).1 = own)
section RCU
variable {D : rc_D} {S : rc_S} {H H1 : Heap}
theorem rc_MD.kept {S' : rc_S} (hm : rc_MD D S H) (hg : rc_g S' = rc_g S) (hk : rc_k S' = rc_k S) (hh : ∀ j, (rc_mN j ≠ 0 ∨ j = 100) → S'.1 (rc_km (rc_k S) j) = none) (hq : ∀ j, (rc_mN j ≠ 0 ∨ j = 100) → H1[rc_km (rc_k S) j]? = H[rc_km (rc_k S) j]?) : rc_MD D S' H1 := by
  obtain ⟨m1, m2, m3, m4⟩ := hm
  refine ⟨?_, ?_, ?_, ?_⟩
  · rw [hk, hg]
    exact m1.kept (hq 100 (Or.inr rfl))
  · intro j hj
    rw [hk, hg, hq j (Or.inl hj)]
    exact m2 j hj
  · rw [hk]; exact m3
  · intro j hj
    rw [hk]
    exact ⟨hh j hj, (m4 j hj).2⟩
/-- a cell of ours is written -/
theorem rc_Rp.set {a : Nat} {e0 e1 : rc_E} (hR : rc_Rp D S H) (ha : S.1 a = some e0) (h1 : rc_at D a e1 H1) (hz : H1.size = H.size) (oq : ∀ q : Nat, q ≠ a → H1[q]? = H[q]?) : rc_Rp D (va_up S.1 a (some e1), S.2) H1 := by
  obtain ⟨r1, r2, r3⟩ := hR
  refine ⟨hz.trans r1, fun b e hb => ?_, fun hf => ?_⟩
  · by_cases hba : b = a
    · subst hba
      have hb : (if b = b then some e1 else S.1 b) = some e := hb
      rw [if_pos rfl] at hb
      cases hb
      exact ⟨h1, (r2 b e0 ha).2⟩
    · have hb : (if b = a then some e1 else S.1 b) = some e := hb
      rw [if_neg hba] at hb
      exact ⟨(r2 b e hb).1.kept (oq b hba), (r2 b e hb).2⟩
  · have hm := r3 hf
    have hne : ∀ j, (rc_mN j ≠ 0 ∨ j = 100) → rc_km (rc_k S) j ≠ a := fun j hj q => by
      have := (hm.2.2.2 j hj).1
      rw [q, ha] at this
      cases this
    refine hm.kept rfl rfl (fun j hj => ?_) (fun j hj => oq _ (hne j hj))
    show (if rc_km (rc_k S) j = a then some e1 else S.1 (rc_km (rc_k S) j)) = none
    rw [if_neg (hne j hj)]
    exact (hm.2.2.2 j hj).1
theorem rc_mlt (hm : rc_MD D S H) {j : Nat} (hj : rc_mN j ≠ 0 ∨ j = 100) : rc_km (rc_k S) j < H.size := by
  rcases hj with hj | hj
  · exact (Array.getElem?_eq_some_iff.mp (hm.2.1 j hj)).1
  · subst hj
    obtain ⟨cell, h, -⟩ := hm.1
    exact (Array.getElem?_eq_some_iff.mp h).1
/-- a cell is made -/
theorem rc_Rp.new {e1 : rc_E} {k : Nat} (hR : rc_Rp D S H) (hw : ∀ q, rc_n S ≤ q → rc_kw (rc_k S) q) (h1 : rc_at D (rc_n S) e1 H1) (hz : H1.size = H.size + 1) (oq : ∀ q : Nat, q < H.size → H1[q]? = H[q]?) : rc_Rp D (va_up S.1 S.2.1 (some e1), S.2.1 + 1, S.2.2.1 + k, S.2.2.2) H1 := by
  obtain ⟨r1, r2, r3⟩ := hR
  refine ⟨by rw [hz, r1], fun b e hb => ?_, fun hf => ?_⟩
  · by_cases hba : b = S.2.1
    · subst hba
      have hb : (if S.2.1 = S.2.1 then some e1 else S.1 S.2.1) = some e := hb
      rw [if_pos rfl] at hb
      cases hb
      exact ⟨h1, hw _ (Nat.le_refl _)⟩
    · have hb : (if b = S.2.1 then some e1 else S.1 b) = some e := hb
      rw [if_neg hba] at hb
      exact ⟨(r2 b e hb).1.kept (oq b (r2 b e hb).1.lt), (r2 b e hb).2⟩
  · have hm := r3 hf
    have hne : ∀ j, (rc_mN j ≠ 0 ∨ j = 100) → rc_km (rc_k S) j ≠ S.2.1 := fun j hj q => by
      have := rc_mlt hm hj
      rw [q, r1] at this
      exact Nat.lt_irrefl _ this
    refine hm.kept rfl rfl (fun j hj => ?_) (fun j hj => oq _ (rc_mlt hm hj))
    show (if rc_km (rc_k S) j = S.2.1 then some e1 else S.1 (rc_km (rc_k S) j)) = none
    rw [if_neg (hne j hj)]
    exact (hm.2.2.2 j hj).1
/-- a cell is made that no one reads -/
theorem rc_Rp.opq {k : Nat} (hR : rc_Rp D S H) (hz : H1.size = H.size + 1) (oq : ∀ q : Nat, q < H.size → H1[q]? = H[q]?) : rc_Rp D (S.1, S.2.1 + 1, S.2.2.1 + k, S.2.2.2) H1 := by
  obtain ⟨r1, r2, r3⟩ := hR
  refine ⟨by rw [hz, r1], fun b e hb => ⟨(r2 b e hb).1.kept (oq b (r2 b e hb).1.lt), (r2 b e hb).2⟩, fun hf => ?_⟩
  have hm := r3 hf
  exact hm.kept rfl rfl (fun j hj => (hm.2.2.2 j hj).1) (fun j hj => oq _ (rc_mlt hm hj))
/-- an object that is read -/
theorem rc_rdo {U : State} {K : rc_K} {H0 : Heap} {locs : List Loc} {ci : Nat} {v : Option Nat} {fs : List rc_V} (hE : rc_Env D K U H0) (hK : K = rc_k S) (hR : rc_Rp D S H) (hS : va_S (rc_kw K) H0 H locs) (h : rc_obj S ci v = some fs) :
    ∃ (a : Nat) (cell : Cell) (r : vw_C), v = some a ∧ H[a]? = some cell ∧ rc_cl[ci]? = some r ∧ cell.cls = D.1.1 ci ∧ cell.vm ≠ .unknown ∧ cell.vm.isStatics = false ∧ ∀ k, k < r.2.2 → cell.slots[D.1.2 ci k]? = some (vp_V (fs.map rc_val) k) := by
  subst hK
  cases v with
  | none => cases h
  | some a =>
    simp only [rc_obj, rc_look] at h
    cases hs : S.1 a with
    | some e =>
      rw [hs] at h
      dsimp only at h
      obtain x | ⟨c, gs⟩ := e
      · cases h
      · dsimp only at h
        split at h
        · rename_i hc
          cases h
          subst hc
          obtain ⟨r, h1, cell, h2, h3, h4, h5⟩ := (hR.2.1 a _ hs).1.1
          exact ⟨a, cell, r, rfl, h2, h1, h3, by rw [h4]; exact fun q => (by cases q), by rw [h4]; rfl, h5⟩
        · cases h
    | none =>
      rw [hs] at h
      dsimp only at h
      cases hc : rc_kc (rc_k S) a with
      | none => rw [hc] at h; cases h
      | some e =>
        rw [hc] at h
        obtain x | ⟨c, gs⟩ := e
        · cases h
        · dsimp only at h
          split at h
          · rename_i hcc
            cases h
            subst hcc
            obtain ⟨cell, r, h1, h2, h3, h4, h5, h6, h7⟩ := hE.2.2.2.2.2.2.1 a _ hc
            exact ⟨a, cell, r, rfl, (hS.2.1 a (Array.getElem?_eq_some_iff.mp h1).1 h7).trans h1, h2, h3, h4, h5, h6⟩
          · cases h
/-- an array that is read -/
theorem rc_rda {U : State} {K : rc_K} {H0 : Heap} {locs : List Loc} {t : Nat} {v : Option Nat} {x : vp_A} (hE : rc_Env D K U H0) (hK : K = rc_k S) (hR : rc_Rp D S H) (hS : va_S (rc_kw K) H0 H locs) (h : rc_arr S t v = some x) :
    ∃ (a : Nat) (cell : Cell), v = some a ∧ t < 5 ∧ H[a]? = some cell ∧ U.isArrayOf cell (rc_ty t) ∧ cell.vm ≠ .unknown ∧ x.1 ≤ cell.slots.size ∧ cell.slots.size.toInt32 = Int32.ofNat x.1 ∧ ∀ j, j < x.1 → cell.slots[j]? = some (rc_el x j) := by
  subst hK
  cases v with
  | none => cases h
  | some a =>
    simp only [rc_arr, rc_look] at h
    cases hs : S.1 a with
    | some e =>
      rw [hs] at h
      dsimp only at h
      obtain ⟨u, y⟩ | o := e
      · dsimp only at h
        split at h
        · rename_i hc
          cases h
          subst hc
          obtain ⟨h1, h2⟩ := (hR.2.1 a _ hs).1
          dsimp only at h1 h2
          rw [rc_cellV] at h2
          refine ⟨a, _, rfl, h1, h2, (hE.1.2 _ _ (rc_tys_get h1)).1 _ _, fun q => (by cases q), ?_, ?_, fun j hj => arrV_read _ _ hj⟩
          · rw [arrV_size]; exact Nat.le_refl _
          · rw [arrV_size]
        · cases h
      · cases h
    | none =>
      rw [hs] at h
      dsimp only at h
      cases hc : rc_kc (rc_k S) a with
      | none => rw [hc] at h; cases h
      | some e =>
        rw [hc] at h
        obtain ⟨u, y⟩ | o := e
        · dsimp only at h
          split at h
          · rename_i hcc
            cases h
            subst hcc
            obtain ⟨h1, cell, h2, h3, h4, h5, h6, h7, h8⟩ := hE.2.2.2.2.2.2.1 a _ hc
            exact ⟨a, cell, rfl, h1, (hS.2.1 a (Array.getElem?_eq_some_iff.mp h2).1 h8).trans h2, h3, h4, h5, h6, h7⟩
          · cases h
        · cases h
theorem rc_objW_some {ci : Nat} {v : Option Nat} {p : Nat × List rc_V} (h : rc_objW S ci v = some p) : v = some p.1 ∧ S.1 p.1 = some (.inr (ci, p.2)) := by
  cases v with
  | none => cases h
  | some a =>
    simp only [rc_objW] at h
    split at h
    · rename_i c fs hs
      split at h
      · rename_i hc
        cases h
        subst hc
        exact ⟨rfl, hs⟩
      · cases h
    · cases h
theorem rc_arrW_some {t : Nat} {v : Option Nat} {p : Nat × vp_A} (h : rc_arrW S t v = some p) : v = some p.1 ∧ S.1 p.1 = some (.inl (t, p.2)) := by
  cases v with
  | none => cases h
  | some a =>
    simp only [rc_arrW] at h
    split at h
    · rename_i c fs hs
      split at h
      · rename_i hc
        cases h
        subst hc
        exact ⟨rfl, hs⟩
      · cases h
    · cases h
theorem rc_aI_some {x : vp_A} {f : Nat → Int32} (h : rc_aI x = some f) : x = (x.1, .inl f) := by
  obtain ⟨n, g | g | g | g | g⟩ := x <;> simp [rc_aI] at h <;> rw [h]
theorem rc_aL_some {x : vp_A} {f : Nat → Int64} (h : rc_aL x = some f) : x = (x.1, .inr (.inl f)) := by
  obtain ⟨n, g | g | g | g | g⟩ := x <;> simp [rc_aL] at h <;> rw [h]
theorem rc_aQ_some {x : vp_A} {f : Nat → Option Nat} (h : rc_aQ x = some f) : x = (x.1, .inr (.inr (.inr (.inr f)))) := by
  obtain ⟨n, g | g | g | g | g⟩ := x <;> simp [rc_aQ] at h <;> rw [h]
end RCU
section RCH
variable {Y : rc_Y} {cc : ByteArray} {own : String} {ret : Option FieldType} {nL : Nat} {S : rc_S} {pc : Nat} {L : List (Option rc_V)} {st : List rc_V} {α : Type} {tv : α → Option rc_V}
theorem rc_getW (hC : rc_C Y cc own ret nL) {idx ci k : Nat} (F : rc_FldG own idx ci k) (d : decode cc pc = .ok (.getfield idx, 3)) {H : Heap} {locs : List Loc} {ls : Array Slot} {rest : List Value} {cells slots : Nat} {Q : State → Prop} {a : Nat} {cell : Cell} {r : vw_C} {v : Value} (h1 : H[a]? = some cell) (h2 : rc_cl[ci]? = some r) (h4 : cell.vm ≠ .unknown) (h6 : k < r.2.2 → cell.slots[(yr_D Y).1.2 ci k]? = some v)
    (kk : W (yr_p Y) (yr_l Y) (yr_e Y) (yr_R Y) (yr_s Y) (yr_m Y) (yr_a Y) (yr_b Y) (yr_t Y) (yr_c Y) H locs cells slots Q (F0 (yr_m Y) (pc + 3) ls (v :: rest))) : W (yr_p Y) (yr_l Y) (yr_e Y) (yr_R Y) (yr_s Y) (yr_m Y) (yr_a Y) (yr_b Y) (yr_t Y) (yr_c Y) H locs cells slots Q (F0 (yr_m Y) pc ls (.ref a :: rest)) := by
  obtain ⟨hx, hb, hml, hown, hts, hret, hlk, hE, -⟩ := hC
  obtain ⟨ref, C, T, N, f1, f2, f3, f4, f5⟩ := F
  cases h2.symm.trans f1
  obtain ⟨hS, hfc, kC, hkC, hkind⟩ := hE.1.1 ci _ f1
  obtain ⟨cf, kf, fi, f, hi, hsl⟩ := hS k f3
  have hst := (u_facts hfc hkC (u_lays hts f2 f3) hi).1
  have hi' : (yr_s Y).fieldFound? ref (T k).2.1 (T k).2.2.1 = some (cf, kf, fi, f) := by
    rcases f5 with e | e
    · rw [e]; exact hi
    · exact u_same (hts _ e) _ hi
  have hv : cell.slots[f.slot]? = some v := by rw [hsl]; exact h6 f3
  rcases f4 with e | ⟨host, e⟩
  · exact W.getf hx hb hown (hts _ e) hi' hst h1 h4 hv rfl rfl d kk
  · exact va_Wgetf hx hb hown (va_Nw.use (w := .fieldLinkNest _ _ _ _ _ _) rfl (hE.2.2.1 _ e)) hi' hst h1 h4 hv rfl rfl d kk
theorem rc_r_geti (hC : rc_C Y cc own ret nL) {idx ci k : Nat} (F : rc_FldG own idx ci k) (d : decode cc pc = .ok (.getfield idx, 3)) {v : Option Nat} {f : Int32 → rc_M α} (h : rc_Go Y tv (rc_bind (rc_geti ci k v) f) S) (kk : ∀ x, rc_Go Y tv (f x) S → rc_Z Y S (pc + 3) L (rc_i x :: st)) : rc_Z Y S pc L (rc_q v :: st) := by
  intro H locs ls hR hS hL hB
  have hk := h.le.2.2
  obtain ⟨x, hx, h9⟩ := h.read
  split at hx
  · cases hx
  · rename_i fs ho
    obtain ⟨a, cell, r, rfl, h1, h2, h3, h4, h5, h6⟩ := rc_rdo hC.2.2.2.2.2.2.2.1 hk hR hS ho
    exact rc_getW hC F d (v := .int x) h1 h2 h4 (fun q => by rw [h6 k q, rc_vp (rc_isI_some hx)]; rfl) (kk x h9 H locs ls hR hS hL hB)
theorem rc_r_getq (hC : rc_C Y cc own ret nL) {idx ci k : Nat} (F : rc_FldG own idx ci k) (d : decode cc pc = .ok (.getfield idx, 3)) {v : Option Nat} {f : Option Nat → rc_M α} (h : rc_Go Y tv (rc_bind (rc_getq ci k v) f) S) (kk : ∀ x, rc_Go Y tv (f x) S → rc_Z Y S (pc + 3) L (rc_q x :: st)) : rc_Z Y S pc L (rc_q v :: st) := by
  intro H locs ls hR hS hL hB
  have hk := h.le.2.2
  obtain ⟨x, hx, h9⟩ := h.read
  split at hx
  · cases hx
  · rename_i fs ho
    obtain ⟨a, cell, r, rfl, h1, h2, h3, h4, h5, h6⟩ := rc_rdo hC.2.2.2.2.2.2.2.1 hk hR hS ho
    exact rc_getW hC F d (v := va_rf x) h1 h2 h4 (fun q => by rw [h6 k q, rc_vp (rc_isQ_some hx)]; rfl) (kk x h9 H locs ls hR hS hL hB)
theorem rc_r_put (hC : rc_C Y cc own ret nL) {idx ci k : Nat} {ty : FieldType} {fin : Bool} (F : rc_Fld own idx ci k ty fin) (hfin : fin = true → (yr_t Y).name = "<init>") (d : decode cc pc = .ok (.putfield idx, 3)) {v : Option Nat} {x : rc_V} {f : Unit → rc_M α} (h : rc_Go Y tv (rc_bind (rc_put ci k ty v x) f) S) (kk : ∀ S1, rc_Go Y tv (f ()) S1 → rc_Z Y S1 (pc + 3) L st) : rc_Z Y S pc L (x :: rc_q v :: st) := by
  intro H locs ls hR hS hL hB
  have hk := h.le.2.2
  obtain ⟨h1, hx, h9⟩ := h.wr
  split at hx
  · cases hx
  · rename_i a fs ho
    split at hx
    · rename_i hc
      cases hx
      obtain ⟨rfl, hs⟩ := rc_objW_some ho
      dsimp only at hs
      obtain ⟨hkl, hfx⟩ := hc
      simp only [rc_fit, Bool.and_eq_true, decide_eq_true_eq] at hfx
      obtain ⟨ex, hb, hml, hown, hts, hret, hlk, hE, hw, hsz⟩ := hC
      obtain ⟨ref, C, T, N, f1, f2, f3, f4, f5, ⟨ty0, f6⟩, f7, f8, f9, f10⟩ := F
      obtain ⟨hat, haw⟩ := hR.2.1 a _ hs
      have hat0 := hat.1
      have hmon := hat.2
      obtain ⟨r, g1, cell, q1, q2, q3, q4⟩ := hat.1
      cases g1.symm.trans f1
      have hap := va_apart (own := own) hts f2 ty0 f6 f7 hE.1 f1
      obtain ⟨hSl, hfc, kC, hkC, hkind⟩ := hE.1.1 ci _ f1
      obtain ⟨cf, kf, fi, fl, hi, hsl⟩ := hSl k f3
      have hst := (u_facts hfc hkC (u_lays hts f2 f3) hi).1
      have hi' : (yr_s Y).fieldFound? ref (T k).2.1 (T k).2.2.1 = some (cf, kf, fi, fl) := by
        rcases f5 with e | e
        · rw [e]; exact hi
        · exact u_same (hts _ e) _ hi
      have hlt : fl.slot < cell.slots.size := by rw [hsl]; exact k2_hasslot (q4 k f3)
      have fin1 : ∀ H' : Heap, H'[a]? = some (cell.setSlot fl.slot (rc_val x)) → H'.size = H.size → (∀ q, q ≠ a → H'[q]? = H[q]?) → W (yr_p Y) (yr_l Y) (yr_e Y) (yr_R Y) (yr_s Y) (yr_m Y) (yr_a Y) (yr_b Y) (yr_t Y) (yr_c Y) H' (locs ++ [⟨a, fl.slot⟩]) (rc_n S - (yr_B Y).1) (rc_s S - (yr_B Y).2) (yr_Q Y) (F0 (yr_m Y) (pc + 3) ls (st.map rc_val)) := by
        intro H' e1 e2 e3
        have hat1 : rc_at (yr_D Y) a (.inr (ci, fs.set k x)) H' := by
          refine ⟨⟨_, f1, ?_⟩, fun cell9 h9 => by cases e1.symm.trans h9; exact hmon cell q1⟩
          rw [hsl] at e1
          refine t_OB.to (V := updV (vp_V (fs.map rc_val)) k (rc_val x)) ⟨_, e1, q2, q3, t_set q4 hap f3 _⟩ (fun j hj => ?_)
          dsimp only
          rw [List.map_set]
          exact vp_updV_set (by simpa using hkl) _ j
        exact kk _ h9 H' _ ls (hR.set hs hat1 e2 e3) (hS.put e2 e3 (by rw [hk]; exact haw)) hL hB
      have hlay := hts _ (f2 _ (u_in_lay f3))
      unfold u_lay at hlay
      cases hfb : fin with
      | false =>
        rw [hfb] at f8
        rw [if_neg (by rw [f8]; decide)] at hlay
        have h6 := u_store hfc hkC hkind hlay hi f9 hfx.2 hfx.1
        rcases f4 with e | ⟨host, e⟩
        · exact W.putK ex hb (f := fl) ⟨hown, hts _ e, ⟨_, _, _, hi'⟩, hst⟩ (by rw [q2]; exact h6) q1 q3 hlt rfl rfl d fin1
        · exact va_WputK ex hb (f := fl) hown (va_Nw.use (w := .fieldLinkNest _ _ _ _ _ _) rfl (hE.2.2.1 _ e)) hi' hst (by rw [q2]; exact h6) q1 q3 hlt rfl rfl d fin1
      | true =>
        rw [hfb] at f8
        rw [if_pos f8] at hlay
        have hcf : (yr_m Y).cls = cf := by
          obtain ⟨_, _, c', _, _, _, -, -, hf', -, -, -, hown2, -⟩ := Cond.laysFinal_spec hlay
          have e1 : c' = cf := by have := hi.symm.trans hf'; simp at this; exact this.1.symm
          rw [f10 hfb] at hown2
          rw [← e1]; exact Option.some.inj (hown.symm.trans hown2)
        have h6 := u_fits hfc hkC hkind (Or.inr hlay) hi f9 hfx.2 hfx.1
        rcases f4 with e | ⟨host, e⟩
        · exact W.putFinK ex hb hown (hts _ e) hi' hst hcf (hfin hfb) (by rw [q2]; exact h6) q1 q3 hlt rfl rfl d fin1
        · refine va_Wputf ex hb hown (va_Nw.use (w := .fieldLinkNest _ _ _ _ _ _) rfl (hE.2.2.1 _ e)) hi' hst (Or.inr ⟨hcf, hfin hfb⟩) q1 (by rw [q3]; exact fun h => by cases h) hlt h6.1 (by rw [q3, q2]; exact h6.2) rfl rfl d ?_
          have ha : a < H.size := (Array.getElem?_eq_some_iff.mp q1).1
          exact fin1 _ (by simp [Array.getElem?_setIfInBounds, ha]) (by simp) (fun q hq => by simp [Array.getElem?_setIfInBounds, Ne.symm hq])
    · cases hx
end RCH
