set_option maxRecDepth 100000
/-! ROWS: cells, second part: making, arrays, statics, texts, casts -/
theorem rc_cob : ∀ (ci : Nat) (r : vw_C), rc_cl[ci]? = some r → Cond.castable r.1 "java/lang/Object" ∈ lw_odd := by
  intro ci r h
  match ci, h with
  | 0, h => cases h; exact lw_o q2719 rfl
  | 1, h => cases h; exact lw_o q2722 rfl
  | 2, h => cases h; exact lw_o q2724 rfl
  | 3, h => cases h; exact lw_o q2728 rfl
  | 4, h => cases h; exact lw_o q2730 rfl
  | 5, h => cases h; exact lw_o q2731 rfl
  | 6, h => cases h; exact lw_o q2732 rfl
  | 7, h => cases h; exact lw_o q2733 rfl
  | 8, h => cases h; exact lw_o q2735 rfl
  | 9, h => cases h; exact lw_o q2720 rfl
  | 10, h => cases h; exact lw_o q2721 rfl
  | 11, h => cases h; exact lw_o q2726 rfl
  | 12, h => cases h; exact lw_o q2725 rfl
  | 13, h => cases h; exact lw_o q2739 rfl
  | n + 14, h => simp [rc_cl] at h
/-- 'new' of class ci, as the class own names it: N slots, the fields fs -/
def rc_New (own : String) (idx ci N : Nat) (fs : List rc_V) : Prop := ∃ (C : String) (T : u_T) (ty : Nat → FieldType), rc_cl[ci]? = some (C, T, N) ∧ (∀ w ∈ u_ws C T N, w ∈ lw_all) ∧ Cond.classLink own idx C ∈ lw_all ∧ Cond.instantiable C N ∈ lw_all ∧ Cond.initialized C ∈ lw_all ∧
  (∀ k, k < N → parseFieldDescriptor (T k).2.2.1 = some (ty k)) ∧ (∀ k, k < N → defaultValue (ty k) = vp_V (fs.map rc_val) k)
theorem rc_ty_cases {P : Nat → Prop} (h0 : P 0) (h1 : P 1) (h2 : P 2) (h3 : P 3) {t : Nat} (ht : t < 4) : P t := by
  match t, ht with
  | 0, _ => exact h0
  | 1, _ => exact h1
  | 2, _ => exact h2
  | 3, _ => exact h3
section RCN
variable {Y : rc_Y} {cc : ByteArray} {own : String} {ret : Option FieldType} {nL : Nat} {S : rc_S} {pc : Nat} {L : List (Option rc_V)} {st : List rc_V} {α : Type} {tv : α → Option rc_V}
theorem rc_cnt {n b k N : Nat} (h1 : b ≤ n) (h2 : n + k ≤ N) : n - b + k ≤ N - b ∧ n - b + k = n + k - b := by omega
theorem rc_r_new (hC : rc_C Y cc own ret nL) {idx ci N : Nat} {fs : List rc_V} (F : rc_New own idx ci N fs) (d : decode cc pc = .ok (.new idx, 3)) {f : Option Nat → rc_M α} (h : rc_Go Y tv (rc_bind (rc_new ci N fs) f) S) (kk : ∀ q S1, rc_Go Y tv (f q) S1 → rc_Z Y S1 (pc + 3) L (rc_q q :: st)) : rc_Z Y S pc L st := by
  intro H locs ls hR hS hL hB
  have hk := h.le.2.2
  obtain ⟨e, k, hx, h9⟩ := h.al
  cases hx
  obtain ⟨ex, hb, hml, hown, hts, hret, hlk, hE, hw, hsz⟩ := hC
  obtain ⟨C, T, ty, f1, f2, f3, f4, f5, f6, f7⟩ := F
  obtain ⟨g1, g2, -⟩ := h9.le
  have c1 := rc_cnt hB.1 g1
  have c2 := rc_cnt hB.2.1 g2
  have hkn := hE.1.1 ci _ f1
  refine W.newcK ex hb hown (hts _ f3) (hts _ f4) (hts _ f5) rfl d c1.1 c2.1 hkn.2.1 rfl (fun H1 kC hkC e1 z1 o1 => ?_)
  have hob := u_born ty hts f2 hkn hkC e1 f6
  refine W.cs c1.2 c2.2 ?_
  rw [hR.1] at hob ⊢
  refine kk _ _ h9 H1 locs ls (rc_Rp.new hR (fun q hq => ?_) ?_ z1 o1) ⟨Nat.le_trans hS.1 (by omega), fun x h1 h2 => (o1 x (Nat.lt_of_lt_of_le h1 hS.1)).trans (hS.2.1 x h1 h2), hS.2.2⟩ hL ⟨Nat.le_trans hB.1 (Nat.le_succ _), Nat.le_trans hB.2.1 (Nat.le_add_right _ _), hB.2.2⟩
  · rw [← hk]
    exact hw q (Nat.le_trans hS.1 (by rw [hR.1]; exact hq))
  · exact ⟨⟨_, f1, hob.to (fun k hk => f7 k hk)⟩, fun cell9 h9 => by rw [hR.1] at e1; cases e1.symm.trans h9; exact ⟨rfl, rfl⟩⟩
theorem rc_r_newa (hC : rc_C Y cc own ret nL) {t : Nat} {atype : ArrayType} (ht : t < 4) (hty : newarray.typeOf atype = rc_ty t) (hq : Cond.arrayClass (newarray.typeOf atype) ∈ lw_all) (d : decode cc pc = .ok (.newarray atype, 2)) {n : Int32} {f : Option Nat → rc_M α} (h : rc_Go Y tv (rc_bind (rc_newa t n) f) S) (kk : ∀ q S1, rc_Go Y tv (f q) S1 → rc_Z Y S1 (pc + 2) L (rc_q q :: st)) : rc_Z Y S pc L (rc_i n :: st) := by
  intro H locs ls hR hS hL hB
  have hk := h.le.2.2
  obtain ⟨e, k, hx, h9⟩ := h.al
  split at hx
  · rename_i hc
    cases hx
    obtain ⟨ex, hb, hml, hown, hts, hret, hlk, hE, hw, hsz⟩ := hC
    obtain ⟨g1, g2, -⟩ := h9.le
    have c1 := rc_cnt hB.1 g1
    have c2 := rc_cnt hB.2.1 g2
    have hcb : componentBytes (newarray.typeOf atype) ≤ 8 := by
      rw [hty]
      exact rc_ty_cases (P := fun t => componentBytes (rc_ty t) ≤ 8) (by decide) (by decide) (by decide) (by decide) ht
    refine va_newaK ex hb (hts _ hq) rfl d rfl (Int32.not_lt.mpr hc.1) rfl (Nat.le_trans (Nat.mul_le_mul_left _ hcb) hc.2) c1.1 c2.1 rfl (fun H1 cA e1 z1 o1 ha hf => ?_)
    have hcA : cA = (yr_D Y).2 t := by
      have hra := (hE.1.2 _ _ (rc_tys_get (D := yr_D Y) (Nat.lt_succ_of_lt ht))).2
      rw [hty] at hf
      have h8 : (yr_s Y).vm.findClass ("[" ++ (rc_ty t).toString) = some ((yr_D Y).2 t) := by
        revert hra
        exact rc_ty_cases (P := fun t => va_RA (yr_s Y) ((yr_D Y).2 t) (rc_ty t) → (yr_s Y).vm.findClass ("[" ++ (rc_ty t).toString) = some ((yr_D Y).2 t)) (fun h => h) (fun h => h) (fun h => h) (fun h => h) ht
      exact Option.some.inj (hf.symm.trans h8)
    refine W.cs c1.2 c2.2 ?_
    have hat : rc_at (yr_D Y) H.size (.inl (t, (n.toNatClampNeg, rc_zero t))) H1 := by
      refine ⟨Nat.lt_succ_of_lt ht, ?_⟩
      dsimp only
      rw [e1, hcA, hty]
      exact rc_ty_cases (P := fun t => some (arrV ((yr_D Y).2 t) n.toNatClampNeg fun _ => defaultValue (rc_ty t)) = some (vp_cell ((yr_D Y).2 t) (n.toNatClampNeg, rc_zero t))) rfl rfl rfl rfl ht
    rw [hR.1] at hat ⊢
    refine kk _ _ h9 H1 locs ls (rc_Rp.new hR (fun q hq => ?_) hat z1 o1) ⟨Nat.le_trans hS.1 (by omega), fun x h1 h2 => (o1 x (Nat.lt_of_lt_of_le h1 hS.1)).trans (hS.2.1 x h1 h2), hS.2.2⟩ hL ⟨Nat.le_trans hB.1 (Nat.le_succ _), Nat.le_trans hB.2.1 (Nat.le_add_right _ _), hB.2.2⟩
    rw [← hk]
    exact hw q (Nat.le_trans hS.1 (by rw [hR.1]; exact hq))
  · cases hx
theorem rc_r_newq (hC : rc_C Y cc own ret nL) {idx : Nat} (hq : Cond.classLink own idx "java/lang/Object" ∈ lw_all) (d : decode cc pc = .ok (.anewarray idx, 3)) {n : Int32} {f : Option Nat → rc_M α} (h : rc_Go Y tv (rc_bind (rc_newa 4 n) f) S) (kk : ∀ q S1, rc_Go Y tv (f q) S1 → rc_Z Y S1 (pc + 3) L (rc_q q :: st)) : rc_Z Y S pc L (rc_i n :: st) := by
  intro H locs ls hR hS hL hB
  have hk := h.le.2.2
  obtain ⟨e, k, hx, h9⟩ := h.al
  split at hx
  · rename_i hc
    cases hx
    obtain ⟨ex, hb, hml, hown, hts, hret, hlk, hE, hw, hsz⟩ := hC
    obtain ⟨g1, g2, -⟩ := h9.le
    have c1 := rc_cnt hB.1 g1
    have c2 := rc_cnt hB.2.1 g2
    refine W.anew ex hb hown (hts _ hq) (va_AO.use hE.2.1) rfl d rfl (Int32.not_lt.mpr hc.1) (by omega) c1.1 c2.1 fun cA kA comp f1 f2 f3 f4 => ?_
    generalize hH1 : H.push ({ cls := cA, slots := Array.replicate n.toNatClampNeg .null, vm := .none } : Cell) = H1
    have z1 : H1.size = H.size + 1 := by rw [← hH1, Array.size_push]
    have e1 : H1[H.size]? = some (arrV cA n.toNatClampNeg (fun _ => .null)) := by rw [← hH1, Array.getElem?_push_size, ← arrV_new]
    have o1 : ∀ q : Nat, q < H.size → H1[q]? = H[q]? := fun q hq => by rw [← hH1, Array.getElem?_push, if_neg (Nat.ne_of_lt hq)]
    have hcA : cA = (yr_D Y).2 4 := by
      obtain ⟨-, kk1, kk2, r1, r2, r3, r4⟩ := hE.1.2 _ _ (rc_tys_get (D := yr_D Y) (t := 4) (by decide))
      exact Option.some.inj (f1.symm.trans r4)
    refine W.cs c1.2 c2.2 ?_
    have hat : rc_at (yr_D Y) H.size (.inl (4, (n.toNatClampNeg, rc_zero 4))) H1 := by
      refine ⟨show 4 < 5 by decide, ?_⟩
      rw [e1, hcA]
      rfl
    rw [hR.1] at hat ⊢
    refine kk _ _ h9 H1 locs ls (rc_Rp.new hR (fun q hq => ?_) hat z1 o1) ⟨Nat.le_trans hS.1 (by omega), fun x h1 h2 => (o1 x (Nat.lt_of_lt_of_le h1 hS.1)).trans (hS.2.1 x h1 h2), hS.2.2⟩ hL ⟨Nat.le_trans hB.1 (Nat.le_succ _), Nat.le_trans hB.2.1 (Nat.le_add_right _ _), hB.2.2⟩
    rw [← hk]
    exact hw q (Nat.le_trans hS.1 (by rw [hR.1]; exact hq))
  · cases hx
theorem rc_inS {i : Int32} {n N : Nat} (h : rc_in i n = true) (hN : n ≤ N) : ¬ (i < 0 ∨ N ≤ i.toNatClampNeg) := by
  have := rc_in_ok h
  intro q
  rcases q with q | q
  · exact this.1 q
  · exact absurd this.2 (by omega)
theorem rc_r_alen (hC : rc_C Y cc own ret nL) {t : Nat} (d : decode cc pc = .ok (.arraylength, 1)) {v : Option Nat} {f : Int32 → rc_M α} (h : rc_Go Y tv (rc_bind (rc_alen t v) f) S) (kk : ∀ x, rc_Go Y tv (f x) S → rc_Z Y S (pc + 1) L (rc_i x :: st)) : rc_Z Y S pc L (rc_q v :: st) := by
  intro H locs ls hR hS hL hB
  have hk := h.le.2.2
  obtain ⟨x, hx, h9⟩ := h.read
  split at hx
  · cases hx
  · rename_i y ho
    cases hx
    obtain ⟨a, cell, rfl, h0, h1, h2, h3, h4, h5, h6⟩ := rc_rda hC.2.2.2.2.2.2.2.1 hk hR hS ho
    exact W.alen hC.1 hC.2.1 h1 h2 h5 rfl rfl d (kk _ h9 H locs ls hR hS hL hB)
theorem rc_r_iald (hC : rc_C Y cc own ret nL) (d : decode cc pc = .ok (.iaload, 1)) {v : Option Nat} {i : Int32} {f : Int32 → rc_M α} (h : rc_Go Y tv (rc_bind (rc_ald 0 v i) f) S) (kk : ∀ x, rc_Go Y tv (f x) S → rc_Z Y S (pc + 1) L (rc_i x :: st)) : rc_Z Y S pc L (rc_i i :: rc_q v :: st) := by
  intro H locs ls hR hS hL hB
  have hk := h.le.2.2
  obtain ⟨x, hx, h9⟩ := h.read
  split at hx
  · cases hx
  · rename_i y ho
    split at hx
    · cases hx
    · rename_i g hg
      split at hx
      · rename_i hc
        cases hx
        obtain ⟨a, cell, rfl, h0, h1, h2, h3, h4, h5, h6⟩ := rc_rda hC.2.2.2.2.2.2.2.1 hk hR hS ho
        exact W.iald (v := .int (g i.toNatClampNeg)) hC.1 hC.2.1 h1 h2 h3 (rc_inS hc h4) (by rw [h6 _ (rc_in_ok hc).2, rc_aI_some hg]; rfl) rfl rfl d (kk _ h9 H locs ls hR hS hL hB)
      · cases hx
theorem rc_r_bald (hC : rc_C Y cc own ret nL) (d : decode cc pc = .ok (.baload, 1)) {v : Option Nat} {i : Int32} {f : Int32 → rc_M α} (h : rc_Go Y tv (rc_bind (rc_ald 2 v i) f) S) (kk : ∀ x, rc_Go Y tv (f x) S → rc_Z Y S (pc + 1) L (rc_i x :: st)) : rc_Z Y S pc L (rc_i i :: rc_q v :: st) := by
  intro H locs ls hR hS hL hB
  have hk := h.le.2.2
  obtain ⟨x, hx, h9⟩ := h.read
  split at hx
  · cases hx
  · rename_i y ho
    split at hx
    · cases hx
    · rename_i g hg
      split at hx
      · rename_i hc
        cases hx
        obtain ⟨a, cell, rfl, h0, h1, h2, h3, h4, h5, h6⟩ := rc_rda hC.2.2.2.2.2.2.2.1 hk hR hS ho
        exact W.bald (v := .int (g i.toNatClampNeg)) hC.1 hC.2.1 h1 h2 h3 (rc_inS hc h4) (by rw [h6 _ (rc_in_ok hc).2, rc_aI_some hg]; rfl) rfl rfl d (kk _ h9 H locs ls hR hS hL hB)
      · cases hx
theorem rc_r_cald (hC : rc_C Y cc own ret nL) (d : decode cc pc = .ok (.caload, 1)) {v : Option Nat} {i : Int32} {f : Int32 → rc_M α} (h : rc_Go Y tv (rc_bind (rc_ald 3 v i) f) S) (kk : ∀ x, rc_Go Y tv (f x) S → rc_Z Y S (pc + 1) L (rc_i x :: st)) : rc_Z Y S pc L (rc_i i :: rc_q v :: st) := by
  intro H locs ls hR hS hL hB
  have hk := h.le.2.2
  obtain ⟨x, hx, h9⟩ := h.read
  split at hx
  · cases hx
  · rename_i y ho
    split at hx
    · cases hx
    · rename_i g hg
      split at hx
      · rename_i hc
        cases hx
        obtain ⟨a, cell, rfl, h0, h1, h2, h3, h4, h5, h6⟩ := rc_rda hC.2.2.2.2.2.2.2.1 hk hR hS ho
        exact W.cald (v := .int (g i.toNatClampNeg)) hC.1 hC.2.1 h1 h2 h3 (rc_inS hc h4) (by rw [h6 _ (rc_in_ok hc).2, rc_aI_some hg]; rfl) rfl rfl d (kk _ h9 H locs ls hR hS hL hB)
      · cases hx
theorem rc_r_lald (hC : rc_C Y cc own ret nL) (d : decode cc pc = .ok (.laload, 1)) {v : Option Nat} {i : Int32} {f : Int64 → rc_M α} (h : rc_Go Y tv (rc_bind (rc_aldl v i) f) S) (kk : ∀ x, rc_Go Y tv (f x) S → rc_Z Y S (pc + 1) L (rc_l x :: st)) : rc_Z Y S pc L (rc_i i :: rc_q v :: st) := by
  intro H locs ls hR hS hL hB
  have hk := h.le.2.2
  obtain ⟨x, hx, h9⟩ := h.read
  split at hx
  · cases hx
  · rename_i y ho
    split at hx
    · cases hx
    · rename_i g hg
      split at hx
      · rename_i hc
        cases hx
        obtain ⟨a, cell, rfl, h0, h1, h2, h3, h4, h5, h6⟩ := rc_rda hC.2.2.2.2.2.2.2.1 hk hR hS ho
        exact W.lald (v := .long (g i.toNatClampNeg)) hC.1 hC.2.1 h1 h2 h3 (rc_inS hc h4) (by rw [h6 _ (rc_in_ok hc).2, rc_aL_some hg]; rfl) rfl rfl d (kk _ h9 H locs ls hR hS hL hB)
      · cases hx
theorem rc_r_aald (hC : rc_C Y cc own ret nL) (d : decode cc pc = .ok (.aaload, 1)) {v : Option Nat} {i : Int32} {f : Option Nat → rc_M α} (h : rc_Go Y tv (rc_bind (rc_aldq v i) f) S) (kk : ∀ x, rc_Go Y tv (f x) S → rc_Z Y S (pc + 1) L (rc_q x :: st)) : rc_Z Y S pc L (rc_i i :: rc_q v :: st) := by
  intro H locs ls hR hS hL hB
  have hk := h.le.2.2
  obtain ⟨x, hx, h9⟩ := h.read
  split at hx
  · cases hx
  · rename_i y ho
    split at hx
    · cases hx
    · rename_i g hg
      split at hx
      · rename_i hc
        cases hx
        obtain ⟨a, cell, rfl, h0, h1, h2, h3, h4, h5, h6⟩ := rc_rda hC.2.2.2.2.2.2.2.1 hk hR hS ho
        exact W.aald (v := va_rf (g i.toNatClampNeg)) (ty := rc_ty 4) hC.1 hC.2.1 h1 h2 rfl h3 (rc_inS hc h4) (by rw [h6 _ (rc_in_ok hc).2, rc_aQ_some hg]; rfl) rfl rfl d (kk _ h9 H locs ls hR hS hL hB)
      · cases hx
theorem rc_r_iast (hC : rc_C Y cc own ret nL) (d : decode cc pc = .ok (.iastore, 1)) {v : Option Nat} {i x : Int32} {f : Unit → rc_M α} (h : rc_Go Y tv (rc_bind (rc_ast 0 v i x) f) S) (kk : ∀ S1, rc_Go Y tv (f ()) S1 → rc_Z Y S1 (pc + 1) L st) : rc_Z Y S pc L (rc_i x :: rc_i i :: rc_q v :: st) := by
  intro H locs ls hR hS hL hB
  have hk := h.le.2.2
  obtain ⟨h1, hx, h9⟩ := h.wr
  split at hx
  · cases hx
  · rename_i a y ho
    split at hx
    · cases hx
    · rename_i g hg
      split at hx
      · rename_i hc
        cases hx
        obtain ⟨rfl, hs⟩ := rc_arrW_some ho
        dsimp only at hs
        obtain ⟨⟨q1, q2⟩, q3⟩ := hR.2.1 a _ hs
        dsimp only at q1 q2
        rw [rc_aI_some hg] at q2
        refine W.iast hC.1 hC.2.1 q2 ((hC.2.2.2.2.2.2.2.1.1.2 _ _ (rc_tys_get q1)).1 y.1 (fun j => .int (g j))) (fun q => by cases q) (by show ¬ (i < 0 ∨ (arrV _ _ _).slots.size ≤ _); rw [arrV_size]; exact rc_inS hc (Nat.le_refl _)) rfl rfl d fun H1 e z oq => ?_
        have hat : rc_at (yr_D Y) a (.inl (0, (y.1, .inl (upd g i.toNatClampNeg (vp_nar (rc_ty 0) x))))) H1 := by
          refine ⟨q1, ?_⟩
          show H1[a]? = some (vp_cell _ _)
          rw [e]
          rw [vp_cell_i, vp_cell_i, arrV_store]
          congr 2
          funext q
          by_cases hq : q = i.toNatClampNeg
          · subst hq
            simp [updV, upd, vp_nar, rc_ty]
            try rfl
          · simp [updV, upd, hq]
        exact kk _ h9 H1 _ ls (hR.set hs hat z oq) (hS.put z oq (by rw [hk]; exact q3)) hL hB
      · cases hx
theorem rc_r_bast (hC : rc_C Y cc own ret nL) (d : decode cc pc = .ok (.bastore, 1)) {v : Option Nat} {i x : Int32} {f : Unit → rc_M α} (h : rc_Go Y tv (rc_bind (rc_ast 2 v i x) f) S) (kk : ∀ S1, rc_Go Y tv (f ()) S1 → rc_Z Y S1 (pc + 1) L st) : rc_Z Y S pc L (rc_i x :: rc_i i :: rc_q v :: st) := by
  intro H locs ls hR hS hL hB
  have hk := h.le.2.2
  obtain ⟨h1, hx, h9⟩ := h.wr
  split at hx
  · cases hx
  · rename_i a y ho
    split at hx
    · cases hx
    · rename_i g hg
      split at hx
      · rename_i hc
        cases hx
        obtain ⟨rfl, hs⟩ := rc_arrW_some ho
        dsimp only at hs
        obtain ⟨⟨q1, q2⟩, q3⟩ := hR.2.1 a _ hs
        dsimp only at q1 q2
        rw [rc_aI_some hg] at q2
        refine W.bast hC.1 hC.2.1 q2 ((hC.2.2.2.2.2.2.2.1.1.2 _ _ (rc_tys_get q1)).1 y.1 (fun j => .int (g j))) (fun q => by cases q) (by show ¬ (i < 0 ∨ (arrV _ _ _).slots.size ≤ _); rw [arrV_size]; exact rc_inS hc (Nat.le_refl _)) rfl rfl d fun H1 e z oq => ?_
        have hat : rc_at (yr_D Y) a (.inl (2, (y.1, .inl (upd g i.toNatClampNeg (vp_nar (rc_ty 2) x))))) H1 := by
          refine ⟨q1, ?_⟩
          show H1[a]? = some (vp_cell _ _)
          rw [e]
          rw [vp_cell_i, vp_cell_i, arrV_store]
          congr 2
          funext q
          by_cases hq : q = i.toNatClampNeg
          · subst hq
            simp [updV, upd, vp_nar, rc_ty]
            try rfl
          · simp [updV, upd, hq]
        exact kk _ h9 H1 _ ls (hR.set hs hat z oq) (hS.put z oq (by rw [hk]; exact q3)) hL hB
      · cases hx
theorem rc_r_castc (hC : rc_C Y cc own ret nL) (d : decode cc pc = .ok (.castore, 1)) {v : Option Nat} {i x : Int32} {f : Unit → rc_M α} (h : rc_Go Y tv (rc_bind (rc_ast 3 v i x) f) S) (kk : ∀ S1, rc_Go Y tv (f ()) S1 → rc_Z Y S1 (pc + 1) L st) : rc_Z Y S pc L (rc_i x :: rc_i i :: rc_q v :: st) := by
  intro H locs ls hR hS hL hB
  have hk := h.le.2.2
  obtain ⟨h1, hx, h9⟩ := h.wr
  split at hx
  · cases hx
  · rename_i a y ho
    split at hx
    · cases hx
    · rename_i g hg
      split at hx
      · rename_i hc
        cases hx
        obtain ⟨rfl, hs⟩ := rc_arrW_some ho
        dsimp only at hs
        obtain ⟨⟨q1, q2⟩, q3⟩ := hR.2.1 a _ hs
        dsimp only at q1 q2
        rw [rc_aI_some hg] at q2
        refine W.cast hC.1 hC.2.1 q2 ((hC.2.2.2.2.2.2.2.1.1.2 _ _ (rc_tys_get q1)).1 y.1 (fun j => .int (g j))) (fun q => by cases q) (by show ¬ (i < 0 ∨ (arrV _ _ _).slots.size ≤ _); rw [arrV_size]; exact rc_inS hc (Nat.le_refl _)) rfl rfl d fun H1 e z oq => ?_
        have hat : rc_at (yr_D Y) a (.inl (3, (y.1, .inl (upd g i.toNatClampNeg (vp_nar (rc_ty 3) x))))) H1 := by
          refine ⟨q1, ?_⟩
          show H1[a]? = some (vp_cell _ _)
          rw [e]
          rw [vp_cell_i, vp_cell_i, arrV_store]
          congr 2
          funext q
          by_cases hq : q = i.toNatClampNeg
          · subst hq
            simp [updV, upd, vp_nar, rc_ty]
            try rfl
          · simp [updV, upd, hq]
        exact kk _ h9 H1 _ ls (hR.set hs hat z oq) (hS.put z oq (by rw [hk]; exact q3)) hL hB
      · cases hx
theorem rc_r_last (hC : rc_C Y cc own ret nL) (d : decode cc pc = .ok (.lastore, 1)) {v : Option Nat} {i : Int32} {x : Int64} {f : Unit → rc_M α} (h : rc_Go Y tv (rc_bind (rc_astl v i x) f) S) (kk : ∀ S1, rc_Go Y tv (f ()) S1 → rc_Z Y S1 (pc + 1) L st) : rc_Z Y S pc L (rc_l x :: rc_i i :: rc_q v :: st) := by
  intro H locs ls hR hS hL hB
  have hk := h.le.2.2
  obtain ⟨h1, hx, h9⟩ := h.wr
  split at hx
  · cases hx
  · rename_i a y ho
    split at hx
    · cases hx
    · rename_i g hg
      split at hx
      · rename_i hc
        cases hx
        obtain ⟨rfl, hs⟩ := rc_arrW_some ho
        dsimp only at hs
        obtain ⟨⟨q1, q2⟩, q3⟩ := hR.2.1 a _ hs
        dsimp only at q1 q2
        rw [rc_aL_some hg] at q2
        refine W.last hC.1 hC.2.1 q2 ((hC.2.2.2.2.2.2.2.1.1.2 _ _ (rc_tys_get q1)).1 y.1 (fun j => .long (g j))) (fun q => by cases q) (by show ¬ (i < 0 ∨ (arrV _ _ _).slots.size ≤ _); rw [arrV_size]; exact rc_inS hc (Nat.le_refl _)) rfl rfl d fun H1 e z oq => ?_
        have hat : rc_at (yr_D Y) a (.inl (1, (y.1, .inr (.inl (vp_updL g i.toNatClampNeg x))))) H1 := by
          refine ⟨q1, ?_⟩
          show H1[a]? = some (vp_cell _ _)
          rw [e]
          rw [vp_cell_l, vp_cell_l, arrV_store]
          congr 2
          funext q
          by_cases hq : q = i.toNatClampNeg
          · subst hq
            simp [updV, vp_updL]
          · simp [updV, vp_updL, hq]
        exact kk _ h9 H1 _ ls (hR.set hs hat z oq) (hS.put z oq (by rw [hk]; exact q3)) hL hB
      · cases hx
theorem rc_r_aast (hC : rc_C Y cc own ret nL) (d : decode cc pc = .ok (.aastore, 1)) {v : Option Nat} {i : Int32} {x : Option Nat} {f : Unit → rc_M α} (h : rc_Go Y tv (rc_bind (rc_astq v i x) f) S) (kk : ∀ S1, rc_Go Y tv (f ()) S1 → rc_Z Y S1 (pc + 1) L st) : rc_Z Y S pc L (rc_q x :: rc_i i :: rc_q v :: st) := by
  intro H locs ls hR hS hL hB
  have hk := h.le.2.2
  obtain ⟨h1, hx, h9⟩ := h.wr
  split at hx
  · cases hx
  · rename_i a y ho
    split at hx
    · cases hx
    · rename_i g hg
      obtain ⟨rfl, hs⟩ := rc_arrW_some ho
      dsimp only at hs
      obtain ⟨⟨q1, q2⟩, q3⟩ := hR.2.1 a _ hs
      dsimp only at q1 q2
      rw [rc_aQ_some hg] at q2
      obtain ⟨hK1, kA, comp, k1, k2, k3, -⟩ := hC.2.2.2.2.2.2.2.1.1.2 _ _ (rc_tys_get (D := yr_D Y) q1)
      have key : ∀ z : Option Nat, ∀ H1 : Heap, H1[a]? = some ((vp_cell ((yr_D Y).2 4) (y.1, .inr (.inr (.inr (.inr g))))).setSlot i.toNatClampNeg (va_rf z)) → rc_at (yr_D Y) a (.inl (4, (y.1, .inr (.inr (.inr (.inr (va_up g i.toNatClampNeg z))))))) H1 := by
        intro z H1 e
        refine ⟨q1, ?_⟩
        show H1[a]? = some (vp_cell _ _)
        rw [e]
        rw [vp_cell_q, vp_cell_q, arrV_store]
        congr 2
        funext q
        by_cases hq : q = i.toNatClampNeg
        · subst hq
          simp [updV, va_up]
        · simp [updV, va_up, hq]
      cases x with
      | none =>
        dsimp only at hx
        split at hx
        · rename_i hc
          cases hx
          refine va_WaastN (C := "java/lang/Object") hC.1 hC.2.1 q2 (hK1 y.1 (fun j => va_rf (g j))) (fun h => by cases h) (by show ¬ (i < 0 ∨ (arrV _ _ _).slots.size ≤ _); rw [arrV_size]; exact rc_inS hc (Nat.le_refl _)) rfl rfl d fun H1 e z oq => ?_
          exact kk _ h9 H1 _ ls (hR.set hs (key none H1 e) z oq) (hS.put z oq (by rw [hk]; exact q3)) hL hB
        · cases hx
      | some b =>
        dsimp only at hx
        split at hx
        · rename_i o hso
          split at hx
          · rename_i hc
            cases hx
            obtain ⟨kE, hkE, -⟩ := Vm.findClass_spec k3
            obtain ⟨r, b1, cellV, b2, b3, b4, b5⟩ := (hR.2.1 b _ hso).1.1
            obtain ⟨-, hfc, kC, hkC, hkind⟩ := hC.2.2.2.2.2.2.2.1.1.1 _ _ b1
            obtain ⟨c0, t0, f1, f2, f3⟩ := Cond.castable_spec (va_Nw.use (A := yr_a Y) rfl (hC.2.2.2.2.2.2.2.1.2.2.1 _ (rc_cob _ _ b1)))
            cases hfc.symm.trans f1
            cases (show (yr_s Y).vm.findClass "java/lang/Object" = some comp from k3).symm.trans f2
            refine W.aast hC.1 hC.2.1 q2 (fun q h => by cases h) (fun h => by cases h) k1 k2 rfl hkE ⟨(rc_in_ok hc).1, by show _ < (arrV _ _ _).slots.size; rw [arrV_size]; exact (rc_in_ok hc).2⟩ b2 (fun q h => by rw [b4] at h; cases h) (by rw [b3]; exact hkC) (by rw [b3]; exact f3) rfl rfl d fun H1 e z oq => ?_
            exact kk _ h9 H1 _ ls (hR.set hs (key (some b) H1 e) z oq) (hS.put z oq (by rw [hk]; exact q3)) hL hB
          · cases hx
        · cases hx
def rc_Sta (own : String) (idx i : Nat) : Prop := ∃ C n d, rc_sts[i]? = some (C, n, d) ∧ Cond.fieldLink own idx C n d ∈ lw_all
theorem rc_r_stat (hC : rc_C Y cc own ret nL) {idx i : Nat} (F : rc_Sta own idx i) (d : decode cc pc = .ok (.getstatic idx, 3)) {f : Option Nat → rc_M α} (h : rc_Go Y tv (rc_bind (rc_stat i) f) S) (kk : ∀ x, rc_Go Y tv (f x) S → rc_Z Y S (pc + 3) L (rc_q x :: st)) : rc_Z Y S pc L st := by
  intro H locs ls hR hS hL hB
  have hk := h.le.2.2
  obtain ⟨x, hx, h9⟩ := h.read
  obtain ⟨C, n, dd, f1, f2⟩ := F
  have hz := hC.2.2.2.2.2.2.2.1.2.2.2.2.1 i _ f1
  have hv := rc_isQ_some hx
  rw [hk, Option.some.inj hv] at hz
  exact va_gets hC.1 hC.2.1 hz (by rw [← hk]; exact hS) hC.2.2.2.1 (hC.2.2.2.2.1 _ f2) (fun _ h => h) d (kk x h9 H locs ls hR hS hL hB)
theorem rc_r_stati (hC : rc_C Y cc own ret nL) {idx i : Nat} (F : rc_Sta own idx i) (d : decode cc pc = .ok (.getstatic idx, 3)) {f : Int32 → rc_M α} (h : rc_Go Y tv (rc_bind (rc_stati i) f) S) (kk : ∀ x, rc_Go Y tv (f x) S → rc_Z Y S (pc + 3) L (rc_i x :: st)) : rc_Z Y S pc L st := by
  intro H locs ls hR hS hL hB
  have hk := h.le.2.2
  obtain ⟨x, hx, h9⟩ := h.read
  obtain ⟨C, n, dd, f1, f2⟩ := F
  have hz := hC.2.2.2.2.2.2.2.1.2.2.2.2.1 i _ f1
  have hv := rc_isI_some hx
  rw [hk, Option.some.inj hv] at hz
  exact va_gets hC.1 hC.2.1 hz (by rw [← hk]; exact hS) hC.2.2.2.1 (hC.2.2.2.2.1 _ f2) (fun _ h => h) d (kk x h9 H locs ls hR hS hL hB)
theorem rc_r_text (hC : rc_C Y cc own ret nL) {idx i : Nat} {tx : String} (F : rc_txs[i]? = some (own, idx, tx)) (d : decode cc pc = .ok (.ldc idx, 2)) {f : Option Nat → rc_M α} (h : rc_Go Y tv (rc_bind (rc_text i) f) S) (kk : ∀ x, rc_Go Y tv (f x) S → rc_Z Y S (pc + 2) L (rc_q x :: st)) : rc_Z Y S pc L st := by
  intro H locs ls hR hS hL hB
  have hk := h.le.2.2
  obtain ⟨x, hx, h9⟩ := h.read
  cases hx
  have hz := hC.2.2.2.2.2.2.2.1.2.2.2.2.2.1 i _ F
  rw [hk] at hz
  exact va_ldcS hC.1 hC.2.1 hC.2.2.2.1 hz d (kk _ h9 H locs ls hR hS hL hB)
/-- checkcast: null, or an object of just this class -/
def rc_castM (ci : Nat) (v : Option Nat) : rc_M Unit := rc_read fun S => match v with
  | none => some ()
  | some _ => match rc_obj S ci v with
    | none => none
    | some _ => some ()
def rc_Cls (own : String) (idx ci : Nat) : Prop := ∃ C T N, rc_cl[ci]? = some (C, T, N) ∧ Cond.classLink own idx C ∈ lw_all
theorem rc_r_cast (hC : rc_C Y cc own ret nL) {idx ci : Nat} (F : rc_Cls own idx ci) (d : decode cc pc = .ok (.checkcast idx, 3)) {v : Option Nat} {f : Unit → rc_M α} (h : rc_Go Y tv (rc_bind (rc_castM ci v) f) S) (kk : rc_Go Y tv (f ()) S → rc_Z Y S (pc + 3) L (rc_q v :: st)) : rc_Z Y S pc L (rc_q v :: st) := by
  intro H locs ls hR hS hL hB
  have hk := h.le.2.2
  obtain ⟨x, hx, h9⟩ := h.read
  cases v with
  | none => exact lv_castN hC.1 hC.2.1 d (kk h9 H locs ls hR hS hL hB)
  | some b =>
    dsimp only at hx
    split at hx
    · cases hx
    · rename_i fs ho
      obtain ⟨a, cell, r, e, h1, h2, h3, h4, h5, h6⟩ := rc_rdo hC.2.2.2.2.2.2.2.1 hk hR hS ho
      cases e
      obtain ⟨C, T, N, f1, f2⟩ := F
      cases h2.symm.trans f1
      have hcl := (hC.2.2.2.2.2.2.2.1.1.1 _ _ f1).2
      exact va_castS hC.1 hC.2.1 hC.2.2.2.1 (hC.2.2.2.2.1 _ f2) hcl ⟨cell, h1, h5, by rw [h3]; exact hcl.1⟩ d (kk h9 H locs ls hR hS hL hB)
/-- checkcast to an array class of ours -/
def rc_casta (t : Nat) (v : Option Nat) : rc_M Unit := rc_read fun S => match rc_arrW S t v with
  | none => none
  | some _ => some ()
theorem rc_r_casta (hC : rc_C Y cc own ret nL) {idx t : Nat} (hq : Cond.classLink own idx ("[" ++ (rc_ty t).toString) ∈ lw_all) (d : decode cc pc = .ok (.checkcast idx, 3)) {v : Option Nat} {f : Unit → rc_M α} (h : rc_Go Y tv (rc_bind (rc_casta t v) f) S) (kk : rc_Go Y tv (f ()) S → rc_Z Y S (pc + 3) L (rc_q v :: st)) : rc_Z Y S pc L (rc_q v :: st) := by
  intro H locs ls hR hS hL hB
  obtain ⟨x, hx, h9⟩ := h.read
  split at hx
  · cases hx
  · rename_i p ho
    obtain ⟨rfl, hs⟩ := rc_arrW_some ho
    obtain ⟨q1, q2⟩ := (hR.2.1 _ _ hs).1
    have hra := (hC.2.2.2.2.2.2.2.1.1.2 _ _ (rc_tys_get (D := yr_D Y) q1)).2
    have h8 : (yr_s Y).vm.findClass ("[" ++ (rc_ty t).toString) = some ((yr_D Y).2 t) := by
      revert hra
      dsimp only at q1
      match t, q1 with
      | 0, _ => exact fun h => h
      | 1, _ => exact fun h => h
      | 2, _ => exact fun h => h
      | 3, _ => exact fun h => h
      | 4, _ => exact fun ⟨k1, k2, r1, r2, r3, r4⟩ => r4
    exact va_castA (D := (yr_D Y).1) (cl := rc_cl) (ws := [(p.1, .inl ((yr_D Y).2 t, p.2))]) hC.1 hC.2.1 hC.2.2.2.1 (hC.2.2.2.2.1 _ hq) (fun k q hk => by
      cases k with
      | zero => cases hk; exact q2
      | succ k => simp at hk) 0 rfl h8 d (kk h9 H locs ls hR hS hL hB)
/-- instanceof: an object of just this class, or null -/
def rc_instM (ci : Nat) (v : Option Nat) : rc_M Int32 := rc_read fun S => match v with
  | none => some 0
  | some _ => match rc_obj S ci v with
    | none => none
    | some _ => some 1
theorem rc_r_inst (hC : rc_C Y cc own ret nL) {idx ci : Nat} (F : rc_Cls own idx ci) (d : decode cc pc = .ok (.instanceof idx, 3)) {v : Option Nat} {f : Int32 → rc_M α} (h : rc_Go Y tv (rc_bind (rc_instM ci v) f) S) (kk : ∀ x, rc_Go Y tv (f x) S → rc_Z Y S (pc + 3) L (rc_i x :: st)) : rc_Z Y S pc L (rc_q v :: st) := by
  intro H locs ls hR hS hL hB
  have hk := h.le.2.2
  obtain ⟨x, hx, h9⟩ := h.read
  cases v with
  | none =>
    cases hx
    exact lv_instN hC.1 hC.2.1 d (kk _ h9 H locs ls hR hS hL hB)
  | some b =>
    dsimp only at hx
    split at hx
    · cases hx
    · rename_i fs ho
      cases hx
      obtain ⟨a, cell, r, e, h1, h2, h3, h4, h5, h6⟩ := rc_rdo hC.2.2.2.2.2.2.2.1 hk hR hS ho
      cases e
      obtain ⟨C, T, N, f1, f2⟩ := F
      cases h2.symm.trans f1
      have hcl := (hC.2.2.2.2.2.2.2.1.1.1 _ _ f1).2
      exact va_instS hC.1 hC.2.1 hC.2.2.2.1 (hC.2.2.2.2.1 _ f2) hcl ⟨cell, h1, h5, by rw [h3]; exact hcl.1⟩ d (kk _ h9 H locs ls hR hS hL hB)
theorem rc_objInit (hC : rc_C Y cc own ret nL) {idx : Nat} (h1 : Cond.methodLink own idx Lib.objectInit ∈ lw_all) (h2 : Cond.instanceMethod Lib.objectInit ∈ lw_all) (h3 : Cond.code Lib.objectInit ⟨#[0xb1]⟩ 1 none ∈ lw_all) (hn : nL = L.length) (d : decode cc pc = .ok (.invokespecial idx, 3)) {v : Option Nat} {f : Unit → rc_M α} (hf : 1 ≤ yr_fr Y) (hlo : 20 ≤ yr_lo Y) (hst : (st.map fun v => (rc_val v).category).sum ≤ 8) (h : rc_Go Y tv (rc_bind (rc_nn v) f) S) (kk : rc_Go Y tv (f ()) S → rc_Z Y S (pc + 3) L st) : rc_Z Y S pc L (rc_q v :: st) := by
  intro H locs ls hR hS hL hB
  obtain ⟨x, hx, h9⟩ := h.read
  cases v with
  | none => cases hx
  | some a =>
    refine W.objInit hC.1 hC.2.1 hC.2.2.2.1 (hC.2.2.2.2.1 _ h1) (hC.2.2.2.2.1 _ h2) (hC.2.2.2.2.1 _ h3) rfl (by rw [hC.2.2.1, hn]; exact hL.1) rfl d hf ?_ (kk h9 H locs ls hR hS hL hB)
    show 2 * 0 + ((st.map rc_val).map fun v => v.category).sum + 12 ≤ yr_lo Y
    rw [List.map_map]
    have : (st.map ((fun v => v.category) ∘ rc_val)).sum ≤ 8 := hst
    omega
end RCN

