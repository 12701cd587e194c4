set_option maxRecDepth 100000
/-! THE MODEL STANDS: its object and arrays, fresh from its constructor, go over into the table of numbers; and a reference is the model's -/
/-- the reference v is the model's, and the model stands -/
def rc_isM (v : Option Nat) : rc_M Unit := rc_read fun S => if rc_fl S = true ∧ v = some (rc_km (rc_k S) 100) then some () else none
/-- what the model's field k holds as the constructor has filled it -/
def rc_m0 (K : rc_K) (k : Nat) : rc_V := if rc_mN k = 0 then rc_i (if k = 13 then -1 else 0) else rc_q (some (rc_km K k))
/-- the cells that are the model's -/
def rc_mA (K : rc_K) (a : Nat) : Prop := ∃ j, (rc_mN j ≠ 0 ∨ j = 100) ∧ a = rc_km K j
def rc_adC (S : rc_S) (v : Option Nat) : Prop := rc_fl S = false ∧ (∃ a, v = some a ∧ a = rc_km (rc_k S) 100 ∧ ∃ fs, S.1 a = some (.inr (8, fs)) ∧ ∀ k, k < 23 → fs[k]? = some (rc_m0 (rc_k S) k)) ∧
  (∀ j, rc_mN j ≠ 0 → S.1 (rc_km (rc_k S) j) = some (.inl (rc_mT j, (rc_mN j, .inl (fun _ => 0))))) ∧ (∀ i j, (rc_mN i ≠ 0 ∨ i = 100) → (rc_mN j ≠ 0 ∨ j = 100) → rc_km (rc_k S) i = rc_km (rc_k S) j → i = j)
noncomputable def rc_adF (v : Option Nat) (S : rc_S) : Option ((Unit ⊕ (Nat × Nat)) × rc_S) := @ite _ (rc_adC S v) (Classical.propDecidable _) (some (.inl (), (fun a => @ite _ (rc_mA (rc_k S) a) (Classical.propDecidable _) none (S.1 a), S.2.1, S.2.2.1, true, fun i k => if i = 100 ∧ k = 13 then -1 else 0, S.2.2.2.2.2))) none
noncomputable def rc_adopt (v : Option Nat) : rc_M Unit := ⟨rc_adF v, by
  intro S r h
  unfold rc_adF at h
  split at h
  · cases h; exact ⟨Nat.le_refl _, Nat.le_refl _, rfl, fun _ => rfl⟩
  · cases h⟩
section RAD
variable {Y : rc_Y} {cc : ByteArray} {own : String} {ret : Option FieldType} {nL : Nat} {S : rc_S} {pc : Nat} {L : List (Option rc_V)} {st : List rc_V} {α β : Type} {tv : α → Option rc_V}
theorem rc_Go.isM {v : Option Nat} {f : Unit → rc_M α} (h : rc_Go Y tv (rc_bind (rc_isM v) f) S) : (some (rc_km (yr_K Y) 100) = v ∧ rc_fl S = true) ∧ rc_Go Y tv (f ()) S := by
  obtain ⟨x, hx, h9⟩ := h.read
  split at hx
  · rename_i hc
    refine ⟨⟨?_, hc.1⟩, h9⟩
    rw [h9.le.2.2]
    exact hc.2.symm
  · cases hx
theorem rc_r_adopt {v : Option Nat} {f : Unit → rc_M α} (h : rc_Go Y tv (rc_bind (rc_adopt v) f) S) (kk : ∀ S1, rc_Go Y tv (f ()) S1 → rc_Z Y S1 pc L st) : rc_Z Y S pc L st := by
  rcases h.bind with ⟨w, S1, h1, h9⟩ | ⟨e, S1, h1, -⟩
  · have h1 : rc_adF v S = some (.inl w, S1) := h1
    unfold rc_adF at h1
    split at h1
    · rename_i hc
      cases h1
      obtain ⟨c1, ⟨a, rfl, ha, fs, hs, hf⟩, c3, c4⟩ := hc
      intro H locs ls hR hS hL hB
      refine kk _ h9 H locs ls ⟨hR.1, fun b e hb => ?_, fun _ => ?_⟩ hS hL ⟨hB.1, hB.2.1, fun _ => rfl⟩
      · have hb : (@ite _ (rc_mA (rc_k S) b) (Classical.propDecidable _) none (S.1 b)) = some e := hb
        split at hb
        · cases hb
        · exact hR.2.1 b e hb
      · have hm := hR.2.1 a _ hs
        obtain ⟨⟨r, g1, q⟩, -⟩ := hm.1
        cases rc_cl8.symm.trans g1
        refine ⟨?_, fun j hj => ?_, c4, fun j hj => ⟨?_, ?_⟩⟩
        · show t_OB (rc_km (rc_k S) 100) _ 23 _ H _
          rw [← ha]
          refine q.to (fun k hk => ?_)
          have hk1 := hf k hk
          have e1 : vp_V (fs.map rc_val) k = rc_val (rc_m0 (rc_k S) k) := by simp [vp_V, List.getElem?_map, hk1]
          refine Eq.trans e1 ?_
          by_cases h0 : rc_mN k = 0
          · have e2 : rc_m0 (rc_k S) k = rc_i (if k = 13 then -1 else 0) := if_pos h0
            rw [e2]
            show _ = (if rc_mN k = 0 then Value.int (if 100 = 100 ∧ k = 13 then -1 else 0) else _)
            rw [if_pos h0]
            by_cases h13 : k = 13
            · rw [if_pos h13, if_pos ⟨rfl, h13⟩]; rfl
            · rw [if_neg h13, if_neg (fun h => h13 h.2)]; rfl
          · have e2 : rc_m0 (rc_k S) k = rc_q (some (rc_km (rc_k S) k)) := if_neg h0
            rw [e2]
            show _ = (if rc_mN k = 0 then _ else Value.ref (rc_km (rc_k S) k))
            rw [if_neg h0]; rfl
        · have hj2 := (hR.2.1 _ _ (c3 j hj)).1.2
          have hne : j ≠ 100 := by
            intro e
            rw [e] at hj
            exact hj rfl
          have ef : (fun _ => (0 : Int32)) = (fun k : Nat => if j = 100 ∧ k = 13 then (-1 : Int32) else 0) := by
            funext k
            rw [if_neg (fun h => hne h.1)]
          exact hj2.trans (congrArg (fun f => some (vp_cell ((yr_D Y).2 (rc_mT j)) (rc_mN j, Sum.inl f))) ef)
        · show (@ite _ (rc_mA (rc_k S) (rc_km (rc_k S) j)) (Classical.propDecidable _) none (S.1 (rc_km (rc_k S) j))) = none
          rw [if_pos ⟨j, hj, rfl⟩]
        · show rc_kw (rc_k S) (rc_km (rc_k S) j)
          rcases hj with hj | rfl
          · exact (hR.2.1 _ _ (c3 j hj)).2
          · rw [← ha]; exact hm.2
    · cases h1
  · have h1 : rc_adF v S = some (.inr e, S1) := h1
    unfold rc_adF at h1
    split at h1 <;> cases h1
theorem rc_loc.st2 {ls' : Array Slot} {L : List (Option rc_V)} {i : Nat} {v : rc_V} (hi : i + 1 < L.length) (hc : rc_c1 L i = true) (h' : lv_has ls' L.length ((i, rc_val v) :: (rc_prs L 0).filter (fun q => !(q.1 == i) && (!(q.1 == i + 1) && !(q.1 + 1 == i && q.2.category == 2))))) : rc_loc ls' ((L.set i (some v)).set (i + 1) none) := by
  refine ⟨by rw [List.length_set, List.length_set]; exact h'.1, h'.2.1, fun j w hj => ?_⟩
  by_cases hj1 : j = i + 1
  · subst hj1
    rw [List.getElem?_set_self (by rw [List.length_set]; exact hi)] at hj
    cases hj
  · rw [List.getElem?_set_ne (Ne.symm hj1)] at hj
    by_cases hji : j = i
    · subst hji
      rw [List.getElem?_set_self (by omega)] at hj
      cases hj
      exact h'.2.2 (j, rc_val v) List.mem_cons_self
    · rw [List.getElem?_set_ne (Ne.symm hji)] at hj
      refine h'.2.2 (j, rc_val w) (List.mem_cons_of_mem _ (List.mem_filter.mpr ⟨(rc_prs_mem L 0 _).mpr ⟨j, w, hj, by simp⟩, ?_⟩))
      have h1 : (j == i) = false := by simpa using hji
      have h3 : (j == i + 1) = false := by simpa using hj1
      have h2 : (j + 1 == i && (rc_val w).category == 2) = false := by
        by_cases hk : j + 1 = i
        · subst hk
          simp only [rc_c1, hj] at hc
          rw [rc_cat1_ok hc]; simp
        · have : (j + 1 == i) = false := by simpa using hk
          rw [this]; rfl
      simp [h1, h2, h3]
theorem rc_dstore (hC : rc_C Y cc own ret nL) {i : Nat} {x : UInt64} {L' : List (Option rc_V)} (d : decode cc pc = .ok (.dstore i, 2)) (hn : i + 1 < L.length) (hc : rc_c1 L i = true) (hl : (L.set i (some (rc_d x))).set (i + 1) none = L') (kk : rc_Z Y S (pc + 2) L' st) : rc_Z Y S pc L (rc_d x :: st) := by
  intro H locs ls hR hS hL hB
  subst hl
  exact lv_dstore hC.1 hC.2.1 d hL.has hn rfl (fun ls' h' => kk H locs ls' hR hS (rc_loc.st2 (v := rc_d x) hn hc h') hB)
end RAD
