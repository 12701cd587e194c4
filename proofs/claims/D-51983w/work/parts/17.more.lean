set_option maxRecDepth 100000
/-! ROWS: fuel, System.arraycopy, clone, getClass, the model's numbers, the model's contracts -/
def rc_takes (S : rc_S) (f : Nat → Option Nat) (i : Nat) : Bool := match f i with
  | none => true
  | some y => match S.1 y with
    | some (.inr _) => true
    | _ => false
def rc_acopyF (S : rc_S) (t : Nat) (x y : vp_A) (sp dp n : Nat) : Option vp_A := match x.2, y.2 with
  | .inl f, .inl g => if t < 4 ∧ (List.range n).all (fun i => fits (rc_ty t) (.int (f (sp + i)))) = true then some (y.1, .inl (va_cpy f g sp dp n)) else none
  | .inr (.inr (.inr (.inr f))), .inr (.inr (.inr (.inr g))) => if t = 4 ∧ (List.range n).all (fun i => rc_takes S f (sp + i)) = true then some (y.1, .inr (.inr (.inr (.inr (va_cpy f g sp dp n))))) else none
  | _, _ => none
def rc_acopy (t : Nat) (src : Option Nat) (sp : Int32) (dst : Option Nat) (dp n : Int32) : rc_M Unit := rc_wr fun S => match rc_arr S t src with
  | none => none
  | some x => match rc_arrW S t dst with
    | none => none
    | some (a, y) => if 0 ≤ sp ∧ 0 ≤ dp ∧ 0 ≤ n ∧ sp.toNatClampNeg + n.toNatClampNeg ≤ x.1 ∧ dp.toNatClampNeg + n.toNatClampNeg ≤ y.1 then (match rc_acopyF S t x y sp.toNatClampNeg dp.toNatClampNeg n.toNatClampNeg with
      | none => none
      | some z => some (va_up S.1 a (some (.inl (t, z))))) else none
/-- a byte array, cloned -/
def rc_clone (v : Option Nat) : rc_M (Option Nat) := rc_al fun S => match rc_arrW S 2 v with
  | none => none
  | some (_, x) => match x.2 with
    | .inl f => if (List.range x.1).all (fun i => fits .byte (.int (f i))) = true then some (.inl (2, x), x.1) else none
    | _ => none
def rc_mir : rc_M (Option Nat) := rc_read fun S => some (some (rc_kt (rc_k S) 1000))
/-- getClass of an Object[] -/
def rc_getC (v : Option Nat) : rc_M (Option Nat) := rc_read fun S => match rc_arrW S 4 v with
  | none => none
  | some _ => some (some (rc_kt (rc_k S) 1000))
theorem rc_nn32 {z : Int32} (hz : ¬ z < 0) : z.toInt = (z.toNatClampNeg : Int) := by
  have hz0 : (0 : Int) ≤ z.toInt := by
    have := Int32.not_lt.mp hz
    simpa using Int32.le_iff_toInt_le.mp this
  show z.toInt = ((z.toInt.toNat : Nat) : Int)
  omega
theorem rc_copied {t : Nat} {S : rc_S} {cs : Cell} {x y z : vp_A} {sp dp n : Int32} {cA : ClassId} (hs : ∀ j, j < x.1 → cs.slots[j]? = some (rc_el x j)) (h : sp.toNatClampNeg + n.toNatClampNeg ≤ x.1) (hz : rc_acopyF S t x y sp.toNatClampNeg dp.toNatClampNeg n.toNatClampNeg = some z) : copied cs (vp_cell cA y) sp dp n = vp_cell cA z ∧ z.1 = y.1 := by
  obtain ⟨n0, f | f | f | f | f⟩ := x <;> obtain ⟨n1, g | g | g | g | g⟩ := y <;> simp only [rc_acopyF] at hz <;> (try cases hz)
  · split at hz
    · cases hz
      exact ⟨va_copiedX (fun z => .int z) cs cA f g hs h, rfl⟩
    · cases hz
  · split at hz
    · cases hz
      exact ⟨va_copiedX (fun z => va_rf z) cs cA f g hs h, rfl⟩
    · cases hz
theorem rc_acopy_takes {t : Nat} {S : rc_S} {x y z : vp_A} {sp dp n i : Nat} (hi : i < n) (hz : rc_acopyF S t x y sp dp n = some z) : (t < 4 ∧ ∃ w, rc_el x (sp + i) = .int w ∧ fits (rc_ty t) (.int w) = true) ∨ (t = 4 ∧ (rc_el x (sp + i) = .null ∨ ∃ (q : Nat) (o : Nat × List rc_V), rc_el x (sp + i) = .ref q ∧ S.1 q = some (.inr o))) := by
  obtain ⟨n0, f | f | f | f | f⟩ := x <;> obtain ⟨n1, g | g | g | g | g⟩ := y <;> simp only [rc_acopyF] at hz <;> (try cases hz)
  · split at hz
    · rename_i hc
      exact Or.inl ⟨hc.1, f (sp + i), rfl, List.all_eq_true.mp hc.2 i (List.mem_range.mpr hi)⟩
    · cases hz
  · split at hz
    · rename_i hc
      have h1 := List.all_eq_true.mp hc.2 i (List.mem_range.mpr hi)
      refine Or.inr ⟨hc.1, ?_⟩
      show va_rf (f (sp + i)) = .null ∨ _
      simp only [rc_takes] at h1
      cases hf : f (sp + i) with
      | none => exact Or.inl rfl
      | some q =>
        rw [hf] at h1
        dsimp only at h1
        split at h1
        · rename_i o ho
          exact Or.inr ⟨q, o, congrArg va_rf hf, ho⟩
        · cases h1
    · cases hz
section RCA
variable {Y : rc_Y} {cc : ByteArray} {own : String} {ret : Option FieldType} {nL : Nat} {S : rc_S} {pc : Nat} {L : List (Option rc_V)} {st : List rc_V} {α β : Type} {tv : α → Option rc_V} {tv' : β → Option rc_V}
theorem rc_r_fuel {f : Nat → rc_M α} (h : rc_Go Y tv (rc_bind rc_fuel f) S) (kk : ∀ n, rc_Go Y tv (f n) S → rc_Z Y S pc L st) : rc_Z Y S pc L st := by
  obtain ⟨x, hx, h9⟩ := h.read
  exact kk x h9
theorem rc_r_acopy (hC : rc_C Y cc own ret nL) {idx t : Nat} (hl : Cond.methodLink own idx arraycopyName ∈ lw_all) (hn1 : Cond.native arraycopyName ∈ lw_all) (hn2 : Cond.static arraycopyName ∈ lw_all) (hn3 : Cond.initialized "java/lang/System" ∈ lw_all) (hfr : 1 ≤ yr_fr Y) (hlo : 40 ≤ yr_lo Y) (hnL : nL = L.length) (hst : rc_wst st = true) (hsl : st.length ≤ 8) (d : decode cc pc = .ok (.invokestatic idx, 3)) {src dst : Option Nat} {sp dp n : Int32} {f : Unit → rc_M α} (h : rc_Go Y tv (rc_bind (rc_acopy t src sp dst dp n) f) S) (kk : ∀ S1, rc_Go Y tv (f ()) S1 → rc_Z Y S1 (pc + 3) L st) : rc_Z Y S pc L (rc_i n :: rc_i dp :: rc_q dst :: rc_i sp :: rc_q src :: st) := by
  intro H locs ls hR hS hL hB
  have hsum := rc_sum hst hsl
  have hk := h.le.2.2
  obtain ⟨h1, hx, h9⟩ := h.wr
  split at hx
  · cases hx
  · rename_i x ho
    split at hx
    · cases hx
    · rename_i a y hod
      split at hx
      · rename_i hc
        obtain ⟨c1, c2, c3, c4, c5⟩ := hc
        split at hx
        · cases hx
        · rename_i z hz
          cases hx
          obtain ⟨rfl, hs⟩ := rc_arrW_some hod
          dsimp only at hs
          obtain ⟨a0, cs, rfl, g0, g1, g2, g3, g4, g5, g6⟩ := rc_rda hC.2.2.2.2.2.2.2.1 hk hR hS ho
          obtain ⟨⟨q1, q2⟩, q3⟩ := hR.2.1 a _ hs
          dsimp only at q1 q2
          obtain ⟨hx0, hb, hml, hown, hts, -, -, hE, -⟩ := hC
          have d1 := Int32.not_lt.mpr c1
          have d2 := Int32.not_lt.mpr c2
          have d3 := Int32.not_lt.mpr c3
          obtain ⟨hs6, k0, hk0, cm0, hkk0⟩ := g2
          have hKt := (hE.1.2 _ _ (rc_tys_get (D := yr_D Y) q1))
          obtain ⟨-, k1, hk1, cm1, hkk1⟩ := hKt.1 y.1 (rc_el y)
          have e1 := (rc_copied (cA := (yr_D Y).2 t) g6 c4 hz).1
          have hvm : (vp_cell ((yr_D Y).2 t) y).vm = .none := by rw [rc_cellV]; rfl
          have hcls : (vp_cell ((yr_D Y).2 t) y).cls = (yr_D Y).2 t := by rw [rc_cellV]; rfl
          have hsz : (vp_cell ((yr_D Y).2 t) y).slots.size = y.1 := by rw [rc_cellV, arrV_size]
          intro T hT X
          obtain ⟨vm', X', step⟩ := X.arraycopy hx0 hown (hts _ hl) (hts _ hn1) (hts _ hn2) (hts _ hn3) (src := a0) (dst := a) (cs := cs) (cd := vp_cell ((yr_D Y).2 t) y) (srcPos := sp) (destPos := dp) (n := n) (by rw [hT]; exact g1) (by rw [hT]; exact q2)
            hs6 (fun _ h => by rw [hvm] at h; cases h) g3 (fun h => by rw [hvm] at h; cases h) hk0 (by rw [hcls]; exact hk1) hkk0 hkk1 (by simp) d1 d2 d3
            (by rw [rc_nn32 d1, rc_nn32 d3]; omega)
            (by rw [rc_nn32 d2, rc_nn32 d3, hsz]; omega)
            (fun vm₁ hal i hi => by
              have e : cs.slots.getD (sp.toNatClampNeg + i) .null = rc_el x (sp.toNatClampNeg + i) := by
                rw [Array.getD_eq_getD_getElem?, g6 _ (by omega)]
                rfl
              rw [e]
              rcases rc_acopy_takes hi hz with ⟨-, w, e2, hw⟩ | ⟨rfl, e2 | ⟨q, o, e2, hso⟩⟩
              · rw [e2]
                exact ⟨hw, trivial⟩
              · rw [e2]
                exact ⟨rfl, trivial⟩
              · rw [e2]
                obtain ⟨r, b1, cellV, b2, b3, b4, b5⟩ := (hR.2.1 q _ hso).1.1
                obtain ⟨-, hfc, kC, hkC, hkind⟩ := hE.1.1 _ _ b1
                obtain ⟨c0, t0, f1, f2, f3⟩ := Cond.castable_spec (va_Nw.use (A := yr_a Y) rfl (hE.2.2.1 _ (rc_cob _ _ b1)))
                cases hfc.symm.trans f1
                obtain ⟨kA, comp, r1, r2, r3, -⟩ := hKt.2
                cases hk1.symm.trans r1
                cases hkk1.symm.trans r2
                cases (show (yr_s Y).vm.findClass "java/lang/Object" = some _ from r3).symm.trans f2
                obtain ⟨kE, hkE, -⟩ := Vm.findClass_spec r3
                obtain ⟨kC', hkC', -⟩ := hal.2.2 _ _ hkC
                obtain ⟨kE', hkE', -⟩ := hal.2.2 _ _ hkE
                refine ⟨rfl, cellV, (show T.heap[q]? = some cellV by rw [hT]; exact b2), (fun q h => by rw [b4] at h; cases h), ⟨kC', by rw [b3]; exact hkC'⟩, ⟨kE', hkE'⟩, ?_⟩
                show vm₁.assignable _ _ = true
                rw [hal.assignable, b3]
                exact f3)
            (g := F0 (yr_m Y) pc ls (.int n :: .int dp :: .ref a :: .int sp :: .ref a0 :: st.map rc_val)) rfl (by rw [hml, hnL]; exact hL.1) (rest := st.map rc_val) rfl (by rw [hb]; exact d) hfr (by
              show 2 * 0 + ((st.map rc_val).map fun v => v.category).sum + (nativeFrameWords "java/lang/System" "arraycopy" 5 + 11) ≤ yr_lo Y
              have e3 : nativeFrameWords "java/lang/System" "arraycopy" 5 = 7 := by decide +kernel
              rw [e3]
              omega)
          rw [e1] at X' step
          have hl9 : a < H.size := (Array.getElem?_eq_some_iff.mp q2).1
          have hheap : ((T.setVm vm').setCell a (vp_cell ((yr_D Y).2 t) z)).heap = H.setIfInBounds a (vp_cell ((yr_D Y).2 t) z) := by rw [← hT]; rfl
          have oq : ∀ q : Nat, q ≠ a → (H.setIfInBounds a (vp_cell ((yr_D Y).2 t) z))[q]? = H[q]? := fun q hq => by simp [Array.getElem?_setIfInBounds, Ne.symm hq]
          have hat : rc_at (yr_D Y) a (.inl (t, z)) (H.setIfInBounds a (vp_cell ((yr_D Y).2 t) z)) := ⟨q1, by simp [Array.getElem?_setIfInBounds, hl9]⟩
          obtain ⟨t2, a1, b1⟩ := kk _ h9 _ _ ls (hR.set hs hat (by simp) oq) ⟨by simp; exact hS.1, fun q g1 g2 => by
              rw [oq q (fun e => g2 (by rw [e, hk]; exact q3))]
              exact hS.2.1 q g1 g2, fun q hq => by
              rcases List.mem_append.mp hq with h | h
              · exact hS.2.2 q h
              · obtain ⟨z, -, hz⟩ := List.mem_map.mp h
                rw [← hz, hk]
                exact q3⟩ hL hB _ hheap X'
          exact ⟨t2, step t2 a1, b1⟩
      · cases hx
theorem rc_r_clone (hC : rc_C Y cc own ret nL) {idx : Nat} (hl : Cond.methodLink own idx ⟨"[B", "clone", "()Ljava/lang/Object;"⟩ ∈ lw_all) (hfr : 1 ≤ yr_fr Y) (hlo : 40 ≤ yr_lo Y) (hnL : nL = L.length) (hst : rc_wst st = true) (hsl : st.length ≤ 8) (d : decode cc pc = .ok (.invokevirtual idx, 3)) {v : Option Nat} {f : Option Nat → rc_M α} (h : rc_Go Y tv (rc_bind (rc_clone v) f) S) (kk : ∀ q S1, rc_Go Y tv (f q) S1 → rc_Z Y S1 (pc + 3) L (rc_q q :: st)) : rc_Z Y S pc L (rc_q v :: st) := by
  intro H locs ls hR hS hL hB
  have hsum := rc_sum hst hsl
  have hk := h.le.2.2
  obtain ⟨e, k, hx, h9⟩ := h.al
  split at hx
  · cases hx
  · rename_i a x ho
    split at hx
    · rename_i g hg
      split at hx
      · rename_i hfx
        cases hx
        obtain ⟨rfl, hs⟩ := rc_arrW_some ho
        dsimp only at hs
        obtain ⟨⟨q1, q2⟩, q3⟩ := hR.2.1 a _ hs
        dsimp only at q1 q2
        obtain ⟨hx0, hb, hml, hown, hts, -, -, hE, hw, -⟩ := hC
        have hKt := (hE.1.2 _ _ (rc_tys_get (D := yr_D Y) (t := 2) (by decide)))
        have hnm : (yr_s Y).vm.findClass "[B" = some ((yr_D Y).2 2) := hKt.2
        obtain ⟨g1, g2, -⟩ := h9.le
        have c1 := rc_cnt hB.1 g1
        have c2 := rc_cnt hB.2.1 g2
        generalize hcA : (yr_D Y).2 2 = cA at q2 hnm hKt
        have hvm0 : (vp_cell cA x).vm = .none := by rw [rc_cellV]; rfl
        have hcl0 : (vp_cell cA x).cls = cA := by rw [rc_cellV]; rfl
        have hsz : (vp_cell cA x).slots.size = x.1 := by rw [rc_cellV, arrV_size]
        have hcellE : ({ cls := (vp_cell cA x).cls, slots := (vp_cell cA x).slots } : Cell) = vp_cell cA x := by
          rw [rc_cellV]; rfl
        obtain ⟨c0, t0', f1, f2, f3⟩ := Cond.castable_spec (va_Nw.use (A := yr_a Y) rfl (hE.2.2.1 _ (lw_o q463 rfl)))
        cases hnm.symm.trans f1
        intro T hT X
        have hcellT : T.heap[a]? = some (vp_cell cA x) := by rw [hT]; exact q2
        obtain ⟨-, kA, hkA, comp, hkind⟩ := State.isArrayOf_alike X.warmed.alike (hKt.1 0 (fun _ => .null))
        obtain ⟨-, kS, hkS, compS, hkindS⟩ := hKt.1 0 (fun _ => .null)
        obtain ⟨vm', X', st9⟩ := X.cloneArray hx0 hown (hts _ hl) (hts _ q459) (hts _ q460) (hts _ q461) (hts _ q462) (a := a) (cell := vp_cell cA x) hcellT (fun k h => by rw [hvm0] at h; cases h) (by rw [hvm0]; exact fun h => by cases h) (by rw [hcl0]; exact hnm) f2 (by rw [hcl0]; exact f3)
          (fun i v hv => by
            rw [hcl0]
            have hk' : T.vm.classes[cA]? = some kA := hkA
            have hfit : fits .byte v = true := by
              rw [rc_cellV] at hv
              refine va_fit (n := x.1) (F := rc_el x) (fun i hi => ?_) i v hv
              have h1 := List.all_eq_true.mp hfx i (List.mem_range.mpr hi)
              obtain ⟨n0, y⟩ := x
              dsimp only at hg
              subst hg
              exact h1
            simpa [State.fitsSlot, State.slotType?, hk', hkind, rc_ty] using hfit)
          (g := F0 (yr_m Y) pc ls (.ref a :: st.map rc_val)) rfl (by rw [hml, hnL]; exact hL.1) rfl (by rw [hb]; exact d) hfr (by show 2 * 0 + ((st.map rc_val).map fun v => v.category).sum + 14 ≤ yr_lo Y; omega) c1.1 (by rw [hsz]; exact c2.1) (hloader := by rw [hcl0]; exact Vm.clonesLoader_of_array hkS hkindS)
        rw [hcellE, hsz] at X'
        generalize hH1 : H.push (vp_cell cA x) = H1
        have z1 : H1.size = H.size + 1 := by rw [← hH1, Array.size_push]
        have e1 : H1[H.size]? = some (vp_cell cA x) := by rw [← hH1, Array.getElem?_push_size]
        have o1 : ∀ q : Nat, q < H.size → H1[q]? = H[q]? := fun q hq => by rw [← hH1, Array.getElem?_push, if_neg (Nat.ne_of_lt hq)]
        have hat : rc_at (yr_D Y) (rc_n S) (.inl (2, x)) H1 := ⟨show 2 < 5 by decide, by rw [← hR.1, e1, ← hcA]⟩
        rw [c1.2, c2.2] at X'
        obtain ⟨t2, b1, b2⟩ := kk _ _ h9 H1 locs ls (rc_Rp.new hR (fun q hq => by rw [← hk]; exact hw q (Nat.le_trans hS.1 (by rw [hR.1]; exact hq))) hat z1 o1) ⟨Nat.le_trans hS.1 (by omega), fun x h1 h2 => (o1 x (Nat.lt_of_lt_of_le h1 hS.1)).trans (hS.2.1 x h1 h2), hS.2.2⟩ hL ⟨Nat.le_trans hB.1 (Nat.le_succ _), Nat.le_trans hB.2.1 (Nat.le_add_right _ _), hB.2.2⟩ _ (by rw [← hH1, ← hT]; rfl) X'
        refine ⟨t2, st9 t2 ?_, b2⟩
        have hz9 : T.heap.size = S.2.1 := by rw [hT]; exact hR.1
        rw [hcellE, hz9]
        exact b1
      · cases hx
    · cases hx
theorem rc_r_mir (hC : rc_C Y cc own ret nL) {idx : Nat} (hq : Cond.classLink own idx "[Ljava/lang/Object;" ∈ lw_all) (d : decode cc pc = .ok (.ldc idx, 2)) {f : Option Nat → rc_M α} (h : rc_Go Y tv (rc_bind rc_mir f) S) (kk : ∀ x, rc_Go Y tv (f x) S → rc_Z Y S (pc + 2) L (rc_q x :: st)) : rc_Z Y S pc L st := by
  intro H locs ls hR hS hL hB
  have hk := h.le.2.2
  obtain ⟨x, hx, h9⟩ := h.read
  cases hx
  have hM := hC.2.2.2.2.2.2.2.1.2.2.2.2.2.2.2.2.2.1
  rw [hk] at hM
  exact va_ldcM hC.1 hC.2.1 hC.2.2.2.1 (hC.2.2.2.2.1 _ hq) hM d (kk _ h9 H locs ls hR hS hL hB)
theorem rc_r_getC (hC : rc_C Y cc own ret nL) {idx : Nat} (hl : Cond.methodLink own idx ⟨"java/lang/Object", "getClass", "()Ljava/lang/Class;"⟩ ∈ lw_all) (hfr : 1 ≤ yr_fr Y) (hlo : 40 ≤ yr_lo Y) (hnL : nL = L.length) (hst : rc_wst st = true) (hsl : st.length ≤ 8) (d : decode cc pc = .ok (.invokevirtual idx, 3)) {v : Option Nat} {f : Option Nat → rc_M α} (h : rc_Go Y tv (rc_bind (rc_getC v) f) S) (kk : ∀ x, rc_Go Y tv (f x) S → rc_Z Y S (pc + 3) L (rc_q x :: st)) : rc_Z Y S pc L (rc_q v :: st) := by
  intro H locs ls hR hS hL hB
  have hsum := rc_sum hst hsl
  have hk := h.le.2.2
  obtain ⟨x, hx, h9⟩ := h.read
  split at hx
  · cases hx
  · rename_i y ho
    cases hx
    obtain ⟨rfl, hs⟩ := rc_arrW_some ho
    obtain ⟨q1, q2⟩ := (hR.2.1 _ _ hs).1
    have hM := hC.2.2.2.2.2.2.2.1.2.2.2.2.2.2.2.2.2.1
    rw [hk] at hM
    have hts := hC.2.2.2.2.1
    obtain ⟨kA, comp, r1, r2, r3, r4⟩ := (hC.2.2.2.2.2.2.2.1.1.2 _ _ (rc_tys_get (D := yr_D Y) (t := 4) (by decide))).2
    refine va_getC (C := "[Ljava/lang/Object;") hC.1 hC.2.1 (by rw [hC.2.2.1, hnL]; exact hL.1.symm) hC.2.2.2.1 (hts _ hl) (va_Nw.use (w := .declares _) rfl (hC.2.2.2.2.2.2.2.1.2.2.1 _ (lw_o q2744 rfl))) (hts _ q2743) (hts _ q872) (hts _ q896) hM ⟨_, q2, ?_, ?_⟩ hfr (by show ((st.map rc_val).map fun v => v.category).sum + 14 ≤ yr_lo Y; omega) d (kk _ h9 H locs ls hR hS hL hB)
    · rw [rc_cellV]; rfl
    · rw [rc_cellV]; exact r4
end RCA
