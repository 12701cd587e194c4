set_option maxRecDepth 100000
/-! ROWS: instructions that touch no cell -/
/-- what holds of a body's run: machine, code, locals, own class, words, answer's type, what rc_Env says -/
def rc_C (Y : rc_Y) (cc : ByteArray) (own : String) (ret : Option FieldType) (nL : Nat) : Prop :=
  (yr_p Y).tables.exec = Jvm.exec ∧ (yr_c Y).code = cc ∧ (yr_c Y).maxLocals = nL ∧ (yr_s Y).vm.findClass own = some (yr_m Y).cls ∧ (∀ w ∈ lw_all, w.before (yr_a Y) (yr_s Y) = true) ∧ (yr_t Y).sig.returnType = ret ∧ (yr_t Y).locks = false ∧
  rc_Env (yr_D Y) (yr_K Y) (yr_s Y) (yr_s Y).heap ∧ (∀ q, (yr_s Y).heap.size ≤ q → rc_kw (yr_K Y) q) ∧ (yr_s Y).heap.size = (yr_B Y).1
section RCG
variable {α β : Type} {Y : rc_Y} {tv : α → Option rc_V} {S : rc_S}
theorem rc_Go.le {x : rc_M α} (h : rc_Go Y tv x S) : rc_n S ≤ rc_n (yr_T Y).2 ∧ rc_s S ≤ rc_s (yr_T Y).2 ∧ yr_K Y = rc_k S := by
  obtain ⟨⟨r, S1⟩, h1, h2⟩ := h
  have h3 := x.2 S _ h1
  have h4 : (yr_T Y).2 = S1 := by rw [← h2]; cases r <;> rfl
  rw [yr_K, h4]
  exact ⟨h3.1, h3.2.1, h3.2.2.1⟩
theorem rc_Go.bind {x : rc_M β} {f : β → rc_M α} (h : rc_Go Y tv (rc_bind x f) S) : (∃ v S1, x.1 S = some (.inl v, S1) ∧ rc_Go Y tv (f v) S1) ∨ (∃ e S1, x.1 S = some (.inr e, S1) ∧ yr_T Y = (.inr e, S1)) := by
  obtain ⟨T, h1, h2⟩ := h
  have h1 : rc_bindF x f S = some T := h1
  unfold rc_bindF at h1
  split at h1
  · cases h1
  · rename_i e S1 hx
    cases h1
    exact Or.inr ⟨e, S1, hx, h2.symm⟩
  · rename_i v S1 hx
    exact Or.inl ⟨v, S1, hx, T, h1, h2⟩
theorem rc_Go.read {g : rc_S → Option β} {f : β → rc_M α} (h : rc_Go Y tv (rc_bind (rc_read g) f) S) : ∃ v, g S = some v ∧ rc_Go Y tv (f v) S := by
  rcases h.bind with ⟨v, S1, hx, h⟩ | ⟨e, S1, hx, h⟩
  · have hx : (match g S with | none => none | some v => some (.inl v, S) : Option ((β ⊕ (Nat × Nat)) × rc_S)) = some (.inl v, S1) := hx
    split at hx
    · cases hx
    · rename_i v' hv
      cases hx
      exact ⟨_, hv, h⟩
  · have hx : (match g S with | none => none | some v => some (.inl v, S) : Option ((β ⊕ (Nat × Nat)) × rc_S)) = some (.inr e, S1) := hx
    split at hx <;> cases hx
theorem rc_Go.wr {g : rc_S → Option (Nat → Option rc_E)} {f : Unit → rc_M α} (h : rc_Go Y tv (rc_bind (rc_wr g) f) S) : ∃ h1, g S = some h1 ∧ rc_Go Y tv (f ()) (h1, S.2) := by
  rcases h.bind with ⟨v, S1, hx, h⟩ | ⟨e, S1, hx, h⟩
  · have hx : (match g S with | none => none | some h => some (.inl (), (h, S.2)) : Option ((Unit ⊕ (Nat × Nat)) × rc_S)) = some (.inl v, S1) := hx
    split at hx
    · cases hx
    · rename_i v' hv
      cases hx
      exact ⟨_, hv, h⟩
  · have hx : (match g S with | none => none | some h => some (.inl (), (h, S.2)) : Option ((Unit ⊕ (Nat × Nat)) × rc_S)) = some (.inr e, S1) := hx
    split at hx <;> cases hx
theorem rc_Go.sg {g : rc_S → Option (Nat → Nat → Int32)} {f : Unit → rc_M α} (h : rc_Go Y tv (rc_bind (rc_sg g) f) S) : ∃ h1, g S = some h1 ∧ rc_Go Y tv (f ()) (S.1, S.2.1, S.2.2.1, S.2.2.2.1, h1, S.2.2.2.2.2) := by
  rcases h.bind with ⟨v, S1, hx, h⟩ | ⟨e, S1, hx, h⟩
  · have hx : (match g S with | none => none | some h => some (.inl (), (S.1, S.2.1, S.2.2.1, S.2.2.2.1, h, S.2.2.2.2.2)) : Option ((Unit ⊕ (Nat × Nat)) × rc_S)) = some (.inl v, S1) := hx
    split at hx
    · cases hx
    · rename_i v' hv
      cases hx
      exact ⟨_, hv, h⟩
  · have hx : (match g S with | none => none | some h => some (.inl (), (S.1, S.2.1, S.2.2.1, S.2.2.2.1, h, S.2.2.2.2.2)) : Option ((Unit ⊕ (Nat × Nat)) × rc_S)) = some (.inr e, S1) := hx
    split at hx <;> cases hx
theorem rc_Go.al {g : rc_S → Option (rc_E × Nat)} {f : Option Nat → rc_M α} (h : rc_Go Y tv (rc_bind (rc_al g) f) S) : ∃ e k, g S = some (e, k) ∧ rc_Go Y tv (f (some S.2.1)) (va_up S.1 S.2.1 (some e), S.2.1 + 1, S.2.2.1 + k, S.2.2.2) := by
  rcases h.bind with ⟨v, S1, hx, h⟩ | ⟨e, S1, hx, h⟩
  · have hx : (match g S with | none => none | some (e, k) => some (.inl (some S.2.1), (va_up S.1 S.2.1 (some e), S.2.1 + 1, S.2.2.1 + k, S.2.2.2)) : Option ((Option Nat ⊕ (Nat × Nat)) × rc_S)) = some (.inl v, S1) := hx
    split at hx
    · cases hx
    · rename_i e k hv
      cases hx
      exact ⟨e, k, hv, h⟩
  · have hx : (match g S with | none => none | some (e, k) => some (.inl (some S.2.1), (va_up S.1 S.2.1 (some e), S.2.1 + 1, S.2.2.1 + k, S.2.2.2)) : Option ((Option Nat ⊕ (Nat × Nat)) × rc_S)) = some (.inr e, S1) := hx
    split at hx <;> cases hx
theorem rc_Go.pure {v : α} (h : rc_Go Y tv (rc_pure v) S) : yr_T Y = (.inl (tv v), S) := by
  obtain ⟨T, h1, h2⟩ := h
  cases h1
  exact h2.symm
theorem rc_Go.fail (h : rc_Go Y tv (rc_fail : rc_M α) S) : False := by
  obtain ⟨T, h1, h2⟩ := h
  cases h1
theorem rc_Go.thr {E : Nat} (h : rc_Go Y tv (rc_thr E : rc_M α) S) : yr_T Y = (.inr (E, S.2.1), (S.1, S.2.1 + 1, S.2.2.1 + 6, S.2.2.2)) := by
  obtain ⟨T, h1, h2⟩ := h
  cases h1
  exact h2.symm
theorem rc_Go.raise {E : Nat} {v : Option Nat} (h : rc_Go Y tv (rc_raise E v : rc_M α) S) : ∃ a, v = some a ∧ yr_T Y = (.inr (E, a), S) := by
  obtain ⟨T, h1, h2⟩ := h
  cases v with
  | none => cases h1
  | some a => cases h1; exact ⟨a, rfl, h2.symm⟩
theorem rc_Go.ite {c : Prop} [Decidable c] {A B : rc_M α} (h : rc_Go Y tv (if c then A else B) S) : (c ∧ rc_Go Y tv A S) ∨ (¬ c ∧ rc_Go Y tv B S) := by
  by_cases hc : c
  · rw [if_pos hc] at h; exact Or.inl ⟨hc, h⟩
  · rw [if_neg hc] at h; exact Or.inr ⟨hc, h⟩
end RCG
/-! locals -/
def rc_cat1 (v : rc_V) : Bool := match v with
  | .inl _ => true
  | .inr (.inr (.inl _)) => true
  | _ => false
theorem rc_cat1_ok {v : rc_V} (h : rc_cat1 v = true) : (rc_val v).category = 1 := by
  rcases v with (x | r) | (x | (x | x))
  · rfl
  · cases r <;> rfl
  · simp [rc_cat1] at h
  · rfl
  · simp [rc_cat1] at h
def rc_c1 (L : List (Option rc_V)) (i : Nat) : Bool := match i with
  | 0 => true
  | j + 1 => match L[j]? with
    | some (some v) => rc_cat1 v
    | _ => true
def rc_prs (L : List (Option rc_V)) (i : Nat) : List (Nat × Value) := match L with
  | [] => []
  | none :: l => rc_prs l (i + 1)
  | some v :: l => (i, rc_val v) :: rc_prs l (i + 1)
theorem rc_prs_mem : ∀ (L : List (Option rc_V)) (i : Nat) (q : Nat × Value), q ∈ rc_prs L i ↔ ∃ (j : Nat) (v : rc_V), L[j]? = some (some v) ∧ q = (i + j, rc_val v)
  | [], i, q => by simp [rc_prs]
  | none :: l, i, q => by
    rw [rc_prs, rc_prs_mem l (i + 1) q]
    constructor
    · rintro ⟨j, v, h1, h2⟩
      exact ⟨j + 1, v, by simpa using h1, by rw [h2]; congr 1; omega⟩
    · rintro ⟨j, v, h1, h2⟩
      cases j with
      | zero => simp at h1
      | succ j => exact ⟨j, v, by simpa using h1, by rw [h2]; congr 1; omega⟩
  | some w :: l, i, q => by
    rw [rc_prs, List.mem_cons, rc_prs_mem l (i + 1) q]
    constructor
    · rintro (h | ⟨j, v, h1, h2⟩)
      · exact ⟨0, w, rfl, by rw [h]; rfl⟩
      · exact ⟨j + 1, v, by simpa using h1, by rw [h2]; congr 1; omega⟩
    · rintro ⟨j, v, h1, h2⟩
      cases j with
      | zero =>
        simp at h1
        subst h1
        exact Or.inl h2
      | succ j => exact Or.inr ⟨j, v, by simpa using h1, by rw [h2]; congr 1; omega⟩
theorem rc_loc.has {ls : Array Slot} {L : List (Option rc_V)} (h : rc_loc ls L) : lv_has ls L.length (rc_prs L 0) := by
  refine ⟨h.1, h.2.1, fun q hq => ?_⟩
  obtain ⟨j, v, h1, rfl⟩ := (rc_prs_mem L 0 q).mp hq
  simpa using h.2.2 j v h1
theorem rc_loc.st {ls' : Array Slot} {L : List (Option rc_V)} {i : Nat} {v : rc_V} (hi : i < L.length) (hc : rc_c1 L i = true) (h' : lv_has ls' L.length ((i, rc_val v) :: (rc_prs L 0).filter (fun q => !(q.1 == i) && !(q.1 + 1 == i && q.2.category == 2)))) : rc_loc ls' (L.set i (some v)) := by
  refine ⟨by rw [List.length_set]; exact h'.1, h'.2.1, fun j w hj => ?_⟩
  by_cases hji : j = i
  · subst hji
    rw [List.getElem?_set_self hi] at hj
    cases hj
    exact h'.2.2 (j, rc_val v) List.mem_cons_self
  · rw [List.getElem?_set_ne (Ne.symm hji)] at hj
    refine h'.2.2 (j, rc_val w) (List.mem_cons_of_mem _ (List.mem_filter.mpr ⟨(rc_prs_mem L 0 _).mpr ⟨j, w, hj, by simp⟩, ?_⟩))
    have h1 : (j == i) = false := by simpa using hji
    have h2 : (j + 1 == i && (rc_val w).category == 2) = false := by
      by_cases hk : j + 1 = i
      · subst hk
        simp only [rc_c1, hj] at hc
        rw [rc_cat1_ok hc]; simp
      · have : (j + 1 == i) = false := by simpa using hk
        rw [this]; rfl
    simp [h1, h2]
def rc_mask (ks : List Bool) (L : List (Option rc_V)) : List (Option rc_V) := match ks, L with
  | k :: ks, v :: L => (if k then v else none) :: rc_mask ks L
  | _, L => L
theorem rc_mask_len : ∀ (ks : List Bool) (L : List (Option rc_V)), (rc_mask ks L).length = L.length
  | [], [] => rfl
  | [], _ :: _ => rfl
  | _ :: _, [] => rfl
  | _ :: ks, _ :: L => by simp [rc_mask, rc_mask_len ks L]
theorem rc_mask_get : ∀ (ks : List Bool) (L : List (Option rc_V)) (i : Nat) (v : rc_V), (rc_mask ks L)[i]? = some (some v) → L[i]? = some (some v)
  | [], [], i, v, h => h
  | [], _ :: _, i, v, h => h
  | _ :: _, [], i, v, h => h
  | k :: ks, w :: L, i, v, h => by
    cases i with
    | zero =>
      cases k
      · simp [rc_mask] at h
      · simpa [rc_mask] using h
    | succ i =>
      simp [rc_mask] at h
      simpa using rc_mask_get ks L i v h
section RCR
variable {Y : rc_Y} {cc : ByteArray} {own : String} {ret : Option FieldType} {nL : Nat} {S : rc_S} {pc : Nat} {L : List (Option rc_V)} {st : List rc_V}
/-- fewer locals are known from here on -/
theorem rc_drop (ks : List Bool) {L' : List (Option rc_V)} (hl : rc_mask ks L = L') (k : rc_Z Y S pc L' st) : rc_Z Y S pc L st := by
  intro H locs ls hR hS hL hB
  subst hl
  exact k H locs ls hR hS ⟨by rw [rc_mask_len]; exact hL.1, hL.2.1, fun i v h => hL.2.2 i v (rc_mask_get ks L i v h)⟩ hB
theorem rc_goto (hC : rc_C Y cc own ret nL) {off : Int} {tgt : Nat} (d : decode cc pc = .ok (.goto off, 3)) (ht : (pc : Int) + off = (tgt : Int)) (k : rc_Z Y S tgt L st) : rc_Z Y S pc L st := by
  intro H locs ls hR hS hL hB
  exact lv_goto hC.1 hC.2.1 d ht (k H locs ls hR hS hL hB)
theorem rc_null (hC : rc_C Y cc own ret nL) (d : decode cc pc = .ok (.aconst_null, 1)) (k : rc_Z Y S (pc + 1) L (rc_q none :: st)) : rc_Z Y S pc L st := by
  intro H locs ls hR hS hL hB
  exact lv_null hC.1 hC.2.1 d (k H locs ls hR hS hL hB)
theorem rc_ldc (hC : rc_C Y cc own ret nL) {v : Int32} {index : Nat} (hq : Cond.constant own index v ∈ lw_all) (d : decode cc pc = .ok (.ldc index, 2)) (k : rc_Z Y S (pc + 2) L (rc_i v :: st)) : rc_Z Y S pc L st := by
  intro H locs ls hR hS hL hB
  exact lv_ldc hC.1 hC.2.1 hC.2.2.2.1 (hC.2.2.2.2.1 _ hq) d (k H locs ls hR hS hL hB)
theorem rc_ldcw (hC : rc_C Y cc own ret nL) {v : Int32} {index : Nat} (hq : Cond.constant own index v ∈ lw_all) (d : decode cc pc = .ok (.ldc_w index, 3)) (k : rc_Z Y S (pc + 3) L (rc_i v :: st)) : rc_Z Y S pc L st := by
  intro H locs ls hR hS hL hB
  exact lv_ldcw hC.1 hC.2.1 hC.2.2.2.1 (hC.2.2.2.2.1 _ hq) d (k H locs ls hR hS hL hB)

theorem rc_iconst (hC : rc_C Y cc own ret nL) {n : Int} {v : Int32} (d : decode cc pc = .ok (.iconst n, 1)) (hv : Int32.ofInt n = v) (k : rc_Z Y S (pc + 1) L (rc_i v :: st)) : rc_Z Y S pc L st := by
  intro H locs ls hR hS hL hB
  exact lv_iconst hC.1 hC.2.1 d hv (k H locs ls hR hS hL hB)
theorem rc_bipush (hC : rc_C Y cc own ret nL) {n : Int} {v : Int32} (d : decode cc pc = .ok (.bipush n, 2)) (hv : (Int8.ofInt n).toInt32 = v) (k : rc_Z Y S (pc + 2) L (rc_i v :: st)) : rc_Z Y S pc L st := by
  intro H locs ls hR hS hL hB
  exact lv_bipush hC.1 hC.2.1 d hv (k H locs ls hR hS hL hB)
theorem rc_sipush (hC : rc_C Y cc own ret nL) {n : Int} {v : Int32} (d : decode cc pc = .ok (.sipush n, 3)) (hv : (Int16.ofInt n).toInt32 = v) (k : rc_Z Y S (pc + 3) L (rc_i v :: st)) : rc_Z Y S pc L st := by
  intro H locs ls hR hS hL hB
  exact lv_sipush hC.1 hC.2.1 d hv (k H locs ls hR hS hL hB)
theorem rc_lconst (hC : rc_C Y cc own ret nL) {n : Fin 2} {v : Int64} (d : decode cc pc = .ok (.lconst n, 1)) (hv : Int64.ofNat (n : Nat) = v) (k : rc_Z Y S (pc + 1) L (rc_l v :: st)) : rc_Z Y S pc L st := by
  intro H locs ls hR hS hL hB
  exact lv_lconst hC.1 hC.2.1 d hv (k H locs ls hR hS hL hB)
theorem rc_dconst0 (hC : rc_C Y cc own ret nL) (d : decode cc pc = .ok (.dconst 0, 1)) (k : rc_Z Y S (pc + 1) L (rc_d FP.dconst0 :: st)) : rc_Z Y S pc L st := by
  intro H locs ls hR hS hL hB
  exact lv_dconst0 hC.1 hC.2.1 d (k H locs ls hR hS hL hB)
theorem rc_fconst0 (hC : rc_C Y cc own ret nL) (d : decode cc pc = .ok (.fconst 0, 1)) (k : rc_Z Y S (pc + 1) L (rc_f FP.fconst0 :: st)) : rc_Z Y S pc L st := by
  intro H locs ls hR hS hL hB
  exact lv_fconst0 hC.1 hC.2.1 d (k H locs ls hR hS hL hB)
theorem rc_iload_n (hC : rc_C Y cc own ret nL) {k : Fin 4} {i : Nat} {x : Int32} (d : decode cc pc = .ok (.iload_n k, 1)) (hi : (k : Nat) = i) (hl : L[i]? = some (some (rc_i x))) (kk : rc_Z Y S (pc + 1) L (rc_i x :: st)) : rc_Z Y S pc L st := by
  intro H locs ls hR hS hL hB
  exact lv_iload_n hC.1 hC.2.1 d hi (hL.2.2 i _ hl) (kk H locs ls hR hS hL hB)
theorem rc_iload (hC : rc_C Y cc own ret nL) {i : Nat} {x : Int32} (d : decode cc pc = .ok (.iload i, 2)) (hl : L[i]? = some (some (rc_i x))) (kk : rc_Z Y S (pc + 2) L (rc_i x :: st)) : rc_Z Y S pc L st := by
  intro H locs ls hR hS hL hB
  exact lv_iload hC.1 hC.2.1 d (hL.2.2 i _ hl) (kk H locs ls hR hS hL hB)
theorem rc_dload (hC : rc_C Y cc own ret nL) {i : Nat} {x : UInt64} (d : decode cc pc = .ok (.dload i, 2)) (hl : L[i]? = some (some (rc_d x))) (kk : rc_Z Y S (pc + 2) L (rc_d x :: st)) : rc_Z Y S pc L st := by
  intro H locs ls hR hS hL hB
  exact lv_dload hC.1 hC.2.1 d (hL.2.2 i _ hl) (kk H locs ls hR hS hL hB)
theorem rc_aload_n (hC : rc_C Y cc own ret nL) {k : Fin 4} {i : Nat} {x : Option Nat} (d : decode cc pc = .ok (.aload_n k, 1)) (hi : (k : Nat) = i) (hl : L[i]? = some (some (rc_q x))) (kk : rc_Z Y S (pc + 1) L (rc_q x :: st)) : rc_Z Y S pc L st := by
  intro H locs ls hR hS hL hB
  have h1 := hL.2.2 i _ hl
  have h2 := kk H locs ls hR hS hL hB
  cases x with
  | none => exact lv_aload_nN hC.1 hC.2.1 d hi h1 h2
  | some a => exact lv_aload_n hC.1 hC.2.1 d hi h1 h2
theorem rc_aload (hC : rc_C Y cc own ret nL) {i : Nat} {x : Option Nat} (d : decode cc pc = .ok (.aload i, 2)) (hl : L[i]? = some (some (rc_q x))) (kk : rc_Z Y S (pc + 2) L (rc_q x :: st)) : rc_Z Y S pc L st := by
  intro H locs ls hR hS hL hB
  have h1 := hL.2.2 i _ hl
  have h2 := kk H locs ls hR hS hL hB
  cases x with
  | none => exact lv_aloadN hC.1 hC.2.1 d h1 h2
  | some a => exact lv_aload hC.1 hC.2.1 d h1 h2
theorem rc_istore_n (hC : rc_C Y cc own ret nL) {k : Fin 4} {i : Nat} {x : Int32} {L' : List (Option rc_V)} (d : decode cc pc = .ok (.istore_n k, 1)) (hi : (k : Nat) = i) (hn : i < L.length) (hc : rc_c1 L i = true) (hl : L.set i (some (rc_i x)) = L') (kk : rc_Z Y S (pc + 1) L' st) : rc_Z Y S pc L (rc_i x :: st) := by
  intro H locs ls hR hS hL hB
  subst hl
  exact lv_istore_n hC.1 hC.2.1 d hi hL.has hn rfl (fun ls' h' => kk H locs ls' hR hS (rc_loc.st (v := rc_i x) hn hc h') hB)
theorem rc_istore (hC : rc_C Y cc own ret nL) {i : Nat} {x : Int32} {L' : List (Option rc_V)} (d : decode cc pc = .ok (.istore i, 2)) (hn : i < L.length) (hc : rc_c1 L i = true) (hl : L.set i (some (rc_i x)) = L') (kk : rc_Z Y S (pc + 2) L' st) : rc_Z Y S pc L (rc_i x :: st) := by
  intro H locs ls hR hS hL hB
  subst hl
  exact lv_istore hC.1 hC.2.1 d hL.has hn rfl (fun ls' h' => kk H locs ls' hR hS (rc_loc.st (v := rc_i x) hn hc h') hB)
theorem rc_astore_n (hC : rc_C Y cc own ret nL) {k : Fin 4} {i : Nat} {x : Option Nat} {L' : List (Option rc_V)} (d : decode cc pc = .ok (.astore_n k, 1)) (hi : (k : Nat) = i) (hn : i < L.length) (hc : rc_c1 L i = true) (hl : L.set i (some (rc_q x)) = L') (kk : rc_Z Y S (pc + 1) L' st) : rc_Z Y S pc L (rc_q x :: st) := by
  intro H locs ls hR hS hL hB
  subst hl
  cases x with
  | none => exact lv_astore_nN hC.1 hC.2.1 d hi hL.has hn rfl (fun ls' h' => kk H locs ls' hR hS (rc_loc.st (v := rc_q none) hn hc h') hB)
  | some a => exact lv_astore_n hC.1 hC.2.1 d hi hL.has hn rfl (fun ls' h' => kk H locs ls' hR hS (rc_loc.st (v := rc_q (some a)) hn hc h') hB)
theorem rc_astore (hC : rc_C Y cc own ret nL) {i : Nat} {x : Option Nat} {L' : List (Option rc_V)} (d : decode cc pc = .ok (.astore i, 2)) (hn : i < L.length) (hc : rc_c1 L i = true) (hl : L.set i (some (rc_q x)) = L') (kk : rc_Z Y S (pc + 2) L' st) : rc_Z Y S pc L (rc_q x :: st) := by
  intro H locs ls hR hS hL hB
  subst hl
  cases x with
  | none => exact lv_astoreN hC.1 hC.2.1 d hL.has hn rfl (fun ls' h' => kk H locs ls' hR hS (rc_loc.st (v := rc_q none) hn hc h') hB)
  | some a => exact lv_astore hC.1 hC.2.1 d hL.has hn rfl (fun ls' h' => kk H locs ls' hR hS (rc_loc.st (v := rc_q (some a)) hn hc h') hB)
theorem rc_iinc (hC : rc_C Y cc own ret nL) {i : Nat} {n : Int} {x v : Int32} {L' : List (Option rc_V)} (d : decode cc pc = .ok (.iinc i n, 3)) (hk : L[i]? = some (some (rc_i x))) (hv : x + Int32.ofInt n = v) (hc : rc_c1 L i = true) (hl : L.set i (some (rc_i v)) = L') (kk : rc_Z Y S (pc + 3) L' st) : rc_Z Y S pc L st := by
  intro H locs ls hR hS hL hB
  subst hl
  have hn : i < L.length := (List.getElem?_eq_some_iff.mp hk).1
  have hm : (i, Value.int x) ∈ rc_prs L 0 := (rc_prs_mem L 0 _).mpr ⟨i, _, hk, by simp [rc_val]⟩
  obtain ⟨k, hk2⟩ := List.getElem?_of_mem hm
  exact lv_iinc hC.1 hC.2.1 d hL.has hk2 hv hn rfl (fun ls' h' => kk H locs ls' hR hS (rc_loc.st (v := rc_i v) hn hc h') hB)
theorem rc_iadd (hC : rc_C Y cc own ret nL) {x y : Int32} (d : decode cc pc = .ok (.iadd, 1)) (k : rc_Z Y S (pc + 1) L (rc_i (x + y) :: st)) : rc_Z Y S pc L (rc_i y :: rc_i x :: st) := by
  intro H locs ls hR hS hL hB
  exact lv_iadd hC.1 hC.2.1 d (k H locs ls hR hS hL hB)
theorem rc_isub (hC : rc_C Y cc own ret nL) {x y : Int32} (d : decode cc pc = .ok (.isub, 1)) (k : rc_Z Y S (pc + 1) L (rc_i (x - y) :: st)) : rc_Z Y S pc L (rc_i y :: rc_i x :: st) := by
  intro H locs ls hR hS hL hB
  exact lv_isub hC.1 hC.2.1 d (k H locs ls hR hS hL hB)
theorem rc_imul (hC : rc_C Y cc own ret nL) {x y : Int32} (d : decode cc pc = .ok (.imul, 1)) (k : rc_Z Y S (pc + 1) L (rc_i (x * y) :: st)) : rc_Z Y S pc L (rc_i y :: rc_i x :: st) := by
  intro H locs ls hR hS hL hB
  exact lv_imul hC.1 hC.2.1 d (k H locs ls hR hS hL hB)
theorem rc_iand (hC : rc_C Y cc own ret nL) {x y : Int32} (d : decode cc pc = .ok (.iand, 1)) (k : rc_Z Y S (pc + 1) L (rc_i (x &&& y) :: st)) : rc_Z Y S pc L (rc_i y :: rc_i x :: st) := by
  intro H locs ls hR hS hL hB
  exact lv_iand hC.1 hC.2.1 d (k H locs ls hR hS hL hB)
theorem rc_ior (hC : rc_C Y cc own ret nL) {x y : Int32} (d : decode cc pc = .ok (.ior, 1)) (k : rc_Z Y S (pc + 1) L (rc_i (x ||| y) :: st)) : rc_Z Y S pc L (rc_i y :: rc_i x :: st) := by
  intro H locs ls hR hS hL hB
  exact lv_ior hC.1 hC.2.1 d (k H locs ls hR hS hL hB)
theorem rc_ixor (hC : rc_C Y cc own ret nL) {x y : Int32} (d : decode cc pc = .ok (.ixor, 1)) (k : rc_Z Y S (pc + 1) L (rc_i (x ^^^ y) :: st)) : rc_Z Y S pc L (rc_i y :: rc_i x :: st) := by
  intro H locs ls hR hS hL hB
  exact lv_ixor hC.1 hC.2.1 d (k H locs ls hR hS hL hB)
theorem rc_ishl (hC : rc_C Y cc own ret nL) {x y : Int32} (d : decode cc pc = .ok (.ishl, 1)) (k : rc_Z Y S (pc + 1) L (rc_i (x <<< (y &&& 31)) :: st)) : rc_Z Y S pc L (rc_i y :: rc_i x :: st) := by
  intro H locs ls hR hS hL hB
  exact lv_ishl hC.1 hC.2.1 d (k H locs ls hR hS hL hB)
theorem rc_ishr (hC : rc_C Y cc own ret nL) {x y : Int32} (d : decode cc pc = .ok (.ishr, 1)) (k : rc_Z Y S (pc + 1) L (rc_i (x >>> (y &&& 31)) :: st)) : rc_Z Y S pc L (rc_i y :: rc_i x :: st) := by
  intro H locs ls hR hS hL hB
  exact lv_ishr hC.1 hC.2.1 d (k H locs ls hR hS hL hB)
theorem rc_idiv (hC : rc_C Y cc own ret nL) {x y : Int32} (d : decode cc pc = .ok (.idiv, 1)) (hne : ¬ y = 0) (k : rc_Z Y S (pc + 1) L (rc_i (x / y) :: st)) : rc_Z Y S pc L (rc_i y :: rc_i x :: st) := by
  intro H locs ls hR hS hL hB
  exact lv_idiv hC.1 hC.2.1 d hne (k H locs ls hR hS hL hB)
theorem rc_irem (hC : rc_C Y cc own ret nL) {x y : Int32} (d : decode cc pc = .ok (.irem, 1)) (hne : ¬ y = 0) (k : rc_Z Y S (pc + 1) L (rc_i (x - x / y * y) :: st)) : rc_Z Y S pc L (rc_i y :: rc_i x :: st) := by
  intro H locs ls hR hS hL hB
  exact lv_irem hC.1 hC.2.1 d hne (k H locs ls hR hS hL hB)
theorem rc_iushr (hC : rc_C Y cc own ret nL) {x y : Int32} (d : decode cc pc = .ok (.iushr, 1)) (k : rc_Z Y S (pc + 1) L (rc_i ((x.toUInt32 >>> (y.toUInt32 &&& Int32.toUInt32 31)).toInt32) :: st)) : rc_Z Y S pc L (rc_i y :: rc_i x :: st) := by
  intro H locs ls hR hS hL hB
  exact lv_iushr hC.1 hC.2.1 d rfl (k H locs ls hR hS hL hB)
theorem rc_ineg (hC : rc_C Y cc own ret nL) {x : Int32} (d : decode cc pc = .ok (.ineg, 1)) (k : rc_Z Y S (pc + 1) L (rc_i (-x) :: st)) : rc_Z Y S pc L (rc_i x :: st) := by
  intro H locs ls hR hS hL hB
  exact lv_ineg hC.1 hC.2.1 d (k H locs ls hR hS hL hB)
theorem rc_i2b (hC : rc_C Y cc own ret nL) {x : Int32} (d : decode cc pc = .ok (.i2b, 1)) (k : rc_Z Y S (pc + 1) L (rc_i (x.toInt8.toInt32) :: st)) : rc_Z Y S pc L (rc_i x :: st) := by
  intro H locs ls hR hS hL hB
  exact lv_i2b hC.1 hC.2.1 d rfl (k H locs ls hR hS hL hB)
theorem rc_i2c (hC : rc_C Y cc own ret nL) {x : Int32} (d : decode cc pc = .ok (.i2c, 1)) (k : rc_Z Y S (pc + 1) L (rc_i ((x.toUInt32 % 65536).toInt32) :: st)) : rc_Z Y S pc L (rc_i x :: st) := by
  intro H locs ls hR hS hL hB
  exact lv_i2c hC.1 hC.2.1 d rfl (k H locs ls hR hS hL hB)
theorem rc_i2l (hC : rc_C Y cc own ret nL) {x : Int32} (d : decode cc pc = .ok (.i2l, 1)) (k : rc_Z Y S (pc + 1) L (rc_l (x.toInt64) :: st)) : rc_Z Y S pc L (rc_i x :: st) := by
  intro H locs ls hR hS hL hB
  exact lv_i2l hC.1 hC.2.1 d rfl (k H locs ls hR hS hL hB)
theorem rc_i2f (hC : rc_C Y cc own ret nL) {x : Int32} (d : decode cc pc = .ok (.i2f, 1)) (k : rc_Z Y S (pc + 1) L (rc_f (FP.i2f x) :: st)) : rc_Z Y S pc L (rc_i x :: st) := by
  intro H locs ls hR hS hL hB
  exact lv_i2f hC.1 hC.2.1 d (k H locs ls hR hS hL hB)
theorem rc_i2d (hC : rc_C Y cc own ret nL) {x : Int32} (d : decode cc pc = .ok (.i2d, 1)) (k : rc_Z Y S (pc + 1) L (rc_d (FP.i2d x) :: st)) : rc_Z Y S pc L (rc_i x :: st) := by
  intro H locs ls hR hS hL hB
  exact lv_i2d hC.1 hC.2.1 d (k H locs ls hR hS hL hB)
theorem rc_lcmp (hC : rc_C Y cc own ret nL) {x y : Int64} (d : decode cc pc = .ok (.lcmp, 1)) (k : rc_Z Y S (pc + 1) L (rc_i (lg_cmp x y) :: st)) : rc_Z Y S pc L (rc_l y :: rc_l x :: st) := by
  intro H locs ls hR hS hL hB
  exact W.lcmp hC.1 hC.2.1 d (k H locs ls hR hS hL hB)
theorem rc_dcmp (hC : rc_C Y cc own ret nL) {x y : UInt64} {op : CmpOp} (d : decode cc pc = .ok (.dcmp op, 1)) (k : rc_Z Y S (pc + 1) L (rc_i (Op.cmpValue (FP.dcmp x y) op) :: st)) : rc_Z Y S pc L (rc_d y :: rc_d x :: st) := by
  intro H locs ls hR hS hL hB
  exact lv_dcmp hC.1 hC.2.1 d (k H locs ls hR hS hL hB)
def rc_fdivM (x y : UInt32) : rc_M UInt32 := rc_read fun _ => if FP.fdiv x y &&& 0x7fffffff ≤ 0x7f800000 then some (FP.fdiv x y) else none
def rc_ddivM (x y : UInt64) : rc_M UInt64 := rc_read fun _ => if FP.ddiv x y &&& 0x7fffffffffffffff ≤ 0x7ff0000000000000 then some (FP.ddiv x y) else none
def rc_f2dM (x : UInt32) : rc_M UInt64 := rc_read fun _ => if FP.f2d x &&& 0x7fffffffffffffff ≤ 0x7ff0000000000000 then some (FP.f2d x) else none
section
variable {α : Type} {tv : α → Option rc_V}
theorem rc_fdiv (hC : rc_C Y cc own ret nL) {x y : UInt32} {f : UInt32 → rc_M α} (d : decode cc pc = .ok (.fdiv, 1)) (h : rc_Go Y tv (rc_bind (rc_fdivM x y) f) S) (k : ∀ v, rc_Go Y tv (f v) S → rc_Z Y S (pc + 1) L (rc_f v :: st)) : rc_Z Y S pc L (rc_f y :: rc_f x :: st) := by
  obtain ⟨v, hv, h⟩ := h.read
  intro H locs ls hR hS hL hB
  split at hv
  · rename_i hc
    cases hv
    exact lv_fdiv hC.1 hC.2.1 d hc (k _ h H locs ls hR hS hL hB)
  · cases hv
theorem rc_ddiv (hC : rc_C Y cc own ret nL) {x y : UInt64} {f : UInt64 → rc_M α} (d : decode cc pc = .ok (.ddiv, 1)) (h : rc_Go Y tv (rc_bind (rc_ddivM x y) f) S) (k : ∀ v, rc_Go Y tv (f v) S → rc_Z Y S (pc + 1) L (rc_d v :: st)) : rc_Z Y S pc L (rc_d y :: rc_d x :: st) := by
  obtain ⟨v, hv, h⟩ := h.read
  intro H locs ls hR hS hL hB
  split at hv
  · rename_i hc
    cases hv
    exact lv_ddiv hC.1 hC.2.1 d hc (k _ h H locs ls hR hS hL hB)
  · cases hv
theorem rc_f2d (hC : rc_C Y cc own ret nL) {x : UInt32} {f : UInt64 → rc_M α} (d : decode cc pc = .ok (.f2d, 1)) (h : rc_Go Y tv (rc_bind (rc_f2dM x) f) S) (k : ∀ v, rc_Go Y tv (f v) S → rc_Z Y S (pc + 1) L (rc_d v :: st)) : rc_Z Y S pc L (rc_f x :: st) := by
  obtain ⟨v, hv, h⟩ := h.read
  intro H locs ls hR hS hL hB
  split at hv
  · rename_i hc
    cases hv
    exact lv_f2d hC.1 hC.2.1 d hc (k _ h H locs ls hR hS hL hB)
  · cases hv
end
theorem rc_dup (hC : rc_C Y cc own ret nL) {v : rc_V} (d : decode cc pc = .ok (.dup, 1)) (hv : rc_cat1 v = true) (k : rc_Z Y S (pc + 1) L (v :: v :: st)) : rc_Z Y S pc L (v :: st) := by
  intro H locs ls hR hS hL hB
  exact lv_dup hC.1 hC.2.1 d (rc_cat1_ok hv) (k H locs ls hR hS hL hB)
theorem rc_pop (hC : rc_C Y cc own ret nL) {v : rc_V} (d : decode cc pc = .ok (.pop, 1)) (hv : rc_cat1 v = true) (k : rc_Z Y S (pc + 1) L st) : rc_Z Y S pc L (v :: st) := by
  intro H locs ls hR hS hL hB
  exact lv_pop hC.1 hC.2.1 d (rc_cat1_ok hv) (k H locs ls hR hS hL hB)
theorem rc_dup_x1 (hC : rc_C Y cc own ret nL) {v u : rc_V} (d : decode cc pc = .ok (.dup_x1, 1)) (hv : rc_cat1 v = true) (hu : rc_cat1 u = true) (k : rc_Z Y S (pc + 1) L (v :: u :: v :: st)) : rc_Z Y S pc L (v :: u :: st) := by
  intro H locs ls hR hS hL hB
  exact lv_dup_x1 hC.1 hC.2.1 d (rc_cat1_ok hv) (rc_cat1_ok hu) (k H locs ls hR hS hL hB)
theorem rc_dup2 (hC : rc_C Y cc own ret nL) {v u : rc_V} (d : decode cc pc = .ok (.dup2, 1)) (hv : rc_cat1 v = true) (hu : rc_cat1 u = true) (k : rc_Z Y S (pc + 1) L (v :: u :: v :: u :: st)) : rc_Z Y S pc L (v :: u :: st) := by
  intro H locs ls hR hS hL hB
  exact lv_dup2_11 hC.1 hC.2.1 d (rc_cat1_ok hv) (rc_cat1_ok hu) (k H locs ls hR hS hL hB)
section
variable {α : Type} {tv : α → Option rc_V} {A B : rc_M α}
theorem rc_if_eq (hC : rc_C Y cc own ret nL) {x : Int32} {off : Int} {tgt : Nat} (d : decode cc pc = .ok (.ifCond .eq off, 3)) (ht : (pc : Int) + off = (tgt : Int)) (h : rc_Go Y tv (if x = 0 then A else B) S) (kt : x = 0 → rc_Go Y tv A S → rc_Z Y S tgt L st) (kf : ¬ x = 0 → rc_Go Y tv B S → rc_Z Y S (pc + 3) L st) : rc_Z Y S pc L (rc_i x :: st) := by
  intro H locs ls hR hS hL hB
  exact lv_if_eq hC.1 hC.2.1 d ht (fun c => kt c (by rw [if_pos c] at h; exact h) H locs ls hR hS hL hB) (fun c => kf c (by rw [if_neg c] at h; exact h) H locs ls hR hS hL hB)
theorem rc_icmp_eq (hC : rc_C Y cc own ret nL) {x y : Int32} {off : Int} {tgt : Nat} (d : decode cc pc = .ok (.if_icmp .eq off, 3)) (ht : (pc : Int) + off = (tgt : Int)) (h : rc_Go Y tv (if x = y then A else B) S) (kt : x = y → rc_Go Y tv A S → rc_Z Y S tgt L st) (kf : ¬ x = y → rc_Go Y tv B S → rc_Z Y S (pc + 3) L st) : rc_Z Y S pc L (rc_i y :: rc_i x :: st) := by
  intro H locs ls hR hS hL hB
  exact lv_icmp_eq hC.1 hC.2.1 d ht (fun c => kt c (by rw [if_pos c] at h; exact h) H locs ls hR hS hL hB) (fun c => kf c (by rw [if_neg c] at h; exact h) H locs ls hR hS hL hB)
theorem rc_if_ne (hC : rc_C Y cc own ret nL) {x : Int32} {off : Int} {tgt : Nat} (d : decode cc pc = .ok (.ifCond .ne off, 3)) (ht : (pc : Int) + off = (tgt : Int)) (h : rc_Go Y tv (if x = 0 then A else B) S) (kf : ¬ x = 0 → rc_Go Y tv B S → rc_Z Y S tgt L st) (kt : x = 0 → rc_Go Y tv A S → rc_Z Y S (pc + 3) L st) : rc_Z Y S pc L (rc_i x :: st) := by
  intro H locs ls hR hS hL hB
  exact lv_if_ne hC.1 hC.2.1 d ht (fun c => kf c (by rw [if_neg c] at h; exact h) H locs ls hR hS hL hB) (fun c => kt c (by rw [if_pos c] at h; exact h) H locs ls hR hS hL hB)
theorem rc_icmp_ne (hC : rc_C Y cc own ret nL) {x y : Int32} {off : Int} {tgt : Nat} (d : decode cc pc = .ok (.if_icmp .ne off, 3)) (ht : (pc : Int) + off = (tgt : Int)) (h : rc_Go Y tv (if x = y then A else B) S) (kf : ¬ x = y → rc_Go Y tv B S → rc_Z Y S tgt L st) (kt : x = y → rc_Go Y tv A S → rc_Z Y S (pc + 3) L st) : rc_Z Y S pc L (rc_i y :: rc_i x :: st) := by
  intro H locs ls hR hS hL hB
  exact lv_icmp_ne hC.1 hC.2.1 d ht (fun c => kf c (by rw [if_neg c] at h; exact h) H locs ls hR hS hL hB) (fun c => kt c (by rw [if_pos c] at h; exact h) H locs ls hR hS hL hB)
theorem rc_if_lt (hC : rc_C Y cc own ret nL) {x : Int32} {off : Int} {tgt : Nat} (d : decode cc pc = .ok (.ifCond .lt off, 3)) (ht : (pc : Int) + off = (tgt : Int)) (h : rc_Go Y tv (if x < 0 then A else B) S) (kt : x < 0 → rc_Go Y tv A S → rc_Z Y S tgt L st) (kf : ¬ x < 0 → rc_Go Y tv B S → rc_Z Y S (pc + 3) L st) : rc_Z Y S pc L (rc_i x :: st) := by
  intro H locs ls hR hS hL hB
  exact lv_if_lt hC.1 hC.2.1 d ht (fun c => kt c (by rw [if_pos c] at h; exact h) H locs ls hR hS hL hB) (fun c => kf c (by rw [if_neg c] at h; exact h) H locs ls hR hS hL hB)
theorem rc_icmp_lt (hC : rc_C Y cc own ret nL) {x y : Int32} {off : Int} {tgt : Nat} (d : decode cc pc = .ok (.if_icmp .lt off, 3)) (ht : (pc : Int) + off = (tgt : Int)) (h : rc_Go Y tv (if x < y then A else B) S) (kt : x < y → rc_Go Y tv A S → rc_Z Y S tgt L st) (kf : ¬ x < y → rc_Go Y tv B S → rc_Z Y S (pc + 3) L st) : rc_Z Y S pc L (rc_i y :: rc_i x :: st) := by
  intro H locs ls hR hS hL hB
  exact lv_icmp_lt hC.1 hC.2.1 d ht (fun c => kt c (by rw [if_pos c] at h; exact h) H locs ls hR hS hL hB) (fun c => kf c (by rw [if_neg c] at h; exact h) H locs ls hR hS hL hB)
theorem rc_if_ge (hC : rc_C Y cc own ret nL) {x : Int32} {off : Int} {tgt : Nat} (d : decode cc pc = .ok (.ifCond .ge off, 3)) (ht : (pc : Int) + off = (tgt : Int)) (h : rc_Go Y tv (if 0 ≤ x then A else B) S) (kt : 0 ≤ x → rc_Go Y tv A S → rc_Z Y S tgt L st) (kf : ¬ 0 ≤ x → rc_Go Y tv B S → rc_Z Y S (pc + 3) L st) : rc_Z Y S pc L (rc_i x :: st) := by
  intro H locs ls hR hS hL hB
  exact lv_if_ge hC.1 hC.2.1 d ht (fun c => kt c (by rw [if_pos c] at h; exact h) H locs ls hR hS hL hB) (fun c => kf c (by rw [if_neg c] at h; exact h) H locs ls hR hS hL hB)
theorem rc_icmp_ge (hC : rc_C Y cc own ret nL) {x y : Int32} {off : Int} {tgt : Nat} (d : decode cc pc = .ok (.if_icmp .ge off, 3)) (ht : (pc : Int) + off = (tgt : Int)) (h : rc_Go Y tv (if y ≤ x then A else B) S) (kt : y ≤ x → rc_Go Y tv A S → rc_Z Y S tgt L st) (kf : ¬ y ≤ x → rc_Go Y tv B S → rc_Z Y S (pc + 3) L st) : rc_Z Y S pc L (rc_i y :: rc_i x :: st) := by
  intro H locs ls hR hS hL hB
  exact lv_icmp_ge hC.1 hC.2.1 d ht (fun c => kt c (by rw [if_pos c] at h; exact h) H locs ls hR hS hL hB) (fun c => kf c (by rw [if_neg c] at h; exact h) H locs ls hR hS hL hB)
theorem rc_if_gt (hC : rc_C Y cc own ret nL) {x : Int32} {off : Int} {tgt : Nat} (d : decode cc pc = .ok (.ifCond .gt off, 3)) (ht : (pc : Int) + off = (tgt : Int)) (h : rc_Go Y tv (if 0 < x then A else B) S) (kt : 0 < x → rc_Go Y tv A S → rc_Z Y S tgt L st) (kf : ¬ 0 < x → rc_Go Y tv B S → rc_Z Y S (pc + 3) L st) : rc_Z Y S pc L (rc_i x :: st) := by
  intro H locs ls hR hS hL hB
  exact lv_if_gt hC.1 hC.2.1 d ht (fun c => kt c (by rw [if_pos c] at h; exact h) H locs ls hR hS hL hB) (fun c => kf c (by rw [if_neg c] at h; exact h) H locs ls hR hS hL hB)
theorem rc_icmp_gt (hC : rc_C Y cc own ret nL) {x y : Int32} {off : Int} {tgt : Nat} (d : decode cc pc = .ok (.if_icmp .gt off, 3)) (ht : (pc : Int) + off = (tgt : Int)) (h : rc_Go Y tv (if y < x then A else B) S) (kt : y < x → rc_Go Y tv A S → rc_Z Y S tgt L st) (kf : ¬ y < x → rc_Go Y tv B S → rc_Z Y S (pc + 3) L st) : rc_Z Y S pc L (rc_i y :: rc_i x :: st) := by
  intro H locs ls hR hS hL hB
  exact lv_icmp_gt hC.1 hC.2.1 d ht (fun c => kt c (by rw [if_pos c] at h; exact h) H locs ls hR hS hL hB) (fun c => kf c (by rw [if_neg c] at h; exact h) H locs ls hR hS hL hB)
theorem rc_if_le (hC : rc_C Y cc own ret nL) {x : Int32} {off : Int} {tgt : Nat} (d : decode cc pc = .ok (.ifCond .le off, 3)) (ht : (pc : Int) + off = (tgt : Int)) (h : rc_Go Y tv (if x ≤ 0 then A else B) S) (kt : x ≤ 0 → rc_Go Y tv A S → rc_Z Y S tgt L st) (kf : ¬ x ≤ 0 → rc_Go Y tv B S → rc_Z Y S (pc + 3) L st) : rc_Z Y S pc L (rc_i x :: st) := by
  intro H locs ls hR hS hL hB
  exact lv_if_le hC.1 hC.2.1 d ht (fun c => kt c (by rw [if_pos c] at h; exact h) H locs ls hR hS hL hB) (fun c => kf c (by rw [if_neg c] at h; exact h) H locs ls hR hS hL hB)
theorem rc_icmp_le (hC : rc_C Y cc own ret nL) {x y : Int32} {off : Int} {tgt : Nat} (d : decode cc pc = .ok (.if_icmp .le off, 3)) (ht : (pc : Int) + off = (tgt : Int)) (h : rc_Go Y tv (if x ≤ y then A else B) S) (kt : x ≤ y → rc_Go Y tv A S → rc_Z Y S tgt L st) (kf : ¬ x ≤ y → rc_Go Y tv B S → rc_Z Y S (pc + 3) L st) : rc_Z Y S pc L (rc_i y :: rc_i x :: st) := by
  intro H locs ls hR hS hL hB
  exact lv_icmp_le hC.1 hC.2.1 d ht (fun c => kt c (by rw [if_pos c] at h; exact h) H locs ls hR hS hL hB) (fun c => kf c (by rw [if_neg c] at h; exact h) H locs ls hR hS hL hB)
theorem rc_ifnull (hC : rc_C Y cc own ret nL) {x : Option Nat} {off : Int} {tgt : Nat} (d : decode cc pc = .ok (.ifnull off, 3)) (ht : (pc : Int) + off = (tgt : Int)) (h : rc_Go Y tv (if x = none then A else B) S) (kt : x = none → rc_Go Y tv A S → rc_Z Y S tgt L st) (kf : ¬ x = none → rc_Go Y tv B S → rc_Z Y S (pc + 3) L st) : rc_Z Y S pc L (rc_q x :: st) := by
  intro H locs ls hR hS hL hB
  cases x with
  | none => exact lv_ifnullN hC.1 hC.2.1 d ht (kt rfl (by rw [if_pos rfl] at h; exact h) H locs ls hR hS hL hB)
  | some a => exact lv_ifnull hC.1 hC.2.1 d (kf (by simp) (by rw [if_neg (by simp)] at h; exact h) H locs ls hR hS hL hB)
theorem rc_ifnonnull (hC : rc_C Y cc own ret nL) {x : Option Nat} {off : Int} {tgt : Nat} (d : decode cc pc = .ok (.ifnonnull off, 3)) (ht : (pc : Int) + off = (tgt : Int)) (h : rc_Go Y tv (if x = none then A else B) S) (kf : ¬ x = none → rc_Go Y tv B S → rc_Z Y S tgt L st) (kt : x = none → rc_Go Y tv A S → rc_Z Y S (pc + 3) L st) : rc_Z Y S pc L (rc_q x :: st) := by
  intro H locs ls hR hS hL hB
  cases x with
  | none => exact lv_ifnonnullN hC.1 hC.2.1 d (kt rfl (by rw [if_pos rfl] at h; exact h) H locs ls hR hS hL hB)
  | some a => exact lv_ifnonnull hC.1 hC.2.1 d ht (kf (by simp) (by rw [if_neg (by simp)] at h; exact h) H locs ls hR hS hL hB)
theorem rc_acmp_eq (hC : rc_C Y cc own ret nL) {x y : Option Nat} {off : Int} {tgt : Nat} (d : decode cc pc = .ok (.if_acmp .eq off, 3)) (ht : (pc : Int) + off = (tgt : Int)) (h : rc_Go Y tv (if x = y then A else B) S) (kt : x = y → rc_Go Y tv A S → rc_Z Y S tgt L st) (kf : ¬ x = y → rc_Go Y tv B S → rc_Z Y S (pc + 3) L st) : rc_Z Y S pc L (rc_q y :: rc_q x :: st) := by
  intro H locs ls hR hS hL hB
  exact lv_acmp_eq (rx := x) (ry := y) hC.1 hC.2.1 d ht (fun c => kt c (by rw [if_pos c] at h; exact h) H locs ls hR hS hL hB) (fun c => kf c (by rw [if_neg c] at h; exact h) H locs ls hR hS hL hB)
theorem rc_acmp_ne (hC : rc_C Y cc own ret nL) {x y : Option Nat} {off : Int} {tgt : Nat} (d : decode cc pc = .ok (.if_acmp .ne off, 3)) (ht : (pc : Int) + off = (tgt : Int)) (h : rc_Go Y tv (if x = y then A else B) S) (kf : ¬ x = y → rc_Go Y tv B S → rc_Z Y S tgt L st) (kt : x = y → rc_Go Y tv A S → rc_Z Y S (pc + 3) L st) : rc_Z Y S pc L (rc_q y :: rc_q x :: st) := by
  intro H locs ls hR hS hL hB
  exact lv_acmp_ne (rx := x) (ry := y) hC.1 hC.2.1 d ht (fun c => kf c (by rw [if_neg c] at h; exact h) H locs ls hR hS hL hB) (fun c => kt c (by rw [if_pos c] at h; exact h) H locs ls hR hS hL hB)
end
end RCR
