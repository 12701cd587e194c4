set_option maxRecDepth 100000
/-! ROWS: entry, returns, throws, calls -/
theorem rc_mpS {α : Type} (tv : α → Option rc_V) (T : (α ⊕ (Nat × Nat)) × rc_S) : (rc_mp tv T).2 = T.2 := by
  obtain ⟨r | e, S⟩ := T <;> rfl
def rc_lc (As : List rc_V) (n : Nat) : List (Option rc_V) := As.map some ++ List.replicate (n - As.length) none
theorem rc_sl : ∀ (As : List rc_V), As.all rc_cat1 = true → lg_sl (As.map rc_val) = As.map (fun v => Slot.val (rc_val v))
  | [], _ => rfl
  | v :: As, h => by
    simp only [List.all_cons, Bool.and_eq_true] at h
    have h1 := rc_cat1_ok h.1
    have h2 := rc_sl As h.2
    simp only [lg_sl] at h2 ⊢
    simp [h1, h2]
def rc_wsum : List rc_V → Nat
  | [] => 0
  | v :: st => (match v with
    | .inl _ => 1
    | .inr (.inl _) => 2
    | .inr (.inr (.inl _)) => 1
    | .inr (.inr (.inr _)) => 2) + rc_wsum st
def rc_wst (st : List rc_V) : Bool := Nat.ble (rc_wsum st) 8
theorem rc_sum {st : List rc_V} (h : rc_wst st = true) (_ : st.length ≤ 8) : ((st.map rc_val).map fun v => v.category).sum ≤ 8 := by
  refine Nat.le_trans (Nat.le_of_eq ?_) (Nat.le_of_ble_eq_true h)
  clear h
  induction st with
  | nil => rfl
  | cons v st ih =>
    simp only [List.map_cons, List.sum_cons, rc_wsum]
    rw [ih (Nat.le_of_succ_le (by assumption))]
    congr 1
    rcases v with (x | x) | (x | (x | x))
    · rfl
    · cases x <;> rfl
    · rfl
    · rfl
    · rfl
theorem rc_entry (As : List rc_V) {n : Nat} (hc : As.all rc_cat1 = true) (hn : As.length ≤ n) : rc_loc ((lg_sl (As.map rc_val) ++ List.replicate (n - (lg_sl (As.map rc_val)).length) Slot.unset).toArray) (rc_lc As n) := by
  have hs := rc_sl As hc
  have hlen : (lg_sl (As.map rc_val)).length = As.length := by rw [hs]; simp
  have h := lv_entry (As.map rc_val) (n := n) (by rw [hlen]; exact hn)
  refine ⟨?_, h.2.1, fun i v hv => ?_⟩
  · rw [h.1]
    simp [rc_lc]
    omega
  · have hi : i < As.length := by
      rcases Nat.lt_or_ge i As.length with q | q
      · exact q
      · rw [rc_lc, List.getElem?_append_right (by simpa using q)] at hv
        rw [List.getElem?_replicate] at hv
        split at hv <;> simp at hv
    rw [rc_lc, List.getElem?_append_left (by simpa using hi), List.getElem?_map] at hv
    have hv2 : As[i]? = some v := by
      cases hA : As[i]? with
      | none => rw [hA] at hv; simp at hv
      | some u => rw [hA] at hv; simp at hv; rw [hv]
    have e1 : (lg_sl (As.map rc_val))[i]? = some (.val (rc_val v)) := by rw [hs, List.getElem?_map, hv2]; rfl
    rw [List.getElem?_toArray, List.getElem?_append_left (by rw [hlen]; exact hi), e1]
/-- a contract out of a walk, the method without handlers -/
theorem rc_Ct_of {α : Type} {l : Launch} {y : MethodName} {cc : ByteArray} {maxL : Nat} {ret : Option FieldType} {fr lo : Nat} {tv : α → Option rc_V} {x : rc_M α} {As : List rc_V} {L0 : List (Option rc_V)} (hst : l.stackTraces = false) (hy : plainFor y = true) (hc : As.all rc_cat1 = true) (hn : As.length ≤ maxL) (hL0 : rc_lc As maxL = L0)
    (body : ∀ (Y : rc_Y) (S : rc_S), rc_C Y cc y.cls ret maxL → (yr_l Y = l ∧ (yr_t Y).name = y.name ∧ yr_fr Y = fr ∧ yr_lo Y = lo) → (∀ z ∈ (yr_c Y).exceptionTable.toList, False) → rc_Go Y tv x S → rc_Z Y S 0 L0 []) : rc_Ct l y (ws_ y cc maxL ret) fr lo tv x As := by
  intro D S T hT hw
  have hkk : rc_k T.2 = rc_k S := (x.2 S T hT).2.2.1
  refine vy_ofW (cc := cc) (maxL := maxL) (ret := ret) hy rfl ?_
  intro p e s m args below meth c s₁ B hml htab hv
  obtain ⟨rfl, hE, hR⟩ := hv
  have hts := atoms_spec (ws := ws_ y cc maxL ret) B.pre
  have hts : ∀ w ∈ lw_all, w.before _ s = true := fun w h => hts w (List.mem_cons_of_mem _ h)
  rw [lg_entry_eq]
  have hkT : rc_k (rc_mp tv T).2 = rc_k S := by rw [rc_mpS]; exact hkk
  have hb := body (((p, l, e), (s, m, (As.map rc_val).toArray), below, meth, c), D, (rc_n S, rc_s S), rc_mp tv T, (fr, lo, rc_fl S)) S
    ⟨B.exec, B.bytes, hml, findClass_of_methodNamed B.named, hts, B.returns, B.notSynchronized, by show rc_Env D (rc_k (rc_mp tv T).2) s s.heap; rw [hkT]; exact hE, fun q hq => by show rc_kw (rc_k (rc_mp tv T).2) q; rw [hkT]; exact hw q (by rw [← hR.1]; exact hq), hR.1⟩
    ⟨rfl, (name_of_methodNamed B.named B.method).1, rfl, rfl⟩ htab ⟨T, hT, rfl⟩
  have h1 := hb s.heap [] _ hR va_S.rf (by rw [← hL0]; exact rc_entry As hc hn) ⟨Nat.le_refl _, Nat.le_refl _, fun h => h⟩
  have h2 := W.cs (Nat.sub_self (rc_n S)).symm (Nat.sub_self (rc_s S)).symm h1
  dsimp only [yr_p, yr_l, yr_e, yr_R, yr_s, yr_m, yr_a, yr_b, yr_t, yr_c, yr_Q, yr_D, yr_B, yr_T, yr_K, yr_fr, yr_lo, yr_mc, yr_ms] at h2
  rw [hkT, rc_mpS] at h2
  exact h2
section RCE
variable {Y : rc_Y} {cc : ByteArray} {own : String} {ret : Option FieldType} {nL : Nat} {S : rc_S} {pc : Nat} {L : List (Option rc_V)} {st : List rc_V} {α : Type} {tv : α → Option rc_V}
theorem rc_iret (hC : rc_C Y cc own ret nL) {x : Int32} {ty : FieldType} (hr : ret = some ty) (hn : narrow ty (.int x) = .int x) (d : decode cc pc = .ok (.ireturn, 1)) {v : α} (h : rc_Go Y tv (rc_pure v) S) (hv : tv v = some (rc_i x)) : rc_Z Y S pc L [rc_i x] := by
  have hT := h.pure
  rw [hv] at hT
  obtain ⟨X, D, B, T, F⟩ := Y
  have hT : T = _ := hT
  subst hT
  subst hr
  intro H locs ls hR hS hL hB
  exact vy_ret (W.zret (ty := ty) hC.1 hC.2.1 hC.2.2.2.2.2.1 hn (fun t ht hW => ⟨_, rfl, rfl, by rw [ht]; exact hR, hS.F ht⟩) hS.2.2 d hC.2.2.2.2.2.2.1)
theorem rc_vret (hC : rc_C Y cc own ret nL)  (hr : ret = none) (d : decode cc pc = .ok (.return_, 1)) {v : α} (h : rc_Go Y tv (rc_pure v) S) (hv : tv v = none) : rc_Z Y S pc L [] := by
  have hT := h.pure
  rw [hv] at hT
  obtain ⟨X, D, B, T, F⟩ := Y
  have hT : T = _ := hT
  subst hT
  subst hr
  intro H locs ls hR hS hL hB
  exact vy_ret (W.vret hC.1 hC.2.1 hC.2.2.2.2.2.1 (fun t ht hW => ⟨_, rfl, rfl, by rw [ht]; exact hR, hS.F ht⟩) hS.2.2 d hC.2.2.2.2.2.2.1)
theorem rc_aret (hC : rc_C Y cc own ret nL) {x : Option Nat} {ty : FieldType} (hr : ret = some ty) (hrt : (∃ n, ty = .object n) ∨ ∃ t, ty = .array t) (d : decode cc pc = .ok (.areturn, 1)) {v : α} (h : rc_Go Y tv (rc_pure v) S) (hv : tv v = some (rc_q x)) : rc_Z Y S pc L [rc_q x] := by
  have hT := h.pure
  rw [hv] at hT
  obtain ⟨X, D, B, T, F⟩ := Y
  have hT : T = _ := hT
  subst hT
  subst hr
  intro H locs ls hR hS hL hB
  exact vy_ret (W.aret (v := va_rf x) hC.1 hC.2.1 hC.2.2.2.2.2.1 hrt (by cases x with | none => exact Or.inl rfl | some a => exact Or.inr ⟨a, rfl⟩) (fun t ht hW => ⟨_, rfl, rfl, by rw [ht]; exact hR, hS.F ht⟩) hS.2.2 d hC.2.2.2.2.2.2.1)
theorem rc_dret (hC : rc_C Y cc own ret nL) {x : UInt64} (hr : ret = some .double)  (d : decode cc pc = .ok (.dreturn, 1)) {v : α} (h : rc_Go Y tv (rc_pure v) S) (hv : tv v = some (rc_d x)) : rc_Z Y S pc L [rc_d x] := by
  have hT := h.pure
  rw [hv] at hT
  obtain ⟨X, D, B, T, F⟩ := Y
  have hT : T = _ := hT
  subst hT
  subst hr
  intro H locs ls hR hS hL hB
  exact vy_ret (W.dret hC.1 hC.2.1 hC.2.2.2.2.2.1 (fun t ht hW => ⟨_, rfl, rfl, by rw [ht]; exact hR, hS.F ht⟩) hS.2.2 d hC.2.2.2.2.2.2.1)
theorem rc_fret (hC : rc_C Y cc own ret nL) {x : UInt32} (hr : ret = some .float)  (d : decode cc pc = .ok (.freturn, 1)) {v : α} (h : rc_Go Y tv (rc_pure v) S) (hv : tv v = some (rc_f x)) : rc_Z Y S pc L [rc_f x] := by
  have hT := h.pure
  rw [hv] at hT
  obtain ⟨X, D, B, T, F⟩ := Y
  have hT : T = _ := hT
  subst hT
  subst hr
  intro H locs ls hR hS hL hB
  exact vy_ret (W.fret hC.1 hC.2.1 hC.2.2.2.2.2.1 (fun t ht hW => ⟨_, rfl, rfl, by rw [ht]; exact hR, hS.F ht⟩) hS.2.2 d hC.2.2.2.2.2.2.1)
/-- thrown, and not caught here -/
theorem rc_out (hC : rc_C Y cc own ret nL) (hN : ∀ z ∈ (yr_c Y).exceptionTable.toList, False) {E q : Nat} (hT : yr_T Y = (.inr (E, q), S)) : rc_ZX Y S pc L E q := by
  obtain ⟨X, D, B, T, F⟩ := Y
  have hT : T = _ := hT
  subst hT
  intro H locs ls rest ce hR hS hL hB h1 h2 h3
  exact vy_out (fun x hx => (hN x hx).elim) hC.2.2.2.2.2.2.1 h1 h2 h3 (fun t ht hW => ⟨E, rfl, rfl, by rw [ht]; exact hR, hS.F ht⟩) hS.2.2 (Nat.le_refl _) (Nat.le_refl _)
theorem rc_throw0 (hC : rc_C Y cc own ret nL) (hN : ∀ z ∈ (yr_c Y).exceptionTable.toList, False) (hl : (yr_l Y).stackTraces = false) {names : List String} {ik ic E : Nat} (hcls : Bundle.fit (rc_en E) = true) (hnames : ∀ n ∈ names, Bundle.fit n = true)
    (hk : Cond.classLink own ik (rc_en E) ∈ lw_all) (hini : Cond.initialized (rc_en E) ∈ lw_all) (hat1 : ∀ w ∈ (vy_at0 own ic (rc_en E) names).filter goodWord, w ∈ lw_all) (hat2 : ∀ w ∈ (vy_at0 own ic (rc_en E) names).filter (fun w => !goodWord w), w ∈ lw_odd)
    (hgood : ∀ w ∈ Cond.classLink own ik (rc_en E) :: Cond.initialized (rc_en E) :: vy_at0 own ic (rc_en E) names, vy_ot w = true)
    (hn : nL = L.length) (d0 : decode cc pc = .ok (.new ik, 3)) (d3 : decode cc (pc + 3) = .ok (.dup, 1)) (d4 : decode cc (pc + 4) = .ok (.invokespecial ic, 3)) (d7 : decode cc (pc + 7) = .ok (.athrow, 1))
    (hRf : names.length + 3 < yr_fr Y) (hRl : 8 + (13 * (names.length + 1) + 42) ≤ yr_lo Y) (hst : rc_wst st = true) (hsl : st.length ≤ 8) (h : rc_Go Y tv (rc_thr E : rc_M α) S) : rc_Z Y S pc L st := by
  have hT := h.thr
  obtain ⟨X, D, B, T, F⟩ := Y
  have hT : T = _ := hT
  subst hT
  intro H locs ls hR hS hL hB
  have hE := hC.2.2.2.2.2.2.2.1
  have hsum := rc_sum hst hsl
  have c1 := (rc_cnt (k := 1) (N := S.2.1 + 1) hB.1 (Nat.le_refl _)).1
  have c2 := (rc_cnt (k := 6) (N := S.2.2.1 + 6) hB.2.1 (Nat.le_refl _)).1
  refine vy_throw0 hC.1 hC.2.1 hl hC.2.2.2.1 hcls hnames (hC.2.2.2.2.1 _ hk) (hC.2.2.2.2.1 _ hini) (vy_hat (B := lw_odd) (fun w hw => hC.2.2.2.2.1 _ (hat1 w hw)) hat2 (fun w hw => ?_)) hgood hE.2.2.2.2.2.2.2.1 hE.2.2.2.2.2.2.2.2.1 hS (by rw [hL.1, ← hn]; exact hC.2.2.1.symm) d0 d3 d4 d7 (fun x hx => (hN x hx).elim) hRf (Nat.le_trans (Nat.add_le_add_right hsum _) hRl) c1 c2 hC.2.2.2.2.2.2.1 (fun t ht hz ho => ?_) hS.2.2 c1 c2
  · have h1 := hE.2.2.1 w hw
    have hg := (List.mem_filter.mp hw).2
    exact va_tabs (by cases w <;> first | rfl | (simp [rc_oddw] at hg)) rfl h1
  · exact ⟨E, by rw [hR.1], rfl, rc_Rp.opq hR hz ho, Nat.le_trans hS.1 (by rw [hz]; exact Nat.le_succ _), fun x h1 h2 => (ho x (Nat.lt_of_lt_of_le h1 hS.1)).trans (hS.2.1 x h1 h2)⟩

end RCE
