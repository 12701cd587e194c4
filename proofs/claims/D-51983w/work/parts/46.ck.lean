set_option maxRecDepth 100000
/-! WHY NOT: claims and chases, as the component tells it -/
theorem near_wideL (A : rc_A) {w a b : Nat} (hab : a ≠ b) : ∀ (n g m : Nat), decide (w ≤ s_fold (fun g m => if s_joins A g a b then max m (A_gu A g).2.2 else m) n g m) = (decide (w ≤ m) || s_near A w a b n g)
  | 0, g, m => by rw [s_near, Bool.or_false]; rfl
  | n + 1, g, m => by
    rw [s_fold, near_wideL A hab n (g + 1), s_near]
    have ej : s_joins A g a b = (!(a == b) && (((A_gu A g).1 == a || (A_gu A g).2.1 == a) && ((A_gu A g).1 == b || (A_gu A g).2.1 == b))) := by
      unfold s_joins
      generalize (A_gu A g).1 = x
      generalize (A_gu A g).2.1 = y
      rw [Bool.eq_iff_iff]
      simp only [Bool.or_eq_true, Bool.and_eq_true, beq_iff_eq, Bool.not_eq_true', beq_eq_false_iff_ne]
      omega
    rw [← ej]
    cases hj : s_joins A g a b with
    | false => simp
    | true =>
      by_cases hw : w ≤ (A_gu A g).2.2
      · have : w ≤ max m (A_gu A g).2.2 := by omega
        simp [hw, this]
      · have : (w ≤ max m (A_gu A g).2.2) ↔ w ≤ m := by omega
        simp [hw, this]
theorem near_wide (A : rc_A) {w a b : Nat} (hab : a ≠ b) (hw : 1 ≤ w) : s_near A w a b (A_nG A) 0 = decide (w ≤ s_wide A a b) := by
  unfold s_wide
  rw [near_wideL A hab, show decide (w ≤ 0) = false from by simp; omega, Bool.false_or]
/-- the places that a cat owns -/
def s_owned (A : rc_A) (c : Nat) : Nat := s_mask (fun k => A_ow A k == some c) (A_nC A) 0 0
theorem fold_add {f : Nat → Nat} : ∀ (n i x : Nat), s_fold (fun k x => x + f k) n i x = x + s_fold (fun k x => x + f k) n i 0
  | 0, i, x => rfl
  | n + 1, i, x => by
    rw [s_fold, s_fold, fold_add n (i + 1) (x + f i), fold_add n (i + 1) (0 + f i)]
    omega
theorem fold_congr {α : Type} {f g : Nat → α → α} : ∀ (n i : Nat) (x : α), (∀ k y, i ≤ k → k < i + n → f k y = g k y) → s_fold f n i x = s_fold g n i x
  | 0, i, x, h => rfl
  | n + 1, i, x, h => by
    rw [s_fold, s_fold, h i x (by omega) (by omega)]
    exact fold_congr n (i + 1) _ (fun k y h1 h2 => h k y (by omega) (by omega))
theorem fold_id {α : Type} {f : Nat → α → α} : ∀ (n i : Nat) (x : α), (∀ k y, i ≤ k → k < i + n → f k y = y) → s_fold f n i x = x
  | 0, i, x, h => rfl
  | n + 1, i, x, h => by
    rw [s_fold, h i x (by omega) (by omega)]
    exact fold_id n (i + 1) _ (fun k y h1 h2 => h k y (by omega) (by omega))
theorem fold_split {α : Type} {f : Nat → α → α} : ∀ (n m i : Nat) (x : α), s_fold f (n + m) i x = s_fold f m (i + n) (s_fold f n i x)
  | 0, m, i, x => by rw [Nat.zero_add]; rfl
  | n + 1, m, i, x => by
    rw [show n + 1 + m = (n + m) + 1 by omega, s_fold, s_fold, fold_split n m (i + 1)]
    congr 1
    omega
theorem bits_mask (p : Nat → Bool) {n : Nat} (hn : n ≤ 10) : s_bits (s_mask p n 0 0) = s_fold (fun k x => x + (if p k then 1 else 0)) n 0 0 := by
  unfold s_bits
  obtain ⟨m, hm⟩ : ∃ m, n + m = 10 := ⟨10 - n, by omega⟩
  rw [← hm, fold_split, fold_id m _ _ (fun k y h1 h2 => ?_)]
  · refine fold_congr n 0 0 (fun k y h1 h2 => ?_)
    rw [mask_bit, show decide (0 ≤ k) = true from by simp, show decide (k < 0 + n) = true from by simp; omega, Nat.zero_testBit, Bool.false_or, Bool.true_and, Bool.true_and]
  · rw [mask_bit, show decide (k < 0 + n) = false from by simp; omega, Nat.zero_testBit, Bool.and_false, Bool.false_and, Bool.or_false, if_neg (by decide)]
    rfl
theorem i32_ltk {n k : Nat} {x : Int32} (e : x = Int32.ofNat k) (h : n ≤ 2147483647) (hk : k ≤ 2147483647) : Int32.ofNat n < x ↔ n < k := by
  rw [e]; exact i32_lt h hk
section CK
variable {S : rc_S} {A : rc_A} {r : Nat}
theorem c_ownedL (h : rc_HR S r A) {c : Nat} (hc : c ≤ 1000) : ∀ (n k m fuel : Nat), k + n = A_nC A → n < fuel → (rp_X3_owned_L4 fuel (some r) (Int32.ofNat c) (Int32.ofNat m) (Int32.ofNat k)).1 S = some (.inl (Int32.ofNat (s_mask (fun k => A_ow A k == some c) n k m)), S) := by
  have ho1 := fun k hk => @c_owner S A r h k hk
  have hw := h.2.1
  have h8 := wf_8 hw
  have h10 := wf_10 hw
  obtain ⟨⟨l, h1, hcc, hgl, hkk, ht, ec, eg, ek, en⟩, -, hf⟩ := h
  intro n
  induction n with
  | zero =>
    intro k m fuel hk hfu
    obtain ⟨f, rfl⟩ := fuel_s hfu
    rw [rp_X3_owned_L4, rn_getq (ob_obj h1) rfl, rn_is (ob_obj hcc.1), rn_v (al_size hcc), ev_end (by omega) (by omega) (by omega)]
    rfl
  | succ n ih =>
    intro k m fuel hk hfu
    obtain ⟨f, rfl⟩ := fuel_s hfu
    have ho := wf_ow hw (k := k) (by omega)
    have e : (oi (A_ow A k) = Int32.ofNat c) ↔ A_ow A k = some c := oi_s (fun d hd => by have := ho d hd; omega) (by omega)
    rw [rp_X3_owned_L4, rn_getq (ob_obj h1) rfl, rn_is (ob_obj hcc.1), rn_v (al_size hcc), ev_on (by omega) (by omega) (by omega), rn_is (ob_obj h1), rn_v (ho1 k (by omega)), s_mask, s_fold]
    by_cases hq : A_ow A k = some c
    · rw [ev_t (e.mpr hq), rp_X3_owned_L34, shl_nat (by omega), or_nat, i32_succ, show (A_ow A k == some c) = true from by simpa using hq, if_pos rfl]
      exact ih (k + 1) _ f (by omega) (by omega)
    · rw [ev_f (fun q => hq (e.mp q)), rp_X3_owned_L34, show Int32.ofNat m ||| 0 = Int32.ofNat (m ||| 0) from or_nat m 0, i32_succ, show (A_ow A k == some c) = false from by simpa using hq, if_neg (by decide)]
      exact ih (k + 1) _ f (by omega) (by omega)
theorem c_owned (h : rc_HR S r A) {c : Nat} (hc : c ≤ 1000) : (rp_X3_owned (some r) (Int32.ofNat c)).1 S = some (.inl (Int32.ofNat (s_owned A c)), S) := by
  have hf := h.2.2
  have h10 := wf_10 h.2.1
  unfold rp_X3_owned
  rw [rn_fuel]
  exact c_ownedL h hc (A_nC A) 0 0 _ (by omega) (by omega)
theorem owned_lt (A : rc_A) (h : rc_WF A) (c : Nat) : s_owned A c < 1024 := by
  have h10 := wf_10 h
  have := mask_lt (fun k => A_ow A k == some c) (n := A_nC A)
  exact Nat.lt_of_lt_of_le this (Nat.pow_le_pow_right (by omega) h10 : 2 ^ A_nC A ≤ 2 ^ 10)
theorem owned_bits (A : rc_A) (h : rc_WF A) (c : Nat) : s_bits (s_owned A c) = s_owns A c := by
  unfold s_owned s_owns
  rw [bits_mask _ (wf_10 h)]
  refine fold_congr _ _ _ (fun k y h1 h2 => ?_)
  by_cases hq : A_ow A k = some c
  · simp [hq]
  · simp [hq]
theorem c_enough (h : rc_HR S r A) {c : Nat} (hc : c ≤ 1000) : (rp_X3_ownsEnough (some r) (Int32.ofNat c)).1 S = some (.inl (bi (decide (4 ≤ s_owns A c))), S) := by
  have ho := c_owned h hc
  have hw := h.2.1
  have h1 := owns10 hw c
  obtain ⟨⟨l, h1', -⟩, -⟩ := h
  unfold rp_X3_ownsEnough
  rw [rn_is (ob_obj h1'), rn_v ho, rn_v (bc_run _ S), bc_nat (owned_lt A hw c), owned_bits A hw]
  by_cases hq : 4 ≤ s_owns A c
  · rw [ev_f (fun q => by have := (i32_ltk (x := 4) (k := 4) rfl (by omega) (by omega)).mp q; omega)]
    simp [hq, bi, ev_pure]
  · rw [ev_t ((i32_ltk (x := 4) (k := 4) rfl (by omega) (by omega)).mpr (by omega))]
    simp [hq, bi, ev_pure]
theorem c_leaves (h : rc_HR S r A) {c : Nat} (hc : c < A_nK A) (h4 : s_owns A c ≤ 4) : (rp_X3_judgeClaim (some r) (Int32.ofNat c)).1 S = some (.inl (Int32.ofNat (s_leaves A c)), S) := by
  have hw := h.2.1
  have h8 := wf_8 hw
  have hs := wf_si hw hc
  have ho := wf_ow hw hs
  have he := c_enough h (c := c) (by omega)
  have ho1 := c_owner h hs
  have e : oi (A_ow A (A_si A c)) = -1 ↔ A_ow A (A_si A c) = none := oi_n (fun d hd => by have := ho d hd; omega)
  obtain ⟨⟨l, h1, hcc, hgl, hkk, ht, ec, eg, ek, en⟩, -, hf⟩ := h
  unfold rp_X3_judgeClaim s_leaves
  rw [rn_getq (ob_obj h1) rfl, rn_is (ob_obj hkk.1), rn_v (al_get hkk hc), rn_cast (ek c hc), rn_geti (ob_obj (ek c hc)) rfl, rn_is (ob_obj h1), rn_v ho1]
  by_cases hq : A_ow A (A_si A c) = none
  · rw [ev_t (e.mpr hq), rn_is (ob_obj h1), rn_v he, if_pos hq]
    by_cases hq4 : s_owns A c = 4
    · rw [hq4, if_pos rfl, ev_f (by decide)]; rfl
    · rw [show decide (4 ≤ s_owns A c) = false from by simp; omega, if_neg hq4, ev_t (show bi false = 0 from rfl)]; rfl
  · rw [ev_f (fun q => hq (e.mp q)), if_neg hq]; rfl
theorem c_spares (h : rc_HR S r A) {c t : Nat} (hc : c < A_nK A) (ht : t < A_nK A) (hct : c ≠ t) : (rp_X3_judgeChase (some r) (Int32.ofNat c) (Int32.ofNat t)).1 S = some (.inl (Int32.ofNat (s_spares A c t)), S) := by
  have hw := h.2.1
  have h8 := wf_8 hw
  have h10 := wf_10 hw
  have h20 := wf_20 hw
  have hkc := wf_c hw hc
  have hkt := wf_c hw ht
  have hf := h.2.2
  have hp1 := c_power h hc
  have hp2 := c_power h ht
  have hl1 := power_le hw hc
  have hl2 := power_le hw ht
  have htr := c_isTruce h (a := c) (b := t) (by omega) (by omega)
  have hne : A_si A c ≠ A_si A t := fun e => hct (hw.2.2.2.2.2.2.2.2.1 c t hc ht e)
  have hnr := fun x y hx hy => c_nearL h (x := x) (y := y) (gi := A_gi A c) (si := A_si A c) (sj := A_si A t) (s1 := A_st A c) (f1 := A_fi A c) (g2 := A_gi A t) (s2 := A_st A t) (f2 := A_fi A t) hx hy (by omega) (by omega) (by omega) (A_nG A) 0 (rc_kf (rc_k S)) (by omega) (by omega)
  obtain ⟨⟨l, h1, hcc, hgl, hkk, htt, ec, eg, ek, en⟩, -, -⟩ := h
  have e1 : (rp_X3_isNear (some r) (some (ly_kt l c)) (some (ly_kt l t))).1 S = some (.inl (bi (decide (A_gi A c ≤ s_wide A (A_si A c) (A_si A t)))), S) := by
    unfold rp_X3_isNear
    rw [rn_fuel, ← near_wide A hne hkc.1]
    exact hnr _ _ (ek c hc) (ek t ht)
  unfold rp_X3_judgeChase s_spares
  rw [rn_getq (ob_obj h1) rfl, rn_is (ob_obj hkk.1), rn_v (al_get hkk hc), rn_cast (ek c hc), rn_getq (ob_obj h1) rfl, rn_is (ob_obj hkk.1), rn_v (al_get hkk ht), rn_cast (ek t ht), rn_is (ob_obj h1), rn_v e1]
  by_cases hq : A_gi A c ≤ s_wide A (A_si A c) (A_si A t)
  · rw [show decide (A_gi A c ≤ s_wide A (A_si A c) (A_si A t)) = true from by simpa using hq, ev_f (by decide), rn_is (ob_obj h1), rn_v htr, if_pos hq]
    by_cases hz : s_truce A c t = 0
    · rw [hz, ev_t (show bi (decide (0 < 0)) = 0 from rfl), rn_is (ob_obj h1), rn_v hp1, rn_is (ob_obj h1), rn_v hp2, if_pos rfl]
      by_cases h3 : s_power A t < s_power A c
      · rw [ev_f (fun q => by have := (i32_le (by omega) (by omega)).mp q; omega), if_pos h3]; rfl
      · rw [ev_t ((i32_le (by omega) (by omega)).mpr (by omega)), if_neg h3]; rfl
    · rw [show decide (0 < s_truce A c t) = true from by simp; omega, ev_f (by decide), if_neg hz]; rfl
  · rw [show decide (A_gi A c ≤ s_wide A (A_si A c) (A_si A t)) = false from by simpa using hq, ev_t (show bi false = 0 from rfl), if_neg hq]; rfl
end CK
