set_option maxRecDepth 100000
/-! THE COMPONENT'S ROOF: its picture, and what it tells -/
/-- where a roof's parts lie: lists (object, array, places, modCount) of chimneys, gutters, cats; truces; kitten; the chimneys, gutters, cats -/
abbrev rc_LY : Type := ((Nat × Nat × Nat × Int32) × (Nat × Nat × Nat × Int32) × (Nat × Nat × Nat × Int32)) × (Nat × Option Nat) × (Nat → Nat) × (Nat → Nat) × (Nat → Nat)
abbrev ly_c (l : rc_LY) := l.1.1
abbrev ly_g (l : rc_LY) := l.1.2.1
abbrev ly_k (l : rc_LY) := l.1.2.2
abbrev ly_tr (l : rc_LY) : Nat := l.2.1.1
abbrev ly_kn (l : rc_LY) : Option Nat := l.2.1.2
abbrev ly_ch (l : rc_LY) : Nat → Nat := l.2.2.1
abbrev ly_gt (l : rc_LY) : Nat → Nat := l.2.2.2.1
abbrev ly_kt (l : rc_LY) : Nat → Nat := l.2.2.2.2
def rc_RP (S : rc_S) (r : Nat) (A : rc_A) (l : rc_LY) : Prop :=
  S.1 r = some (.inr (2, [rc_q (some (ly_c l).1), rc_q (some (ly_g l).1), rc_q (some (ly_k l).1), rc_q (some (ly_tr l)), rc_q (ly_kn l), rc_i (Int32.ofNat (A_nt A)), rc_i (A_ga A).1, rc_i (A_ga A).2])) ∧
  rc_isL S (ly_c l).1 (A_nC A) (ly_ch l) (ly_c l).2.2.2 (ly_c l).2.1 (ly_c l).2.2.1 ∧ rc_isL S (ly_g l).1 (A_nG A) (ly_gt l) (ly_g l).2.2.2 (ly_g l).2.1 (ly_g l).2.2.1 ∧ rc_isL S (ly_k l).1 (A_nK A) (ly_kt l) (ly_k l).2.2.2 (ly_k l).2.1 (ly_k l).2.2.1 ∧
  (∃ F : Nat → Int32, S.1 (ly_tr l) = some (.inl (0, (64, .inl F))) ∧ ∀ a b, a < 8 → b < 8 → F (8 * a + b) = Int32.ofNat (A_tr A a b)) ∧
  (∀ k, k < A_nC A → S.1 (ly_ch l k) = some (.inr (4, [rc_i (Int32.ofNat (A_wm A k)), rc_i (oi (A_ow A k))]))) ∧
  (∀ g, g < A_nG A → S.1 (ly_gt l g) = some (.inr (5, [rc_i (Int32.ofNat (A_gu A g).1), rc_i (Int32.ofNat (A_gu A g).2.1), rc_i (Int32.ofNat (A_gu A g).2.2)]))) ∧
  (∀ c, c < A_nK A → S.1 (ly_kt l c) = some (.inr (6, [rc_i (Int32.ofNat (A_gi A c)), rc_i (Int32.ofNat (A_st A c)), rc_i (Int32.ofNat (A_si A c)), rc_i (Int32.ofNat (A_fi A c))]))) ∧
  (match A_kt A with
    | none => ly_kn l = none
    | some q => ∃ a, ly_kn l = some a ∧ S.1 a = some (.inr (7, [rc_i (Int32.ofNat q.1), rc_i (Int32.ofNat q.2.1), rc_i (Int32.ofNat q.2.2.2), rc_i (Int32.ofNat (q.2.2.1 ^^^ q.2.2.2))])))
/-- the roof r holds A -/
def rc_HR (S : rc_S) (r : Nat) (A : rc_A) : Prop := (∃ l, rc_RP S r A l) ∧ rc_WF A ∧ 1000000 ≤ rc_kf (rc_k S)
theorem rn_cast {S : rc_S} {α : Type} {ci a : Nat} {fs : List rc_V} {f : Unit → rc_M α} (h : S.1 a = some (.inr (ci, fs))) : (rc_bind (rc_castM ci (some a)) f).1 S = (f ()).1 S := by
  rw [ev_bind, rc_castM, ev_read]
  simp [ob_obj h, ev_o1, ev_sqi]
section CQ
variable {S : rc_S} {A : rc_A} {r : Nat}
theorem c_owner (h : rc_HR S r A) {k : Nat} (hk : k < A_nC A) : (rp_X3_owner (some r) (Int32.ofNat k)).1 S = some (.inl (oi (A_ow A k)), S) := by
  obtain ⟨⟨l, h1, hc, hg, hkk, ht, ec, eg, ek, en⟩, hw, hf⟩ := h
  unfold rp_X3_owner
  rw [rn_getq (ob_obj h1) rfl, rn_is (ob_obj hc.1), rn_v (al_get hc hk), rn_cast (ec k hk), rn_geti (ob_obj (ec k hk)) rfl]
  rfl
theorem c_catOnL (h : rc_HR S r A) {k : Nat} (hk : k ≤ 1000) : ∀ (n c fuel : Nat), c + n = A_nK A → n < fuel → (rp_X3_catOn_L2 fuel (some r) (Int32.ofNat k) (Int32.ofNat c)).1 S = some (.inl (oi (s_first (fun c => A_si A c == k) n c)), S) := by
  obtain ⟨⟨l, h1, hc, hg, hkk, ht, ec, eg, ek, en⟩, hw, hf⟩ := h
  have h8 := wf_8 hw
  have h10 := wf_10 hw
  intro n
  induction n with
  | zero =>
    intro c fuel hcn hfu
    obtain ⟨f, rfl⟩ := fuel_s hfu
    rw [rp_X3_catOn_L2, rn_getq (ob_obj h1) rfl, rn_is (ob_obj hkk.1), rn_v (al_size hkk), ev_end (by omega) (by omega) (by omega)]
    rfl
  | succ n ih =>
    intro c fuel hcn hfu
    obtain ⟨f, rfl⟩ := fuel_s hfu
    have hs := wf_si hw (c := c) (by omega)
    rw [rp_X3_catOn_L2, rn_getq (ob_obj h1) rfl, rn_is (ob_obj hkk.1), rn_v (al_size hkk), ev_on (by omega) (by omega) (by omega), rn_getq (ob_obj h1) rfl, rn_is (ob_obj hkk.1), rn_v (al_get hkk (by omega)), rn_cast (ek c (by omega)), rn_geti (ob_obj (ek c (by omega))) rfl, s_first]
    by_cases hq : A_si A c = k
    · rw [ev_t (by rw [hq]), if_pos (by simpa using hq)]
      rfl
    · rw [ev_f (fun q => hq ((i32_eq (by omega) (by omega)).mp q)), if_neg (by simpa using hq), i32_succ]
      exact ih (c + 1) f (by omega) (by omega)
theorem c_catOn (h : rc_HR S r A) {k : Nat} (hk : k ≤ 1000) : (rp_X3_catOn (some r) (Int32.ofNat k)).1 S = some (.inl (oi (s_sit A k)), S) := by
  have h8 := wf_8 h.2.1
  have hf := h.2.2
  unfold rp_X3_catOn
  rw [rn_fuel]
  exact c_catOnL h hk (A_nK A) 0 _ (by omega) (by omega)
theorem c_isHome (h : rc_HR S r A) {c : Nat} (hc : c < A_nK A) : (rp_X3_isHome (some r) (Int32.ofNat c)).1 S = some (.inl (bi (s_home A c)), S) := by
  have ho1 := @c_owner S A r h
  obtain ⟨⟨l, h1, hcc, hg, hkk, ht, ec, eg, ek, en⟩, hw, hf⟩ := h
  have h8 := wf_8 hw
  have hs := wf_si hw hc
  have ho := wf_ow hw hs
  unfold rp_X3_isHome
  rw [rn_getq (ob_obj h1) rfl, rn_is (ob_obj hkk.1), rn_v (al_get hkk hc), rn_cast (ek c hc), rn_geti (ob_obj (ek c hc)) rfl, rn_is (ob_obj h1), rn_v (ho1 hs)]
  have e : (oi (A_ow A (A_si A c)) = Int32.ofNat c) ↔ A_ow A (A_si A c) = some c := oi_s (fun k hk => by have := ho k hk; omega) (by omega)
  by_cases hq : A_ow A (A_si A c) = some c
  · rw [ev_t (e.mpr hq)]
    simp [s_home, hq, bi, ev_pure]
  · rw [ev_f (fun q => hq (e.mp q))]
    simp [s_home, hq, bi, ev_pure]
theorem c_power (h : rc_HR S r A) {c : Nat} (hc : c < A_nK A) : (rp_X3_power (some r) (Int32.ofNat c)).1 S = some (.inl (Int32.ofNat (s_power A c)), S) := by
  have hh := @c_isHome S A r h
  obtain ⟨⟨l, h1, hcc, hg, hkk, ht, ec, eg, ek, en⟩, hw, hf⟩ := h
  unfold rp_X3_power
  rw [rn_getq (ob_obj h1) rfl, rn_is (ob_obj hkk.1), rn_v (al_get hkk hc), rn_cast (ek c hc), rn_geti (ob_obj (ek c hc)) rfl, rn_is (ob_obj h1), rn_v (hh hc)]
  by_cases hq : s_home A c = true
  · rw [ev_f (by rw [hq]; decide), s_power, if_pos hq, Int32.ofNat_add]
    rfl
  · have hq : s_home A c = false := by simpa using hq
    rw [ev_t (by rw [hq]; decide), s_power, hq]
    simp [ev_pure]
theorem c_truce (h : rc_HR S r A) {a b : Nat} (ha : a < 8) (hb : b < 8) : (rp_X3_truceNights (some r) (Int32.ofNat a) (Int32.ofNat b)).1 S = some (.inl (Int32.ofNat (s_truce A a b)), S) := by
  obtain ⟨⟨l, h1, hcc, hg, hkk, ⟨F, ht1, ht2⟩, ec, eg, ek, en⟩, hw, hf⟩ := h
  have ht := hw.2.2.2.2.2.2.2.2.2.2 a b
  have hn := hw.2.2.2.1
  have e : Int32.ofNat a * (8 : Int32) + Int32.ofNat b = Int32.ofNat (8 * a + b) := by
    rw [Int32.ofNat_add, Int32.ofNat_mul, Int32.mul_comm]; rfl
  unfold rp_X3_truceNights
  rw [rn_getq (ob_obj h1) rfl, e, rn_ald (ob_arr ht1) (i32_in (by omega) (by omega)), i32_cn (by omega), ht2 a b ha hb, rn_geti (ob_obj h1) rfl, rn_v (max0_sub (by omega) (by omega))]
  rfl
theorem c_isTruce (h : rc_HR S r A) {a b : Nat} (ha : a < 8) (hb : b < 8) : (rp_X3_isTruce (some r) (Int32.ofNat a) (Int32.ofNat b)).1 S = some (.inl (bi (decide (0 < s_truce A a b))), S) := by
  have h0 := c_truce h ha hb
  obtain ⟨⟨l, h1, -⟩, hw, hf⟩ := h
  have ht := hw.2.2.2.2.2.2.2.2.2.2 a b
  have hst : s_truce A a b ≤ 1019 := by unfold s_truce; omega
  unfold rp_X3_isTruce
  rw [rn_is (ob_obj h1), rn_v h0]
  by_cases hq : s_truce A a b = 0
  · rw [ev_t ((i32_le0 (by omega)).mpr hq), hq]
    rfl
  · rw [ev_f (fun q => hq ((i32_le0 (by omega)).mp q))]
    simp [bi, ev_pure, show 0 < s_truce A a b by omega]
end CQ
