set_option maxRecDepth 100000
/-! QUERIES: what is told of a roof, and the model tells it -/
theorem oi_n {o : Option Nat} (h : ∀ k, o = some k → k ≤ 2147483647) : oi o = -1 ↔ o = none := by
  cases o with
  | none => simp [oi]
  | some k =>
    have hk := h k rfl
    simp only [oi, reduceCtorEq, iff_false]
    intro e
    have e1 := congrArg Int32.toInt e
    rw [Int32.toInt_ofNat_of_lt (by omega)] at e1
    have e2 : (-1 : Int32).toInt = -1 := by decide
    rw [e2] at e1
    omega
theorem oi_s {o : Option Nat} {c : Nat} (h : ∀ k, o = some k → k ≤ 2147483647) (hc : c ≤ 2147483647) : oi o = Int32.ofNat c ↔ o = some c := by
  cases o with
  | none =>
    simp only [oi, reduceCtorEq, iff_false]
    intro e
    have e1 := congrArg Int32.toInt e
    rw [Int32.toInt_ofNat_of_lt (by omega)] at e1
    have e2 : (-1 : Int32).toInt = -1 := by decide
    rw [e2] at e1
    omega
  | some k =>
    have hk := h k rfl
    simp only [oi, Option.some.injEq]
    exact i32_eq hk hc
theorem oi_none : oi none = -1 := rfl
theorem oi_some (k : Nat) : oi (some k) = Int32.ofNat k := rfl
theorem of_ne1 {k : Nat} (h : k ≤ 2147483647) : ¬ Int32.ofNat k = -1 := fun q => by
  have := (oi_n (o := some k) (fun j hj => by cases hj; exact h)).mp q
  cases this
theorem i32_z {n : Nat} (h : n ≤ 2147483647) : Int32.ofNat n = 0 ↔ n = 0 := i32_eq (n := 0) h (by omega)
theorem i32_le0 {n : Nat} (h : n ≤ 2147483647) : Int32.ofNat n ≤ 0 ↔ n = 0 := (i32_le (n := 0) h (by omega)).trans Nat.le_zero
theorem i32_pos {n : Nat} (h : n ≤ 2147483647) : 0 < Int32.ofNat n ↔ 0 < n := i32_lt (m := 0) (by omega) h
theorem i32_eqk {n k : Nat} {x : Int32} (e : x = Int32.ofNat k) (h : n ≤ 2147483647) (hk : k ≤ 2147483647) : Int32.ofNat n = x ↔ n = k := by
  rw [e]; exact i32_eq h hk
theorem s_first_lt {p : Nat → Bool} : ∀ (n i k : Nat), s_first p n i = some k → i ≤ k ∧ k < i + n ∧ p k = true
  | 0, i, k, h => by cases h
  | n + 1, i, k, h => by
    rw [s_first] at h
    split at h
    · rename_i hp
      cases h
      exact ⟨Nat.le_refl _, by omega, hp⟩
    · have := s_first_lt n (i + 1) k h
      exact ⟨by omega, by omega, this.2.2⟩
def s_fold {α : Type} (f : Nat → α → α) : Nat → Nat → α → α
  | 0, _, x => x
  | n + 1, i, x => s_fold f n (i + 1) (f i x)
def s_acr (A : rc_A) (g k : Nat) : Option Nat := if (A_gu A g).1 = k then some (A_gu A g).2.1 else if (A_gu A g).2.1 = k then some (A_gu A g).1 else none
def s_joins (A : rc_A) (g a b : Nat) : Bool := ((A_gu A g).1 == a && (A_gu A g).2.1 == b) || ((A_gu A g).1 == b && (A_gu A g).2.1 == a)
def s_wide (A : rc_A) (a b : Nat) : Nat := s_fold (fun g m => if s_joins A g a b then max m (A_gu A g).2.2 else m) (A_nG A) 0 0
def s_owns (A : rc_A) (c : Nat) : Nat := s_fold (fun k n => n + (if A_ow A k = some c then 1 else 0)) (A_nC A) 0 0
def s_tres (A : rc_A) (c k : Nat) : Nat := match A_ow A k with
  | none => 0
  | some d => if d = c then 0 else if s_truce A c d = 0 then 4 else 0
def s_notIn (A : rc_A) (c k : Nat) : Nat := match s_sit A k with
  | none => s_tres A c k
  | some d => if d = c then s_tres A c k else 3
def s_stays (A : rc_A) (c g : Nat) : Nat := match s_acr A g (A_si A c) with
  | none => 1
  | some k => if A_gi A c ≤ (A_gu A g).2.2 then s_notIn A c k else 2
def s_leaves (A : rc_A) (c : Nat) : Nat := if A_ow A (A_si A c) = none then (if s_owns A c = 4 then 6 else 0) else 5
def s_spares (A : rc_A) (c t : Nat) : Nat := if A_gi A c ≤ s_wide A (A_si A c) (A_si A t) then (if s_truce A c t = 0 then (if s_power A t < s_power A c then 0 else 9) else 8) else 7
section MQ
variable {S : rc_S} {A : rc_A}
theorem wf_ow (h : rc_WF A) {k : Nat} (hk : k < A_nC A) : ∀ d, A_ow A k = some d → d < A_nK A := fun d hd => h.2.2.2.2.2.1 k d hk hd
theorem wf_si (h : rc_WF A) {c : Nat} (hc : c < A_nK A) : A_si A c < A_nC A := (h.2.2.2.2.2.2.2.1 c hc).2.2.2.2.2
theorem wf_8 (h : rc_WF A) : A_nK A ≤ 8 := h.2.2.1
theorem wf_10 (h : rc_WF A) : A_nC A ≤ 10 := h.1
theorem wf_20 (h : rc_WF A) : A_nG A ≤ 20 := h.2.1
theorem wf_g (h : rc_WF A) {g : Nat} (hg : g < A_nG A) : (A_gu A g).1 < A_nC A ∧ (A_gu A g).2.1 < A_nC A ∧ (A_gu A g).1 ≠ (A_gu A g).2.1 ∧ 1 ≤ (A_gu A g).2.2 ∧ (A_gu A g).2.2 ≤ 9 := h.2.2.2.2.2.2.1 g hg
theorem wf_c (h : rc_WF A) {c : Nat} (hc : c < A_nK A) : 1 ≤ A_gi A c ∧ A_gi A c ≤ 9 ∧ 1 ≤ A_st A c ∧ A_st A c ≤ 9 ∧ A_fi A c ≤ 99 ∧ A_si A c < A_nC A := h.2.2.2.2.2.2.2.1 c hc
theorem sit_lt {k d : Nat} (h : s_sit A k = some d) : d < A_nK A ∧ A_si A d = k := by
  have := s_first_lt _ _ _ h
  exact ⟨by omega, by simpa using this.2.2⟩
theorem m_isHome (h : rc_HM S A) {c : Nat} (hc : c < A_nK A) : (rp_X9_isHome (Int32.ofNat c)).1 S = some (.inl (bi (s_home A c)), S) := by
  have h8 := wf_8 h.2.2.1
  have hs := wf_si h.2.2.1 hc
  have ho := wf_ow h.2.2.1 hs
  unfold rp_X9_isHome
  rw [rn_v (m_si h hc), rn_v (m_owner h hs)]
  have e : (oi (A_ow A (A_si A c)) = Int32.ofNat c) ↔ A_ow A (A_si A c) = some c := oi_s (fun k hk => by have := ho k hk; omega) (by omega)
  by_cases hq : A_ow A (A_si A c) = some c
  · rw [ev_t (e.mpr hq)]
    simp [s_home, hq, bi, ev_pure]
  · rw [ev_f (fun q => hq (e.mp q))]
    simp [s_home, hq, bi, ev_pure]
theorem m_power (h : rc_HM S A) {c : Nat} (hc : c < A_nK A) : (rp_X9_powerOf (Int32.ofNat c)).1 S = some (.inl (Int32.ofNat (s_power A c)), S) := by
  unfold rp_X9_powerOf
  rw [rn_v (m_st h hc), rn_v (m_isHome h hc)]
  by_cases hq : s_home A c = true
  · rw [ev_f (by rw [hq]; decide), s_power, if_pos hq, Int32.ofNat_add]
    rfl
  · have hq : s_home A c = false := by simpa using hq
    rw [ev_t (by rw [hq]; decide), s_power, hq]
    simp [ev_pure]
theorem max0_sub {a b : Nat} (ha : a ≤ 1000000) (hb : b ≤ 1000000) : (rp_J17_max (0 : Int32) (Int32.ofNat a - Int32.ofNat b)).1 S = some (.inl (Int32.ofNat (a - b)), S) := by
  unfold rp_J17_max
  have e : (Int32.ofNat a - Int32.ofNat b).toInt = (a : Int) - b := by
    rw [Int32.toInt_sub, Int32.toInt_ofNat_of_lt (by omega), Int32.toInt_ofNat_of_lt (by omega)]
    exact Int.bmod_eq_of_le (by omega) (by omega)
  by_cases hq : b < a
  · rw [ev_t (by rw [Int32.lt_iff_toInt_lt, e]; show (0 : Int) < _; omega), ev_pure]
    have : Int32.ofNat a - Int32.ofNat b = Int32.ofNat (a - b) := by
      rw [← Int32.toInt_inj, e, Int32.toInt_ofNat_of_lt (by omega)]
      omega
    rw [this]
  · rw [ev_f (by rw [Int32.lt_iff_toInt_lt, e]; show ¬ (0 : Int) < _; omega), ev_pure]
    rw [show a - b = 0 by omega]
    rfl
theorem m_truce (h : rc_HM S A) {a b : Nat} (ha : a < 8) (hb : b < 8) : (rp_X9_truceLeft (Int32.ofNat a) (Int32.ofNat b)).1 S = some (.inl (Int32.ofNat (s_truce A a b)), S) := by
  unfold rp_X9_truceLeft
  have ht := h.2.2.1.2.2.2.2.2.2.2.2.2.2 a b
  have hn := h.2.2.1.2.2.2.1
  rw [m_w (j := 122 + 8 * a + b) (by rw [Int32.ofNat_add, Int32.ofNat_add, Int32.ofNat_mul]; rfl) h.1 (by omega), m_nt h, h.2.1.2.2.2.2.2.2.2.2.2.2.2 a b ha hb, rn_v (max0_sub (by omega) (by omega))]
  rfl
theorem m_across (h : rc_HM S A) {g k : Nat} (hg : g < A_nG A) (hk : k ≤ 1000) : (rp_X9_across (Int32.ofNat g) (Int32.ofNat k)).1 S = some (.inl (oi (s_acr A g k)), S) := by
  have hC := wf_10 h.2.2.1
  have hw := wf_g h.2.2.1 hg
  unfold rp_X9_across s_acr
  rw [rn_v (m_g0 h hg)]
  by_cases h1 : (A_gu A g).1 = k
  · rw [ev_t (by rw [h1]), rn_v (m_g1 h hg), if_pos h1]
    rfl
  · rw [ev_f (fun q => h1 ((i32_eq (by omega) (by omega)).mp q)), rn_v (m_g1 h hg), if_neg h1]
    by_cases h2 : (A_gu A g).2.1 = k
    · rw [ev_t (by rw [h2]), rn_v (m_g0 h hg), if_pos h2]
      rfl
    · rw [ev_f (fun q => h2 ((i32_eq (by omega) (by omega)).mp q)), if_neg h2]
      rfl
theorem m_joins (h : rc_HM S A) {g a b : Nat} (hg : g < A_nG A) (ha : a ≤ 1000) (hb : b ≤ 1000) : (rp_X9_joins (Int32.ofNat g) (Int32.ofNat a) (Int32.ofNat b)).1 S = some (.inl (bi (s_joins A g a b)), S) := by
  have hC := wf_10 h.2.2.1
  have hw := wf_g h.2.2.1 hg
  have e20 : (rp_X9_joins_L20 (Int32.ofNat g) (Int32.ofNat a) (Int32.ofNat b)).1 S = some (.inl (bi ((A_gu A g).1 == b && (A_gu A g).2.1 == a)), S) := by
    unfold rp_X9_joins_L20
    rw [rn_v (m_g0 h hg)]
    by_cases h1 : (A_gu A g).1 = b
    · rw [ev_t (by rw [h1]), rn_v (m_g1 h hg)]
      by_cases h2 : (A_gu A g).2.1 = a
      · rw [ev_t (by rw [h2])]
        simp [h1, h2, bi, rp_X9_joins_L40, ev_pure]
      · rw [ev_f (fun q => h2 ((i32_eq (by omega) (by omega)).mp q))]
        simp [h2, bi, ev_pure]
    · rw [ev_f (fun q => h1 ((i32_eq (by omega) (by omega)).mp q))]
      simp [h1, bi, ev_pure]
  unfold rp_X9_joins s_joins
  rw [rn_v (m_g0 h hg)]
  by_cases h1 : (A_gu A g).1 = a
  · rw [ev_t (by rw [h1]), rn_v (m_g1 h hg)]
    by_cases h2 : (A_gu A g).2.1 = b
    · rw [ev_t (by rw [h2])]
      simp [h1, h2, bi, rp_X9_joins_L40, ev_pure]
    · rw [ev_f (fun q => h2 ((i32_eq (by omega) (by omega)).mp q)), e20, show ((A_gu A g).2.1 == b) = false from by simpa using h2, Bool.and_false]
      rfl
  · rw [ev_f (fun q => h1 ((i32_eq (by omega) (by omega)).mp q)), e20, show ((A_gu A g).1 == a) = false from by simpa using h1]
    rfl
theorem max_nat {a b : Nat} (ha : a ≤ 1000000) (hb : b ≤ 1000000) : (rp_J17_max (Int32.ofNat a) (Int32.ofNat b)).1 S = some (.inl (Int32.ofNat (max a b)), S) := by
  unfold rp_J17_max
  by_cases hq : a < b
  · rw [ev_t ((i32_lt (by omega) (by omega)).mpr hq), Nat.max_eq_right (by omega)]; rfl
  · rw [ev_f (fun q => hq ((i32_lt (by omega) (by omega)).mp q)), Nat.max_eq_left (by omega)]; rfl
theorem m_wideL (h : rc_HM S A) {a b : Nat} (ha : a ≤ 1000) (hb : b ≤ 1000) : ∀ (n g m fuel : Nat), g + n = A_nG A → n < fuel → m ≤ 9 → (rp_X9_widestBetween_L5 fuel (Int32.ofNat a) (Int32.ofNat b) (Int32.ofNat m) (Int32.ofNat g)).1 S = some (.inl (Int32.ofNat (s_fold (fun g m => if s_joins A g a b then max m (A_gu A g).2.2 else m) n g m)), S) := by
  have hG := wf_20 h.2.2.1
  intro n
  induction n with
  | zero =>
    intro g m fuel hc hf hm
    obtain ⟨f, rfl⟩ := fuel_s hf
    rw [rp_X9_widestBetween_L5, m_nG h, ev_end (by omega) (by omega) (by omega)]
    rfl
  | succ n ih =>
    intro g m fuel hc hf hm
    obtain ⟨f, rfl⟩ := fuel_s hf
    have hw := wf_g h.2.2.1 (g := g) (by omega)
    rw [rp_X9_widestBetween_L5, m_nG h, ev_on (by omega) (by omega) (by omega), rn_v (m_joins h (by omega) ha hb), s_fold]
    by_cases hq : s_joins A g a b = true
    · rw [ev_f (by rw [hq]; decide), rn_v (m_g2 h (by omega)), rn_v (max_nat (by omega) (by omega)), if_pos hq, rp_X9_widestBetween_L42, i32_succ]
      exact ih (g + 1) _ f (by omega) (by omega) (by omega)
    · have hq : s_joins A g a b = false := by simpa using hq
      rw [ev_t (by rw [hq]; decide), hq, rp_X9_widestBetween_L42, i32_succ]
      exact ih (g + 1) m f (by omega) (by omega) hm
theorem m_wide (h : rc_HM S A) {a b : Nat} (ha : a ≤ 1000) (hb : b ≤ 1000) : (rp_X9_widestBetween (Int32.ofNat a) (Int32.ofNat b)).1 S = some (.inl (Int32.ofNat (s_wide A a b)), S) := by
  have hG := wf_20 h.2.2.1
  have hf := h.2.2.2
  unfold rp_X9_widestBetween
  rw [rn_fuel]
  exact m_wideL h ha hb (A_nG A) 0 0 _ (by omega) (by omega) (by omega)
theorem m_notIn (h : rc_HM S A) {c k : Nat} (hc : c < A_nK A) (hk : k < A_nC A) : (rp_X9_whyNotIn (Int32.ofNat c) (Int32.ofNat k)).1 S = some (.inl (Int32.ofNat (s_notIn A c k)), S) := by
  have h8 := wf_8 h.2.2.1
  have hC := wf_10 h.2.2.1
  have ho := wf_ow h.2.2.1 hk
  have e18 : (rp_X9_whyNotIn_L18 (Int32.ofNat c) (Int32.ofNat k)).1 S = some (.inl (Int32.ofNat (s_tres A c k)), S) := by
    unfold rp_X9_whyNotIn_L18 s_tres
    rw [rn_v (m_owner h hk)]
    cases ho2 : A_ow A k with
    | none => rw [oi_none, ev_t rfl]; rfl
    | some d =>
      have hd := ho d ho2
      rw [oi_some, ev_f (of_ne1 (by omega))]
      by_cases hdc : d = c
      · rw [ev_t (by rw [hdc])]
        simp [hdc, ev_pure]
      · rw [ev_f (fun q => hdc ((i32_eq (by omega) (by omega)).mp q))]
        rw [rn_v (m_truce h (a := c) (b := d) (by omega) (by omega))]
        have ht := h.2.2.1.2.2.2.2.2.2.2.2.2.2 c d
        by_cases hz : s_truce A c d = 0
        · rw [ev_t (by rw [hz]; rfl)]
          simp [hdc, hz, ev_pure]
        · rw [ev_f (fun q => hz ((i32_z (by unfold s_truce; omega)).mp q))]
          simp [hdc, hz, ev_pure]
  unfold rp_X9_whyNotIn s_notIn
  rw [rn_v (m_sitter h (by omega))]
  cases hs : s_sit A k with
  | none => rw [oi_none, ev_t rfl, e18]
  | some d =>
    have hd := sit_lt hs
    rw [oi_some, ev_f (of_ne1 (by omega))]
    by_cases hdc : d = c
    · rw [ev_t (by rw [hdc]), e18]
      simp [hdc]
    · rw [ev_f (fun q => hdc ((i32_eq (by omega) (by omega)).mp q))]
      simp [hdc, ev_pure]
theorem acr_lt (h : rc_WF A) {g k d : Nat} (hg : g < A_nG A) (e : s_acr A g k = some d) : d < A_nC A := by
  have hw := wf_g h hg
  unfold s_acr at e
  split at e
  · cases e; exact hw.2.1
  · split at e
    · cases e; exact hw.1
    · cases e
theorem m_stays (h : rc_HM S A) {c g : Nat} (hc : c < A_nK A) (hg : g < A_nG A) : (rp_X9_whyStays (Int32.ofNat c) (Int32.ofNat g)).1 S = some (.inl (Int32.ofNat (s_stays A c g)), S) := by
  have hC := wf_10 h.2.2.1
  have hs := wf_si h.2.2.1 hc
  have hw := wf_g h.2.2.1 hg
  have hk := wf_c h.2.2.1 hc
  unfold rp_X9_whyStays s_stays
  rw [rn_v (m_si h hc), rn_v (m_across h hg (by omega))]
  cases e : s_acr A g (A_si A c) with
  | none => rw [oi_none, ev_t rfl]; rfl
  | some d =>
    have hd := acr_lt h.2.2.1 hg e
    rw [oi_some, ev_f (of_ne1 (by omega)), rn_v (m_g2 h hg), rn_v (m_gi h hc)]
    dsimp only
    by_cases hq : A_gi A c ≤ (A_gu A g).2.2
    · rw [ev_t ((i32_le (by omega) (by omega)).mpr hq), rn_v (m_notIn h hc hd), if_pos hq]
      rfl
    · rw [ev_f (fun q => hq ((i32_le (by omega) (by omega)).mp q)), if_neg hq]
      rfl
theorem owns_le : ∀ (n k m c : Nat), s_fold (fun k n => n + (if A_ow A k = some c then 1 else 0)) n k m ≤ m + n
  | 0, k, m, c => Nat.le_refl _
  | n + 1, k, m, c => by
    rw [s_fold]
    have := owns_le n (k + 1) (m + (if A_ow A k = some c then 1 else 0)) c
    have h2 : (if A_ow A k = some c then 1 else 0 : Nat) ≤ 1 := by split <;> omega
    exact Nat.le_trans this (by omega)
theorem m_ownsL (h : rc_HM S A) {c : Nat} (hc : c ≤ 1000) : ∀ (n k m fuel : Nat), k + n = A_nC A → n < fuel → m ≤ k → (rp_X9_owns_L4 fuel (Int32.ofNat c) (Int32.ofNat m) (Int32.ofNat k)).1 S = some (.inl (Int32.ofNat (s_fold (fun k n => n + (if A_ow A k = some c then 1 else 0)) n k m)), S) := by
  have hC := wf_10 h.2.2.1
  have h8 := wf_8 h.2.2.1
  intro n
  induction n with
  | zero =>
    intro k m fuel hk hf hm
    obtain ⟨f, rfl⟩ := fuel_s hf
    rw [rp_X9_owns_L4, m_nC h, ev_end (by omega) (by omega) (by omega)]
    rfl
  | succ n ih =>
    intro k m fuel hk hf hm
    obtain ⟨f, rfl⟩ := fuel_s hf
    have ho := wf_ow h.2.2.1 (k := k) (by omega)
    have e : (oi (A_ow A k) = Int32.ofNat c) ↔ A_ow A k = some c := oi_s (fun d hd => by have := ho d hd; omega) (by omega)
    rw [rp_X9_owns_L4, m_nC h, ev_on (by omega) (by omega) (by omega), rn_v (m_owner h (by omega)), s_fold]
    by_cases hq : A_ow A k = some c
    · rw [ev_t (e.mpr hq), rp_X9_owns_L29, if_pos hq, i32_succ (n := m), i32_succ (n := k)]
      exact ih (k + 1) (m + 1) f (by omega) (by omega) (by omega)
    · rw [ev_f (fun q => hq (e.mp q)), rp_X9_owns_L29, if_neg hq, i32_succ (n := k), show Int32.ofNat m + 0 = Int32.ofNat (m + 0) from (Int32.add_zero _)]
      exact ih (k + 1) (m + 0) f (by omega) (by omega) (by omega)
theorem m_owns (h : rc_HM S A) {c : Nat} (hc : c ≤ 1000) : (rp_X9_owns (Int32.ofNat c)).1 S = some (.inl (Int32.ofNat (s_owns A c)), S) := by
  have hC := wf_10 h.2.2.1
  have hf := h.2.2.2
  unfold rp_X9_owns
  rw [rn_fuel]
  exact m_ownsL h hc (A_nC A) 0 0 _ (by omega) (by omega) (by omega)
theorem owns10 (h : rc_WF A) (c : Nat) : s_owns A c ≤ 10 := by
  have := owns_le (A := A) (A_nC A) 0 0 c
  have := wf_10 h
  unfold s_owns
  omega
theorem m_leaves (h : rc_HM S A) {c : Nat} (hc : c < A_nK A) : (rp_X9_whyLeaves (Int32.ofNat c)).1 S = some (.inl (Int32.ofNat (s_leaves A c)), S) := by
  have h8 := wf_8 h.2.2.1
  have hs := wf_si h.2.2.1 hc
  have ho := wf_ow h.2.2.1 hs
  have h10 := owns10 h.2.2.1 c
  have e : oi (A_ow A (A_si A c)) = -1 ↔ A_ow A (A_si A c) = none := oi_n (fun d hd => by have := ho d hd; omega)
  unfold rp_X9_whyLeaves s_leaves
  rw [rn_v (m_si h hc), rn_v (m_owner h hs)]
  by_cases hq : A_ow A (A_si A c) = none
  · rw [ev_t (e.mpr hq), rn_v (m_owns h (by omega)), if_pos hq]
    by_cases h4 : s_owns A c = 4
    · rw [ev_t ((i32_eqk (x := 4) (k := 4) rfl (by omega) (by omega)).mpr h4), if_pos h4]; rfl
    · rw [ev_f (fun q => h4 ((i32_eqk (x := 4) (k := 4) rfl (by omega) (by omega)).mp q)), if_neg h4]; rfl
  · rw [ev_f (fun q => hq (e.mp q)), if_neg hq]; rfl
theorem wide_le (h : rc_WF A) {a b : Nat} : ∀ (n g m : Nat), g + n = A_nG A → m ≤ 9 → s_fold (fun g m => if s_joins A g a b then max m (A_gu A g).2.2 else m) n g m ≤ 9
  | 0, g, m, _, hm => hm
  | n + 1, g, m, hg, hm => by
    rw [s_fold]
    have hw := wf_g h (g := g) (by omega)
    exact wide_le h n (g + 1) _ (by omega) (by split <;> omega)
theorem wide9 (h : rc_WF A) (a b : Nat) : s_wide A a b ≤ 9 := wide_le h _ _ _ (by omega) (by omega)
theorem power_le (h : rc_WF A) {c : Nat} (hc : c < A_nK A) : s_power A c ≤ 11 := by
  have := wf_c h hc
  unfold s_power
  split <;> omega
theorem m_spares (h : rc_HM S A) {c t : Nat} (hc : c < A_nK A) (ht : t < A_nK A) : (rp_X9_whySpares (Int32.ofNat c) (Int32.ofNat t)).1 S = some (.inl (Int32.ofNat (s_spares A c t)), S) := by
  have hC := wf_10 h.2.2.1
  have h8 := wf_8 h.2.2.1
  have hk := wf_c h.2.2.1 hc
  have hk2 := wf_c h.2.2.1 ht
  have hw := wide9 h.2.2.1 (A_si A c) (A_si A t)
  have htr := h.2.2.1.2.2.2.2.2.2.2.2.2.2 c t
  have hp1 := power_le h.2.2.1 hc
  have hp2 := power_le h.2.2.1 ht
  have hst : s_truce A c t ≤ 1019 := by unfold s_truce; omega
  unfold rp_X9_whySpares s_spares
  rw [rn_v (m_si h hc), rn_v (m_si h ht), rn_v (m_wide h (by omega) (by omega)), rn_v (m_gi h hc)]
  by_cases h1 : A_gi A c ≤ s_wide A (A_si A c) (A_si A t)
  · rw [ev_t ((i32_le (by omega) (by omega)).mpr h1), if_pos h1, rn_v (m_truce h (by omega) (by omega))]
    by_cases h2 : s_truce A c t = 0
    · rw [ev_t ((i32_le0 (by omega)).mpr h2), if_pos h2, rn_v (m_power h hc), rn_v (m_power h ht)]
      by_cases h3 : s_power A t < s_power A c
      · rw [ev_t ((i32_lt (by omega) (by omega)).mpr h3), if_pos h3]; rfl
      · rw [ev_f (fun q => h3 ((i32_lt (by omega) (by omega)).mp q)), if_neg h3]; rfl
    · rw [ev_f (fun q => h2 ((i32_le0 (by omega)).mp q)), if_neg h2]; rfl
  · rw [ev_f (fun q => h1 ((i32_le (by omega) (by omega)).mp q)), if_neg h1]; rfl
end MQ
