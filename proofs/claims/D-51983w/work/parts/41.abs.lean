set_option maxRecDepth 100000
/-! THE ABSTRACT ROOF -/
/-- (chimneys, gutters, cats, night), warmth, owner, gutter (one, other, width), cat (girth, strength, fish, sits), kitten (girth, strength, voted, yes), (got, ate), truce ends -/
abbrev rc_A : Type := (Nat × Nat × Nat × Nat) × (Nat → Nat) × (Nat → Option Nat) × (Nat → Nat × Nat × Nat) × (Nat → Nat × Nat × Nat × Nat) × Option (Nat × Nat × Nat × Nat) × (Int32 × Int32) × (Nat → Nat → Nat)
abbrev A_nC (A : rc_A) : Nat := A.1.1
abbrev A_nG (A : rc_A) : Nat := A.1.2.1
abbrev A_nK (A : rc_A) : Nat := A.1.2.2.1
abbrev A_nt (A : rc_A) : Nat := A.1.2.2.2
abbrev A_wm (A : rc_A) : Nat → Nat := A.2.1
abbrev A_ow (A : rc_A) : Nat → Option Nat := A.2.2.1
abbrev A_gu (A : rc_A) : Nat → Nat × Nat × Nat := A.2.2.2.1
abbrev A_ct (A : rc_A) : Nat → Nat × Nat × Nat × Nat := A.2.2.2.2.1
abbrev A_kt (A : rc_A) : Option (Nat × Nat × Nat × Nat) := A.2.2.2.2.2.1
abbrev A_ga (A : rc_A) : Int32 × Int32 := A.2.2.2.2.2.2.1
abbrev A_tr (A : rc_A) : Nat → Nat → Nat := A.2.2.2.2.2.2.2
abbrev A_gi (A : rc_A) (c : Nat) : Nat := (A_ct A c).1
abbrev A_st (A : rc_A) (c : Nat) : Nat := (A_ct A c).2.1
abbrev A_fi (A : rc_A) (c : Nat) : Nat := (A_ct A c).2.2.1
abbrev A_si (A : rc_A) (c : Nat) : Nat := (A_ct A c).2.2.2
/-- none is told as -1 -/
def oi (o : Option Nat) : Int32 := match o with
  | none => -1
  | some k => Int32.ofNat k
def bi (b : Bool) : Int32 := if b then 1 else 0
/-- numbers in their bounds -/
def rc_WF (A : rc_A) : Prop := A_nC A ≤ 10 ∧ A_nG A ≤ 20 ∧ A_nK A ≤ 8 ∧ A_nt A ≤ 999 ∧ (∀ k, k < A_nC A → A_wm A k ≤ 9) ∧ (∀ k c, k < A_nC A → A_ow A k = some c → c < A_nK A) ∧
  (∀ g, g < A_nG A → (A_gu A g).1 < A_nC A ∧ (A_gu A g).2.1 < A_nC A ∧ (A_gu A g).1 ≠ (A_gu A g).2.1 ∧ 1 ≤ (A_gu A g).2.2 ∧ (A_gu A g).2.2 ≤ 9) ∧
  (∀ c, c < A_nK A → 1 ≤ A_gi A c ∧ A_gi A c ≤ 9 ∧ 1 ≤ A_st A c ∧ A_st A c ≤ 9 ∧ A_fi A c ≤ 99 ∧ A_si A c < A_nC A) ∧
  (∀ c d, c < A_nK A → d < A_nK A → A_si A c = A_si A d → c = d) ∧
  (∀ q, A_kt A = some q → 1 ≤ q.1 ∧ q.1 ≤ 9 ∧ 1 ≤ q.2.1 ∧ q.2.1 ≤ 9 ∧ q.2.2.1 < 2 ^ A_nK A ∧ q.2.2.2 &&& q.2.2.1 = q.2.2.2) ∧ (∀ a b, A_tr A a b ≤ 1019)
/-- the model's row of numbers w holds A -/
def rc_EN (A : rc_A) (w : Nat → Int32) : Prop := w 0 = Int32.ofNat (A_nC A) ∧ w 1 = Int32.ofNat (A_nG A) ∧ w 2 = Int32.ofNat (A_nK A) ∧ w 3 = Int32.ofNat (A_nt A) ∧
  (∀ k, k < A_nC A → w (10 + k) = Int32.ofNat (A_wm A k)) ∧ (∀ k, k < A_nC A → w (20 + k) = oi (A_ow A k)) ∧
  (∀ g, g < A_nG A → w (30 + 3 * g) = Int32.ofNat (A_gu A g).1 ∧ w (30 + 3 * g + 1) = Int32.ofNat (A_gu A g).2.1 ∧ w (30 + 3 * g + 2) = Int32.ofNat (A_gu A g).2.2) ∧
  (∀ c, c < A_nK A → w (90 + 4 * c) = Int32.ofNat (A_gi A c) ∧ w (90 + 4 * c + 1) = Int32.ofNat (A_st A c) ∧ w (90 + 4 * c + 2) = Int32.ofNat (A_fi A c) ∧ w (90 + 4 * c + 3) = Int32.ofNat (A_si A c)) ∧
  (match A_kt A with
    | none => w 4 = 0 ∧ w 5 = 0 ∧ w 6 = 0 ∧ w 7 = 0
    | some q => w 4 = Int32.ofNat q.1 ∧ w 5 = Int32.ofNat q.2.1 ∧ w 6 = Int32.ofNat q.2.2.1 ∧ w 7 = Int32.ofNat q.2.2.2) ∧
  w 8 = (A_ga A).1 ∧ w 9 = (A_ga A).2 ∧ (∀ a b, a < 8 → b < 8 → w (122 + 8 * a + b) = Int32.ofNat (A_tr A a b))
/-- the model stands and holds A -/
def rc_HM (S : rc_S) (A : rc_A) : Prop := rc_fl S = true ∧ rc_EN A (rc_g S 0) ∧ rc_WF A ∧ 1000000 ≤ rc_kf (rc_k S)
/-! what both sides tell of a roof -/
/-- the first of n from i on -/
def s_first (p : Nat → Bool) : Nat → Nat → Option Nat
  | 0, _ => none
  | n + 1, i => if p i then some i else s_first p n (i + 1)
def s_sit (A : rc_A) (k : Nat) : Option Nat := s_first (fun c => A_si A c == k) (A_nK A) 0
def s_home (A : rc_A) (c : Nat) : Bool := A_ow A (A_si A c) == some c
def s_power (A : rc_A) (c : Nat) : Nat := A_st A c + (if s_home A c then 2 else 0)
def s_truce (A : rc_A) (a b : Nat) : Nat := A_tr A a b - A_nt A
/-! leaves of the model -/
section MLV
variable {S : rc_S} {A : rc_A}
theorem m_of {c x : Nat} (h : rc_fl S = true) (hb : 90 + 4 * c + x < 186) : (rp_X9_of (Int32.ofNat c) (Int32.ofNat x)).1 S = some (.inl (rc_g S 0 (90 + 4 * c + x)), S) := by
  have e : (90 : Int32) + (4 : Int32) * Int32.ofNat c + Int32.ofNat x = Int32.ofNat (90 + 4 * c + x) := by
    rw [Int32.ofNat_add, Int32.ofNat_add, Int32.ofNat_mul]; rfl
  unfold rp_X9_of
  rw [e, rn_mald h (i32_in hb (by decide)), i32_cn (by omega)]
  rfl
theorem m_gutter {c x : Nat} (h : rc_fl S = true) (hb : 30 + 3 * c + x < 186) : (rp_X9_gutter (Int32.ofNat c) (Int32.ofNat x)).1 S = some (.inl (rc_g S 0 (30 + 3 * c + x)), S) := by
  have e : (30 : Int32) + (3 : Int32) * Int32.ofNat c + Int32.ofNat x = Int32.ofNat (30 + 3 * c + x) := by
    rw [Int32.ofNat_add, Int32.ofNat_add, Int32.ofNat_mul]; rfl
  unfold rp_X9_gutter
  rw [e, rn_mald h (i32_in hb (by decide)), i32_cn (by omega)]
  rfl
theorem m_w {i : Int32} {j : Nat} (e : i = Int32.ofNat j) (h : rc_fl S = true) (hj : j < 186) {α : Type} {f : Int32 → rc_M α} : (rc_bind (rc_mald 0 i) f).1 S = (f (rc_g S 0 j)).1 S := by
  rw [e, rn_mald h (i32_in hj (by decide)), i32_cn (by omega)]
theorem m_nC (h : rc_HM S A) {α : Type} {f : Int32 → rc_M α} : (rc_bind (rc_mald 0 0) f).1 S = (f (Int32.ofNat (A_nC A))).1 S := by
  rw [m_w (i := 0) (j := 0) rfl h.1 (by decide), h.2.1.1]
theorem m_nG (h : rc_HM S A) {α : Type} {f : Int32 → rc_M α} : (rc_bind (rc_mald 0 1) f).1 S = (f (Int32.ofNat (A_nG A))).1 S := by
  rw [m_w (i := 1) (j := 1) rfl h.1 (by decide), h.2.1.2.1]
theorem m_nK (h : rc_HM S A) {α : Type} {f : Int32 → rc_M α} : (rc_bind (rc_mald 0 2) f).1 S = (f (Int32.ofNat (A_nK A))).1 S := by
  rw [m_w (i := 2) (j := 2) rfl h.1 (by decide), h.2.1.2.2.1]
theorem m_nt (h : rc_HM S A) {α : Type} {f : Int32 → rc_M α} : (rc_bind (rc_mald 0 3) f).1 S = (f (Int32.ofNat (A_nt A))).1 S := by
  rw [m_w (i := 3) (j := 3) rfl h.1 (by decide), h.2.1.2.2.2.1]
theorem m_gi {c : Nat} (h : rc_HM S A) (hc : c < A_nK A) : (rp_X9_of (Int32.ofNat c) 0).1 S = some (.inl (Int32.ofNat (A_gi A c)), S) := by
  have hK := h.2.2.1.2.2.1
  have e : (rp_X9_of (Int32.ofNat c) 0).1 S = some (.inl (rc_g S 0 (90 + 4 * c + 0)), S) := m_of (x := 0) h.1 (by omega)
  rw [e]
  exact congrArg (fun z => some (Sum.inl z, S)) (h.2.1.2.2.2.2.2.2.2.1 c hc).1
theorem m_st {c : Nat} (h : rc_HM S A) (hc : c < A_nK A) : (rp_X9_of (Int32.ofNat c) 1).1 S = some (.inl (Int32.ofNat (A_st A c)), S) := by
  have hK := h.2.2.1.2.2.1
  have e : (rp_X9_of (Int32.ofNat c) 1).1 S = some (.inl (rc_g S 0 (90 + 4 * c + 1)), S) := m_of (x := 1) h.1 (by omega)
  rw [e, (h.2.1.2.2.2.2.2.2.2.1 c hc).2.1]
theorem m_fi {c : Nat} (h : rc_HM S A) (hc : c < A_nK A) : (rp_X9_of (Int32.ofNat c) 2).1 S = some (.inl (Int32.ofNat (A_fi A c)), S) := by
  have hK := h.2.2.1.2.2.1
  have e : (rp_X9_of (Int32.ofNat c) 2).1 S = some (.inl (rc_g S 0 (90 + 4 * c + 2)), S) := m_of (x := 2) h.1 (by omega)
  rw [e, (h.2.1.2.2.2.2.2.2.2.1 c hc).2.2.1]
theorem m_si {c : Nat} (h : rc_HM S A) (hc : c < A_nK A) : (rp_X9_of (Int32.ofNat c) 3).1 S = some (.inl (Int32.ofNat (A_si A c)), S) := by
  have hK := h.2.2.1.2.2.1
  have e : (rp_X9_of (Int32.ofNat c) 3).1 S = some (.inl (rc_g S 0 (90 + 4 * c + 3)), S) := m_of (x := 3) h.1 (by omega)
  rw [e, (h.2.1.2.2.2.2.2.2.2.1 c hc).2.2.2]
theorem m_g0 {g : Nat} (h : rc_HM S A) (hg : g < A_nG A) : (rp_X9_gutter (Int32.ofNat g) 0).1 S = some (.inl (Int32.ofNat (A_gu A g).1), S) := by
  have hG := h.2.2.1.2.1
  have e : (rp_X9_gutter (Int32.ofNat g) 0).1 S = some (.inl (rc_g S 0 (30 + 3 * g + 0)), S) := m_gutter (x := 0) h.1 (by omega)
  rw [e]
  exact congrArg (fun z => some (Sum.inl z, S)) (h.2.1.2.2.2.2.2.2.1 g hg).1
theorem m_g1 {g : Nat} (h : rc_HM S A) (hg : g < A_nG A) : (rp_X9_gutter (Int32.ofNat g) 1).1 S = some (.inl (Int32.ofNat (A_gu A g).2.1), S) := by
  have hG := h.2.2.1.2.1
  have e : (rp_X9_gutter (Int32.ofNat g) 1).1 S = some (.inl (rc_g S 0 (30 + 3 * g + 1)), S) := m_gutter (x := 1) h.1 (by omega)
  rw [e, (h.2.1.2.2.2.2.2.2.1 g hg).2.1]
theorem m_g2 {g : Nat} (h : rc_HM S A) (hg : g < A_nG A) : (rp_X9_gutter (Int32.ofNat g) 2).1 S = some (.inl (Int32.ofNat (A_gu A g).2.2), S) := by
  have hG := h.2.2.1.2.1
  have e : (rp_X9_gutter (Int32.ofNat g) 2).1 S = some (.inl (rc_g S 0 (30 + 3 * g + 2)), S) := m_gutter (x := 2) h.1 (by omega)
  rw [e, (h.2.1.2.2.2.2.2.2.1 g hg).2.2]
theorem m_owner {k : Nat} (h : rc_HM S A) (hk : k < A_nC A) : (rp_X9_owner (Int32.ofNat k)).1 S = some (.inl (oi (A_ow A k)), S) := by
  have hC := h.2.2.1.1
  unfold rp_X9_owner
  rw [m_w (j := 20 + k) (by rw [Int32.ofNat_add]; rfl) h.1 (by omega), h.2.1.2.2.2.2.2.1 k hk]
  rfl
theorem m_warm {k : Nat} (h : rc_HM S A) (hk : k < A_nC A) {α : Type} {f : Int32 → rc_M α} : (rc_bind (rc_mald 0 (10 + Int32.ofNat k)) f).1 S = (f (Int32.ofNat (A_wm A k))).1 S := by
  have hC := h.2.2.1.1
  rw [m_w (j := 10 + k) (by rw [Int32.ofNat_add]; rfl) h.1 (by omega), h.2.1.2.2.2.2.1 k hk]
/-- a loop's test at its end, and before -/
theorem ev_end {α : Type} {m n : Nat} (hm : m ≤ 2147483647) (hn : n ≤ 2147483647) (h : m ≤ n) {X Z : rc_M α} : (if Int32.ofNat m ≤ Int32.ofNat n then X else Z).1 S = X.1 S := by
  rw [if_pos ((i32_le hm hn).mpr h)]
theorem ev_on {α : Type} {m n : Nat} (hm : m ≤ 2147483647) (hn : n ≤ 2147483647) (h : n < m) {X Z : rc_M α} : (if Int32.ofNat m ≤ Int32.ofNat n then X else Z).1 S = Z.1 S := by
  rw [if_neg (fun q => by have := (i32_le hm hn).mp q; omega)]
theorem ev_t {α : Type} {c : Prop} [Decidable c] (h : c) {X Z : rc_M α} : (if c then X else Z).1 S = X.1 S := by
  rw [if_pos h]
theorem ev_f {α : Type} {c : Prop} [Decidable c] (h : ¬ c) {X Z : rc_M α} : (if c then X else Z).1 S = Z.1 S := by
  rw [if_neg h]
theorem fuel_s {n fuel : Nat} (h : n < fuel) : ∃ f, fuel = f + 1 := ⟨fuel - 1, by omega⟩
theorem m_sitterL (h : rc_HM S A) (k : Nat) (hk : k ≤ 1000) : ∀ (n c fuel : Nat), c + n = A_nK A → n < fuel → (rp_X9_sitter_L2 fuel (Int32.ofNat k) (Int32.ofNat c)).1 S = some (.inl (oi (s_first (fun c => A_si A c == k) n c)), S) := by
  have hK := h.2.2.1.2.2.1
  intro n
  induction n with
  | zero =>
    intro c fuel hc hf
    obtain ⟨f, rfl⟩ := fuel_s hf
    rw [rp_X9_sitter_L2, m_nK h, ev_end (by omega) (by omega) (by omega)]
    rfl
  | succ n ih =>
    intro c fuel hc hf
    obtain ⟨f, rfl⟩ := fuel_s hf
    have hs := (h.2.2.1.2.2.2.2.2.2.2.1 c (by omega)).2.2.2.2.2
    have hC := h.2.2.1.1
    rw [rp_X9_sitter_L2, m_nK h, ev_on (by omega) (by omega) (by omega), rn_v (m_si h (by omega)), s_first]
    by_cases hq : A_si A c = k
    · rw [ev_t (by rw [hq]), if_pos (by simpa using hq)]
      rfl
    · rw [ev_f (fun q => hq ((i32_eq (by omega) (by omega)).mp q)), if_neg (by simpa using hq), i32_succ]
      exact ih (c + 1) f (by omega) (by omega)
theorem m_sitter (h : rc_HM S A) {k : Nat} (hk : k ≤ 1000) : (rp_X9_sitter (Int32.ofNat k)).1 S = some (.inl (oi (s_sit A k)), S) := by
  have hK := h.2.2.1.2.2.1
  have hf := h.2.2.2
  unfold rp_X9_sitter
  rw [rn_fuel]
  exact m_sitterL h k hk (A_nK A) 0 _ (by omega) (by omega)
end MLV
