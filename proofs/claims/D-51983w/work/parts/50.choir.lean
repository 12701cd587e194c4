set_option maxRecDepth 100000
/-! THE CHOIR, by both sides -/
theorem bit01 {m k : Nat} (h : m < 1024) (hk : k < 10) : (((Int32.ofNat m >>> (Int32.ofNat k &&& 31)) &&& (1 : Int32)) = (1 : Int32)) ↔ m.testBit k = true := by
  rw [bit_nat h hk]
  cases m.testBit k <;> decide
def g_old (m _ : Nat) : Nat := m
def g_now (_ x : Nat) : Nat := x
theorem g_old_ok : ∀ m x, s_sub m x → s_sub m (g_old m x) ∧ s_sub (g_old m x) x := fun m x h => ⟨sub_rf m, h⟩
theorem g_now_ok : ∀ m x, s_sub m x → s_sub m (g_now m x) ∧ s_sub (g_now m x) x := fun m x h => ⟨h, sub_rf x⟩
section CH
variable {S : rc_S} {A : rc_A} {r : Nat}
/-- the model's innermost loop -/
theorem m_choir33 (h : rc_HM S A) {k6 : Int32 → Int32 → rc_M Int32} {k19 : Int32 → Int32 → Int32 → rc_M Int32} {i t : Nat} (hi : i < A_nK A) : ∀ (n j x fuel : Nat), j + n = A_nK A → n < fuel → x < 2 ^ A_nK A →
    (rp_X9_choir_L33 k6 k19 fuel (Int32.ofNat x) (Int32.ofNat t) (Int32.ofNat i) (Int32.ofNat j)).1 S = (k19 (Int32.ofNat (s_fold (fun j x => x ||| (if x.testBit i && s_sing A i j then 1 <<< j else 0)) n j x)) (Int32.ofNat t) (Int32.ofNat (i + 1))).1 S := by
  have h8 := wf_8 h.2.2.1
  have h10 := wf_10 h.2.2.1
  have hsi := wf_si h.2.2.1 hi
  have h2 : (2 : Nat) ^ A_nK A ≤ 256 := Nat.pow_le_pow_right (by omega) h8
  intro n
  induction n with
  | zero =>
    intro j x fuel hj hf hx
    obtain ⟨f, rfl⟩ := fuel_s hf
    rw [rp_X9_choir_L33, m_nK h, ev_end (by omega) (by omega) (by omega), i32_succ]
    rfl
  | succ n ih =>
    intro j x fuel hj hf hx
    obtain ⟨f, rfl⟩ := fuel_s hf
    have hsj := wf_si h.2.2.1 (c := j) (by omega)
    have hw := wide9 h.2.2.1 (A_si A i) (A_si A j)
    have hl : (x ||| (if x.testBit i && s_sing A i j then 1 <<< j else 0)) < 2 ^ A_nK A := or_lt hx (by omega)
    rw [rp_X9_choir_L33, m_nK h, ev_on (by omega) (by omega) (by omega), s_fold]
    by_cases hb : x.testBit i = true
    · rw [ev_t ((bit01 (by omega) (by omega)).mpr hb), rn_v (m_si h hi), rn_v (m_si h (c := j) (by omega)), rn_v (m_wide h (by omega) (by omega))]
      by_cases hs : 1 ≤ s_wide A (A_si A i) (A_si A j)
      · have e : s_sing A i j = true := by simpa [s_sing] using hs
        rw [ev_f (fun q => by have := (i32_le0 (by omega)).mp q; omega), rp_X9_choir_L80, ev_f (by decide), rp_X9_choir_L96, shl_nat (by omega), or_nat, i32_succ]
        rw [hb, e] at hl ⊢
        exact ih (j + 1) _ f (by omega) (by omega) hl
      · have e : s_sing A i j = false := by simpa [s_sing] using hs
        rw [ev_t ((i32_le0 (by omega)).mpr (by omega)), rp_X9_choir_L79, rp_X9_choir_L80, ev_t rfl, rp_X9_choir_L96, show Int32.ofNat x ||| 0 = Int32.ofNat (x ||| 0) from or_nat x 0, i32_succ]
        rw [hb, e] at hl ⊢
        exact ih (j + 1) _ f (by omega) (by omega) hl
    · have hb : x.testBit i = false := by simpa using hb
      rw [ev_f (fun q => by have := (bit01 (by omega) (by omega)).mp q; rw [hb] at this; cases this), rp_X9_choir_L79, rp_X9_choir_L80, ev_t rfl, rp_X9_choir_L96, show Int32.ofNat x ||| 0 = Int32.ofNat (x ||| 0) from or_nat x 0, i32_succ]
      rw [hb] at hl ⊢
      exact ih (j + 1) _ f (by omega) (by omega) hl
theorem or_fold_lt {N : Nat} {f : Nat → Nat → Bool} (n j x : Nat) (hj : j + n ≤ N) (hx : x < 2 ^ N) : s_fold (fun j x => x ||| (if f j x then 1 <<< j else 0)) n j x < 2 ^ N :=
  fold_inv (P := fun x => x < 2 ^ N) n j x (fun k y h1 h2 hy => or_lt hy (by omega)) hx
theorem m_choir19 (h : rc_HM S A) {k6 : Int32 → Int32 → rc_M Int32} {t : Nat} : ∀ (n i x fuel : Nat), i + n = A_nK A → n < fuel → x < 2 ^ A_nK A →
    (rp_X9_choir_L19 k6 fuel (Int32.ofNat x) (Int32.ofNat t) (Int32.ofNat i)).1 S = (k6 (Int32.ofNat (s_fold (fun i x => s_fold (fun j x => x ||| (if (g_now 0 x).testBit i && s_sing A i j then 1 <<< j else 0)) (A_nK A) 0 x) n i x)) (Int32.ofNat (t + 1))).1 S := by
  have h8 := wf_8 h.2.2.1
  have hkf := h.2.2.2
  intro n
  induction n with
  | zero =>
    intro i x fuel hi hf hx
    obtain ⟨f, rfl⟩ := fuel_s hf
    rw [rp_X9_choir_L19, m_nK h, ev_end (by omega) (by omega) (by omega), i32_succ]
    rfl
  | succ n ih =>
    intro i x fuel hi hf hx
    obtain ⟨f, rfl⟩ := fuel_s hf
    rw [rp_X9_choir_L19, m_nK h, ev_on (by omega) (by omega) (by omega), rn_fuel, s_fold]
    have e := m_choir33 h (k6 := k6) (k19 := rp_X9_choir_L19 k6 f) (i := i) (t := t) (by omega) (A_nK A) 0 x (rc_kf (rc_k S)) (by omega) (by omega) hx
    refine Eq.trans e ?_
    exact ih (i + 1) _ f (by omega) (by omega) (or_fold_lt (f := fun j x => x.testBit i && s_sing A i j) _ _ _ (by omega) hx)
theorem m_choir6 (h : rc_HM S A) : ∀ (n t x fuel : Nat), t + n = A_nK A → n < fuel → x < 2 ^ A_nK A →
    (rp_X9_choir_L6 fuel (Int32.ofNat x) (Int32.ofNat t)).1 S = some (.inl (Int32.ofNat (s_iter (s_rd (A_nK A) (s_sing A) g_now) n x)), S) := by
  have h8 := wf_8 h.2.2.1
  have hkf := h.2.2.2
  intro n
  induction n with
  | zero =>
    intro t x fuel ht hf hx
    obtain ⟨f, rfl⟩ := fuel_s hf
    rw [rp_X9_choir_L6, m_nK h, ev_end (by omega) (by omega) (by omega)]
    rfl
  | succ n ih =>
    intro t x fuel ht hf hx
    obtain ⟨f, rfl⟩ := fuel_s hf
    rw [rp_X9_choir_L6, m_nK h, ev_on (by omega) (by omega) (by omega), rn_fuel, s_iter]
    have e := m_choir19 h (k6 := rp_X9_choir_L6 f) (t := t) (A_nK A) 0 x (rc_kf (rc_k S)) (by omega) (by omega) hx
    refine Eq.trans e ?_
    exact ih (t + 1) _ f (by omega) (by omega) ((rd_op (E := s_sing A) g_now_ok x hx).1)
theorem one_cnt {N c : Nat} (hc : c < N) : 1 ≤ s_cnt (1 <<< c) N 0 := by
  have h0 : s_cnt 0 N 0 < s_cnt (1 <<< c) N 0 := cnt_lt (j := c) (fun j hj => by rw [Nat.zero_testBit] at hj; cases hj) (Nat.zero_testBit c) (by rw [Nat.shiftLeft_eq, Nat.one_mul, Nat.testBit_two_pow]; simp) N 0 (by omega) (by omega)
  omega
theorem one_lt {N c : Nat} (hc : c < N) : 1 <<< c < 2 ^ N := by
  rw [Nat.shiftLeft_eq, Nat.one_mul]
  exact Nat.pow_lt_pow_right (by omega) hc
/-- the choir of c -/
def s_choir (A : rc_A) (c : Nat) : Nat := s_iter (s_rd (A_nK A) (s_sing A) g_now) (A_nK A) (1 <<< c)
theorem choir_isc (A : rc_A) {c : Nat} (hc : c < A_nK A) : s_isc (s_cl (A_nK A) (s_sing A)) (1 <<< c) (s_choir A c) :=
  iter_isc (rd_op g_now_ok) _ _ (one_lt hc) (by omega)
theorem m_choir (h : rc_HM S A) {c : Nat} (hc : c < A_nK A) : (rp_X9_choir (Int32.ofNat c)).1 S = some (.inl (Int32.ofNat (s_choir A c)), S) := by
  have h8 := wf_8 h.2.2.1
  have hkf := h.2.2.2
  unfold rp_X9_choir
  rw [rn_fuel, shl_nat (by omega)]
  exact m_choir6 h (A_nK A) 0 _ _ (by omega) (by omega) (one_lt hc)
/-- the component's innermost loop: v2 the old set m, v3 the new one x -/
theorem c_choir33 (h : rc_HR S r A) {k6 : Option Nat → Int32 → Int32 → rc_M Int32} {k16 : Option Nat → Int32 → Int32 → Int32 → rc_M Int32} {i m : Nat} (hi : i < A_nK A) (hm : m < 2 ^ A_nK A) : ∀ (n j x fuel : Nat), j + n = A_nK A → n < fuel → x < 2 ^ A_nK A →
    (rp_X3_choir_L33 k6 k16 fuel (some r) (Int32.ofNat m) (Int32.ofNat x) (Int32.ofNat i) (Int32.ofNat j)).1 S = (k16 (some r) (Int32.ofNat m) (Int32.ofNat (s_fold (fun j x => x ||| (if (g_old m x).testBit i && s_sing A i j then 1 <<< j else 0)) n j x)) (Int32.ofNat (i + 1))).1 S := by
  have hsg := fun d (hd : d < A_nK A) => c_sing h hi hd
  have hw := h.2.1
  have h8 := wf_8 hw
  have h2 : (2 : Nat) ^ A_nK A ≤ 256 := Nat.pow_le_pow_right (by omega) h8
  obtain ⟨⟨l, h1, hcc, hgl, hkk, ht, ec, eg, ek, en⟩, -, hf0⟩ := h
  intro n
  induction n with
  | zero =>
    intro j x fuel hj hf hx
    obtain ⟨f, rfl⟩ := fuel_s hf
    rw [rp_X3_choir_L33, rn_getq (ob_obj h1) rfl, rn_is (ob_obj hkk.1), rn_v (al_size hkk), ev_end (by omega) (by omega) (by omega), i32_succ]
    rfl
  | succ n ih =>
    intro j x fuel hj hf hx
    obtain ⟨f, rfl⟩ := fuel_s hf
    have hl : (x ||| (if m.testBit i && s_sing A i j then 1 <<< j else 0)) < 2 ^ A_nK A := or_lt hx (by omega)
    rw [rp_X3_choir_L33, rn_getq (ob_obj h1) rfl, rn_is (ob_obj hkk.1), rn_v (al_size hkk), ev_on (by omega) (by omega) (by omega), s_fold, g_old]
    by_cases hb : m.testBit i = true
    · rw [ev_t ((bit01 (by omega) (by omega)).mpr hb), rn_is (ob_obj h1), rn_v (hsg j (by omega))]
      by_cases e : s_sing A i j = true
      · rw [e, ev_f (by decide), rp_X3_choir_L75, shl_nat (by omega), or_nat, i32_succ]
        rw [hb, e] at hl
        rw [hb]
        exact ih (j + 1) _ f (by omega) (by omega) hl
      · have e : s_sing A i j = false := by simpa using e
        rw [e, ev_t (show bi false = 0 from rfl), rp_X3_choir_L75, i32_succ, hb, show (x ||| (if (true && false) = true then 1 <<< j else 0)) = x from by simp]
        exact ih (j + 1) _ f (by omega) (by omega) hx
    · have hb : m.testBit i = false := by simpa using hb
      rw [ev_f (fun q => by have := (bit01 (by omega) (by omega)).mp q; rw [hb] at this; cases this), rp_X3_choir_L75, i32_succ, hb, show (x ||| (if (false && s_sing A i j) = true then 1 <<< j else 0)) = x from by simp]
      exact ih (j + 1) _ f (by omega) (by omega) hx
theorem c_choir16 (h : rc_HR S r A) {k6 : Option Nat → Int32 → Int32 → rc_M Int32} {m : Nat} (hm : m < 2 ^ A_nK A) : ∀ (n i x fuel : Nat), i + n = A_nK A → n < fuel → x < 2 ^ A_nK A →
    (rp_X3_choir_L16 k6 fuel (some r) (Int32.ofNat m) (Int32.ofNat x) (Int32.ofNat i)).1 S = (k6 (some r) (Int32.ofNat m) (Int32.ofNat (s_fold (fun i x => s_fold (fun j x => x ||| (if (g_old m x).testBit i && s_sing A i j then 1 <<< j else 0)) (A_nK A) 0 x) n i x))).1 S := by
  have h33 := fun k16 i x (hi : i < A_nK A) (hx : x < 2 ^ A_nK A) => c_choir33 h (k6 := k6) (k16 := k16) (i := i) (m := m) hi hm (A_nK A) 0 x (rc_kf (rc_k S)) (by omega) (by have := wf_8 h.2.1; have := h.2.2; omega) hx
  have hw := h.2.1
  have h8 := wf_8 hw
  obtain ⟨⟨l, h1, hcc, hgl, hkk, ht, ec, eg, ek, en⟩, -, hf0⟩ := h
  intro n
  induction n with
  | zero =>
    intro i x fuel hi hf hx
    obtain ⟨f, rfl⟩ := fuel_s hf
    rw [rp_X3_choir_L16, rn_getq (ob_obj h1) rfl, rn_is (ob_obj hkk.1), rn_v (al_size hkk), ev_end (by omega) (by omega) (by omega)]
    rfl
  | succ n ih =>
    intro i x fuel hi hf hx
    obtain ⟨f, rfl⟩ := fuel_s hf
    rw [rp_X3_choir_L16, rn_getq (ob_obj h1) rfl, rn_is (ob_obj hkk.1), rn_v (al_size hkk), ev_on (by omega) (by omega) (by omega), rn_fuel, s_fold]
    refine Eq.trans (h33 _ i x (by omega) hx) ?_
    exact ih (i + 1) _ f (by omega) (by omega) (or_fold_lt (f := fun j x => (g_old m x).testBit i && s_sing A i j) _ _ _ (by omega) hx)
end CH
