set_option maxRecDepth 100000
/-! WHY NOT: claims and chases, as the component tells it -/
theorem near_wideL (A : rc_A) {w a b : Nat} (hab : a ≠ b) : ∀ (n g m : Nat), decide (w ≤ s_fold (fun g m => if s_joins A g a b then max m (A_gu A g).2.2 else m) n g m) = (decide (w ≤ m) || s_near A w a b n g)
  | 0, g, m => by simp [s_fold, s_near]
  | n + 1, g, m => by
    rw [s_fold, near_wideL A hab n (g + 1), s_near]
    have ej : s_joins A g a b = (!(a == b) && (((A_gu A g).1 == a || (A_gu A g).2.1 == a) && ((A_gu A g).1 == b || (A_gu A g).2.1 == b))) := by
      unfold s_joins
      by_cases h1 : (A_gu A g).1 = a <;> by_cases h2 : (A_gu A g).2.1 = b <;> by_cases h3 : (A_gu A g).1 = b <;> by_cases h4 : (A_gu A g).2.1 = a <;> simp_all
    rw [← ej]
    cases hj : s_joins A g a b with
    | false => simp
    | true =>
      by_cases hw : w ≤ (A_gu A g).2.2
      · have : w ≤ max m (A_gu A g).2.2 := by omega
        simp [hw, this]
      · have : (w ≤ max m (A_gu A g).2.2) ↔ w ≤ m := by omega
        simp [hw, this]
theorem near_wide (A : rc_A) {w a b : Nat} (hab : a ≠ b) (hw : 1 ≤ w) : s_near A w a b (A_nG A) 0 = decide (w ≤ s_wide A a b) := by
  unfold s_wide
  rw [near_wideL A hab, show decide (w ≤ 0) = false from by simp; omega, Bool.false_or]
/-- the places that a cat owns -/
def s_owned (A : rc_A) (c : Nat) : Nat := s_mask (fun k => A_ow A k == some c) (A_nC A) 0 0
theorem fold_add {f : Nat → Nat} : ∀ (n i x : Nat), s_fold (fun k x => x + f k) n i x = x + s_fold (fun k x => x + f k) n i 0
  | 0, i, x => rfl
  | n + 1, i, x => by
    rw [s_fold, s_fold, fold_add n (i + 1) (x + f i), fold_add n (i + 1) (0 + f i)]
    omega
theorem fold_congr {α : Type} {f g : Nat → α → α} : ∀ (n i : Nat) (x : α), (∀ k y, i ≤ k → k < i + n → f k y = g k y) → s_fold f n i x = s_fold g n i x
  | 0, i, x, h => rfl
  | n + 1, i, x, h => by
    rw [s_fold, s_fold, h i x (by omega) (by omega)]
    exact fold_congr n (i + 1) _ (fun k y h1 h2 => h k y (by omega) (by omega))
theorem fold_id {α : Type} {f : Nat → α → α} : ∀ (n i : Nat) (x : α), (∀ k y, i ≤ k → k < i + n → f k y = y) → s_fold f n i x = x
  | 0, i, x, h => rfl
  | n + 1, i, x, h => by
    rw [s_fold, h i x (by omega) (by omega)]
    exact fold_id n (i + 1) _ (fun k y h1 h2 => h k y (by omega) (by omega))
theorem fold_split {α : Type} {f : Nat → α → α} : ∀ (n m i : Nat) (x : α), s_fold f (n + m) i x = s_fold f m (i + n) (s_fold f n i x)
  | 0, m, i, x => by rw [Nat.zero_add]; rfl
  | n + 1, m, i, x => by
    rw [show n + 1 + m = (n + m) + 1 by omega, s_fold, s_fold, fold_split n m (i + 1)]
    congr 1
    omega
theorem bits_mask (p : Nat → Bool) {n : Nat} (hn : n ≤ 10) : s_bits (s_mask p n 0 0) = s_fold (fun k x => x + (if p k then 1 else 0)) n 0 0 := by
  unfold s_bits
  obtain ⟨m, rfl⟩ : ∃ m, 10 = n + m := ⟨10 - n, by omega⟩
  sorry
section CK
variable {S : rc_S} {A : rc_A} {r : Nat}
theorem c_ownedL (h : rc_HR S r A) {c : Nat} (hc : c ≤ 1000) : ∀ (n k m fuel : Nat), k + n = A_nC A → n < fuel → (rp_X3_owned_L4 fuel (some r) (Int32.ofNat c) (Int32.ofNat m) (Int32.ofNat k)).1 S = some (.inl (Int32.ofNat (s_mask (fun k => A_ow A k == some c) n k m)), S) := by
  have ho1 := fun k hk => @c_owner S A r h k hk
  have hw := h.2.1
  have h8 := wf_8 hw
  have h10 := wf_10 hw
  obtain ⟨⟨l, h1, hcc, hgl, hkk, ht, ec, eg, ek, en⟩, -, hf⟩ := h
  intro n
  induction n with
  | zero =>
    intro k m fuel hk hfu
    obtain ⟨f, rfl⟩ := fuel_s hfu
    rw [rp_X3_owned_L4, rn_getq (ob_obj h1) rfl, rn_is (ob_obj hcc.1), rn_v (al_size hcc), ev_end (by omega) (by omega) (by omega)]
    rfl
  | succ n ih =>
    intro k m fuel hk hfu
    obtain ⟨f, rfl⟩ := fuel_s hfu
    have ho := wf_ow hw (k := k) (by omega)
    have e : (oi (A_ow A k) = Int32.ofNat c) ↔ A_ow A k = some c := oi_s (fun d hd => by have := ho d hd; omega) (by omega)
    rw [rp_X3_owned_L4, rn_getq (ob_obj h1) rfl, rn_is (ob_obj hcc.1), rn_v (al_size hcc), ev_on (by omega) (by omega) (by omega), rn_is (ob_obj h1), rn_v (ho1 k (by omega)), s_mask, s_fold]
    by_cases hq : A_ow A k = some c
    · rw [ev_t (e.mpr hq), rp_X3_owned_L34, shl_nat (by omega), or_nat, i32_succ, show (A_ow A k == some c) = true from by simpa using hq, if_pos rfl]
      exact ih (k + 1) _ f (by omega) (by omega)
    · rw [ev_f (fun q => hq (e.mp q)), rp_X3_owned_L34, show Int32.ofNat m ||| 0 = Int32.ofNat (m ||| 0) from or_nat m 0, i32_succ, show (A_ow A k == some c) = false from by simpa using hq, if_neg (by decide)]
      exact ih (k + 1) _ f (by omega) (by omega)
theorem c_owned (h : rc_HR S r A) {c : Nat} (hc : c ≤ 1000) : (rp_X3_owned (some r) (Int32.ofNat c)).1 S = some (.inl (Int32.ofNat (s_owned A c)), S) := by
  have hf := h.2.2
  have h10 := wf_10 h.2.1
  unfold rp_X3_owned
  rw [rn_fuel]
  exact c_ownedL h hc (A_nC A) 0 0 _ (by omega) (by omega)
end CK
