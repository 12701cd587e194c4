set_option maxRecDepth 100000
/-! WHO SINGS WITH WHOM -/
def s_sing (A : rc_A) (a b : Nat) : Bool := decide (1 ≤ s_wide A (A_si A a) (A_si A b))
theorem near_same (A : rc_A) (w a : Nat) : ∀ n g, s_near A w a a n g = false
  | 0, g => rfl
  | n + 1, g => by
    rw [s_near, show (a == a) = true from by simp, near_same A w a n (g + 1)]
    simp
theorem wide_same {A : rc_A} (h : rc_WF A) (a : Nat) : ∀ n g m, g + n = A_nG A → s_fold (fun g m => if s_joins A g a a then max m (A_gu A g).2.2 else m) n g m = m
  | 0, g, m, _ => rfl
  | n + 1, g, m, hg => by
    have hw := wf_g h (g := g) (by omega)
    have hj : s_joins A g a a = false := by
      unfold s_joins
      by_cases h1 : (A_gu A g).1 = a
      · have h2 : ¬ (A_gu A g).2.1 = a := fun e => hw.2.2.1 (h1.trans e.symm)
        simp [h2]
      · simp [h1]
    rw [s_fold, hj]
    exact wide_same h a n (g + 1) m (by omega)
theorem sing_near {A : rc_A} (h : rc_WF A) (a b : Nat) : s_near A 1 a b (A_nG A) 0 = decide (1 ≤ s_wide A a b) := by
  by_cases hab : a = b
  · subst hab
    rw [near_same, s_wide, wide_same h a _ _ _ (by omega)]
    rfl
  · exact near_wide A hab (by omega)
section SG
variable {S : rc_S} {A : rc_A} {r : Nat}
theorem c_singL (h : rc_HR S r A) {c d : Nat} (hc : c < A_nK A) (hd : d < A_nK A) : ∀ (n g fuel : Nat), g + n = A_nG A → n < fuel → (rp_X3_singTogether_L2 fuel (some r) (Int32.ofNat c) (Int32.ofNat d) (Int32.ofNat g)).1 S = some (.inl (bi (s_near A 1 (A_si A c) (A_si A d) n g)), S) := by
  have hw := h.2.1
  have h20 := wf_20 hw
  have h10 := wf_10 hw
  have h1c := wf_si hw hc
  have h1d := wf_si hw hd
  obtain ⟨⟨l, h1, hcc, hgl, hkk, ht, ec, eg, ek, en⟩, -, hf⟩ := h
  intro n
  induction n with
  | zero =>
    intro g fuel hg hfu
    obtain ⟨f, rfl⟩ := fuel_s hfu
    rw [rp_X3_singTogether_L2, rn_getq (ob_obj h1) rfl, rn_is (ob_obj hgl.1), rn_v (al_size hgl), ev_end (by omega) (by omega) (by omega)]
    rfl
  | succ n ih =>
    intro g fuel hg hfu
    obtain ⟨f, rfl⟩ := fuel_s hfu
    have hgw := wf_g hw (g := g) (by omega)
    have hG : rc_G S (ly_gt l g) (A_gu A g).1 (A_gu A g).2.1 (A_gu A g).2.2 := eg g (by omega)
    rw [rp_X3_singTogether_L2, rn_getq (ob_obj h1) rfl, rn_is (ob_obj hgl.1), rn_v (al_size hgl), ev_on (by omega) (by omega) (by omega), rn_getq (ob_obj h1) rfl, rn_is (ob_obj hgl.1), rn_v (al_get hgl (by omega)), rn_cast hG, rn_getq (ob_obj h1) rfl, rn_is (ob_obj hkk.1), rn_v (al_get hkk hc), rn_cast (ek c hc), rn_geti (ob_obj (ek c hc)) rfl, rn_getq (ob_obj h1) rfl, rn_is (ob_obj hkk.1), rn_v (al_get hkk hd), rn_cast (ek d hd), rn_geti (ob_obj (ek d hd)) rfl, rn_is (ob_obj hG), rn_v (g_connects hG (by omega) (by omega) (by omega) (by omega)), s_near, show decide (1 ≤ (A_gu A g).2.2) = true from by simp; omega, Bool.true_and]
    cases e : (!(A_si A c == A_si A d) && (((A_gu A g).1 == A_si A c || (A_gu A g).2.1 == A_si A c) && ((A_gu A g).1 == A_si A d || (A_gu A g).2.1 == A_si A d))) with
    | false =>
      rw [ev_t (show bi false = 0 from rfl), i32_succ, if_neg (by decide)]
      exact ih (g + 1) f (by omega) (by omega)
    | true =>
      rw [ev_f (by decide), if_pos rfl]
      rfl
theorem c_sing (h : rc_HR S r A) {c d : Nat} (hc : c < A_nK A) (hd : d < A_nK A) : (rp_X3_singTogether (some r) (Int32.ofNat c) (Int32.ofNat d)).1 S = some (.inl (bi (s_sing A c d)), S) := by
  have hf := h.2.2
  have h20 := wf_20 h.2.1
  unfold rp_X3_singTogether s_sing
  rw [rn_fuel, ← sing_near h.2.1]
  exact c_singL h hc hd (A_nG A) 0 _ (by omega) (by omega)
/-- one round of the component's, of the model's -/
def s_rd1 (A : rc_A) (m : Nat) : Nat := s_fold (fun i x => s_fold (fun j x => x ||| (if m.testBit i && s_sing A i j then 1 <<< j else 0)) (A_nK A) 0 x) (A_nK A) 0 m
def s_rd2 (A : rc_A) (m : Nat) : Nat := s_fold (fun i x => s_fold (fun j x => x ||| (if x.testBit i && s_sing A i j then 1 <<< j else 0)) (A_nK A) 0 x) (A_nK A) 0 m
end SG
