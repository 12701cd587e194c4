set_option maxRecDepth 100000
/-! WHY NOT, as the component tells it -/
section CJ
variable {S : rc_S} {A : rc_A} {r : Nat}
/-- one gutter's picture -/
def rc_G (S : rc_S) (a x y w : Nat) : Prop := S.1 a = some (.inr (5, [rc_i (Int32.ofNat x), rc_i (Int32.ofNat y), rc_i (Int32.ofNat w)]))
theorem g_ends {a x y w k : Nat} (h : rc_G S a x y w) (hx : x ≤ 1000) (hy : y ≤ 1000) (hk : k ≤ 1000) : (rp_X6_endsAt (some a) (Int32.ofNat k)).1 S = some (.inl (bi (x == k || y == k)), S) := by
  unfold rp_X6_endsAt
  rw [rn_geti (ob_obj h) rfl]
  by_cases h1 : x = k
  · rw [ev_t (by rw [h1])]
    simp [h1, bi, rp_X6_endsAt_L16, ev_pure]
  · rw [ev_f (fun q => h1 ((i32_eq (by omega) (by omega)).mp q)), rn_geti (ob_obj h) rfl, show (x == k) = false from by simpa using h1]
    by_cases h2 : y = k
    · rw [ev_t (by rw [h2])]
      simp [h2, bi, rp_X6_endsAt_L16, ev_pure]
    · rw [ev_f (fun q => h2 ((i32_eq (by omega) (by omega)).mp q)), show (y == k) = false from by simpa using h2]
      rfl
theorem g_from {a x y w k : Nat} (h : rc_G S a x y w) (hx : x ≤ 1000) (hy : y ≤ 1000) (hk : k ≤ 1000) : (rp_X6_from (some a) (Int32.ofNat k)).1 S = some (.inl (Int32.ofNat (if x = k then y else x)), S) := by
  unfold rp_X6_from
  rw [rn_geti (ob_obj h) rfl]
  by_cases h1 : x = k
  · rw [ev_t (by rw [h1]), rn_geti (ob_obj h) rfl, if_pos h1]
    rfl
  · rw [ev_f (fun q => h1 ((i32_eq (by omega) (by omega)).mp q)), rn_geti (ob_obj h) rfl, if_neg h1]
    rfl
theorem g_width {a x y w : Nat} (h : rc_G S a x y w) : (rp_X6_width (some a)).1 S = some (.inl (Int32.ofNat w), S) := by
  unfold rp_X6_width
  rw [rn_geti (ob_obj h) rfl]
  rfl
theorem g_connects {a x y w j k : Nat} (h : rc_G S a x y w) (hx : x ≤ 1000) (hy : y ≤ 1000) (hj : j ≤ 1000) (hk : k ≤ 1000) : (rp_X6_connects (some a) (Int32.ofNat j) (Int32.ofNat k)).1 S = some (.inl (bi (!(j == k) && ((x == j || y == j) && (x == k || y == k)))), S) := by
  unfold rp_X6_connects
  by_cases h1 : j = k
  · rw [ev_t (by rw [h1])]
    simp [h1, bi, ev_pure]
  · rw [ev_f (fun q => h1 ((i32_eq (by omega) (by omega)).mp q)), rn_is (ob_obj h), rn_v (g_ends h hx hy hj), show (j == k) = false from by simpa using h1]
    cases e1 : (x == j || y == j) with
    | false => rw [ev_t (show bi false = 0 from rfl)]; rfl
    | true =>
      rw [ev_f (by decide), rn_is (ob_obj h), rn_v (g_ends h hx hy hk)]
      cases e2 : (x == k || y == k) with
      | false => rw [ev_t (show bi false = 0 from rfl)]; rfl
      | true => rw [ev_f (by decide)]; rfl
/-- the judgement of a walk from k through g -/
def s_walk (A : rc_A) (c k g : Nat) : Nat := match s_acr A g k with
  | none => 1
  | some d => if A_gi A c ≤ (A_gu A g).2.2 then s_notIn A c d else 2
theorem walk_stays (c g : Nat) : s_walk A c (A_si A c) g = s_stays A c g := rfl
theorem c_walk64 (h : rc_HR S r A) {c k : Nat} (hc : c < A_nK A) (hk : k < A_nC A) : (rp_X3_judgeWalk_L64 (some r) (Int32.ofNat c) (Int32.ofNat k)).1 S = some (.inl (Int32.ofNat (s_tres A c k)), S) := by
  have ho1 := c_owner h hk
  have ht1 := fun d (hd : d < A_nK A) => c_isTruce h (a := c) (b := d) (by have := wf_8 h.2.1; omega) (by have := wf_8 h.2.1; omega)
  have hw := h.2.1
  have h8 := wf_8 hw
  have ho := wf_ow hw hk
  obtain ⟨⟨l, h1, -⟩, -⟩ := h
  unfold rp_X3_judgeWalk_L64 s_tres
  rw [rn_is (ob_obj h1), rn_v ho1]
  cases ho2 : A_ow A k with
  | none => rw [oi_none, ev_t rfl]; rfl
  | some d =>
    have hd := ho d ho2
    rw [oi_some, ev_f (of_ne1 (by omega))]
    by_cases hdc : d = c
    · rw [ev_t (by rw [hdc])]
      simp [hdc, ev_pure]
    · rw [ev_f (fun q => hdc ((i32_eq (by omega) (by omega)).mp q)), rn_is (ob_obj h1), rn_v (ht1 d hd)]
      by_cases hz : s_truce A c d = 0
      · rw [hz, ev_t (show bi (decide (0 < 0)) = 0 from rfl)]
        simp [hdc, hz, ev_pure]
      · rw [show decide (0 < s_truce A c d) = true from by simp; omega, ev_f (by decide)]
        simp [hdc, hz, ev_pure]
theorem c_walk (h : rc_HR S r A) {c k g a : Nat} (hc : c < A_nK A) (hk : k < A_nC A) (hg : g < A_nG A) (hG : rc_G S a (A_gu A g).1 (A_gu A g).2.1 (A_gu A g).2.2) : (rp_X3_judgeWalk (some r) (Int32.ofNat c) (Int32.ofNat k) (some a)).1 S = some (.inl (Int32.ofNat (s_walk A c k g)), S) := by
  have h64 := fun d (hd : d < A_nC A) => c_walk64 h hc (k := d) hd
  have hs := fun d (hd : d < A_nC A) => c_catOn h (k := d) (by have := wf_10 h.2.1; omega)
  have hw := h.2.1
  have h8 := wf_8 hw
  have h10 := wf_10 hw
  have hgw := wf_g hw hg
  have hcw := wf_c hw hc
  obtain ⟨⟨l, h1, hcc, hgl, hkk, ht, ec, eg, ek, en⟩, -, hf⟩ := h
  unfold rp_X3_judgeWalk s_walk
  rw [rn_is (ob_obj hG), rn_v (g_ends hG (by omega) (by omega) (by omega))]
  have main : ∀ d, d < A_nC A → (if (A_gu A g).1 = k then (A_gu A g).2.1 else (A_gu A g).1) = d → ((A_gu A g).1 == k || (A_gu A g).2.1 == k) = true → (if bi ((A_gu A g).1 == k || (A_gu A g).2.1 == k) = 0 then rc_pure (1 : Int32) else rc_bind (rc_is 5 (some a)) fun _ => rc_bind (rp_X6_width (some a)) fun x2 => rc_bind (rc_getq 2 2 (some r)) fun x3 => rc_bind (rc_is 12 x3) fun _ => rc_bind (rp_J7_get x3 (Int32.ofNat c)) fun x4 => rc_bind (rc_castM 6 x4) fun _ => rc_bind (rc_geti 6 0 x4) fun x5 => (if x5 ≤ x2 then rc_bind (rc_is 5 (some a)) fun _ => rc_bind (rp_X6_from (some a) (Int32.ofNat k)) fun x6 => rc_bind (rc_is 2 (some r)) fun _ => rc_bind (rp_X3_catOn (some r) x6) fun x7 => (if x7 = (-1 : Int32) then rp_X3_judgeWalk_L64 (some r) (Int32.ofNat c) x6 else (if x7 = Int32.ofNat c then rp_X3_judgeWalk_L64 (some r) (Int32.ofNat c) x6 else rc_pure (3 : Int32))) else rc_pure (2 : Int32))).1 S = some (.inl (Int32.ofNat (if A_gi A c ≤ (A_gu A g).2.2 then s_notIn A c d else 2)), S) := by
    intro d hd hfr he
    rw [he, ev_f (by decide), rn_is (ob_obj hG), rn_v (g_width hG), rn_getq (ob_obj h1) rfl, rn_is (ob_obj hkk.1), rn_v (al_get hkk hc), rn_cast (ek c hc), rn_geti (ob_obj (ek c hc)) rfl]
    by_cases hq : A_gi A c ≤ (A_gu A g).2.2
    · rw [ev_t ((i32_le (by omega) (by omega)).mpr hq), rn_is (ob_obj hG), rn_v (g_from hG (by omega) (by omega) (by omega)), hfr, rn_is (ob_obj h1), rn_v (hs d hd), if_pos hq]
      unfold s_notIn
      cases hsd : s_sit A d with
      | none => rw [oi_none, ev_t rfl, h64 d hd]
      | some e =>
        have he2 := sit_lt hsd
        rw [oi_some, ev_f (of_ne1 (by omega))]
        by_cases hec : e = c
        · rw [ev_t (by rw [hec]), h64 d hd]
          simp [hec]
        · rw [ev_f (fun q => hec ((i32_eq (by omega) (by omega)).mp q))]
          simp [hec, ev_pure]
    · rw [ev_f (fun q => hq ((i32_le (by omega) (by omega)).mp q)), if_neg hq]
      rfl
  unfold s_acr
  by_cases h1k : (A_gu A g).1 = k
  · rw [if_pos h1k]
    exact main _ hgw.2.1 (if_pos h1k) (by simp [h1k])
  · rw [if_neg h1k]
    by_cases h2k : (A_gu A g).2.1 = k
    · rw [if_pos h2k]
      exact main _ hgw.1 (if_neg h1k) (by simp [h2k])
    · rw [if_neg h2k, show ((A_gu A g).1 == k || (A_gu A g).2.1 == k) = false from by simp [h1k, h2k], ev_t (show bi false = 0 from rfl)]
      rfl
theorem c_stays (h : rc_HR S r A) {c g : Nat} (hc : c < A_nK A) (hg : g < A_nG A) : (rp_X3_judgeStep (some r) (Int32.ofNat c) (Int32.ofNat g)).1 S = some (.inl (Int32.ofNat (s_stays A c g)), S) := by
  have hwk := fun a hG => c_walk (a := a) h hc (wf_si h.2.1 hc) hg hG
  have hw := h.2.1
  obtain ⟨⟨l, h1, hcc, hgl, hkk, ht, ec, eg, ek, en⟩, -, hf⟩ := h
  unfold rp_X3_judgeStep
  rw [rn_getq (ob_obj h1) rfl, rn_is (ob_obj hkk.1), rn_v (al_get hkk hc), rn_cast (ek c hc), rn_geti (ob_obj (ek c hc)) rfl, rn_getq (ob_obj h1) rfl, rn_is (ob_obj hgl.1), rn_v (al_get hgl hg), rn_cast (eg g hg), rn_is (ob_obj h1), rn_v (hwk _ (eg g hg))]
  rfl
/-- gutters that are wide enough and connect: the component looks for one -/
def s_near (A : rc_A) (w a b : Nat) : Nat → Nat → Bool
  | 0, _ => false
  | n + 1, g => if w ≤ (A_gu A g).2.2 && (!(a == b) && (((A_gu A g).1 == a || (A_gu A g).2.1 == a) && ((A_gu A g).1 == b || (A_gu A g).2.1 == b))) then true else s_near A w a b n (g + 1)
theorem c_nearL (h : rc_HR S r A) {x y gi si sj s1 f1 g2 s2 f2 : Nat} (hx : S.1 x = some (.inr (6, [rc_i (Int32.ofNat gi), rc_i (Int32.ofNat s1), rc_i (Int32.ofNat si), rc_i (Int32.ofNat f1)]))) (hy : S.1 y = some (.inr (6, [rc_i (Int32.ofNat g2), rc_i (Int32.ofNat s2), rc_i (Int32.ofNat sj), rc_i (Int32.ofNat f2)]))) (hgi : gi ≤ 1000) (hsi : si ≤ 1000) (hsj : sj ≤ 1000) :
    ∀ (n g fuel : Nat), g + n = A_nG A → n < fuel → (rp_X3_isNear_L2 fuel (some r) (some x) (some y) (Int32.ofNat g)).1 S = some (.inl (bi (s_near A gi si sj n g)), S) := by
  have hw := h.2.1
  have h20 := wf_20 hw
  have h10 := wf_10 hw
  obtain ⟨⟨l, h1, hcc, hgl, hkk, ht, ec, eg, ek, en⟩, -, hf⟩ := h
  intro n
  induction n with
  | zero =>
    intro g fuel hg hfu
    obtain ⟨f, rfl⟩ := fuel_s hfu
    rw [rp_X3_isNear_L2, rn_getq (ob_obj h1) rfl, rn_is (ob_obj hgl.1), rn_v (al_size hgl), ev_end (by omega) (by omega) (by omega)]
    rfl
  | succ n ih =>
    intro g fuel hg hfu
    obtain ⟨f, rfl⟩ := fuel_s hfu
    have hgw := wf_g hw (g := g) (by omega)
    have hG : rc_G S (ly_gt l g) (A_gu A g).1 (A_gu A g).2.1 (A_gu A g).2.2 := eg g (by omega)
    rw [rp_X3_isNear_L2, rn_getq (ob_obj h1) rfl, rn_is (ob_obj hgl.1), rn_v (al_size hgl), ev_on (by omega) (by omega) (by omega), rn_getq (ob_obj h1) rfl, rn_is (ob_obj hgl.1), rn_v (al_get hgl (by omega)), rn_cast hG, rn_is (ob_obj hG), rn_v (g_width hG), rn_geti (ob_obj hx) rfl, s_near]
    by_cases hq : gi ≤ (A_gu A g).2.2
    · rw [ev_f (fun q => by have := (i32_lt (by omega) (by omega)).mp q; omega), rn_geti (ob_obj hx) rfl, rn_geti (ob_obj hy) rfl, rn_is (ob_obj hG), rn_v (g_connects hG (by omega) (by omega) hsi hsj), show decide (gi ≤ (A_gu A g).2.2) = true from by simpa using hq, Bool.true_and]
      cases e : (!(si == sj) && (((A_gu A g).1 == si || (A_gu A g).2.1 == si) && ((A_gu A g).1 == sj || (A_gu A g).2.1 == sj))) with
      | false =>
        rw [ev_t (show bi false = 0 from rfl), rp_X3_isNear_L60, i32_succ, if_neg (by decide)]
        exact ih (g + 1) f (by omega) (by omega)
      | true =>
        rw [ev_f (by decide), if_pos rfl]
        rfl
    · rw [ev_t ((i32_lt (by omega) (by omega)).mpr (by omega)), rp_X3_isNear_L60, i32_succ, show decide (gi ≤ (A_gu A g).2.2) = false from by simpa using hq, Bool.false_and, if_neg (by decide)]
      exact ih (g + 1) f (by omega) (by omega)
end CJ
