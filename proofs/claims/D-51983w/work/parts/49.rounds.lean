set_option maxRecDepth 100000
/-! ROUNDS OF A CHOIR -/
theorem fold_inv {α : Type} {f : Nat → α → α} {P : α → Prop} : ∀ (n i : Nat) (x : α), (∀ k y, i ≤ k → k < i + n → P y → P (f k y)) → P x → P (s_fold f n i x)
  | 0, i, x, h, h0 => h0
  | n + 1, i, x, h, h0 => by
    rw [s_fold]
    exact fold_inv n (i + 1) _ (fun k y h1 h2 => h k y (by omega) (by omega)) (h i x (by omega) (by omega) h0)
theorem fold_reach {α : Type} {f : Nat → α → α} {P Q : α → Prop} (k0 : Nat) : ∀ (n i : Nat) (x : α), (∀ k y, i ≤ k → k < i + n → P y → P (f k y)) → (∀ k y, i ≤ k → k < i + n → Q y → Q (f k y)) → (∀ y, P y → Q (f k0 y)) → i ≤ k0 → k0 < i + n → P x → Q (s_fold f n i x)
  | 0, i, x, hP, hQ, hk, h1, h2, h0 => by omega
  | n + 1, i, x, hP, hQ, hk, h1, h2, h0 => by
    rw [s_fold]
    by_cases hi : i = k0
    · subst hi
      exact fold_inv n (i + 1) _ (fun k y a b => hQ k y (by omega) (by omega)) (hk x h0)
    · exact fold_reach k0 n (i + 1) _ (fun k y a b => hP k y (by omega) (by omega)) (fun k y a b => hQ k y (by omega) (by omega)) hk (by omega) (by omega) (hP i x (by omega) (by omega) h0)
/-- closed under an edge -/
def s_cl (N : Nat) (E : Nat → Nat → Bool) (m : Nat) : Prop := ∀ i j, i < N → j < N → m.testBit i = true → E i j = true → m.testBit j = true
theorem or_bit {x j : Nat} {b : Bool} (k : Nat) : (x ||| (if b then 1 <<< j else 0)).testBit k = (x.testBit k || (b && decide (j = k))) := by
  rw [Nat.testBit_or]
  congr 1
  cases b with
  | true => rw [if_pos rfl, Nat.shiftLeft_eq, Nat.one_mul, Nat.testBit_two_pow, Bool.true_and]
  | false => simp
theorem or_lt {x j N : Nat} {b : Bool} (hx : x < 2 ^ N) (hj : j < N) : (x ||| (if b then 1 <<< j else 0)) < 2 ^ N := by
  apply Nat.or_lt_two_pow hx
  cases b with
  | true => rw [if_pos rfl, Nat.shiftLeft_eq, Nat.one_mul]; exact Nat.pow_lt_pow_right (by omega) hj
  | false => exact Nat.two_pow_pos N
/-- rounds that add j where i is in g (of what is there now, x, and of the start m), and i goes with j -/
def s_rd (N : Nat) (E : Nat → Nat → Bool) (g : Nat → Nat → Nat) (m : Nat) : Nat := s_fold (fun i x => s_fold (fun j x => x ||| (if (g m x).testBit i && E i j then 1 <<< j else 0)) N 0 x) N 0 m
theorem rd_op {N : Nat} {E : Nat → Nat → Bool} {g : Nat → Nat → Nat} (hg : ∀ m x, s_sub m x → s_sub m (g m x) ∧ s_sub (g m x) x) : s_op N (s_cl N E) (s_rd N E g) := by
  intro m hm
  have mono : ∀ (i x : Nat), i < N → ∀ (j y : Nat), j < N → (x = x) → s_sub y (y ||| (if (g m y).testBit i && E i j then 1 <<< j else 0)) := by
    intro i x hi j y hj _ k hk
    rw [or_bit, hk, Bool.true_or]
  refine ⟨?_, ?_, fun c hc hs => ?_, fun hst => ?_⟩
  · refine fold_inv (P := fun x => x < 2 ^ N) N 0 m (fun i x h1 h2 hx => ?_) hm
    exact fold_inv (P := fun x => x < 2 ^ N) N 0 x (fun j y h3 h4 hy => or_lt hy (by omega)) hx
  · refine fold_inv (P := fun x => s_sub m x) N 0 m (fun i x h1 h2 hx => ?_) (sub_rf m)
    exact fold_inv (P := fun x => s_sub m x) N 0 x (fun j y h3 h4 hy => sub_tr hy (mono i x (by omega) j y (by omega) rfl)) hx
  · refine (fold_inv (P := fun x => s_sub m x ∧ s_sub x c) N 0 m (fun i x h1 h2 hx => ?_) ⟨sub_rf m, hs⟩).2
    refine fold_inv (P := fun x => s_sub m x ∧ s_sub x c) N 0 x (fun j y h3 h4 hy => ⟨sub_tr hy.1 (mono i x (by omega) j y (by omega) rfl), fun k hk => ?_⟩) hx
    rw [or_bit] at hk
    rcases Bool.or_eq_true _ _ |>.mp hk with hk | hk
    · exact hy.2 k hk
    · simp only [Bool.and_eq_true, decide_eq_true_eq] at hk
      obtain ⟨⟨ha, hb⟩, rfl⟩ := hk
      exact hc i j (by omega) (by omega) (hy.2 i ((hg m y hy.1).2 i ha)) hb
  · intro i j hi hj hmi hE
    have hq : (s_rd N E g m).testBit j = true := by
      refine fold_reach (P := fun x => s_sub m x) (Q := fun x => x.testBit j = true) i N 0 m (fun k x h1 h2 hx => ?_) (fun k x h1 h2 hx => ?_) (fun y hy => ?_) (by omega) (by omega) (sub_rf m)
      · exact fold_inv (P := fun x => s_sub m x) N 0 x (fun j y h3 h4 hy => sub_tr hy (mono k x (by omega) j y (by omega) rfl)) hx
      · exact fold_inv (P := fun x => x.testBit j = true) N 0 x (fun j2 y h3 h4 hy => mono k x (by omega) j2 y (by omega) rfl j hy) hx
      · refine fold_reach (P := fun x => s_sub m x) (Q := fun x => x.testBit j = true) j N 0 y (fun j2 z h3 h4 hz => sub_tr hz (mono i y hi j2 z (by omega) rfl)) (fun j2 z h3 h4 hz => mono i y hi j2 z (by omega) rfl j hz) (fun z hz => ?_) (by omega) (by omega) hy
        rw [or_bit, (hg m z hz).1 i hmi, hE]
        simp
    rw [hst] at hq
    exact hq
