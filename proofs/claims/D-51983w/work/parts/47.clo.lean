set_option maxRecDepth 100000
/-! CLOSURES: a set grown by rounds, till it stands or a set number of times, is the least closed one -/
def s_sub (a b : Nat) : Prop := ∀ j, a.testBit j = true → b.testBit j = true
theorem sub_rf (a : Nat) : s_sub a a := fun _ h => h
theorem sub_tr {a b c : Nat} (h : s_sub a b) (h2 : s_sub b c) : s_sub a c := fun j hj => h2 j (h j hj)
theorem sub_eq {a b : Nat} (h : s_sub a b) (h2 : s_sub b a) : a = b := by
  apply Nat.eq_of_testBit_eq
  intro j
  rw [Bool.eq_iff_iff]
  exact ⟨h j, h2 j⟩
def s_op (N : Nat) (cl : Nat → Prop) (R : Nat → Nat) : Prop := ∀ m, m < 2 ^ N → R m < 2 ^ N ∧ s_sub m (R m) ∧ (∀ c, cl c → s_sub m c → s_sub (R m) c) ∧ (R m = m → cl m)
def s_iter (R : Nat → Nat) : Nat → Nat → Nat
  | 0, m => m
  | n + 1, m => s_iter R n (R m)
/-- x is the least closed set over m -/
def s_isc (cl : Nat → Prop) (m x : Nat) : Prop := cl x ∧ s_sub m x ∧ ∀ c, cl c → s_sub m c → s_sub x c
theorem isc_eq {cl : Nat → Prop} {m x y : Nat} (hx : s_isc cl m x) (hy : s_isc cl m y) : x = y := sub_eq (hx.2.2 y hy.1 hy.2.1) (hy.2.2 x hx.1 hx.2.1)
theorem isc_step {N : Nat} {cl : Nat → Prop} {R : Nat → Nat} (h : s_op N cl R) {m x : Nat} (hm : m < 2 ^ N) (hx : s_isc cl (R m) x) : s_isc cl m x := by
  obtain ⟨h1, h2, h3, h4⟩ := h m hm
  exact ⟨hx.1, sub_tr h2 hx.2.1, fun c hc hs => hx.2.2 c hc (h3 c hc hs)⟩
theorem isc_stop {cl : Nat → Prop} {m : Nat} (h : cl m) : s_isc cl m m := ⟨h, sub_rf m, fun _ _ hs => hs⟩
def s_cnt (m : Nat) (n i : Nat) : Nat := s_fold (fun k x => x + (if m.testBit k then 1 else 0)) n i 0
theorem cnt_succ (m n i : Nat) : s_cnt m (n + 1) i = (if m.testBit i then 1 else 0) + s_cnt m n (i + 1) := by
  rw [s_cnt, s_fold, fold_add, s_cnt]
  omega
theorem cnt_le (m : Nat) : ∀ (n i : Nat), s_cnt m n i ≤ n
  | 0, i => Nat.le_refl _
  | n + 1, i => by
    rw [cnt_succ]
    have := cnt_le m n (i + 1)
    split <;> omega
theorem cnt_mono {a b : Nat} (h : s_sub a b) : ∀ (n i : Nat), s_cnt a n i ≤ s_cnt b n i
  | 0, i => Nat.le_refl _
  | n + 1, i => by
    rw [cnt_succ, cnt_succ]
    have := cnt_mono h n (i + 1)
    by_cases ha : a.testBit i = true
    · rw [if_pos ha, if_pos (h i ha)]; omega
    · rw [if_neg ha]; omega
theorem cnt_lt {a b j : Nat} (h : s_sub a b) (ha : a.testBit j = false) (hb : b.testBit j = true) : ∀ (n i : Nat), i ≤ j → j < i + n → s_cnt a n i < s_cnt b n i
  | 0, i, h1, h2 => by omega
  | n + 1, i, h1, h2 => by
    rw [cnt_succ, cnt_succ]
    by_cases hij : i = j
    · subst hij
      have := cnt_mono h n (i + 1)
      rw [if_neg (by rw [ha]; decide), if_pos hb]; omega
    · have := cnt_lt h ha hb n (i + 1) (by omega) (by omega)
      by_cases ha2 : a.testBit i = true
      · rw [if_pos ha2, if_pos (h i ha2)]; omega
      · rw [if_neg ha2]; omega
theorem grow {N : Nat} {cl : Nat → Prop} {R : Nat → Nat} (h : s_op N cl R) {m : Nat} (hm : m < 2 ^ N) (hne : R m ≠ m) : s_cnt m N 0 < s_cnt (R m) N 0 := by
  obtain ⟨h1, h2, h3, h4⟩ := h m hm
  have : ∃ j, m.testBit j = false ∧ (R m).testBit j = true := by
    apply Classical.byContradiction
    intro hn
    apply hne
    refine sub_eq (fun j hj => ?_) h2
    cases hb : m.testBit j with
    | true => rfl
    | false => exact absurd ⟨j, hb, hj⟩ hn
  obtain ⟨j, ha, hb⟩ := this
  have hj : j < N := by
    apply Classical.byContradiction
    intro hn
    rw [Nat.testBit_lt_two_pow (Nat.lt_of_lt_of_le h1 (Nat.pow_le_pow_right (by omega) (by omega)))] at hb
    cases hb
  exact cnt_lt h2 ha hb N 0 (by omega) (by omega)
theorem iter_isc {N : Nat} {cl : Nat → Prop} {R : Nat → Nat} (h : s_op N cl R) : ∀ (n m : Nat), m < 2 ^ N → N ≤ n + s_cnt m N 0 → s_isc cl m (s_iter R n m) := by
  intro n
  induction n with
  | zero =>
    intro m hm hc
    have h1 : R m = m := by
      apply Classical.byContradiction
      intro hne
      have := grow h hm hne
      have := cnt_le (R m) N 0
      omega
    exact isc_stop ((h m hm).2.2.2 h1)
  | succ n ih =>
    intro m hm hc
    rw [s_iter]
    refine isc_step h hm ?_
    by_cases hne : R m = m
    · have hcl := (h m hm).2.2.2 hne
      have : ∀ n, s_iter R n m = m := by
        intro n
        induction n with
        | zero => rfl
        | succ n ih2 => rw [s_iter, hne, ih2]
      rw [hne, this]
      exact isc_stop hcl
    · have := grow h hm hne
      exact ih (R m) (h m hm).1 (by omega)
