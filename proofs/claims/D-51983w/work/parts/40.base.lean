set_option maxRecDepth 100000
/-! THE PLAIN LAW, BASE: how a program's run is computed -/
def rc_sq {α β : Type} (o : Option ((β ⊕ (Nat × Nat)) × rc_S)) (f : β → rc_M α) : Option ((α ⊕ (Nat × Nat)) × rc_S) := match o with
  | none => none
  | some (.inr e, S1) => some (.inr e, S1)
  | some (.inl v, S1) => (f v).1 S1
theorem ev_bind {α β : Type} (x : rc_M β) (f : β → rc_M α) (S : rc_S) : (rc_bind x f).1 S = rc_sq (x.1 S) f := rfl
theorem ev_sqi {α β : Type} (v : β) (S : rc_S) (f : β → rc_M α) : rc_sq (some (.inl v, S)) f = (f v).1 S := rfl
theorem ev_sqx {α β : Type} (e : Nat × Nat) (S : rc_S) (f : β → rc_M α) : rc_sq (some (.inr e, S)) f = some (.inr e, S) := rfl
theorem ev_pure {α : Type} (v : α) (S : rc_S) : (rc_pure v).1 S = some (.inl v, S) := rfl
theorem ev_ite {α : Type} (c : Prop) [Decidable c] (A B : rc_M α) (S : rc_S) : (if c then A else B).1 S = if c then A.1 S else B.1 S := by
  split <;> rfl
/-- what is read -/
def rc_o1 {α : Type} (o : Option α) (S : rc_S) : Option ((α ⊕ (Nat × Nat)) × rc_S) := match o with
  | none => none
  | some v => some (.inl v, S)
theorem ev_o1 {α : Type} (v : α) (S : rc_S) : rc_o1 (some v) S = some (.inl v, S) := rfl
theorem ev_read {α : Type} (g : rc_S → Option α) (S : rc_S) : (rc_read g).1 S = rc_o1 (g S) S := by
  unfold rc_read rc_o1
  dsimp only
  cases g S <;> rfl
def rc_o2 (o : Option (Nat → Option rc_E)) (S : rc_S) : Option ((Unit ⊕ (Nat × Nat)) × rc_S) := match o with
  | none => none
  | some h => some (.inl (), (h, S.2))
theorem ev_wr (g : rc_S → Option (Nat → Option rc_E)) (S : rc_S) : (rc_wr g).1 S = rc_o2 (g S) S := by
  unfold rc_wr rc_o2
  dsimp only
  cases g S <;> rfl
def rc_o3 (o : Option (Nat → Nat → Int32)) (S : rc_S) : Option ((Unit ⊕ (Nat × Nat)) × rc_S) := match o with
  | none => none
  | some h => some (.inl (), (S.1, S.2.1, S.2.2.1, S.2.2.2.1, h, S.2.2.2.2.2))
theorem ev_sg (g : rc_S → Option (Nat → Nat → Int32)) (S : rc_S) : (rc_sg g).1 S = rc_o3 (g S) S := by
  unfold rc_sg rc_o3
  dsimp only
  cases g S <;> rfl
def rc_o4 (o : Option (rc_E × Nat)) (S : rc_S) : Option ((Option Nat ⊕ (Nat × Nat)) × rc_S) := match o with
  | none => none
  | some (e, k) => some (.inl (some S.2.1), (va_up S.1 S.2.1 (some e), S.2.1 + 1, S.2.2.1 + k, S.2.2.2))
theorem ev_al (g : rc_S → Option (rc_E × Nat)) (S : rc_S) : (rc_al g).1 S = rc_o4 (g S) S := by
  unfold rc_al rc_o4
  dsimp only
  cases g S <;> rfl
/-- one cell is written -/
def rc_ud (S : rc_S) (a : Nat) (e : rc_E) : rc_S := (va_up S.1 a (some e), S.2)
/-- a cell is made -/
def rc_mk (S : rc_S) (e : rc_E) (k : Nat) : rc_S := (va_up S.1 S.2.1 (some e), S.2.1 + 1, S.2.2.1 + k, S.2.2.2)
theorem ud_at (S : rc_S) (a : Nat) (e : rc_E) : (rc_ud S a e).1 a = some e := by
  show (if a = a then some e else S.1 a) = _
  rw [if_pos rfl]
theorem ud_ne {S : rc_S} {a b : Nat} {e : rc_E} (h : b ≠ a) : (rc_ud S a e).1 b = S.1 b := by
  show (if b = a then some e else S.1 b) = _
  rw [if_neg h]
theorem mk_at (S : rc_S) (e : rc_E) (k : Nat) : (rc_mk S e k).1 S.2.1 = some e := by
  show (if S.2.1 = S.2.1 then some e else S.1 S.2.1) = _
  rw [if_pos rfl]
theorem mk_ne {S : rc_S} {b k : Nat} {e : rc_E} (h : b ≠ S.2.1) : (rc_mk S e k).1 b = S.1 b := by
  show (if b = S.2.1 then some e else S.1 b) = _
  rw [if_neg h]
/-! reads -/
section EVR
variable {S : rc_S} {α : Type} {a ci k : Nat} {fs : List rc_V}
theorem ob_obj (h : S.1 a = some (.inr (ci, fs))) : rc_obj S ci (some a) = some fs := by
  simp [rc_obj, rc_look, h]
theorem ob_objW (h : S.1 a = some (.inr (ci, fs))) : rc_objW S ci (some a) = some (a, fs) := by
  simp [rc_objW, h]
theorem ob_arr {t : Nat} {x : vp_A} (h : S.1 a = some (.inl (t, x))) : rc_arr S t (some a) = some x := by
  simp [rc_arr, rc_look, h]
theorem ob_arrW {t : Nat} {x : vp_A} (h : S.1 a = some (.inl (t, x))) : rc_arrW S t (some a) = some (a, x) := by
  simp [rc_arrW, h]
theorem rn_geti {v : Option Nat} {x : Int32} {f : Int32 → rc_M α} (h : rc_obj S ci v = some fs) (hk : fs[k]? = some (rc_i x)) : (rc_bind (rc_geti ci k v) f).1 S = (f x).1 S := by
  rw [ev_bind, rc_geti, ev_read, h]
  simp [hk, rc_isI, ev_o1, ev_sqi]
theorem rn_getq {v : Option Nat} {x : Option Nat} {f : Option Nat → rc_M α} (h : rc_obj S ci v = some fs) (hk : fs[k]? = some (rc_q x)) : (rc_bind (rc_getq ci k v) f).1 S = (f x).1 S := by
  rw [ev_bind, rc_getq, ev_read, h]
  simp [hk, rc_isQ, ev_o1, ev_sqi]
theorem rn_is {v : Option Nat} {f : Unit → rc_M α} (h : rc_obj S ci v = some fs) : (rc_bind (rc_is ci v) f).1 S = (f ()).1 S := by
  rw [ev_bind, rc_is, ev_read, h]
  rfl
theorem rn_nn {b : Nat} {f : Unit → rc_M α} : (rc_bind (rc_nn (some b)) f).1 S = (f ()).1 S := rfl
theorem rn_put {ty : FieldType} {x : rc_V} {f : Unit → rc_M α} (h : S.1 a = some (.inr (ci, fs))) (hk : k < fs.length) (hf : rc_fit ty x = true) : (rc_bind (rc_put ci k ty (some a) x) f).1 S = (f ()).1 (rc_ud S a (.inr (ci, fs.set k x))) := by
  have e : (rc_put ci k ty (some a) x).1 S = some (.inl (), rc_ud S a (.inr (ci, fs.set k x))) := by
    rw [rc_put, ev_wr, ob_objW h]
    simp only [hk, hf, and_self, if_true]
    rfl
  rw [ev_bind, e]
  rfl
theorem rn_new {N : Nat} {fs : List rc_V} {f : Option Nat → rc_M α} : (rc_bind (rc_new ci N fs) f).1 S = (f (some S.2.1)).1 (rc_mk S (.inr (ci, fs)) N) := rfl
theorem rn_newa {t : Nat} {n : Int32} {f : Option Nat → rc_M α} (h : 0 ≤ n ∧ n.toNatClampNeg * 8 ≤ 536870912) : (rc_bind (rc_newa t n) f).1 S = (f (some S.2.1)).1 (rc_mk S (.inl (t, (n.toNatClampNeg, rc_zero t))) n.toNatClampNeg) := by
  have e : (rc_newa t n).1 S = some (.inl (some S.2.1), rc_mk S (.inl (t, (n.toNatClampNeg, rc_zero t))) n.toNatClampNeg) := by
    rw [rc_newa, ev_al, if_pos h]
    rfl
  rw [ev_bind, e]
  rfl
theorem rn_alen {t : Nat} {v : Option Nat} {x : vp_A} {f : Int32 → rc_M α} (h : rc_arr S t v = some x) : (rc_bind (rc_alen t v) f).1 S = (f (Int32.ofNat x.1)).1 S := by
  rw [ev_bind, rc_alen, ev_read, h]
  rfl
theorem rn_ald {t : Nat} {v : Option Nat} {n : Nat} {F : Nat → Int32} {i : Int32} {f : Int32 → rc_M α} (h : rc_arr S t v = some (n, .inl F)) (hi : rc_in i n = true) : (rc_bind (rc_ald t v i) f).1 S = (f (F i.toNatClampNeg)).1 S := by
  rw [ev_bind, rc_ald, ev_read, h]
  simp [rc_aI, hi, ev_o1, ev_sqi]
theorem rn_aldl {v : Option Nat} {n : Nat} {F : Nat → Int64} {i : Int32} {f : Int64 → rc_M α} (h : rc_arr S 1 v = some (n, .inr (.inl F))) (hi : rc_in i n = true) : (rc_bind (rc_aldl v i) f).1 S = (f (F i.toNatClampNeg)).1 S := by
  rw [ev_bind, rc_aldl, ev_read, h]
  simp [rc_aL, hi, ev_o1, ev_sqi]
theorem rn_aldq {v : Option Nat} {n : Nat} {F : Nat → Option Nat} {i : Int32} {f : Option Nat → rc_M α} (h : rc_arr S 4 v = some (n, .inr (.inr (.inr (.inr F))))) (hi : rc_in i n = true) : (rc_bind (rc_aldq v i) f).1 S = (f (F i.toNatClampNeg)).1 S := by
  rw [ev_bind, rc_aldq, ev_read, h]
  simp [rc_aQ, hi, ev_o1, ev_sqi]
theorem rn_ast {t : Nat} {n : Nat} {F : Nat → Int32} {i x : Int32} {f : Unit → rc_M α} (h : S.1 a = some (.inl (t, (n, .inl F)))) (hi : rc_in i n = true) : (rc_bind (rc_ast t (some a) i x) f).1 S = (f ()).1 (rc_ud S a (.inl (t, (n, .inl (upd F i.toNatClampNeg (vp_nar (rc_ty t) x)))))) := by
  have e : (rc_ast t (some a) i x).1 S = some (.inl (), rc_ud S a (.inl (t, (n, .inl (upd F i.toNatClampNeg (vp_nar (rc_ty t) x)))))) := by
    rw [rc_ast, ev_wr, ob_arrW h]
    simp only [rc_aI, hi, if_true]
    rfl
  rw [ev_bind, e]
  rfl
theorem rn_astl {n : Nat} {F : Nat → Int64} {i : Int32} {x : Int64} {f : Unit → rc_M α} (h : S.1 a = some (.inl (1, (n, .inr (.inl F))))) (hi : rc_in i n = true) : (rc_bind (rc_astl (some a) i x) f).1 S = (f ()).1 (rc_ud S a (.inl (1, (n, .inr (.inl (vp_updL F i.toNatClampNeg x)))))) := by
  have e : (rc_astl (some a) i x).1 S = some (.inl (), rc_ud S a (.inl (1, (n, .inr (.inl (vp_updL F i.toNatClampNeg x)))))) := by
    rw [rc_astl, ev_wr, ob_arrW h]
    simp only [rc_aL, hi, if_true]
    rfl
  rw [ev_bind, e]
  rfl
theorem rn_astq {n b : Nat} {o : Nat × List rc_V} {F : Nat → Option Nat} {i : Int32} {f : Unit → rc_M α} (h : S.1 a = some (.inl (4, (n, .inr (.inr (.inr (.inr F))))))) (hb : S.1 b = some (.inr o)) (hi : rc_in i n = true) : (rc_bind (rc_astq (some a) i (some b)) f).1 S = (f ()).1 (rc_ud S a (.inl (4, (n, .inr (.inr (.inr (.inr (va_up F i.toNatClampNeg (some b))))))))) := by
  have e : (rc_astq (some a) i (some b)).1 S = some (.inl (), rc_ud S a (.inl (4, (n, .inr (.inr (.inr (.inr (va_up F i.toNatClampNeg (some b))))))))) := by
    rw [rc_astq, ev_wr, ob_arrW h]
    simp only [rc_aQ, hi, hb, if_true]
    rfl
  rw [ev_bind, e]
  rfl
theorem rn_v {β : Type} {x : rc_M β} {f : β → rc_M α} {v : β} {S1 : rc_S} (h : x.1 S = some (.inl v, S1)) : (rc_bind x f).1 S = (f v).1 S1 := by
  rw [ev_bind, h]; rfl
theorem rn_x {β : Type} {x : rc_M β} {f : β → rc_M α} {e : Nat × Nat} {S1 : rc_S} (h : x.1 S = some (.inr e, S1)) : (rc_bind x f).1 S = some (.inr e, S1) := by
  rw [ev_bind, h]; rfl
theorem rn_fuel {f : Nat → rc_M α} : (rc_bind rc_fuel f).1 S = (f (rc_kf (rc_k S))).1 S := rfl
theorem rn_text {i : Nat} {f : Option Nat → rc_M α} : (rc_bind (rc_text i) f).1 S = (f (some (rc_kt (rc_k S) i))).1 S := rfl
theorem rn_mir {f : Option Nat → rc_M α} : (rc_bind rc_mir f).1 S = (f (some (rc_kt (rc_k S) 1000))).1 S := rfl
theorem rn_stat {i : Nat} {x : Option Nat} {f : Option Nat → rc_M α} (h : rc_kv (rc_k S) i = rc_q x) : (rc_bind (rc_stat i) f).1 S = (f x).1 S := by
  rw [ev_bind, rc_stat, ev_read, h]
  rfl
theorem rn_stati {i : Nat} {x : Int32} {f : Int32 → rc_M α} (h : rc_kv (rc_k S) i = rc_i x) : (rc_bind (rc_stati i) f).1 S = (f x).1 S := by
  rw [ev_bind, rc_stati, ev_read, h]
  rfl
theorem rn_nar {ty : FieldType} {x : Int32} {f : Unit → rc_M α} (h : narrow ty (.int x) = .int x) : (rc_bind (rc_narM ty x) f).1 S = (f ()).1 S := by
  rw [ev_bind, rc_narM, ev_read, if_pos h]
  rfl
theorem rn_mget {k : Nat} {f : Int32 → rc_M α} (h : rc_fl S = true) : (rc_bind (rc_mget k) f).1 S = (f (rc_g S 100 k)).1 S := by
  rw [ev_bind, rc_mget, ev_read, if_pos h]
  rfl
theorem rn_mald {j : Nat} {i : Int32} {f : Int32 → rc_M α} (h : rc_fl S = true) (hi : rc_in i (rc_mN j) = true) : (rc_bind (rc_mald j i) f).1 S = (f (rc_g S j i.toNatClampNeg)).1 S := by
  rw [ev_bind, rc_mald, ev_read, if_pos ⟨h, hi⟩]
  rfl
/-- the model's numbers are written -/
def rc_ug (S : rc_S) (g : Nat → Nat → Int32) : rc_S := (S.1, S.2.1, S.2.2.1, S.2.2.2.1, g, S.2.2.2.2.2)
theorem rn_mput {k : Nat} {ty : FieldType} {x : Int32} {f : Unit → rc_M α} (h : rc_fl S = true) (hf : rc_fit ty (rc_i x) = true) : (rc_bind (rc_mput k ty x) f).1 S = (f ()).1 (rc_ug S (rc_up2 (rc_g S) 100 k x)) := by
  have e : (rc_mput k ty x).1 S = some (.inl (), rc_ug S (rc_up2 (rc_g S) 100 k x)) := by
    rw [rc_mput, ev_sg, if_pos ⟨h, hf⟩]
    rfl
  rw [ev_bind, e]
  rfl
theorem rn_mast {j : Nat} {i x : Int32} {f : Unit → rc_M α} (h : rc_fl S = true) (hi : rc_in i (rc_mN j) = true) : (rc_bind (rc_mast j i x) f).1 S = (f ()).1 (rc_ug S (rc_up2 (rc_g S) j i.toNatClampNeg (vp_nar (rc_ty (rc_mT j)) x))) := by
  have e : (rc_mast j i x).1 S = some (.inl (), rc_ug S (rc_up2 (rc_g S) j i.toNatClampNeg (vp_nar (rc_ty (rc_mT j)) x))) := by
    rw [rc_mast, ev_sg, if_pos ⟨h, hi⟩]
    rfl
  rw [ev_bind, e]
  rfl
end EVR
/-! small numbers as ints -/
theorem i32_in {n N : Nat} (h : n < N) (hN : N ≤ 2147483647) : rc_in (Int32.ofNat n) N = true := by
  have e : (Int32.ofNat n).toInt = (n : Int) := Int32.toInt_ofNat_of_lt (by omega)
  have e2 : (Int32.ofNat n).toNatClampNeg = n := by
    rw [Int32.toNatClampNeg, e]; rfl
  simp only [rc_in, Bool.and_eq_true, decide_eq_true_eq]
  refine ⟨?_, by rw [e2]; exact h⟩
  rw [Int32.le_iff_toInt_le, e]
  show (0 : Int) ≤ n
  omega
theorem i32_cn {n : Nat} (hN : n ≤ 2147483647) : (Int32.ofNat n).toNatClampNeg = n := by
  have e : (Int32.ofNat n).toInt = (n : Int) := Int32.toInt_ofNat_of_lt (by omega)
  rw [Int32.toNatClampNeg, e]; rfl
theorem i32_lt {m n : Nat} (hm : m ≤ 2147483647) (hn : n ≤ 2147483647) : (Int32.ofNat m < Int32.ofNat n) ↔ m < n := by
  rw [Int32.lt_iff_toInt_lt, Int32.toInt_ofNat_of_lt (by omega), Int32.toInt_ofNat_of_lt (by omega)]
  omega
theorem i32_le {m n : Nat} (hm : m ≤ 2147483647) (hn : n ≤ 2147483647) : (Int32.ofNat m ≤ Int32.ofNat n) ↔ m ≤ n := by
  rw [Int32.le_iff_toInt_le, Int32.toInt_ofNat_of_lt (by omega), Int32.toInt_ofNat_of_lt (by omega)]
  omega
theorem i32_eq {m n : Nat} (hm : m ≤ 2147483647) (hn : n ≤ 2147483647) : (Int32.ofNat m = Int32.ofNat n) ↔ m = n := by
  rw [← Int32.toInt_inj, Int32.toInt_ofNat_of_lt (by omega), Int32.toInt_ofNat_of_lt (by omega)]
  omega
theorem i32_ge0 {n : Nat} (hn : n ≤ 2147483647) : ¬ (Int32.ofNat n < 0) := by
  rw [Int32.lt_iff_toInt_lt, Int32.toInt_ofNat_of_lt (by omega)]
  show ¬ ((n : Int) < 0)
  omega
theorem i32_succ {n : Nat} : Int32.ofNat n + 1 = Int32.ofNat (n + 1) := by
  rw [Int32.ofNat_add]; rfl
/-! ArrayList -/
/-- at a stands an ArrayList of n elements f, its array at d, of cap places; m: modCount -/
def rc_isL (S : rc_S) (a n : Nat) (f : Nat → Nat) (m : Int32) (d cap : Nat) : Prop := S.1 a = some (.inr (12, [rc_i m, rc_q (some d), rc_i (Int32.ofNat n)])) ∧ (∃ F : Nat → Option Nat, rc_arr S 4 (some d) = some (cap, .inr (.inr (.inr (.inr F)))) ∧ ∀ i, i < n → F i = some (f i)) ∧ n ≤ cap ∧ cap ≤ 1000000
section ALS
variable {S : rc_S} {a n : Nat} {f : Nat → Nat} {m : Int32} {d cap : Nat}
theorem al_size (h : rc_isL S a n f m d cap) : (rp_J7_size (some a)).1 S = some (.inl (Int32.ofNat n), S) := by
  unfold rp_J7_size
  rw [rn_geti (ob_obj h.1) rfl]; rfl
theorem al_isEmpty (h : rc_isL S a n f m d cap) : (rp_J7_isEmpty (some a)).1 S = some (.inl (if n = 0 then 1 else 0), S) := by
  unfold rp_J7_isEmpty
  rw [rn_geti (ob_obj h.1) rfl, ev_ite]
  have e : (Int32.ofNat n = 0) ↔ n = 0 := i32_eq (n := 0) (by have := h.2.2; omega) (by omega)
  by_cases h0 : n = 0
  · rw [if_pos (e.mpr h0), if_pos h0]; rfl
  · rw [if_neg (fun h => h0 (e.mp h)), if_neg h0]; rfl
theorem al_get (h : rc_isL S a n f m d cap) {i : Nat} (hi : i < n) : (rp_J7_get (some a) (Int32.ofNat i)).1 S = some (.inl (some (f i)), S) := by
  have hb := h.2.2
  obtain ⟨F, hF, hf⟩ := h.2.1
  unfold rp_J7_get
  rw [rn_geti (ob_obj h.1) rfl]
  have e1 : (rp_J19_checkIndex (Int32.ofNat i) (Int32.ofNat n)).1 S = some (.inl (Int32.ofNat i), S) := by
    unfold rp_J19_checkIndex rp_J9_checkIndex
    rw [ev_bind, ev_ite, if_neg (i32_ge0 (by omega)), ev_ite, if_pos ((i32_lt (by omega) (by omega)).mpr hi)]
    rfl
  rw [rn_v e1, rn_is (ob_obj h.1)]
  have e2 : (rp_J7_elementData (some a) (Int32.ofNat i)).1 S = some (.inl (some (f i)), S) := by
    unfold rp_J7_elementData
    rw [rn_getq (ob_obj h.1) rfl, rn_aldq hF (i32_in (by omega) (by omega)), i32_cn (by omega), hf i hi]
    rfl
  rw [rn_v e2]; rfl
end ALS
