set_option maxRecDepth 100000
/-! THE ABSTRACT MACHINE: states, programs (a partial state monad with exceptions), and how a state pictures a heap -/
abbrev rc_V : Type := (Int32 ⊕ Option Nat) ⊕ (Int64 ⊕ (UInt32 ⊕ UInt64))
abbrev rc_i (x : Int32) : rc_V := .inl (.inl x)
abbrev rc_q (r : Option Nat) : rc_V := .inl (.inr r)
abbrev rc_l (x : Int64) : rc_V := .inr (.inl x)
abbrev rc_f (x : UInt32) : rc_V := .inr (.inr (.inl x))
abbrev rc_d (x : UInt64) : rc_V := .inr (.inr (.inr x))
def rc_val (v : rc_V) : Value := match v with
  | .inl (.inl x) => .int x
  | .inl (.inr r) => va_rf r
  | .inr (.inl x) => .long x
  | .inr (.inr (.inl x)) => .float x
  | .inr (.inr (.inr x)) => .double x
/-- an array of type t, or an object of class c -/
abbrev rc_E : Type := (Nat × vp_A) ⊕ (Nat × List rc_V)
/-- constants of a run: the constants' cells; the statics; the texts' addresses; the model's addresses; fuel; what may be written -/
abbrev rc_K : Type := (Nat → Option rc_E) × (Nat → rc_V) × (Nat → Nat) × (Nat → Nat) × Nat × (Nat → Prop)
/-- cells, their number, slots used, whether the model stands, the model's numbers, constants -/
abbrev rc_S : Type := (Nat → Option rc_E) × Nat × Nat × Bool × (Nat → Nat → Int32) × rc_K
abbrev rc_h (S : rc_S) : Nat → Option rc_E := S.1
abbrev rc_n (S : rc_S) : Nat := S.2.1
abbrev rc_s (S : rc_S) : Nat := S.2.2.1
abbrev rc_fl (S : rc_S) : Bool := S.2.2.2.1
abbrev rc_g (S : rc_S) : Nat → Nat → Int32 := S.2.2.2.2.1
abbrev rc_k (S : rc_S) : rc_K := S.2.2.2.2.2
abbrev rc_kc (K : rc_K) : Nat → Option rc_E := K.1
abbrev rc_kv (K : rc_K) : Nat → rc_V := K.2.1
abbrev rc_kt (K : rc_K) : Nat → Nat := K.2.2.1
abbrev rc_km (K : rc_K) : Nat → Nat := K.2.2.2.1
abbrev rc_kf (K : rc_K) : Nat := K.2.2.2.2.1
abbrev rc_kw (K : rc_K) : Nat → Prop := K.2.2.2.2.2
def rc_ok {α : Type} (f : rc_S → Option ((α ⊕ (Nat × Nat)) × rc_S)) : Prop := ∀ S r, f S = some r → rc_n S ≤ rc_n r.2 ∧ rc_s S ≤ rc_s r.2 ∧ rc_k r.2 = rc_k S ∧ (rc_fl S = true → rc_fl r.2 = true)
def rc_M (α : Type) : Type := { f : rc_S → Option ((α ⊕ (Nat × Nat)) × rc_S) // rc_ok f }
def rc_bindF {α β : Type} (x : rc_M α) (f : α → rc_M β) (S : rc_S) : Option ((β ⊕ (Nat × Nat)) × rc_S) := match x.1 S with
  | none => none
  | some (.inr e, S1) => some (.inr e, S1)
  | some (.inl v, S1) => (f v).1 S1
theorem rc_bind_ok {α β : Type} (x : rc_M α) (f : α → rc_M β) : rc_ok (rc_bindF x f) := by
  intro S r h
  unfold rc_bindF at h
  split at h
  · cases h
  · rename_i e S1 hx
    cases h
    exact x.2 S _ hx
  · rename_i v S1 hx
    obtain ⟨a1, a2, a3, a4⟩ := x.2 S _ hx
    obtain ⟨b1, b2, b3, b4⟩ := (f v).2 S1 _ h
    exact ⟨Nat.le_trans a1 b1, Nat.le_trans a2 b2, b3.trans a3, fun h => b4 (a4 h)⟩
def rc_bind {α β : Type} (x : rc_M α) (f : α → rc_M β) : rc_M β := ⟨rc_bindF x f, rc_bind_ok x f⟩
def rc_read {α : Type} (g : rc_S → Option α) : rc_M α := ⟨fun S => match g S with
  | none => none
  | some v => some (.inl v, S), by
    intro S r h
    dsimp only at h
    split at h
    · cases h
    · cases h; exact ⟨Nat.le_refl _, Nat.le_refl _, rfl, fun h => h⟩⟩
def rc_pure {α : Type} (v : α) : rc_M α := ⟨fun S => some (.inl v, S), by
    intro S r h
    cases h; exact ⟨Nat.le_refl _, Nat.le_refl _, rfl, fun h => h⟩⟩
def rc_fail {α : Type} : rc_M α := ⟨fun _ => none, by intro S r h; cases h⟩
/-- cells are written: g says what they are then -/
def rc_wr (g : rc_S → Option (Nat → Option rc_E)) : rc_M Unit := ⟨fun S => match g S with
  | none => none
  | some h => some (.inl (), (h, S.2)), by
    intro S r h
    dsimp only at h
    split at h
    · cases h
    · cases h; exact ⟨Nat.le_refl _, Nat.le_refl _, rfl, fun h => h⟩⟩
/-- the model's numbers are written -/
def rc_sg (g : rc_S → Option (Nat → Nat → Int32)) : rc_M Unit := ⟨fun S => match g S with
  | none => none
  | some h => some (.inl (), (S.1, S.2.1, S.2.2.1, S.2.2.2.1, h, S.2.2.2.2.2)), by
    intro S r h
    dsimp only at h
    split at h
    · cases h
    · cases h; exact ⟨Nat.le_refl _, Nat.le_refl _, rfl, fun h => h⟩⟩
/-- a cell is made: g says which, and of how many slots -/
def rc_al (g : rc_S → Option (rc_E × Nat)) : rc_M (Option Nat) := ⟨fun S => match g S with
  | none => none
  | some (e, k) => some (.inl (some S.2.1), (va_up S.1 S.2.1 (some e), S.2.1 + 1, S.2.2.1 + k, S.2.2.2)), by
    intro S r h
    dsimp only at h
    split at h
    · cases h
    · cases h; exact ⟨Nat.le_succ _, Nat.le_add_right _ _, rfl, fun h => h⟩⟩
/-- 'throw new E()', E a class of the JDK's: a cell that no one reads -/
def rc_thr {α : Type} (E : Nat) : rc_M α := ⟨fun S => some (.inr (E, S.2.1), (S.1, S.2.1 + 1, S.2.2.1 + 6, S.2.2.2)), by
    intro S r h
    cases h; exact ⟨Nat.le_succ _, Nat.le_add_right _ _, rfl, fun h => h⟩⟩
/-- an object is thrown -/
def rc_raise {α : Type} (E : Nat) (v : Option Nat) : rc_M α := ⟨fun S => match v with
  | none => none
  | some a => some (.inr (E, a), S), by
    intro S r h
    dsimp only at h
    split at h
    · cases h
    · cases h; exact ⟨Nat.le_refl _, Nat.le_refl _, rfl, fun h => h⟩⟩
def rc_look (S : rc_S) (a : Nat) : Option rc_E := match S.1 a with
  | some e => some e
  | none => rc_kc (rc_k S) a
def rc_obj (S : rc_S) (ci : Nat) (v : Option Nat) : Option (List rc_V) := match v with
  | none => none
  | some a => match rc_look S a with
    | some (.inr (c, fs)) => if c = ci then some fs else none
    | _ => none
def rc_arr (S : rc_S) (t : Nat) (v : Option Nat) : Option vp_A := match v with
  | none => none
  | some a => match rc_look S a with
    | some (.inl (u, x)) => if u = t then some x else none
    | _ => none
/-- the same, of a cell that may be written -/
def rc_objW (S : rc_S) (ci : Nat) (v : Option Nat) : Option (Nat × List rc_V) := match v with
  | none => none
  | some a => match S.1 a with
    | some (.inr (c, fs)) => if c = ci then some (a, fs) else none
    | _ => none
def rc_arrW (S : rc_S) (t : Nat) (v : Option Nat) : Option (Nat × vp_A) := match v with
  | none => none
  | some a => match S.1 a with
    | some (.inl (u, x)) => if u = t then some (a, x) else none
    | _ => none
def rc_isI (v : Option rc_V) : Option Int32 := match v with
  | some (.inl (.inl x)) => some x
  | _ => none
def rc_isQ (v : Option rc_V) : Option (Option Nat) := match v with
  | some (.inl (.inr x)) => some x
  | _ => none
def rc_geti (ci k : Nat) (v : Option Nat) : rc_M Int32 := rc_read fun S => match rc_obj S ci v with
  | none => none
  | some fs => rc_isI fs[k]?
def rc_getq (ci k : Nat) (v : Option Nat) : rc_M (Option Nat) := rc_read fun S => match rc_obj S ci v with
  | none => none
  | some fs => rc_isQ fs[k]?
/-- may a field of this type hold this value as it is -/
def rc_fit (ty : FieldType) (x : rc_V) : Bool := fits ty (rc_val x) && decide (narrow ty (rc_val x) = rc_val x)
def rc_put (ci k : Nat) (ty : FieldType) (v : Option Nat) (x : rc_V) : rc_M Unit := rc_wr fun S => match rc_objW S ci v with
  | none => none
  | some (a, fs) => if k < fs.length ∧ rc_fit ty x = true then some (va_up S.1 a (some (.inr (ci, fs.set k x)))) else none
/-- the receiver is an object of class ci -/
def rc_is (ci : Nat) (v : Option Nat) : rc_M Unit := rc_read fun S => match rc_obj S ci v with
  | none => none
  | some _ => some ()
def rc_nn (v : Option Nat) : rc_M Unit := rc_read fun _ => match v with
  | none => none
  | some _ => some ()
def rc_new (ci N : Nat) (fs : List rc_V) : rc_M (Option Nat) := rc_al fun _ => some (.inr (ci, fs), N)
def rc_in (i : Int32) (n : Nat) : Bool := decide (0 ≤ i) && decide (i.toNatClampNeg < n)
def rc_aI (x : vp_A) : Option (Nat → Int32) := match x.2 with
  | .inl f => some f
  | _ => none
def rc_aL (x : vp_A) : Option (Nat → Int64) := match x.2 with
  | .inr (.inl f) => some f
  | _ => none
def rc_aQ (x : vp_A) : Option (Nat → Option Nat) := match x.2 with
  | .inr (.inr (.inr (.inr f))) => some f
  | _ => none
/-- element of an array of ints, bytes (t = 2), chars (t = 3) -/
def rc_ald (t : Nat) (v : Option Nat) (i : Int32) : rc_M Int32 := rc_read fun S => match rc_arr S t v with
  | none => none
  | some x => match rc_aI x with
    | none => none
    | some f => if rc_in i x.1 = true then some (f i.toNatClampNeg) else none
def rc_aldl (v : Option Nat) (i : Int32) : rc_M Int64 := rc_read fun S => match rc_arr S 1 v with
  | none => none
  | some x => match rc_aL x with
    | none => none
    | some f => if rc_in i x.1 = true then some (f i.toNatClampNeg) else none
def rc_aldq (v : Option Nat) (i : Int32) : rc_M (Option Nat) := rc_read fun S => match rc_arr S 4 v with
  | none => none
  | some x => match rc_aQ x with
    | none => none
    | some f => if rc_in i x.1 = true then some (f i.toNatClampNeg) else none
def rc_ty (t : Nat) : FieldType := match t with
  | 0 => .int
  | 1 => .long
  | 2 => .byte
  | 3 => .char
  | _ => .object "java/lang/Object"
def rc_ast (t : Nat) (v : Option Nat) (i x : Int32) : rc_M Unit := rc_wr fun S => match rc_arrW S t v with
  | none => none
  | some (a, y) => match rc_aI y with
    | none => none
    | some f => if rc_in i y.1 = true then some (va_up S.1 a (some (.inl (t, (y.1, .inl (upd f i.toNatClampNeg (vp_nar (rc_ty t) x))))))) else none
def rc_astl (v : Option Nat) (i : Int32) (x : Int64) : rc_M Unit := rc_wr fun S => match rc_arrW S 1 v with
  | none => none
  | some (a, y) => match rc_aL y with
    | none => none
    | some f => if rc_in i y.1 = true then some (va_up S.1 a (some (.inl (1, (y.1, .inr (.inl (vp_updL f i.toNatClampNeg x))))))) else none
/-- a reference is stored: null, or an object of a class of ours -/
def rc_astq (v : Option Nat) (i : Int32) (x : Option Nat) : rc_M Unit := rc_wr fun S => match rc_arrW S 4 v with
  | none => none
  | some (a, y) => match rc_aQ y with
    | none => none
    | some f => match x with
      | none => if rc_in i y.1 = true then some (va_up S.1 a (some (.inl (4, (y.1, .inr (.inr (.inr (.inr (va_up f i.toNatClampNeg none)))))))) ) else none
      | some b => match S.1 b with
        | some (.inr _) => if rc_in i y.1 = true then some (va_up S.1 a (some (.inl (4, (y.1, .inr (.inr (.inr (.inr (va_up f i.toNatClampNeg (some b)))))))))) else none
        | _ => none
def rc_alen (t : Nat) (v : Option Nat) : rc_M Int32 := rc_read fun S => match rc_arr S t v with
  | none => none
  | some x => some (Int32.ofNat x.1)
def rc_zero (t : Nat) : (Nat → Int32) ⊕ (Nat → Int64) ⊕ (Nat → UInt32) ⊕ (Nat → UInt64) ⊕ (Nat → Option Nat) := match t with
  | 0 => .inl (fun _ => 0)
  | 1 => .inr (.inl (fun _ => 0))
  | 2 => .inl (fun _ => 0)
  | 3 => .inl (fun _ => 0)
  | _ => .inr (.inr (.inr (.inr (fun _ => none))))
def rc_newa (t : Nat) (n : Int32) : rc_M (Option Nat) := rc_al fun _ => if 0 ≤ n ∧ n.toNatClampNeg * 8 ≤ 536870912 then some (.inl (t, (n.toNatClampNeg, rc_zero t)), n.toNatClampNeg) else none
def rc_stat (i : Nat) : rc_M (Option Nat) := rc_read fun S => rc_isQ (some (rc_kv (rc_k S) i))
def rc_stati (i : Nat) : rc_M Int32 := rc_read fun S => rc_isI (some (rc_kv (rc_k S) i))
def rc_text (i : Nat) : rc_M (Option Nat) := rc_read fun S => some (some (rc_kt (rc_k S) i))
def rc_fuel : rc_M Nat := rc_read fun S => some (rc_kf (rc_k S))
/-- the model's numbers: a scalar field (row 100), an element of its array number j, of N places -/
def rc_mget (k : Nat) : rc_M Int32 := rc_read fun S => if rc_fl S = true then some (rc_g S 100 k) else none
def rc_up2 (g : Nat → Nat → Int32) (j k : Nat) (x : Int32) : Nat → Nat → Int32 := fun a b => if a = j ∧ b = k then x else g a b
def rc_mput (k : Nat) (ty : FieldType) (x : Int32) : rc_M Unit := rc_sg fun S => if rc_fl S = true ∧ rc_fit ty (rc_i x) = true then some (rc_up2 (rc_g S) 100 k x) else none
def rc_mN (j : Nat) : Nat := match j with
  | 0 => 186 | 1 => 186 | 2 => 186 | 3 => 1488 | 4 => 186 | 7 => 600 | 8 => 600 | 9 => 10 | 14 => 80 | 22 => 4 | _ => 0
def rc_mT (j : Nat) : Nat := match j with
  | 14 => 3 | _ => 0
def rc_mald (j : Nat) (i : Int32) : rc_M Int32 := rc_read fun S => if rc_fl S = true ∧ rc_in i (rc_mN j) = true then some (rc_g S j i.toNatClampNeg) else none
def rc_mast (j : Nat) (i x : Int32) : rc_M Unit := rc_sg fun S => if rc_fl S = true ∧ rc_in i (rc_mN j) = true then some (rc_up2 (rc_g S) j i.toNatClampNeg (vp_nar (rc_ty (rc_mT j)) x)) else none
/-! the classes that are pictured, by number -/
def rc_cl : List vw_C := [(RX1, TX1, 7), (RX2, TX2, 9), (RX3, TX3, 8), (RX4, TX4, 8), (RX5, TX5, 2), (RX6, TX6, 3), (RX7, TX7, 4), (RX8, TX8, 4), (RX9, TX9, 23), (RJ1, TJ1, 3), (RJ3, TJ3, 4), (RJ4, TJ4, 4), (RJ7, TJ7, 3), (RJ25, TJ25, 4)]
abbrev rc_D : Type := va_G × (Nat → ClassId)
def rc_tys (D : rc_D) : List (ClassId × FieldType) := [(D.2 0, rc_ty 0), (D.2 1, rc_ty 1), (D.2 2, rc_ty 2), (D.2 3, rc_ty 3), (D.2 4, rc_ty 4)]
def rc_at (D : rc_D) (a : Nat) (e : rc_E) (H : Heap) : Prop := match e with
  | .inl x => x.1 < 5 ∧ H[a]? = some (vp_cell (D.2 x.1) x.2)
  | .inr o => va_at D.1 rc_cl (a, .inr (o.1, o.2.map rc_val)) H ∧ ∀ cell : Cell, H[a]? = some cell → cell.monitor.owner = none ∧ cell.monitor.count = 0
/-- the model's object: an int field, or the address of an array -/
def rc_mF (K : rc_K) (g : Nat → Nat → Int32) (k : Nat) : Value := if rc_mN k = 0 then .int (g 100 k) else .ref (rc_km K k)
def rc_MD (D : rc_D) (S : rc_S) (H : Heap) : Prop :=
  t_OB (rc_km (rc_k S) 100) (D.1.1 8) 23 (D.1.2 8) H (rc_mF (rc_k S) (rc_g S)) ∧ (∀ j, rc_mN j ≠ 0 → H[rc_km (rc_k S) j]? = some (vp_cell (D.2 (rc_mT j)) (rc_mN j, .inl (rc_g S j)))) ∧
  (∀ i j, (rc_mN i ≠ 0 ∨ i = 100) → (rc_mN j ≠ 0 ∨ j = 100) → rc_km (rc_k S) i = rc_km (rc_k S) j → i = j) ∧ (∀ j, (rc_mN j ≠ 0 ∨ j = 100) → S.1 (rc_km (rc_k S) j) = none ∧ rc_kw (rc_k S) (rc_km (rc_k S) j))
def rc_Rp (D : rc_D) (S : rc_S) (H : Heap) : Prop := H.size = rc_n S ∧ (∀ a e, S.1 a = some e → rc_at D a e H ∧ rc_kw (rc_k S) a) ∧ (rc_fl S = true → rc_MD D S H)
theorem rc_at.kept {D : rc_D} {a : Nat} {e : rc_E} {H H1 : Heap} (h : rc_at D a e H) (hq : H1[a]? = H[a]?) : rc_at D a e H1 := by
  cases e with
  | inl x => exact ⟨h.1, hq.trans h.2⟩
  | inr o => exact ⟨va_at.kept (q := (a, .inr (o.1, o.2.map rc_val))) h.1 hq, fun cell hc => h.2 cell (hq.symm.trans hc)⟩
theorem rc_at.lt {D : rc_D} {a : Nat} {e : rc_E} {H : Heap} (h : rc_at D a e H) : a < H.size := by
  cases e with
  | inl x => exact (Array.getElem?_eq_some_iff.mp h.2).1
  | inr o => exact va_at.lt (q := (a, .inr (o.1, o.2.map rc_val))) h.1
