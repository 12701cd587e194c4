set_option maxRecDepth 100000
/-! WHAT HOLDS ALL THROUGH A RUN: classes, array classes, odd words, statics, texts, constants' cells -/
def rc_oddw (w : Cond) : Bool := match w with
  | .fieldLinkNest .. => true
  | .methodLinkNest .. => true
  | .castable .. => true
  | .declares .. => true
  | .privateMethod .. => true
  | _ => false
def lw_odd : List Cond := lw_tbl.filter rc_oddw
theorem lw_o {w : Cond} (h : w ∈ lw_tbl) (g : rc_oddw w = true) : w ∈ lw_odd := List.mem_filter.mpr ⟨h, g⟩
theorem rc_oddw_warm {w : Cond} (g : rc_oddw w = true) {s U : State} (hW : s.WarmedH U.vm) (h : va_Nw w s) : va_Nw w U := by
  cases w <;> first | exact va_Nw.warmF hW h | exact va_Nw.warmM hW h | exact va_Nw.warmC hW h | exact va_Nw.warmD hW h | exact Cond.privateMethod_warm hW h | (exact absurd g (by decide)) | (simp [rc_oddw] at g)
def rc_xsize : MethodName := { cls := "java/util/List", name := "size", desc := "()I" }
def rc_xadd : MethodName := { cls := "java/util/List", name := "add", desc := "(Ljava/lang/Object;)Z" }
def rc_xget : MethodName := { cls := "java/util/List", name := "get", desc := "(I)Ljava/lang/Object;" }
def rc_xempty : MethodName := { cls := "java/util/List", name := "isEmpty", desc := "()Z" }
def rc_xiter : MethodName := { cls := "java/util/List", name := "iterator", desc := "()Ljava/util/Iterator;" }
def rc_xhas : MethodName := { cls := "java/util/Iterator", name := "hasNext", desc := "()Z" }
def rc_xnext : MethodName := { cls := "java/util/Iterator", name := "next", desc := "()Ljava/lang/Object;" }
def rc_fws : List (String × MethodName × MethodName) := [(RJ7, rc_xsize, yJ7_size), (RJ7, rc_xadd, yJ7_add), (RJ7, rc_xget, yJ7_get), (RJ7, rc_xempty, yJ7_isEmpty), (RJ7, rc_xiter, yJ7_iterator), (RJ25, rc_xhas, yJ25_hasNext), (RJ25, rc_xnext, yJ25_next)]
theorem rc_fws_ok : ∀ q ∈ rc_fws, q.2.1.cls ≠ "java/lang/invoke/MethodHandle" ∧ q.2.1.cls ≠ "java/lang/invoke/VarHandle" := by decide +kernel
/-- the statics that are read -/
def rc_sts : List (String × String × String) := [("RooftopCats$Token", "WORD", "LRooftopCats$Token;"), ("RooftopCats$Token", "NUMBER", "LRooftopCats$Token;"), ("RooftopCats$Token", "SEMICOLON", "LRooftopCats$Token;"), ("RooftopCats$Token", "OPENING", "LRooftopCats$Token;"), ("RooftopCats$Token", "CLOSING", "LRooftopCats$Token;"), ("RooftopCats$Token", "INVALID", "LRooftopCats$Token;"), ("RooftopCats$Token", "END", "LRooftopCats$Token;"), ("java/lang/String", "COMPACT_STRINGS", "Z"), ("java/util/ArrayList", "DEFAULTCAPACITY_EMPTY_ELEMENTDATA", "[Ljava/lang/Object;"), ("jdk/internal/util/Preconditions", "SIOOBE_FORMATTER", "Ljava/util/function/BiFunction;"), ("java/lang/Throwable", "UNASSIGNED_STACK", "[Ljava/lang/StackTraceElement;"), ("java/lang/Throwable", "SUPPRESSED_SENTINEL", "Ljava/util/List;")]
def rc_el (x : vp_A) (j : Nat) : Value := match x.2 with
  | .inl f => .int (f j)
  | .inr (.inl f) => .long (f j)
  | .inr (.inr (.inl f)) => .float (f j)
  | .inr (.inr (.inr (.inl f))) => .double (f j)
  | .inr (.inr (.inr (.inr f))) => va_rf (f j)
/-- a constant's cell: an object, or an array -/
def rc_ca (D : rc_D) (A : Nat → Prop) (a : Nat) (e : rc_E) (U : State) (H : Heap) : Prop := match e with
  | .inl x => x.1 < 5 ∧ va_T (rc_ty x.1) a x.2.1 (rc_el x.2) A U H
  | .inr o => ∃ (cell : Cell) (r : vw_C), H[a]? = some cell ∧ rc_cl[o.1]? = some r ∧ cell.cls = D.1.1 o.1 ∧ cell.vm ≠ .unknown ∧ cell.vm.isStatics = false ∧ (∀ k, k < r.2.2 → cell.slots[D.1.2 o.1 k]? = some (vp_V (o.2.map rc_val) k)) ∧ ¬ A a
theorem rc_ca.moved {D : rc_D} {A : Nat → Prop} {a : Nat} {e : rc_E} {u U : State} {H : Heap} (hvm : u.vm.Alike U.vm) (h : rc_ca D A a e u H) : rc_ca D A a e U H := by
  cases e with
  | inl x => exact ⟨h.1, h.2.moved hvm⟩
  | inr o => exact h
theorem rc_ca.kept {D : rc_D} {A : Nat → Prop} {a : Nat} {e : rc_E} {U : State} {H H1 : Heap} (h : rc_ca D A a e U H) (hq : ∀ a : Nat, a < H.size → ¬ A a → H1[a]? = H[a]?) : rc_ca D A a e U H1 := by
  cases e with
  | inl x => exact ⟨h.1, h.2.kept hq⟩
  | inr o =>
    obtain ⟨cell, r, h1, h2, h3, h4, h5, h6, h7⟩ := h
    exact ⟨cell, r, by rw [hq a (Array.getElem?_eq_some_iff.mp h1).1 h7]; exact h1, h2, h3, h4, h5, h6, h7⟩
/-- the texts: own class, pool entry, text -/
def rc_txs : List (String × Nat × String) := [("RooftopCats", 23, ""), ("RooftopCats", 35, "roof; chimney 6; chimney 3; chimney 9; chimney 0; chimney 4; gutter 0 1 5; gutter 1 2 3; gutter 2 3 7; gutter 0 3 2; gutter 3 4 9; cat 0 4 5; cat 2 3 6; cat 4 6 3; claim 0; claim 1; truce 2 1 2 6; nights 3;"), ("RooftopCats$Parser", 20, ""), ("java/lang/StringLatin1", 151, ""), ("java/util/Arrays", 337, " > "), ("java/lang/StringUTF16", 295, ""), ("RooftopCats$Parser", 117, "roof"), ("RooftopCats$Parser", 156, "repeat"), ("jdk/internal/util/ArraysSupport", 92, "unrecognized basic type: "), ("RooftopCats$Parser", 132, "chimney"), ("RooftopCats$Parser", 134, "gutter"), ("RooftopCats$Parser", 136, "cat"), ("RooftopCats$Parser", 138, "step"), ("RooftopCats$Parser", 140, "claim"), ("RooftopCats$Parser", 142, "abandon"), ("RooftopCats$Parser", 144, "chase"), ("RooftopCats$Parser", 146, "truce"), ("RooftopCats$Parser", 148, "kitten"), ("RooftopCats$Parser", 150, "yes"), ("RooftopCats$Parser", 152, "no"), ("RooftopCats$Parser", 154, "nights"), ("java/lang/StringIndexOutOfBoundsException", 13, "String index out of range: "), ("java/util/Arrays", 48, "fromIndex("), ("java/util/Arrays", 57, ") > toIndex("), ("java/util/Arrays", 59, ")"), ("java/lang/ArrayIndexOutOfBoundsException", 13, "Array index out of range: "), ("java/util/ArrayDeque", 35, "Sorry, deque too big"), ("RooftopCats", 358, " "), ("RooftopCatsModel", 45, "roof; chimney 6; chimney 3; chimney 9; chimney 0; chimney 4; gutter 0 1 5; gutter 1 2 3; gutter 2 3 7; gutter 0 3 2; gutter 3 4 9; "), ("RooftopCatsModel", 51, "cat 0 4 5; cat 2 3 6; cat 4 6 3; claim 0; claim 1; truce 2 1 2 6; nights 3;"), ("RooftopCatsModel", 344, "roof"), ("RooftopCatsModel", 267, "chimney"), ("RooftopCatsModel", 273, "gutter"), ("RooftopCatsModel", 274, "cat"), ("RooftopCatsModel", 276, "step"), ("RooftopCatsModel", 278, "claim"), ("RooftopCatsModel", 280, "abandon"), ("RooftopCatsModel", 285, "chase"), ("RooftopCatsModel", 287, "truce"), ("RooftopCatsModel", 289, "kitten"), ("RooftopCatsModel", 291, "yes"), ("RooftopCatsModel", 293, "no"), ("RooftopCatsModel", 295, "nights"), ("RooftopCatsModel", 297, "repeat")]
/-- classes said not castable -/
def rc_ncs : List (String × String) := [("java/lang/IllegalArgumentException", "java/lang/IndexOutOfBoundsException"), ("java/lang/IllegalStateException", "java/lang/IndexOutOfBoundsException"), ("java/lang/IllegalStateException", "java/lang/IllegalArgumentException")]
def rc_Env (D : rc_D) (K : rc_K) (U : State) (H : Heap) : Prop :=
  va_K D.1 rc_cl (rc_tys D) U ∧ va_AO "java/lang/Object" U ∧ (∀ w ∈ lw_odd, va_Nw w U) ∧ (∀ q ∈ rc_fws, va_Fw q.1 q.2.1 q.2.2 U) ∧
  (∀ i q, rc_sts[i]? = some q → va_Z q.1 q.2.1 q.2.2 (rc_val (rc_kv K i)) (rc_kw K) U H) ∧
  (∀ i q, rc_txs[i]? = some q → vk_R q.1 q.2.1 q.2.2 (rc_kt K i) U) ∧
  (∀ a e, rc_kc K a = some e → rc_ca D (rc_kw K) a e U H) ∧
  vy_Zq Bundle.tN "UNASSIGNED_STACK" Bundle.steD (rc_kw K) U H ∧ vy_Zq Bundle.tN "SUPPRESSED_SENTINEL" Bundle.listD (rc_kw K) U H ∧ va_Mi "[Ljava/lang/Object;" (rc_kt K 1000) U ∧ (∀ q ∈ rc_ncs, va_Nc q.1 q.2 U)
theorem rc_Env.moved {D : rc_D} {K : rc_K} {s U : State} {H : Heap} (hW : s.WarmedH U.vm) (h : rc_Env D K s H) : rc_Env D K U H := by
  obtain ⟨h1, h2, h3, h4, h5, h6, h7, h8, h9, h10, h11⟩ := h
  refine ⟨va_K.moved hW.alike h1, h2.moved hW.alike, fun w hw => rc_oddw_warm (List.mem_filter.mp hw).2 hW (h3 w hw), fun q hq => (h4 q hq).moved (rc_fws_ok q hq) hW.alike, fun i q hq => (h5 i q hq).moved hW.alike, fun i q hq => (h6 i q hq).warm hW, fun a e he => (h7 a e he).moved hW.alike, h8.moved hW.alike, h9.moved hW.alike, h10.moved hW.alike, fun q hq => (h11 q hq).moved hW.alike⟩
theorem rc_Env.kept {D : rc_D} {K : rc_K} {U : State} {H H1 : Heap} (h : rc_Env D K U H) (hq : ∀ a : Nat, a < H.size → ¬ rc_kw K a → H1[a]? = H[a]?) : rc_Env D K U H1 := by
  obtain ⟨h1, h2, h3, h4, h5, h6, h7, h8, h9, h10, h11⟩ := h
  exact ⟨h1, h2, h3, h4, fun i q hi => (h5 i q hi).kept hq, h6, fun a e he => (h7 a e he).kept hq, h8.kept hq, h9.kept hq, h10, h11⟩
/-! the run of one method's body -/
abbrev rc_X : Type := (Program × Launch × Env) × (State × MethodId × Array Value) × List Frame × Method × Code
abbrev rc_R : Type := (Option rc_V) ⊕ (Nat × Nat)
/-- run, pictures, the start's counts, the end (outcome and state), room for frames and words -/
abbrev rc_Y : Type := rc_X × rc_D × (Nat × Nat) × (rc_R × rc_S) × (Nat × Nat × Bool)
abbrev yr_p (Y : rc_Y) : Program := Y.1.1.1
abbrev yr_l (Y : rc_Y) : Launch := Y.1.1.2.1
abbrev yr_e (Y : rc_Y) : Env := Y.1.1.2.2
abbrev yr_s (Y : rc_Y) : State := Y.1.2.1.1
abbrev yr_m (Y : rc_Y) : MethodId := Y.1.2.1.2.1
abbrev yr_a (Y : rc_Y) : Array Value := Y.1.2.1.2.2
abbrev yr_b (Y : rc_Y) : List Frame := Y.1.2.2.1
abbrev yr_t (Y : rc_Y) : Method := Y.1.2.2.2.1
abbrev yr_c (Y : rc_Y) : Code := Y.1.2.2.2.2
abbrev yr_D (Y : rc_Y) : rc_D := Y.2.1
abbrev yr_B (Y : rc_Y) : Nat × Nat := Y.2.2.1
abbrev yr_T (Y : rc_Y) : rc_R × rc_S := Y.2.2.2.1
abbrev yr_K (Y : rc_Y) : rc_K := rc_k (yr_T Y).2
abbrev yr_fr (Y : rc_Y) : Nat := Y.2.2.2.2.1
abbrev yr_lo (Y : rc_Y) : Nat := Y.2.2.2.2.2.1
abbrev yr_F (Y : rc_Y) : Bool := Y.2.2.2.2.2.2
abbrev yr_mc (Y : rc_Y) : Nat := rc_n (yr_T Y).2 - (yr_B Y).1
abbrev yr_ms (Y : rc_Y) : Nat := rc_s (yr_T Y).2 - (yr_B Y).2
abbrev yr_R (Y : rc_Y) : Room := { frames := yr_fr Y, cells := yr_mc Y, slots := yr_ms Y, locals := yr_lo Y }
/-- the JDK's exceptions, by number; 100 is ScriptException -/
def rc_en (E : Nat) : String := match E with
  | 0 => "java/lang/IndexOutOfBoundsException"
  | 1 => "java/lang/IllegalArgumentException"
  | 2 => "java/lang/IllegalStateException"
  | 3 => "java/util/NoSuchElementException"
  | _ => "RooftopCats$ScriptException"
def rc_Qc (D : rc_D) (T : rc_R × rc_S) (A : Nat → Prop) : Array Value → State → Outcome → State → Prop := fun _ st o t => ∃ v : Option rc_V, T.1 = .inl v ∧ o = .returned (v.map rc_val) ∧ rc_Rp D T.2 t.heap ∧ va_F A st t
def rc_XC (D : rc_D) (T : rc_R × rc_S) (A : Nat → Prop) : String → Addr → State → State → Prop := fun E q st t => ∃ i : Nat, T.1 = .inr (i, q) ∧ E = rc_en i ∧ rc_Rp D T.2 t.heap ∧ va_F A st t
def yr_Q (Y : rc_Y) : State → Prop := vy_MQ (yr_b Y) (rc_Qc (yr_D Y) (yr_T Y) (rc_kw (yr_K Y))) (rc_XC (yr_D Y) (yr_T Y) (rc_kw (yr_K Y))) (yr_a Y) (yr_s Y) (yr_mc Y) (yr_ms Y) (rc_kw (yr_K Y))
def rc_loc (ls : Array Slot) (L : List (Option rc_V)) : Prop := ls.size = L.length ∧ lv_wf ls ∧ ∀ (i : Nat) (v : rc_V), L[i]? = some (some v) → ls[i]? = some (.val (rc_val v))
/-- THE JUDGEMENT: at pc, with the state S, these locals and this stack, the body comes to its end as yr_T says -/
def rc_Z (Y : rc_Y) (S : rc_S) (pc : Nat) (L : List (Option rc_V)) (st : List rc_V) : Prop :=
  ∀ (H : Heap) (locs : List Loc) (ls : Array Slot), rc_Rp (yr_D Y) S H → va_S (rc_kw (yr_K Y)) (yr_s Y).heap H locs → rc_loc ls L → ((yr_B Y).1 ≤ rc_n S ∧ (yr_B Y).2 ≤ rc_s S ∧ (yr_F Y = true → rc_fl S = true)) →
    W (yr_p Y) (yr_l Y) (yr_e Y) (yr_R Y) (yr_s Y) (yr_m Y) (yr_a Y) (yr_b Y) (yr_t Y) (yr_c Y) H locs (rc_n S - (yr_B Y).1) (rc_s S - (yr_B Y).2) (yr_Q Y) (F0 (yr_m Y) pc ls (st.map rc_val))
/-- a thrown object stands over the frame -/
def rc_ZX (Y : rc_Y) (S : rc_S) (pc : Nat) (L : List (Option rc_V)) (E q : Nat) : Prop :=
  ∀ (H : Heap) (locs : List Loc) (ls : Array Slot) (rest : List Value) (ce : Cell), rc_Rp (yr_D Y) S H → va_S (rc_kw (yr_K Y)) (yr_s Y).heap H locs → rc_loc ls L → ((yr_B Y).1 ≤ rc_n S ∧ (yr_B Y).2 ≤ rc_s S ∧ (yr_F Y = true → rc_fl S = true)) → H[q]? = some ce → ce.vm = .none → (yr_s Y).vm.findClass (rc_en E) = some ce.cls →
    vy_W (yr_p Y) (yr_l Y) (yr_e Y) (yr_R Y) (yr_s Y) (yr_m Y) (yr_a Y) (yr_b Y) (yr_t Y) (yr_c Y) H locs (rc_n S - (yr_B Y).1) (rc_s S - (yr_B Y).2) (yr_Q Y) (F0 (yr_m Y) pc ls rest) q
def rc_mp {α : Type} (tv : α → Option rc_V) (T : (α ⊕ (Nat × Nat)) × rc_S) : rc_R × rc_S := match T.1 with
  | .inl v => (.inl (tv v), T.2)
  | .inr e => (.inr e, T.2)
/-- the program x, from S, ends as yr_T says -/
def rc_Go {α : Type} (Y : rc_Y) (tv : α → Option rc_V) (x : rc_M α) (S : rc_S) : Prop := ∃ T, x.1 S = some T ∧ rc_mp tv T = yr_T Y
/-- a method's contract: run by its program x -/
def rc_Ct {α : Type} (l : Launch) (y : MethodName) (ws : List Cond) (fr lo : Nat) (tv : α → Option rc_V) (x : rc_M α) (As : List rc_V) : Prop :=
  ∀ (D : rc_D) (S : rc_S) (T : (α ⊕ (Nat × Nat)) × rc_S), x.1 S = some T → (yy : ∀ q, rc_n S ≤ q → rc_kw (rc_k S) q) →
    vy_Met l y ws ({ frames := fr, cells := rc_n T.2 - rc_n S, slots := rc_s T.2 - rc_s S, locals := lo }) (va_Pc (As.map rc_val) (fun U => rc_Env D (rc_k S) U U.heap ∧ rc_Rp D S U.heap)) (rc_Qc D (rc_mp tv T) (rc_kw (rc_k S))) (rc_XC D (rc_mp tv T) (rc_kw (rc_k S))) (rc_n T.2 - rc_n S) (rc_s T.2 - rc_s S) (rc_kw (rc_k S))
