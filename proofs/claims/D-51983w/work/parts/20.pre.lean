set_option maxRecDepth 100000
/-! what the printed walks use beside the rows -/
theorem rc_H.frm {Y : rc_Y} {fr lo a : Nat} {nm : String} (h : rc_H Y fr lo nm) (h1 : a ≤ fr) : a ≤ yr_fr Y := by
  rw [h.2.2.1]; exact h1
theorem rc_H.lom {Y : rc_Y} {fr lo a : Nat} {nm : String} (h : rc_H Y fr lo nm) (h1 : a ≤ lo) : a ≤ yr_lo Y := by
  rw [h.2.2.2.1]; exact h1
theorem rc_offZ {d x : Int} : Op.lookupswitch.offset [] d x = d := rfl
theorem rc_offC {k o d v : Int} {ps : List (Int × Int)} {x c : Int32} (h : ¬ x = c) (hc : c.toInt = k) (t : Op.lookupswitch.offset ps d x.toInt = v) : Op.lookupswitch.offset ((k, o) :: ps) d x.toInt = v := by
  have hne : x.toInt ≠ k := fun e => h (Int32.toInt_inj.mp (e.trans hc.symm))
  rw [Op.lookupswitch.offset_cons, if_neg (by first | exact hne | exact fun e => hne e.symm)]
  exact t
theorem rc_inO (ws : List Cond) (ps : List Nat) (hp : ws = ps.filterMap (fun i => lw_tbl[i]?)) (hg : ws.all rc_oddw = true) : ∀ w ∈ ws, w ∈ lw_odd := by
  intro w h
  have h1 := List.all_eq_true.mp hg w h
  rw [hp] at h
  obtain ⟨i, -, hi⟩ := List.mem_filterMap.mp h
  exact lw_o (List.mem_of_getElem? hi) h1
/-- a value is handed back as a narrow type holds it -/
def rc_narM (ty : FieldType) (x : Int32) : rc_M Unit := rc_read fun _ => if narrow ty (.int x) = .int x then some () else none
section
variable {Y : rc_Y} {S : rc_S} {α β : Type} {tv : α → Option rc_V}
theorem rc_Go.nar {ty : FieldType} {x : Int32} {f : Unit → rc_M α} (h : rc_Go Y tv (rc_bind (rc_narM ty x) f) S) : narrow ty (.int x) = .int x ∧ rc_Go Y tv (f ()) S := by
  obtain ⟨v, hv, h9⟩ := h.read
  split at hv
  · rename_i hc
    exact ⟨hc, h9⟩
  · cases hv
theorem rc_Go.bfail {f : β → rc_M α} (h : rc_Go Y tv (rc_bind rc_fail f) S) : False := by
  rcases h.bind with ⟨v, S1, h1, -⟩ | ⟨e, S1, h1, -⟩ <;> cases h1
end
theorem rc_ldcWStr {p : Program} {l : Launch} {e : Env} {R : Room} {s : State} {m : MethodId} {args : Array Value} {below : List Frame} {meth : Method} {c : Code} {T : State} {locs : List Loc} {cells slots : Nat}
    (X : Stand p l e R s m args below meth c T locs cells slots) (hexec : p.tables.exec = Jvm.exec) {own text : String} {index : Nat} {a : Addr} (hown : s.vm.findClass own = some m.cls)
    (hconst : (Cond.stringRef own index text).before args s = true) (hev : (Term.string own index).eval args s none [] s = some (.ref a)) {g : JFrame} (hg : g.method = m) (hdg : decode c.code g.pc = .ok (.ldc_w index, 3)) :
    ∀ target, Steps p.tables e below (T.setTop { g with pc := g.pc + 3, stack := .ref a :: g.stack }) target → Steps p.tables e below (T.setTop g) target := by
  obtain ⟨k, cf, i, a', hk, hcf, hcp, -, hr, hev'⟩ := Cond.stringRef_spec hown hconst
  cases hev.symm.trans hev'
  obtain ⟨k', hk', he⟩ := X.warmed.alike.2.2 _ _ hk
  have hr' : k'.resolved[index]? = some (some (.string a)) := by
    rcases X.warmed.entry hk hk' index with h | ⟨h, -⟩
    · rw [h]; exact hr
    · rw [hr] at h; cases h
  intro target hrest
  subst hg
  jvm_step X.here [hexec, hdg, ldc_w.wp_string (e := e) (s := T) (f := g) X.here.top hk' (by rw [he]; exact hcf) hcp hr']
  exact hrest
theorem rc_ldcSw {p : Program} {l : Launch} {e : Env} {R : Room} {s : State} {m : MethodId} {args : Array Value} {below : List Frame} {meth : Method} {c : Code} {H : Heap} {locs : List Loc} {cells slots : Nat} {Q : State → Prop} {cc : ByteArray} {pc : Nat} {ls : Array Slot} {rest : List Value} (hexec : p.tables.exec = Jvm.exec) (hb : c.code = cc) {own tx : String} {index q : Nat} (hown : s.vm.findClass own = some m.cls) (hZ : vk_R own index tx q s) (hdg : decode cc pc = .ok (.ldc_w index, 3))
    (k : W p l e R s m args below meth c H locs cells slots Q (F0 m (pc + 3) ls (.ref q :: rest))) : W p l e R s m args below meth c H locs cells slots Q (F0 m pc ls rest) := by
  intro T hT X
  obtain ⟨t, a1, b1⟩ := k T hT X
  exact ⟨t, rc_ldcWStr X hexec hown (text := tx) (a := q) hZ.1 hZ.2 (g := F0 m pc ls rest) rfl (by rw [hb]; exact hdg) t a1, b1⟩
theorem rc_r_textw {Y : rc_Y} {cc : ByteArray} {own : String} {ret : Option FieldType} {nL : Nat} {S : rc_S} {pc : Nat} {L : List (Option rc_V)} {st : List rc_V} {α : Type} {tv : α → Option rc_V} (hC : rc_C Y cc own ret nL) {idx i : Nat} {tx : String} (F : rc_txs[i]? = some (own, idx, tx)) (d : decode cc pc = .ok (.ldc_w idx, 3)) {f : Option Nat → rc_M α} (h : rc_Go Y tv (rc_bind (rc_text i) f) S) (kk : ∀ x, rc_Go Y tv (f x) S → rc_Z Y S (pc + 3) L (rc_q x :: st)) : rc_Z Y S pc L st := by
  intro H locs ls hR hS hL hB
  have hk := h.le.2.2
  obtain ⟨x, hx, h9⟩ := h.read
  cases hx
  have hz := hC.2.2.2.2.2.2.2.1.2.2.2.2.2.1 i _ F
  rw [hk] at hz
  exact rc_ldcSw hC.1 hC.2.1 hC.2.2.2.1 hz d (kk _ h9 H locs ls hR hS hL hB)
/-- 'throw' of a ScriptException -/
def rc_isX (v : Option Nat) : rc_M Unit := rc_read fun S => match rc_objW S 3 v with
  | none => none
  | some _ => some ()
theorem rc_r_athrow {Y : rc_Y} {cc : ByteArray} {own : String} {ret : Option FieldType} {nL : Nat} {S : rc_S} {pc : Nat} {L : List (Option rc_V)} {st : List rc_V} {α : Type} {tv : α → Option rc_V} (hC : rc_C Y cc own ret nL) (hN : ∀ z ∈ (yr_c Y).exceptionTable.toList, False) (d : decode cc pc = .ok (.athrow, 1)) {v : Option Nat} (h : rc_Go Y tv (rc_bind (rc_isX v) fun _ => rc_raise 100 v : rc_M α) S) : rc_Z Y S pc L (rc_q v :: st) := by
  have hk := h.le.2.2
  obtain ⟨x, hx, h9⟩ := h.read
  split at hx
  · cases hx
  · rename_i y ho
    obtain ⟨a, fs⟩ := y
    obtain ⟨rfl, hs⟩ := rc_objW_some ho
    obtain ⟨b, e1, hT⟩ := h9.raise
    cases e1
    intro H locs ls hR hS hL hB
    obtain ⟨⟨r, g1, cell, q1, q2, q3, q4⟩, -⟩ := (hR.2.1 a _ hs).1
    have hfc := (hC.2.2.2.2.2.2.2.1.1.1 3 _ g1).2.1
    cases (show rc_cl[3]? = some (RX4, TX4, 8) from rfl).symm.trans g1
    have hz := rc_out (pc := pc) (L := L) hC hN hT H locs ls (st.map rc_val) cell hR hS hL hB q1 q3 (by rw [q2]; exact hfc)
    intro T hT X
    obtain ⟨t, st2, hq⟩ := hz T hT X
    refine ⟨t, ?_, hq⟩
    have hdg' : decode (yr_c Y).code pc = .ok (.athrow, 1) := by rw [hC.2.1]; exact d
    have hexec := hC.1
    jvm_step X.here [X.here.top, hexec, hdg', athrow.wp_sem]
    exact st2
