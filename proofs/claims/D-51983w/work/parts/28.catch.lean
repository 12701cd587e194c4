set_option maxRecDepth 100000
/-! HANDLERS: programs that catch, contracts of methods with tables, calls of such methods -/
def rc_bxF {α β : Type} (x : rc_M β) (k : β → rc_M α) (hx : Nat → Nat → rc_M α) (S : rc_S) : Option ((α ⊕ (Nat × Nat)) × rc_S) := match x.1 S with
  | none => none
  | some (.inr e, S1) => (hx e.1 e.2).1 S1
  | some (.inl v, S1) => (k v).1 S1
theorem rc_bx_ok {α β : Type} (x : rc_M β) (k : β → rc_M α) (hx : Nat → Nat → rc_M α) : rc_ok (rc_bxF x k hx) := by
  intro S r h
  unfold rc_bxF at h
  split at h
  · cases h
  · rename_i e S1 hx1
    obtain ⟨a1, a2, a3, a4⟩ := x.2 S _ hx1
    obtain ⟨b1, b2, b3, b4⟩ := (hx e.1 e.2).2 S1 _ h
    exact ⟨Nat.le_trans a1 b1, Nat.le_trans a2 b2, b3.trans a3, fun h => b4 (a4 h)⟩
  · rename_i v S1 hx1
    obtain ⟨a1, a2, a3, a4⟩ := x.2 S _ hx1
    obtain ⟨b1, b2, b3, b4⟩ := (k v).2 S1 _ h
    exact ⟨Nat.le_trans a1 b1, Nat.le_trans a2 b2, b3.trans a3, fun h => b4 (a4 h)⟩
/-- run x, then k; what x throws goes to hx -/
def rc_bindX {α β : Type} (x : rc_M β) (k : β → rc_M α) (hx : Nat → Nat → rc_M α) : rc_M α := ⟨rc_bxF x k hx, rc_bx_ok x k hx⟩
theorem rc_Go.brx {Y : rc_Y} {S : rc_S} {α β : Type} {tv : α → Option rc_V} {x : rc_M β} {k : β → rc_M α} {hx : Nat → Nat → rc_M α} (h : rc_Go Y tv (rc_bindX x k hx) S) : rc_Br Y x S (fun v S1 => rc_Go Y tv (k v) S1) (fun E q S1 => rc_Go Y tv (hx E q) S1) := by
  obtain ⟨T, h1, h2⟩ := h
  have h1 : rc_bxF x k hx S = some T := h1
  unfold rc_bxF at h1
  split at h1
  · cases h1
  · rename_i e S1 hx1
    have hg : rc_Go Y tv (hx e.1 e.2) S1 := ⟨T, h1, h2⟩
    exact ⟨_, hx1, ⟨hg.le.1, hg.le.2.1⟩, Or.inr ⟨e.1, e.2, S1, rfl, hg⟩⟩
  · rename_i v S1 hx1
    have hg : rc_Go Y tv (k v) S1 := ⟨T, h1, h2⟩
    exact ⟨_, hx1, ⟨hg.le.1, hg.le.2.1⟩, Or.inl ⟨v, S1, rfl, hg⟩⟩
section VCAT
variable {p : Program} {l : Launch} {e : Env} {R : Room} {s : State} {m : MethodId} {args : Array Value} {below : List Frame} {meth : Method} {c : Code} {H : Heap} {locs : List Loc} {cells slots : Nat} {Q : State → Prop} {pc : Nat} {ls : Array Slot} {rest : List Value}
/-- caught by the row x of this method's table; the rows ahead don't take it -/
theorem vy_catch {own name : String} {E : String} {ce : Cell} {q : Addr} (hown : s.vm.findClass own = some m.cls) (pre : List ExceptionTableEntry) (x : ExceptionTableEntry) (suf : List ExceptionTableEntry) (hsplit : c.exceptionTable.toList = pre ++ x :: suf)
    (hpass : ∀ z ∈ pre, covers z pc = false ∨ (z.catchType ≠ 0 ∧ ∃ nm : String, (Cond.classLink own z.catchType nm).before args s = true ∧ va_Nc E nm s)) (hx : covers x pc = true) (h0 : x.catchType ≠ 0)
    (hlink : (Cond.classLink own x.catchType name).before args s = true) (hcast : (Cond.castable E name).before args s = true) (hcell : H[q]? = some ce) (hv : ce.vm = .none) (hcl : s.vm.findClass E = some ce.cls)
    (kk : W p l e R s m args below meth c H locs cells slots Q (F0 m x.handlerPc ls [.ref q])) : vy_W p l e R s m args below meth c H locs cells slots Q (F0 m pc ls rest) q := by
  intro T hT X
  have hpl : e.platform.magicAccessors = ({} : Platform).magicAccessors := by rw [X.admits.platform]
  obtain ⟨c3, c4, hc3, hc4, hasg⟩ := Cond.castable_spec hcast
  cases Option.some.inj (hc3.symm.trans hcl)
  obtain ⟨c5, hc5, hcl5⟩ := Cond.classLink_spec hown hlink e.platform hpl
  cases Option.some.inj (hc4.symm.trans hc5)
  obtain ⟨vm', X', st⟩ := X.thenCaughtThrough q (g := F0 m pc ls rest) rfl (Steps.refl _) (by rw [hT]; exact hcell) (by rw [hv]; rfl) (by obtain ⟨k9, h9, -⟩ := Vm.findClass_spec hcl; exact ⟨k9, h9⟩) pre x suf hsplit
    (fun z hz => by
      rcases hpass z hz with h | ⟨hz0, nm, hl1, hn1⟩
      · exact Or.inl h
      · obtain ⟨c6, hc6, hcl6⟩ := Cond.classLink_spec hown hl1 e.platform hpl
        obtain ⟨a8, b8, h1, h2, h3⟩ := hn1
        cases Option.some.inj (h1.symm.trans hcl)
        cases Option.some.inj (h2.symm.trans hc6)
        exact Or.inr ⟨hz0, _, hcl6, h3⟩) hx (Or.inr ⟨h0, c4, hcl5, hasg⟩)
  obtain ⟨t, a1, b1⟩ := kk (T.setVm vm') hT X'
  exact ⟨t, st.trans a1, b1⟩
end VCAT
/-- what a walk of a method with a table is given -/
def rc_HW (Y : rc_Y) (fr lo : Nat) (nm : String) (hh : List (Nat × Nat × Nat × Nat)) : Prop := (yr_l Y).stackTraces = false ∧ (yr_t Y).name = nm ∧ yr_fr Y = fr ∧ yr_lo Y = lo ∧ (yr_c Y).exceptionTable.toList = tableOf hh
theorem rc_HW.room {Y : rc_Y} {fr lo a b : Nat} {nm : String} {hh : List (Nat × Nat × Nat × Nat)} (h : rc_HW Y fr lo nm hh) (h1 : a ≤ fr) (h2 : b ≤ lo) : a ≤ yr_fr Y ∧ b ≤ yr_lo Y := by
  rw [h.2.2.1, h.2.2.2.1]
  exact ⟨h1, h2⟩
theorem rc_HW.frm {Y : rc_Y} {fr lo a : Nat} {nm : String} {hh : List (Nat × Nat × Nat × Nat)} (h : rc_HW Y fr lo nm hh) (h1 : a ≤ fr) : a ≤ yr_fr Y := by
  rw [h.2.2.1]; exact h1
theorem rc_HW.lom {Y : rc_Y} {fr lo a : Nat} {nm : String} {hh : List (Nat × Nat × Nat × Nat)} (h : rc_HW Y fr lo nm hh) (h1 : a ≤ lo) : a ≤ yr_lo Y := by
  rw [h.2.2.2.1]; exact h1
theorem rc_CtW_H {α : Type} {l : Launch} {y : MethodName} {cc : ByteArray} {maxL : Nat} {ret : Option FieldType} {hh : List (Nat × Nat × Nat × Nat)} {fr lo : Nat} {tv : α → Option rc_V} {x : rc_M α} {As : List rc_V} {L0 : List (Option rc_V)} (hst : l.stackTraces = false) (hy : plainFor y = true) (hc : As.all rc_cat1 = true) (hn : As.length ≤ maxL) (hL0 : rc_lc As maxL = L0)
    (body : ∀ (Y : rc_Y) (S : rc_S), rc_C Y cc y.cls ret maxL → rc_HW Y fr lo y.name hh → rc_Go Y tv x S → rc_Z Y S 0 L0 []) : rc_Ct l y (wsW_ y cc maxL ret hh) fr lo tv x As := by
  intro D S T hT hw
  have hkk : rc_k T.2 = rc_k S := (x.2 S T hT).2.2.1
  refine vy_ofWH (cc := cc) (maxL := maxL) (ret := ret) hy rfl ?_
  intro p e s m args below meth c s₁ B hml hv
  obtain ⟨rfl, hE, hR⟩ := hv
  have hts := atoms_spec (ws := wsW_ y cc maxL ret hh) B.pre
  have htab := vy_table (x := y) B (hts _ List.mem_cons_self)
  have hts : ∀ w ∈ lw_all, w.before _ s = true := fun w h => hts w (List.mem_cons_of_mem _ h)
  rw [lg_entry_eq]
  have hkT : rc_k (rc_mp tv T).2 = rc_k S := by rw [rc_mpS]; exact hkk
  have hb := body (((p, l, e), (s, m, (As.map rc_val).toArray), below, meth, c), D, (rc_n S, rc_s S), rc_mp tv T, (fr, lo, rc_fl S)) S
    ⟨B.exec, B.bytes, hml, findClass_of_methodNamed B.named, hts, B.returns, B.notSynchronized, by show rc_Env D (rc_k (rc_mp tv T).2) s s.heap; rw [hkT]; exact hE, fun q hq => by show rc_kw (rc_k (rc_mp tv T).2) q; rw [hkT]; exact hw q (by rw [← hR.1]; exact hq), hR.1⟩
    ⟨hst, (name_of_methodNamed B.named B.method).1, rfl, rfl, htab⟩ ⟨T, hT, rfl⟩
  have h1 := hb s.heap [] _ hR va_S.rf (by rw [← hL0]; exact rc_entry As hc hn) ⟨Nat.le_refl _, Nat.le_refl _, fun h => h⟩
  have h2 := W.cs (Nat.sub_self (rc_n S)).symm (Nat.sub_self (rc_s S)).symm h1
  dsimp only [yr_p, yr_l, yr_e, yr_R, yr_s, yr_m, yr_a, yr_b, yr_t, yr_c, yr_Q, yr_D, yr_B, yr_T, yr_K, yr_fr, yr_lo, yr_mc, yr_ms] at h2
  rw [hkT, rc_mpS] at h2
  exact h2
theorem rc_initW {tb : Tables} [Ours tb] {e : Env} {below : List Frame} {s U : State} {mm : MethodId} {cc : Code} (h : At U mm cc below) (hexec : tb.exec = Jvm.exec) (hW : s.WarmedH U.vm)
    (hpl : e.platform.magicAccessors = ({} : Platform).magicAccessors) {own : String} (hown : s.vm.findClass own = some mm.cls) {idx : Nat} {t : MethodName} (ht1 : t.name = "<init>")
    (hnot : t.cls ≠ "java/lang/invoke/MethodHandle" ∧ t.cls ≠ "java/lang/invoke/VarHandle") {args : Array Value} {bytes : ByteArray} {maxL : Nat} {hh : List (Nat × Nat × Nat × Nat)}
    (hlink : (Cond.methodLink own idx t).before args s = true) (hinst : (Cond.instanceMethod t).before args s = true) (hcode : (Cond.codeWith t bytes maxL none hh).before args s = true)
    {f : JFrame} (hf : f.method = mm) {a : Addr} {argsL rest : List Value} (hlen : ∀ sig, parseMethodDescriptor t.desc = some sig → argsL.length = sig.parameters.length) (hstack : f.stack = argsL.reverse ++ .ref a :: rest) (hd : decode cc.code f.pc = .ok (.invokespecial idx, 3)) :
    ∃ tm vm', s.methodNamed? t = some tm ∧ s.WarmedH vm' ∧
      ∀ target, (∀ acts, Steps tb e below (doInvoke e ((U.setVm vm').setTop { f with stack := rest }) acts tm (.ref a :: argsL).toArray).1 target) → Steps tb e below (U.setTop f) target := by
  subst hf
  obtain ⟨obj, methO, hnO, hmO, hstO, habO⟩ := Cond.instanceMethod_spec hinst
  obtain ⟨obj', methO', cO, hnO', hmO', hcO, hbO, hlO, -, -, hlockO, hsigO⟩ := Cond.codeWith_spec hcode
  cases hnO.symm.trans hnO'
  cases hmO.symm.trans hmO'
  obtain ⟨kO, hkO, hnameO⟩ := className_of_methodNamed hnO
  obtain ⟨hnameMO, hdescO⟩ := name_of_methodNamed hnO hmO
  obtain ⟨ci, hl, hright⟩ := Cond.methodLink_spec hown hnO hlink e.platform hpl
  have hE : s.MethodEntry e U.vm f.method.cls idx obj ci := State.methodEntry hW hl hright fun k hk => by
    cases hkO.symm.trans hk
    rw [hnameO]; exact hnot
  obtain ⟨dk, cf, nt, _, _, via, _, _, hd', hcf, hcp, -⟩ := hl.here
  have hcp' : cf.constantPool[idx]? = some (.methodref ci nt) ∨ cf.constantPool[idx]? = some (.interfaceMethodref ci nt) := by
    cases via
    · exact Or.inl (by simpa using hcp)
    · exact Or.inr (by simpa using hcp)
  have hwarm := hE.warmed
  have hreadyM := hE.ready
  have hreadyC := hE.classReady
  generalize hvm₂ : U.vm.called f.method.cls ci idx obj = vm₂ at hwarm hreadyM hreadyC
  obtain ⟨dk₂, hdk₂, hed₂⟩ := hwarm.alike.2.2 _ _ hd'
  obtain ⟨kO₂, hkO₂, heO₂⟩ := hwarm.alike.2.2 _ _ hkO
  have hmO₂ : vm₂.method? obj = some methO := by rw [hwarm.alike.method?]; exact hmO
  have hfound : lookupSpecial vm₂ obj.cls "<init>" methO.desc = .method obj := by
    rw [hwarm.alike.lookupSpecial, hdescO, ← ht1]; exact lookupSpecial_of_named hnO hmO hstO
  refine ⟨obj, vm₂, hnO, hwarm, fun target hrest => ?_⟩
  have hAt₂ : At (U.setVm vm₂) f.method cc below := h.setVm (hW.alike.symm.trans hwarm.alike)
  jvm_step h [hexec, hd, invokespecial.wp_cold (e := e) (s := U) (s₀ := s) (f := f) (meth := methO) h.top hE hd' hcf hcp' hmO, hvm₂,
    invokespecial.wp_init (e := e) (s := U.setVm vm₂) (k := kO₂) (meth := methO) (m := obj) (a := a) (args := argsL) (rest := rest) (f := f)
      hAt₂.top ⟨dk₂, cf, ci, nt, hdk₂, by rw [hed₂]; exact hcf, hcp', hreadyC⟩ hreadyM hkO₂ hmO₂ (by rw [hnameMO]; exact ht1) hstO habO hfound (hlen _ hsigO) hstack]
  exact hrest
section RCW
variable {Y : rc_Y} {cc : ByteArray} {own : String} {ret : Option FieldType} {nL : Nat} {S : rc_S} {pc : Nat} {L : List (Option rc_V)} {st : List rc_V} {α β : Type} {tv : α → Option rc_V} {tv' : β → Option rc_V}
/-- caught -/
theorem rc_catch (hC : rc_C Y cc own ret nL) {tb : List ExceptionTableEntry} (htab : (yr_c Y).exceptionTable.toList = tb) (pre : List ExceptionTableEntry) (x : ExceptionTableEntry) (suf : List ExceptionTableEntry) (hs : tb = pre ++ x :: suf) {E q : Nat} {name : String} {tgt : Nat}
    (hpass : ∀ z ∈ pre, covers z pc = false ∨ (z.catchType ≠ 0 ∧ ∃ nm : String, Cond.classLink own z.catchType nm ∈ lw_all ∧ (rc_en E, nm) ∈ rc_ncs)) (hx : covers x pc = true) (h0 : x.catchType ≠ 0) (hlink : Cond.classLink own x.catchType name ∈ lw_all) (hcast : Cond.castable (rc_en E) name ∈ lw_odd) (hpc : x.handlerPc = tgt)
    (kk : rc_Z Y S tgt L [rc_q (some q)]) : rc_ZX Y S pc L E q := by
  subst hpc
  intro H locs ls rest ce hR hS hL hB h1 h2 h3
  have hts := hC.2.2.2.2.1
  have hE := hC.2.2.2.2.2.2.2.1
  refine vy_catch hC.2.2.2.1 pre x suf (htab.trans hs) (fun z hz => ?_) hx h0 (hts _ hlink) (va_Nw.use rfl (hE.2.2.1 _ hcast)) h1 h2 h3 (kk H locs ls hR hS hL hB)
  rcases hpass z hz with h | ⟨hz0, nm, hl, hn⟩
  · exact Or.inl h
  · exact Or.inr ⟨hz0, nm, hts _ hl, hE.2.2.2.2.2.2.2.2.2.2 _ hn⟩
/-- thrown where no row of the table covers -/
theorem rc_outW (hC : rc_C Y cc own ret nL) {tb : List ExceptionTableEntry} (htab : (yr_c Y).exceptionTable.toList = tb) (hN : ∀ z ∈ tb, covers z pc = false) {E q : Nat} (hT : yr_T Y = (.inr (E, q), S)) : rc_ZX Y S pc L E q := by
  obtain ⟨X, D, B, T, F⟩ := Y
  have hT : T = _ := hT
  subst hT
  intro H locs ls rest ce hR hS hL hB h1 h2 h3
  exact vy_out (fun x hx => hN x (by rw [← htab]; exact hx)) hC.2.2.2.2.2.2.1 h1 h2 h3 (fun t ht hW => ⟨E, rfl, rfl, by rw [ht]; exact hR, hS.F ht⟩) hS.2.2 (Nat.le_refl _) (Nat.le_refl _)
/-- calls of methods with tables -/
theorem rc_callSW (hC : rc_C Y cc own ret nL) {y : MethodName} {b' : ByteArray} {L' fr' lo' idx : Nat} {r' : Option FieldType} {hh : List (Nat × Nat × Nat × Nat)} {x : rc_M β} {As : List rc_V} (hM : rc_Ct (yr_l Y) y (wsW_ y b' L' r' hh) fr' lo' tv' x As) (h1 : Cond.methodLink own idx y ∈ lw_all) (h2 : Cond.static y ∈ lw_all) (h3 : Cond.initialized y.cls ∈ lw_all) (h5 : Cond.codeWith y b' L' r' hh ∈ lw_all) (hd : y.cls ≠ "java/lang/invoke/MethodHandle" ∧ y.cls ≠ "java/lang/invoke/VarHandle" ∧ (parseMethodDescriptor y.desc).map (fun d => d.parameters.length) = some As.length) (hroom : fr' + 1 ≤ yr_fr Y ∧ 8 + (L' + 11) + lo' ≤ yr_lo Y) (hnL : nL = L.length) (hst : rc_wst st = true) (hsl : st.length ≤ 8) (n : Nat) (hn : As.length = n) (hk : yr_K Y = rc_k S) {Pk : β → rc_S → Prop} {Px : Nat → Nat → rc_S → Prop} (h : rc_Br Y x S Pk Px) {st0 : List rc_V} (hs0 : As.reverse ++ st = st0) (d : decode cc pc = .ok (.invokestatic idx, 3))
    (kk : ∀ v S1, Pk v S1 → rc_Z Y S1 (pc + 3) L ((tv' v).toList ++ st)) (kx : ∀ E q S1, Px E q S1 → rc_ZX Y S1 pc L E q) : rc_Z Y S pc L st0 := by
  subst hs0
  have hsum := rc_sum hst hsl
  refine rc_ofRun (a := (As.map rc_val).toArray) (tv' := tv') (L := L) (st := st) hk h (fun T hT H locs ls hR hS hL hf => ?_) kk kx
  have hw : ∀ q, rc_n S ≤ q → rc_kw (rc_k S) q := fun q hq => by rw [← hk]; exact hC.2.2.2.2.2.2.2.2.1 q (Nat.le_trans hS.1 (by rw [hR.1]; exact hq))
  have hM1 := hM (yr_D Y) S T hT hw
  have hp := rc_preS (As := As.map rc_val) hC hk hR hS
  exact vy_runSX (hh := hh) (bytes := b') (maxL := L') (ret := r') ⟨hC.1, hC.2.1, hC.2.2.1, hC.2.2.2.1, hC.2.2.2.2.1⟩ hM1 (vy_cwSW n hC.2.2.2.2.1 (lw_SW h1 h2 h3 h5) rfl rfl rfl (by rw [← hn]; exact hd) hroom) hp rfl (by rw [List.length_map]; exact hn) (by rw [hnL]; exact hL.1) (by simp) (lv_room hsum) d hf
theorem rc_callVW (hC : rc_C Y cc own ret nL) {y : MethodName} {b' : ByteArray} {L' fr' lo' idx : Nat} {r' : Option FieldType} {hh : List (Nat × Nat × Nat × Nat)} {x : rc_M β} {ci : Nat} {C : String} {T9 : u_T} {N9 : Nat} (hcl : rc_cl[ci]? = some (C, T9, N9)) {v : Option Nat} {fs : List rc_V} (ho : rc_obj S ci v = some fs) {As : List rc_V} (hM : rc_Ct (yr_l Y) y (wsW_ y b' L' r' hh) fr' lo' tv' x (rc_q v :: As)) (h1 : Cond.methodLink own idx y ∈ lw_all) (h2 : Cond.instanceMethod y ∈ lw_all) (h3 : Cond.selects C y y ∈ lw_all) (h4 : Cond.initialized C ∈ lw_all) (h5 : Cond.codeWith y b' L' r' hh ∈ lw_all) (hy : y.cls = C) (hd : y.cls ≠ "java/lang/invoke/MethodHandle" ∧ y.cls ≠ "java/lang/invoke/VarHandle" ∧ (parseMethodDescriptor y.desc).map (fun d => d.parameters.length) = some As.length) (hroom : fr' + 1 ≤ yr_fr Y ∧ 8 + (L' + 11) + lo' ≤ yr_lo Y) (hnL : nL = L.length) (hst : rc_wst st = true) (hsl : st.length ≤ 8) (n : Nat) (hn : As.length = n) (hk : yr_K Y = rc_k S) {Pk : β → rc_S → Prop} {Px : Nat → Nat → rc_S → Prop} (h : rc_Br Y x S Pk Px) {st0 : List rc_V} (hs0 : As.reverse ++ rc_q v :: st = st0) (d : decode cc pc = .ok (.invokevirtual idx, 3))
    (kk : ∀ v S1, Pk v S1 → rc_Z Y S1 (pc + 3) L ((tv' v).toList ++ st)) (kx : ∀ E q S1, Px E q S1 → rc_ZX Y S1 pc L E q) : rc_Z Y S pc L st0 := by
  subst hs0
  have hsum := rc_sum hst hsl
  obtain ⟨b9, rfl⟩ : ∃ b, v = some b := by
    cases v with
    | none => simp [rc_obj] at ho
    | some b => exact ⟨b, rfl⟩
  refine rc_ofRun (a := (Value.ref b9 :: As.map rc_val).toArray) (tv' := tv') (L := L) (st := st) hk h (fun T hT H locs ls hR hS hL hf => ?_) kk kx
  have hw : ∀ q, rc_n S ≤ q → rc_kw (rc_k S) q := fun q hq => by rw [← hk]; exact hC.2.2.2.2.2.2.2.2.1 q (Nat.le_trans hS.1 (by rw [hR.1]; exact hq))
  have hM1 := hM (yr_D Y) S T hT hw
  obtain ⟨b, e9, hp⟩ := rc_preV (As := As) hC hk hR hS hcl ho
  cases e9
  exact vy_runVX (hh := hh) (bytes := b') (maxL := L') (ret := r') ⟨hC.1, hC.2.1, hC.2.2.1, hC.2.2.2.1, hC.2.2.2.2.1⟩ hM1 (vy_cwVW n hC.2.2.2.2.1 (lw_VW h1 h2 h3 h4 h5) rfl rfl rfl (by rw [← hn]; exact ⟨hy, hd⟩) hroom) hp rfl (by rw [List.length_map]; exact hn) (by rw [hnL]; exact hL.1) (by simp [rc_val, va_rf]) (lv_room hsum) d hf
theorem rc_callIW (hC : rc_C Y cc own ret nL) {y : MethodName} {b' : ByteArray} {L' fr' lo' idx : Nat} {hh : List (Nat × Nat × Nat × Nat)} {x : rc_M β} {v : Option Nat} {b9 : Nat} (ho : v = some b9) {As : List rc_V} (hM : rc_Ct (yr_l Y) y (wsW_ y b' L' none hh) fr' lo' tv' x (rc_q v :: As)) (h1 : Cond.methodLink own idx y ∈ lw_all) (h2 : Cond.instanceMethod y ∈ lw_all) (h3 : Cond.initialized y.cls ∈ lw_all) (h5 : Cond.codeWith y b' L' none hh ∈ lw_all) (hi : y.name = "<init>") (hd : y.cls ≠ "java/lang/invoke/MethodHandle" ∧ y.cls ≠ "java/lang/invoke/VarHandle" ∧ (parseMethodDescriptor y.desc).map (fun d => d.parameters.length) = some As.length) (hroom : fr' + 1 ≤ yr_fr Y ∧ 8 + (L' + 11) + lo' ≤ yr_lo Y) (hnL : nL = L.length) (hst : rc_wst st = true) (hsl : st.length ≤ 8) (n : Nat) (hn : As.length = n) (hk : yr_K Y = rc_k S) {Pk : β → rc_S → Prop} {Px : Nat → Nat → rc_S → Prop} (h : rc_Br Y x S Pk Px) {st0 : List rc_V} (hs0 : As.reverse ++ rc_q v :: st = st0) (d : decode cc pc = .ok (.invokespecial idx, 3))
    (kk : ∀ v S1, Pk v S1 → rc_Z Y S1 (pc + 3) L ((tv' v).toList ++ st)) (kx : ∀ E q S1, Px E q S1 → rc_ZX Y S1 pc L E q) : rc_Z Y S pc L st0 := by
  subst hs0
  have hsum := rc_sum hst hsl
  subst ho
  refine rc_ofRun (a := (Value.ref b9 :: As.map rc_val).toArray) (tv' := tv') (L := L) (st := st) hk h (fun T hT H locs ls hR hS hL hf => ?_) kk kx
  have hw : ∀ q, rc_n S ≤ q → rc_kw (rc_k S) q := fun q hq => by rw [← hk]; exact hC.2.2.2.2.2.2.2.2.1 q (Nat.le_trans hS.1 (by rw [hR.1]; exact hq))
  have hM1 := hM (yr_D Y) S T hT hw
  have hp := rc_preS (As := (rc_q (some b9) :: As).map rc_val) hC hk hR hS
  have hts := hC.2.2.2.2.1
  have hG := lw_methW h5
  have hK := vy_backW (e := yr_e Y) (p := yr_p Y) (below := yr_b Y) (sargs := yr_a Y) (len := 3) (W9 := 8) (R := yr_R Y) (bytes := b') (maxL := L') (ret := none) (hh := hh) hM1 hp.1 rfl rfl hroom.1 hroom.2 (pay_in hts hG) List.mem_cons_self (fun a' U hW => word_at hW (Or.inl (by first | rfl | simp [Cond.onTables, Cond.keeps, Cond.steady])) (hts _ h3))
  intro T9 hT9 X
  have hpl : (yr_e Y).platform.magicAccessors = ({} : Platform).magicAccessors := by rw [X.admits.platform]
  have hlen : ∀ sig, parseMethodDescriptor y.desc = some sig → (As.map rc_val).length = sig.parameters.length := fun sig h => by
    have h2 := hd.2.2
    rw [h] at h2
    rw [List.length_map]
    exact (Option.some.inj h2).symm
  have hstk : (F0 (yr_m Y) pc ls ((As.reverse ++ rc_q (some b9) :: st).map rc_val)).stack = (As.map rc_val).reverse ++ .ref b9 :: st.map rc_val := by
    show (As.reverse ++ rc_q (some b9) :: st).map rc_val = _
    simp [rc_val, va_rf]
  have hsz : (F0 (yr_m Y) pc ls ((As.reverse ++ rc_q (some b9) :: st).map rc_val)).locals.size = (yr_c Y).maxLocals := by
    show ls.size = _
    rw [hL.1, ← hnL]; exact hC.2.2.1.symm
  obtain ⟨mk, vm₁, hnamed, hW₁, hstep₁⟩ := rc_initW (e := yr_e Y) X.here hC.1 X.warmed hpl hC.2.2.2.1 hi ⟨hd.1, hd.2.1⟩ (hts _ h1) (hts _ h2) (hts _ h5) (f := F0 (yr_m Y) pc ls ((As.reverse ++ rc_q (some b9) :: st).map rc_val)) rfl hlen hstk (by rw [hC.2.1]; exact d)
  have X₁ := X.noted hW₁
  rcases hK (yr_m Y) (yr_t Y) (yr_c Y) ⟨T9.setVm vm₁, locs, _, _⟩ { F0 (yr_m Y) pc ls ((As.reverse ++ rc_q (some b9) :: st).map rc_val) with stack := st.map rc_val } (.invokespecial idx) mk (Value.ref b9 :: As.map rc_val).toArray X₁ rfl hsz (by rw [hC.2.1]; exact d) (lv_room hsum) (X₁.named hnamed) ⟨hf.1, hf.2, hp.2 (T9.setVm vm₁) hT9 X₁.warmed⟩ with ⟨v, B, X', ⟨g', mk', t, L9, e1, e2, hq, h1, hL9, h2, h3⟩, st9⟩ | ⟨q, B, X', ⟨g', mk', t, L9, E, ce, e1, e2, hq, hce, hcv, hcl, h1, hL9, h2, h3⟩, st9⟩
  · obtain ⟨U', l2, c2, s2⟩ := B
    dsimp only [Pt.U, Pt.locs, Pt.cells, Pt.slots] at X' e1 e2 h1 h2 h3 st9
    subst h1; subst h2; subst h3
    exact Or.inl ⟨v, (T9.setVm vm₁).calling g' mk' (Value.ref b9 :: As.map rc_val).toArray, t, U', L9, hT9, X', hL9, e1, e2, hq, fun target hh => hstep₁ _ fun acts => by rw [doInvoke_state]; exact st9.trans hh⟩
  · obtain ⟨U', l2, c2, s2⟩ := B
    dsimp only [Pt.U, Pt.locs, Pt.cells, Pt.slots] at X' e1 e2 h1 h2 h3 st9 hcl
    subst h1; subst h2; subst h3
    exact Or.inr ⟨q, (T9.setVm vm₁).calling g' mk' (Value.ref b9 :: As.map rc_val).toArray, t, U', L9, E, ce, hT9, X', hL9, e1, e2, hq, hce, hcv, vy_cls hW₁ hcl, hstep₁ _ fun acts => by rw [doInvoke_state]; exact st9⟩
end RCW
