set_option maxRecDepth 100000
/-! super() in ScriptException's constructor: Throwable's fields are set (launches without stack traces) -/
def rc_sxi (v : Option Nat) : rc_M Unit := rc_wr fun S => match rc_objW S 3 v with
  | none => none
  | some (a, fs) => if fs.length = 8 ∧ fs[4]? = some (rc_q none) then some (va_up S.1 a (some (.inr (3, ((fs.set 0 (rc_q (some a))).set 1 (rc_kv (rc_k S) 10)).set 2 (rc_kv (rc_k S) 11))))) else none
def rc_sxX : String := "java/lang/Exception"
def rc_sxA : List Cond := Bundle.throwableAtoms ++ Bundle.chain0Atoms rc_sxX [] ++
  [.methodLink RX4 1 (Bundle.init0 rc_sxX), .instantiable RX4 8, .selects RX4 Bundle.tFill0 Bundle.tFill0, .selects RX4 Bundle.tFill Bundle.tFill,
   .lays RX4 Bundle.tN "cause" "Ljava/lang/Throwable;", .lays RX4 Bundle.tN "stackTrace" Bundle.steD, .lays RX4 Bundle.tN "suppressedExceptions" Bundle.listD, .lays RX4 Bundle.tN "backtrace" "Ljava/lang/Object;",
   .isRef (.static Bundle.tN "UNASSIGNED_STACK" Bundle.steD), .isRef (.static Bundle.tN "SUPPRESSED_SENTINEL" Bundle.listD),
   .fieldLink Bundle.tN 198 Bundle.tN "backtrace" "Ljava/lang/Object;", .lays Bundle.tN Bundle.tN "backtrace" "Ljava/lang/Object;"]
theorem rc_sx1 : ∀ w ∈ (rc_sxA.filter vy_no).filter goodWord, w ∈ lw_all := lw_in _ [132, 401, 410, 418, 421, 423, 402, 403, 162, 163, 404, 409, 419, 612, 391, 613, 393, 614, 395, 405, 407, 397, 712, 713, 714, 402, 711, 700, 702, 412, 703, 704, 705, 707, 610, 399] (by decide +kernel) (by decide +kernel)
theorem rc_sx2 : ∀ w ∈ (rc_sxA.filter vy_no).filter (fun w => !goodWord w), w ∈ lw_odd := rc_inO _ [386] (by decide +kernel) (by decide +kernel)
theorem rc_sxT {s : State} {cell : Cell} {k : Class} {f : Field} {v : Value} (hk : s.vm.classes[cell.cls]? = some k) (hord : k.kind = .ordinary) (hvm : cell.vm = .none) (hsz : f.slot < cell.slots.size) (hty : k.instanceTypes[f.slot]? = some f.type) (hv : fits f.type v = true) : Takes s cell f v := by
  refine ⟨hsz, ?_⟩
  simp [State.fitsSlot, State.slotType?, hk, hord, hty, hv, hvm]
theorem rc_r_sxi {Y : rc_Y} {cc : ByteArray} {ret : Option FieldType} {nL : Nat} {S : rc_S} {pc : Nat} {L : List (Option rc_V)} {α : Type} {tv : α → Option rc_V} (hC : rc_C Y cc RX4 ret nL) (hl : (yr_l Y).stackTraces = false) (hnL : nL = L.length) (hfr : 8 ≤ yr_fr Y) (hlo : 100 ≤ yr_lo Y) (d : decode cc pc = .ok (.invokespecial 1, 3)) {v : Option Nat} {f : Unit → rc_M α} (h : rc_Go Y tv (rc_bind (rc_sxi v) f) S) (kk : ∀ S1, rc_Go Y tv (f ()) S1 → rc_Z Y S1 (pc + 3) L []) : rc_Z Y S pc L [rc_q v] := by
  have hk9 := h.le.2.2
  obtain ⟨h1, hx, h9⟩ := h.wr
  split at hx
  · cases hx
  rename_i a fs ho
  obtain ⟨rfl, hs⟩ := rc_objW_some ho
  dsimp only at hs
  split at hx
  · rename_i hcc
    cases hx
    obtain ⟨hlen8, hfs4⟩ := hcc
    intro H locs ls hR hS hL hB
    obtain ⟨hexec, hb, hml, hown, hts, hret, hlk, hE, hw, hsz⟩ := hC
    obtain ⟨hat, haw⟩ := hR.2.1 a _ hs
    obtain ⟨⟨r, g1, cell, q1, q2, q3, q4⟩, hmon⟩ := hat
    cases (show rc_cl[3]? = some (RX4, TX4, 8) from rfl).symm.trans g1
    have hmon := hmon cell q1
    dsimp only at q1 q2 q3 q4
    have hU := hE.2.2.2.2.2.2.2.1
    have hN := hE.2.2.2.2.2.2.2.2.1
    have hkv0 := hE.2.2.2.2.1 10 _ rfl
    have hkv1 := hE.2.2.2.2.1 11 _ rfl
    have h : ∀ w ∈ rc_sxA, w.before (yr_a Y) (yr_s Y) = true := by
      refine vy_own (vy_hat (B := lw_odd) (fun w hw => hts _ (rc_sx1 w hw)) rc_sx2 (fun w hw => ?_)) (vy_isRefq hU.1) (vy_isRefq hN.1) hU.2.word hN.2.word
      have h1 := hE.2.2.1 w hw
      have hg := (List.mem_filter.mp hw).2
      exact va_tabs (by cases w <;> first | rfl | (simp [rc_oddw] at hg)) rfl h1
    have a' : ∀ x, x ∈ rc_sxA → x.holds (yr_a Y) (yr_s Y) none (yr_s Y) [] = true := fun x hx => h x hx
    have hap := va_apart (own := RX4) (C := RX4) (T := TX4) (N := 8) (ci := 3) hts in_X4 tyX4 tyX4_ok nmX4 hE.1 rfl
    obtain ⟨hSl, hfc, kC, hkC, hkind⟩ := hE.1.1 3 _ rfl
    have hcid : (yr_s Y).vm.findClass RX4 = some cell.cls := by rw [q2]; exact hfc
    intro W hW X
    have hcellW : W.heap[a]? = some cell := by rw [hW]; exact q1
    have htr : (yr_e Y).platform.stackTraces = false := (show (yr_e Y).platform.stackTraces = (yr_l Y).stackTraces by rw [X.admits.platform]).trans hl
    have howns : (yr_e Y).platform.frameOwnsMonitors = true := by rw [X.admits.platform]
    have hfin : (yr_e Y).platform.finalization = false := by rw [X.admits.platform]
    have hpl : (yr_e Y).platform.magicAccessors = ({} : Platform).magicAccessors := by rw [X.admits.platform]
    obtain ⟨T, Z, Lk, LZ, YY⟩ := ThrowableC.of_atoms (args := yr_a Y) howns hfin hpl (fun x hx => h x (by simp [rc_sxA, hx]))
    obtain ⟨P1, Ps, hlen, L1, hLs, hP1m, hlink1, hlink⟩ := Bundle.chain0 (args := yr_a Y) hpl YY.init0 [] rc_sxX (by decide +kernel) (fun _ hn => nomatch hn) (fun x hx => h x (by simp [rc_sxA, hx]))
    obtain ⟨c1, kX, hc1, hk, hord, -, -, hn6⟩ := Cond.instantiable_spec (a' (.instantiable RX4 8) (by simp [rc_sxA]))
    cases Option.some.inj (hc1.symm.trans hcid)
    have hsel0 : selectMethod (yr_e Y).platform (yr_s Y).vm cell.cls T.fill0 = .method T.fill0 := by
      obtain ⟨c2, r2, m2, p1, p2, p3, p4, -⟩ := Cond.selects_spec (a' (.selects RX4 Bundle.tFill0 Bundle.tFill0) (by simp [rc_sxA]))
      cases Option.some.inj (p1.symm.trans hcid)
      cases Option.some.inj (p2.symm.trans (State.methodFound?_of_named YY.fill0 (by decide)))
      cases Option.some.inj (p3.symm.trans YY.fill0)
      rw [Launch.admits_selectMethod X.admits]; exact p4
    have hselF : selectMethod (yr_e Y).platform (yr_s Y).vm cell.cls T.fill = .method T.fill := by
      obtain ⟨c2, r2, m2, p1, p2, p3, p4, -⟩ := Cond.selects_spec (a' (.selects RX4 Bundle.tFill Bundle.tFill) (by simp [rc_sxA]))
      cases Option.some.inj (p1.symm.trans hcid)
      cases Option.some.inj (p2.symm.trans (State.methodFound?_of_named YY.fill (by decide)))
      cases Option.some.inj (p3.symm.trans YY.fill)
      rw [Launch.admits_selectMethod X.admits]; exact p4
    obtain ⟨cellS0, hcS0, hiss⟩ := YY.statics
    obtain ⟨u0, hu0⟩ := Cond.staticRefV YY.unassigned Lk.unassignedStatic Lk.statics hcS0 hiss (a' (.isRef (.static Bundle.tN "UNASSIGNED_STACK" Bundle.steD)) (by simp [rc_sxA]))
    obtain ⟨sen, hsen⟩ := Cond.staticRefV YY.sentinel Lk.sentinelStatic Lk.statics hcS0 hiss (a' (.isRef (.static Bundle.tN "SUPPRESSED_SENTINEL" Bundle.listD)) (by simp [rc_sxA]))
    obtain ⟨cf0, kf0, fi0, f0, b0, cl0, z1, z2, z3, z4, z5, z6, z7, z8⟩ := hkv0
    obtain ⟨cf1, kf1, fi1, f1, b1, cl1, y1, y2, y3, y4, y5, y6, y7, y8⟩ := hkv1
    cases z1.symm.trans YY.unassigned
    cases y1.symm.trans YY.sentinel
    cases z4.symm.trans Lk.statics
    cases y4.symm.trans Lk.statics
    cases z5.symm.trans hcS0
    cases y5.symm.trans hcS0
    have eu : u0.v = rc_val (rc_kv (rc_k S) 10) := by rw [← hk9]; exact Option.some.inj (hu0.symm.trans z7)
    have es : sen.v = rc_val (rc_kv (rc_k S) 11) := by rw [← hk9]; exact Option.some.inj (hsen.symm.trans y7)
    have hltS : T.aS < (yr_s Y).heap.size := (Array.getElem?_eq_some_iff.mp hcS0).1
    have hcellS : W.heap[T.aS]? = some cellS0 := by rw [hW, hS.2.1 _ hltS z8]; exact hcS0
    have hknownS : cellS0.vm ≠ .unknown := by
      intro hu
      rw [hu] at hiss
      cases hiss
    have hneS : T.aS ≠ a := by
      intro e
      rw [e] at hcellS
      cases hcellS.symm.trans hcellW
      rw [q3] at hiss
      cases hiss
    obtain ⟨ci198, i198, fB, hk198, hg198, ha198, hsB, -, hnB, htB, hffB⟩ := Cond.ownField (t := .object "java/lang/Object") YY.found Lk.cls (by decide +kernel) (a' (.fieldLink Bundle.tN 198 Bundle.tN "backtrace" "Ljava/lang/Object;") (by simp [rc_sxA])) (a' (.lays Bundle.tN Bundle.tN "backtrace" "Ljava/lang/Object;") (by simp [rc_sxA])) (yr_e Y).platform hpl
    obtain ⟨tyC, -⟩ := Cond.laysAt hcid hk YY.cause (a' (.lays RX4 Bundle.tN "cause" "Ljava/lang/Throwable;") (by simp [rc_sxA]))
    obtain ⟨tyS, -⟩ := Cond.laysAt hcid hk YY.stack (a' (.lays RX4 Bundle.tN "stackTrace" Bundle.steD) (by simp [rc_sxA]))
    obtain ⟨tyP, -⟩ := Cond.laysAt hcid hk YY.supp (a' (.lays RX4 Bundle.tN "suppressedExceptions" Bundle.listD) (by simp [rc_sxA]))
    have sl0 : T.fCause.slot = (yr_D Y).1.2 3 0 := by
      obtain ⟨_, _, _, fl, hi, e⟩ := hSl 0 (by decide)
      cases hi.symm.trans YY.cause
      exact e
    have sl1 : T.fStack.slot = (yr_D Y).1.2 3 1 := by
      obtain ⟨_, _, _, fl, hi, e⟩ := hSl 1 (by decide)
      cases hi.symm.trans YY.stack
      exact e
    have sl2 : T.fSupp.slot = (yr_D Y).1.2 3 2 := by
      obtain ⟨_, _, _, fl, hi, e⟩ := hSl 2 (by decide)
      cases hi.symm.trans YY.supp
      exact e
    have sl4 : fB.slot = (yr_D Y).1.2 3 4 := by
      obtain ⟨_, _, _, fl, hi, e⟩ := hSl 4 (by decide)
      cases hi.symm.trans hffB
      exact e
    have hsl : ∀ k, k < 8 → (yr_D Y).1.2 3 k < cell.slots.size := fun k hk => k2_hasslot (q4 k hk)
    have ap (i j : Nat) (hi : i < 8) (hj : j < 8) (hne : i ≠ j) : (yr_D Y).1.2 3 i ≠ (yr_D Y).1.2 3 j := hap i j hi hj hne
    have hback : cell.slots[fB.slot]? = some .null := by
      rw [sl4, q4 4 (by decide)]
      simp [vp_V, hfs4, rc_val, va_rf]
    have hskip : SkipFacts T (yr_e Y).platform (yr_s Y) (fun u => u) u0 ((preparedCellV T.toThrowableT cell a u0 sen).withEntry W.cur) :=
      ⟨{ ci198 := ci198, i198 := i198, fBack := fB }, ⟨hk198, hg198, ha198, hsB⟩, by
        show (((cell.setSlot T.fCause.slot (.ref a)).setSlot T.fStack.slot u0.v).setSlot T.fSupp.slot sen.v).slots[fB.slot]? = some .null
        rw [sl0, sl1, sl2, sl4]
        rw [sl4] at hback
        simp only [Cell.setSlot, Array.getElem?_setIfInBounds]
        rw [if_neg (ap 2 4 (by decide) (by decide) (by decide)), if_neg (ap 1 4 (by decide) (by decide) (by decide)), if_neg (ap 0 4 (by decide) (by decide) (by decide))]
        exact hback, fun _ _ => rfl⟩
    have hsize : ls.size = (yr_c Y).maxLocals := by rw [hL.1, ← hnL]; exact hml.symm
    have hd6 : decode (yr_c Y).code pc = .ok (.invokespecial 1, 3) := by rw [hb]; exact d
    obtain ⟨tm, methC, cdC, kC9, vm₁, hnC, -, -, -, -, -, -, -, hW₁, st1⟩ := Steps.initCold (tb := (yr_p Y).tables) (e := yr_e Y) (below := yr_b Y) (s := yr_s Y) (U := W) X.here hexec X.warmed hpl hown (t := Bundle.init0 rc_sxX) rfl rfl (by decide)
      (a' (.methodLink RX4 1 (Bundle.init0 rc_sxX)) (by simp [rc_sxA])) (h (.instanceMethod (Bundle.init0 rc_sxX)) (by simp [rc_sxA, Bundle.chain0Atoms, Bundle.passAtoms])) (bytes := Bundle.five) (maxL := 1) (h (.code (Bundle.init0 rc_sxX) Bundle.five 1 none) (by simp [rc_sxA, Bundle.chain0Atoms, Bundle.passAtoms]))
      (f := F0 (yr_m Y) pc ls [.ref a]) rfl (a := a) (rest := []) rfl hd6
    cases Option.some.inj (hnC.symm.trans hP1m)
    have X₁ := X.noted hW₁
    have hPs : Ps = [] := List.eq_nil_of_length_eq_zero hlen
    subst hPs
    obtain ⟨vm₂, X₂, st2⟩ := X₁.ctorPlainOffV hexec (g := { F0 (yr_m Y) pc ls [.ref a] with stack := [] }) rfl hsize T Lk Z LZ [P1]
      (fun P hP => by rcases List.mem_cons.mp hP with rfl | hP; exact L1; exact nomatch hP) ⟨hlink1, hlink⟩ (u0 := u0) (sen := sen) (self := a) (cell := cell) (cellS := cellS0)
      hcellW (fun k hk => by rw [q3] at hk; cases hk) (by rw [q3]; exact fun hk => by cases hk) hmon.1 hmon.2 hsel0 hselF hcellS hneS hknownS hu0 hsen
      (rc_sxT hk hord q3 (by rw [sl0]; exact hsl 0 (by decide)) tyC (by rw [YY.causeType]; rfl)) (rc_sxT hk hord q3 (by rw [sl1]; exact hsl 1 (by decide)) tyS (by rw [YY.stackType]; exact fits_refV_array _ u0)) (rc_sxT hk hord q3 (by rw [sl2]; exact hsl 2 (by decide)) tyP (by rw [YY.suppType]; exact fits_refV_object _ sen)) YY.objLocals hskip htr [] hd6
      (by show 1 + 2 < yr_fr Y; omega) (by show 2 * 0 + 0 + (13 * 1 + 41) ≤ yr_lo Y; omega)
    have hlt : a < H.size := (Array.getElem?_eq_some_iff.mp q1).1
    obtain ⟨ce, hce⟩ : ∃ ce, ce = (preparedCellV T.toThrowableT cell a u0 sen).setSlot T.fStack.slot u0.v := ⟨_, rfl⟩
    rw [← hce] at X₂ st2
    have hheap : (((W.setVm vm₁).setVm vm₂).setCell a ce).heap = H.setIfInBounds a ce := by
      show W.heap.setIfInBounds a ce = _
      rw [hW]
    have hz : (H.setIfInBounds a ce).size = H.size := by simp
    have oq : ∀ q : Nat, q ≠ a → (H.setIfInBounds a ce)[q]? = H[q]? := fun q hq => by
      rw [Array.getElem?_setIfInBounds, if_neg (fun e => hq e.symm)]
    have e1 : (H.setIfInBounds a ce)[a]? = some ce := by
      rw [Array.getElem?_setIfInBounds, if_pos rfl, if_pos hlt]
    have ef : updV (updV (updV (updV (vp_V (fs.map rc_val)) 0 (.ref a)) 1 u0.v) 2 sen.v) 1 u0.v = vp_V ((((fs.set 0 (rc_q (some a))).set 1 (rc_kv (rc_k S) 10)).set 2 (rc_kv (rc_k S) 11)).map rc_val) := by
      rw [show updV (vp_V (fs.map rc_val)) 0 (.ref a) = vp_V ((fs.map rc_val).set 0 (.ref a)) from funext (vp_updV_set (by simp [hlen8]) _)]
      rw [show updV (vp_V ((fs.map rc_val).set 0 (.ref a))) 1 u0.v = vp_V (((fs.map rc_val).set 0 (.ref a)).set 1 u0.v) from funext (vp_updV_set (by simp [hlen8]) _)]
      rw [show updV (vp_V (((fs.map rc_val).set 0 (.ref a)).set 1 u0.v)) 2 sen.v = vp_V ((((fs.map rc_val).set 0 (.ref a)).set 1 u0.v).set 2 sen.v) from funext (vp_updV_set (by simp [hlen8]) _)]
      rw [show updV (vp_V ((((fs.map rc_val).set 0 (.ref a)).set 1 u0.v).set 2 sen.v)) 1 u0.v = vp_V (((((fs.map rc_val).set 0 (.ref a)).set 1 u0.v).set 2 sen.v).set 1 u0.v) from funext (vp_updV_set (by simp [hlen8]) _)]
      rw [List.set_comm _ _ (by decide : (2 : Nat) ≠ 1), List.set_set, eu, es]
      simp only [List.map_set]
      rfl
    have hat1 : rc_at (yr_D Y) a (.inr (3, ((fs.set 0 (rc_q (some a))).set 1 (rc_kv (rc_k S) 10)).set 2 (rc_kv (rc_k S) 11))) (H.setIfInBounds a ce) := by
      refine ⟨⟨_, rfl, ce, e1, ?_, ?_, ?_⟩, fun c9 hc9 => ?_⟩
      · rw [hce]; exact q2
      · rw [hce]; exact q3
      · have t0 := t_set q4 hap (k := 0) (by decide) (.ref a)
        have t1 := t_set t0 hap (k := 1) (by decide) u0.v
        have t2 := t_set t1 hap (k := 2) (by decide) sen.v
        have t3 := t_set t2 hap (k := 1) (by decide) u0.v
        intro j hj
        have t4 := t3 j hj
        rw [hce]
        show ((((cell.setSlot T.fCause.slot (.ref a)).setSlot T.fStack.slot u0.v).setSlot T.fSupp.slot sen.v).setSlot T.fStack.slot u0.v).slots[(yr_D Y).1.2 3 j]? = _
        rw [sl0, sl1, sl2, t4, ef]
      · cases e1.symm.trans hc9
        rw [hce]
        exact hmon
    have hS1 : va_S (rc_kw (yr_K Y)) (yr_s Y).heap (H.setIfInBounds a ce) (locs ++ [⟨a, T.fCause.slot⟩, ⟨a, T.fStack.slot⟩, ⟨a, T.fSupp.slot⟩, ⟨a, T.fStack.slot⟩]) := by
      have hka : rc_kw (yr_K Y) a := by rw [hk9]; exact haw
      refine ⟨by rw [hz]; exact hS.1, fun q p1 p2 => ?_, fun y hy => ?_⟩
      · rw [oq q (fun e => p2 (by rw [e]; exact hka))]
        exact hS.2.1 q p1 p2
      · rcases List.mem_append.mp hy with hy | hy
        · exact hS.2.2 y hy
        · simp only [List.mem_cons, List.not_mem_nil, or_false] at hy
          rcases hy with rfl | rfl | rfl | rfl <;> exact hka
    obtain ⟨t, a9, b9⟩ := kk _ h9 (H.setIfInBounds a ce) _ ls (hR.set hs hat1 hz oq) hS1 hL hB _ hheap X₂
    refine ⟨t, st1 _ (fun acts => ?_), b9⟩
    rw [doInvoke_state]
    exact st2 _ a9
  · cases hx
