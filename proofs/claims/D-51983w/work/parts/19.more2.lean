set_option maxRecDepth 100000
/-! ROWS: switches, calls of a private method of a class above, of an overriding method; what a walk is given -/
/-- no traces are kept; the method's name; the room; no handlers -/
def rc_H (Y : rc_Y) (fr lo : Nat) (nm : String) : Prop := (yr_l Y).stackTraces = false ∧ (yr_t Y).name = nm ∧ yr_fr Y = fr ∧ yr_lo Y = lo ∧ (∀ z ∈ (yr_c Y).exceptionTable.toList, False)
theorem rc_H.room {Y : rc_Y} {fr lo a b : Nat} {nm : String} (h : rc_H Y fr lo nm) (h1 : a ≤ fr) (h2 : b ≤ lo) : a ≤ yr_fr Y ∧ b ≤ yr_lo Y := by
  rw [h.2.2.1, h.2.2.2.1]
  exact ⟨h1, h2⟩
theorem rc_Ct_H {α : Type} {l : Launch} {y : MethodName} {cc : ByteArray} {maxL : Nat} {ret : Option FieldType} {fr lo : Nat} {tv : α → Option rc_V} {x : rc_M α} {As : List rc_V} {L0 : List (Option rc_V)} (hst : l.stackTraces = false) (hy : plainFor y = true) (hc : As.all rc_cat1 = true) (hn : As.length ≤ maxL) (hL0 : rc_lc As maxL = L0)
    (body : ∀ (Y : rc_Y) (S : rc_S), rc_C Y cc y.cls ret maxL → rc_H Y fr lo y.name → rc_Go Y tv x S → rc_Z Y S 0 L0 []) : rc_Ct l y (ws_ y cc maxL ret) fr lo tv x As :=
  rc_Ct_of hst hy hc hn hL0 (fun Y S hC hY hN h => body Y S hC ⟨by rw [hY.1]; exact hst, hY.2.1, hY.2.2.1, hY.2.2.2, hN⟩ h)
theorem rc_Cm_H {α : Type} {l : Launch} {y : MethodName} {cc : ByteArray} {maxL : Nat} {ret : Option FieldType} {fr lo : Nat} {tv : α → Option rc_V} {x : rc_M α} {As : List rc_V} (hst : l.stackTraces = false) (hy : plainFor y = true) (hc : As.all rc_cat1 = true) (hn : As.length + 1 ≤ maxL)
    (body : ∀ (Y : rc_Y) (S : rc_S), rc_C Y cc y.cls ret maxL → rc_H Y fr lo y.name → yr_F Y = true → rc_Go Y tv x S → rc_Z Y S 0 (rc_lc (rc_q (some (rc_km (yr_K Y) 100)) :: As) maxL) []) : rc_Cm l y (ws_ y cc maxL ret) fr lo tv x As :=
  rc_Cm_of hst hy hc hn (fun Y S hC hY hF hN h => body Y S hC ⟨by rw [hY.1]; exact hst, hY.2.1, hY.2.2.1, hY.2.2.2, hN⟩ hF h)
abbrev rc_tI (x : Int32) : Option rc_V := some (rc_i x)
abbrev rc_tQ (x : Option Nat) : Option rc_V := some (rc_q x)
abbrev rc_tU (_ : Unit) : Option rc_V := none
abbrev rc_tD (x : UInt64) : Option rc_V := some (rc_d x)
abbrev rc_tF (x : UInt32) : Option rc_V := some (rc_f x)
theorem rc_selP {C : String} {y0 y : MethodName} {s : State} {args : Array Value} (h0 : (Cond.selects C y0 y0).before args s = true) (hi0 : (Cond.instanceMethod y0).before args s = true) (hc : y0.cls = y.cls) (hy : y.cls ≠ "java/lang/invoke/MethodHandle" ∧ y.cls ≠ "java/lang/invoke/VarHandle")
    (hpriv : (Cond.privateMethod y).before args s = true) (hinst : (Cond.instanceMethod y).before args s = true) : (Cond.selects C y y).before args s = true := by
  obtain ⟨c, r, m, q1, q2, q3, q4, kP, hkP, hkPi⟩ := Cond.selects_spec h0
  obtain ⟨mk, methM, hnamed, hmethM, -, -⟩ := Cond.instanceMethod_spec hinst
  have hfound : s.methodFound? y.cls y.name y.desc = some mk := State.methodFound?_of_named hnamed hy
  have hcls : mk.cls = m.cls := Option.some.inj ((findClass_of_methodNamed hnamed).symm.trans (by rw [← hc]; exact findClass_of_methodNamed q3))
  have hsel : selectMethod {} s.vm c mk = .method mk := selectMethod_private hmethM (Cond.privateMethod_at hpriv mk methM hnamed hmethM)
  simp only [Cond.before, Cond.holds, Cond.value, q1, hfound, hnamed, hsel, hcls, hkP]
  simp; exact hkPi
theorem rc_wO {own : String} {idx : Nat} {C owner : String} {x y : MethodName} {b : ByteArray} {L : Nat} {r : Option FieldType} (h1 : Cond.methodLink own idx x ∈ lw_all) (h2 : Cond.sameMethod x.cls owner x.name x.desc ∈ lw_all) (h3 : Cond.selects C x y ∈ lw_all) (h4 : Cond.instanceMethod y ∈ lw_all) (h6 : Cond.initialized y.cls ∈ lw_all) (h7 : Cond.instanceMethod ⟨owner, x.name, x.desc⟩ ∈ lw_all) (h5 : Cond.code y b L r ∈ lw_all) : GoodIn lw_all (va_wsO own idx C owner x y (ws_ y b L r)) := by
  refine lw_app ?_ (lw_meth h5)
  intro w hw
  simp only [List.mem_cons, List.not_mem_nil, or_false] at hw
  rcases hw with e | e | e | e | e | e <;> (rw [e]; assumption)
section RCC2
variable {Y : rc_Y} {cc : ByteArray} {own : String} {ret : Option FieldType} {nL : Nat} {S : rc_S} {pc : Nat} {L : List (Option rc_V)} {st : List rc_V} {α β : Type} {tv : α → Option rc_V} {tv' : β → Option rc_V}
theorem rc_lookup (hC : rc_C Y cc own ret nL) {dflt : Int} {ps : Array (Int × Int)} {len : Nat} {x : Int32} {off : Int} {tgt : Nat} (d : decode cc pc = .ok (.lookupswitch dflt ps, len)) (hp : (ps.toList.zip (ps.toList.drop 1)).all (fun (a, next) => a.1 < next.1) = true) (ho : Op.lookupswitch.offset ps.toList dflt x.toInt = off) (ht : (pc : Int) + off = (tgt : Int)) (k : rc_Z Y S tgt L st) : rc_Z Y S pc L (rc_i x :: st) := by
  intro H locs ls hR hS hL hB
  exact lv_lookup hC.1 hC.2.1 d hp ho ht (k H locs ls hR hS hL hB)
theorem rc_tableIn (hC : rc_C Y cc own ret nL) {dflt lo hi : Int} {offs : Array Int} {len : Nat} {x : Int32} {off : Int} {tgt : Nat} (d : decode cc pc = .ok (.tableswitch dflt lo hi offs, len)) (h1 : ¬ x.toInt < lo) (h2 : ¬ hi < x.toInt) (ho : offs[(x.toInt - lo).toNat]? = some off) (ht : (pc : Int) + off = (tgt : Int)) (k : rc_Z Y S tgt L st) : rc_Z Y S pc L (rc_i x :: st) := by
  intro H locs ls hR hS hL hB
  exact lv_tableIn hC.1 hC.2.1 d h1 h2 ho ht (k H locs ls hR hS hL hB)
theorem rc_tableOut (hC : rc_C Y cc own ret nL) {dflt lo hi : Int} {offs : Array Int} {len : Nat} {x : Int32} {tgt : Nat} (d : decode cc pc = .ok (.tableswitch dflt lo hi offs, len)) (h : x.toInt < lo ∨ hi < x.toInt) (ht : (pc : Int) + dflt = (tgt : Int)) (k : rc_Z Y S tgt L st) : rc_Z Y S pc L (rc_i x :: st) := by
  intro H locs ls hR hS hL hB
  exact lv_tableOut hC.1 hC.2.1 d h ht (k H locs ls hR hS hL hB)
theorem rc_callVP (hC : rc_C Y cc own ret nL) {y : MethodName} {b' : ByteArray} {L' fr' lo' idx : Nat} {r' : Option FieldType} {x : rc_M β} {ci : Nat} {C : String} {T9 : u_T} {N9 : Nat} (hcl : rc_cl[ci]? = some (C, T9, N9)) {v : Option Nat} {fs : List rc_V} (ho : rc_obj S ci v = some fs) {As : List rc_V} (hM : rc_Ct (yr_l Y) y (ws_ y b' L' r') fr' lo' tv' x (rc_q v :: As)) {y0 : MethodName} (h1 : Cond.methodLink own idx y ∈ lw_all) (h2 : Cond.instanceMethod y ∈ lw_all) (h3 : Cond.selects C y0 y0 ∈ lw_all) (h30 : Cond.instanceMethod y0 ∈ lw_all) (hc0 : y0.cls = y.cls) (h31 : Cond.privateMethod y ∈ lw_odd) (h4 : Cond.initialized y.cls ∈ lw_all) (h5 : Cond.code y b' L' r' ∈ lw_all) (hd : y.cls ≠ "java/lang/invoke/MethodHandle" ∧ y.cls ≠ "java/lang/invoke/VarHandle" ∧ (parseMethodDescriptor y.desc).map (fun d => d.parameters.length) = some As.length) (hroom : fr' + 1 ≤ yr_fr Y ∧ 8 + (L' + 11) + lo' ≤ yr_lo Y) (hnL : nL = L.length) (hst : rc_wst st = true) (hsl : st.length ≤ 8) (n : Nat) (hn : As.length = n) (hk : yr_K Y = rc_k S) {Pk : β → rc_S → Prop} {Px : Nat → Nat → rc_S → Prop} (h : rc_Br Y x S Pk Px) {st0 : List rc_V} (hs0 : As.reverse ++ rc_q v :: st = st0) (d : decode cc pc = .ok (.invokevirtual idx, 3))
    (kk : ∀ v S1, Pk v S1 → rc_Z Y S1 (pc + 3) L ((tv' v).toList ++ st)) (kx : ∀ E q S1, Px E q S1 → rc_ZX Y S1 pc L E q) : rc_Z Y S pc L st0 := by
  subst hs0
  have hsum := rc_sum hst hsl
  obtain ⟨b9, rfl⟩ : ∃ b, v = some b := by
    cases v with
    | none => simp [rc_obj] at ho
    | some b => exact ⟨b, rfl⟩
  refine rc_ofRun (a := (Value.ref b9 :: As.map rc_val).toArray) (tv' := tv') (L := L) (st := st) hk h (fun T hT H locs ls hR hS hL hf => ?_) kk kx
  have hw : ∀ q, rc_n S ≤ q → rc_kw (rc_k S) q := fun q hq => by rw [← hk]; exact hC.2.2.2.2.2.2.2.2.1 q (Nat.le_trans hS.1 (by rw [hR.1]; exact hq))
  have hM1 := hM (yr_D Y) S T hT hw
  obtain ⟨b, e9, hp⟩ := rc_preV (As := As) hC hk hR hS hcl ho
  cases e9
  exact vy_runV ⟨hC.1, hC.2.1, hC.2.2.1, hC.2.2.2.1, hC.2.2.2.2.1⟩ hM1 ⟨callB_of n hC.2.2.2.2.1 (lw_meth h5) rfl rfl rfl (hC.2.2.2.2.1 _ h4) (hC.2.2.2.2.1 _ h1) (by rw [← hn]; exact hd) hroom, hC.2.2.2.2.1 _ h2, rc_selP (hC.2.2.2.2.1 _ h3) (hC.2.2.2.2.1 _ h30) hc0 ⟨hd.1, hd.2.1⟩ (va_Nw.use rfl (hC.2.2.2.2.2.2.2.1.2.2.1 _ h31)) (hC.2.2.2.2.1 _ h2)⟩ hp rfl (by rw [List.length_map]; exact hn) (by rw [hnL]; exact hL.1) (by simp [rc_val, va_rf]) (lv_room hsum) d hf
theorem rc_callO (hC : rc_C Y cc own ret nL) {y : MethodName} {b' : ByteArray} {L' fr' lo' idx : Nat} {r' : Option FieldType} {x : rc_M β} {ci : Nat} {C : String} {T9 : u_T} {N9 : Nat} (hcl : rc_cl[ci]? = some (C, T9, N9)) {v : Option Nat} {fs : List rc_V} (ho : rc_obj S ci v = some fs) {As : List rc_V} (hM : rc_Ct (yr_l Y) y (ws_ y b' L' r') fr' lo' tv' x (rc_q v :: As)) {x0 : MethodName} {owner : String} {b0 : ByteArray} {m0 : Nat} {r0 : Option FieldType} (h1 : Cond.methodLink own idx x0 ∈ lw_all) (h2 : Cond.sameMethod x0.cls owner x0.name x0.desc ∈ lw_all) (h3 : Cond.selects C x0 y ∈ lw_all) (h4 : Cond.instanceMethod y ∈ lw_all) (h6 : Cond.initialized y.cls ∈ lw_all) (h7 : Cond.instanceMethod ⟨owner, x0.name, x0.desc⟩ ∈ lw_all) (h5 : Cond.code y b' L' r' ∈ lw_all) (h8 : Cond.code ⟨owner, x0.name, x0.desc⟩ b0 m0 r0 ∈ lw_all) (hd : owner ≠ "java/lang/invoke/MethodHandle" ∧ owner ≠ "java/lang/invoke/VarHandle" ∧ (parseMethodDescriptor x0.desc).map (fun d => d.parameters.length) = some As.length) (hroom : fr' + 1 ≤ yr_fr Y ∧ 8 + (L' + 11) + lo' ≤ yr_lo Y) (hnL : nL = L.length) (hst : rc_wst st = true) (hsl : st.length ≤ 8) (n : Nat) (hn : As.length = n) (hk : yr_K Y = rc_k S) {Pk : β → rc_S → Prop} {Px : Nat → Nat → rc_S → Prop} (h : rc_Br Y x S Pk Px) {st0 : List rc_V} (hs0 : As.reverse ++ rc_q v :: st = st0) (d : decode cc pc = .ok (.invokevirtual idx, 3))
    (kk : ∀ v S1, Pk v S1 → rc_Z Y S1 (pc + 3) L ((tv' v).toList ++ st)) (kx : ∀ E q S1, Px E q S1 → rc_ZX Y S1 pc L E q) : rc_Z Y S pc L st0 := by
  subst hs0
  have hsum := rc_sum hst hsl
  obtain ⟨b9, rfl⟩ : ∃ b, v = some b := by
    cases v with
    | none => simp [rc_obj] at ho
    | some b => exact ⟨b, rfl⟩
  refine rc_ofRun (a := (Value.ref b9 :: As.map rc_val).toArray) (tv' := tv') (L := L) (st := st) hk h (fun T hT H locs ls hR hS hL hf => ?_) kk kx
  have hw : ∀ q, rc_n S ≤ q → rc_kw (rc_k S) q := fun q hq => by rw [← hk]; exact hC.2.2.2.2.2.2.2.2.1 q (Nat.le_trans hS.1 (by rw [hR.1]; exact hq))
  have hM1 := hM (yr_D Y) S T hT hw
  obtain ⟨b, e9, hp⟩ := rc_preV (As := As) hC hk hR hS hcl ho
  cases e9
  exact vy_runU ⟨hC.1, hC.2.1, hC.2.2.1, hC.2.2.2.1, hC.2.2.2.2.1⟩ hM1 (va_cwO n hC.2.2.2.2.1 (rc_wO h1 h2 h3 h4 h6 h7 h5) rfl rfl rfl h8 (by rw [← hn]; exact hd) hroom) hp rfl (by rw [List.length_map]; exact hn) (by rw [hnL]; exact hL.1) (by simp [rc_val, va_rf]) (lv_room hsum) d hf
end RCC2
