/-! THE FAULT: its constructor's call of Exception's, on a fresh cell -/
def jm_superAtoms (own : String) (ic : Nat) (cls sup : String) : List Cond :=
  Bundle.throwableAtoms ++ Bundle.throwableSAtoms ++ Bundle.chainSAtoms sup [] ++
  [.methodLink own ic (Bundle.initS sup), .instantiable cls 8, .selects cls Bundle.tFill0 Bundle.tFill0, .selects cls Bundle.tFill Bundle.tFill,
   .lays cls Bundle.tN "cause" "Ljava/lang/Throwable;", .lays cls Bundle.tN "stackTrace" Bundle.steD, .lays cls Bundle.tN "suppressedExceptions" Bundle.listD, .lays cls Bundle.tN "detailMessage" "Ljava/lang/String;",
   .isRef (.static Bundle.tN "UNASSIGNED_STACK" Bundle.steD), .isRef (.static Bundle.tN "SUPPRESSED_SENTINEL" Bundle.listD),
   .fieldLink Bundle.tN 198 Bundle.tN "backtrace" "Ljava/lang/Object;", .lays Bundle.tN Bundle.tN "backtrace" "Ljava/lang/Object;", .lays cls Bundle.tN "backtrace" "Ljava/lang/Object;"]
section JSUP
variable {p : Program} {l : Launch} {e : Env} {R : Room} {s : State} {m₀ : MethodId} {args : Array Value} {below : List Frame} {meth : Method} {c : Code} {W : State} {locs : List Loc} {cells slots : Nat}
set_option maxHeartbeats 1000000 in
theorem jm_superMade (X : Stand p l e R s m₀ args below meth c W locs cells slots) (hexec : p.tables.exec = Jvm.exec) (htr : e.platform.stackTraces = false) {own cls sup : String} {ic : Nat}
    (hown : s.vm.findClass own = some m₀.cls) (hsup : Bundle.fit sup = true)
    (h : ∀ a ∈ jm_superAtoms own ic cls sup, a.before args s = true)
    (hlocs : ∀ x ∈ locs, ∀ cell, s.heap[x.base]? = some cell → cell.vm.isStatics = false)
    {a : Addr} {cX : ClassId} {kX : Class} (hfoundX : s.vm.findClass cls = some cX) (hkX : s.vm.classes[cX]? = some kX) (hcell : W.heap[a]? = some (freshCell cX kX)) (hnew : ∀ cell, s.heap[a]? = some cell → cell.vm.isStatics = false)
    {msg : Value} (hmsg : msg.isRef = true)
    {g : JFrame} (hg : g.method = m₀) (hsize : g.locals.size = c.maxLocals) {rest : List Value} (hstack : g.stack = msg :: .ref a :: rest)
    (hd6 : decode c.code g.pc = .ok (.invokespecial ic, 3))
    (hRframes : 3 < R.frames) (hRlocals : 2 * g.monitorRoom + (rest.map fun v => v.category).sum + 55 ≤ R.locals) :
    ∃ (vm' : Vm) (ce : Cell) (L : List Loc), Stand p l e R s m₀ args below meth c ((W.setVm vm').setCell a ce) (locs ++ L) cells slots ∧ (∀ y ∈ L, y.base = a) ∧ ce.cls = cX ∧ ce.vm = .none ∧
      (∀ (f : Field) (d : Class × Field), kX.instanceTypes[f.slot]? = some f.type → Jmm.declares? s.vm f.slot (cX + 1) cX = some d → d.2.name = f.name → f.name ≠ "cause" → f.name ≠ "stackTrace" → f.name ≠ "suppressedExceptions" → f.name ≠ "detailMessage" → ce.slots[f.slot]? = some (defaultValue f.type)) ∧
      ∀ target, Steps p.tables e below (((W.setVm vm').setCell a ce).setTop { g with stack := rest, pc := g.pc + 3 }) target → Steps p.tables e below (W.setTop g) target := by
  have howns : e.platform.frameOwnsMonitors = true := by rw [X.admits.platform]
  have hfin : e.platform.finalization = false := by rw [X.admits.platform]
  have hpl : e.platform.magicAccessors = ({} : Platform).magicAccessors := by rw [X.admits.platform]
  have a' : ∀ x, x ∈ jm_superAtoms own ic cls sup → x.holds args s none s [] = true := fun x hx => h x hx
  obtain ⟨T, Z0, L, -, Y⟩ := ThrowableC.of_atoms (args := args) howns hfin hpl (fun x hx => h x (by simp [jm_superAtoms, hx]))
  obtain ⟨Z, M, LZ, LM, hnZ⟩ := Init0T.ofS_atoms (args := args) hpl L Y (fun x hx => h x (by simp [jm_superAtoms, hx]))
  obtain ⟨P1, Ps, hlen, L1, hL, hP1m, hlink1, hlink⟩ := Bundle.chainS (args := args) hpl hnZ [] sup hsup (fun _ hx => nomatch hx) (fun x hx => h x (by simp [jm_superAtoms, hx]))
  obtain ⟨c1, kX', hc1, hk, hord, -, -, hn6⟩ := Cond.instantiable_spec (a' (.instantiable cls 8) (by simp [jm_superAtoms]))
  cases Option.some.inj (hfoundX.symm.trans hc1)
  cases Option.some.inj (hkX.symm.trans hk)
  have hsel0 : selectMethod e.platform s.vm cX T.fill0 = .method T.fill0 := by
    obtain ⟨c2, r2, m2, q1, q2, q3, q4, -⟩ := Cond.selects_spec (a' (.selects cls Bundle.tFill0 Bundle.tFill0) (by simp [jm_superAtoms]))
    cases Option.some.inj (q1.symm.trans hfoundX)
    cases Option.some.inj (q2.symm.trans (State.methodFound?_of_named Y.fill0 (by decide)))
    cases Option.some.inj (q3.symm.trans Y.fill0)
    rw [Launch.admits_selectMethod X.admits]; exact q4
  have hselF : selectMethod e.platform s.vm cX T.fill = .method T.fill := by
    obtain ⟨c2, r2, m2, q1, q2, q3, q4, -⟩ := Cond.selects_spec (a' (.selects cls Bundle.tFill Bundle.tFill) (by simp [jm_superAtoms]))
    cases Option.some.inj (q1.symm.trans hfoundX)
    cases Option.some.inj (q2.symm.trans (State.methodFound?_of_named Y.fill (by decide)))
    cases Option.some.inj (q3.symm.trans Y.fill)
    rw [Launch.admits_selectMethod X.admits]; exact q4
  obtain ⟨cellS0, hcS0, hiss⟩ := Y.statics
  obtain ⟨u0, hu0⟩ := Cond.staticRefV Y.unassigned L.unassignedStatic L.statics hcS0 hiss (a' (.isRef (.static Bundle.tN "UNASSIGNED_STACK" Bundle.steD)) (by simp [jm_superAtoms]))
  obtain ⟨sen, hsen⟩ := Cond.staticRefV Y.sentinel L.sentinelStatic L.statics hcS0 hiss (a' (.isRef (.static Bundle.tN "SUPPRESSED_SENTINEL" Bundle.listD)) (by simp [jm_superAtoms]))
  obtain ⟨ci198, i198, fB, hk198, hg198, ha198, hsB, -, hnB, htB, hffB⟩ := Cond.ownField (t := .object "java/lang/Object") Y.found L.cls (by decide +kernel) (a' (.fieldLink Bundle.tN 198 Bundle.tN "backtrace" "Ljava/lang/Object;") (by simp [jm_superAtoms])) (a' (.lays Bundle.tN Bundle.tN "backtrace" "Ljava/lang/Object;") (by simp [jm_superAtoms])) e.platform hpl
  obtain ⟨cellS, hcS', heS, -, hkeep⟩ := X.same.2.2.2.2.2 T.aS cellS0 hcS0
  have hcellS : W.heap[T.aS]? = some cellS := hcS'
  have hout' : ∀ i, (⟨T.aS, i⟩ : Loc) ∉ locs := fun i hmem => by
    have := hlocs _ hmem cellS0 hcS0
    rw [hiss] at this; cases this
  have hknownS : cellS.vm ≠ .unknown := by
    rw [heS]; intro hu
    rw [show cellS0.vm = .unknown from hu] at hiss
    cases hiss
  have hneS : T.aS ≠ a := by
    intro he
    have := hnew cellS0 (by rw [← he]; exact hcS0)
    rw [hiss] at this; cases this
  obtain ⟨iM, hffM⟩ := Y.msg
  obtain ⟨tyC, dC, hdC, hdnC⟩ := Cond.laysAt hfoundX hk Y.cause (a' (.lays cls Bundle.tN "cause" "Ljava/lang/Throwable;") (by simp [jm_superAtoms]))
  obtain ⟨tyS, dS, hdS, hdnS⟩ := Cond.laysAt hfoundX hk Y.stack (a' (.lays cls Bundle.tN "stackTrace" Bundle.steD) (by simp [jm_superAtoms]))
  obtain ⟨tyP, dP, hdP, hdnP⟩ := Cond.laysAt hfoundX hk Y.supp (a' (.lays cls Bundle.tN "suppressedExceptions" Bundle.listD) (by simp [jm_superAtoms]))
  obtain ⟨tyM, dM, hdM, hdnM⟩ := Cond.laysAt hfoundX hk hffM (a' (.lays cls Bundle.tN "detailMessage" "Ljava/lang/String;") (by simp [jm_superAtoms]))
  obtain ⟨tyB, dB, hdB, hdnB⟩ := Cond.laysAt hfoundX hk hffB (a' (.lays cls Bundle.tN "backtrace" "Ljava/lang/Object;") (by simp [jm_superAtoms]))
  have bC := Cond.laysApart hdB hdC hdnB hdnC (by rw [hnB, Y.causeName]; decide)
  have bS := Cond.laysApart hdB hdS hdnB hdnS (by rw [hnB, Y.stackName]; decide)
  have bP := Cond.laysApart hdB hdP hdnB hdnP (by rw [hnB, Y.suppName]; decide)
  have hnM : T.fMsg.name = "detailMessage" := (State.fieldFound?_type hffM (by decide +kernel : parseFieldDescriptor "Ljava/lang/String;" = some (.object "java/lang/String"))).1
  have hskip : SkipFacts T e.platform s (fun u => u) u0 ((preparedCellV T.toThrowableT (freshCell cX kX) a u0 sen).withEntry W.cur) :=
    ⟨{ ci198 := ci198, i198 := i198, fBack := fB }, ⟨hk198, hg198, ha198, hsB⟩, by
      have := fresh_default (c := cX) tyB
      rw [htB] at this
      simpa [preparedCellV, Cell.setSlot, Cell.withEntry, Array.getElem?_setIfInBounds, bC, bS, bP, bC.symm, bS.symm, bP.symm, defaultValue] using this, fun _ _ => rfl⟩
  obtain ⟨tm, methC, cdC, kC, vm₁, hnC, -, -, -, -, -, -, -, hW₁, st1⟩ := Steps.initColdS (tb := p.tables) (e := e) (below := below) (s := s) (U := W) X.here hexec X.warmed hpl hown (t := Bundle.initS sup) rfl rfl (Bundle.fit_spec hsup).2
    (a' (.methodLink own ic (Bundle.initS sup)) (by simp [jm_superAtoms])) (h (.instanceMethod (Bundle.initS sup)) (by simp [jm_superAtoms, Bundle.chainSAtoms, Bundle.passSAtoms])) (bytes := Bundle.six) (maxL := 2) (h (.code (Bundle.initS sup) Bundle.six 2 none) (by simp [jm_superAtoms, Bundle.chainSAtoms, Bundle.passSAtoms]))
    (f := g) hg (a := a) (msg := msg) (rest := rest) hstack hd6
  cases Option.some.inj (hnC.symm.trans hP1m)
  have X₁ := X.noted hW₁
  obtain ⟨vm₂, X₂, st2⟩ := X₁.ctorMessageOffV hexec (g := { g with stack := rest }) hg hsize T L Z LZ M LM (P1 :: Ps)
    (fun P hP => by rcases List.mem_cons.mp hP with rfl | hP; exact L1; exact hL P hP) ⟨hlink1, hlink⟩ (u0 := u0) (sen := sen) (self := a) hmsg (cell := freshCell cX kX) (cellS := cellS)
    hcell (fun _ => by simp) (by simp) rfl rfl hsel0 hselF hcellS hneS hknownS (by rw [hkeep _ (hout' _)]; exact hu0) (by rw [hkeep _ (hout' _)]; exact hsen)
    (Takes.of_laid hk hord tyC (by rw [Y.causeType]; rfl)) (Takes.of_laid hk hord tyS (by rw [Y.stackType]; exact fits_refV_array _ u0)) (Takes.of_laid hk hord tyP (by rw [Y.suppType]; exact fits_refV_object _ sen))
    (Takes.of_laid hk hord tyM (by rw [Y.msgType]; exact fits_refV_object _ ⟨msg, hmsg⟩)) Y.objLocals hskip htr [] hd6
    (by simp only [List.length_cons, hlen, List.length_nil]; omega) (by
      simp only [List.length_cons, hlen, List.length_nil]
      have h9 : (JFrame.monitorRoom { g with stack := rest }) = g.monitorRoom := rfl
      rw [h9]
      omega)
  refine ⟨vm₂, _, _, X₂, fun y hy => ?_, rfl, rfl, fun f d hty hd hdn n1 n2 n3 n4 => ?_, fun target hwalk => st1 _ (fun acts => ?_)⟩
  · simp only [List.mem_cons, List.not_mem_nil, or_false] at hy
    rcases hy with rfl | rfl | rfl | rfl | rfl <;> rfl
  · have fC := Cond.laysApart hd hdC hdn hdnC (by rw [Y.causeName]; exact n1)
    have fS := Cond.laysApart hd hdS hdn hdnS (by rw [Y.stackName]; exact n2)
    have fP := Cond.laysApart hd hdP hdn hdnP (by rw [Y.suppName]; exact n3)
    have fM := Cond.laysApart hd hdM hdn hdnM (by rw [hnM]; exact n4)
    have := fresh_default (c := cX) hty
    simpa [plainBareV, preparedCellV, Cell.setSlot, Array.getElem?_setIfInBounds, fC, fS, fP, fM, fC.symm, fS.symm, fP.symm, fM.symm] using this
  · rw [doInvoke_state]
    exact st2 _ hwalk
end JSUP
/-- a fresh Fault: kind, place, and six slots of Throwable's that no one reads -/
def jm_fz : List Value := [.int 0, .int 0, .int 0, .int 0, .int 0, .int 0, .int 0, .int 0]
/-- the constructor's contract: called on a fresh cell -/
def jm_PcF (g : GD) (b sa a : Nat) (As : List Value) (M : Mem) : Array Value → State → Prop := va_Pc As (fun U => ((jm_KG g U ∧ jm_Rp g b M U.heap) ∧ jm_KX b sa U U.heap) ∧ ∃ kX : Class, U.vm.classes[g.1 3]? = some kX ∧ U.heap[a]? = some (freshCell (g.1 3) kX))
theorem jm_blindF {g : GD} {b sa a : Nat} {As : List Value} {M : Mem} : FrameBlind (jm_PcF g b sa a As M) := by
  intro x U gg mk h
  exact ⟨h.1, ⟨⟨jm_KG.same (u := U) (U := U.calling gg mk x) rfl h.2.1.1.1, h.2.1.1.2⟩, jm_KX.same (u := U) (U := U.calling gg mk x) rfl h.2.1.2⟩, h.2.2⟩
theorem jm_startF {l : Launch} {g : GD} {b sa a : Nat} {y : MethodName} {cc : ByteArray} {maxL : Nat} {ret : Option FieldType} {fr lo : Nat} {As : List Value} {M M' : Mem} {res : Option Value} (hy : plainName y.cls = true) (hle : jm_le M M') (hsl : (lg_sl As).length ≤ maxL)
    (body : ∀ (p : Program) (e : Env) (s : State) (m : MethodId) (args : Array Value) (below : List Frame) (meth : Method) (c : Code) (ls : Array Slot), jm_Cx p s m args meth c cc maxL ret y.cls → meth.name = y.name → jm_KG g s → jm_KX b sa s s.heap → (∃ kX : Class, s.vm.classes[g.1 3]? = some kX ∧ s.heap[a]? = some (freshCell (g.1 3) kX)) → jm_St g b M M' M s (jm_rm fr lo M M') s.heap [] 0 0 → lv_has ls maxL (lv_args 0 As) →
      W p l e (jm_rm fr lo M M') s m args below meth c s.heap [] 0 0 (jm_MQ below g b res M M' args s) (F0 m 0 ls [])) : Met l y (ws_ y cc maxL ret) (jm_rm fr lo M M') (jm_PcF g b sa a As M) (jm_Q g b res M') (M'.1 - M.1) (M'.2.1 - M.2.1) (fun q => b ≤ q) := by
  refine Met.ofW (cc := cc) (maxL := maxL) (ret := ret) hy rfl ?_
  intro p e s m args below meth c s₁ B hml hv
  obtain ⟨rfl, ⟨⟨hK, hR⟩, hKX⟩, hF⟩ := hv
  have hts := atoms_spec (ws := ws_ y cc maxL ret) B.pre
  have hl := lv_entry As (n := maxL) hsl
  rw [lg_entry_eq]
  exact body p e s m _ below meth c _ ⟨B.exec, B.bytes, hml, findClass_of_methodNamed B.named, fun w h => hts w (List.mem_cons_of_mem _ h), B.returns, B.notSynchronized⟩ (name_of_methodNamed B.named B.method).1 hK hKX hF ⟨hR, va_S.rf, rfl, rfl, by have := hle.1; show M'.1 ≤ M.1 + (M'.1 - M.1); omega, by have := hle.2; show M'.2.1 ≤ M.2.1 + (M'.2.1 - M.2.1); omega⟩ hl
section JSUP2
variable {p : Program} {l : Launch} {e : Env} {R : Room} {s : State} {m : MethodId} {args : Array Value} {below : List Frame} {meth : Method} {c : Code} {Q : State → Prop} {cells slots : Nat}
variable {cc : ByteArray} {pc : Nat} {ls : Array Slot} {g : GD} {b : Nat} {M0 Mf M : Mem}
theorem jw_super {a ic : Nat} {msg : Value} (hmsg : msg.isRef = true) (hl : l.stackTraces = false) (hx : p.tables.exec = Jvm.exec) (hb : c.code = cc) (hown : s.vm.findClass RX3 = some m.cls) (hK : jm_KG g s)
    (hat : ∀ w ∈ jm_superAtoms RX3 ic RX3 RJ1, w.before args s = true) (hts : ∀ w ∈ lw_all, w.before args s = true)
    (hF : ∃ kX : Class, s.vm.classes[g.1 3]? = some kX ∧ s.heap[a]? = some (freshCell (g.1 3) kX)) (hst : jm_St g b M0 Mf M s R s.heap [] cells slots) (hM : M.2.2 a = some (.inr (3, jm_fz)))
    (hsize : ls.size = c.maxLocals) (hdg : decode cc pc = .ok (.invokespecial ic, 3)) (hfr : 3 < R.frames) (hlo : 55 ≤ R.locals)
    (kk : ∀ (H1 : Heap) (locs1 : List Loc), jm_St g b M0 Mf M s R H1 locs1 cells slots → W p l e R s m args below meth c H1 locs1 cells slots Q (F0 m (pc + 3) ls [])) : W p l e R s m args below meth c s.heap [] cells slots Q (F0 m pc ls [msg, .ref a]) := by
  intro T hT X
  obtain ⟨kX, hkX, hcell⟩ := hF
  have htr : e.platform.stackTraces = false := (show e.platform.stackTraces = l.stackTraces by rw [X.admits.platform]).trans hl
  have hKn := hK.1.1 3 _ rfl
  have hcT : T.heap[a]? = some (freshCell (g.1 3) kX) := by rw [hT]; exact hcell
  obtain ⟨vm', ce, L, Z, hL, hcl, hvm, hsl, st⟩ := jm_superMade X hx htr (own := RX3) (cls := RX3) (sup := RJ1) (ic := ic) hown (by decide +kernel) hat (fun x hx => nomatch hx) hKn.2.1 hkX hcT (fun cell hc => by rw [hcell] at hc; cases hc; rfl) hmsg
    (g := F0 m pc ls [msg, .ref a]) rfl hsize (rest := []) rfl (by rw [hb]; exact hdg) hfr (by simpa [JFrame.monitorRoom] using hlo)
  have hlt : a < (T.setVm vm').heap.size := (Array.getElem?_eq_some_iff.mp hcT).1
  have hself : ((T.setVm vm').setCell a ce).heap[a]? = some ce := heapAt_setCell_self (s := T.setVm vm') ce hlt
  have hne : ∀ q : Nat, q ≠ a → ((T.setVm vm').setCell a ce).heap[q]? = s.heap[q]? := fun q hq => by
    rw [heapAt_setCell_ne ce (Ne.symm hq)]
    show T.heap[q]? = _
    rw [hT]
  have hz : ((T.setVm vm').setCell a ce).heap.size = s.heap.size := by
    rw [← hT]
    simp [State.setCell]
  have hob : va_at (g.1, g.2.1) vwCl (a, jm_cn g (.inr (3, jm_fz))) ((T.setVm vm').setCell a ce).heap := by
    refine ⟨_, rfl, ce, hself, hcl, hvm, fun k hk => ?_⟩
    obtain ⟨cf, kf, fi, fd, hi, he⟩ := hKn.1 k hk
    have hw := u_lays (C := RX3) (T := TX3F) (N := 2) hts in_X3F hk
    have hty := (u_facts hKn.2.1 hkX hw hi).2.2
    have hT2 := State.fieldFound?_type hi (tyX3F_ok k hk)
    have hfin : (Cond.laysFinal RX3 (TX3F k).1 (TX3F k).2.1 (TX3F k).2.2.1).before args s = true := by
      have := hts _ (in_X3F _ (u_in_lay hk))
      match k, hk with
      | 0, _ => exact this
      | 1, _ => exact this
    obtain ⟨c1, k1, c1', k1', i1, f1, r1, r2, r3, -, -, -, -, -, d, r4, -, r5, -⟩ := Cond.laysFinal_spec hfin
    cases hKn.2.1.symm.trans r1
    cases hi.symm.trans r3
    rw [← he]
    have hn : fd.name = (TX3F k).2.1 := hT2.1
    have := hsl fd d hty r4 r5 (by rw [hn]; match k, hk with | 0, _ => decide | 1, _ => decide) (by rw [hn]; match k, hk with | 0, _ => decide | 1, _ => decide) (by rw [hn]; match k, hk with | 0, _ => decide | 1, _ => decide) (by rw [hn]; match k, hk with | 0, _ => decide | 1, _ => decide)
    rw [hT2.2] at this
    rw [this]
    match k, hk with
    | 0, _ => rfl
    | 1, _ => rfl
  have hba : b ≤ a := (hst.1.2.2 a _ hM).1
  have hst2 : jm_St g b M0 Mf M s R ((T.setVm vm').setCell a ce).heap ([] ++ L) cells slots := by
    obtain ⟨hR, hS, r1, r2, r3, r4⟩ := hst
    refine ⟨⟨hz.trans hR.1, hR.2.1, fun q x hq => ?_⟩, ⟨by rw [hz]; exact Nat.le_refl _, fun q hq hA => hne q (fun h => hA (by rw [h]; exact hba)), fun z h => ?_⟩, r1, r2, r3, r4⟩
    · by_cases h : q = a
      · subst h
        cases hM.symm.trans hq
        exact ⟨hba, hob⟩
      · exact ⟨(hR.2.2 q x hq).1, (hR.2.2 q x hq).2.kept (hne q h)⟩
    · rw [hL z (by simpa using h)]
      exact hba
  obtain ⟨t, a1, b1⟩ := kk _ _ hst2 _ rfl Z
  exact ⟨t, st t a1, b1⟩
end JSUP2
theorem jm_superIn : ∀ w ∈ (jm_superAtoms RX3 3 RX3 RJ1).filter goodWord, w ∈ lw_all := lw_in ((jm_superAtoms RX3 3 RX3 RJ1).filter goodWord)
  [75, 194, 203, 206, 209, 211, 195, 196, 99, 100, 197, 202, 207, 228, 184, 229, 186, 230, 188, 198, 200, 190, 220, 221, 227, 190, 217, 218, 219, 220, 216, 175, 181, 182, 183, 185, 187, 189, 193, 192, 191] (by decide +kernel) (by decide +kernel)
theorem jm_superOut : ((jm_superAtoms RX3 3 RX3 RJ1).filter vx_no).filter (fun w => !goodWord w) = [.declares (Bundle.initS Bundle.tN)] := by decide +kernel
theorem jm_superHat {b sa : Nat} {s : State} {args : Array Value} (hts : ∀ w ∈ lw_all, w.before args s = true) (h : jm_KX b sa s s.heap) : ∀ w ∈ jm_superAtoms RX3 3 RX3 RJ1, w.before args s = true := by
  refine vx_own ?_ (vx_isRefq h.2.1.1) (vx_isRefq h.2.2.1.1) h.2.1.2.word h.2.2.1.2.word
  refine vx_hat (B := [.declares (Bundle.initS Bundle.tN)]) (fun w hw => hts w (jm_superIn w ?_)) (fun w hw => by rw [jm_superOut] at hw; exact hw) (vx_c (va_Nw.use rfl (h.2.2.2 _ (by simp [jm_dcl]))) vx_n)
  have := List.mem_filter.mp hw
  exact List.mem_filter.mpr ⟨(List.mem_filter.mp this.1).1, this.2⟩
theorem fw_X3_9 {s : State} {args : Array Value} {meth : Method} (hts : ∀ w ∈ lw_all, w.before args s = true) (hin : meth.name = "<init>") : ∀ q ∈ ([3] : List Nat), jm_FW s args meth RX3 9 q 0 .int := by
  intro q hq
  simp only [List.mem_cons, List.not_mem_nil, or_false] at hq
  subst hq
  exact ⟨RX3, TX3F, 2, rfl, in_X3F, by decide, ⟨tyX3F, tyX3F_ok⟩, nmX3F, tyX3F_ok 0 (by decide), "ChainParts$Fault", hts _ q222, fun _ h => h, Or.inr ⟨rfl, hin, rfl⟩⟩
theorem fw_X3_15 {s : State} {args : Array Value} {meth : Method} (hts : ∀ w ∈ lw_all, w.before args s = true) (hin : meth.name = "<init>") : ∀ q ∈ ([3] : List Nat), jm_FW s args meth RX3 15 q 1 .int := by
  intro q hq
  simp only [List.mem_cons, List.not_mem_nil, or_false] at hq
  subst hq
  exact ⟨RX3, TX3F, 2, rfl, in_X3F, by decide, ⟨tyX3F, tyX3F_ok⟩, nmX3F, tyX3F_ok 1 (by decide), "ChainParts$Fault", hts _ q224, fun _ h => h, Or.inr ⟨rfl, hin, rfl⟩⟩
def jf_X3_init (a0 : Nat) (v1 v2 : Int32) : jm_P Unit :=
  jm_wr (jm_put [3] 0 (.int v1) (some a0)) <|
  jm_wr (jm_put [3] 1 (.int v2) (some a0)) <|
  jm_ret ()
set_option maxHeartbeats 4000000 in
set_option maxRecDepth 100000 in
theorem jt_X3_init (l : Launch) (hl0 : l.stackTraces = false) (g : GD) (b sa : Nat) (a0 : Nat) (v1 v2 : Int32) (M M' : Mem) (r : Unit) (hM : M.2.2 a0 = some (.inr (3, jm_fz))) (hf : (jf_X3_init a0 v1 v2).1 M = some (r, M')) :
    Met l yX3_init (ws_ yX3_init cX3_init 3 none) (jm_rm 4 60 M M') (jm_PcF g b sa a0 [va_rf (some a0), .int v1, .int v2] M) (jm_Q g b none M') (M'.1 - M.1) (M'.2.1 - M.2.1) (fun q => b ≤ q) := by
  refine jm_startF (by decide) (jm_mono hf) (by rw [lg_sl_r, lg_sl_i, lg_sl_i, lg_sl_n]; exact Nat.le_of_ble_eq_true rfl) ?_
  intro p e s m args below meth c ls C0 hin hK hKX hF hst hl
  obtain ⟨hx, hb, hml, hown, hts, hr, hlk⟩ := id C0
  have hown : s.vm.findClass RX3 = some m.cls := hown
  have C0 : jm_Cx p s m args meth c cX3_init 3 none RX3 := C0
  rw [lv_args_r, lv_args_i, lv_args_i, lv_args_n] at hl
  have hl : lv_has ls 3 [(0, va_rf (some a0)), (1, .int v1), (2, .int v2)] := hl
  unfold jf_X3_init at hf
  refine jw_aload_n (r := (some a0)) hx hb dX3_init_0 rfl (lv_at hl 0 rfl) ?_
  refine va_ldcS hx hb hown hKX.1 dX3_init_1 ?_
  refine jw_super rfl hl0 hx hb hown hK (jm_superHat hts hKX) hts hF hst hM (by rw [hml]; exact hl.1) dX3_init_3 (Nat.le_of_ble_eq_true rfl) (Nat.le_of_ble_eq_true rfl) (fun H locs hst => ?_)
  refine W.eq (g2 := F0 m 6 ls []) rfl ?_
  refine jw_aload_n (r := (some a0)) hx hb dX3_init_6 rfl (lv_at hl 0 rfl) ?_
  refine lv_iload_n hx hb dX3_init_7 rfl (lv_at hl 1 rfl) ?_
  obtain ⟨F1, h2, hf⟩ := jm_wr_some hf
  refine jw_put (r := (some a0)) hx hb hts hown hK hst (fw_X3_9 hts hin) h2 rfl rfl dX3_init_8 (fun H locs hst => ?_)
  generalize ((M.1, M.2.1, F1) : Mem) = Mm3 at hf hst
  refine jw_aload_n (r := (some a0)) hx hb dX3_init_11 rfl (lv_at hl 0 rfl) ?_
  refine lv_iload_n hx hb dX3_init_12 rfl (lv_at hl 2 rfl) ?_
  obtain ⟨F4, h5, hf⟩ := jm_wr_some hf
  refine jw_put (r := (some a0)) hx hb hts hown hK hst (fw_X3_15 hts hin) h5 rfl rfl dX3_init_13 (fun H locs hst => ?_)
  generalize ((Mm3.1, Mm3.2.1, F4) : Mem) = Mm6 at hf hst
  obtain ⟨-, rfl⟩ := jm_ret_some hf
  exact jw_vret C0 hst dX3_init_16
