/-! METHODS THAT MAY THROW a Fault: contracts with two ends, calls that throw, handlers -/
/-- constructors that the tables declare -/
def jm_dcl : List String := [Bundle.tN, RJ1, RJ3]
/-- what such methods need beside: the text, the two statics of Throwable -/
def jm_KX (b sa : Nat) (U : State) (H : Heap) : Prop := vk_R RX3 1 "fault" sa U ∧ vx_Zq Bundle.tN "UNASSIGNED_STACK" Bundle.steD (fun q => b ≤ q) U H ∧ vx_Zq Bundle.tN "SUPPRESSED_SENTINEL" Bundle.listD (fun q => b ≤ q) U H ∧ ∀ x ∈ jm_dcl, va_Nw (.declares (Bundle.initS x)) U
theorem jm_KX.warm {b sa : Nat} {s U : State} {H : Heap} (hW : s.WarmedH U.vm) (h : jm_KX b sa s H) : jm_KX b sa U H := ⟨vk_R.warm hW h.1, h.2.1.moved hW.alike, h.2.2.1.moved hW.alike, fun x hx => va_Nw.warmD hW (h.2.2.2 x hx)⟩
theorem jm_KX.same {b sa : Nat} {u U : State} {H : Heap} (e : u.vm = U.vm) (h : jm_KX b sa u H) : jm_KX b sa U H := by
  have hA : u.vm.Alike U.vm := by rw [e]; exact Vm.Alike.refl _
  exact ⟨vk_R.same e.symm h.1, h.2.1.moved hA, h.2.2.1.moved hA, fun x hx => va_Nw.same rfl e (h.2.2.2 x hx)⟩
theorem jm_KX.kept {b sa : Nat} {U : State} {H H1 : Heap} (h : jm_KX b sa U H) (hq : ∀ a : Nat, a < H.size → ¬ b ≤ a → H1[a]? = H[a]?) : jm_KX b sa U H1 := ⟨h.1, h.2.1.kept hq, h.2.2.1.kept hq, h.2.2.2⟩
def jm_PcX (g : GD) (b sa : Nat) (As : List Value) (M : Mem) : Array Value → State → Prop := va_Pc As (fun U => (jm_KG g U ∧ jm_Rp g b M U.heap) ∧ jm_KX b sa U U.heap)
theorem jm_blindX {g : GD} {b sa : Nat} {As : List Value} {M : Mem} : FrameBlind (jm_PcX g b sa As M) := by
  intro a U gg mk h
  exact ⟨h.1, ⟨jm_KG.same (u := U) (U := U.calling gg mk a) rfl h.2.1.1, h.2.1.2⟩, jm_KX.same (u := U) (U := U.calling gg mk a) rfl h.2.2⟩
/-- the end that is known: it returns, or throws the exception at q -/
def jm_QX (g : GD) (b : Nat) (x : Option Value ⊕ Nat) (M M' : Mem) : Array Value → State → Outcome → State → Prop := fun a st o t => match x with
  | .inl res => jm_Q g b res M' a st o t ∧ ∃ L, FrameEnd st o t L (M'.1 - M.1) (M'.2.1 - M.2.1) ∧ ∀ q ∈ L, b ≤ q.base
  | .inr q => (o = .threw q ∧ jm_Rp g b M' t.heap ∧ va_F (fun z => b ≤ z) st t) ∧ ∃ L, FrameEndT st o t L (M'.1 - M.1) (M'.2.1 - M.2.1) ∧ ∀ z ∈ L, b ≤ z.base
def jm_MX (l : Launch) (g : GD) (b sa : Nat) (y : MethodName) (ws : List Cond) (fr lo : Nat) (As : List Value) (M M' : Mem) (x : Option Value ⊕ Nat) : Prop :=
  MetFree l y (headSpec ws (jm_rm fr lo M M')) (jm_PcX g b sa As M) (fun _ _ _ _ _ => True) (jm_QX g b x M M')
def jm_MQX (below : List Frame) (g : GD) (b : Nat) (x : Option Value ⊕ Nat) (M M' : Mem) (args : Array Value) (s : State) : State → Prop := fun t => ∃ o, t.status = .running ∧ Ended t below o ∧ jm_QX g b x M M' args s o t
theorem jm_MX.ret {l : Launch} {g : GD} {b sa : Nat} {y : MethodName} {ws : List Cond} {fr lo : Nat} {As : List Value} {M M' : Mem} {res : Option Value} (h : jm_MX l g b sa y ws fr lo As M M' (.inl res)) : Met l y ws (jm_rm fr lo M M') (jm_PcX g b sa As M) (jm_Q g b res M') (M'.1 - M.1) (M'.2.1 - M.2.1) (fun q => b ≤ q) := h
theorem jm_startX {l : Launch} {g : GD} {b sa : Nat} {y : MethodName} {cc : ByteArray} {maxL : Nat} {ret : Option FieldType} {fr lo : Nat} {As : List Value} {M M' : Mem} {x : Option Value ⊕ Nat} (hy : plainName y.cls = true) (hle : jm_le M M') (hsl : (lg_sl As).length ≤ maxL)
    (body : ∀ (p : Program) (e : Env) (s : State) (m : MethodId) (args : Array Value) (below : List Frame) (meth : Method) (c : Code) (ls : Array Slot), jm_Cx p s m args meth c cc maxL ret y.cls → meth.name = y.name → jm_KG g s → jm_KX b sa s s.heap → jm_St g b M M' M s (jm_rm fr lo M M') s.heap [] 0 0 → lv_has ls maxL (lv_args 0 As) → (∀ z ∈ c.exceptionTable.toList, False) →
      W p l e (jm_rm fr lo M M') s m args below meth c s.heap [] 0 0 (jm_MQX below g b x M M' args s) (F0 m 0 ls [])) : jm_MX l g b sa y (ws_ y cc maxL ret) fr lo As M M' x := by
  refine MetFree.of_bodyS (code := cc) (maxLocals := maxL) (ret := ret) hy ?_ ?_
  · intro args s m h hn
    obtain ⟨meth, c, h1, h2, h3, h4, h5, h6, -, -⟩ := Cond.code_spec hn (atoms_spec (ws := ws_ y cc maxL ret) h _ List.mem_cons_self)
    exact ⟨meth, c, h1, h2, h3, h4, h5, h6⟩
  · intro p e s m args below meth c s₁ B hml hP _
    obtain ⟨rfl, ⟨hK, hR⟩, hKX⟩ := hP
    have hts := atoms_spec (ws := ws_ y cc maxL ret) B.pre
    have hl := lv_entry As (n := maxL) hsl
    have hh0 : s₁.heap = s.heap := by rw [B.state]; rfl
    have hW := body p e s m _ below meth c _ ⟨B.exec, B.bytes, hml, findClass_of_methodNamed B.named, fun w h => hts w (List.mem_cons_of_mem _ h), B.returns, B.notSynchronized⟩ (name_of_methodNamed B.named B.method).1 hK hKX ⟨hR, va_S.rf, rfl, rfl, by have := hle.1; show M'.1 ≤ M.1 + (M'.1 - M.1); omega, by have := hle.2; show M'.2.1 ≤ M.2.1 + (M'.2.1 - M.2.1); omega⟩ hl (by
      obtain ⟨methY, cY, hmY, hcY, -, -, -, -, hne, -⟩ := Cond.code_spec B.named (hts _ List.mem_cons_self)
      cases Option.some.inj (hmY.symm.trans B.method)
      cases Option.some.inj (hcY.symm.trans (Stand.of_body B).code)
      intro z hz
      rw [Array.isEmpty_iff.mp hne] at hz
      cases hz)
    rw [← lg_entry_eq] at hW
    obtain ⟨t, a1, o, b1, b2, b3⟩ := hW s₁ hh0 (Stand.of_body B)
    exact ⟨t, o, a1, b1, b2, b3⟩

section JT
variable {p : Program} {l : Launch} {e : Env} {R : Room} {s : State} {m : MethodId} {args : Array Value} {below : List Frame} {meth : Method} {c : Code} {H : Heap} {locs : List Loc} {cells slots : Nat} {Q : State → Prop}
variable {cc : ByteArray} {pc : Nat} {ls : Array Slot} {rest : List Value} {g : GD} {b : Nat} {M0 Mf M : Mem}
variable {own : String} {nL : Nat} {rt : Option FieldType}
theorem jm_callVT {T : State} (X : Stand p l e R s m args below meth c T locs cells slots) (hexec : p.tables.exec = Jvm.exec) {C : String} {index : Nat} {y : MethodName} {bytes : ByteArray} {maxL : Nat} {ret : Option FieldType}
    (hown : s.vm.findClass own = some m.cls) (hlink : (Cond.methodLink own index y).before args s = true) (hinst : (Cond.instanceMethod y).before args s = true) (hsel : (Cond.selects C y y).before args s = true)
    (hcode : (Cond.code y bytes maxL ret).before args s = true) (hy : y.cls ≠ "java/lang/invoke/MethodHandle" ∧ y.cls ≠ "java/lang/invoke/VarHandle")
    {W9 : Nat} {Pre : Pt → Array Value → Prop} {Post : Pt → Array Value → Addr → Pt → Prop} (hK : BackT l R p e below s args y 3 W9 Pre Post)
    {bb : Addr} {cellB : Cell} (hcell : T.heap[bb]? = some cellB) (hobj : cellB.vm.isStatics = false) (hcls : s.vm.findClass C = some cellB.cls)
    {gg : JFrame} (hg : gg.method = m) (hsize : gg.locals.size = c.maxLocals) {argsL rest : List Value} (hlen : ∀ sig, parseMethodDescriptor y.desc = some sig → argsL.length = sig.parameters.length)
    (hstack : gg.stack = argsL.reverse ++ .ref bb :: rest) (hW : 2 * gg.monitorRoom + (rest.map fun v => v.category).sum ≤ W9) (hdg : decode c.code gg.pc = .ok (.invokevirtual index, 3))
    (hpre : ∀ vm₁, s.WarmedH vm₁ → Pre ⟨T.setVm vm₁, locs, cells, slots⟩ (Value.ref bb :: argsL).toArray) :
    ∃ (q : Addr) (vm₁ : Vm) (B : Pt), s.WarmedH vm₁ ∧ Stand p l e R s m args below meth c B.U B.locs B.cells B.slots ∧ Post ⟨T.setVm vm₁, locs, cells, slots⟩ (Value.ref bb :: argsL).toArray q B ∧
      Steps p.tables e below (T.setTop gg) ((B.U.setTop { gg with stack := rest }).pushFrame (.throwing q)) := by
  obtain ⟨mk, methM, hnamed, hmethM, hstM, habM⟩ := Cond.instanceMethod_spec hinst
  obtain ⟨methM', cM, hmethM', -, -, -, -, -, -, hsigM⟩ := Cond.code_spec hnamed hcode
  cases hmethM.symm.trans hmethM'
  obtain ⟨c2, r2, m2, q1, q2, q3, q4, kP, hkP, hkPi⟩ := Cond.selects_spec hsel
  cases hcls.symm.trans q1
  cases (State.methodFound?_of_named hnamed hy).symm.trans q2
  cases hnamed.symm.trans q3
  have hselP : selectMethod e.platform s.vm cellB.cls mk = .method mk := by rw [Launch.admits_selectMethod X.admits]; exact q4
  obtain ⟨vm₁, X₁, hstep₁⟩ := X.invokevirtual hexec hown hlink hnamed hmethM hstM hkP hkPi hy (a := bb) (cell := cellB) hcell
    (fun z h => by rw [h] at hobj; cases hobj) hselP hmethM habM hkP hkPi (g := gg) hg (argsL := argsL) (rest := rest) (hlen _ hsigM) hstack hdg
  obtain ⟨q, B, X', hpost, hsteps⟩ := hK m meth c ⟨T.setVm vm₁, locs, cells, slots⟩ { gg with stack := rest } (.invokevirtual index) mk (Value.ref bb :: argsL).toArray X₁ hg hsize hdg hW (X₁.named hnamed) (hpre vm₁ X₁.warmed)
  exact ⟨q, vm₁, B, X₁.warmed, X', hpost, hstep₁ _ fun acts => by rw [doInvoke_state]; exact hsteps⟩
theorem jm_preVX {As : List Value} {a ci N sa : Nat} {C : String} {T : u_T} {fs : List Value} (hK : jm_KG g s) (hKX : jm_KX b sa s s.heap) (hst : jm_St g b M0 Mf M s R H locs cells slots) (hr : M.2.2 a = some (.inr (ci, fs))) (hc : vwCl[ci]? = some (C, T, N)) : PreV s H C a (jm_PcX g b sa (.ref a :: As) M) As :=
  ⟨jm_blindX, va_recv hK.1 (hst.1.one hr) hc (q0 := 0) rfl, fun U hU hW => ⟨rfl, ⟨hK.moved hW, by rw [hU]; exact hst.1⟩, by rw [hU]; exact (hKX.kept (fun q h1 h2 => hst.2.1.2.1 q h1 h2)).warm hW⟩⟩
/-- a call that returns, of a method that might throw -/
theorem jw_VX {index maxL fr lo n a ci N sa : Nat} {C : String} {T : u_T} {y : MethodName} {bytes : ByteArray} {ret : Option FieldType} {fs As : List Value} {M1 : Mem} {res : Option Value} {st : List Value} {rv : Option Nat} (hM : jm_MX l g b sa y (ws_ y bytes maxL ret) fr lo (.ref a :: As) M M1 (.inl res)) (C0 : jm_Cx p s m args meth c cc nL rt own) (hK : jm_KG g s) (hKX : jm_KX b sa s s.heap) (hst : jm_St g b M0 Mf M s R H locs cells slots) (hle : jm_le M M1) (hle2 : jm_le M1 Mf)
    (h1 : Cond.methodLink own index y ∈ lw_all) (h2 : Cond.instanceMethod y ∈ lw_all) (h3 : Cond.selects C y y ∈ lw_all) (h4 : Cond.initialized C ∈ lw_all) (h5 : Cond.code y bytes maxL ret ∈ lw_all) (hd : y.cls = C ∧ y.cls ≠ "java/lang/invoke/MethodHandle" ∧ y.cls ≠ "java/lang/invoke/VarHandle" ∧ (parseMethodDescriptor y.desc).map (fun d => d.parameters.length) = some n) (hR : fr + 1 ≤ R.frames ∧ 8 + (maxL + 11) + lo ≤ R.locals)
    (hv : rv = some a) (hr : M.2.2 a = some (.inr (ci, fs))) (hc : vwCl[ci]? = some (C, T, N)) (hn : As.length = n) (hsz : ls.size = nL) (hstk : st = As.reverse ++ va_rf rv :: rest) (hW : (rest.map fun v => v.category).sum ≤ 8) (hdg : decode cc pc = .ok (.invokevirtual index, 3))
    (kk : ∀ (H1 : Heap) (locs1 : List Loc) (cells1 slots1 : Nat), jm_St g b M0 Mf M1 s R H1 locs1 cells1 slots1 → W p l e R s m args below meth c H1 locs1 cells1 slots1 Q (F0 m (pc + 3) ls (res.toList ++ rest))) : W p l e R s m args below meth c H locs cells slots Q (F0 m pc ls st) := by
  obtain ⟨hx, hb, hml, hown, hts, -, -⟩ := C0
  subst hstk
  subst hv
  exact jw_back (va_runV (rm := jm_rm fr lo M M1) ⟨hx, hb, hml, hown, hts⟩ hM.ret (cwV n hts (lw_V h1 h2 h3 h4 h5) rfl rfl rfl hd hR) (jm_preVX hK hKX hst hr hc) rfl hn hsz rfl (lv_room hW) hdg (hst.fits hle hle2)) hle hst kk
/-- a call that throws -/
theorem jw_VT {index maxL fr lo n a ci N sa q : Nat} {C : String} {T : u_T} {y : MethodName} {bytes : ByteArray} {ret : Option FieldType} {fs As : List Value} {M1 : Mem} {st : List Value} {rv : Option Nat} (hM : jm_MX l g b sa y (ws_ y bytes maxL ret) fr lo (.ref a :: As) M M1 (.inr q)) (C0 : jm_Cx p s m args meth c cc nL rt own) (hK : jm_KG g s) (hKX : jm_KX b sa s s.heap) (hst : jm_St g b M0 Mf M s R H locs cells slots) (hle : jm_le M M1) (hle2 : jm_le M1 Mf)
    (h1 : Cond.methodLink own index y ∈ lw_all) (h2 : Cond.instanceMethod y ∈ lw_all) (h3 : Cond.selects C y y ∈ lw_all) (h4 : Cond.initialized C ∈ lw_all) (h5 : Cond.code y bytes maxL ret ∈ lw_all) (hd : y.cls = C ∧ y.cls ≠ "java/lang/invoke/MethodHandle" ∧ y.cls ≠ "java/lang/invoke/VarHandle" ∧ (parseMethodDescriptor y.desc).map (fun d => d.parameters.length) = some n) (hR : fr + 1 ≤ R.frames ∧ 8 + (maxL + 11) + lo ≤ R.locals)
    (hv : rv = some a) (hr : M.2.2 a = some (.inr (ci, fs))) (hc : vwCl[ci]? = some (C, T, N)) (hn : As.length = n) (hsz : ls.size = nL) (hstk : st = As.reverse ++ va_rf rv :: rest) (hW : (rest.map fun v => v.category).sum ≤ 8) (hdg : decode cc pc = .ok (.invokevirtual index, 3))
    (kk : ∀ (H1 : Heap) (locs1 : List Loc) (cells1 slots1 : Nat), jm_St g b M0 Mf M1 s R H1 locs1 cells1 slots1 → vx_W p l e R s m args below meth c H1 locs1 cells1 slots1 Q (F0 m pc ls rest) q) : W p l e R s m args below meth c H locs cells slots Q (F0 m pc ls st) := by
  obtain ⟨hx, hb, hml, hown, hts, -, -⟩ := C0
  subst hstk
  subst hv
  obtain ⟨hCC, hd⟩ := hd
  subst hCC
  obtain ⟨-, ⟨cellB, hcB, hoB, hclB⟩, hPc⟩ := jm_preVX (As := As) hK hKX hst hr hc
  have hfit := hst.fits hle hle2
  have hws : GoodIn lw_all (ws_ y bytes maxL ret) := lw_meth h5
  have hB : BackT l R p e below s args y 3 8 (fun A a' => A.cells + (M1.1 - M.1) ≤ R.cells ∧ A.slots + (M1.2.1 - M.2.1) ≤ R.slots ∧ jm_PcX g b sa (.ref a :: As) M a' A.U)
      (fun A a' x B => ∃ (gg : JFrame) (mk : MethodId) (t : State) (L : List Loc), B.U.heap = t.heap ∧ B.U.vm = t.vm ∧ x = q ∧ jm_Rp g b M1 t.heap ∧ va_F (fun z => b ≤ z) (A.U.calling gg mk a') t ∧ B.locs = A.locs ++ L ∧ (∀ z ∈ L, b ≤ z.base) ∧ B.cells = A.cells + (M1.1 - M.1) ∧ B.slots = A.slots + (M1.2.1 - M.2.1)) := by
    refine BackT.of_free (S := headSpec (ws_ y bytes maxL ret) (jm_rm fr lo M M1)) (P := jm_PcX g b sa (.ref a :: As) M) (K := fun _ _ _ _ _ => True) (Q := jm_QX g b (.inr q) M M1) (bytes := bytes) (maxL := maxL) (ret := ret)
      (E := fun _ st o t L k n => k = M1.1 - M.1 ∧ n = M1.2.1 - M.2.1 ∧ (∀ z ∈ L, b ≤ z.base) ∧ (o = .threw q ∧ jm_Rp g b M1 t.heap ∧ va_F (fun z => b ≤ z) st t)) hM hR.1 hR.2 ?_ ?_ (fun _ _ _ _ _ _ _ _ _ => trivial) ?_ ?_
    · intro m' meth' c' A a' X hp
      have pay := pay_in hts hws
      exact ⟨atoms_intro fun w hw => pay w hw _ _ X.warmed, pay _ List.mem_cons_self _ _ X.warmed, word_at X.warmed (Or.inl (by first | rfl | simp [Cond.onTables, Cond.keeps, Cond.steady])) (hts _ h4), hp.1, hp.2.1⟩
    · intro m' meth' c' A a' gg mk X hp
      exact jm_blindX _ _ _ _ hp.2.2
    · intro a' st o t ⟨hq, L, hF, hL⟩
      exact ⟨L, _, _, hF, rfl, rfl, hL, hq⟩
    · intro m' meth' c' A a' gg mk v t L k n X hp hq hF ⟨e1, e2, hL, hq2, hq3, hq4⟩
      subst e1; subst e2
      cases hq2
      exact ⟨gg, mk, t, L, rfl, rfl, rfl, hq3, hq4, rfl, hL, rfl, rfl⟩
  intro T' hT X
  obtain ⟨x, vm₁, ⟨U', l2, c2, s2⟩, hW₁, X', ⟨gg, mk, t, L, e1, e2, hxq, hR1, hF, hL, hLb, hcz, hsz2⟩, st⟩ := jm_callVT X hx (bytes := bytes) (maxL := maxL) (ret := ret) hown (hts _ h1) (hts _ h2) (hts _ h3) (hts _ h5) ⟨hd.1, hd.2.1⟩ hB (bb := a) (by rw [hT]; exact hcB) hoB hclB (gg := F0 m pc ls (As.reverse ++ .ref a :: rest)) rfl (hsz.trans hml.symm) (argsL := As) (rest := rest) (fun sig h => by
      have h2 := hd.2.2
      rw [h] at h2
      exact hn.trans (Option.some.inj h2).symm) rfl (lv_room hW) (by rw [hb]; exact hdg) (fun vm₁ hW₁ => ⟨hfit.1, hfit.2, hPc (T'.setVm vm₁) hT hW₁⟩)
  dsimp only [Pt.U, Pt.locs, Pt.cells, Pt.slots] at X' e1 e2 hL hcz hsz2 st hF
  subst hL; subst hcz; subst hsz2; subst hxq
  obtain ⟨hRp, hS, r1, r2, r3, r4⟩ := hst
  have hF' : va_F (fun z => b ≤ z) T' t := hF
  have hst2 : jm_St g b M0 Mf M1 s R U'.heap (locs ++ L) (cells + (M1.1 - M.1)) (slots + (M1.2.1 - M.2.1)) := by
    have g1 := hle.1
    have g2 := hle.2
    refine ⟨by rw [e1]; exact hR1, ⟨?_, fun z hz hA => ?_, fun z hz => ?_⟩, by omega, by omega, r3, r4⟩
    · have := hF'.1
      rw [hT] at this
      rw [e1]
      exact Nat.le_trans hS.1 this
    · rw [e1, hF'.2 z (by rw [hT]; exact Nat.lt_of_lt_of_le hz hS.1) hA, hT]
      exact hS.2.1 z hz hA
    · rcases List.mem_append.mp hz with h | h
      · exact hS.2.2 z h
      · exact hLb z h
  obtain ⟨t2, a2, b2⟩ := kk U'.heap (locs ++ L) _ _ hst2 U' rfl X'
  exact ⟨t2, st.trans a2, b2⟩
theorem jm_fault {q : Nat} {fs : List Value} (hK : jm_KG g s) (hst : jm_St g b M0 Mf M s R H locs cells slots) (hq : M.2.2 q = some (.inr (3, fs))) : ∃ ce : Cell, H[q]? = some ce ∧ ce.vm = .none ∧ s.vm.findClass RX3 = some ce.cls := by
  obtain ⟨r', hr', cellV, v1, v2, v3, -⟩ := (hst.1.2.2 q _ hq).2
  exact ⟨cellV, v1, v3, by rw [v2]; exact (hK.1.1 3 _ rfl).2.1⟩
theorem jw_out {q : Nat} {fs : List Value} (hK : jm_KG g s) (hst : jm_St g b M0 Mf Mf s R H locs cells slots) (hq : Mf.2.2 q = some (.inr (3, fs))) (hout : ∀ z ∈ c.exceptionTable.toList, covers z pc = false) (hlk : meth.locks = false) : vx_W p l e R s m args below meth c H locs cells slots (jm_MQX below g b (.inr q) M0 Mf args s) (F0 m pc ls rest) q := by
  intro T hT X
  obtain ⟨hR, hS, h1, h2, h3, h4⟩ := hst
  obtain ⟨st1, hrun, hend, hW, hsm⟩ := X.leaveThrown q (g := F0 m pc ls rest) rfl rfl rfl hout hlk
  have e1 : cells = Mf.1 - M0.1 := by omega
  have e2 : slots = Mf.2.1 - M0.2.1 := by omega
  subst e1; subst e2
  refine ⟨_, st1, .threw q, hrun, hend, ⟨rfl, ?_, ?_⟩, locs, ⟨⟨q, rfl⟩, hW, hsm⟩, hS.2.2⟩
  · show jm_Rp g b Mf T.heap
    rw [hT]; exact hR
  · exact hS.F (show (T.setFrames _).heap = H from hT)
theorem jw_catch {q cpc : Nat} {fs : List Value} (C0 : jm_Cx p s m args meth c cc nL rt own) (hK : jm_KG g s) (hst : jm_St g b M0 Mf M s R H locs cells slots) (hq : M.2.2 q = some (.inr (3, fs))) {z : ExceptionTableEntry} (ht : c.exceptionTable.toList = [z]) (hcov : covers z pc = true) (h0 : z.catchType ≠ 0) (hlink : Cond.classLink own z.catchType RX3 ∈ lw_all) (hpc : z.handlerPc = cpc)
    (kk : W p l e R s m args below meth c H locs cells slots Q (F0 m cpc ls [va_rf (some q)])) : vx_W p l e R s m args below meth c H locs cells slots Q (F0 m pc ls rest) q := by
  obtain ⟨hx, hb, hml, hown, hts, -, -⟩ := C0
  obtain ⟨ce, g1, g2, g3⟩ := jm_fault hK hst hq
  subst hpc
  exact vx_catch hown [] z [] ht (fun _ h => by cases h) hcov h0 (hts _ hlink) (va_Nw.use rfl (hK.2.1 _ nq176)) g1 g2 g3 kk
theorem jw_athrow {q : Nat} (hx : p.tables.exec = Jvm.exec) (hb : c.code = cc) (hdg : decode cc pc = .ok (.athrow, 1)) (k : vx_W p l e R s m args below meth c H locs cells slots Q (F0 m pc ls rest) q) : W p l e R s m args below meth c H locs cells slots Q (F0 m pc ls (va_rf (some q) :: rest)) := vx_athrow hx hb hdg k
end JT
