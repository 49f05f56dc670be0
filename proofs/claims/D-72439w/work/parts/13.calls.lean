/-! CONTRACTS, CALLS, ENDS -/
theorem va_rf_cat (r : Option Nat) : (va_rf r).category = 1 := by cases r <;> rfl
theorem va_rf_or2 (r : Option Nat) : va_rf r = .null ∨ ∃ a, va_rf r = .ref a := by
  cases r with
  | none => exact Or.inl rfl
  | some a => exact Or.inr ⟨a, rfl⟩
def jm_Q (g : GD) (b : Nat) (res : Option Value) (M' : Mem) : Array Value → State → Outcome → State → Prop := fun _ st oc t => oc = .returned res ∧ jm_Rp g b M' t.heap ∧ va_F (fun q => b ≤ q) st t
abbrev jm_rm (fr lo : Nat) (M M' : Mem) : Room := { frames := fr, cells := M'.1 - M.1, slots := M'.2.1 - M.2.1, locals := lo }
def jm_Pc (g : GD) (b : Nat) (As : List Value) (M : Mem) : Array Value → State → Prop := va_Pc As (fun U => jm_KG g U ∧ jm_Rp g b M U.heap)
/-- the contract: called with As where the heap is M, the method answers res and leaves M' -/
def jm_Met (l : Launch) (g : GD) (b : Nat) (y : MethodName) (ws : List Cond) (fr lo : Nat) (As : List Value) (M M' : Mem) (res : Option Value) : Prop :=
  Met l y ws (jm_rm fr lo M M') (jm_Pc g b As M) (jm_Q g b res M') (M'.1 - M.1) (M'.2.1 - M.2.1) (fun q => b ≤ q)
theorem jm_blind {g : GD} {b : Nat} {As : List Value} {M : Mem} : FrameBlind (jm_Pc g b As M) := by
  intro a U gg mk h
  exact ⟨h.1, jm_KG.same (u := U) (U := U.calling gg mk a) rfl h.2.1, h.2.2⟩
def jm_Cx (p : Program) (s : State) (m : MethodId) (args : Array Value) (meth : Method) (c : Code) (cc : ByteArray) (maxL : Nat) (ret : Option FieldType) (own : String) : Prop :=
  p.tables.exec = Jvm.exec ∧ c.code = cc ∧ c.maxLocals = maxL ∧ s.vm.findClass own = some m.cls ∧ (∀ w ∈ lw_all, w.before args s = true) ∧ meth.sig.returnType = ret ∧ meth.locks = false
abbrev jm_MQ (below : List Frame) (g : GD) (b : Nat) (res : Option Value) (M M' : Mem) (args : Array Value) (s : State) : State → Prop := MQ below (jm_Q g b res M') args s (M'.1 - M.1) (M'.2.1 - M.2.1) (fun q => b ≤ q)
theorem jm_start {l : Launch} {g : GD} {b : Nat} {y : MethodName} {cc : ByteArray} {maxL : Nat} {ret : Option FieldType} {fr lo : Nat} {As : List Value} {M M' : Mem} {res : Option Value} (hy : plainName y.cls = true) (hle : jm_le M M') (hsl : (lg_sl As).length ≤ maxL)
    (body : ∀ (p : Program) (e : Env) (s : State) (m : MethodId) (args : Array Value) (below : List Frame) (meth : Method) (c : Code) (ls : Array Slot), jm_Cx p s m args meth c cc maxL ret y.cls → meth.name = y.name → jm_KG g s → jm_St g b M M' M s (jm_rm fr lo M M') s.heap [] 0 0 → lv_has ls maxL (lv_args 0 As) →
      W p l e (jm_rm fr lo M M') s m args below meth c s.heap [] 0 0 (jm_MQ below g b res M M' args s) (F0 m 0 ls [])) : jm_Met l g b y (ws_ y cc maxL ret) fr lo As M M' res := by
  refine Met.ofW (cc := cc) (maxL := maxL) (ret := ret) hy rfl ?_
  intro p e s m args below meth c s₁ B hml hv
  obtain ⟨rfl, hK, hR⟩ := hv
  have hts := atoms_spec (ws := ws_ y cc maxL ret) B.pre
  have hl := lv_entry As (n := maxL) hsl
  rw [lg_entry_eq]
  exact body p e s m _ below meth c _ ⟨B.exec, B.bytes, hml, findClass_of_methodNamed B.named, fun w h => hts w (List.mem_cons_of_mem _ h), B.returns, B.notSynchronized⟩ (name_of_methodNamed B.named B.method).1 hK ⟨hR, va_S.rf, rfl, rfl, by have := hle.1; show M'.1 ≤ M.1 + (M'.1 - M.1); omega, by have := hle.2; show M'.2.1 ≤ M.2.1 + (M'.2.1 - M.2.1); omega⟩ hl
section JC
variable {p : Program} {l : Launch} {e : Env} {R : Room} {s : State} {m : MethodId} {args : Array Value} {below : List Frame} {meth : Method} {c : Code} {H : Heap} {locs : List Loc} {cells slots : Nat} {Q : State → Prop}
variable {cc : ByteArray} {pc : Nat} {ls : Array Slot} {rest : List Value} {g : GD} {b : Nat} {M0 Mf M : Mem}
variable {own : String} {nL : Nat} {rt : Option FieldType}
theorem jw_iret {v : Int32} (C0 : jm_Cx p s m args meth c cc nL (some .int) own) (hst : jm_St g b M0 Mf Mf s R H locs cells slots) (hdg : decode cc pc = .ok (.ireturn, 1)) : W p l e R s m args below meth c H locs cells slots (jm_MQ below g b (some (.int v)) M0 Mf args s) (F0 m pc ls [.int v]) := by
  obtain ⟨hx, hb, -, -, -, hr, hlk⟩ := C0
  obtain ⟨hR, hS, h1, h2, -⟩ := hst
  refine W.cs (show cells = Mf.1 - M0.1 by omega) (show slots = Mf.2.1 - M0.2.1 by omega) ?_
  exact W.iret hx hb hr (fun t ht hW => ⟨rfl, by rw [ht]; exact hR, hS.F ht⟩) hS.2.2 hdg
theorem jw_zret {v : Int32} (C0 : jm_Cx p s m args meth c cc nL (some .boolean) own) (hn : v = 0 ∨ v = 1) (hst : jm_St g b M0 Mf Mf s R H locs cells slots) (hdg : decode cc pc = .ok (.ireturn, 1)) : W p l e R s m args below meth c H locs cells slots (jm_MQ below g b (some (.int v)) M0 Mf args s) (F0 m pc ls [.int v]) := by
  obtain ⟨hx, hb, -, -, -, hr, hlk⟩ := C0
  obtain ⟨hR, hS, h1, h2, -⟩ := hst
  refine W.cs (show cells = Mf.1 - M0.1 by omega) (show slots = Mf.2.1 - M0.2.1 by omega) ?_
  exact W.zret hx hb hr (by rcases hn with rfl | rfl <;> rfl) (fun t ht hW => ⟨rfl, by rw [ht]; exact hR, hS.F ht⟩) hS.2.2 hdg
theorem jw_lret {v : Int64} (C0 : jm_Cx p s m args meth c cc nL (some .long) own) (hst : jm_St g b M0 Mf Mf s R H locs cells slots) (hdg : decode cc pc = .ok (.lreturn, 1)) : W p l e R s m args below meth c H locs cells slots (jm_MQ below g b (some (.long v)) M0 Mf args s) (F0 m pc ls [.long v]) := by
  obtain ⟨hx, hb, -, -, -, hr, hlk⟩ := C0
  obtain ⟨hR, hS, h1, h2, -⟩ := hst
  refine W.cs (show cells = Mf.1 - M0.1 by omega) (show slots = Mf.2.1 - M0.2.1 by omega) ?_
  exact W.lret hx hb hr (fun t ht hW => ⟨rfl, by rw [ht]; exact hR, hS.F ht⟩) hS.2.2 hdg
theorem jw_vret (C0 : jm_Cx p s m args meth c cc nL none own) (hst : jm_St g b M0 Mf Mf s R H locs cells slots) (hdg : decode cc pc = .ok (.return_, 1)) : W p l e R s m args below meth c H locs cells slots (jm_MQ below g b none M0 Mf args s) (F0 m pc ls []) := by
  obtain ⟨hx, hb, -, -, -, hr, hlk⟩ := C0
  obtain ⟨hR, hS, h1, h2, -⟩ := hst
  refine W.cs (show cells = Mf.1 - M0.1 by omega) (show slots = Mf.2.1 - M0.2.1 by omega) ?_
  exact W.vret hx hb hr (fun t ht hW => ⟨rfl, by rw [ht]; exact hR, hS.F ht⟩) hS.2.2 hdg
theorem jw_aret {v : Option Nat} {ty : FieldType} (C0 : jm_Cx p s m args meth c cc nL (some ty) own) (hty : (∃ n, ty = .object n) ∨ ∃ t, ty = .array t) (hst : jm_St g b M0 Mf Mf s R H locs cells slots) (hdg : decode cc pc = .ok (.areturn, 1)) : W p l e R s m args below meth c H locs cells slots (jm_MQ below g b (some (va_rf v)) M0 Mf args s) (F0 m pc ls [va_rf v]) := by
  obtain ⟨hx, hb, -, -, -, hr, hlk⟩ := C0
  obtain ⟨hR, hS, h1, h2, -⟩ := hst
  refine W.cs (show cells = Mf.1 - M0.1 by omega) (show slots = Mf.2.1 - M0.2.1 by omega) ?_
  exact W.aret hx hb hr hty (va_rf_or2 v) (fun t ht hW => ⟨rfl, by rw [ht]; exact hR, hS.F ht⟩) hS.2.2 hdg
/-- behind a call -/
theorem jw_back {st0 : List Value} {M1 : Mem} {res : Option Value} {a0 : Array Value} (hr : va_Run p l e R s m args below meth c H locs cells slots (M1.1 - M.1) (M1.2.1 - M.2.1) (F0 m pc ls st0) rest (jm_Q g b res M1 a0) (fun q => b ≤ q)) (hle : jm_le M M1) (hst : jm_St g b M0 Mf M s R H locs cells slots)
    (kk : ∀ (H1 : Heap) (locs1 : List Loc) (cells1 slots1 : Nat), jm_St g b M0 Mf M1 s R H1 locs1 cells1 slots1 → W p l e R s m args below meth c H1 locs1 cells1 slots1 Q (F0 m (pc + 3) ls (res.toList ++ rest))) : W p l e R s m args below meth c H locs cells slots Q (F0 m pc ls st0) := by
  intro T hT X
  obtain ⟨v, st₀, t, T', L, e0, X', hL, e1, e2, ⟨hq, hR1, hF⟩, hgo⟩ := hr T hT X
  obtain ⟨hR, hS, h1, h2, h3, h4⟩ := hst
  cases hq
  have hS1 : va_S (fun q => b ≤ q) s.heap T'.heap (locs ++ L) := by
    refine ⟨?_, fun q hq hA => ?_, fun q hq => ?_⟩
    · have := hF.1
      rw [e0] at this
      rw [e1]
      exact Nat.le_trans hS.1 this
    · rw [e1, hF.2 q (by rw [e0]; exact Nat.lt_of_lt_of_le hq hS.1) hA, e0]
      exact hS.2.1 q hq hA
    · rcases List.mem_append.mp hq with h | h
      · exact hS.2.2 q h
      · exact hL q h
  have g1 := hle.1
  have g2 := hle.2
  obtain ⟨t2, a2, b2⟩ := kk T'.heap (locs ++ L) _ _ ⟨by rw [e1]; exact hR1, hS1, by show M0.1 + (cells + (M1.1 - M.1)) = M1.1; omega, by show M0.2.1 + (slots + (M1.2.1 - M.2.1)) = M1.2.1; omega, h3, h4⟩ T' rfl X'
  exact ⟨t2, hgo t2 a2, b2⟩
theorem jm_St.fits {M1 : Mem} (hst : jm_St g b M0 Mf M s R H locs cells slots) (hle : jm_le M M1) (hle2 : jm_le M1 Mf) : cells + (M1.1 - M.1) ≤ R.cells ∧ slots + (M1.2.1 - M.2.1) ≤ R.slots := by
  obtain ⟨hR, hS, h1, h2, h3, h4⟩ := hst
  have := hle.1
  have := hle.2
  have := hle2.1
  have := hle2.2
  omega
theorem jm_preS {As : List Value} (hK : jm_KG g s) (hst : jm_St g b M0 Mf M s R H locs cells slots) : PreS s H (jm_Pc g b As M) As :=
  ⟨jm_blind, fun U hU hW => ⟨rfl, hK.moved hW, by rw [hU]; exact hst.1⟩⟩
theorem jm_preV {As : List Value} {a ci N : Nat} {C : String} {T : u_T} {fs : List Value} (hK : jm_KG g s) (hst : jm_St g b M0 Mf M s R H locs cells slots) (hr : M.2.2 a = some (.inr (ci, fs))) (hc : vwCl[ci]? = some (C, T, N)) : PreV s H C a (jm_Pc g b (.ref a :: As) M) As :=
  ⟨jm_blind, va_recv hK.1 (hst.1.one hr) hc (q0 := 0) rfl, fun U hU hW => ⟨rfl, hK.moved hW, by rw [hU]; exact hst.1⟩⟩
theorem jw_V {index maxL fr lo n a ci N : Nat} {C : String} {T : u_T} {y : MethodName} {bytes : ByteArray} {ret : Option FieldType} {fs As : List Value} {M1 : Mem} {res : Option Value} {st : List Value} {rv : Option Nat} (hM : jm_Met l g b y (ws_ y bytes maxL ret) fr lo (.ref a :: As) M M1 res) (C0 : jm_Cx p s m args meth c cc nL rt own) (hK : jm_KG g s) (hst : jm_St g b M0 Mf M s R H locs cells slots) (hle : jm_le M M1) (hle2 : jm_le M1 Mf)
    (h1 : Cond.methodLink own index y ∈ lw_all) (h2 : Cond.instanceMethod y ∈ lw_all) (h3 : Cond.selects C y y ∈ lw_all) (h4 : Cond.initialized C ∈ lw_all) (h5 : Cond.code y bytes maxL ret ∈ lw_all) (hd : y.cls = C ∧ y.cls ≠ "java/lang/invoke/MethodHandle" ∧ y.cls ≠ "java/lang/invoke/VarHandle" ∧ (parseMethodDescriptor y.desc).map (fun d => d.parameters.length) = some n) (hR : fr + 1 ≤ R.frames ∧ 8 + (maxL + 11) + lo ≤ R.locals)
    (hv : rv = some a) (hr : M.2.2 a = some (.inr (ci, fs))) (hc : vwCl[ci]? = some (C, T, N)) (hn : As.length = n) (hsz : ls.size = nL) (hstk : st = As.reverse ++ va_rf rv :: rest) (hW : (rest.map fun v => v.category).sum ≤ 8) (hdg : decode cc pc = .ok (.invokevirtual index, 3))
    (kk : ∀ (H1 : Heap) (locs1 : List Loc) (cells1 slots1 : Nat), jm_St g b M0 Mf M1 s R H1 locs1 cells1 slots1 → W p l e R s m args below meth c H1 locs1 cells1 slots1 Q (F0 m (pc + 3) ls (res.toList ++ rest))) : W p l e R s m args below meth c H locs cells slots Q (F0 m pc ls st) := by
  obtain ⟨hx, hb, hml, hown, hts, -, -⟩ := C0
  subst hstk
  subst hv
  exact jw_back (va_runV (rm := jm_rm fr lo M M1) ⟨hx, hb, hml, hown, hts⟩ hM (cwV n hts (lw_V h1 h2 h3 h4 h5) rfl rfl rfl hd hR) (jm_preV hK hst hr hc) rfl hn hsz rfl (lv_room hW) hdg (hst.fits hle hle2)) hle hst kk
theorem jw_S {index maxL fr lo n : Nat} {y : MethodName} {bytes : ByteArray} {ret : Option FieldType} {As : List Value} {M1 : Mem} {res : Option Value} {st : List Value} (hM : jm_Met l g b y (ws_ y bytes maxL ret) fr lo As M M1 res) (C0 : jm_Cx p s m args meth c cc nL rt own) (hK : jm_KG g s) (hst : jm_St g b M0 Mf M s R H locs cells slots) (hle : jm_le M M1) (hle2 : jm_le M1 Mf)
    (h1 : Cond.methodLink own index y ∈ lw_all) (h2 : Cond.static y ∈ lw_all) (h3 : Cond.initialized y.cls ∈ lw_all) (h4 : Cond.code y bytes maxL ret ∈ lw_all) (hd : y.cls ≠ "java/lang/invoke/MethodHandle" ∧ y.cls ≠ "java/lang/invoke/VarHandle" ∧ (parseMethodDescriptor y.desc).map (fun d => d.parameters.length) = some n) (hR : fr + 1 ≤ R.frames ∧ 8 + (maxL + 11) + lo ≤ R.locals)
    (hn : As.length = n) (hsz : ls.size = nL) (hstk : st = As.reverse ++ rest) (hW : (rest.map fun v => v.category).sum ≤ 8) (hdg : decode cc pc = .ok (.invokestatic index, 3))
    (kk : ∀ (H1 : Heap) (locs1 : List Loc) (cells1 slots1 : Nat), jm_St g b M0 Mf M1 s R H1 locs1 cells1 slots1 → W p l e R s m args below meth c H1 locs1 cells1 slots1 Q (F0 m (pc + 3) ls (res.toList ++ rest))) : W p l e R s m args below meth c H locs cells slots Q (F0 m pc ls st) := by
  obtain ⟨hx, hb, hml, hown, hts, -, -⟩ := C0
  subst hstk
  exact jw_back (va_runS (rm := jm_rm fr lo M M1) ⟨hx, hb, hml, hown, hts⟩ hM (va_cwS n hts (lw_S h1 h2 h3 h4) rfl rfl rfl hd hR) (jm_preS hK hst) rfl hn hsz rfl (lv_room hW) hdg (hst.fits hle hle2)) hle hst kk
theorem jw_I {index maxL fr lo n a : Nat} {y : MethodName} {bytes : ByteArray} {As : List Value} {M1 : Mem} {res : Option Value} {st : List Value} {rv : Option Nat} (hM : jm_Met l g b y (ws_ y bytes maxL none) fr lo (.ref a :: As) M M1 res) (C0 : jm_Cx p s m args meth c cc nL rt own) (hK : jm_KG g s) (hst : jm_St g b M0 Mf M s R H locs cells slots) (hle : jm_le M M1) (hle2 : jm_le M1 Mf)
    (h1 : Cond.methodLink own index y ∈ lw_all) (h2 : Cond.instanceMethod y ∈ lw_all) (h3 : Cond.initialized y.cls ∈ lw_all) (h4 : Cond.code y bytes maxL none ∈ lw_all) (hy1 : y.name = "<init>") (hd : y.cls ≠ "java/lang/invoke/MethodHandle" ∧ y.cls ≠ "java/lang/invoke/VarHandle" ∧ (parseMethodDescriptor y.desc).map (fun d => d.parameters.length) = some n) (hR : fr + 1 ≤ R.frames ∧ 8 + (maxL + 11) + lo ≤ R.locals)
    (hv : rv = some a) (hn : As.length = n) (hsz : ls.size = nL) (hstk : st = As.reverse ++ va_rf rv :: rest) (hW : (rest.map fun v => v.category).sum ≤ 8) (hdg : decode cc pc = .ok (.invokespecial index, 3))
    (kk : ∀ (H1 : Heap) (locs1 : List Loc) (cells1 slots1 : Nat), jm_St g b M0 Mf M1 s R H1 locs1 cells1 slots1 → W p l e R s m args below meth c H1 locs1 cells1 slots1 Q (F0 m (pc + 3) ls (res.toList ++ rest))) : W p l e R s m args below meth c H locs cells slots Q (F0 m pc ls st) := by
  obtain ⟨hx, hb, hml, hown, hts, -, -⟩ := C0
  subst hstk
  subst hv
  exact jw_back (va_runI (rm := jm_rm fr lo M M1) ⟨hx, hb, hml, hown, hts⟩ hM (cwI n hts (lw_meth h4) rfl rfl rfl (hts _ h3) (hts _ h1) (hts _ h2) hy1 hd hR) (jm_preS hK hst) rfl hn hsz rfl (lv_room hW) hdg (hst.fits hle hle2)) hle hst kk
theorem jw_SN {index maxL fr lo n : Nat} {host : String} {y : MethodName} {bytes : ByteArray} {ret : Option FieldType} {As : List Value} {M1 : Mem} {res : Option Value} {st : List Value} (hM : jm_Met l g b y (ws_ y bytes maxL ret) fr lo As M M1 res) (C0 : jm_Cx p s m args meth c cc nL rt own) (hK : jm_KG g s) (hst : jm_St g b M0 Mf M s R H locs cells slots) (hle : jm_le M M1) (hle2 : jm_le M1 Mf)
    (h1 : Cond.methodLinkNest own index y host ∈ jm_nw) (h2 : Cond.static y ∈ lw_all) (h3 : Cond.initialized y.cls ∈ lw_all) (h4 : Cond.code y bytes maxL ret ∈ lw_all) (hd : y.cls ≠ "java/lang/invoke/MethodHandle" ∧ y.cls ≠ "java/lang/invoke/VarHandle" ∧ (parseMethodDescriptor y.desc).map (fun d => d.parameters.length) = some n) (hR : fr + 1 ≤ R.frames ∧ 8 + (maxL + 11) + lo ≤ R.locals)
    (hn : As.length = n) (hsz : ls.size = nL) (hstk : st = As.reverse ++ rest) (hW : (rest.map fun v => v.category).sum ≤ 8) (hdg : decode cc pc = .ok (.invokestatic index, 3))
    (kk : ∀ (H1 : Heap) (locs1 : List Loc) (cells1 slots1 : Nat), jm_St g b M0 Mf M1 s R H1 locs1 cells1 slots1 → W p l e R s m args below meth c H1 locs1 cells1 slots1 Q (F0 m (pc + 3) ls (res.toList ++ rest))) : W p l e R s m args below meth c H locs cells slots Q (F0 m pc ls st) := by
  obtain ⟨hx, hb, hml, hown, hts, -, -⟩ := C0
  subst hstk
  exact jw_back (va_runSN (rm := jm_rm fr lo M M1) ⟨hx, hb, hml, hown, hts⟩ hM ⟨va_cnB n hts (lw_meth h4) rfl rfl rfl (hK.2.1 _ h1) (hts _ h3) hd hR, hts _ h2, trivial⟩ (jm_preS hK hst) rfl hn hsz rfl (lv_room hW) hdg (hst.fits hle hle2)) hle hst kk
theorem jw_VN {index maxL fr lo n a ci N : Nat} {C host : String} {T : u_T} {y : MethodName} {bytes : ByteArray} {ret : Option FieldType} {fs As : List Value} {M1 : Mem} {res : Option Value} {st : List Value} {rv : Option Nat} (hM : jm_Met l g b y (ws_ y bytes maxL ret) fr lo (.ref a :: As) M M1 res) (C0 : jm_Cx p s m args meth c cc nL rt own) (hK : jm_KG g s) (hst : jm_St g b M0 Mf M s R H locs cells slots) (hle : jm_le M M1) (hle2 : jm_le M1 Mf)
    (h1 : Cond.methodLinkNest own index y host ∈ jm_nw) (h2 : Cond.instanceMethod y ∈ lw_all) (h3 : Cond.selects C y y ∈ lw_all) (h4 : Cond.initialized y.cls ∈ lw_all) (h5 : Cond.code y bytes maxL ret ∈ lw_all) (hd : y.cls ≠ "java/lang/invoke/MethodHandle" ∧ y.cls ≠ "java/lang/invoke/VarHandle" ∧ (parseMethodDescriptor y.desc).map (fun d => d.parameters.length) = some n) (hR : fr + 1 ≤ R.frames ∧ 8 + (maxL + 11) + lo ≤ R.locals)
    (hv : rv = some a) (hr : M.2.2 a = some (.inr (ci, fs))) (hc : vwCl[ci]? = some (C, T, N)) (hn : As.length = n) (hsz : ls.size = nL) (hstk : st = As.reverse ++ va_rf rv :: rest) (hW : (rest.map fun v => v.category).sum ≤ 8) (hdg : decode cc pc = .ok (.invokevirtual index, 3))
    (kk : ∀ (H1 : Heap) (locs1 : List Loc) (cells1 slots1 : Nat), jm_St g b M0 Mf M1 s R H1 locs1 cells1 slots1 → W p l e R s m args below meth c H1 locs1 cells1 slots1 Q (F0 m (pc + 3) ls (res.toList ++ rest))) : W p l e R s m args below meth c H locs cells slots Q (F0 m pc ls st) := by
  obtain ⟨hx, hb, hml, hown, hts, -, -⟩ := C0
  subst hstk
  subst hv
  exact jw_back (va_runVN (rm := jm_rm fr lo M M1) ⟨hx, hb, hml, hown, hts⟩ hM ⟨va_cnB n hts (lw_meth h5) rfl rfl rfl (hK.2.1 _ h1) (hts _ h4) hd hR, hts _ h2, hts _ h3⟩ (jm_preV hK hst hr hc) rfl hn hsz rfl (lv_room hW) hdg (hst.fits hle hle2)) hle hst kk
theorem jw_IN {index maxL fr lo n a : Nat} {host : String} {y : MethodName} {bytes : ByteArray} {As : List Value} {M1 : Mem} {res : Option Value} {st : List Value} {rv : Option Nat} (hM : jm_Met l g b y (ws_ y bytes maxL none) fr lo (.ref a :: As) M M1 res) (C0 : jm_Cx p s m args meth c cc nL rt own) (hK : jm_KG g s) (hst : jm_St g b M0 Mf M s R H locs cells slots) (hle : jm_le M M1) (hle2 : jm_le M1 Mf)
    (h1 : Cond.methodLinkNest own index y host ∈ jm_nw) (h2 : Cond.instanceMethod y ∈ lw_all) (h3 : Cond.initialized y.cls ∈ lw_all) (h4 : Cond.code y bytes maxL none ∈ lw_all) (hy1 : y.name = "<init>") (hd : y.cls ≠ "java/lang/invoke/MethodHandle" ∧ y.cls ≠ "java/lang/invoke/VarHandle" ∧ (parseMethodDescriptor y.desc).map (fun d => d.parameters.length) = some n) (hR : fr + 1 ≤ R.frames ∧ 8 + (maxL + 11) + lo ≤ R.locals)
    (hv : rv = some a) (hn : As.length = n) (hsz : ls.size = nL) (hstk : st = As.reverse ++ va_rf rv :: rest) (hW : (rest.map fun v => v.category).sum ≤ 8) (hdg : decode cc pc = .ok (.invokespecial index, 3))
    (kk : ∀ (H1 : Heap) (locs1 : List Loc) (cells1 slots1 : Nat), jm_St g b M0 Mf M1 s R H1 locs1 cells1 slots1 → W p l e R s m args below meth c H1 locs1 cells1 slots1 Q (F0 m (pc + 3) ls (res.toList ++ rest))) : W p l e R s m args below meth c H locs cells slots Q (F0 m pc ls st) := by
  obtain ⟨hx, hb, hml, hown, hts, -, -⟩ := C0
  subst hstk
  subst hv
  exact jw_back (va_runIN (rm := jm_rm fr lo M M1) ⟨hx, hb, hml, hown, hts⟩ hM ⟨va_cnB n hts (lw_meth h4) rfl rfl rfl (hK.2.1 _ h1) (hts _ h3) hd hR, hy1, hts _ h2⟩ (jm_preS hK hst) rfl hn hsz rfl (lv_room hW) hdg (hst.fits hle hle2)) hle hst kk
/-- a call of a method through an object of a class that inherits or overrides it -/
theorem jw_U {index maxL fr lo n a ci N : Nat} {C owner : String} {T : u_T} {x y : MethodName} {bytes : ByteArray} {ret : Option FieldType} {fs As : List Value} {M1 : Mem} {res : Option Value} {st : List Value} {rv : Option Nat} (hM : jm_Met l g b y (ws_ y bytes maxL ret) fr lo (.ref a :: As) M M1 res) (C0 : jm_Cx p s m args meth c cc nL rt own) (hK : jm_KG g s) (hst : jm_St g b M0 Mf M s R H locs cells slots) (hle : jm_le M M1) (hle2 : jm_le M1 Mf)
    (cw : ∀ (rm : Room) (mc ms : Nat), rm.cells = mc → rm.slots = ms → rm.frames = fr → rm.locals = lo → va_CU R s args own C owner index x y bytes maxL ret (ws_ y bytes maxL ret) rm mc ms n)
    (hv : rv = some a) (hr : M.2.2 a = some (.inr (ci, fs))) (hc : vwCl[ci]? = some (C, T, N)) (hn : As.length = n) (hsz : ls.size = nL) (hstk : st = As.reverse ++ va_rf rv :: rest) (hW : (rest.map fun v => v.category).sum ≤ 8) (hdg : decode cc pc = .ok (.invokevirtual index, 3))
    (kk : ∀ (H1 : Heap) (locs1 : List Loc) (cells1 slots1 : Nat), jm_St g b M0 Mf M1 s R H1 locs1 cells1 slots1 → W p l e R s m args below meth c H1 locs1 cells1 slots1 Q (F0 m (pc + 3) ls (res.toList ++ rest))) : W p l e R s m args below meth c H locs cells slots Q (F0 m pc ls st) := by
  obtain ⟨hx, hb, hml, hown, hts, -, -⟩ := C0
  subst hstk
  subst hv
  exact jw_back (va_runU (rm := jm_rm fr lo M M1) ⟨hx, hb, hml, hown, hts⟩ hM (cw (jm_rm fr lo M M1) _ _ rfl rfl rfl rfl) (jm_preV hK hst hr hc) rfl hn hsz rfl (lv_room hW) hdg (hst.fits hle hle2)) hle hst kk
end JC
