/-! METHODS WITH HANDLERS -/
theorem jm_startXW {l : Launch} {g : GD} {b sa : Nat} {y : MethodName} {cc : ByteArray} {maxL : Nat} {ret : Option FieldType} {hh : List (Nat × Nat × Nat × Nat)} {fr lo : Nat} {As : List Value} {M M' : Mem} {x : Option Value ⊕ Nat} (hy : plainName y.cls = true) (hle : jm_le M M') (hsl : (lg_sl As).length ≤ maxL)
    (body : ∀ (p : Program) (e : Env) (s : State) (m : MethodId) (args : Array Value) (below : List Frame) (meth : Method) (c : Code) (ls : Array Slot), jm_Cx p s m args meth c cc maxL ret y.cls → meth.name = y.name → jm_KG g s → jm_KX b sa s s.heap → jm_St g b M M' M s (jm_rm fr lo M M') s.heap [] 0 0 → lv_has ls maxL (lv_args 0 As) → c.exceptionTable.toList = tableOf hh →
      W p l e (jm_rm fr lo M M') s m args below meth c s.heap [] 0 0 (jm_MQX below g b x M M' args s) (F0 m 0 ls [])) : jm_MX l g b sa y (wsW_ y cc maxL ret hh) fr lo As M M' x := by
  refine MetFree.of_bodyS (code := cc) (maxLocals := maxL) (ret := ret) hy ?_ ?_
  · intro args s m h hn
    obtain ⟨m9, meth, c, hn9, h1, h2, h3, h4, -, h5, h6, -⟩ := Cond.codeWith_spec (atoms_spec (ws := wsW_ y cc maxL ret hh) h _ List.mem_cons_self)
    cases hn.symm.trans hn9
    exact ⟨meth, c, h1, h2, h3, h4, h5, h6⟩
  · intro p e s m args below meth c s₁ B hml hP _
    obtain ⟨rfl, ⟨hK, hR⟩, hKX⟩ := hP
    have hts := atoms_spec (ws := wsW_ y cc maxL ret hh) B.pre
    have hl := lv_entry As (n := maxL) hsl
    have hh0 : s₁.heap = s.heap := by rw [B.state]; rfl
    have hW := body p e s m _ below meth c _ ⟨B.exec, B.bytes, hml, findClass_of_methodNamed B.named, fun w h => hts w (List.mem_cons_of_mem _ h), B.returns, B.notSynchronized⟩ (name_of_methodNamed B.named B.method).1 hK hKX ⟨hR, va_S.rf, rfl, rfl, by have := hle.1; show M'.1 ≤ M.1 + (M'.1 - M.1); omega, by have := hle.2; show M'.2.1 ≤ M.2.1 + (M'.2.1 - M.2.1); omega⟩ hl (vx_table (x := y) B (hts _ List.mem_cons_self))
    rw [← lg_entry_eq] at hW
    obtain ⟨t, a1, o, b1, b2, b3⟩ := hW s₁ hh0 (Stand.of_body B)
    exact ⟨t, o, a1, b1, b2, b3⟩
section JH
variable {p : Program} {l : Launch} {e : Env} {R : Room} {s : State} {m : MethodId} {args : Array Value} {below : List Frame} {meth : Method} {c : Code} {H : Heap} {locs : List Loc} {cells slots : Nat} {Q : State → Prop}
variable {cc : ByteArray} {pc : Nat} {ls : Array Slot} {rest : List Value} {g : GD} {b : Nat} {M0 Mf M : Mem}
variable {own : String} {nL : Nat} {rt : Option FieldType}
/-- a call of a method with handlers, that returns -/
theorem jw_VXW {index maxL fr lo n a ci N sa : Nat} {C : String} {T : u_T} {y : MethodName} {bytes : ByteArray} {ret : Option FieldType} {hh : List (Nat × Nat × Nat × Nat)} {fs As : List Value} {M1 : Mem} {res : Option Value} {st : List Value} {rv : Option Nat} (hM : jm_MX l g b sa y (wsW_ y bytes maxL ret hh) fr lo (.ref a :: As) M M1 (.inl res)) (C0 : jm_Cx p s m args meth c cc nL rt own) (hK : jm_KG g s) (hKX : jm_KX b sa s s.heap) (hst : jm_St g b M0 Mf M s R H locs cells slots) (hle : jm_le M M1) (hle2 : jm_le M1 Mf)
    (h1 : Cond.methodLink own index y ∈ lw_all) (h2 : Cond.instanceMethod y ∈ lw_all) (h3 : Cond.selects C y y ∈ lw_all) (h4 : Cond.initialized C ∈ lw_all) (h5 : Cond.codeWith y bytes maxL ret hh ∈ lw_all) (hd : y.cls = C ∧ y.cls ≠ "java/lang/invoke/MethodHandle" ∧ y.cls ≠ "java/lang/invoke/VarHandle" ∧ (parseMethodDescriptor y.desc).map (fun d => d.parameters.length) = some n) (hR : fr + 1 ≤ R.frames ∧ 8 + (maxL + 11) + lo ≤ R.locals)
    (hv : rv = some a) (hr : M.2.2 a = some (.inr (ci, fs))) (hc : vwCl[ci]? = some (C, T, N)) (hn : As.length = n) (hsz : ls.size = nL) (hstk : st = As.reverse ++ va_rf rv :: rest) (hW : (rest.map fun v => v.category).sum ≤ 8) (hdg : decode cc pc = .ok (.invokevirtual index, 3))
    (kk : ∀ (H1 : Heap) (locs1 : List Loc) (cells1 slots1 : Nat), jm_St g b M0 Mf M1 s R H1 locs1 cells1 slots1 → W p l e R s m args below meth c H1 locs1 cells1 slots1 Q (F0 m (pc + 3) ls (res.toList ++ rest))) : W p l e R s m args below meth c H locs cells slots Q (F0 m pc ls st) := by
  obtain ⟨hx, hb, hml, hown, hts, -, -⟩ := C0
  subst hstk
  subst hv
  have hM' : Met l y (wsW_ y bytes maxL ret hh) (jm_rm fr lo M M1) (jm_PcX g b sa (.ref a :: As) M) (jm_Q g b res M1) (M1.1 - M.1) (M1.2.1 - M.2.1) (fun q => b ≤ q) := hM
  exact jw_back (vx_runVW (rm := jm_rm fr lo M M1) ⟨hx, hb, hml, hown, hts⟩ hM' (vx_cwVW n hts (lw_VW h1 h2 h3 h4 h5) rfl rfl rfl hd hR) (jm_preVX hK hKX hst hr hc) rfl hn hsz rfl (lv_room hW) hdg (hst.fits hle hle2)) hle hst kk
end JH
