/-! CALLS of inherited and overriding methods; small helps for the printed walks -/
theorem jm_cwU {R : Room} {s : State} {args : Array Value} {own C owner : String} {index maxL n fr lo : Nat} {x y : MethodName} {bytes : ByteArray} {ret : Option FieldType} (hts : ∀ w ∈ lw_all, w.before args s = true) (h1 : Cond.methodLink own index x ∈ lw_all) (h2 : Cond.sameMethod x.cls owner x.name x.desc ∈ lw_all) (h3 : Cond.selects C x y ∈ lw_all) (h4 : Cond.instanceMethod y ∈ lw_all) (h5 : Cond.initialized y.cls ∈ lw_all) (h6 : Cond.code y bytes maxL ret ∈ lw_all) (hyx : y = ⟨owner, x.name, x.desc⟩) (hd : owner ≠ "java/lang/invoke/MethodHandle" ∧ owner ≠ "java/lang/invoke/VarHandle" ∧ (parseMethodDescriptor x.desc).map (fun d => d.parameters.length) = some n) (hR : fr + 1 ≤ R.frames ∧ 8 + (maxL + 11) + lo ≤ R.locals) : ∀ (rm : Room) (mc ms : Nat), rm.cells = mc → rm.slots = ms → rm.frames = fr → rm.locals = lo → va_CU R s args own C owner index x y bytes maxL ret (ws_ y bytes maxL ret) rm mc ms n := by
  intro rm mc ms e1 e2 e3 e4
  refine va_cwU n hts (lw_app ?_ (lw_meth h6)) rfl e1 e2 hyx hd (by rw [e3, e4]; exact hR)
  intro w hw
  simp only [List.mem_cons, List.not_mem_nil, or_false] at hw
  rcases hw with rfl | rfl | rfl | rfl | rfl
  · exact h1
  · exact h2
  · exact h3
  · exact h4
  · exact h5
theorem jm_cwO {R : Room} {s : State} {args : Array Value} {own C owner : String} {index maxL n fr lo : Nat} {x y : MethodName} {bytes : ByteArray} {ret : Option FieldType} (hts : ∀ w ∈ lw_all, w.before args s = true) (h1 : Cond.methodLink own index x ∈ lw_all) (h2 : Cond.sameMethod x.cls owner x.name x.desc ∈ lw_all) (h7 : Cond.instanceMethod ⟨owner, x.name, x.desc⟩ ∈ lw_all) (h3 : Cond.selects C x y ∈ lw_all) (h4 : Cond.instanceMethod y ∈ lw_all) (h5 : Cond.initialized y.cls ∈ lw_all) (h6 : Cond.code y bytes maxL ret ∈ lw_all) {b0 : ByteArray} {m0 : Nat} {r0 : Option FieldType} (h0 : Cond.code ⟨owner, x.name, x.desc⟩ b0 m0 r0 ∈ lw_all) (hd : owner ≠ "java/lang/invoke/MethodHandle" ∧ owner ≠ "java/lang/invoke/VarHandle" ∧ (parseMethodDescriptor x.desc).map (fun d => d.parameters.length) = some n) (hR : fr + 1 ≤ R.frames ∧ 8 + (maxL + 11) + lo ≤ R.locals) : ∀ (rm : Room) (mc ms : Nat), rm.cells = mc → rm.slots = ms → rm.frames = fr → rm.locals = lo → va_CU R s args own C owner index x y bytes maxL ret (ws_ y bytes maxL ret) rm mc ms n := by
  intro rm mc ms e1 e2 e3 e4
  refine va_cwO n hts (lw_app ?_ (lw_meth h6)) rfl e1 e2 h0 hd (by rw [e3, e4]; exact hR)
  intro w hw
  simp only [List.mem_cons, List.not_mem_nil, or_false] at hw
  rcases hw with rfl | rfl | rfl | rfl | rfl | rfl
  · exact h1
  · exact h2
  · exact h7
  · exact h3
  · exact h4
  · exact h5
theorem jm_ao_args {t : FieldType} {args : Array Value} {U : State} (h : (Cond.arrayOver (.array t)).before #[] U = true) : (Cond.arrayOver (.array t)).before args U = true := by
  unfold Cond.before Cond.holds at h ⊢
  simp only [Cond.value] at h ⊢
  exact h
theorem jm_some_of {v : Option Nat} (h : ¬ v = none) : ∃ y, v = some y := Option.ne_none_iff_exists'.mp h
theorem as_4 {s : State} {g : GD} (hK : jm_KG g s) : jm_asg s g "ChainParts$EdgeCell" [5, 6] := by
  intro q hq
  simp only [List.mem_cons, List.not_mem_nil, or_false] at hq
  rcases hq with rfl | rfl
  · exact ⟨RX5, TX5, 3, rfl, fun comp h => jm_asg_self hK (C := RX5) rfl comp h⟩
  · exact ⟨RX6, TX6, 3, rfl, fun comp h => jm_asg_cast hK (C := RX6) rfl nq1424 comp h⟩
theorem as_5 {s : State} {g : GD} (hK : jm_KG g s) : jm_asg s g "ChainParts$FaceCell" [7, 8] := by
  intro q hq
  simp only [List.mem_cons, List.not_mem_nil, or_false] at hq
  rcases hq with rfl | rfl
  · exact ⟨RX7, TX7, 2, rfl, fun comp h => jm_asg_self hK (C := RX7) rfl comp h⟩
  · exact ⟨RX8, TX8, 2, rfl, fun comp h => jm_asg_cast hK (C := RX8) rfl nq1425 comp h⟩
theorem as_6 {s : State} {g : GD} (hK : jm_KG g s) : jm_asg s g "ChainParts$Complex" [9] := by
  intro q hq
  simp only [List.mem_cons, List.not_mem_nil, or_false] at hq
  subst hq
  exact ⟨RX9, TX9, 4, rfl, fun comp h => jm_asg_self hK (C := RX9) rfl comp h⟩
theorem as_11 {s : State} {g : GD} (hK : jm_KG g s) : jm_asg s g "ChainParts$Fraction" [12] := by
  intro q hq
  simp only [List.mem_cons, List.not_mem_nil, or_false] at hq
  subst hq
  exact ⟨RX12, TX12, 2, rfl, fun comp h => jm_asg_self hK (C := RX12) rfl comp h⟩
section JX
variable {p : Program} {l : Launch} {e : Env} {R : Room} {s : State} {m : MethodId} {args : Array Value} {below : List Frame} {meth : Method} {c : Code} {H : Heap} {locs : List Loc} {cells slots : Nat} {Q : State → Prop}
variable {cc : ByteArray} {pc : Nat} {ls : Array Slot} {rest : List Value} {g : GD} {b : Nat} {M0 Mf M : Mem}
theorem jm_St.under (hst : jm_St g b M0 Mf M s R H locs cells slots) (hle : jm_le M Mf) : cells ≤ R.cells ∧ slots ≤ R.slots := by
  obtain ⟨hR, hS, h1, h2, h3, h4⟩ := hst
  have := hle.1
  have := hle.2
  omega
theorem jw_max {own : String} {index nL : Nat} {x y : Int32} (hx : p.tables.exec = Jvm.exec) (hb : c.code = cc) (hml : c.maxLocals = nL) (hsz : ls.size = nL) (hown : s.vm.findClass own = some m.cls) (hts : ∀ w ∈ lw_all, w.before args s = true) (hlink : Cond.methodLink own index Lib.Math.max.name ∈ lw_all) (hst : jm_St g b M0 Mf M s R H locs cells slots) (hle : jm_le M Mf) (hframes : 1 ≤ R.frames) (hlocals : (rest.map fun v => v.category).sum + 13 ≤ R.locals) (hdg : decode cc pc = .ok (.invokestatic index, 3))
    (kk : W p l e R s m args below meth c H locs cells slots Q (F0 m (pc + 3) ls (.int (if x < y then y else x) :: rest))) : W p l e R s m args below meth c H locs cells slots Q (F0 m pc ls (.int y :: .int x :: rest)) :=
  va_mmax hx hb (by rw [hml, hsz]) hown (hts _ hlink) (hts _ q424) (hts _ q85) (hts _ q425) hframes hlocals (hst.under hle).1 (hst.under hle).2 hdg kk
theorem jw_abs {own : String} {index nL : Nat} {x : Int64} (hx : p.tables.exec = Jvm.exec) (hb : c.code = cc) (hml : c.maxLocals = nL) (hsz : ls.size = nL) (hown : s.vm.findClass own = some m.cls) (hts : ∀ w ∈ lw_all, w.before args s = true) (hlink : Cond.methodLink own index Lib.MathLoose.abs_long.x ∈ lw_all) (hst : jm_St g b M0 Mf M s R H locs cells slots) (hle : jm_le M Mf) (hframes : 1 ≤ R.frames) (hlocals : (rest.map fun v => v.category).sum + 13 ≤ R.locals) (hdg : decode cc pc = .ok (.invokestatic index, 3))
    (kk : W p l e R s m args below meth c H locs cells slots Q (F0 m (pc + 3) ls (.long (if 0 < x then x else -x) :: rest))) : W p l e R s m args below meth c H locs cells slots Q (F0 m pc ls (.long x :: rest)) :=
  va_mabs_long hx hb (by rw [hml, hsz]) hown (hts _ hlink) (hts _ q705) (hts _ q85) (hts _ q706) hframes hlocals (hst.under hle).1 (hst.under hle).2 hdg kk
end JX
theorem cat_i (v : Int32) : (Value.int v).category = 1 := rfl
theorem cat_j (v : Int64) : (Value.long v).category = 2 := rfl
theorem cat_f (v : UInt32) : (Value.float v).category = 1 := rfl
