/-! COPIES of numbers, and new arrays of arrays -/
theorem jm_outer (cA : ClassId) (N h0 : Nat) : ∀ i : Nat, Jvm.Free.Multi.outerC cA N h0 i = arrV cA N (fun j => if j < i then .ref (h0 + 1 + j) else .null) := by
  intro i
  induction i with
  | zero =>
    show ({ cls := cA, slots := Array.replicate N .null, vm := .none } : Cell) = _
    rw [arrV_new]
    rfl
  | succ i ih =>
    show (Jvm.Free.Multi.outerC cA N h0 i).setSlot i (.ref (h0 + 1 + i)) = _
    rw [ih, arrV_store]
    congr 1
    funext j
    unfold updV
    by_cases h1 : j = i
    · subst h1
      simp
    · by_cases h2 : j < i
      · simp [h1, h2, Nat.lt_succ_of_lt h2]
      · have h3 : ¬ j < i + 1 := by omega
        simp [h1, h2, h3]
section JB
variable {p : Program} {l : Launch} {e : Env} {R : Room} {s : State} {m : MethodId} {args : Array Value} {below : List Frame} {meth : Method} {c : Code} {H : Heap} {locs : List Loc} {cells slots : Nat} {Q : State → Prop}
variable {cc : ByteArray} {pc : Nat} {ls : Array Slot} {rest : List Value} {g : GD} {b : Nat} {M0 Mf M : Mem}
theorem jw_copyI {own : String} {index nL : Nat} {src dst : Option Nat} {sp dp n : Int32} {F : Nat → Option CE} (hx : p.tables.exec = Jvm.exec) (hb : c.code = cc) (hml : c.maxLocals = nL) (hsz : ls.size = nL) (hown : s.vm.findClass own = some m.cls) (hlink : (Cond.methodLink own index arraycopyName).before args s = true) (hnat : (Cond.native arraycopyName).before args s = true) (hstat : (Cond.static arraycopyName).before args s = true) (hini : (Cond.initialized "java/lang/System").before args s = true)
    (hK : jm_KG g s) (hst : jm_St g b M0 Mf M s R H locs cells slots) (h1 : jm_cpI 0 src sp dst dp n M = some F)
    (hframes : 1 ≤ R.frames) (hlocals : (rest.map fun v => v.category).sum + (nativeFrameWords "java/lang/System" "arraycopy" 5 + 11) ≤ R.locals) (hdg : decode cc pc = .ok (.invokestatic index, 3))
    (kk : ∀ (H1 : Heap) (locs1 : List Loc), jm_St g b M0 Mf (M.1, M.2.1, F) s R H1 locs1 cells slots → W p l e R s m args below meth c H1 locs1 cells slots Q (F0 m (pc + 3) ls rest)) : W p l e R s m args below meth c H locs cells slots Q (F0 m pc ls (.int n :: .int dp :: va_rf dst :: .int sp :: va_rf src :: rest)) := by
  obtain ⟨a0, a, n0, n1, f, gg, rfl, rfl, e0, ea, ⟨⟨z1, z2⟩, z3, z4⟩, z5, rfl⟩ := jm_cpI_some h1
  intro T hT X
  have hc0 : H[a0]? = some (vp_cell (g.2.2 0) (n0, .inl f)) := (hst.1.2.2 a0 _ e0).2
  have hc1 : H[a]? = some (vp_cell (g.2.2 0) (n1, .inl gg)) := (hst.1.2.2 a _ ea).2
  obtain ⟨-, k0, hk0, cm0, hkk0⟩ := (jm_ra hK (kd := 0) rfl).1 n0 (fun j => .int (f j))
  obtain ⟨vm', X', step⟩ := X.arraycopy hx hown hlink hnat hstat hini (src := a0) (dst := a) (cs := vp_cell (g.2.2 0) (n0, .inl f)) (cd := vp_cell (g.2.2 0) (n1, .inl gg)) (srcPos := sp) (destPos := dp) (n := n) (by rw [hT]; exact hc0) (by rw [hT]; exact hc1)
    (fun _ h => by cases h) (fun _ h => by cases h) (fun h => by cases h) (fun h => by cases h) hk0 hk0 hkk0 hkk0 rfl z1 z2 z3
    (by rw [jm_nn sp z1, jm_nn n z3]; show ¬ _ > ((arrV (g.2.2 0) n0 (fun j => .int (f j))).slots.size : Int); rw [arrV_size]; omega)
    (by rw [jm_nn dp z2, jm_nn n z3]; show ¬ _ > ((arrV (g.2.2 0) n1 (fun j => .int (gg j))).slots.size : Int); rw [arrV_size]; omega)
    (fun vm₁ _ i hi => by
      have e : (vp_cell (g.2.2 0) (n0, .inl f)).slots.getD (sp.toNatClampNeg + i) .null = .int (f (sp.toNatClampNeg + i)) := by
        show (arrV (g.2.2 0) n0 (fun j => .int (f j))).slots.getD _ _ = _
        rw [Array.getD_eq_getD_getElem?, arrV_read _ _ (by omega)]
        rfl
      rw [e]
      exact ⟨rfl, trivial⟩)
    (g := F0 m pc ls (.int n :: .int dp :: .ref a :: .int sp :: .ref a0 :: rest)) rfl (by show ls.size = _; rw [hml, hsz]) (rest := rest) rfl (by rw [hb]; exact hdg) hframes (by show 2 * 0 + _ + _ ≤ _; omega)
  have e1 : copied (vp_cell (g.2.2 0) (n0, .inl f)) (vp_cell (g.2.2 0) (n1, .inl gg)) sp dp n = vp_cell (g.2.2 0) (n1, .inl (va_cpy f gg sp.toNatClampNeg dp.toNatClampNeg n.toNatClampNeg)) := va_copied (fun z => .int z) (g.2.2 0) (g.2.2 0) f gg z4
  rw [e1] at X' step
  have hl : a < H.size := (Array.getElem?_eq_some_iff.mp hc1).1
  obtain ⟨t, a1, b1⟩ := kk _ _ (hst.puts (e1 := .inl (0, n1, .inl (va_cpy f gg sp.toNatClampNeg dp.toNatClampNeg n.toNatClampNeg))) ea (show (H.setIfInBounds a _)[a]? = some _ by simp [Array.getElem?_setIfInBounds, hl]; rfl) (by simp) (fun q hq => by simp [Array.getElem?_setIfInBounds, Ne.symm hq]) (fun q hq => by
    obtain ⟨z, -, hz⟩ := List.mem_map.mp hq
    rw [← hz])) ((T.setVm vm').setCell a (vp_cell (g.2.2 0) (n1, .inl (va_cpy f gg sp.toNatClampNeg dp.toNatClampNeg n.toNatClampNeg)))) (by rw [← hT]; rfl) X'
  exact ⟨t, step t a1, b1⟩
theorem jw_copyJ {own : String} {index nL : Nat} {src dst : Option Nat} {sp dp n : Int32} {F : Nat → Option CE} (hx : p.tables.exec = Jvm.exec) (hb : c.code = cc) (hml : c.maxLocals = nL) (hsz : ls.size = nL) (hown : s.vm.findClass own = some m.cls) (hlink : (Cond.methodLink own index arraycopyName).before args s = true) (hnat : (Cond.native arraycopyName).before args s = true) (hstat : (Cond.static arraycopyName).before args s = true) (hini : (Cond.initialized "java/lang/System").before args s = true)
    (hK : jm_KG g s) (hst : jm_St g b M0 Mf M s R H locs cells slots) (h1 : jm_cpJ 2 src sp dst dp n M = some F)
    (hframes : 1 ≤ R.frames) (hlocals : (rest.map fun v => v.category).sum + (nativeFrameWords "java/lang/System" "arraycopy" 5 + 11) ≤ R.locals) (hdg : decode cc pc = .ok (.invokestatic index, 3))
    (kk : ∀ (H1 : Heap) (locs1 : List Loc), jm_St g b M0 Mf (M.1, M.2.1, F) s R H1 locs1 cells slots → W p l e R s m args below meth c H1 locs1 cells slots Q (F0 m (pc + 3) ls rest)) : W p l e R s m args below meth c H locs cells slots Q (F0 m pc ls (.int n :: .int dp :: va_rf dst :: .int sp :: va_rf src :: rest)) := by
  obtain ⟨a0, a, n0, n1, f, gg, rfl, rfl, e0, ea, ⟨⟨z1, z2⟩, z3, z4⟩, z5, rfl⟩ := jm_cpJ_some h1
  intro T hT X
  have hc0 : H[a0]? = some (vp_cell (g.2.2 2) (n0, .inr (.inl f))) := (hst.1.2.2 a0 _ e0).2
  have hc1 : H[a]? = some (vp_cell (g.2.2 2) (n1, .inr (.inl gg))) := (hst.1.2.2 a _ ea).2
  obtain ⟨-, k0, hk0, cm0, hkk0⟩ := (jm_ra hK (kd := 2) rfl).1 n0 (fun j => .long (f j))
  obtain ⟨vm', X', step⟩ := X.arraycopy hx hown hlink hnat hstat hini (src := a0) (dst := a) (cs := vp_cell (g.2.2 2) (n0, .inr (.inl f))) (cd := vp_cell (g.2.2 2) (n1, .inr (.inl gg))) (srcPos := sp) (destPos := dp) (n := n) (by rw [hT]; exact hc0) (by rw [hT]; exact hc1)
    (fun _ h => by cases h) (fun _ h => by cases h) (fun h => by cases h) (fun h => by cases h) hk0 hk0 hkk0 hkk0 rfl z1 z2 z3
    (by rw [jm_nn sp z1, jm_nn n z3]; show ¬ _ > ((arrV (g.2.2 2) n0 (fun j => .long (f j))).slots.size : Int); rw [arrV_size]; omega)
    (by rw [jm_nn dp z2, jm_nn n z3]; show ¬ _ > ((arrV (g.2.2 2) n1 (fun j => .long (gg j))).slots.size : Int); rw [arrV_size]; omega)
    (fun vm₁ _ i hi => by
      have e : (vp_cell (g.2.2 2) (n0, .inr (.inl f))).slots.getD (sp.toNatClampNeg + i) .null = .long (f (sp.toNatClampNeg + i)) := by
        show (arrV (g.2.2 2) n0 (fun j => .long (f j))).slots.getD _ _ = _
        rw [Array.getD_eq_getD_getElem?, arrV_read _ _ (by omega)]
        rfl
      rw [e]
      exact ⟨rfl, trivial⟩)
    (g := F0 m pc ls (.int n :: .int dp :: .ref a :: .int sp :: .ref a0 :: rest)) rfl (by show ls.size = _; rw [hml, hsz]) (rest := rest) rfl (by rw [hb]; exact hdg) hframes (by show 2 * 0 + _ + _ ≤ _; omega)
  have e1 : copied (vp_cell (g.2.2 2) (n0, .inr (.inl f))) (vp_cell (g.2.2 2) (n1, .inr (.inl gg))) sp dp n = vp_cell (g.2.2 2) (n1, .inr (.inl (va_cpy f gg sp.toNatClampNeg dp.toNatClampNeg n.toNatClampNeg))) := va_copied (fun z => .long z) (g.2.2 2) (g.2.2 2) f gg z4
  rw [e1] at X' step
  have hl : a < H.size := (Array.getElem?_eq_some_iff.mp hc1).1
  obtain ⟨t, a1, b1⟩ := kk _ _ (hst.puts (e1 := .inl (2, n1, .inr (.inl (va_cpy f gg sp.toNatClampNeg dp.toNatClampNeg n.toNatClampNeg)))) ea (show (H.setIfInBounds a _)[a]? = some _ by simp [Array.getElem?_setIfInBounds, hl]; rfl) (by simp) (fun q hq => by simp [Array.getElem?_setIfInBounds, Ne.symm hq]) (fun q hq => by
    obtain ⟨z, -, hz⟩ := List.mem_map.mp hq
    rw [← hz])) ((T.setVm vm').setCell a (vp_cell (g.2.2 2) (n1, .inr (.inl (va_cpy f gg sp.toNatClampNeg dp.toNatClampNeg n.toNatClampNeg))))) (by rw [← hT]; rfl) X'
  exact ⟨t, step t a1, b1⟩
theorem jw_multi {kO kI q0 : Nat} {ty : FieldType} {own : String} {index : Nat} {n k : Int32} {body : (Nat → Int32) ⊕ (Nat → Int64) ⊕ (Nat → UInt32) ⊕ (Nat → UInt64) ⊕ (Nat → Option Nat)} (hx : p.tables.exec = Jvm.exec) (hb : c.code = cc) (hown : s.vm.findClass own = some m.cls) (hclink : (Cond.classLink own index ("[" ++ (FieldType.array ty).toString)).before args s = true) (hover : (Cond.arrayOver (.array ty)).before args s = true) (harr : (Cond.arrayClass ty).before args s = true)
    (hK : jm_KG g s) (hst : jm_St g b M0 Mf M s R H locs cells slots) (hO : jm_ty[kO]? = some (.array ty)) (hI : jm_ty[kI]? = some ty) (hrO : va_RA s (g.2.2 kO) (.array ty) → s.vm.findClass ("[" ++ (FieldType.array ty).toString) = some (g.2.2 kO)) (hrI : va_RA s (g.2.2 kI) ty → s.vm.findClass (FieldType.array ty).toString = some (g.2.2 kI)) (hbody : ∀ (cA : ClassId) (N : Nat), vp_cell cA (N, body) = arrV cA N (fun _ => defaultValue ty))
    (hn : ¬ n < 0) (hk : ¬ k < 0) (hN : n.toNatClampNeg ≤ 1000) (hk2 : k.toNatClampNeg ≤ 1000) (hcb : componentBytes ty ≤ 8) (hdf : fits ty (defaultValue ty) = true) (hdd : (defaultValue ty).isDefault = true) (hM : jm_le (jm_mul kO kI n.toNatClampNeg k.toNatClampNeg body M) Mf) (hq : q0 = M.1) (hdg : decode cc pc = .ok (.multianewarray index 2, 4))
    (kk : ∀ (H1 : Heap) (cells1 slots1 : Nat), jm_St g b M0 Mf (jm_mul kO kI n.toNatClampNeg k.toNatClampNeg body M) s R H1 locs cells1 slots1 → W p l e R s m args below meth c H1 locs cells1 slots1 Q (F0 m (pc + 4) ls (va_rf (some q0) :: rest))) : W p l e R s m args below meth c H locs cells slots Q (F0 m pc ls (.int k :: .int n :: rest)) := by
  subst hq
  intro T hT X
  obtain ⟨hR, hS, r1, r2, r3, r4⟩ := hst
  have g1 : M.1 + 1 + n.toNatClampNeg ≤ Mf.1 := hM.1
  have g2 : M.2.1 + n.toNatClampNeg + n.toNatClampNeg * k.toNatClampNeg ≤ Mf.2.1 := hM.2
  obtain ⟨vm₁, cA, comp, hW, f1, f2, -, -, X1, step⟩ := X.multianewarray2F hx hown hclink hover harr (g := F0 m pc ls (.int k :: .int n :: rest)) rfl (by rw [hb]; exact hdg) (n := n) (k := k) (rest := rest) rfl hn hk (by omega) (by have := Nat.mul_le_mul hk2 hcb; omega) (by omega) hdf hdd (by omega) (by omega)
  cases f1.symm.trans (hrO (hK.1.2 kO _ (jm_tys_at g hO)).2)
  cases f2.symm.trans (hrI (hK.1.2 kI _ (jm_tys_at g hI)).2)
  obtain ⟨w1, w2, -, -⟩ := Jvm.Free.Multi.fill_facts (T.setVm vm₁) (g.2.2 kO) (g.2.2 kI) n.toNatClampNeg k.toNatClampNeg (defaultValue ty) n.toNatClampNeg
  have hTs : (T.setVm vm₁).heap.size = M.1 := by show T.heap.size = _; rw [hT, hR.1]
  have hTh : (T.setVm vm₁).heap = H := hT
  rw [hTs] at w1 w2
  have old : ∀ a, a < M.1 → (Jvm.Free.Multi.fill (T.setVm vm₁) (g.2.2 kO) (g.2.2 kI) n.toNatClampNeg k.toNatClampNeg (defaultValue ty) n.toNatClampNeg).heap[a]? = H[a]? := fun a ha => by
    rw [Jvm.Free.Multi.fill_old (T.setVm vm₁) (g.2.2 kO) (g.2.2 kI) _ _ _ (by rw [hTs]; exact ha), hTh]
  have inn := Jvm.Free.Multi.fill_inner (T.setVm vm₁) (g.2.2 kO) (g.2.2 kI) n.toNatClampNeg k.toNatClampNeg (defaultValue ty) n.toNatClampNeg
  rw [hTs] at inn
  have hout : Jvm.Free.Multi.outerC (g.2.2 kO) n.toNatClampNeg M.1 n.toNatClampNeg = vp_cell (g.2.2 kO) (n.toNatClampNeg, .inr (.inr (.inr (.inr (fun j => if j < n.toNatClampNeg then some (M.1 + 1 + j) else none))))) := by
    rw [jm_outer, vp_cell_q]
    congr 1
    funext j
    by_cases hj : j < n.toNatClampNeg
    · rw [if_pos hj, if_pos hj]
      rfl
    · rw [if_neg hj, if_neg hj]
      rfl
  rw [hout] at w2
  have hst2 : jm_St g b M0 Mf (jm_mul kO kI n.toNatClampNeg k.toNatClampNeg body M) s R (Jvm.Free.Multi.fill (T.setVm vm₁) (g.2.2 kO) (g.2.2 kI) n.toNatClampNeg k.toNatClampNeg (defaultValue ty) n.toNatClampNeg).heap locs (cells + 1 + n.toNatClampNeg) (slots + n.toNatClampNeg + n.toNatClampNeg * k.toNatClampNeg) := by
    refine ⟨⟨w1, by show b ≤ M.1 + 1 + n.toNatClampNeg; have := hR.2.1; omega, fun a e he => ?_⟩, ⟨?_, fun q hq hA => ?_, hS.2.2⟩, ?_, ?_, r3, r4⟩
    · have he : (if a = M.1 then some (Sum.inl (kO, n.toNatClampNeg, .inr (.inr (.inr (.inr (fun j => if j < n.toNatClampNeg then some (M.1 + 1 + j) else none)))))) else if M.1 < a ∧ a < M.1 + 1 + n.toNatClampNeg then some (.inl (kI, k.toNatClampNeg, body)) else M.2.2 a : Option CE) = some e := he
      by_cases c1 : a = M.1
      · rw [if_pos c1] at he
        cases he
        subst c1
        exact ⟨hR.2.1, w2⟩
      · rw [if_neg c1] at he
        by_cases c2 : M.1 < a ∧ a < M.1 + 1 + n.toNatClampNeg
        · rw [if_pos c2] at he
          cases he
          refine ⟨by have := hR.2.1; omega, ?_⟩
          have h5 := inn (a - (M.1 + 1)) (by omega)
          rw [show M.1 + 1 + (a - (M.1 + 1)) = a by omega] at h5
          show _[a]? = some (vp_cell (g.2.2 kI) (k.toNatClampNeg, body))
          rw [h5, hbody, ← arrV_new]
          rfl
        · rw [if_neg c2] at he
          exact ⟨(hR.2.2 a e he).1, (hR.2.2 a e he).2.kept (old a (hR.lt he))⟩
    · rw [w1]
      have := hS.1
      rw [hR.1] at this
      omega
    · rw [old q (by have := hS.1; rw [hR.1] at this; omega)]
      exact hS.2.1 q hq hA
    · show M0.1 + (cells + 1 + n.toNatClampNeg) = M.1 + 1 + n.toNatClampNeg
      omega
    · show M0.2.1 + (slots + n.toNatClampNeg + n.toNatClampNeg * k.toNatClampNeg) = M.2.1 + n.toNatClampNeg + n.toNatClampNeg * k.toNatClampNeg
      omega
  obtain ⟨t, b1, b2⟩ := kk _ _ _ hst2 _ rfl X1
  refine ⟨t, step t ?_, b2⟩
  rw [hT, hR.1]
  exact b1
theorem jw_castA {kd : Nat} {t : FieldType} {r : Option Nat} {x : vp_A} {own nm : String} {index : Nat} (hx : p.tables.exec = Jvm.exec) (hb : c.code = cc) (hown : s.vm.findClass own = some m.cls) (hlink : (Cond.classLink own index nm).before args s = true) (hK : jm_KG g s) (hst : jm_St g b M0 Mf M s R H locs cells slots) (ht : jm_ty[kd]? = some t) (h1 : jm_ar kd r M = some x) (hnm : va_RA s (g.2.2 kd) t → s.vm.findClass nm = some (g.2.2 kd)) (hdg : decode cc pc = .ok (.checkcast index, 3))
    (kk : W p l e R s m args below meth c H locs cells slots Q (F0 m (pc + 3) ls (va_rf r :: rest))) : W p l e R s m args below meth c H locs cells slots Q (F0 m pc ls (va_rf r :: rest)) := by
  obtain ⟨a, rfl, h2⟩ := jm_ar_some h1
  exact va_castA hx hb hown hlink (hst.1.one h2) 0 rfl (hnm (jm_ra hK ht).2) hdg kk
end JB
theorem jm_nmI {s : State} {cA : ClassId} (h : va_RA s cA .int) : s.vm.findClass "[I" = some cA := by rw [← jm_str_I]; exact h
theorem jm_nmJ {s : State} {cA : ClassId} (h : va_RA s cA .long) : s.vm.findClass "[J" = some cA := by rw [← jm_str_J]; exact h
theorem jm_nmII {s : State} {cA : ClassId} (h : va_RA s cA (.array .int)) : s.vm.findClass "[[I" = some cA := by rw [← jm_str_II]; exact h
theorem jm_nmI2 {s : State} {cA : ClassId} (h : va_RA s cA .int) : s.vm.findClass (FieldType.array .int).toString = some cA := by rw [jm_str_aI, ← jm_str_I]; exact h
theorem jm_nmJ2 {s : State} {cA : ClassId} (h : va_RA s cA .long) : s.vm.findClass (FieldType.array .long).toString = some cA := by rw [jm_str_aJ, ← jm_str_J]; exact h
theorem jm_fitI {cA : ClassId} {n : Nat} {f : Nat → Int32} (i : Nat) (v : Value) (h : (vp_cell cA (n, .inl f)).slots[i]? = some v) : fits .int v = true := by
  have h2 : (arrV cA n (fun j => .int (f j))).slots[i]? = some v := h
  by_cases hi : i < n
  · rw [arrV_read _ _ hi] at h2; cases h2; rfl
  · rw [Array.getElem?_eq_none (by rw [arrV_size]; omega)] at h2; cases h2
theorem jm_fitJ {cA : ClassId} {n : Nat} {f : Nat → Int64} (i : Nat) (v : Value) (h : (vp_cell cA (n, .inr (.inl f))).slots[i]? = some v) : fits .long v = true := by
  have h2 : (arrV cA n (fun j => .long (f j))).slots[i]? = some v := h
  by_cases hi : i < n
  · rw [arrV_read _ _ hi] at h2; cases h2; rfl
  · rw [Array.getElem?_eq_none (by rw [arrV_size]; omega)] at h2; cases h2
theorem jm_fitA {cA : ClassId} {n : Nat} {t : FieldType} {f : Nat → Option Nat} (i : Nat) (v : Value) (h : (vp_cell cA (n, .inr (.inr (.inr (.inr f))))).slots[i]? = some v) : fits (.array t) v = true := by
  have h2 : (arrV cA n (fun j => va_rf (f j))).slots[i]? = some v := h
  by_cases hi : i < n
  · rw [arrV_read _ _ hi] at h2; cases h2; exact va_fits_a _
  · rw [Array.getElem?_eq_none (by rw [arrV_size]; omega)] at h2; cases h2
/-- an array of numbers, as its cell holds it -/
def jm_arI (kd : Nat) (r : Option Nat) (M : Mem) : Option (Nat × (Nat → Int32)) := match jm_ar kd r M with
  | some (n, .inl f) => some (n, f)
  | _ => none
def jm_arJ (kd : Nat) (r : Option Nat) (M : Mem) : Option (Nat × (Nat → Int64)) := match jm_ar kd r M with
  | some (n, .inr (.inl f)) => some (n, f)
  | _ => none
def jm_arR (kd : Nat) (r : Option Nat) (M : Mem) : Option (Nat × (Nat → Option Nat)) := match jm_ar kd r M with
  | some (n, .inr (.inr (.inr (.inr f)))) => some (n, f)
  | _ => none
theorem jm_arI_some {kd : Nat} {r : Option Nat} {M : Mem} {x : Nat × (Nat → Int32)} (h : jm_arI kd r M = some x) : jm_ar kd r M = some (x.1, .inl x.2) := by
  unfold jm_arI at h
  split at h
  · rename_i hx; cases h; exact hx
  · cases h
theorem jm_arJ_some {kd : Nat} {r : Option Nat} {M : Mem} {x : Nat × (Nat → Int64)} (h : jm_arJ kd r M = some x) : jm_ar kd r M = some (x.1, .inr (.inl x.2)) := by
  unfold jm_arJ at h
  split at h
  · rename_i hx; cases h; exact hx
  · cases h
theorem jm_arR_some {kd : Nat} {r : Option Nat} {M : Mem} {x : Nat × (Nat → Option Nat)} (h : jm_arR kd r M = some x) : jm_ar kd r M = some (x.1, .inr (.inr (.inr (.inr x.2)))) := by
  unfold jm_arR at h
  split at h
  · rename_i hx; cases h; exact hx
  · cases h
