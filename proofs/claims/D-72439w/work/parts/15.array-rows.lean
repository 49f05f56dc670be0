/-! ARRAY ROWS: arrays of references, of arrays, copies and clones -/
theorem jm_str_I : "[" ++ FieldType.int.toString = "[I" := by decide
theorem jm_str_J : "[" ++ FieldType.long.toString = "[J" := by decide
theorem jm_str_II : "[" ++ (FieldType.array .int).toString = "[[I" := by decide
theorem jm_str_JJ : "[" ++ (FieldType.array .long).toString = "[[J" := by decide
theorem jm_str_aI : (FieldType.array .int).toString = "[I" := by decide
theorem jm_str_aJ : (FieldType.array .long).toString = "[J" := by decide
theorem jm_ra {g : GD} {s : State} (hK : jm_KG g s) {kd : Nat} {t : FieldType} (h : jm_ty[kd]? = some t) : ArrOfT s (g.2.2 kd) t ∧ va_RA s (g.2.2 kd) t := hK.1.2 kd _ (jm_tys_at g h)
theorem jm_asg_rf (vm : Vm) (c : ClassId) : vm.assignable c c = true := by
  show vm.assignableAux (255 + 1) c c = true
  rw [Vm.assignableAux, beq_self_eq_true, Bool.true_or]
/-- an object of each of the classes may stand in an array over E -/
def jm_asg (s : State) (g : GD) (E : String) (cs : List Nat) : Prop := ∀ q ∈ cs, ∃ (C : String) (T : u_T) (N : Nat), vwCl[q]? = some (C, T, N) ∧ ∀ comp : ClassId, s.vm.findClass E = some comp → s.vm.assignable (g.1 q) comp = true
theorem jm_asg_self {s : State} {g : GD} (hK : jm_KG g s) {q N : Nat} {C : String} {T : u_T} (h : vwCl[q]? = some (C, T, N)) (comp : ClassId) (hc : s.vm.findClass C = some comp) : s.vm.assignable (g.1 q) comp = true := by
  have h1 := (hK.1.1 q _ h).2.1
  cases h1.symm.trans hc
  exact jm_asg_rf _ _
theorem jm_asg_cast {s : State} {g : GD} (hK : jm_KG g s) {q N : Nat} {C E : String} {T : u_T} (h : vwCl[q]? = some (C, T, N)) (hw : Cond.castable C E ∈ jm_nw) (comp : ClassId) (hc : s.vm.findClass E = some comp) : s.vm.assignable (g.1 q) comp = true := by
  obtain ⟨c0, t0, f1, f2, f3⟩ := Cond.castable_spec (va_Nw.use (A := #[]) rfl (hK.2.1 _ hw))
  have h1 := (hK.1.1 q _ h).2.1
  cases h1.symm.trans f1
  cases hc.symm.trans f2
  exact f3
theorem jm_fit_some {cs : List Nat} {ka : Option Nat} {v : Nat} {M : Mem} (h : jm_fit cs ka (some v) M = true) : (∃ (q : Nat) (fs : List Value), M.2.2 v = some (.inr (q, fs)) ∧ q ∈ cs) ∨ ∃ (k : Nat) (x : vp_A), M.2.2 v = some (.inl (k, x)) ∧ some k = ka := by
  simp only [jm_fit] at h
  split at h
  · rename_i o ho
    exact Or.inl ⟨o.1, o.2, ho, of_decide_eq_true h⟩
  · rename_i x hx
    exact Or.inr ⟨x.1, x.2, hx, of_decide_eq_true h⟩
  · cases h
/-- new rows of an array of arrays -/
def jm_mul (kO kI n k : Nat) (body : (Nat → Int32) ⊕ (Nat → Int64) ⊕ (Nat → UInt32) ⊕ (Nat → UInt64) ⊕ (Nat → Option Nat)) (M : Mem) : Mem := (M.1 + 1 + n, M.2.1 + n + n * k, fun a => if a = M.1 then some (.inl (kO, n, .inr (.inr (.inr (.inr (fun j => if j < n then some (M.1 + 1 + j) else none)))))) else if M.1 < a ∧ a < M.1 + 1 + n then some (.inl (kI, k, body)) else M.2.2 a)
def jm_ml {β : Type} (kO kI n k : Nat) (body : (Nat → Int32) ⊕ (Nat → Int64) ⊕ (Nat → UInt32) ⊕ (Nat → UInt64) ⊕ (Nat → Option Nat)) (kk : Nat → jm_P β) : jm_P β := ⟨fun M => (kk M.1).1 (jm_mul kO kI n k body M), fun M r M' h => by
  have h1 := (kk M.1).2 _ _ _ h
  exact ⟨Nat.le_trans (by show M.1 ≤ M.1 + 1 + n; omega) h1.1, Nat.le_trans (by show M.2.1 ≤ M.2.1 + n + n * k; omega) h1.2⟩⟩
theorem jm_ml_some {β : Type} {kO kI n k : Nat} {body : (Nat → Int32) ⊕ (Nat → Int64) ⊕ (Nat → UInt32) ⊕ (Nat → UInt64) ⊕ (Nat → Option Nat)} {kk : Nat → jm_P β} {M M' : Mem} {r : β} (h : (jm_ml kO kI n k body kk).1 M = some (r, M')) : ∃ q : Nat, q = M.1 ∧ (kk q).1 (jm_mul kO kI n k body M) = some (r, M') := ⟨M.1, rfl, h⟩
/-- a copy of a stretch, its elements checked -/
def jm_cpR (kd : Nat) (cs : List Nat) (src : Option Nat) (sp : Int32) (dst : Option Nat) (dp n : Int32) (M : Mem) : Option (Nat → Option CE) := match jm_ar kd src M, jm_ar kd dst M with
  | some (n0, .inr (.inr (.inr (.inr f)))), some (n1, .inr (.inr (.inr (.inr g)))) => if ((¬ sp < 0 ∧ ¬ dp < 0) ∧ (¬ n < 0 ∧ sp.toNatClampNeg + n.toNatClampNeg ≤ n0)) ∧ (dp.toNatClampNeg + n.toNatClampNeg ≤ n1 ∧ (List.range n.toNatClampNeg).all (fun i => jm_fit cs none (f (sp.toNatClampNeg + i)) M) = true) then jm_sto dst M (.inl (kd, n1, .inr (.inr (.inr (.inr (va_cpy f g sp.toNatClampNeg dp.toNatClampNeg n.toNatClampNeg)))))) else none
  | _, _ => none
def jm_cpI (kd : Nat) (src : Option Nat) (sp : Int32) (dst : Option Nat) (dp n : Int32) (M : Mem) : Option (Nat → Option CE) := match jm_ar kd src M, jm_ar kd dst M with
  | some (n0, .inl f), some (n1, .inl g) => if ((¬ sp < 0 ∧ ¬ dp < 0) ∧ (¬ n < 0 ∧ sp.toNatClampNeg + n.toNatClampNeg ≤ n0)) ∧ dp.toNatClampNeg + n.toNatClampNeg ≤ n1 then jm_sto dst M (.inl (kd, n1, .inl (va_cpy f g sp.toNatClampNeg dp.toNatClampNeg n.toNatClampNeg))) else none
  | _, _ => none
def jm_cpJ (kd : Nat) (src : Option Nat) (sp : Int32) (dst : Option Nat) (dp n : Int32) (M : Mem) : Option (Nat → Option CE) := match jm_ar kd src M, jm_ar kd dst M with
  | some (n0, .inr (.inl f)), some (n1, .inr (.inl g)) => if ((¬ sp < 0 ∧ ¬ dp < 0) ∧ (¬ n < 0 ∧ sp.toNatClampNeg + n.toNatClampNeg ≤ n0)) ∧ dp.toNatClampNeg + n.toNatClampNeg ≤ n1 then jm_sto dst M (.inl (kd, n1, .inr (.inl (va_cpy f g sp.toNatClampNeg dp.toNatClampNeg n.toNatClampNeg)))) else none
  | _, _ => none
theorem jm_cpR_some {kd : Nat} {cs : List Nat} {src : Option Nat} {sp : Int32} {dst : Option Nat} {dp n : Int32} {M : Mem} {F : Nat → Option CE} (h : jm_cpR kd cs src sp dst dp n M = some F) : ∃ (a0 a n0 n1 : Nat) (f g : Nat → Option Nat), src = some a0 ∧ dst = some a ∧ M.2.2 a0 = some (.inl (kd, n0, .inr (.inr (.inr (.inr f))))) ∧ M.2.2 a = some (.inl (kd, n1, .inr (.inr (.inr (.inr g))))) ∧ ((¬ sp < 0 ∧ ¬ dp < 0) ∧ (¬ n < 0 ∧ sp.toNatClampNeg + n.toNatClampNeg ≤ n0)) ∧ dp.toNatClampNeg + n.toNatClampNeg ≤ n1 ∧ (∀ i, i < n.toNatClampNeg → jm_fit cs none (f (sp.toNatClampNeg + i)) M = true) ∧ F = va_up M.2.2 a (some (.inl (kd, n1, .inr (.inr (.inr (.inr (va_cpy f g sp.toNatClampNeg dp.toNatClampNeg n.toNatClampNeg))))))) := by
  unfold jm_cpR at h
  split at h
  · rename_i n0 f n1 g hs hd
    obtain ⟨a0, rfl, e0⟩ := jm_ar_some hs
    obtain ⟨a, rfl, e1⟩ := jm_ar_some hd
    split at h
    · rename_i hc
      unfold jm_sto at h
      cases h
      exact ⟨a0, a, n0, n1, f, g, rfl, rfl, e0, e1, hc.1, hc.2.1, fun i hi => List.all_eq_true.mp hc.2.2 i (List.mem_range.mpr hi), rfl⟩
    · cases h
  · cases h
theorem jm_cpI_some {kd : Nat} {src : Option Nat} {sp : Int32} {dst : Option Nat} {dp n : Int32} {M : Mem} {F : Nat → Option CE} (h : jm_cpI kd src sp dst dp n M = some F) : ∃ (a0 a n0 n1 : Nat) (f g : Nat → Int32), src = some a0 ∧ dst = some a ∧ M.2.2 a0 = some (.inl (kd, n0, .inl f)) ∧ M.2.2 a = some (.inl (kd, n1, .inl g)) ∧ ((¬ sp < 0 ∧ ¬ dp < 0) ∧ (¬ n < 0 ∧ sp.toNatClampNeg + n.toNatClampNeg ≤ n0)) ∧ dp.toNatClampNeg + n.toNatClampNeg ≤ n1 ∧ F = va_up M.2.2 a (some (.inl (kd, n1, .inl (va_cpy f g sp.toNatClampNeg dp.toNatClampNeg n.toNatClampNeg)))) := by
  unfold jm_cpI at h
  split at h
  · rename_i n0 f n1 g hs hd
    obtain ⟨a0, rfl, e0⟩ := jm_ar_some hs
    obtain ⟨a, rfl, e1⟩ := jm_ar_some hd
    split at h
    · rename_i hc
      unfold jm_sto at h
      cases h
      exact ⟨a0, a, n0, n1, f, g, rfl, rfl, e0, e1, hc.1, hc.2, rfl⟩
    · cases h
  · cases h
theorem jm_cpJ_some {kd : Nat} {src : Option Nat} {sp : Int32} {dst : Option Nat} {dp n : Int32} {M : Mem} {F : Nat → Option CE} (h : jm_cpJ kd src sp dst dp n M = some F) : ∃ (a0 a n0 n1 : Nat) (f g : Nat → Int64), src = some a0 ∧ dst = some a ∧ M.2.2 a0 = some (.inl (kd, n0, .inr (.inl f))) ∧ M.2.2 a = some (.inl (kd, n1, .inr (.inl g))) ∧ ((¬ sp < 0 ∧ ¬ dp < 0) ∧ (¬ n < 0 ∧ sp.toNatClampNeg + n.toNatClampNeg ≤ n0)) ∧ dp.toNatClampNeg + n.toNatClampNeg ≤ n1 ∧ F = va_up M.2.2 a (some (.inl (kd, n1, .inr (.inl (va_cpy f g sp.toNatClampNeg dp.toNatClampNeg n.toNatClampNeg))))) := by
  unfold jm_cpJ at h
  split at h
  · rename_i n0 f n1 g hs hd
    obtain ⟨a0, rfl, e0⟩ := jm_ar_some hs
    obtain ⟨a, rfl, e1⟩ := jm_ar_some hd
    split at h
    · rename_i hc
      unfold jm_sto at h
      cases h
      exact ⟨a0, a, n0, n1, f, g, rfl, rfl, e0, e1, hc.1, hc.2, rfl⟩
    · cases h
  · cases h
theorem jm_nn (z : Int32) (hz : ¬ z < 0) : z.toInt = (z.toNatClampNeg : Int) := by
  have hz0 : (0 : Int) ≤ z.toInt := by
    have := Int32.not_lt.mp hz
    simpa using Int32.le_iff_toInt_le.mp this
  show z.toInt = ((z.toInt.toNat : Nat) : Int)
  omega
theorem jm_vp_size (cA : ClassId) (x : vp_A) : (vp_cell cA x).slots.size = x.1 := by
  obtain ⟨n, f | f | f | f | f⟩ := x <;> exact arrV_size _ _ _
section JA
variable {p : Program} {l : Launch} {e : Env} {R : Room} {s : State} {m : MethodId} {args : Array Value} {below : List Frame} {meth : Method} {c : Code} {H : Heap} {locs : List Loc} {cells slots : Nat} {Q : State → Prop}
variable {cc : ByteArray} {pc : Nat} {ls : Array Slot} {rest : List Value} {g : GD} {b : Nat} {M0 Mf M : Mem}
theorem jm_St.puts {a : Nat} {e0 e1 : CE} {H1 : Heap} {L : List Loc} (h : jm_St g b M0 Mf M s R H locs cells slots) (ha : M.2.2 a = some e0) (he : va_at (g.1, g.2.1) vwCl (a, jm_cn g e1) H1) (z : H1.size = H.size) (oq : ∀ q : Nat, q ≠ a → H1[q]? = H[q]?) (hL : ∀ q ∈ L, q.base = a) : jm_St g b M0 Mf (M.1, M.2.1, va_up M.2.2 a (some e1)) s R H1 (locs ++ L) cells slots := by
  obtain ⟨hR, hS, h1, h2, h3, h4⟩ := h
  refine ⟨hR.set ha he z oq, ⟨by rw [z]; exact hS.1, fun q hq hA => ?_, fun q hq => ?_⟩, h1, h2, h3, h4⟩
  · rw [oq q (fun e => hA (by rw [e]; exact (hR.2.2 a e0 ha).1))]
    exact hS.2.1 q hq hA
  · rcases List.mem_append.mp hq with h | h
    · exact hS.2.2 q h
    · show b ≤ q.base
      rw [hL q h]
      exact (hR.2.2 a e0 ha).1
theorem jw_anew {kd q0 : Nat} {C own : String} {index : Nat} {n : Int32} (hx : p.tables.exec = Jvm.exec) (hb : c.code = cc) (hown : s.vm.findClass own = some m.cls) (hclink : (Cond.classLink own index C).before args s = true) (hC : C ∈ jm_aoC) (hK : jm_KG g s) (hst : jm_St g b M0 Mf M s R H locs cells slots) (ht : jm_ty[kd]? = some (.object C)) (hn : ¬ n < 0) (hN : n.toNatClampNeg ≤ 1000) (hM : jm_le (jm_new (.inl (kd, n.toNatClampNeg, .inr (.inr (.inr (.inr (fun _ => none)))))) M) Mf) (hq : q0 = M.1) (hdg : decode cc pc = .ok (.anewarray index, 3))
    (kk : ∀ (H1 : Heap) (cells1 slots1 : Nat), jm_St g b M0 Mf (jm_new (.inl (kd, n.toNatClampNeg, .inr (.inr (.inr (.inr (fun _ => none)))))) M) s R H1 locs cells1 slots1 → W p l e R s m args below meth c H1 locs cells1 slots1 Q (F0 m (pc + 3) ls (va_rf (some q0) :: rest))) : W p l e R s m args below meth c H locs cells slots Q (F0 m pc ls (.int n :: rest)) := by
  subst hq
  have hroom := hst.room hM
  have hz : jm_sz (.inl (kd, n.toNatClampNeg, .inr (.inr (.inr (.inr (fun _ => none)))))) = n.toNatClampNeg := rfl
  rw [hz] at hroom
  refine W.anew hx hb hown hclink (va_AO.use (hK.2.2.1 C hC)) rfl hdg rfl hn (by omega) hroom.1 hroom.2 fun cA kA comp h1 h2 h3 h4 => ?_
  have hcA : cA = g.2.2 kd := by
    obtain ⟨kA', comp', r1, r2, r3, r4⟩ := (jm_ra hK ht).2
    exact Option.some.inj (h1.symm.trans r4)
  subst hcA
  have e1 : (H.push { cls := g.2.2 kd, slots := Array.replicate n.toNatClampNeg Value.null, vm := .none })[H.size]? = some (vp_cell (g.2.2 kd) (n.toNatClampNeg, .inr (.inr (.inr (.inr (fun _ => none)))))) := by
    rw [Array.getElem?_push_size, arrV_new]
    rfl
  refine W.eq (g2 := F0 m (pc + 3) ls (va_rf (some M.1) :: rest)) (by rw [hst.1.1]; rfl) ?_
  exact kk _ _ _ (hst.new e1 (by rw [Array.size_push]) (fun q hq => by rw [Array.getElem?_push, if_neg (Nat.ne_of_lt hq)]) hz)
theorem jw_astR {kd : Nat} {cs : List Nat} {E : String} {r v : Option Nat} {i : Int32} {F : Nat → Option CE} (hx : p.tables.exec = Jvm.exec) (hb : c.code = cc) (hK : jm_KG g s) (hst : jm_St g b M0 Mf M s R H locs cells slots) (ht : jm_ty[kd]? = some (.object E)) (hasg : jm_asg s g E cs) (h1 : jm_stR kd cs none r i v M = some F) (hdg : decode cc pc = .ok (.aastore, 1))
    (kk : ∀ (H1 : Heap) (locs1 : List Loc), jm_St g b M0 Mf (M.1, M.2.1, F) s R H1 locs1 cells slots → W p l e R s m args below meth c H1 locs1 cells slots Q (F0 m (pc + 1) ls rest)) : W p l e R s m args below meth c H locs cells slots Q (F0 m pc ls (va_rf v :: .int i :: va_rf r :: rest)) := by
  obtain ⟨a, n, f, rfl, h2, h3, hfit, rfl⟩ := jm_stR_some h1
  have hlt : i.toNatClampNeg < n := Nat.not_le.mp fun q => h3 (Or.inr q)
  have fin : ∀ H1 : Heap, H1[a]? = some ((vp_cell (g.2.2 kd) (n, .inr (.inr (.inr (.inr f))))).setSlot i.toNatClampNeg (va_rf v)) → H1.size = H.size → (∀ q, q ≠ a → H1[q]? = H[q]?) → W p l e R s m args below meth c H1 (locs ++ [⟨a, i.toNatClampNeg⟩]) cells slots Q (F0 m (pc + 1) ls rest) := by
    intro H1 e z oq
    refine kk H1 _ (hst.set h2 ?_ z oq)
    show H1[a]? = some (vp_cell _ _)
    rw [e]
    rw [vp_cell_q, vp_cell_q, arrV_store]
    congr 2
    funext q
    by_cases hq : q = i.toNatClampNeg
    · subst hq
      simp [updV, va_up]
    · simp [updV, va_up, hq]
  have hsz : (vp_cell (g.2.2 kd) (n, .inr (.inr (.inr (.inr f))))).slots.size = n := jm_vp_size _ _
  cases v with
  | none =>
    exact va_WaastN (C := E) hx hb ((hst.1.one h2) 0 _ rfl) ((jm_ra hK ht).1 n (fun j => va_rf (f j))) (fun q => by cases q) (by show ¬ (i < 0 ∨ (vp_cell (g.2.2 kd) (n, .inr (.inr (.inr (.inr f))))).slots.size ≤ _); rw [hsz]; exact h3) rfl rfl hdg fin
  | some y =>
    rcases jm_fit_some hfit with ⟨q, fs, g1, g2⟩ | ⟨k, x, g1, g2⟩
    · obtain ⟨C, T, N, hc, ha⟩ := hasg q g2
      obtain ⟨r', hr', cellV, v1, v2, v3, -⟩ := (hst.1.2.2 y _ g1).2
      obtain ⟨kA, comp, k1, k2, k3, -⟩ := (jm_ra hK ht).2
      have hcls := (hK.1.1 q _ hc).2
      obtain ⟨kC, hkC, -⟩ := hcls.2
      obtain ⟨kE, hkE, -⟩ := Vm.findClass_spec k3
      refine W.aast hx hb ((hst.1.one h2) 0 _ rfl) (fun q h => by cases h) (fun h => by cases h) k1 k2 rfl hkE ⟨fun q => h3 (Or.inl q), by show _ < (vp_cell (g.2.2 kd) (n, .inr (.inr (.inr (.inr f))))).slots.size; rw [hsz]; exact hlt⟩ v1 (fun q h => by rw [v3] at h; cases h) (by rw [v2]; exact hkC) (by rw [v2]; exact ha comp k3) rfl rfl hdg fin
    · cases g2
theorem jw_astA {kd ke : Nat} {t : FieldType} {r v : Option Nat} {i : Int32} {F : Nat → Option CE} (hx : p.tables.exec = Jvm.exec) (hb : c.code = cc) (hK : jm_KG g s) (hst : jm_St g b M0 Mf M s R H locs cells slots) (ht : jm_ty[kd]? = some (.array t)) (hte : jm_ty[ke]? = some t) (hk : ∃ k : Class, s.vm.classes[g.2.2 kd]? = some k ∧ k.kind = .array (g.2.2 ke) (.array t)) (h1 : jm_stR kd [] (some ke) r i v M = some F) (hdg : decode cc pc = .ok (.aastore, 1)) (hnn : ∃ y, v = some y)
    (kk : ∀ (H1 : Heap) (locs1 : List Loc), jm_St g b M0 Mf (M.1, M.2.1, F) s R H1 locs1 cells slots → W p l e R s m args below meth c H1 locs1 cells slots Q (F0 m (pc + 1) ls rest)) : W p l e R s m args below meth c H locs cells slots Q (F0 m pc ls (va_rf v :: .int i :: va_rf r :: rest)) := by
  obtain ⟨a, n, f, rfl, h2, h3, hfit, rfl⟩ := jm_stR_some h1
  obtain ⟨y, rfl⟩ := hnn
  have hlt : i.toNatClampNeg < n := Nat.not_le.mp fun q => h3 (Or.inr q)
  have hsz : (vp_cell (g.2.2 kd) (n, .inr (.inr (.inr (.inr f))))).slots.size = n := jm_vp_size _ _
  rcases jm_fit_some hfit with ⟨q, fs, g1, g2⟩ | ⟨k, x, g1, g2⟩
  · cases g2
  · cases g2
    obtain ⟨kA, k1, k2⟩ := hk
    have hcell : H[y]? = some (vp_cell (g.2.2 ke) x) := (hst.1.2.2 y _ g1).2
    obtain ⟨-, kE, hkE, -⟩ := (jm_ra hK hte).1 0 (fun _ => .null)
    have hvm0 : (vp_cell (g.2.2 ke) x).vm = .none := by obtain ⟨n, f | f | f | f | f⟩ := x <;> rfl
    have hcl0 : (vp_cell (g.2.2 ke) x).cls = g.2.2 ke := by obtain ⟨n, f | f | f | f | f⟩ := x <;> rfl
    have hkE' : s.vm.classes[g.2.2 ke]? = some kE := hkE
    refine W.aast hx hb ((hst.1.one h2) 0 _ rfl) (fun q h => by cases h) (fun h => by cases h) k1 k2 rfl hkE' ⟨fun q => h3 (Or.inl q), by show _ < (vp_cell (g.2.2 kd) (n, .inr (.inr (.inr (.inr f))))).slots.size; rw [hsz]; exact hlt⟩ hcell (fun q h => by rw [hvm0] at h; cases h) (by rw [hcl0]; exact hkE') (by rw [hcl0]; exact jm_asg_rf _ _) rfl rfl hdg fun H1 e z oq => ?_
    refine kk H1 _ (hst.set h2 ?_ z oq)
    show H1[a]? = some (vp_cell _ _)
    rw [e]
    show some ((vp_cell (g.2.2 kd) (n, .inr (.inr (.inr (.inr f))))).setSlot _ _) = _
    rw [vp_cell_q, vp_cell_q, arrV_store]
    congr 2
    funext q
    by_cases hq : q = i.toNatClampNeg
    · subst hq
      simp [updV, va_up, va_rf]
    · simp [updV, va_up, hq]
theorem jw_clone {kd q0 : Nat} {t : FieldType} {r : Option Nat} {x : vp_A} {own ad : String} {index nL : Nat} (hx : p.tables.exec = Jvm.exec) (hb : c.code = cc) (hml : c.maxLocals = nL) (hsz : ls.size = nL) (hown : s.vm.findClass own = some m.cls)
    (hlink : (Cond.methodLink own index ⟨ad, "clone", "()Ljava/lang/Object;"⟩).before args s = true) (hsame : (Cond.sameMethod ad "java/lang/Object" "clone" "()Ljava/lang/Object;").before args s = true)
    (hnat : (Cond.native ⟨"java/lang/Object", "clone", "()Ljava/lang/Object;"⟩).before args s = true) (hinst : (Cond.instanceMethod ⟨"java/lang/Object", "clone", "()Ljava/lang/Object;"⟩).before args s = true)
    (hsel : (Cond.selects ad ⟨ad, "clone", "()Ljava/lang/Object;"⟩ ⟨"java/lang/Object", "clone", "()Ljava/lang/Object;"⟩).before args s = true) (hcl : Cond.castable ad "java/lang/Cloneable" ∈ jm_nw)
    (hK : jm_KG g s) (hst : jm_St g b M0 Mf M s R H locs cells slots) (ht : jm_ty[kd]? = some t) (h1 : jm_ar kd r M = some x) (hnm : va_RA s (g.2.2 kd) t → s.vm.findClass ad = some (g.2.2 kd)) (hfit : ∀ (i : Nat) (v : Value), (vp_cell (g.2.2 kd) x).slots[i]? = some v → fits t v = true)
    (hframes : 1 ≤ R.frames) (hlocals : (rest.map fun v => v.category).sum + 14 ≤ R.locals) (hM : jm_le (jm_new (.inl (kd, x)) M) Mf) (hq : q0 = M.1) (hdg : decode cc pc = .ok (.invokevirtual index, 3))
    (kk : ∀ (H1 : Heap) (cells1 slots1 : Nat), jm_St g b M0 Mf (jm_new (.inl (kd, x)) M) s R H1 locs cells1 slots1 → W p l e R s m args below meth c H1 locs cells1 slots1 Q (F0 m (pc + 3) ls (va_rf (some q0) :: rest))) : W p l e R s m args below meth c H locs cells slots Q (F0 m pc ls (va_rf r :: rest)) := by
  subst hq
  obtain ⟨a, rfl, h2⟩ := jm_ar_some h1
  have hroom := hst.room hM
  have hz : jm_sz (.inl (kd, x)) = x.1 := rfl
  rw [hz] at hroom
  have hsz0 : (vp_cell (g.2.2 kd) x).slots.size = x.1 := jm_vp_size _ _
  have hvm0 : (vp_cell (g.2.2 kd) x).vm = .none := by
    obtain ⟨n, f | f | f | f | f⟩ := x <;> rfl
  have hcl0 : (vp_cell (g.2.2 kd) x).cls = g.2.2 kd := by
    obtain ⟨n, f | f | f | f | f⟩ := x <;> rfl
  have hcellE : ({ cls := (vp_cell (g.2.2 kd) x).cls, slots := (vp_cell (g.2.2 kd) x).slots } : Cell) = vp_cell (g.2.2 kd) x := by
    obtain ⟨n, f | f | f | f | f⟩ := x <;> rfl
  have hnm := hnm (jm_ra hK ht).2
  obtain ⟨c0, t0', f1, f2, f3⟩ := Cond.castable_spec (va_Nw.use (A := args) rfl (hK.2.1 _ hcl))
  cases hnm.symm.trans f1
  intro T hT X
  have hcellT : T.heap[a]? = some (vp_cell (g.2.2 kd) x) := by rw [hT]; exact (hst.1.2.2 a _ h2).2
  obtain ⟨-, kA, hkA, comp, hkind⟩ := State.isArrayOf_alike X.warmed.alike ((jm_ra hK ht).1 0 (fun _ => .null))
  obtain ⟨-, kS, hkS, compS, hkindS⟩ := (jm_ra hK ht).1 0 (fun _ => .null)
  obtain ⟨vm', X', st⟩ := X.cloneArray hx hown hlink hsame hnat hinst hsel (a := a) (cell := vp_cell (g.2.2 kd) x) hcellT (fun k h => by rw [hvm0] at h; cases h) (by rw [hvm0]; exact fun h => by cases h) (by rw [hcl0]; exact hnm) f2 (by rw [hcl0]; exact f3)
    (fun i v hv => by
      rw [hcl0]
      have hk' : T.vm.classes[g.2.2 kd]? = some kA := hkA
      simpa [State.fitsSlot, State.slotType?, hk', hkind] using hfit i v hv)
    (g := F0 m pc ls (.ref a :: rest)) rfl (by show ls.size = _; rw [hml, hsz]) rfl (by rw [hb]; exact hdg) hframes (by show 2 * 0 + _ + 14 ≤ _; omega) hroom.1 (by rw [hsz0]; exact hroom.2) (hloader := by rw [hcl0]; exact Vm.clonesLoader_of_array hkS hkindS)
  rw [hcellE, hsz0] at X'
  have e1 : (H.push (vp_cell (g.2.2 kd) x))[H.size]? = some (vp_cell (g.2.2 kd) x) := by rw [Array.getElem?_push_size]
  have hst2 := hst.new (e1 := .inl (kd, x)) e1 (by rw [Array.size_push]) (fun q hq => by rw [Array.getElem?_push, if_neg (Nat.ne_of_lt hq)]) hz
  obtain ⟨t, b1, b2⟩ := kk _ _ _ hst2 ((T.setVm vm').pushCell (vp_cell (g.2.2 kd) x)) (by rw [← hT]; rfl) X'
  refine ⟨t, st t ?_, b2⟩
  rw [hcellE, hT, hst.1.1]
  exact b1
theorem jw_copyR {kd : Nat} {cs : List Nat} {E own : String} {index nL : Nat} {src dst : Option Nat} {sp dp n : Int32} {F : Nat → Option CE} (hx : p.tables.exec = Jvm.exec) (hb : c.code = cc) (hml : c.maxLocals = nL) (hsz : ls.size = nL) (hown : s.vm.findClass own = some m.cls) (hlink : (Cond.methodLink own index arraycopyName).before args s = true) (hnat : (Cond.native arraycopyName).before args s = true) (hstat : (Cond.static arraycopyName).before args s = true) (hini : (Cond.initialized "java/lang/System").before args s = true)
    (hK : jm_KG g s) (hst : jm_St g b M0 Mf M s R H locs cells slots) (ht : jm_ty[kd]? = some (.object E)) (hasg : jm_asg s g E cs) (h1 : jm_cpR kd cs src sp dst dp n M = some F)
    (hframes : 1 ≤ R.frames) (hlocals : (rest.map fun v => v.category).sum + (nativeFrameWords "java/lang/System" "arraycopy" 5 + 11) ≤ R.locals) (hdg : decode cc pc = .ok (.invokestatic index, 3))
    (kk : ∀ (H1 : Heap) (locs1 : List Loc), jm_St g b M0 Mf (M.1, M.2.1, F) s R H1 locs1 cells slots → W p l e R s m args below meth c H1 locs1 cells slots Q (F0 m (pc + 3) ls rest)) : W p l e R s m args below meth c H locs cells slots Q (F0 m pc ls (.int n :: .int dp :: va_rf dst :: .int sp :: va_rf src :: rest)) := by
  obtain ⟨a0, a, n0, n1, f, gg, rfl, rfl, e0, ea, ⟨⟨z1, z2⟩, z3, z4⟩, z5, hel, rfl⟩ := jm_cpR_some h1
  intro T hT X
  have hc0 : H[a0]? = some (vp_cell (g.2.2 kd) (n0, .inr (.inr (.inr (.inr f))))) := (hst.1.2.2 a0 _ e0).2
  have hc1 : H[a]? = some (vp_cell (g.2.2 kd) (n1, .inr (.inr (.inr (.inr gg))))) := (hst.1.2.2 a _ ea).2
  obtain ⟨-, k0, hk0, cm0, hkk0⟩ := (jm_ra hK ht).1 n0 (fun j => va_rf (f j))
  obtain ⟨vm', X', step⟩ := X.arraycopy hx hown hlink hnat hstat hini (src := a0) (dst := a) (cs := vp_cell (g.2.2 kd) (n0, .inr (.inr (.inr (.inr f))))) (cd := vp_cell (g.2.2 kd) (n1, .inr (.inr (.inr (.inr gg))))) (srcPos := sp) (destPos := dp) (n := n) (by rw [hT]; exact hc0) (by rw [hT]; exact hc1)
    (fun _ h => by cases h) (fun _ h => by cases h) (fun h => by cases h) (fun h => by cases h) hk0 hk0 hkk0 hkk0 rfl z1 z2 z3
    (by rw [jm_nn sp z1, jm_nn n z3]; show ¬ _ > ((arrV (g.2.2 kd) n0 (fun j => va_rf (f j))).slots.size : Int); rw [arrV_size]; omega)
    (by rw [jm_nn dp z2, jm_nn n z3]; show ¬ _ > ((arrV (g.2.2 kd) n1 (fun j => va_rf (gg j))).slots.size : Int); rw [arrV_size]; omega)
    (fun vm₁ hal i hi => by
      have e : (vp_cell (g.2.2 kd) (n0, .inr (.inr (.inr (.inr f))))).slots.getD (sp.toNatClampNeg + i) .null = va_rf (f (sp.toNatClampNeg + i)) := by
        show (arrV (g.2.2 kd) n0 (fun j => va_rf (f j))).slots.getD _ _ = _
        rw [Array.getD_eq_getD_getElem?, arrV_read _ _ (by omega)]
        rfl
      rw [e]
      have hfit := hel i hi
      cases hy : f (sp.toNatClampNeg + i) with
      | none => exact ⟨rfl, trivial⟩
      | some y =>
        rw [hy] at hfit
        rcases jm_fit_some hfit with ⟨q, fs, g1, g2⟩ | ⟨k, x, g1, g2⟩
        · obtain ⟨C, T', N, hcl, ha⟩ := hasg q g2
          obtain ⟨r', hr', cellV, v1, v2, v3, -⟩ := (hst.1.2.2 y _ g1).2
          obtain ⟨kA, comp, r1, r2, r3, -⟩ := (jm_ra hK ht).2
          cases hk0.symm.trans r1
          cases hkk0.symm.trans r2
          have hcls := (hK.1.1 q _ hcl).2
          obtain ⟨kC, hkC, -⟩ := hcls.2
          obtain ⟨kE, hkE, -⟩ := Vm.findClass_spec r3
          obtain ⟨kC', hkC', -⟩ := hal.2.2 _ _ hkC
          obtain ⟨kE', hkE', -⟩ := hal.2.2 _ _ hkE
          refine ⟨rfl, cellV, (show T.heap[y]? = some cellV by rw [hT]; exact v1), (fun q h => by rw [v3] at h; cases h), ⟨kC', by rw [v2]; exact hkC'⟩, ?_, ?_⟩
          · exact ⟨kE', hkE'⟩
          · show vm₁.assignable _ _ = true
            rw [hal.assignable, v2]
            exact ha _ r3
        · cases g2)
    (g := F0 m pc ls (.int n :: .int dp :: .ref a :: .int sp :: .ref a0 :: rest)) rfl (by show ls.size = _; rw [hml, hsz]) (rest := rest) rfl (by rw [hb]; exact hdg) hframes (by show 2 * 0 + _ + _ ≤ _; omega)
  have e1 : copied (vp_cell (g.2.2 kd) (n0, .inr (.inr (.inr (.inr f))))) (vp_cell (g.2.2 kd) (n1, .inr (.inr (.inr (.inr gg))))) sp dp n = vp_cell (g.2.2 kd) (n1, .inr (.inr (.inr (.inr (va_cpy f gg sp.toNatClampNeg dp.toNatClampNeg n.toNatClampNeg))))) := va_copied (fun z => va_rf z) (g.2.2 kd) (g.2.2 kd) f gg z4
  rw [e1] at X' step
  have hl : a < H.size := (Array.getElem?_eq_some_iff.mp hc1).1
  obtain ⟨t, a1, b1⟩ := kk _ _ (hst.puts (e1 := .inl (kd, n1, .inr (.inr (.inr (.inr (va_cpy f gg sp.toNatClampNeg dp.toNatClampNeg n.toNatClampNeg)))))) ea (show (H.setIfInBounds a _)[a]? = some _ by simp [Array.getElem?_setIfInBounds, hl]; rfl) (by simp) (fun q hq => by simp [Array.getElem?_setIfInBounds, Ne.symm hq]) (fun q hq => by
    obtain ⟨z, -, hz⟩ := List.mem_map.mp hq
    rw [← hz])) ((T.setVm vm').setCell a (vp_cell (g.2.2 kd) (n1, .inr (.inr (.inr (.inr (va_cpy f gg sp.toNatClampNeg dp.toNatClampNeg n.toNatClampNeg))))))) (by rw [← hT]; rfl) X'
  exact ⟨t, step t a1, b1⟩
end JA
