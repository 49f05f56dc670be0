/-! ARRAY STORES THAT ARE REFUSED, and the method 'as' -/
theorem jm_aastore_wrong {Q : Unit → Pre} {E : CtlPost} {e : Env} {d : Bool} {acts : List Action} {s : State} {f : JFrame} {a v : Addr} {i : Int32} {rest : List Value} {c cv : Cell} {k kv kcomp : Class} {comp : ClassId} {t : FieldType}
    (hs : s.topJava?.isSome) (hstack : f.stack = .ref v :: .int i :: .ref a :: rest) (hcell : s.heap[a]? = some c) (hobj : ∀ x, c.vm ≠ .statics x) (hknown : c.vm ≠ .unknown)
    (hk : s.vm.classes[c.cls]? = some k) (hkind : k.kind = .array comp t) (hi : ¬ i < 0) (hlt : i.toNatClampNeg < c.slots.size)
    (hv : s.heap[v]? = some cv) (hvobj : ∀ x, cv.vm ≠ .statics x) (hkv : s.vm.classes[cv.cls]? = some kv) (hkcomp : s.vm.classes[comp]? = some kcomp)
    (hinst : s.vm.assignable cv.cls comp = false) :
    wp Op.aastore.sem Q E e d acts (s.setTop f) ↔ E (.throwNew "java/lang/ArrayStoreException" (some kv.shown)) acts (s.setTop { f with stack := rest }) := by
  have harr : s.isArray c := ⟨hobj, k, hk, comp, t, hkind⟩
  simp [Op.aastore.sem, hs, hstack, hcell, hobj, hknown, hk, hkind, hi, hlt, Nat.not_le.mpr hlt, harr, hv, hvobj, hkv, hkcomp, hinst]
theorem jm_shown {vm : Vm} {C : String} {c : ClassId} {k : Class} (h : vm.findClass C = some c) (hk : vm.classes[c]? = some k) : k.shown = dotted C := by
  unfold Vm.findClass at h
  rw [Array.findIdx?_eq_some_iff_getElem] at h
  obtain ⟨h1, h2, -⟩ := h
  rw [Array.getElem?_eq_getElem h1] at hk
  cases hk
  simp only [Bool.and_eq_true, beq_iff_eq] at h2
  unfold Class.shown
  have h3 := h2.1.1.2
  rw [Option.isNone_iff_eq_none] at h3
  rw [h3, h2.1.1.1]
section JASE
variable {p : Program} {l : Launch} {e : Env} {R : Room} {s : State} {m : MethodId} {args : Array Value} {below : List Frame} {meth : Method} {c : Code} {H : Heap} {locs : List Loc} {cells slots : Nat} {Q : State → Prop}
variable {cc : ByteArray} {pc : Nat} {ls : Array Slot} {rest : List Value} {g : GD} {b : Nat} {M0 Mf M : Mem}
theorem jw_ase0 (hx : p.tables.exec = Jvm.exec) (hb : c.code = cc) {a v : Nat} {i : Int32} {cA cv : Cell} {k kv kcomp : Class} {comp : ClassId} {t : FieldType} (hdg : decode cc pc = .ok (.aastore, 1))
    (hcell : H[a]? = some cA) (hobj : ∀ x, cA.vm ≠ .statics x) (hknown : cA.vm ≠ .unknown) (hk : s.vm.classes[cA.cls]? = some k) (hkind : k.kind = .array comp t) (hi : ¬ i < 0) (hlt : i.toNatClampNeg < cA.slots.size)
    (hv : H[v]? = some cv) (hvobj : ∀ x, cv.vm ≠ .statics x) (hkv : s.vm.classes[cv.cls]? = some kv) (hkcomp : s.vm.classes[comp]? = some kcomp) (hinst : s.vm.assignable cv.cls comp = false) {C : String} (hC : s.vm.findClass C = some cv.cls)
    (kk : vx_Note p l e R s m args below meth c H locs cells slots Q (F0 m pc ls rest) "java/lang/ArrayStoreException" (dotted C)) : W p l e R s m args below meth c H locs cells slots Q (F0 m pc ls (.ref v :: .int i :: .ref a :: rest)) := by
  intro T hT X
  obtain ⟨t2, st, q⟩ := kk T hT X
  have hA := X.warmed.alike
  obtain ⟨k1, hk1, ek1⟩ := hA.2.2 _ _ hk
  obtain ⟨k2, hk2, ek2⟩ := hA.2.2 _ _ hkv
  obtain ⟨k3, hk3, ek3⟩ := hA.2.2 _ _ hkcomp
  have hsh : k2.shown = dotted C := jm_shown (vm := T.vm) (by rw [hA.findClass]; exact hC) hk2
  refine ⟨t2, ?_, q⟩
  jvm_step X.here [hx, hb, hdg, jm_aastore_wrong (f := F0 m pc ls (.ref v :: .int i :: .ref a :: rest)) X.here.top rfl (by rw [hT]; exact hcell) hobj hknown hk1 (by rw [ek1]; exact hkind) hi hlt (by rw [hT]; exact hv) hvobj hk2 hk3 (by rw [hA.assignable]; exact hinst)]
  rw [hsh]
  exact st
end JASE
/-- cells and slots in use that no one names -/
def jm_sk {β : Type} (c n : Nat) (k : jm_P β) : jm_P β := ⟨fun M => k.1 (M.1 + c, M.2.1 + n, M.2.2), fun M r M' h => by
  have h1 := k.2 _ _ _ h
  exact ⟨Nat.le_trans (Nat.le_add_right _ _) h1.1, Nat.le_trans (Nat.le_add_right _ _) h1.2⟩⟩
theorem jm_sk_eq {β : Type} {c n : Nat} {k : jm_P β} {M : Mem} : (jm_sk c n k).1 M = k.1 (M.1 + c, M.2.1 + n, M.2.2) := rfl
/-- an array's kind -/
def jm_kd (r : Option Nat) (M : Mem) : Option Nat := match r with
  | none => none
  | some a => match M.2.2 a with
    | some (.inl x) => some x.1
    | _ => none
/-- which classes an array of a kind takes, and which it refuses -/
def jm_oks (kd : Nat) : List Nat := if kd = 7 then [5, 6, 7, 8, 10] else if kd = 8 then [10] else if kd = 4 then [5, 6] else if kd = 9 then [6] else if kd = 5 then [7, 8] else if kd = 10 then [8] else []
def jm_bds (kd : Nat) : List Nat := if kd = 8 then [5, 6, 7, 8] else if kd = 4 then [10, 7, 8] else if kd = 9 then [10, 5, 7, 8] else if kd = 5 then [10, 5, 6] else if kd = 10 then [10, 5, 6, 7] else []
def jm_elt (kd : Nat) : String := if kd = 7 then "ChainParts$Cell" else if kd = 8 then "ChainParts$PointCell" else if kd = 4 then "ChainParts$EdgeCell" else if kd = 9 then "ChainParts$LoopCell" else if kd = 5 then "ChainParts$FaceCell" else "ChainParts$SealedCell"
def jm_okN (C : String) : Prop := (dotted C == notModelled) = false ∧ (stringBytes (stringToUtf16 (dotted C))).size ≤ 22
theorem jm_okN5 : jm_okN RX5 := by unfold jm_okN; decide +kernel
theorem jm_okN6 : jm_okN RX6 := by unfold jm_okN; decide +kernel
theorem jm_okN7 : jm_okN RX7 := by unfold jm_okN; decide +kernel
theorem jm_okN8 : jm_okN RX8 := by unfold jm_okN; decide +kernel
theorem jm_okN10 : jm_okN RX10 := by unfold jm_okN; decide +kernel
theorem jm_bad {s : State} {g : GD} (hK : jm_KG g s) {kd q : Nat} (h : q ∈ jm_bds kd) : jm_ty[kd]? = some (.object (jm_elt kd)) ∧ ∃ (C : String) (T : u_T) (N : Nat), vwCl[q]? = some (C, T, N) ∧ va_Nc C (jm_elt kd) s ∧ jm_okN C := by
  have hn := hK.2.2.2.1
  unfold jm_bds at h
  split at h
  · subst kd
    simp only [List.mem_cons, List.not_mem_nil, or_false] at h
    refine ⟨rfl, ?_⟩
    rcases h with rfl | rfl | rfl | rfl
    · exact ⟨_, _, _, rfl, hn (RX5, "ChainParts$PointCell") (by decide), jm_okN5⟩
    · exact ⟨_, _, _, rfl, hn (RX6, "ChainParts$PointCell") (by decide), jm_okN6⟩
    · exact ⟨_, _, _, rfl, hn (RX7, "ChainParts$PointCell") (by decide), jm_okN7⟩
    · exact ⟨_, _, _, rfl, hn (RX8, "ChainParts$PointCell") (by decide), jm_okN8⟩
  split at h
  · subst kd
    simp only [List.mem_cons, List.not_mem_nil, or_false] at h
    refine ⟨rfl, ?_⟩
    rcases h with rfl | rfl | rfl
    · exact ⟨_, _, _, rfl, hn (RX10, "ChainParts$EdgeCell") (by decide), jm_okN10⟩
    · exact ⟨_, _, _, rfl, hn (RX7, "ChainParts$EdgeCell") (by decide), jm_okN7⟩
    · exact ⟨_, _, _, rfl, hn (RX8, "ChainParts$EdgeCell") (by decide), jm_okN8⟩
  split at h
  · subst kd
    simp only [List.mem_cons, List.not_mem_nil, or_false] at h
    refine ⟨rfl, ?_⟩
    rcases h with rfl | rfl | rfl | rfl
    · exact ⟨_, _, _, rfl, hn (RX10, "ChainParts$LoopCell") (by decide), jm_okN10⟩
    · exact ⟨_, _, _, rfl, hn (RX5, "ChainParts$LoopCell") (by decide), jm_okN5⟩
    · exact ⟨_, _, _, rfl, hn (RX7, "ChainParts$LoopCell") (by decide), jm_okN7⟩
    · exact ⟨_, _, _, rfl, hn (RX8, "ChainParts$LoopCell") (by decide), jm_okN8⟩
  split at h
  · subst kd
    simp only [List.mem_cons, List.not_mem_nil, or_false] at h
    refine ⟨rfl, ?_⟩
    rcases h with rfl | rfl | rfl
    · exact ⟨_, _, _, rfl, hn (RX10, "ChainParts$FaceCell") (by decide), jm_okN10⟩
    · exact ⟨_, _, _, rfl, hn (RX5, "ChainParts$FaceCell") (by decide), jm_okN5⟩
    · exact ⟨_, _, _, rfl, hn (RX6, "ChainParts$FaceCell") (by decide), jm_okN6⟩
  split at h
  · subst kd
    simp only [List.mem_cons, List.not_mem_nil, or_false] at h
    refine ⟨rfl, ?_⟩
    rcases h with rfl | rfl | rfl | rfl
    · exact ⟨_, _, _, rfl, hn (RX10, "ChainParts$SealedCell") (by decide), jm_okN10⟩
    · exact ⟨_, _, _, rfl, hn (RX5, "ChainParts$SealedCell") (by decide), jm_okN5⟩
    · exact ⟨_, _, _, rfl, hn (RX6, "ChainParts$SealedCell") (by decide), jm_okN6⟩
    · exact ⟨_, _, _, rfl, hn (RX7, "ChainParts$SealedCell") (by decide), jm_okN7⟩
  · cases h
theorem jm_good {s : State} {g : GD} (hK : jm_KG g s) {kd q : Nat} (h : q ∈ jm_oks kd) : jm_ty[kd]? = some (.object (jm_elt kd)) ∧ jm_asg s g (jm_elt kd) (jm_oks kd) := by
  unfold jm_oks at h
  split at h
  · subst kd
    refine ⟨rfl, fun q hq => ?_⟩
    have hq : q ∈ [5, 6, 7, 8, 10] := hq
    simp only [List.mem_cons, List.not_mem_nil, or_false] at hq
    rcases hq with rfl | rfl | rfl | rfl | rfl
    · exact ⟨RX5, TX5, 3, rfl, fun comp h => jm_asg_cast hK (C := RX5) rfl nq1427 comp h⟩
    · exact ⟨RX6, TX6, 3, rfl, fun comp h => jm_asg_cast hK (C := RX6) rfl nq1426 comp h⟩
    · exact ⟨RX7, TX7, 2, rfl, fun comp h => jm_asg_cast hK (C := RX7) rfl nq1428 comp h⟩
    · exact ⟨RX8, TX8, 2, rfl, fun comp h => jm_asg_cast hK (C := RX8) rfl nq1429 comp h⟩
    · exact ⟨RX10, TX10, 0, rfl, fun comp h => jm_asg_cast hK (C := RX10) rfl nq1430 comp h⟩
  split at h
  · subst kd
    refine ⟨rfl, fun q hq => ?_⟩
    have hq : q ∈ [10] := hq
    simp only [List.mem_cons, List.not_mem_nil, or_false] at hq
    subst hq
    exact ⟨RX10, TX10, 0, rfl, fun comp h => jm_asg_self hK (C := RX10) rfl comp h⟩
  split at h
  · subst kd
    exact ⟨rfl, as_4 hK⟩
  split at h
  · subst kd
    refine ⟨rfl, fun q hq => ?_⟩
    have hq : q ∈ [6] := hq
    simp only [List.mem_cons, List.not_mem_nil, or_false] at hq
    subst hq
    exact ⟨RX6, TX6, 3, rfl, fun comp h => jm_asg_self hK (C := RX6) rfl comp h⟩
  split at h
  · subst kd
    exact ⟨rfl, as_5 hK⟩
  split at h
  · subst kd
    refine ⟨rfl, fun q hq => ?_⟩
    have hq : q ∈ [8] := hq
    simp only [List.mem_cons, List.not_mem_nil, or_false] at hq
    subst hq
    exact ⟨RX8, TX8, 2, rfl, fun comp h => jm_asg_self hK (C := RX8) rfl comp h⟩
  · cases h
theorem jm_vmIn : ∀ w ∈ (vx_atM "java/lang/ArrayStoreException" [RJ3, RJ1]).filter goodWord, w ∈ lw_all := lw_in ((vx_atM "java/lang/ArrayStoreException" [RJ3, RJ1]).filter goodWord)
  [75, 194, 203, 206, 209, 211, 195, 196, 99, 100, 197, 202, 207, 228, 184, 229, 186, 230, 188, 198, 200, 190, 220, 221, 227, 190, 568, 569, 570, 571, 571, 572, 573, 217, 217, 218, 219, 220, 88, 585, 125, 586, 588, 587, 589, 87, 567, 584, 205, 576, 577, 579, 575, 193, 192, 574] (by decide +kernel) (by decide +kernel)
theorem jm_vmOut : (vx_atM "java/lang/ArrayStoreException" [RJ3, RJ1]).filter (fun w => !goodWord w) = [.declares (Bundle.initS RJ3), .declares (Bundle.initS RJ1), .declares (Bundle.initS Bundle.tN), .castable "java/lang/ArrayStoreException" "java/lang/ArrayStoreException"] := by decide +kernel
section JASE2
variable {p : Program} {l : Launch} {e : Env} {R : Room} {s : State} {m : MethodId} {args : Array Value} {below : List Frame} {meth : Method} {c : Code} {H : Heap} {locs : List Loc} {cells slots : Nat} {Q : State → Prop}
variable {cc : ByteArray} {pc : Nat} {ls : Array Slot} {rest : List Value} {g : GD} {b : Nat} {M0 Mf M : Mem}
variable {own : String} {nL : Nat} {rt : Option FieldType}
/-- the store is refused, and caught here -/
theorem jw_aseH {sa kd cpc : Nat} {r v w : Option Nat} {i : Int32} {y : Nat × Nat} {z : ExceptionTableEntry} (hl0 : l.stackTraces = false) (C0 : jm_Cx p s m args meth c cc nL rt own) (hK : jm_KG g s) (hKX : jm_KX b sa s s.heap) (hst : jm_St g b M0 Mf M s R H locs cells slots)
    (hy : jm_kl v M = some y) (hld : jm_ldR kd r i M = some w) (hbad : y.2 ∈ jm_bds kd) (hle : jm_le (M.1 + 3, M.2.1 + 32, M.2.2) Mf) (hsz : ls.size = nL) (hfr : 6 < R.frames) (hlo : 10300 ≤ R.locals) (hrest : (rest.map fun v => v.category).sum ≤ 8)
    (ht : c.exceptionTable.toList = [z]) (hcov : covers z pc = true) (h0 : z.catchType ≠ 0) (hlink : Cond.classLink own z.catchType "java/lang/ArrayStoreException" ∈ lw_all) (hpc : z.handlerPc = cpc) (hdg : decode cc pc = .ok (.aastore, 1))
    (kk : ∀ (q9 : Nat) (H1 : Heap) (cells1 slots1 : Nat), jm_St g b M0 Mf (M.1 + 3, M.2.1 + 32, M.2.2) s R H1 locs cells1 slots1 → W p l e R s m args below meth c H1 locs cells1 slots1 Q (F0 m cpc ls [va_rf (some q9)])) : W p l e R s m args below meth c H locs cells slots Q (F0 m pc ls (va_rf v :: .int i :: va_rf r :: rest)) := by
  obtain ⟨hx, hb, hml, hown, hts, -, hlk⟩ := C0
  obtain ⟨fs, rfl, hy2⟩ := jm_kl_some hy
  obtain ⟨a, n, f, rfl, h2, h3, rfl⟩ := jm_ldR_some hld
  obtain ⟨hty, C, T, N, hc, ⟨c1, t1, n1, n2, n3⟩, hN⟩ := jm_bad hK hbad
  obtain ⟨r', hr', cellV, v1, v2, v3, -⟩ := (hst.1.2.2 y.1 _ hy2).2
  obtain ⟨kA, comp, k1, k2, k3, -⟩ := (jm_ra hK hty).2
  have hcls := (hK.1.1 y.2 _ hc).2
  obtain ⟨kC, hkC, -⟩ := hcls.2
  obtain ⟨kE, hkE, -⟩ := Vm.findClass_spec k3
  cases n1.symm.trans hcls.1
  cases n2.symm.trans k3
  have hlt : i.toNatClampNeg < n := Nat.not_le.mp fun q => h3 (Or.inr q)
  have hsz0 : (vp_cell (g.2.2 kd) (n, .inr (.inr (.inr (.inr f))))).slots.size = n := jm_vp_size _ _
  have hgd : ∀ w ∈ vx_atM "java/lang/ArrayStoreException" [RJ3, RJ1], vx_ot w = true := by decide +kernel
  have hat : ∀ w ∈ vx_atM "java/lang/ArrayStoreException" [RJ3, RJ1], w.before args s = true :=
    vx_hat (B := [.declares (Bundle.initS RJ3), .declares (Bundle.initS RJ1), .declares (Bundle.initS Bundle.tN), .castable "java/lang/ArrayStoreException" "java/lang/ArrayStoreException"]) (fun w hw => hts w (jm_vmIn w hw)) (fun w hw => by rw [jm_vmOut] at hw; exact hw)
      (vx_c (va_Nw.use rfl (hKX.2.2.2 _ (by simp [jm_dcl]))) (vx_c (va_Nw.use rfl (hKX.2.2.2 _ (by simp [jm_dcl]))) (vx_c (va_Nw.use rfl (hKX.2.2.2 _ (by simp [jm_dcl]))) (vx_c (va_Nw.use rfl (hK.2.1 _ nq581)) vx_n))))
  obtain ⟨hR, hS, q1, q2, q3, q4⟩ := id hst
  have e1 : M.1 + 3 ≤ Mf.1 := hle.1
  have e2 : M.2.1 + 32 ≤ Mf.2.1 := hle.2
  refine jw_ase0 (C := C) hx hb hdg ((hst.1.one h2) 0 _ rfl) (fun q h => by cases h) (fun h => by cases h) k1 k2 (fun q => h3 (Or.inl q)) (by show _ < (vp_cell (g.2.2 kd) (n, .inr (.inr (.inr (.inr f))))).slots.size; rw [hsz0]; exact hlt) v1 (fun q h => by rw [v3] at h; cases h) (by rw [v2]; exact hkC) hkE (by rw [v2]; exact n3) (by rw [v2]; exact hcls.1) ?_
  refine jm_vm (A := fun q => b ≤ q) (names := [RJ3, RJ1]) (nb := 22) hx hl0 (by decide +kernel) (by decide +kernel) (by decide +kernel) (by decide +kernel) hat hgd hKX.2.1 hKX.2.2.1 hS (hsz.trans hml.symm) hN.1 hN.2 (by decide) hfr (by omega) (by decide) (by omega) (by omega) hlk ?_
  intro H1 q9 ce g1 g2 g3 g4 g5 g6
  subst hpc
  refine vx_catch hown [] z [] ht (fun _ h => by cases h) hcov h0 (hts _ hlink) (va_Nw.use rfl (hK.2.1 _ nq581)) g4 g5 g6 ?_
  refine kk q9 H1 _ _ ⟨⟨by rw [g1, hR.1], Nat.le_trans hR.2.1 (Nat.le_add_right _ _), fun q x hq => ⟨(hR.2.2 q x hq).1, (hR.2.2 q x hq).2.kept (g2 q (by rw [hR.1]; exact hR.lt hq))⟩⟩, g3, ?_, ?_, q3, q4⟩
  · show M0.1 + (cells + 3) = M.1 + 3
    omega
  · show M0.2.1 + (slots + (22 + 10)) = M.2.1 + 32
    omega
end JASE2
