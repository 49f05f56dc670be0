/-! THE START: the claim out of the plain law (jm_PLAW) -/
/-- the plain law: on every script the pure function of the law answers 1, and makes no more cells and slots than the claim allows -/
def jm_PLAW : Prop := ∀ (L sc B : Nat) (xs : Nat → Int32), L ≤ 320 → ∃ (N : Nat) (M' : Mem), (jf_L_law N sc L xs (some sc)).1 (B, 0, fun _ => none) = some (1, M') ∧ M'.1 ≤ B + 1170206 ∧ M'.2.1 ≤ 5575248
theorem jx_str {cls : String} {index cur : Nat} {text : String} {A : Array Value} {s : State} (hcur : s.vm.findClass cls = some cur) (h : (Cond.stringRef cls index text).before A s = true) : ∃ a : Nat, vk_R cls index text a s := by
  obtain ⟨k, cf, i, a, -, -, -, -, -, hev⟩ := Cond.stringRef_spec hcur h
  exact ⟨a, vk_R.of h hev⟩
theorem jx_arr {t : FieldType} {A : Array Value} {s : State} (h : (Cond.arrayClass t).before A s = true) : ∃ cA : ClassId, ArrOfT s cA t ∧ s.vm.findClass ("[" ++ t.toString) = some cA := by
  obtain ⟨cA, kA, comp, h1, h2, h3⟩ := Cond.arrayClass_spec h
  exact ⟨cA, fun n z => ⟨fun k h => (by cases h), kA, h2, comp, h3⟩, h1⟩
theorem jx_arrO {C : String} {A : Array Value} {s : State} (h : (Cond.arrayOver (.object C)).before A s = true) : ∃ cA : ClassId, ArrOfT s cA (.object C) ∧ va_RA s cA (.object C) := by
  obtain ⟨comp, cA, kA, h1, -, h2, h3, h4⟩ := Cond.arrayOver_spec h
  exact ⟨cA, fun n z => ⟨fun k h => (by cases h), kA, h2, comp, h3⟩, kA, comp, h2, h3, h1, h4⟩
theorem jx_arrA {t : FieldType} {A : Array Value} {s : State} (h : (Cond.arrayOver (.array t)).before A s = true) : ∃ (comp cA : ClassId) (kA : Class), s.vm.findClass (FieldType.array t).toString = some comp ∧ s.vm.classes[cA]? = some kA ∧ kA.kind = .array comp (.array t) ∧ s.vm.findClass ("[" ++ (FieldType.array t).toString) = some cA := by
  have h : (Cond.arrayOver (.array t)).holds A s none s [] = true := h
  simp only [Cond.holds, Cond.value, beq_iff_eq] at h
  cases hc : s.vm.findClass (FieldType.array t).toString with
  | none => simp [hc] at h
  | some comp =>
    simp only [hc, Option.bind_some, Option.bind_eq_some_iff, Option.map_eq_some_iff] at h
    obtain ⟨c, hi, k, hk, hb⟩ := h
    obtain ⟨hlt, hp, -⟩ := Array.findIdx?_eq_some_iff_getElem.mp hi
    have hkk : s.vm.classes[c] = k := (Array.getElem?_eq_some_iff.mp hk).2
    rw [hkk] at hp
    cases hkind : k.kind with
    | array component ty =>
      rw [hkind] at hb hp
      simp at hb hp
      exact ⟨comp, c, k, rfl, hk, by rw [hkind, hp, hb.1], hb.2⟩
    | _ => rw [hkind] at hb; simp at hb
theorem jx_pick {α : Type} (d : α) (ks : List α) : ∃ f : Nat → α, ∀ (k : Nat) (x : α), ks[k]? = some x → f k = x := ⟨fun k => ks.getD k d, fun k x h => by simp [List.getD, h]⟩
set_option maxHeartbeats 8000000 in
set_option maxRecDepth 100000 in
theorem jx_world {A : Array Value} {s : State} (hts : ∀ w ∈ lw_tbl, w.before A s = true) (hgv : (Jvm.Cond.and given_1 narrow_1).before A s = true) : ∃ g : GD, jm_KG g s := by
  have ha : ∀ w ∈ lw_all, w.before A s = true := fun w h => hts w (lw_all_tbl h)
  have hn := flat_of_before _ hgv
  obtain ⟨c0, i0, K0⟩ := u_known (C := RX0) (T := TX0) (N := 7) (n := 7) ha in_X0 (ha _ q94)
  obtain ⟨c1, i1, K1⟩ := u_known (C := RX1) (T := TX1) (N := 24) (n := 24) ha in_X1 (ha _ q928)
  obtain ⟨c2, i2, K2⟩ := u_known (C := RX2) (T := TX2) (N := 3) (n := 3) ha in_X2 (ha _ q142)
  obtain ⟨c3, i3, K3⟩ := u_known (C := RX3) (T := TX3F) (N := 2) (n := 8) ha in_X3F (ha _ q175)
  obtain ⟨c4, i4, K4⟩ := u_known (C := RX12) (T := TX12) (N := 2) (n := 2) ha in_X12 (ha _ q832)
  obtain ⟨c5, i5, K5⟩ := u_known (C := RX5) (T := TX5) (N := 3) (n := 3) ha in_X5 (ha _ q300)
  obtain ⟨c6, i6, K6⟩ := u_known (C := RX6) (T := TX6) (N := 3) (n := 3) ha in_X6 (ha _ q268)
  obtain ⟨c7, i7, K7⟩ := u_known (C := RX7) (T := TX7) (N := 2) (n := 2) ha in_X7 (ha _ q322)
  obtain ⟨c8, i8, K8⟩ := u_known (C := RX8) (T := TX8) (N := 2) (n := 2) ha in_X8 (ha _ q347)
  obtain ⟨c9, i9, K9⟩ := u_known (C := RX9) (T := TX9) (N := 4) (n := 4) ha in_X9 (ha _ q356)
  obtain ⟨c10, i10, K10⟩ := u_known (C := RX10) (T := TX10) (N := 0) (n := 0) ha (fun w h => by cases h) (ha _ q600)
  obtain ⟨c11, i11, K11⟩ := u_known (C := RX11) (T := TX11) (N := 3) (n := 3) ha in_X11 (ha _ q616)
  obtain ⟨c12, i12, K12⟩ := u_known (C := RX12) (T := TX12) (N := 2) (n := 2) ha in_X12 (ha _ q832)
  obtain ⟨dC, hdC⟩ := jx_pick 0 [c0, c1, c2, c3, c4, c5, c6, c7, c8, c9, c10, c11, c12]
  obtain ⟨dI, hdI⟩ := jx_pick (fun _ => 0) [i0, i1, i2, i3, i4, i5, i6, i7, i8, i9, i10, i11, i12]
  have hKc : ∀ (k : Nat) (q : vw_C), vwCl[k]? = some q → u_Kn s q.1 q.2.1 q.2.2 (dC k) (dI k) := by
    intro k q hq
    match k, hq with
    | 0, hq => cases hq; rw [hdC 0 c0 rfl, hdI 0 i0 rfl]; exact K0
    | 1, hq => cases hq; rw [hdC 1 c1 rfl, hdI 1 i1 rfl]; exact K1
    | 2, hq => cases hq; rw [hdC 2 c2 rfl, hdI 2 i2 rfl]; exact K2
    | 3, hq => cases hq; rw [hdC 3 c3 rfl, hdI 3 i3 rfl]; exact K3
    | 4, hq => cases hq; rw [hdC 4 c4 rfl, hdI 4 i4 rfl]; exact K4
    | 5, hq => cases hq; rw [hdC 5 c5 rfl, hdI 5 i5 rfl]; exact K5
    | 6, hq => cases hq; rw [hdC 6 c6 rfl, hdI 6 i6 rfl]; exact K6
    | 7, hq => cases hq; rw [hdC 7 c7 rfl, hdI 7 i7 rfl]; exact K7
    | 8, hq => cases hq; rw [hdC 8 c8 rfl, hdI 8 i8 rfl]; exact K8
    | 9, hq => cases hq; rw [hdC 9 c9 rfl, hdI 9 i9 rfl]; exact K9
    | 10, hq => cases hq; rw [hdC 10 c10 rfl, hdI 10 i10 rfl]; exact K10
    | 11, hq => cases hq; rw [hdC 11 c11 rfl, hdI 11 i11 rfl]; exact K11
    | 12, hq => cases hq; rw [hdC 12 c12 rfl, hdI 12 i12 rfl]; exact K12
    | k + 13, hq => simp [vwCl] at hq
  obtain ⟨a_int, x_int, y_int⟩ := jx_arr (t := .int) (ha _ q339)
  obtain ⟨a_byte, x_byte, y_byte⟩ := jx_arr (t := .byte) (ha _ q125)
  obtain ⟨a_long, x_long, y_long⟩ := jx_arr (t := .long) (ha _ q637)
  obtain ⟨a_boolean, x_boolean, y_boolean⟩ := jx_arr (t := .boolean) (ha _ q1006)
  obtain ⟨a_Edge, x_Edge, y_Edge⟩ := jx_arrO (C := "ChainParts$EdgeCell") (hts _ q263)
  obtain ⟨a_Face, x_Face, y_Face⟩ := jx_arrO (C := "ChainParts$FaceCell") (hts _ q307)
  obtain ⟨a_Complex, x_Complex, y_Complex⟩ := jx_arrO (C := "ChainParts$Complex") (hts _ q102)
  obtain ⟨a_Cell, x_Cell, y_Cell⟩ := jx_arrO (C := "ChainParts$Cell") (hts _ q595)
  obtain ⟨a_Point, x_Point, y_Point⟩ := jx_arrO (C := "ChainParts$PointCell") (hts _ q597)
  obtain ⟨a_Loop, x_Loop, y_Loop⟩ := jx_arrO (C := "ChainParts$LoopCell") (hts _ q598)
  obtain ⟨a_Sealed, x_Sealed, y_Sealed⟩ := jx_arrO (C := "ChainParts$SealedCell") (hts _ q599)
  obtain ⟨a_Fraction, x_Fraction, y_Fraction⟩ := jx_arrO (C := "ChainParts$Fraction") (hts _ q831)
  obtain ⟨comp12, a12, k12, e12, f12, g12, n12⟩ := jx_arrA (t := .int) (hts _ q358)
  obtain ⟨comp13, a13, k13, e13, f13, g13, n13⟩ := jx_arrA (t := .long) (hts _ q622)
  have ei : comp12 = a_int := by
    have e : (FieldType.array .int).toString = "[" ++ FieldType.int.toString := by decide +kernel
    rw [e, y_int] at e12
    exact (Option.some.inj e12).symm
  have ej : comp13 = a_long := by
    have e : (FieldType.array .long).toString = "[" ++ FieldType.long.toString := by decide +kernel
    rw [e, y_long] at e13
    exact (Option.some.inj e13).symm
  obtain ⟨dA, hdA⟩ := jx_pick 0 [a_int, a_byte, a_long, a_boolean, a_Edge, a_Face, a_Complex, a_Cell, a_Point, a_Loop, a_Sealed, a_Fraction, a12, a13]
  refine ⟨(dC, dI, dA), ⟨hKc, ?_⟩, ?_, ?_, ?_, ?_⟩
  · intro k q hq
    have hz : k < 14 := (List.getElem?_eq_some_iff.mp hq).1
    match k, hq with
    | 0, hq => cases hq; show ArrOfT s (dA 0) _ ∧ va_RA s (dA 0) _; rw [hdA 0 a_int rfl]; exact ⟨x_int, y_int⟩
    | 1, hq => cases hq; show ArrOfT s (dA 1) _ ∧ va_RA s (dA 1) _; rw [hdA 1 a_byte rfl]; exact ⟨x_byte, y_byte⟩
    | 2, hq => cases hq; show ArrOfT s (dA 2) _ ∧ va_RA s (dA 2) _; rw [hdA 2 a_long rfl]; exact ⟨x_long, y_long⟩
    | 3, hq => cases hq; show ArrOfT s (dA 3) _ ∧ va_RA s (dA 3) _; rw [hdA 3 a_boolean rfl]; exact ⟨x_boolean, y_boolean⟩
    | 4, hq => cases hq; show ArrOfT s (dA 4) _ ∧ va_RA s (dA 4) _; rw [hdA 4 a_Edge rfl]; exact ⟨x_Edge, y_Edge⟩
    | 5, hq => cases hq; show ArrOfT s (dA 5) _ ∧ va_RA s (dA 5) _; rw [hdA 5 a_Face rfl]; exact ⟨x_Face, y_Face⟩
    | 6, hq => cases hq; show ArrOfT s (dA 6) _ ∧ va_RA s (dA 6) _; rw [hdA 6 a_Complex rfl]; exact ⟨x_Complex, y_Complex⟩
    | 7, hq => cases hq; show ArrOfT s (dA 7) _ ∧ va_RA s (dA 7) _; rw [hdA 7 a_Cell rfl]; exact ⟨x_Cell, y_Cell⟩
    | 8, hq => cases hq; show ArrOfT s (dA 8) _ ∧ va_RA s (dA 8) _; rw [hdA 8 a_Point rfl]; exact ⟨x_Point, y_Point⟩
    | 9, hq => cases hq; show ArrOfT s (dA 9) _ ∧ va_RA s (dA 9) _; rw [hdA 9 a_Loop rfl]; exact ⟨x_Loop, y_Loop⟩
    | 10, hq => cases hq; show ArrOfT s (dA 10) _ ∧ va_RA s (dA 10) _; rw [hdA 10 a_Sealed rfl]; exact ⟨x_Sealed, y_Sealed⟩
    | 11, hq => cases hq; show ArrOfT s (dA 11) _ ∧ va_RA s (dA 11) _; rw [hdA 11 a_Fraction rfl]; exact ⟨x_Fraction, y_Fraction⟩
    | 12, hq => cases hq; show ArrOfT s (dA 12) _ ∧ va_RA s (dA 12) _; rw [hdA 12 a12 rfl]; exact ⟨fun n z => ⟨fun k h => (by cases h), k12, f12, comp12, g12⟩, n12⟩
    | 13, hq => cases hq; show ArrOfT s (dA 13) _ ∧ va_RA s (dA 13) _; rw [hdA 13 a13 rfl]; exact ⟨fun n z => ⟨fun k h => (by cases h), k13, f13, comp13, g13⟩, n13⟩
    | k + 14, hq => omega
  · intro w hw; exact va_Nw.of (by have := jm_nw_isn w hw; cases w <;> first | rfl | cases this) (hts w (jm_nw_tbl w hw))
  · intro C hC
    simp only [jm_aoC, List.mem_cons, List.not_mem_nil, or_false] at hC
    rcases hC with rfl | rfl | rfl | rfl | rfl | rfl | rfl | rfl
    · exact va_AO.of (A := A) (hts _ q263)
    · exact va_AO.of (A := A) (hts _ q307)
    · exact va_AO.of (A := A) (hts _ q102)
    · exact va_AO.of (A := A) (hts _ q595)
    · exact va_AO.of (A := A) (hts _ q597)
    · exact va_AO.of (A := A) (hts _ q598)
    · exact va_AO.of (A := A) (hts _ q599)
    · exact va_AO.of (A := A) (hts _ q831)
  · intro q hq
    simp only [jm_nc, List.mem_cons, List.not_mem_nil, or_false] at hq
    rcases hq with rfl | rfl | rfl | rfl | rfl | rfl | rfl | rfl | rfl | rfl | rfl | rfl | rfl | rfl | rfl | rfl | rfl | rfl
    all_goals exact va_Nc.of (args := A) (hn _ (by decide +kernel))
  · refine ⟨⟨k12, ?_, ?_⟩, ⟨k13, ?_, ?_⟩, ?_, ?_⟩
    · show s.vm.classes[dA 12]? = _
      rw [hdA 12 a12 rfl]; exact f12
    · show k12.kind = .array (dA 0) _
      rw [hdA 0 a_int rfl, ← ei]; exact g12
    · show s.vm.classes[dA 13]? = _
      rw [hdA 13 a13 rfl]; exact f13
    · show k13.kind = .array (dA 2) _
      rw [hdA 2 a_long rfl, ← ej]; exact g13
    · have := hts _ q358
      unfold Cond.before Cond.holds at this ⊢
      simp only [Cond.value] at this ⊢
      exact this
    · have := hts _ q622
      unfold Cond.before Cond.holds at this ⊢
      simp only [Cond.value] at this ⊢
      exact this
