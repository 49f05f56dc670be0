/-! STATES: the classes, the words that ride along, the abstract heap over the machine's heap -/
def TX10 : u_T := fun _ => ("", "", "", false)
def tyX10 : Nat → FieldType := fun _ => .int
abbrev RX3F : String := RX3
def TX3F : u_T := fun k => match k with
  | 0 => ("ChainParts$Fault", "kind", "I", true)
  | _ => ("ChainParts$Fault", "place", "I", true)
def tyX3F : Nat → FieldType := fun _ => .int
theorem nmX3F : ∀ a, a < 2 → ∀ b, b < 2 → a ≠ b → (TX3F a).2.1 ≠ (TX3F b).2.1 := by decide +kernel
theorem tyX3F_ok : ∀ k, k < 2 → parseFieldDescriptor (TX3F k).2.2.1 = some (tyX3F k) := by decide +kernel
theorem in_X3F : ∀ w ∈ u_ws RX3 TX3F 2, w ∈ lw_all := lw_in (u_ws RX3 TX3F 2) [231, 233] (by decide +kernel) (by decide +kernel)
abbrev vwCl : List vw_C := [(RX0, TX0, 7), (RX1, TX1, 24), (RX2, TX2, 3), (RX3, TX3F, 2), (RX12, TX12, 2), (RX5, TX5, 3), (RX6, TX6, 3), (RX7, TX7, 2), (RX8, TX8, 2), (RX9, TX9, 4), (RX10, TX10, 0), (RX11, TX11, 3), (RX12, TX12, 2)]
def jm_nw : List Cond := [
  Jvm.Cond.castable "java/lang/ArrayStoreException" "java/lang/ArrayStoreException",
  Jvm.Cond.methodLinkNest "ChainParts" (152 : Nat) ({ cls := "ChainParts$Reader", name := "token", desc := "()I" } : Jvm.MethodName) "ChainParts",
  Jvm.Cond.methodLinkNest "ChainParts" (234 : Nat) ({ cls := "ChainParts$PointCell", name := "<init>", desc := "()V" } : Jvm.MethodName) "ChainParts",
  Jvm.Cond.fieldLinkNest "ChainParts" (242 : Nat) "ChainParts$Table" "at" "[[J" "ChainParts",
  Jvm.Cond.methodLinkNest "ChainParts$PointCell" (1 : Nat) ({ cls := "ChainParts$Cell", name := "<init>", desc := "()V" } : Jvm.MethodName) "ChainParts",
  Jvm.Cond.castable "ChainParts$PointCell" "ChainParts$Cell",
  Jvm.Cond.methodLinkNest "ChainParts$Table" (42 : Nat) ({ cls := "ChainParts", name := "has", desc := "(II)Z" } : Jvm.MethodName) "ChainParts",
  Jvm.Cond.methodLinkNest "ChainParts$Table" (94 : Nat) ({ cls := "ChainParts", name := "common", desc := "(JJ)J" } : Jvm.MethodName) "ChainParts",
  Jvm.Cond.methodLinkNest "ChainParts$Fraction" (7 : Nat) ({ cls := "ChainParts", name := "common", desc := "(JJ)J" } : Jvm.MethodName) "ChainParts",
  Jvm.Cond.methodLinkNest "ChainParts$Reader" (31 : Nat) ({ cls := "ChainParts", name := "isIn", desc := "(JJJ)Z" } : Jvm.MethodName) "ChainParts",
  Jvm.Cond.methodLinkNest "ChainParts$Reader" (84 : Nat) ({ cls := "ChainParts", name := "edgeBy", desc := "(III)LChainParts$EdgeCell;" } : Jvm.MethodName) "ChainParts",
  Jvm.Cond.methodLinkNest "ChainParts$Reader" (94 : Nat) ({ cls := "ChainParts", name := "faceBy", desc := "([II)LChainParts$FaceCell;" } : Jvm.MethodName) "ChainParts",
  Jvm.Cond.castable "ChainParts$Fault" "ChainParts$Fault",
  Jvm.Cond.methodLinkNest "ChainParts$EdgeCell" (3 : Nat) ({ cls := "ChainParts$Cell", name := "<init>", desc := "()V" } : Jvm.MethodName) "ChainParts",
  Jvm.Cond.castable "ChainParts$EdgeCell" "ChainParts$Cell",
  Jvm.Cond.castable "ChainParts$LoopCell" "ChainParts$EdgeCell",
  Jvm.Cond.castable "ChainParts$LoopCell" "ChainParts$Cell",
  Jvm.Cond.methodLinkNest "ChainParts$FaceCell" (3 : Nat) ({ cls := "ChainParts$Cell", name := "<init>", desc := "()V" } : Jvm.MethodName) "ChainParts",
  Jvm.Cond.methodLinkNest "ChainParts$FaceCell" (28 : Nat) ({ cls := "ChainParts", name := "faceBy", desc := "([II)LChainParts$FaceCell;" } : Jvm.MethodName) "ChainParts",
  Jvm.Cond.castable "ChainParts$FaceCell" "ChainParts$Cell",
  Jvm.Cond.castable "ChainParts$SealedCell" "ChainParts$FaceCell",
  Jvm.Cond.castable "ChainParts$SealedCell" "ChainParts$Cell",
  Jvm.Cond.fieldLinkNest "ChainParts$Complex" (67 : Nat) "ChainParts$Table" "at" "[[J" "ChainParts",
  Jvm.Cond.fieldLinkNest "ChainParts$Complex" (77 : Nat) "ChainParts$Table" "rows" "I" "ChainParts",
  Jvm.Cond.fieldLinkNest "ChainParts$Complex" (64 : Nat) "ChainParts$Table" "columns" "I" "ChainParts",
  Jvm.Cond.methodLinkNest "ChainParts$Complex" (180 : Nat) ({ cls := "ChainParts", name := "common", desc := "(JJ)J" } : Jvm.MethodName) "ChainParts",
  Jvm.Cond.methodLinkNest "ChainParts$Complex" (188 : Nat) ({ cls := "ChainParts", name := "has", desc := "(II)Z" } : Jvm.MethodName) "ChainParts",
  Jvm.Cond.castable "[I" "java/lang/Cloneable",
  Jvm.Cond.castable "[J" "java/lang/Cloneable",
  Jvm.Cond.castable "[[I" "java/lang/Cloneable"]
theorem nq581 : (Jvm.Cond.castable "java/lang/ArrayStoreException" "java/lang/ArrayStoreException") ∈ jm_nw := List.mem_of_getElem? (i := 0) rfl
theorem nq465 : (Jvm.Cond.methodLinkNest "ChainParts" (152 : Nat) ({ cls := "ChainParts$Reader", name := "token", desc := "()I" } : Jvm.MethodName) "ChainParts") ∈ jm_nw := List.mem_of_getElem? (i := 1) rfl
theorem nq601 : (Jvm.Cond.methodLinkNest "ChainParts" (234 : Nat) ({ cls := "ChainParts$PointCell", name := "<init>", desc := "()V" } : Jvm.MethodName) "ChainParts") ∈ jm_nw := List.mem_of_getElem? (i := 2) rfl
theorem nq625 : (Jvm.Cond.fieldLinkNest "ChainParts" (242 : Nat) "ChainParts$Table" "at" "[[J" "ChainParts") ∈ jm_nw := List.mem_of_getElem? (i := 3) rfl
theorem nq604 : (Jvm.Cond.methodLinkNest "ChainParts$PointCell" (1 : Nat) ({ cls := "ChainParts$Cell", name := "<init>", desc := "()V" } : Jvm.MethodName) "ChainParts") ∈ jm_nw := List.mem_of_getElem? (i := 4) rfl
theorem nq1430 : (Jvm.Cond.castable "ChainParts$PointCell" "ChainParts$Cell") ∈ jm_nw := List.mem_of_getElem? (i := 5) rfl
theorem nq757 : (Jvm.Cond.methodLinkNest "ChainParts$Table" (42 : Nat) ({ cls := "ChainParts", name := "has", desc := "(II)Z" } : Jvm.MethodName) "ChainParts") ∈ jm_nw := List.mem_of_getElem? (i := 6) rfl
theorem nq764 : (Jvm.Cond.methodLinkNest "ChainParts$Table" (94 : Nat) ({ cls := "ChainParts", name := "common", desc := "(JJ)J" } : Jvm.MethodName) "ChainParts") ∈ jm_nw := List.mem_of_getElem? (i := 7) rfl
theorem nq837 : (Jvm.Cond.methodLinkNest "ChainParts$Fraction" (7 : Nat) ({ cls := "ChainParts", name := "common", desc := "(JJ)J" } : Jvm.MethodName) "ChainParts") ∈ jm_nw := List.mem_of_getElem? (i := 8) rfl
theorem nq253 : (Jvm.Cond.methodLinkNest "ChainParts$Reader" (31 : Nat) ({ cls := "ChainParts", name := "isIn", desc := "(JJJ)Z" } : Jvm.MethodName) "ChainParts") ∈ jm_nw := List.mem_of_getElem? (i := 9) rfl
theorem nq264 : (Jvm.Cond.methodLinkNest "ChainParts$Reader" (84 : Nat) ({ cls := "ChainParts", name := "edgeBy", desc := "(III)LChainParts$EdgeCell;" } : Jvm.MethodName) "ChainParts") ∈ jm_nw := List.mem_of_getElem? (i := 10) rfl
theorem nq318 : (Jvm.Cond.methodLinkNest "ChainParts$Reader" (94 : Nat) ({ cls := "ChainParts", name := "faceBy", desc := "([II)LChainParts$FaceCell;" } : Jvm.MethodName) "ChainParts") ∈ jm_nw := List.mem_of_getElem? (i := 11) rfl
theorem nq176 : (Jvm.Cond.castable "ChainParts$Fault" "ChainParts$Fault") ∈ jm_nw := List.mem_of_getElem? (i := 12) rfl
theorem nq275 : (Jvm.Cond.methodLinkNest "ChainParts$EdgeCell" (3 : Nat) ({ cls := "ChainParts$Cell", name := "<init>", desc := "()V" } : Jvm.MethodName) "ChainParts") ∈ jm_nw := List.mem_of_getElem? (i := 13) rfl
theorem nq1427 : (Jvm.Cond.castable "ChainParts$EdgeCell" "ChainParts$Cell") ∈ jm_nw := List.mem_of_getElem? (i := 14) rfl
theorem nq1424 : (Jvm.Cond.castable "ChainParts$LoopCell" "ChainParts$EdgeCell") ∈ jm_nw := List.mem_of_getElem? (i := 15) rfl
theorem nq1426 : (Jvm.Cond.castable "ChainParts$LoopCell" "ChainParts$Cell") ∈ jm_nw := List.mem_of_getElem? (i := 16) rfl
theorem nq326 : (Jvm.Cond.methodLinkNest "ChainParts$FaceCell" (3 : Nat) ({ cls := "ChainParts$Cell", name := "<init>", desc := "()V" } : Jvm.MethodName) "ChainParts") ∈ jm_nw := List.mem_of_getElem? (i := 17) rfl
theorem nq498 : (Jvm.Cond.methodLinkNest "ChainParts$FaceCell" (28 : Nat) ({ cls := "ChainParts", name := "faceBy", desc := "([II)LChainParts$FaceCell;" } : Jvm.MethodName) "ChainParts") ∈ jm_nw := List.mem_of_getElem? (i := 18) rfl
theorem nq1428 : (Jvm.Cond.castable "ChainParts$FaceCell" "ChainParts$Cell") ∈ jm_nw := List.mem_of_getElem? (i := 19) rfl
theorem nq1425 : (Jvm.Cond.castable "ChainParts$SealedCell" "ChainParts$FaceCell") ∈ jm_nw := List.mem_of_getElem? (i := 20) rfl
theorem nq1429 : (Jvm.Cond.castable "ChainParts$SealedCell" "ChainParts$Cell") ∈ jm_nw := List.mem_of_getElem? (i := 21) rfl
theorem nq624 : (Jvm.Cond.fieldLinkNest "ChainParts$Complex" (67 : Nat) "ChainParts$Table" "at" "[[J" "ChainParts") ∈ jm_nw := List.mem_of_getElem? (i := 22) rfl
theorem nq627 : (Jvm.Cond.fieldLinkNest "ChainParts$Complex" (77 : Nat) "ChainParts$Table" "rows" "I" "ChainParts") ∈ jm_nw := List.mem_of_getElem? (i := 23) rfl
theorem nq629 : (Jvm.Cond.fieldLinkNest "ChainParts$Complex" (64 : Nat) "ChainParts$Table" "columns" "I" "ChainParts") ∈ jm_nw := List.mem_of_getElem? (i := 24) rfl
theorem nq803 : (Jvm.Cond.methodLinkNest "ChainParts$Complex" (180 : Nat) ({ cls := "ChainParts", name := "common", desc := "(JJ)J" } : Jvm.MethodName) "ChainParts") ∈ jm_nw := List.mem_of_getElem? (i := 25) rfl
theorem nq898 : (Jvm.Cond.methodLinkNest "ChainParts$Complex" (188 : Nat) ({ cls := "ChainParts", name := "has", desc := "(II)Z" } : Jvm.MethodName) "ChainParts") ∈ jm_nw := List.mem_of_getElem? (i := 26) rfl
theorem nq496 : (Jvm.Cond.castable "[I" "java/lang/Cloneable") ∈ jm_nw := List.mem_of_getElem? (i := 27) rfl
theorem nq673 : (Jvm.Cond.castable "[J" "java/lang/Cloneable") ∈ jm_nw := List.mem_of_getElem? (i := 28) rfl
theorem nq522 : (Jvm.Cond.castable "[[I" "java/lang/Cloneable") ∈ jm_nw := List.mem_of_getElem? (i := 29) rfl
theorem jm_nw_tbl : ∀ w ∈ jm_nw, w ∈ lw_tbl := by
  intro w h
  simp only [jm_nw, List.mem_cons, List.not_mem_nil, or_false] at h
  rcases h with h | h | h | h | h | h | h | h | h | h | h | h | h | h | h | h | h | h | h | h | h | h | h | h | h | h | h | h | h | h
  · rw [h]; exact q581
  · rw [h]; exact q465
  · rw [h]; exact q601
  · rw [h]; exact q625
  · rw [h]; exact q604
  · rw [h]; exact q1430
  · rw [h]; exact q757
  · rw [h]; exact q764
  · rw [h]; exact q837
  · rw [h]; exact q253
  · rw [h]; exact q264
  · rw [h]; exact q318
  · rw [h]; exact q176
  · rw [h]; exact q275
  · rw [h]; exact q1427
  · rw [h]; exact q1424
  · rw [h]; exact q1426
  · rw [h]; exact q326
  · rw [h]; exact q498
  · rw [h]; exact q1428
  · rw [h]; exact q1425
  · rw [h]; exact q1429
  · rw [h]; exact q624
  · rw [h]; exact q627
  · rw [h]; exact q629
  · rw [h]; exact q803
  · rw [h]; exact q898
  · rw [h]; exact q496
  · rw [h]; exact q673
  · rw [h]; exact q522
/-- class ids, field places, array class ids -/
abbrev GD : Type := (Nat → ClassId) × (Nat → Nat → Nat) × (Nat → ClassId)
def jm_ty : List FieldType := [.int, .byte, .long, .boolean, .object "ChainParts$EdgeCell", .object "ChainParts$FaceCell", .object "ChainParts$Complex", .object "ChainParts$Cell", .object "ChainParts$PointCell", .object "ChainParts$LoopCell", .object "ChainParts$SealedCell", .object "ChainParts$Fraction", .array .int, .array .long]
def jm_tys (g : GD) : List (ClassId × FieldType) := jm_ty.mapIdx (fun k t => (g.2.2 k, t))
theorem jm_tys_at (g : GD) {k : Nat} {t : FieldType} (h : jm_ty[k]? = some t) : (jm_tys g)[k]? = some (g.2.2 k, t) := by
  unfold jm_tys
  rw [List.getElem?_mapIdx, h]
  rfl
def jm_isn : Cond → Bool
  | .methodLinkNest _ _ _ _ => true
  | .fieldLinkNest _ _ _ _ _ _ => true
  | .castable _ _ => true
  | _ => false
theorem jm_nw_isn : ∀ w ∈ jm_nw, jm_isn w = true := List.all_eq_true.mp (by rfl)
theorem jm_isn_warm {w : Cond} (hw : jm_isn w = true) {s U : State} (hW : s.WarmedH U.vm) (h : va_Nw w s) : va_Nw w U := by
  cases w with
  | methodLinkNest a i x h0 => exact va_Nw.warmM hW h
  | fieldLinkNest a i b n d h0 => exact va_Nw.warmF hW h
  | castable C T => exact va_Nw.warmC hW h
  | _ => cases hw
theorem jm_isn_same {w : Cond} (hw : jm_isn w = true) {u U : State} (e : u.vm = U.vm) (h : va_Nw w u) : va_Nw w U := by
  cases w with
  | methodLinkNest a i x h0 => exact va_Nw.same rfl e h
  | fieldLinkNest a i b n d h0 => exact va_Nw.same rfl e h
  | castable C T => exact va_Nw.same rfl e h
  | _ => cases hw
def jm_aoC : List String := ["ChainParts$EdgeCell", "ChainParts$FaceCell", "ChainParts$Complex", "ChainParts$Cell", "ChainParts$PointCell", "ChainParts$LoopCell", "ChainParts$SealedCell", "ChainParts$Fraction"]
/-- which class's object is refused by which array of cells -/
def jm_nc : List (String × String) := [("ChainParts$EdgeCell", "ChainParts$PointCell"), ("ChainParts$LoopCell", "ChainParts$PointCell"), ("ChainParts$FaceCell", "ChainParts$PointCell"), ("ChainParts$SealedCell", "ChainParts$PointCell"), ("ChainParts$PointCell", "ChainParts$EdgeCell"), ("ChainParts$FaceCell", "ChainParts$EdgeCell"), ("ChainParts$SealedCell", "ChainParts$EdgeCell"), ("ChainParts$PointCell", "ChainParts$LoopCell"), ("ChainParts$EdgeCell", "ChainParts$LoopCell"), ("ChainParts$FaceCell", "ChainParts$LoopCell"), ("ChainParts$SealedCell", "ChainParts$LoopCell"), ("ChainParts$PointCell", "ChainParts$FaceCell"), ("ChainParts$EdgeCell", "ChainParts$FaceCell"), ("ChainParts$LoopCell", "ChainParts$FaceCell"), ("ChainParts$PointCell", "ChainParts$SealedCell"), ("ChainParts$EdgeCell", "ChainParts$SealedCell"), ("ChainParts$LoopCell", "ChainParts$SealedCell"), ("ChainParts$FaceCell", "ChainParts$SealedCell")]
/-- arrays of arrays: the component's class -/
def jm_AA (g : GD) (U : State) : Prop := (∃ k : Class, U.vm.classes[g.2.2 12]? = some k ∧ k.kind = .array (g.2.2 0) (.array .int)) ∧ (∃ k : Class, U.vm.classes[g.2.2 13]? = some k ∧ k.kind = .array (g.2.2 2) (.array .long)) ∧ (Cond.arrayOver (.array .int)).before #[] U = true ∧ (Cond.arrayOver (.array .long)).before #[] U = true
theorem jm_ao_moved {t : FieldType} {u U : State} (hvm : u.vm.Alike U.vm) (h : (Cond.arrayOver (.array t)).before #[] u = true) : (Cond.arrayOver (.array t)).before #[] U = true := by
  have h1 : (Cond.arrayOver (.array t)).before #[] (u.setVm U.vm) = true := by rw [Cond.arrayOver_setVmC hvm]; exact h
  unfold Cond.before Cond.holds at h1 ⊢
  simp only [Cond.value] at h1 ⊢
  exact h1
theorem jm_AA.moved {g : GD} {u U : State} (hvm : u.vm.Alike U.vm) (h : jm_AA g u) : jm_AA g U := by
  obtain ⟨⟨k, h1, h2⟩, ⟨k', h3, h4⟩, h5, h6⟩ := h
  obtain ⟨a, ha, ea⟩ := hvm.2.2 _ _ h1
  obtain ⟨b, hb, eb⟩ := hvm.2.2 _ _ h3
  exact ⟨⟨a, ha, by rw [ea]; exact h2⟩, ⟨b, hb, by rw [eb]; exact h4⟩, jm_ao_moved hvm h5, jm_ao_moved hvm h6⟩
def jm_KG (g : GD) (U : State) : Prop := va_K (g.1, g.2.1) vwCl (jm_tys g) U ∧ (∀ w ∈ jm_nw, va_Nw w U) ∧ (∀ C ∈ jm_aoC, va_AO C U) ∧ (∀ q ∈ jm_nc, va_Nc q.1 q.2 U) ∧ jm_AA g U
theorem jm_KG.moved {g : GD} {s U : State} (hW : s.WarmedH U.vm) (h : jm_KG g s) : jm_KG g U := ⟨va_K.moved hW.alike h.1, fun w hw => jm_isn_warm (jm_nw_isn w hw) hW (h.2.1 w hw), fun C hC => (h.2.2.1 C hC).moved hW.alike, fun q hq => (h.2.2.2.1 q hq).moved hW.alike, h.2.2.2.2.moved hW.alike⟩
theorem jm_KG.same {g : GD} {u U : State} (e : u.vm = U.vm) (h : jm_KG g u) : jm_KG g U := by
  have hA : u.vm.Alike U.vm := by rw [e]; exact Vm.Alike.refl _
  exact ⟨va_K.moved hA h.1, fun w hw => jm_isn_same (jm_nw_isn w hw) e (h.2.1 w hw), fun C hC => (h.2.2.1 C hC).moved hA, fun q hq => (h.2.2.2.1 q hq).moved hA, h.2.2.2.2.moved hA⟩
def jm_cn (g : GD) : CE → va_E
  | .inl x => .inl (g.2.2 x.1, x.2)
  | .inr o => .inr o
/-- the abstract heap M lies in the heap H, from address b on -/
def jm_Rp (g : GD) (b : Nat) (M : Mem) (H : Heap) : Prop := H.size = M.1 ∧ b ≤ M.1 ∧ ∀ (a : Nat) (e : CE), M.2.2 a = some e → b ≤ a ∧ va_at (g.1, g.2.1) vwCl (a, jm_cn g e) H
theorem jm_Rp.lt {g : GD} {b : Nat} {M : Mem} {H : Heap} (h : jm_Rp g b M H) {a : Nat} {e : CE} (ha : M.2.2 a = some e) : a < M.1 := by
  have := (h.2.2 a e ha).2.lt
  rw [← h.1]
  exact this
theorem jm_Rp.one {g : GD} {b : Nat} {M : Mem} {H : Heap} (h : jm_Rp g b M H) {a : Nat} {e : CE} (ha : M.2.2 a = some e) : va_P (g.1, g.2.1) vwCl [(a, jm_cn g e)] H := by
  intro k q hk
  have hz : k < 1 := (List.getElem?_eq_some_iff.mp hk).1
  rw [show k = 0 by omega] at hk
  cases hk
  exact (h.2.2 a e ha).2
theorem jm_Rp.set {g : GD} {b : Nat} {M : Mem} {H H1 : Heap} (h : jm_Rp g b M H) {a : Nat} {e0 e1 : CE} (ha : M.2.2 a = some e0) (he : va_at (g.1, g.2.1) vwCl (a, jm_cn g e1) H1) (z : H1.size = H.size) (oq : ∀ q : Nat, q ≠ a → H1[q]? = H[q]?) : jm_Rp g b (M.1, M.2.1, va_up M.2.2 a (some e1)) H1 := by
  refine ⟨z.trans h.1, h.2.1, fun q e hq => ?_⟩
  by_cases c : q = a
  · subst c
    have : e = e1 := by
      have : va_up M.2.2 q (some e1) q = some e := hq
      unfold va_up at this
      rw [if_pos rfl] at this
      exact (Option.some.inj this).symm
    subst this
    exact ⟨(h.2.2 _ _ ha).1, he⟩
  · have hq' : M.2.2 q = some e := by
      have : va_up M.2.2 a (some e1) q = some e := hq
      unfold va_up at this
      rwa [if_neg c] at this
    exact ⟨(h.2.2 q e hq').1, (h.2.2 q e hq').2.kept (oq q c)⟩
theorem jm_Rp.new {g : GD} {b : Nat} {M : Mem} {H H1 : Heap} (h : jm_Rp g b M H) {e1 : CE} (he : va_at (g.1, g.2.1) vwCl (H.size, jm_cn g e1) H1) (z : H1.size = H.size + 1) (oq : ∀ q : Nat, q < H.size → H1[q]? = H[q]?) : jm_Rp g b (jm_new e1 M) H1 := by
  refine ⟨by rw [z, h.1]; rfl, Nat.le_trans h.2.1 (Nat.le_succ _), fun q e hq => ?_⟩
  by_cases c : q = M.1
  · subst c
    have : e = e1 := by
      have : va_up M.2.2 M.1 (some e1) M.1 = some e := hq
      unfold va_up at this
      rw [if_pos rfl] at this
      exact (Option.some.inj this).symm
    subst this
    exact ⟨h.2.1, by rw [← h.1]; exact he⟩
  · have hq' : M.2.2 q = some e := by
      have : va_up M.2.2 M.1 (some e1) q = some e := hq
      unfold va_up at this
      rwa [if_neg c] at this
    exact ⟨(h.2.2 q e hq').1, (h.2.2 q e hq').2.kept (oq q (by rw [h.1]; exact h.lt hq'))⟩
/-- where a method stands: M0 at its start, Mf at its end, M now -/
def jm_St (g : GD) (b : Nat) (M0 Mf M : Mem) (s : State) (R : Room) (H : Heap) (locs : List Loc) (cells slots : Nat) : Prop :=
  jm_Rp g b M H ∧ va_S (fun q => b ≤ q) s.heap H locs ∧ M0.1 + cells = M.1 ∧ M0.2.1 + slots = M.2.1 ∧ Mf.1 ≤ M0.1 + R.cells ∧ Mf.2.1 ≤ M0.2.1 + R.slots
theorem jm_St.set {g : GD} {b : Nat} {M0 Mf M : Mem} {s : State} {R : Room} {H H1 : Heap} {locs : List Loc} {cells slots : Nat} (h : jm_St g b M0 Mf M s R H locs cells slots) {a k : Nat} {e0 e1 : CE} (ha : M.2.2 a = some e0) (he : va_at (g.1, g.2.1) vwCl (a, jm_cn g e1) H1) (z : H1.size = H.size) (oq : ∀ q : Nat, q ≠ a → H1[q]? = H[q]?) : jm_St g b M0 Mf (M.1, M.2.1, va_up M.2.2 a (some e1)) s R H1 (locs ++ [⟨a, k⟩]) cells slots := by
  obtain ⟨hR, hS, h1, h2, h3, h4⟩ := h
  exact ⟨hR.set ha he z oq, hS.put z oq (hR.2.2 a e0 ha).1, h1, h2, h3, h4⟩
theorem jm_St.new {g : GD} {b : Nat} {M0 Mf M : Mem} {s : State} {R : Room} {H H1 : Heap} {locs : List Loc} {cells slots n : Nat} (h : jm_St g b M0 Mf M s R H locs cells slots) {e1 : CE} (he : va_at (g.1, g.2.1) vwCl (H.size, jm_cn g e1) H1) (z : H1.size = H.size + 1) (oq : ∀ q : Nat, q < H.size → H1[q]? = H[q]?) (hn : jm_sz e1 = n) : jm_St g b M0 Mf (jm_new e1 M) s R H1 locs (cells + 1) (slots + n) := by
  obtain ⟨hR, hS, h1, h2, h3, h4⟩ := h
  refine ⟨hR.new he z oq, ⟨Nat.le_trans hS.1 (by omega), fun x hx hA => (oq x (Nat.lt_of_lt_of_le hx hS.1)).trans (hS.2.1 x hx hA), hS.2.2⟩, ?_, ?_, h3, h4⟩
  · show M0.1 + (cells + 1) = M.1 + 1
    omega
  · show M0.2.1 + (slots + n) = M.2.1 + jm_sz e1
    omega
theorem jm_St.room {g : GD} {b : Nat} {M0 Mf M : Mem} {s : State} {R : Room} {H : Heap} {locs : List Loc} {cells slots : Nat} (h : jm_St g b M0 Mf M s R H locs cells slots) {e1 : CE} (hM : jm_le (jm_new e1 M) Mf) : cells + 1 ≤ R.cells ∧ slots + jm_sz e1 ≤ R.slots := by
  obtain ⟨hR, hS, h1, h2, h3, h4⟩ := h
  have g1 : M.1 + 1 ≤ Mf.1 := hM.1
  have g2 : M.2.1 + jm_sz e1 ≤ Mf.2.1 := hM.2
  omega
