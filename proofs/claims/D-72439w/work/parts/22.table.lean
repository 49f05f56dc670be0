/-! WALKS, printed by gen.py: 22.table -/
theorem fw_X11_9 {s : State} {args : Array Value} {meth : Method} (hts : ∀ w ∈ lw_all, w.before args s = true) (hin : meth.name = "<init>") : ∀ q ∈ ([11] : List Nat), jm_FW s args meth RX11 9 q 1 .int := by
  intro q hq
  simp only [List.mem_cons, List.not_mem_nil, or_false] at hq
  subst hq
  exact ⟨RX11, TX11, 3, rfl, in_X11, by decide, ⟨tyX11, tyX11_ok⟩, nmX11, tyX11_ok 1 (by decide), "ChainParts$Table", hts _ q626, fun _ h => h, Or.inr ⟨rfl, hin, rfl⟩⟩
theorem fw_X11_15 {s : State} {args : Array Value} {meth : Method} (hts : ∀ w ∈ lw_all, w.before args s = true) (hin : meth.name = "<init>") : ∀ q ∈ ([11] : List Nat), jm_FW s args meth RX11 15 q 2 .int := by
  intro q hq
  simp only [List.mem_cons, List.not_mem_nil, or_false] at hq
  subst hq
  exact ⟨RX11, TX11, 3, rfl, in_X11, by decide, ⟨tyX11, tyX11_ok⟩, nmX11, tyX11_ok 2 (by decide), "ChainParts$Table", hts _ q628, fun _ h => h, Or.inr ⟨rfl, hin, rfl⟩⟩
theorem fw_X11_20 {s : State} {args : Array Value} {meth : Method} (hts : ∀ w ∈ lw_all, w.before args s = true) (hin : meth.name = "<init>") : ∀ q ∈ ([11] : List Nat), jm_FW s args meth RX11 20 q 0 (.array (.array .long)) := by
  intro q hq
  simp only [List.mem_cons, List.not_mem_nil, or_false] at hq
  subst hq
  exact ⟨RX11, TX11, 3, rfl, in_X11, by decide, ⟨tyX11, tyX11_ok⟩, nmX11, tyX11_ok 0 (by decide), "ChainParts$Table", hts _ q623, fun _ h => h, Or.inr ⟨rfl, hin, rfl⟩⟩
def jf_X11_init (N : Nat) (a0 : Nat) (v1 : Int32) (v2 : Int32) : jm_P Unit :=
  jm_wr (jm_put [11] 1 (.int v1) (some a0)) <|
  jm_wr (jm_put [11] 2 (.int v2) (some a0)) <|
  jm_rd (jm_ck ((¬ v1 < 0 ∧ ¬ v2 < 0) ∧ (v1.toNatClampNeg ≤ 1000 ∧ v2.toNatClampNeg ≤ 1000))) fun _ =>
  jm_ml 13 2 v1.toNatClampNeg v2.toNatClampNeg (.inr (.inl (fun _ => 0))) fun q8 =>
  jm_wr (jm_put [11] 0 (va_rf (some q8)) (some a0)) <|
  jm_ret ()
set_option maxHeartbeats 4000000 in
set_option maxRecDepth 100000 in
theorem jt_X11_init (l : Launch) (g : GD) (b N : Nat) (a0 : Nat) (v1 : Int32) (v2 : Int32) (M M' : Mem) (r : Unit) (hf : (jf_X11_init N a0 v1 v2).1 M = some (r, M')) : jm_Met l g b yX11_init (ws_ yX11_init cX11_init 3 none) 1 20 [va_rf (some a0), .int v1, .int v2] M M' none := by
  refine jm_start (by decide) (jm_mono hf) (by rw [lg_sl_r, lg_sl_i, lg_sl_i, lg_sl_n]; exact Nat.le_of_ble_eq_true rfl) ?_
  intro p e s m args below meth c ls C0 hin hK hst hl
  obtain ⟨hx, hb, hml, hown, hts, hr, hlk⟩ := id C0
  have hown : s.vm.findClass RX11 = some m.cls := hown
  have C0 : jm_Cx p s m args meth c cX11_init 3 none RX11 := C0
  rw [lv_args_r, lv_args_i, lv_args_i, lv_args_n] at hl
  have hl : lv_has ls 3 [(0, va_rf (some a0)), (1, .int v1), (2, .int v2)] := hl
  unfold jf_X11_init at hf
  refine jw_aload_n (r := (some a0)) hx hb dX11_init_0 rfl (lv_at hl 0 rfl) ?_
  refine W.objInit hx hb hown (hts _ q620) (hts _ q99) (hts _ q100) rfl (by rw [hml]; exact hl.1) rfl dX11_init_1 (Nat.le_of_ble_eq_true rfl) (by rw [cs_n]; exact Nat.le_of_ble_eq_true rfl) ?_
  refine W.eq (g2 := F0 m 4 ls []) rfl ?_
  refine jw_aload_n (r := (some a0)) hx hb dX11_init_4 rfl (lv_at hl 0 rfl) ?_
  refine lv_iload_n hx hb dX11_init_5 rfl (lv_at hl 1 rfl) ?_
  obtain ⟨F1, h2, hf⟩ := jm_wr_some hf
  refine jw_put (r := (some a0)) hx hb hts hown hK hst (fw_X11_9 hts hin) h2 rfl rfl dX11_init_6 (fun H locs hst => ?_)
  generalize ((M.1, M.2.1, F1) : Mem) = Mm3 at hf hst
  refine jw_aload_n (r := (some a0)) hx hb dX11_init_9 rfl (lv_at hl 0 rfl) ?_
  refine lv_iload_n hx hb dX11_init_10 rfl (lv_at hl 2 rfl) ?_
  obtain ⟨F4, h5, hf⟩ := jm_wr_some hf
  refine jw_put (r := (some a0)) hx hb hts hown hK hst (fw_X11_15 hts hin) h5 rfl rfl dX11_init_11 (fun H locs hst => ?_)
  generalize ((Mm3.1, Mm3.2.1, F4) : Mem) = Mm6 at hf hst
  refine jw_aload_n (r := (some a0)) hx hb dX11_init_14 rfl (lv_at hl 0 rfl) ?_
  refine lv_iload_n hx hb dX11_init_15 rfl (lv_at hl 1 rfl) ?_
  refine lv_iload_n hx hb dX11_init_16 rfl (lv_at hl 2 rfl) ?_
  obtain ⟨_, h7, hf⟩ := jm_rd_some hf
  have h7 := jm_ck_some h7
  obtain ⟨q8, hq8, hf⟩ := jm_ml_some hf
  refine jw_multi (kO := 13) (kI := 2) (ty := .long) (body := (.inr (.inl (fun _ => 0)))) hx hb hown (by rw [jm_str_JJ]; exact hts _ q621) (jm_ao_args hK.2.2.2.2.2.2.2) (hts _ q637) hK hst rfl rfl (fun h => h) jm_nmJ2 (fun _ _ => rfl) h7.1.1 h7.1.2 h7.2.1 h7.2.2 (Nat.le_of_ble_eq_true rfl) rfl rfl (jm_le_tr (jm_mono hf) jm_le_rf) hq8 dX11_init_17 (fun H cells slots hst => ?_)
  generalize jm_mul 13 2 v1.toNatClampNeg v2.toNatClampNeg (.inr (.inl (fun _ => 0))) Mm6 = Mm9 at hf hst
  obtain ⟨F10, h11, hf⟩ := jm_wr_some hf
  refine jw_put (r := (some a0)) hx hb hts hown hK hst (fw_X11_20 hts hin) h11 (va_nar_a _) (va_fits_a _) dX11_init_21 (fun H locs hst => ?_)
  generalize ((Mm9.1, Mm9.2.1, F10) : Mem) = Mm12 at hf hst
  obtain ⟨-, rfl⟩ := jm_ret_some hf
  exact jw_vret C0 hst dX11_init_24
theorem fl_X11_15 {g : GD} {s : State} {args : Array Value} (hts : ∀ w ∈ lw_all, w.before args s = true) (hK : jm_KG g s) : ∀ q ∈ ([11] : List Nat), jm_FL s args RX11 15 q 2 := by
  intro q hq
  simp only [List.mem_cons, List.not_mem_nil, or_false] at hq
  subst hq
  exact ⟨RX11, TX11, 3, rfl, in_X11, by decide, "ChainParts$Table", Or.inl (hts _ q628), fun _ h => h⟩
theorem fl_X11_9 {g : GD} {s : State} {args : Array Value} (hts : ∀ w ∈ lw_all, w.before args s = true) (hK : jm_KG g s) : ∀ q ∈ ([11] : List Nat), jm_FL s args RX11 9 q 1 := by
  intro q hq
  simp only [List.mem_cons, List.not_mem_nil, or_false] at hq
  subst hq
  exact ⟨RX11, TX11, 3, rfl, in_X11, by decide, "ChainParts$Table", Or.inl (hts _ q626), fun _ h => h⟩
theorem hd_X11_init : yX11_init.cls = RX11 ∧ yX11_init.cls ≠ "java/lang/invoke/MethodHandle" ∧ yX11_init.cls ≠ "java/lang/invoke/VarHandle" ∧ (parseMethodDescriptor yX11_init.desc).map (fun d => d.parameters.length) = some 2 := by decide +kernel
theorem fl_X11_20 {g : GD} {s : State} {args : Array Value} (hts : ∀ w ∈ lw_all, w.before args s = true) (hK : jm_KG g s) : ∀ q ∈ ([11] : List Nat), jm_FL s args RX11 20 q 0 := by
  intro q hq
  simp only [List.mem_cons, List.not_mem_nil, or_false] at hq
  subst hq
  exact ⟨RX11, TX11, 3, rfl, in_X11, by decide, "ChainParts$Table", Or.inl (hts _ q623), fun _ h => h⟩
def jf_X11_turned_k18_64 (N : Nat) (v1 : Option Nat) : jm_P (Option Nat) :=
  jm_ret v1
def jf_X11_turned_k28_58 (N : Nat) (a0 : Nat) (v1 : Option Nat) (v2 : Int32) : jm_P (Int32 ⊕ Unit) :=
  jm_ret (.inl (v2 + 1))
def jf_X11_turned_L28 (N : Nat) (a0 : Nat) (v1 : Option Nat) (v2 : Int32) (v3 : Int32) : jm_P (Int32 ⊕ Unit) :=
  jm_rd (jm_fI [11] 2 (some a0)) fun x16 =>
  if x16 ≤ v3 then (
    jm_ret (.inr ()))
  else
    jm_rd (jm_fR [11] 0 v1) fun x18 =>
    jm_rd (jm_ldR 13 x18 v3) fun x20 =>
    jm_rd (jm_fR [11] 0 (some a0)) fun x22 =>
    jm_rd (jm_ldR 13 x22 v2) fun x24 =>
    jm_rd (jm_ldJ 2 x24 v3) fun x26 =>
    jm_wr (jm_stJ 2 x20 v2 x26) <|
    jm_ret (.inl (v3 + 1))
def jf_X11_turned_L18 (N : Nat) (a0 : Nat) (v1 : Option Nat) (v2 : Int32) : jm_P (Int32 ⊕ Unit) :=
  jm_rd (jm_fI [11] 1 (some a0)) fun x13 =>
  if x13 ≤ v2 then (
    jm_ret (.inr ()))
  else
    jm_bd (jm_it (fun z => jf_X11_turned_L28 N a0 v1 v2 z) N (0 : Int32)) fun y =>
    jf_X11_turned_k28_58 N a0 v1 v2
def jf_X11_turned (N : Nat) (a0 : Nat) : jm_P (Option Nat) :=
  jm_al (.inr (11, [.null, .int 0, .int 0])) fun q2 =>
  jm_rd (jm_fI [11] 2 (some a0)) fun x4 =>
  jm_rd (jm_fI [11] 1 (some a0)) fun x6 =>
  jm_bd (jf_X11_init N q2 x4 x6) fun x8 =>
  jm_bd (jm_it (fun z => jf_X11_turned_L18 N a0 (some q2) z) N (0 : Int32)) fun y =>
  jf_X11_turned_k18_64 N (some q2)
set_option maxHeartbeats 4000000 in
set_option maxRecDepth 100000 in
theorem jt_X11_turned (l : Launch) (g : GD) (b N : Nat) (a0 : Nat) (M M' : Mem) (r : (Option Nat)) (hf : (jf_X11_turned N a0).1 M = some (r, M')) : jm_Met l g b yX11_turned (ws_ yX11_turned cX11_turned 4 (some (.object "ChainParts$Table"))) 2 42 [va_rf (some a0)] M M' (some (va_rf r)) := by
  refine jm_start (by decide) (jm_mono hf) (by rw [lg_sl_r, lg_sl_n]; exact Nat.le_of_ble_eq_true rfl) ?_
  intro p e s m args below meth c ls C0 hin hK hst hl
  obtain ⟨hx, hb, hml, hown, hts, hr, hlk⟩ := id C0
  have hown : s.vm.findClass RX11 = some m.cls := hown
  have C0 : jm_Cx p s m args meth c cX11_turned 4 (some (.object "ChainParts$Table")) RX11 := C0
  rw [lv_args_r, lv_args_n] at hl
  have hl : lv_has ls 4 [(0, va_rf (some a0))] := hl
  have K18_64 : ∀ (v1 : Option Nat) (Mm1 : Mem), (jf_X11_turned_k18_64 N v1).1 Mm1 = some (r, M') → ∀ (H : Heap) (locs : List Loc) (cells slots : Nat) (ls : Array Slot), jm_St g b M M' Mm1 s (jm_rm 2 42 M M') H locs cells slots → lv_has ls 4 [(1, va_rf v1)] → W p l e (jm_rm 2 42 M M') s m args below meth c H locs cells slots (jm_MQ below g b (some (va_rf r)) M M' args s) (F0 m 64 ls []) := by
    intro v1 Mm1 hf H locs cells slots ls hst hl
    unfold jf_X11_turned_k18_64 at hf
    refine jw_aload_n (r := v1) hx hb dX11_turned_64 rfl (lv_at hl 0 rfl) ?_
    obtain ⟨rfl, rfl⟩ := jm_ret_some hf
    exact jw_aret C0 (Or.inl ⟨_, rfl⟩) hst dX11_turned_65
  have B18 : ∀ (a0 : Nat) (v1 : Option Nat) (v2 : Int32) (Mm12 : Mem) (xe18 : (Int32 ⊕ Unit)) (Me18 : Mem), (jf_X11_turned_L18 N a0 v1 v2).1 Mm12 = some (xe18, Me18) → jm_le Me18 M' → (jm_or (fun (z : Int32) => ∀ (H : Heap) (locs : List Loc) (cells slots : Nat) (ls : Array Slot), jm_St g b M M' Me18 s (jm_rm 2 42 M M') H locs cells slots → lv_has ls 4 [(0, va_rf (some a0)), (1, va_rf v1), (2, .int z)] → W p l e (jm_rm 2 42 M M') s m args below meth c H locs cells slots (jm_MQ below g b (some (va_rf r)) M M' args s) (F0 m 18 ls [])) (fun (y : Unit) => ∀ (H : Heap) (locs : List Loc) (cells slots : Nat) (ls : Array Slot), jm_St g b M M' Me18 s (jm_rm 2 42 M M') H locs cells slots → lv_has ls 4 [(1, va_rf v1)] → W p l e (jm_rm 2 42 M M') s m args below meth c H locs cells slots (jm_MQ below g b (some (va_rf r)) M M' args s) (F0 m 64 ls [])) xe18) → ∀ (H : Heap) (locs : List Loc) (cells slots : Nat) (ls : Array Slot), jm_St g b M M' Mm12 s (jm_rm 2 42 M M') H locs cells slots → lv_has ls 4 [(0, va_rf (some a0)), (1, va_rf v1), (2, .int v2)] → W p l e (jm_rm 2 42 M M') s m args below meth c H locs cells slots (jm_MQ below g b (some (va_rf r)) M M' args s) (F0 m 18 ls []) := by
    intro a0 v1 v2 Mm12 xe18 Me18 hf hle18 hk18
    have K28_58 : ∀ (v2 : Int32) (Mm11 : Mem), (jf_X11_turned_k28_58 N a0 v1 v2).1 Mm11 = some (xe18, Me18) → ∀ (H : Heap) (locs : List Loc) (cells slots : Nat) (ls : Array Slot), jm_St g b M M' Mm11 s (jm_rm 2 42 M M') H locs cells slots → lv_has ls 4 [(0, va_rf (some a0)), (1, va_rf v1), (2, .int v2)] → W p l e (jm_rm 2 42 M M') s m args below meth c H locs cells slots (jm_MQ below g b (some (va_rf r)) M M' args s) (F0 m 58 ls []) := by
      intro v2 Mm11 hf H locs cells slots ls hst hl
      unfold jf_X11_turned_k28_58 at hf
      refine lv_iinc (i := 2) (v := (v2 + 1)) (lv' := [(2, .int (v2 + 1)), (0, va_rf (some a0)), (1, va_rf v1)]) hx hb dX11_turned_58 hl (k := 2) rfl (by rfl) (by decide) (by simp [va_rf_cat, cat_i, cat_j, cat_f]) (fun ls hl => ?_)
      refine lv_goto (tgt := 18) hx hb dX11_turned_61 (by decide) ?_
      obtain ⟨rfl, rfl⟩ := jm_ret_some hf
      exact jm_or_l hk18 _ _ _ _ _ hst (lv_sub hl [1, 2, 0] rfl)
    have B28 : ∀ (a0 : Nat) (v1 : Option Nat) (v2 : Int32) (v3 : Int32) (Mm15 : Mem) (xe28 : (Int32 ⊕ Unit)) (Me28 : Mem), (jf_X11_turned_L28 N a0 v1 v2 v3).1 Mm15 = some (xe28, Me28) → jm_le Me28 M' → (jm_or (fun (z : Int32) => ∀ (H : Heap) (locs : List Loc) (cells slots : Nat) (ls : Array Slot), jm_St g b M M' Me28 s (jm_rm 2 42 M M') H locs cells slots → lv_has ls 4 [(0, va_rf (some a0)), (1, va_rf v1), (2, .int v2), (3, .int z)] → W p l e (jm_rm 2 42 M M') s m args below meth c H locs cells slots (jm_MQ below g b (some (va_rf r)) M M' args s) (F0 m 28 ls [])) (fun (y : Unit) => ∀ (H : Heap) (locs : List Loc) (cells slots : Nat) (ls : Array Slot), jm_St g b M M' Me28 s (jm_rm 2 42 M M') H locs cells slots → lv_has ls 4 [(0, va_rf (some a0)), (1, va_rf v1), (2, .int v2)] → W p l e (jm_rm 2 42 M M') s m args below meth c H locs cells slots (jm_MQ below g b (some (va_rf r)) M M' args s) (F0 m 58 ls [])) xe28) → ∀ (H : Heap) (locs : List Loc) (cells slots : Nat) (ls : Array Slot), jm_St g b M M' Mm15 s (jm_rm 2 42 M M') H locs cells slots → lv_has ls 4 [(0, va_rf (some a0)), (1, va_rf v1), (2, .int v2), (3, .int v3)] → W p l e (jm_rm 2 42 M M') s m args below meth c H locs cells slots (jm_MQ below g b (some (va_rf r)) M M' args s) (F0 m 28 ls []) := by
      intro a0 v1 v2 v3 Mm15 xe28 Me28 hf hle28 hk28
      intro H locs cells slots ls hst hl
      unfold jf_X11_turned_L28 at hf
      refine lv_iload_n hx hb dX11_turned_28 rfl (lv_at hl 3 rfl) ?_
      refine jw_aload_n (r := (some a0)) hx hb dX11_turned_29 rfl (lv_at hl 0 rfl) ?_
      obtain ⟨x16, h17, hf⟩ := jm_rd_some hf
      refine jw_getI hx hb hts hown hK hst (fl_X11_15 hts hK) h17 dX11_turned_30 ?_
      refine lv_icmp_ge (tgt := 58) hx hb dX11_turned_33 (by decide) (fun hc => ?_) (fun hc => ?_)
      · rw [if_pos hc] at hf
        obtain ⟨rfl, rfl⟩ := jm_ret_some hf
        exact jm_or_r hk28 _ _ _ _ _ hst (lv_sub hl [0, 1, 2] rfl)
      · rw [if_neg hc] at hf
        refine jw_aload_n (r := v1) hx hb dX11_turned_36 rfl (lv_at hl 1 rfl) ?_
        obtain ⟨x18, h19, hf⟩ := jm_rd_some hf
        refine jw_getR hx hb hts hown hK hst (fl_X11_20 hts hK) h19 dX11_turned_37 ?_
        refine lv_iload_n hx hb dX11_turned_40 rfl (lv_at hl 3 rfl) ?_
        obtain ⟨x20, h21, hf⟩ := jm_rd_some hf
        refine jw_aald hx hb hK hst (show jm_ty[13]? = some (.array .long) from rfl) rfl h21 dX11_turned_41 ?_
        refine lv_iload_n hx hb dX11_turned_42 rfl (lv_at hl 2 rfl) ?_
        refine jw_aload_n (r := (some a0)) hx hb dX11_turned_43 rfl (lv_at hl 0 rfl) ?_
        obtain ⟨x22, h23, hf⟩ := jm_rd_some hf
        refine jw_getR hx hb hts hown hK hst (fl_X11_20 hts hK) h23 dX11_turned_44 ?_
        refine lv_iload_n hx hb dX11_turned_47 rfl (lv_at hl 2 rfl) ?_
        obtain ⟨x24, h25, hf⟩ := jm_rd_some hf
        refine jw_aald hx hb hK hst (show jm_ty[13]? = some (.array .long) from rfl) rfl h25 dX11_turned_48 ?_
        refine lv_iload_n hx hb dX11_turned_49 rfl (lv_at hl 3 rfl) ?_
        obtain ⟨x26, h27, hf⟩ := jm_rd_some hf
        refine jw_lald hx hb hK hst h27 dX11_turned_50 ?_
        obtain ⟨F28, h29, hf⟩ := jm_wr_some hf
        refine jw_last (r := x20) hx hb hK hst h29 dX11_turned_51 (fun H locs hst => ?_)
        generalize ((Mm15.1, Mm15.2.1, F28) : Mem) = Mm30 at hf hst
        refine lv_iinc (i := 3) (v := (v3 + 1)) (lv' := [(3, .int (v3 + 1)), (0, va_rf (some a0)), (1, va_rf v1), (2, .int v2)]) hx hb dX11_turned_52 hl (k := 3) rfl (by rfl) (by decide) rfl (fun ls hl => ?_)
        refine lv_goto (tgt := 28) hx hb dX11_turned_55 (by decide) ?_
        obtain ⟨rfl, rfl⟩ := jm_ret_some hf
        exact jm_or_l hk28 _ _ _ _ _ hst (lv_sub hl [1, 2, 3, 0] rfl)
    intro H locs cells slots ls hst hl
    unfold jf_X11_turned_L18 at hf
    refine lv_iload_n hx hb dX11_turned_18 rfl (lv_at hl 2 rfl) ?_
    refine jw_aload_n (r := (some a0)) hx hb dX11_turned_19 rfl (lv_at hl 0 rfl) ?_
    obtain ⟨x13, h14, hf⟩ := jm_rd_some hf
    refine jw_getI hx hb hts hown hK hst (fl_X11_9 hts hK) h14 dX11_turned_20 ?_
    refine lv_icmp_ge (tgt := 64) hx hb dX11_turned_23 (by decide) (fun hc => ?_) (fun hc => ?_)
    · rw [if_pos hc] at hf
      obtain ⟨rfl, rfl⟩ := jm_ret_some hf
      exact jm_or_r hk18 _ _ _ _ _ hst (lv_sub hl [1] rfl)
    · rw [if_neg hc] at hf
      refine lv_iconst (v := 0) hx hb dX11_turned_26 (by decide) ?_
      refine lv_istore_n (i := 3) (lv' := [(3, .int (0 : Int32)), (0, va_rf (some a0)), (1, va_rf v1), (2, .int v2)]) hx hb dX11_turned_27 rfl hl (by decide) rfl (fun ls hl => ?_)
      obtain ⟨xl28, Ml28, hit28, hf⟩ := jm_bd_some hf
      have hlf28 : jm_le Ml28 M' := jm_le_tr (jm_mono hf) hle18
      have hwe28 : (fun (y : Unit) (Mz : Mem) => ∀ (H : Heap) (locs : List Loc) (cells slots : Nat) (ls : Array Slot), jm_St g b M M' Mz s (jm_rm 2 42 M M') H locs cells slots → lv_has ls 4 [(0, va_rf (some a0)), (1, va_rf v1), (2, .int v2)] → W p l e (jm_rm 2 42 M M') s m args below meth c H locs cells slots (jm_MQ below g b (some (va_rf r)) M M' args s) (F0 m 58 ls [])) xl28 Ml28 := fun H locs cells slots ls hst hl => K28_58 v2 _ hf H locs cells slots ls hst hl
      refine jm_it_walk (Mf := M') (Wh := fun (z : Int32) (Mz : Mem) => ∀ (H : Heap) (locs : List Loc) (cells slots : Nat) (ls : Array Slot), jm_St g b M M' Mz s (jm_rm 2 42 M M') H locs cells slots → lv_has ls 4 [(0, va_rf (some a0)), (1, va_rf v1), (2, .int v2), (3, .int z)] → W p l e (jm_rm 2 42 M M') s m args below meth c H locs cells slots (jm_MQ below g b (some (va_rf r)) M M' args s) (F0 m 28 ls [])) (We := fun (y : Unit) (Mz : Mem) => ∀ (H : Heap) (locs : List Loc) (cells slots : Nat) (ls : Array Slot), jm_St g b M M' Mz s (jm_rm 2 42 M M') H locs cells slots → lv_has ls 4 [(0, va_rf (some a0)), (1, va_rf v1), (2, .int v2)] → W p l e (jm_rm 2 42 M M') s m args below meth c H locs cells slots (jm_MQ below g b (some (va_rf r)) M M' args s) (F0 m 58 ls [])) ?_ N (0 : Int32) Mm12 xl28 Ml28 hit28 hlf28 hwe28 _ _ _ _ _ hst (lv_sub hl [1, 2, 3, 0] rfl)
      intro v3 Mm31 xe28 Me28 hf hle28 hk28 H locs cells slots ls hst hl
      have hf : (jf_X11_turned_L28 N a0 v1 v2 v3).1 Mm31 = some (xe28, Me28) := hf
      have hl : lv_has ls 4 [(0, va_rf (some a0)), (1, va_rf v1), (2, .int v2), (3, .int v3)] := hl
      exact B28 a0 v1 v2 v3 _ _ _ hf hle28 hk28 _ _ _ _ _ hst (lv_sub hl [0, 1, 2, 3] rfl)
  unfold jf_X11_turned at hf
  obtain ⟨q2, hq2, hf⟩ := jm_al_some hf
  refine jw_new (ci := 11) (C := RX11) (T := TX11) (N := 3) (fs := [.null, .int 0, .int 0]) hx hb hts in_X11 tyX11 tyX11_ok hown (hts _ q652) (hts _ q616) (hts _ q90) hK hst rfl (fun j hj => by match j, hj with | 0, _ => rfl | 1, _ => rfl | 2, _ => rfl | k + 3, hj => omega) rfl (jm_le_tr (jm_mono hf) jm_le_rf) hq2 dX11_turned_0 (fun H cells slots hst => ?_)
  generalize jm_new (.inr (11, [.null, .int 0, .int 0])) M = Mm3 at hf hst
  refine lv_dup hx hb dX11_turned_3 (va_rf_cat _) ?_
  refine jw_aload_n (r := (some a0)) hx hb dX11_turned_4 rfl (lv_at hl 0 rfl) ?_
  obtain ⟨x4, h5, hf⟩ := jm_rd_some hf
  refine jw_getI hx hb hts hown hK hst (fl_X11_15 hts hK) h5 dX11_turned_5 ?_
  refine jw_aload_n (r := (some a0)) hx hb dX11_turned_8 rfl (lv_at hl 0 rfl) ?_
  obtain ⟨x6, h7, hf⟩ := jm_rd_some hf
  refine jw_getI hx hb hts hown hK hst (fl_X11_9 hts hK) h7 dX11_turned_9 ?_
  obtain ⟨x8, Mm9, h10, hf⟩ := jm_bd_some hf
  refine jw_I (As := [.int x4, .int x6]) (rest := [va_rf (some q2)]) (rv := (some q2)) (jt_X11_init l g b N q2 x4 x6 Mm3 Mm9 x8 h10) C0 hK hst (jm_mono h10) (jm_le_tr (jm_mono hf) jm_le_rf) q653 q618 q90 q619 rfl hd_X11_init.2 ⟨Nat.le_of_ble_eq_true rfl, Nat.le_of_ble_eq_true rfl⟩ rfl rfl hl.1 rfl (by rw [cs_r, cs_n]; exact Nat.le_of_ble_eq_true rfl) dX11_turned_12 (fun H locs cells slots hst => ?_)
  refine W.eq (g2 := F0 m 15 ls [va_rf (some q2)]) rfl ?_
  refine jw_astore_n (i := 1) (r := (some q2)) (lv' := [(1, va_rf (some q2)), (0, va_rf (some a0))]) hx hb dX11_turned_15 rfl hl (by decide) (by simp [va_rf_cat, cat_i, cat_j, cat_f]) (fun ls hl => ?_)
  refine lv_iconst (v := 0) hx hb dX11_turned_16 (by decide) ?_
  refine lv_istore_n (i := 2) (lv' := [(2, .int (0 : Int32)), (1, va_rf (some q2)), (0, va_rf (some a0))]) hx hb dX11_turned_17 rfl hl (by decide) (by simp [va_rf_cat, cat_i, cat_j, cat_f]) (fun ls hl => ?_)
  obtain ⟨xl18, Ml18, hit18, hf⟩ := jm_bd_some hf
  have hlf18 : jm_le Ml18 M' := jm_le_tr (jm_mono hf) jm_le_rf
  have hwe18 : (fun (y : Unit) (Mz : Mem) => ∀ (H : Heap) (locs : List Loc) (cells slots : Nat) (ls : Array Slot), jm_St g b M M' Mz s (jm_rm 2 42 M M') H locs cells slots → lv_has ls 4 [(1, va_rf (some q2))] → W p l e (jm_rm 2 42 M M') s m args below meth c H locs cells slots (jm_MQ below g b (some (va_rf r)) M M' args s) (F0 m 64 ls [])) xl18 Ml18 := fun H locs cells slots ls hst hl => K18_64 (some q2) _ hf H locs cells slots ls hst hl
  refine jm_it_walk (Mf := M') (Wh := fun (z : Int32) (Mz : Mem) => ∀ (H : Heap) (locs : List Loc) (cells slots : Nat) (ls : Array Slot), jm_St g b M M' Mz s (jm_rm 2 42 M M') H locs cells slots → lv_has ls 4 [(0, va_rf (some a0)), (1, va_rf (some q2)), (2, .int z)] → W p l e (jm_rm 2 42 M M') s m args below meth c H locs cells slots (jm_MQ below g b (some (va_rf r)) M M' args s) (F0 m 18 ls [])) (We := fun (y : Unit) (Mz : Mem) => ∀ (H : Heap) (locs : List Loc) (cells slots : Nat) (ls : Array Slot), jm_St g b M M' Mz s (jm_rm 2 42 M M') H locs cells slots → lv_has ls 4 [(1, va_rf (some q2))] → W p l e (jm_rm 2 42 M M') s m args below meth c H locs cells slots (jm_MQ below g b (some (va_rf r)) M M' args s) (F0 m 64 ls [])) ?_ N (0 : Int32) Mm9 xl18 Ml18 hit18 hlf18 hwe18 _ _ _ _ _ hst (lv_sub hl [2, 1, 0] rfl)
  intro v2 Mm32 xe18 Me18 hf hle18 hk18 H locs cells slots ls hst hl
  have hf : (jf_X11_turned_L18 N a0 (some q2) v2).1 Mm32 = some (xe18, Me18) := hf
  have hl : lv_has ls 4 [(0, va_rf (some a0)), (1, va_rf (some q2)), (2, .int v2)] := hl
  exact B18 a0 (some q2) v2 _ _ _ hf hle18 hk18 _ _ _ _ _ hst (lv_sub hl [0, 1, 2] rfl)
def jf_X11_times_k18_100 (N : Nat) (v2 : Option Nat) : jm_P (Option Nat) :=
  jm_ret v2
def jf_X11_times_k29_94 (N : Nat) (a0 : Nat) (v1 : Option Nat) (v2 : Option Nat) (v3 : Int32) : jm_P (Int32 ⊕ Unit) :=
  jm_ret (.inl (v3 + 1))
def jf_X11_times_k41_88 (N : Nat) (a0 : Nat) (v1 : Option Nat) (v2 : Option Nat) (v3 : Int32) (v4 : Int32) : jm_P (Int32 ⊕ Unit) :=
  jm_ret (.inl (v4 + 1))
def jf_X11_times_L41 (N : Nat) (a0 : Nat) (v1 : Option Nat) (v2 : Option Nat) (v3 : Int32) (v4 : Int32) (v5 : Int32) : jm_P (Int32 ⊕ Unit) :=
  jm_rd (jm_fI [11] 2 (some a0)) fun x20 =>
  if x20 ≤ v5 then (
    jm_ret (.inr ()))
  else
    jm_rd (jm_fR [11] 0 v2) fun x22 =>
    jm_rd (jm_ldR 13 x22 v3) fun x24 =>
    jm_rd (jm_ldJ 2 x24 v4) fun x26 =>
    jm_rd (jm_fR [11] 0 (some a0)) fun x28 =>
    jm_rd (jm_ldR 13 x28 v3) fun x30 =>
    jm_rd (jm_ldJ 2 x30 v5) fun x32 =>
    jm_rd (jm_fR [11] 0 v1) fun x34 =>
    jm_rd (jm_ldR 13 x34 v5) fun x36 =>
    jm_rd (jm_ldJ 2 x36 v4) fun x38 =>
    jm_wr (jm_stJ 2 x24 v4 (x26 + (x32 * x38))) <|
    jm_ret (.inl (v5 + 1))
def jf_X11_times_L29 (N : Nat) (a0 : Nat) (v1 : Option Nat) (v2 : Option Nat) (v3 : Int32) (v4 : Int32) : jm_P (Int32 ⊕ Unit) :=
  jm_rd (jm_fI [11] 2 v1) fun x17 =>
  if x17 ≤ v4 then (
    jm_ret (.inr ()))
  else
    jm_bd (jm_it (fun z => jf_X11_times_L41 N a0 v1 v2 v3 v4 z) N (0 : Int32)) fun y =>
    jf_X11_times_k41_88 N a0 v1 v2 v3 v4
def jf_X11_times_L18 (N : Nat) (a0 : Nat) (v1 : Option Nat) (v2 : Option Nat) (v3 : Int32) : jm_P (Int32 ⊕ Unit) :=
  jm_rd (jm_fI [11] 1 (some a0)) fun x13 =>
  if x13 ≤ v3 then (
    jm_ret (.inr ()))
  else
    jm_bd (jm_it (fun z => jf_X11_times_L29 N a0 v1 v2 v3 z) N (0 : Int32)) fun y =>
    jf_X11_times_k29_94 N a0 v1 v2 v3
def jf_X11_times (N : Nat) (a0 : Nat) (v1 : Option Nat) : jm_P (Option Nat) :=
  jm_al (.inr (11, [.null, .int 0, .int 0])) fun q2 =>
  jm_rd (jm_fI [11] 1 (some a0)) fun x4 =>
  jm_rd (jm_fI [11] 2 v1) fun x6 =>
  jm_bd (jf_X11_init N q2 x4 x6) fun x8 =>
  jm_bd (jm_it (fun z => jf_X11_times_L18 N a0 v1 (some q2) z) N (0 : Int32)) fun y =>
  jf_X11_times_k18_100 N (some q2)
set_option maxHeartbeats 4000000 in
set_option maxRecDepth 100000 in
theorem jt_X11_times (l : Launch) (g : GD) (b N : Nat) (a0 : Nat) (v1 : Option Nat) (M M' : Mem) (r : (Option Nat)) (hf : (jf_X11_times N a0 v1).1 M = some (r, M')) : jm_Met l g b yX11_times (ws_ yX11_times cX11_times 6 (some (.object "ChainParts$Table"))) 2 42 [va_rf (some a0), va_rf v1] M M' (some (va_rf r)) := by
  refine jm_start (by decide) (jm_mono hf) (by rw [lg_sl_r, lg_sl_r, lg_sl_n]; exact Nat.le_of_ble_eq_true rfl) ?_
  intro p e s m args below meth c ls C0 hin hK hst hl
  obtain ⟨hx, hb, hml, hown, hts, hr, hlk⟩ := id C0
  have hown : s.vm.findClass RX11 = some m.cls := hown
  have C0 : jm_Cx p s m args meth c cX11_times 6 (some (.object "ChainParts$Table")) RX11 := C0
  rw [lv_args_r, lv_args_r, lv_args_n] at hl
  have hl : lv_has ls 6 [(0, va_rf (some a0)), (1, va_rf v1)] := hl
  have K18_100 : ∀ (v2 : Option Nat) (Mm1 : Mem), (jf_X11_times_k18_100 N v2).1 Mm1 = some (r, M') → ∀ (H : Heap) (locs : List Loc) (cells slots : Nat) (ls : Array Slot), jm_St g b M M' Mm1 s (jm_rm 2 42 M M') H locs cells slots → lv_has ls 6 [(2, va_rf v2)] → W p l e (jm_rm 2 42 M M') s m args below meth c H locs cells slots (jm_MQ below g b (some (va_rf r)) M M' args s) (F0 m 100 ls []) := by
    intro v2 Mm1 hf H locs cells slots ls hst hl
    unfold jf_X11_times_k18_100 at hf
    refine jw_aload_n (r := v2) hx hb dX11_times_100 rfl (lv_at hl 0 rfl) ?_
    obtain ⟨rfl, rfl⟩ := jm_ret_some hf
    exact jw_aret C0 (Or.inl ⟨_, rfl⟩) hst dX11_times_101
  have B18 : ∀ (a0 : Nat) (v1 : Option Nat) (v2 : Option Nat) (v3 : Int32) (Mm12 : Mem) (xe18 : (Int32 ⊕ Unit)) (Me18 : Mem), (jf_X11_times_L18 N a0 v1 v2 v3).1 Mm12 = some (xe18, Me18) → jm_le Me18 M' → (jm_or (fun (z : Int32) => ∀ (H : Heap) (locs : List Loc) (cells slots : Nat) (ls : Array Slot), jm_St g b M M' Me18 s (jm_rm 2 42 M M') H locs cells slots → lv_has ls 6 [(0, va_rf (some a0)), (1, va_rf v1), (2, va_rf v2), (3, .int z)] → W p l e (jm_rm 2 42 M M') s m args below meth c H locs cells slots (jm_MQ below g b (some (va_rf r)) M M' args s) (F0 m 18 ls [])) (fun (y : Unit) => ∀ (H : Heap) (locs : List Loc) (cells slots : Nat) (ls : Array Slot), jm_St g b M M' Me18 s (jm_rm 2 42 M M') H locs cells slots → lv_has ls 6 [(2, va_rf v2)] → W p l e (jm_rm 2 42 M M') s m args below meth c H locs cells slots (jm_MQ below g b (some (va_rf r)) M M' args s) (F0 m 100 ls [])) xe18) → ∀ (H : Heap) (locs : List Loc) (cells slots : Nat) (ls : Array Slot), jm_St g b M M' Mm12 s (jm_rm 2 42 M M') H locs cells slots → lv_has ls 6 [(0, va_rf (some a0)), (1, va_rf v1), (2, va_rf v2), (3, .int v3)] → W p l e (jm_rm 2 42 M M') s m args below meth c H locs cells slots (jm_MQ below g b (some (va_rf r)) M M' args s) (F0 m 18 ls []) := by
    intro a0 v1 v2 v3 Mm12 xe18 Me18 hf hle18 hk18
    have K29_94 : ∀ (v3 : Int32) (Mm11 : Mem), (jf_X11_times_k29_94 N a0 v1 v2 v3).1 Mm11 = some (xe18, Me18) → ∀ (H : Heap) (locs : List Loc) (cells slots : Nat) (ls : Array Slot), jm_St g b M M' Mm11 s (jm_rm 2 42 M M') H locs cells slots → lv_has ls 6 [(0, va_rf (some a0)), (1, va_rf v1), (2, va_rf v2), (3, .int v3)] → W p l e (jm_rm 2 42 M M') s m args below meth c H locs cells slots (jm_MQ below g b (some (va_rf r)) M M' args s) (F0 m 94 ls []) := by
      intro v3 Mm11 hf H locs cells slots ls hst hl
      unfold jf_X11_times_k29_94 at hf
      refine lv_iinc (i := 3) (v := (v3 + 1)) (lv' := [(3, .int (v3 + 1)), (0, va_rf (some a0)), (1, va_rf v1), (2, va_rf v2)]) hx hb dX11_times_94 hl (k := 3) rfl (by rfl) (by decide) (by simp [va_rf_cat, cat_i, cat_j, cat_f]) (fun ls hl => ?_)
      refine lv_goto (tgt := 18) hx hb dX11_times_97 (by decide) ?_
      obtain ⟨rfl, rfl⟩ := jm_ret_some hf
      exact jm_or_l hk18 _ _ _ _ _ hst (lv_sub hl [1, 2, 3, 0] rfl)
    have B29 : ∀ (a0 : Nat) (v1 : Option Nat) (v2 : Option Nat) (v3 : Int32) (v4 : Int32) (Mm16 : Mem) (xe29 : (Int32 ⊕ Unit)) (Me29 : Mem), (jf_X11_times_L29 N a0 v1 v2 v3 v4).1 Mm16 = some (xe29, Me29) → jm_le Me29 M' → (jm_or (fun (z : Int32) => ∀ (H : Heap) (locs : List Loc) (cells slots : Nat) (ls : Array Slot), jm_St g b M M' Me29 s (jm_rm 2 42 M M') H locs cells slots → lv_has ls 6 [(0, va_rf (some a0)), (1, va_rf v1), (2, va_rf v2), (3, .int v3), (4, .int z)] → W p l e (jm_rm 2 42 M M') s m args below meth c H locs cells slots (jm_MQ below g b (some (va_rf r)) M M' args s) (F0 m 29 ls [])) (fun (y : Unit) => ∀ (H : Heap) (locs : List Loc) (cells slots : Nat) (ls : Array Slot), jm_St g b M M' Me29 s (jm_rm 2 42 M M') H locs cells slots → lv_has ls 6 [(0, va_rf (some a0)), (1, va_rf v1), (2, va_rf v2), (3, .int v3)] → W p l e (jm_rm 2 42 M M') s m args below meth c H locs cells slots (jm_MQ below g b (some (va_rf r)) M M' args s) (F0 m 94 ls [])) xe29) → ∀ (H : Heap) (locs : List Loc) (cells slots : Nat) (ls : Array Slot), jm_St g b M M' Mm16 s (jm_rm 2 42 M M') H locs cells slots → lv_has ls 6 [(0, va_rf (some a0)), (1, va_rf v1), (2, va_rf v2), (3, .int v3), (4, .int v4)] → W p l e (jm_rm 2 42 M M') s m args below meth c H locs cells slots (jm_MQ below g b (some (va_rf r)) M M' args s) (F0 m 29 ls []) := by
      intro a0 v1 v2 v3 v4 Mm16 xe29 Me29 hf hle29 hk29
      have K41_88 : ∀ (v4 : Int32) (Mm15 : Mem), (jf_X11_times_k41_88 N a0 v1 v2 v3 v4).1 Mm15 = some (xe29, Me29) → ∀ (H : Heap) (locs : List Loc) (cells slots : Nat) (ls : Array Slot), jm_St g b M M' Mm15 s (jm_rm 2 42 M M') H locs cells slots → lv_has ls 6 [(0, va_rf (some a0)), (1, va_rf v1), (2, va_rf v2), (3, .int v3), (4, .int v4)] → W p l e (jm_rm 2 42 M M') s m args below meth c H locs cells slots (jm_MQ below g b (some (va_rf r)) M M' args s) (F0 m 88 ls []) := by
        intro v4 Mm15 hf H locs cells slots ls hst hl
        unfold jf_X11_times_k41_88 at hf
        refine lv_iinc (i := 4) (v := (v4 + 1)) (lv' := [(4, .int (v4 + 1)), (0, va_rf (some a0)), (1, va_rf v1), (2, va_rf v2), (3, .int v3)]) hx hb dX11_times_88 hl (k := 4) rfl (by rfl) (by decide) rfl (fun ls hl => ?_)
        refine lv_goto (tgt := 29) hx hb dX11_times_91 (by decide) ?_
        obtain ⟨rfl, rfl⟩ := jm_ret_some hf
        exact jm_or_l hk29 _ _ _ _ _ hst (lv_sub hl [1, 2, 3, 4, 0] rfl)
      have B41 : ∀ (a0 : Nat) (v1 : Option Nat) (v2 : Option Nat) (v3 : Int32) (v4 : Int32) (v5 : Int32) (Mm19 : Mem) (xe41 : (Int32 ⊕ Unit)) (Me41 : Mem), (jf_X11_times_L41 N a0 v1 v2 v3 v4 v5).1 Mm19 = some (xe41, Me41) → jm_le Me41 M' → (jm_or (fun (z : Int32) => ∀ (H : Heap) (locs : List Loc) (cells slots : Nat) (ls : Array Slot), jm_St g b M M' Me41 s (jm_rm 2 42 M M') H locs cells slots → lv_has ls 6 [(0, va_rf (some a0)), (1, va_rf v1), (2, va_rf v2), (3, .int v3), (4, .int v4), (5, .int z)] → W p l e (jm_rm 2 42 M M') s m args below meth c H locs cells slots (jm_MQ below g b (some (va_rf r)) M M' args s) (F0 m 41 ls [])) (fun (y : Unit) => ∀ (H : Heap) (locs : List Loc) (cells slots : Nat) (ls : Array Slot), jm_St g b M M' Me41 s (jm_rm 2 42 M M') H locs cells slots → lv_has ls 6 [(0, va_rf (some a0)), (1, va_rf v1), (2, va_rf v2), (3, .int v3), (4, .int v4)] → W p l e (jm_rm 2 42 M M') s m args below meth c H locs cells slots (jm_MQ below g b (some (va_rf r)) M M' args s) (F0 m 88 ls [])) xe41) → ∀ (H : Heap) (locs : List Loc) (cells slots : Nat) (ls : Array Slot), jm_St g b M M' Mm19 s (jm_rm 2 42 M M') H locs cells slots → lv_has ls 6 [(0, va_rf (some a0)), (1, va_rf v1), (2, va_rf v2), (3, .int v3), (4, .int v4), (5, .int v5)] → W p l e (jm_rm 2 42 M M') s m args below meth c H locs cells slots (jm_MQ below g b (some (va_rf r)) M M' args s) (F0 m 41 ls []) := by
        intro a0 v1 v2 v3 v4 v5 Mm19 xe41 Me41 hf hle41 hk41
        intro H locs cells slots ls hst hl
        unfold jf_X11_times_L41 at hf
        refine lv_iload hx hb dX11_times_41 (lv_at hl 5 rfl) ?_
        refine jw_aload_n (r := (some a0)) hx hb dX11_times_43 rfl (lv_at hl 0 rfl) ?_
        obtain ⟨x20, h21, hf⟩ := jm_rd_some hf
        refine jw_getI hx hb hts hown hK hst (fl_X11_15 hts hK) h21 dX11_times_44 ?_
        refine lv_icmp_ge (tgt := 88) hx hb dX11_times_47 (by decide) (fun hc => ?_) (fun hc => ?_)
        · rw [if_pos hc] at hf
          obtain ⟨rfl, rfl⟩ := jm_ret_some hf
          exact jm_or_r hk41 _ _ _ _ _ hst (lv_sub hl [0, 1, 2, 3, 4] rfl)
        · rw [if_neg hc] at hf
          refine jw_aload_n (r := v2) hx hb dX11_times_50 rfl (lv_at hl 2 rfl) ?_
          obtain ⟨x22, h23, hf⟩ := jm_rd_some hf
          refine jw_getR hx hb hts hown hK hst (fl_X11_20 hts hK) h23 dX11_times_51 ?_
          refine lv_iload_n hx hb dX11_times_54 rfl (lv_at hl 3 rfl) ?_
          obtain ⟨x24, h25, hf⟩ := jm_rd_some hf
          refine jw_aald hx hb hK hst (show jm_ty[13]? = some (.array .long) from rfl) rfl h25 dX11_times_55 ?_
          refine lv_iload hx hb dX11_times_56 (lv_at hl 4 rfl) ?_
          refine lv_dup2_11 hx hb dX11_times_58 rfl (va_rf_cat _) ?_
          obtain ⟨x26, h27, hf⟩ := jm_rd_some hf
          refine jw_lald hx hb hK hst h27 dX11_times_59 ?_
          refine jw_aload_n (r := (some a0)) hx hb dX11_times_60 rfl (lv_at hl 0 rfl) ?_
          obtain ⟨x28, h29, hf⟩ := jm_rd_some hf
          refine jw_getR hx hb hts hown hK hst (fl_X11_20 hts hK) h29 dX11_times_61 ?_
          refine lv_iload_n hx hb dX11_times_64 rfl (lv_at hl 3 rfl) ?_
          obtain ⟨x30, h31, hf⟩ := jm_rd_some hf
          refine jw_aald hx hb hK hst (show jm_ty[13]? = some (.array .long) from rfl) rfl h31 dX11_times_65 ?_
          refine lv_iload hx hb dX11_times_66 (lv_at hl 5 rfl) ?_
          obtain ⟨x32, h33, hf⟩ := jm_rd_some hf
          refine jw_lald hx hb hK hst h33 dX11_times_68 ?_
          refine jw_aload_n (r := v1) hx hb dX11_times_69 rfl (lv_at hl 1 rfl) ?_
          obtain ⟨x34, h35, hf⟩ := jm_rd_some hf
          refine jw_getR hx hb hts hown hK hst (fl_X11_20 hts hK) h35 dX11_times_70 ?_
          refine lv_iload hx hb dX11_times_73 (lv_at hl 5 rfl) ?_
          obtain ⟨x36, h37, hf⟩ := jm_rd_some hf
          refine jw_aald hx hb hK hst (show jm_ty[13]? = some (.array .long) from rfl) rfl h37 dX11_times_75 ?_
          refine lv_iload hx hb dX11_times_76 (lv_at hl 4 rfl) ?_
          obtain ⟨x38, h39, hf⟩ := jm_rd_some hf
          refine jw_lald hx hb hK hst h39 dX11_times_78 ?_
          refine lv_lmul hx hb dX11_times_79 ?_
          refine lv_ladd hx hb dX11_times_80 ?_
          obtain ⟨F40, h41, hf⟩ := jm_wr_some hf
          refine jw_last (r := x24) hx hb hK hst h41 dX11_times_81 (fun H locs hst => ?_)
          generalize ((Mm19.1, Mm19.2.1, F40) : Mem) = Mm42 at hf hst
          refine lv_iinc (i := 5) (v := (v5 + 1)) (lv' := [(5, .int (v5 + 1)), (0, va_rf (some a0)), (1, va_rf v1), (2, va_rf v2), (3, .int v3), (4, .int v4)]) hx hb dX11_times_82 hl (k := 5) rfl (by rfl) (by decide) rfl (fun ls hl => ?_)
          refine lv_goto (tgt := 41) hx hb dX11_times_85 (by decide) ?_
          obtain ⟨rfl, rfl⟩ := jm_ret_some hf
          exact jm_or_l hk41 _ _ _ _ _ hst (lv_sub hl [1, 2, 3, 4, 5, 0] rfl)
      intro H locs cells slots ls hst hl
      unfold jf_X11_times_L29 at hf
      refine lv_iload hx hb dX11_times_29 (lv_at hl 4 rfl) ?_
      refine jw_aload_n (r := v1) hx hb dX11_times_31 rfl (lv_at hl 1 rfl) ?_
      obtain ⟨x17, h18, hf⟩ := jm_rd_some hf
      refine jw_getI hx hb hts hown hK hst (fl_X11_15 hts hK) h18 dX11_times_32 ?_
      refine lv_icmp_ge (tgt := 94) hx hb dX11_times_35 (by decide) (fun hc => ?_) (fun hc => ?_)
      · rw [if_pos hc] at hf
        obtain ⟨rfl, rfl⟩ := jm_ret_some hf
        exact jm_or_r hk29 _ _ _ _ _ hst (lv_sub hl [0, 1, 2, 3] rfl)
      · rw [if_neg hc] at hf
        refine lv_iconst (v := 0) hx hb dX11_times_38 (by decide) ?_
        refine lv_istore (i := 5) (lv' := [(5, .int (0 : Int32)), (0, va_rf (some a0)), (1, va_rf v1), (2, va_rf v2), (3, .int v3), (4, .int v4)]) hx hb dX11_times_39 hl (by decide) rfl (fun ls hl => ?_)
        obtain ⟨xl41, Ml41, hit41, hf⟩ := jm_bd_some hf
        have hlf41 : jm_le Ml41 M' := jm_le_tr (jm_mono hf) hle29
        have hwe41 : (fun (y : Unit) (Mz : Mem) => ∀ (H : Heap) (locs : List Loc) (cells slots : Nat) (ls : Array Slot), jm_St g b M M' Mz s (jm_rm 2 42 M M') H locs cells slots → lv_has ls 6 [(0, va_rf (some a0)), (1, va_rf v1), (2, va_rf v2), (3, .int v3), (4, .int v4)] → W p l e (jm_rm 2 42 M M') s m args below meth c H locs cells slots (jm_MQ below g b (some (va_rf r)) M M' args s) (F0 m 88 ls [])) xl41 Ml41 := fun H locs cells slots ls hst hl => K41_88 v4 _ hf H locs cells slots ls hst hl
        refine jm_it_walk (Mf := M') (Wh := fun (z : Int32) (Mz : Mem) => ∀ (H : Heap) (locs : List Loc) (cells slots : Nat) (ls : Array Slot), jm_St g b M M' Mz s (jm_rm 2 42 M M') H locs cells slots → lv_has ls 6 [(0, va_rf (some a0)), (1, va_rf v1), (2, va_rf v2), (3, .int v3), (4, .int v4), (5, .int z)] → W p l e (jm_rm 2 42 M M') s m args below meth c H locs cells slots (jm_MQ below g b (some (va_rf r)) M M' args s) (F0 m 41 ls [])) (We := fun (y : Unit) (Mz : Mem) => ∀ (H : Heap) (locs : List Loc) (cells slots : Nat) (ls : Array Slot), jm_St g b M M' Mz s (jm_rm 2 42 M M') H locs cells slots → lv_has ls 6 [(0, va_rf (some a0)), (1, va_rf v1), (2, va_rf v2), (3, .int v3), (4, .int v4)] → W p l e (jm_rm 2 42 M M') s m args below meth c H locs cells slots (jm_MQ below g b (some (va_rf r)) M M' args s) (F0 m 88 ls [])) ?_ N (0 : Int32) Mm16 xl41 Ml41 hit41 hlf41 hwe41 _ _ _ _ _ hst (lv_sub hl [1, 2, 3, 4, 5, 0] rfl)
        intro v5 Mm43 xe41 Me41 hf hle41 hk41 H locs cells slots ls hst hl
        have hf : (jf_X11_times_L41 N a0 v1 v2 v3 v4 v5).1 Mm43 = some (xe41, Me41) := hf
        have hl : lv_has ls 6 [(0, va_rf (some a0)), (1, va_rf v1), (2, va_rf v2), (3, .int v3), (4, .int v4), (5, .int v5)] := hl
        exact B41 a0 v1 v2 v3 v4 v5 _ _ _ hf hle41 hk41 _ _ _ _ _ hst (lv_sub hl [0, 1, 2, 3, 4, 5] rfl)
    intro H locs cells slots ls hst hl
    unfold jf_X11_times_L18 at hf
    refine lv_iload_n hx hb dX11_times_18 rfl (lv_at hl 3 rfl) ?_
    refine jw_aload_n (r := (some a0)) hx hb dX11_times_19 rfl (lv_at hl 0 rfl) ?_
    obtain ⟨x13, h14, hf⟩ := jm_rd_some hf
    refine jw_getI hx hb hts hown hK hst (fl_X11_9 hts hK) h14 dX11_times_20 ?_
    refine lv_icmp_ge (tgt := 100) hx hb dX11_times_23 (by decide) (fun hc => ?_) (fun hc => ?_)
    · rw [if_pos hc] at hf
      obtain ⟨rfl, rfl⟩ := jm_ret_some hf
      exact jm_or_r hk18 _ _ _ _ _ hst (lv_sub hl [2] rfl)
    · rw [if_neg hc] at hf
      refine lv_iconst (v := 0) hx hb dX11_times_26 (by decide) ?_
      refine lv_istore (i := 4) (lv' := [(4, .int (0 : Int32)), (0, va_rf (some a0)), (1, va_rf v1), (2, va_rf v2), (3, .int v3)]) hx hb dX11_times_27 hl (by decide) rfl (fun ls hl => ?_)
      obtain ⟨xl29, Ml29, hit29, hf⟩ := jm_bd_some hf
      have hlf29 : jm_le Ml29 M' := jm_le_tr (jm_mono hf) hle18
      have hwe29 : (fun (y : Unit) (Mz : Mem) => ∀ (H : Heap) (locs : List Loc) (cells slots : Nat) (ls : Array Slot), jm_St g b M M' Mz s (jm_rm 2 42 M M') H locs cells slots → lv_has ls 6 [(0, va_rf (some a0)), (1, va_rf v1), (2, va_rf v2), (3, .int v3)] → W p l e (jm_rm 2 42 M M') s m args below meth c H locs cells slots (jm_MQ below g b (some (va_rf r)) M M' args s) (F0 m 94 ls [])) xl29 Ml29 := fun H locs cells slots ls hst hl => K29_94 v3 _ hf H locs cells slots ls hst hl
      refine jm_it_walk (Mf := M') (Wh := fun (z : Int32) (Mz : Mem) => ∀ (H : Heap) (locs : List Loc) (cells slots : Nat) (ls : Array Slot), jm_St g b M M' Mz s (jm_rm 2 42 M M') H locs cells slots → lv_has ls 6 [(0, va_rf (some a0)), (1, va_rf v1), (2, va_rf v2), (3, .int v3), (4, .int z)] → W p l e (jm_rm 2 42 M M') s m args below meth c H locs cells slots (jm_MQ below g b (some (va_rf r)) M M' args s) (F0 m 29 ls [])) (We := fun (y : Unit) (Mz : Mem) => ∀ (H : Heap) (locs : List Loc) (cells slots : Nat) (ls : Array Slot), jm_St g b M M' Mz s (jm_rm 2 42 M M') H locs cells slots → lv_has ls 6 [(0, va_rf (some a0)), (1, va_rf v1), (2, va_rf v2), (3, .int v3)] → W p l e (jm_rm 2 42 M M') s m args below meth c H locs cells slots (jm_MQ below g b (some (va_rf r)) M M' args s) (F0 m 94 ls [])) ?_ N (0 : Int32) Mm12 xl29 Ml29 hit29 hlf29 hwe29 _ _ _ _ _ hst (lv_sub hl [1, 2, 3, 4, 0] rfl)
      intro v4 Mm44 xe29 Me29 hf hle29 hk29 H locs cells slots ls hst hl
      have hf : (jf_X11_times_L29 N a0 v1 v2 v3 v4).1 Mm44 = some (xe29, Me29) := hf
      have hl : lv_has ls 6 [(0, va_rf (some a0)), (1, va_rf v1), (2, va_rf v2), (3, .int v3), (4, .int v4)] := hl
      exact B29 a0 v1 v2 v3 v4 _ _ _ hf hle29 hk29 _ _ _ _ _ hst (lv_sub hl [0, 1, 2, 3, 4] rfl)
  unfold jf_X11_times at hf
  obtain ⟨q2, hq2, hf⟩ := jm_al_some hf
  refine jw_new (ci := 11) (C := RX11) (T := TX11) (N := 3) (fs := [.null, .int 0, .int 0]) hx hb hts in_X11 tyX11 tyX11_ok hown (hts _ q652) (hts _ q616) (hts _ q90) hK hst rfl (fun j hj => by match j, hj with | 0, _ => rfl | 1, _ => rfl | 2, _ => rfl | k + 3, hj => omega) rfl (jm_le_tr (jm_mono hf) jm_le_rf) hq2 dX11_times_0 (fun H cells slots hst => ?_)
  generalize jm_new (.inr (11, [.null, .int 0, .int 0])) M = Mm3 at hf hst
  refine lv_dup hx hb dX11_times_3 (va_rf_cat _) ?_
  refine jw_aload_n (r := (some a0)) hx hb dX11_times_4 rfl (lv_at hl 0 rfl) ?_
  obtain ⟨x4, h5, hf⟩ := jm_rd_some hf
  refine jw_getI hx hb hts hown hK hst (fl_X11_9 hts hK) h5 dX11_times_5 ?_
  refine jw_aload_n (r := v1) hx hb dX11_times_8 rfl (lv_at hl 1 rfl) ?_
  obtain ⟨x6, h7, hf⟩ := jm_rd_some hf
  refine jw_getI hx hb hts hown hK hst (fl_X11_15 hts hK) h7 dX11_times_9 ?_
  obtain ⟨x8, Mm9, h10, hf⟩ := jm_bd_some hf
  refine jw_I (As := [.int x4, .int x6]) (rest := [va_rf (some q2)]) (rv := (some q2)) (jt_X11_init l g b N q2 x4 x6 Mm3 Mm9 x8 h10) C0 hK hst (jm_mono h10) (jm_le_tr (jm_mono hf) jm_le_rf) q653 q618 q90 q619 rfl hd_X11_init.2 ⟨Nat.le_of_ble_eq_true rfl, Nat.le_of_ble_eq_true rfl⟩ rfl rfl hl.1 rfl (by rw [cs_r, cs_n]; exact Nat.le_of_ble_eq_true rfl) dX11_times_12 (fun H locs cells slots hst => ?_)
  refine W.eq (g2 := F0 m 15 ls [va_rf (some q2)]) rfl ?_
  refine jw_astore_n (i := 2) (r := (some q2)) (lv' := [(2, va_rf (some q2)), (0, va_rf (some a0)), (1, va_rf v1)]) hx hb dX11_times_15 rfl hl (by decide) (by simp [va_rf_cat, cat_i, cat_j, cat_f]) (fun ls hl => ?_)
  refine lv_iconst (v := 0) hx hb dX11_times_16 (by decide) ?_
  refine lv_istore_n (i := 3) (lv' := [(3, .int (0 : Int32)), (2, va_rf (some q2)), (0, va_rf (some a0)), (1, va_rf v1)]) hx hb dX11_times_17 rfl hl (by decide) (by simp [va_rf_cat, cat_i, cat_j, cat_f]) (fun ls hl => ?_)
  obtain ⟨xl18, Ml18, hit18, hf⟩ := jm_bd_some hf
  have hlf18 : jm_le Ml18 M' := jm_le_tr (jm_mono hf) jm_le_rf
  have hwe18 : (fun (y : Unit) (Mz : Mem) => ∀ (H : Heap) (locs : List Loc) (cells slots : Nat) (ls : Array Slot), jm_St g b M M' Mz s (jm_rm 2 42 M M') H locs cells slots → lv_has ls 6 [(2, va_rf (some q2))] → W p l e (jm_rm 2 42 M M') s m args below meth c H locs cells slots (jm_MQ below g b (some (va_rf r)) M M' args s) (F0 m 100 ls [])) xl18 Ml18 := fun H locs cells slots ls hst hl => K18_100 (some q2) _ hf H locs cells slots ls hst hl
  refine jm_it_walk (Mf := M') (Wh := fun (z : Int32) (Mz : Mem) => ∀ (H : Heap) (locs : List Loc) (cells slots : Nat) (ls : Array Slot), jm_St g b M M' Mz s (jm_rm 2 42 M M') H locs cells slots → lv_has ls 6 [(0, va_rf (some a0)), (1, va_rf v1), (2, va_rf (some q2)), (3, .int z)] → W p l e (jm_rm 2 42 M M') s m args below meth c H locs cells slots (jm_MQ below g b (some (va_rf r)) M M' args s) (F0 m 18 ls [])) (We := fun (y : Unit) (Mz : Mem) => ∀ (H : Heap) (locs : List Loc) (cells slots : Nat) (ls : Array Slot), jm_St g b M M' Mz s (jm_rm 2 42 M M') H locs cells slots → lv_has ls 6 [(2, va_rf (some q2))] → W p l e (jm_rm 2 42 M M') s m args below meth c H locs cells slots (jm_MQ below g b (some (va_rf r)) M M' args s) (F0 m 100 ls [])) ?_ N (0 : Int32) Mm9 xl18 Ml18 hit18 hlf18 hwe18 _ _ _ _ _ hst (lv_sub hl [2, 3, 1, 0] rfl)
  intro v3 Mm45 xe18 Me18 hf hle18 hk18 H locs cells slots ls hst hl
  have hf : (jf_X11_times_L18 N a0 v1 (some q2) v3).1 Mm45 = some (xe18, Me18) := hf
  have hl : lv_has ls 6 [(0, va_rf (some a0)), (1, va_rf v1), (2, va_rf (some q2)), (3, .int v3)] := hl
  exact B18 a0 v1 (some q2) v3 _ _ _ hf hle18 hk18 _ _ _ _ _ hst (lv_sub hl [0, 1, 2, 3] rfl)
def jf_X11_like_k18_50 (N : Nat) (v1 : Option Nat) : jm_P (Option Nat) :=
  jm_ret v1
def jf_X11_like_L18 (N : Nat) (a0 : Nat) (v1 : Option Nat) (v2 : Int32) : jm_P (Int32 ⊕ Unit) :=
  jm_rd (jm_fI [11] 1 (some a0)) fun x12 =>
  if x12 ≤ v2 then (
    jm_ret (.inr ()))
  else
    jm_rd (jm_fR [11] 0 v1) fun x14 =>
    jm_rd (jm_fR [11] 0 (some a0)) fun x16 =>
    jm_rd (jm_ldR 13 x16 v2) fun x18 =>
    jm_rd (jm_arJ 2 x18) fun y20 =>
    jm_al (.inl (2, y20.1, .inr (.inl y20.2))) fun q21 =>
    jm_rd (jm_ar 2 (some q21)) fun _ =>
    jm_rd (jm_ck (¬ (some q21) = none)) fun _ =>
    jm_wr (jm_stR 13 [] (some 2) x14 v2 (some q21)) <|
    jm_ret (.inl (v2 + 1))
def jf_X11_like (N : Nat) (a0 : Nat) : jm_P (Option Nat) :=
  jm_al (.inr (11, [.null, .int 0, .int 0])) fun q2 =>
  jm_rd (jm_fI [11] 1 (some a0)) fun x4 =>
  jm_rd (jm_fI [11] 2 (some a0)) fun x6 =>
  jm_bd (jf_X11_init N q2 x4 x6) fun x8 =>
  jm_bd (jm_it (fun z => jf_X11_like_L18 N a0 (some q2) z) N (0 : Int32)) fun y =>
  jf_X11_like_k18_50 N (some q2)
set_option maxHeartbeats 4000000 in
set_option maxRecDepth 100000 in
theorem jt_X11_like (l : Launch) (g : GD) (b N : Nat) (a0 : Nat) (M M' : Mem) (r : (Option Nat)) (hf : (jf_X11_like N a0).1 M = some (r, M')) : jm_Met l g b yX11_like (ws_ yX11_like cX11_like 3 (some (.object "ChainParts$Table"))) 2 42 [va_rf (some a0)] M M' (some (va_rf r)) := by
  refine jm_start (by decide) (jm_mono hf) (by rw [lg_sl_r, lg_sl_n]; exact Nat.le_of_ble_eq_true rfl) ?_
  intro p e s m args below meth c ls C0 hin hK hst hl
  obtain ⟨hx, hb, hml, hown, hts, hr, hlk⟩ := id C0
  have hown : s.vm.findClass RX11 = some m.cls := hown
  have C0 : jm_Cx p s m args meth c cX11_like 3 (some (.object "ChainParts$Table")) RX11 := C0
  rw [lv_args_r, lv_args_n] at hl
  have hl : lv_has ls 3 [(0, va_rf (some a0))] := hl
  have K18_50 : ∀ (v1 : Option Nat) (Mm1 : Mem), (jf_X11_like_k18_50 N v1).1 Mm1 = some (r, M') → ∀ (H : Heap) (locs : List Loc) (cells slots : Nat) (ls : Array Slot), jm_St g b M M' Mm1 s (jm_rm 2 42 M M') H locs cells slots → lv_has ls 3 [(1, va_rf v1)] → W p l e (jm_rm 2 42 M M') s m args below meth c H locs cells slots (jm_MQ below g b (some (va_rf r)) M M' args s) (F0 m 50 ls []) := by
    intro v1 Mm1 hf H locs cells slots ls hst hl
    unfold jf_X11_like_k18_50 at hf
    refine jw_aload_n (r := v1) hx hb dX11_like_50 rfl (lv_at hl 0 rfl) ?_
    obtain ⟨rfl, rfl⟩ := jm_ret_some hf
    exact jw_aret C0 (Or.inl ⟨_, rfl⟩) hst dX11_like_51
  have B18 : ∀ (a0 : Nat) (v1 : Option Nat) (v2 : Int32) (Mm11 : Mem) (xe18 : (Int32 ⊕ Unit)) (Me18 : Mem), (jf_X11_like_L18 N a0 v1 v2).1 Mm11 = some (xe18, Me18) → jm_le Me18 M' → (jm_or (fun (z : Int32) => ∀ (H : Heap) (locs : List Loc) (cells slots : Nat) (ls : Array Slot), jm_St g b M M' Me18 s (jm_rm 2 42 M M') H locs cells slots → lv_has ls 3 [(0, va_rf (some a0)), (1, va_rf v1), (2, .int z)] → W p l e (jm_rm 2 42 M M') s m args below meth c H locs cells slots (jm_MQ below g b (some (va_rf r)) M M' args s) (F0 m 18 ls [])) (fun (y : Unit) => ∀ (H : Heap) (locs : List Loc) (cells slots : Nat) (ls : Array Slot), jm_St g b M M' Me18 s (jm_rm 2 42 M M') H locs cells slots → lv_has ls 3 [(1, va_rf v1)] → W p l e (jm_rm 2 42 M M') s m args below meth c H locs cells slots (jm_MQ below g b (some (va_rf r)) M M' args s) (F0 m 50 ls [])) xe18) → ∀ (H : Heap) (locs : List Loc) (cells slots : Nat) (ls : Array Slot), jm_St g b M M' Mm11 s (jm_rm 2 42 M M') H locs cells slots → lv_has ls 3 [(0, va_rf (some a0)), (1, va_rf v1), (2, .int v2)] → W p l e (jm_rm 2 42 M M') s m args below meth c H locs cells slots (jm_MQ below g b (some (va_rf r)) M M' args s) (F0 m 18 ls []) := by
    intro a0 v1 v2 Mm11 xe18 Me18 hf hle18 hk18
    intro H locs cells slots ls hst hl
    unfold jf_X11_like_L18 at hf
    refine lv_iload_n hx hb dX11_like_18 rfl (lv_at hl 2 rfl) ?_
    refine jw_aload_n (r := (some a0)) hx hb dX11_like_19 rfl (lv_at hl 0 rfl) ?_
    obtain ⟨x12, h13, hf⟩ := jm_rd_some hf
    refine jw_getI hx hb hts hown hK hst (fl_X11_9 hts hK) h13 dX11_like_20 ?_
    refine lv_icmp_ge (tgt := 50) hx hb dX11_like_23 (by decide) (fun hc => ?_) (fun hc => ?_)
    · rw [if_pos hc] at hf
      obtain ⟨rfl, rfl⟩ := jm_ret_some hf
      exact jm_or_r hk18 _ _ _ _ _ hst (lv_sub hl [1] rfl)
    · rw [if_neg hc] at hf
      refine jw_aload_n (r := v1) hx hb dX11_like_26 rfl (lv_at hl 1 rfl) ?_
      obtain ⟨x14, h15, hf⟩ := jm_rd_some hf
      refine jw_getR hx hb hts hown hK hst (fl_X11_20 hts hK) h15 dX11_like_27 ?_
      refine lv_iload_n hx hb dX11_like_30 rfl (lv_at hl 2 rfl) ?_
      refine jw_aload_n (r := (some a0)) hx hb dX11_like_31 rfl (lv_at hl 0 rfl) ?_
      obtain ⟨x16, h17, hf⟩ := jm_rd_some hf
      refine jw_getR hx hb hts hown hK hst (fl_X11_20 hts hK) h17 dX11_like_32 ?_
      refine lv_iload_n hx hb dX11_like_35 rfl (lv_at hl 2 rfl) ?_
      obtain ⟨x18, h19, hf⟩ := jm_rd_some hf
      refine jw_aald hx hb hK hst (show jm_ty[13]? = some (.array .long) from rfl) rfl h19 dX11_like_36 ?_
      obtain ⟨y20, h22, hf⟩ := jm_rd_some hf
      obtain ⟨q21, hq21, hf⟩ := jm_al_some hf
      refine jw_clone (kd := 2) (t := .long) (x := (y20.1, .inr (.inl y20.2))) (ad := "[J") (r := x18) (rest := [.int v2, va_rf x14]) hx hb hml hl.1 hown (hts _ q670) (hts _ q671) (hts _ q493) (hts _ q494) (hts _ q672) nq673 hK hst rfl (jm_arJ_some h22) jm_nmJ jm_fitJ (Nat.le_of_ble_eq_true rfl) (by rw [cs_i, cs_r, cs_n]; exact Nat.le_of_ble_eq_true rfl) (jm_le_tr (jm_mono hf) hle18) hq21 dX11_like_37 (fun H cells slots hst => ?_)
      generalize jm_new (.inl (2, y20.1, .inr (.inl y20.2))) Mm11 = Mm23 at hf hst
      obtain ⟨y24, h25, hf⟩ := jm_rd_some hf
      refine jw_castA (kd := 2) (t := .long) (r := (some q21)) hx hb hown (hts _ q674) hK hst rfl h25 jm_nmJ dX11_like_40 ?_
      obtain ⟨_, h29, hf⟩ := jm_rd_some hf
      obtain ⟨F26, h27, hf⟩ := jm_wr_some hf
      refine jw_astA (kd := 13) (ke := 2) (r := x14) (v := (some q21)) hx hb hK hst rfl rfl hK.2.2.2.2.2.1 h27 dX11_like_43 (jm_some_of (jm_ck_some h29)) (fun H locs hst => ?_)
      generalize ((Mm23.1, Mm23.2.1, F26) : Mem) = Mm28 at hf hst
      refine lv_iinc (i := 2) (v := (v2 + 1)) (lv' := [(2, .int (v2 + 1)), (0, va_rf (some a0)), (1, va_rf v1)]) hx hb dX11_like_44 hl (k := 2) rfl (by rfl) (by decide) (by simp [va_rf_cat, cat_i, cat_j, cat_f]) (fun ls hl => ?_)
      refine lv_goto (tgt := 18) hx hb dX11_like_47 (by decide) ?_
      obtain ⟨rfl, rfl⟩ := jm_ret_some hf
      exact jm_or_l hk18 _ _ _ _ _ hst (lv_sub hl [1, 2, 0] rfl)
  unfold jf_X11_like at hf
  obtain ⟨q2, hq2, hf⟩ := jm_al_some hf
  refine jw_new (ci := 11) (C := RX11) (T := TX11) (N := 3) (fs := [.null, .int 0, .int 0]) hx hb hts in_X11 tyX11 tyX11_ok hown (hts _ q652) (hts _ q616) (hts _ q90) hK hst rfl (fun j hj => by match j, hj with | 0, _ => rfl | 1, _ => rfl | 2, _ => rfl | k + 3, hj => omega) rfl (jm_le_tr (jm_mono hf) jm_le_rf) hq2 dX11_like_0 (fun H cells slots hst => ?_)
  generalize jm_new (.inr (11, [.null, .int 0, .int 0])) M = Mm3 at hf hst
  refine lv_dup hx hb dX11_like_3 (va_rf_cat _) ?_
  refine jw_aload_n (r := (some a0)) hx hb dX11_like_4 rfl (lv_at hl 0 rfl) ?_
  obtain ⟨x4, h5, hf⟩ := jm_rd_some hf
  refine jw_getI hx hb hts hown hK hst (fl_X11_9 hts hK) h5 dX11_like_5 ?_
  refine jw_aload_n (r := (some a0)) hx hb dX11_like_8 rfl (lv_at hl 0 rfl) ?_
  obtain ⟨x6, h7, hf⟩ := jm_rd_some hf
  refine jw_getI hx hb hts hown hK hst (fl_X11_15 hts hK) h7 dX11_like_9 ?_
  obtain ⟨x8, Mm9, h10, hf⟩ := jm_bd_some hf
  refine jw_I (As := [.int x4, .int x6]) (rest := [va_rf (some q2)]) (rv := (some q2)) (jt_X11_init l g b N q2 x4 x6 Mm3 Mm9 x8 h10) C0 hK hst (jm_mono h10) (jm_le_tr (jm_mono hf) jm_le_rf) q653 q618 q90 q619 rfl hd_X11_init.2 ⟨Nat.le_of_ble_eq_true rfl, Nat.le_of_ble_eq_true rfl⟩ rfl rfl hl.1 rfl (by rw [cs_r, cs_n]; exact Nat.le_of_ble_eq_true rfl) dX11_like_12 (fun H locs cells slots hst => ?_)
  refine W.eq (g2 := F0 m 15 ls [va_rf (some q2)]) rfl ?_
  refine jw_astore_n (i := 1) (r := (some q2)) (lv' := [(1, va_rf (some q2)), (0, va_rf (some a0))]) hx hb dX11_like_15 rfl hl (by decide) (by simp [va_rf_cat, cat_i, cat_j, cat_f]) (fun ls hl => ?_)
  refine lv_iconst (v := 0) hx hb dX11_like_16 (by decide) ?_
  refine lv_istore_n (i := 2) (lv' := [(2, .int (0 : Int32)), (1, va_rf (some q2)), (0, va_rf (some a0))]) hx hb dX11_like_17 rfl hl (by decide) (by simp [va_rf_cat, cat_i, cat_j, cat_f]) (fun ls hl => ?_)
  obtain ⟨xl18, Ml18, hit18, hf⟩ := jm_bd_some hf
  have hlf18 : jm_le Ml18 M' := jm_le_tr (jm_mono hf) jm_le_rf
  have hwe18 : (fun (y : Unit) (Mz : Mem) => ∀ (H : Heap) (locs : List Loc) (cells slots : Nat) (ls : Array Slot), jm_St g b M M' Mz s (jm_rm 2 42 M M') H locs cells slots → lv_has ls 3 [(1, va_rf (some q2))] → W p l e (jm_rm 2 42 M M') s m args below meth c H locs cells slots (jm_MQ below g b (some (va_rf r)) M M' args s) (F0 m 50 ls [])) xl18 Ml18 := fun H locs cells slots ls hst hl => K18_50 (some q2) _ hf H locs cells slots ls hst hl
  refine jm_it_walk (Mf := M') (Wh := fun (z : Int32) (Mz : Mem) => ∀ (H : Heap) (locs : List Loc) (cells slots : Nat) (ls : Array Slot), jm_St g b M M' Mz s (jm_rm 2 42 M M') H locs cells slots → lv_has ls 3 [(0, va_rf (some a0)), (1, va_rf (some q2)), (2, .int z)] → W p l e (jm_rm 2 42 M M') s m args below meth c H locs cells slots (jm_MQ below g b (some (va_rf r)) M M' args s) (F0 m 18 ls [])) (We := fun (y : Unit) (Mz : Mem) => ∀ (H : Heap) (locs : List Loc) (cells slots : Nat) (ls : Array Slot), jm_St g b M M' Mz s (jm_rm 2 42 M M') H locs cells slots → lv_has ls 3 [(1, va_rf (some q2))] → W p l e (jm_rm 2 42 M M') s m args below meth c H locs cells slots (jm_MQ below g b (some (va_rf r)) M M' args s) (F0 m 50 ls [])) ?_ N (0 : Int32) Mm9 xl18 Ml18 hit18 hlf18 hwe18 _ _ _ _ _ hst (lv_sub hl [2, 1, 0] rfl)
  intro v2 Mm30 xe18 Me18 hf hle18 hk18 H locs cells slots ls hst hl
  have hf : (jf_X11_like_L18 N a0 (some q2) v2).1 Mm30 = some (xe18, Me18) := hf
  have hl : lv_has ls 3 [(0, va_rf (some a0)), (1, va_rf (some q2)), (2, .int v2)] := hl
  exact B18 a0 (some q2) v2 _ _ _ hf hle18 hk18 _ _ _ _ _ hst (lv_sub hl [0, 1, 2] rfl)
theorem hd_X11_like : yX11_like.cls = RX11 ∧ yX11_like.cls ≠ "java/lang/invoke/MethodHandle" ∧ yX11_like.cls ≠ "java/lang/invoke/VarHandle" ∧ (parseMethodDescriptor yX11_like.desc).map (fun d => d.parameters.length) = some 0 := by decide +kernel
def jf_X11_weighed_k7_56 (N : Nat) (v2 : Option Nat) : jm_P (Option Nat) :=
  jm_ret v2
def jf_X11_weighed_k18_50 (N : Nat) (a0 : Nat) (v1 : Option Nat) (v2 : Option Nat) (v3 : Int32) : jm_P (Int32 ⊕ Unit) :=
  jm_ret (.inl (v3 + 1))
def jf_X11_weighed_L18 (N : Nat) (a0 : Nat) (v1 : Option Nat) (v2 : Option Nat) (v3 : Int32) (v4 : Int32) : jm_P (Int32 ⊕ Unit) :=
  jm_rd (jm_fI [11] 2 (some a0)) fun x13 =>
  if x13 ≤ v4 then (
    jm_ret (.inr ()))
  else
    jm_rd (jm_fR [11] 0 v2) fun x15 =>
    jm_rd (jm_ldR 13 x15 v3) fun x17 =>
    jm_rd (jm_ldJ 2 x17 v4) fun x19 =>
    jm_rd (jm_ldI 0 v1 v4) fun x21 =>
    jm_wr (jm_stJ 2 x17 v4 (x19 * (x21.toInt64))) <|
    jm_ret (.inl (v4 + 1))
def jf_X11_weighed_L7 (N : Nat) (a0 : Nat) (v1 : Option Nat) (v2 : Option Nat) (v3 : Int32) : jm_P (Int32 ⊕ Unit) :=
  jm_rd (jm_fI [11] 1 (some a0)) fun x10 =>
  if x10 ≤ v3 then (
    jm_ret (.inr ()))
  else
    jm_bd (jm_it (fun z => jf_X11_weighed_L18 N a0 v1 v2 v3 z) N (0 : Int32)) fun y =>
    jf_X11_weighed_k18_50 N a0 v1 v2 v3
def jf_X11_weighed (N : Nat) (a0 : Nat) (v1 : Option Nat) : jm_P (Option Nat) :=
  jm_rd (jm_cl 11 (some a0)) fun a5 =>
  jm_bd (jf_X11_like N a5 ) fun x2 =>
  jm_bd (jm_it (fun z => jf_X11_weighed_L7 N a0 v1 x2 z) N (0 : Int32)) fun y =>
  jf_X11_weighed_k7_56 N x2
set_option maxHeartbeats 4000000 in
set_option maxRecDepth 100000 in
theorem jt_X11_weighed (l : Launch) (g : GD) (b N : Nat) (a0 : Nat) (v1 : Option Nat) (M M' : Mem) (r : (Option Nat)) (hf : (jf_X11_weighed N a0 v1).1 M = some (r, M')) : jm_Met l g b yX11_weighed (ws_ yX11_weighed cX11_weighed 5 (some (.object "ChainParts$Table"))) 3 64 [va_rf (some a0), va_rf v1] M M' (some (va_rf r)) := by
  refine jm_start (by decide) (jm_mono hf) (by rw [lg_sl_r, lg_sl_r, lg_sl_n]; exact Nat.le_of_ble_eq_true rfl) ?_
  intro p e s m args below meth c ls C0 hin hK hst hl
  obtain ⟨hx, hb, hml, hown, hts, hr, hlk⟩ := id C0
  have hown : s.vm.findClass RX11 = some m.cls := hown
  have C0 : jm_Cx p s m args meth c cX11_weighed 5 (some (.object "ChainParts$Table")) RX11 := C0
  rw [lv_args_r, lv_args_r, lv_args_n] at hl
  have hl : lv_has ls 5 [(0, va_rf (some a0)), (1, va_rf v1)] := hl
  have K7_56 : ∀ (v2 : Option Nat) (Mm1 : Mem), (jf_X11_weighed_k7_56 N v2).1 Mm1 = some (r, M') → ∀ (H : Heap) (locs : List Loc) (cells slots : Nat) (ls : Array Slot), jm_St g b M M' Mm1 s (jm_rm 3 64 M M') H locs cells slots → lv_has ls 5 [(2, va_rf v2)] → W p l e (jm_rm 3 64 M M') s m args below meth c H locs cells slots (jm_MQ below g b (some (va_rf r)) M M' args s) (F0 m 56 ls []) := by
    intro v2 Mm1 hf H locs cells slots ls hst hl
    unfold jf_X11_weighed_k7_56 at hf
    refine jw_aload_n (r := v2) hx hb dX11_weighed_56 rfl (lv_at hl 0 rfl) ?_
    obtain ⟨rfl, rfl⟩ := jm_ret_some hf
    exact jw_aret C0 (Or.inl ⟨_, rfl⟩) hst dX11_weighed_57
  have B7 : ∀ (a0 : Nat) (v1 : Option Nat) (v2 : Option Nat) (v3 : Int32) (Mm9 : Mem) (xe7 : (Int32 ⊕ Unit)) (Me7 : Mem), (jf_X11_weighed_L7 N a0 v1 v2 v3).1 Mm9 = some (xe7, Me7) → jm_le Me7 M' → (jm_or (fun (z : Int32) => ∀ (H : Heap) (locs : List Loc) (cells slots : Nat) (ls : Array Slot), jm_St g b M M' Me7 s (jm_rm 3 64 M M') H locs cells slots → lv_has ls 5 [(0, va_rf (some a0)), (1, va_rf v1), (2, va_rf v2), (3, .int z)] → W p l e (jm_rm 3 64 M M') s m args below meth c H locs cells slots (jm_MQ below g b (some (va_rf r)) M M' args s) (F0 m 7 ls [])) (fun (y : Unit) => ∀ (H : Heap) (locs : List Loc) (cells slots : Nat) (ls : Array Slot), jm_St g b M M' Me7 s (jm_rm 3 64 M M') H locs cells slots → lv_has ls 5 [(2, va_rf v2)] → W p l e (jm_rm 3 64 M M') s m args below meth c H locs cells slots (jm_MQ below g b (some (va_rf r)) M M' args s) (F0 m 56 ls [])) xe7) → ∀ (H : Heap) (locs : List Loc) (cells slots : Nat) (ls : Array Slot), jm_St g b M M' Mm9 s (jm_rm 3 64 M M') H locs cells slots → lv_has ls 5 [(0, va_rf (some a0)), (1, va_rf v1), (2, va_rf v2), (3, .int v3)] → W p l e (jm_rm 3 64 M M') s m args below meth c H locs cells slots (jm_MQ below g b (some (va_rf r)) M M' args s) (F0 m 7 ls []) := by
    intro a0 v1 v2 v3 Mm9 xe7 Me7 hf hle7 hk7
    have K18_50 : ∀ (v3 : Int32) (Mm8 : Mem), (jf_X11_weighed_k18_50 N a0 v1 v2 v3).1 Mm8 = some (xe7, Me7) → ∀ (H : Heap) (locs : List Loc) (cells slots : Nat) (ls : Array Slot), jm_St g b M M' Mm8 s (jm_rm 3 64 M M') H locs cells slots → lv_has ls 5 [(0, va_rf (some a0)), (1, va_rf v1), (2, va_rf v2), (3, .int v3)] → W p l e (jm_rm 3 64 M M') s m args below meth c H locs cells slots (jm_MQ below g b (some (va_rf r)) M M' args s) (F0 m 50 ls []) := by
      intro v3 Mm8 hf H locs cells slots ls hst hl
      unfold jf_X11_weighed_k18_50 at hf
      refine lv_iinc (i := 3) (v := (v3 + 1)) (lv' := [(3, .int (v3 + 1)), (0, va_rf (some a0)), (1, va_rf v1), (2, va_rf v2)]) hx hb dX11_weighed_50 hl (k := 3) rfl (by rfl) (by decide) (by simp [va_rf_cat, cat_i, cat_j, cat_f]) (fun ls hl => ?_)
      refine lv_goto (tgt := 7) hx hb dX11_weighed_53 (by decide) ?_
      obtain ⟨rfl, rfl⟩ := jm_ret_some hf
      exact jm_or_l hk7 _ _ _ _ _ hst (lv_sub hl [1, 2, 3, 0] rfl)
    have B18 : ∀ (a0 : Nat) (v1 : Option Nat) (v2 : Option Nat) (v3 : Int32) (v4 : Int32) (Mm12 : Mem) (xe18 : (Int32 ⊕ Unit)) (Me18 : Mem), (jf_X11_weighed_L18 N a0 v1 v2 v3 v4).1 Mm12 = some (xe18, Me18) → jm_le Me18 M' → (jm_or (fun (z : Int32) => ∀ (H : Heap) (locs : List Loc) (cells slots : Nat) (ls : Array Slot), jm_St g b M M' Me18 s (jm_rm 3 64 M M') H locs cells slots → lv_has ls 5 [(0, va_rf (some a0)), (1, va_rf v1), (2, va_rf v2), (3, .int v3), (4, .int z)] → W p l e (jm_rm 3 64 M M') s m args below meth c H locs cells slots (jm_MQ below g b (some (va_rf r)) M M' args s) (F0 m 18 ls [])) (fun (y : Unit) => ∀ (H : Heap) (locs : List Loc) (cells slots : Nat) (ls : Array Slot), jm_St g b M M' Me18 s (jm_rm 3 64 M M') H locs cells slots → lv_has ls 5 [(0, va_rf (some a0)), (1, va_rf v1), (2, va_rf v2), (3, .int v3)] → W p l e (jm_rm 3 64 M M') s m args below meth c H locs cells slots (jm_MQ below g b (some (va_rf r)) M M' args s) (F0 m 50 ls [])) xe18) → ∀ (H : Heap) (locs : List Loc) (cells slots : Nat) (ls : Array Slot), jm_St g b M M' Mm12 s (jm_rm 3 64 M M') H locs cells slots → lv_has ls 5 [(0, va_rf (some a0)), (1, va_rf v1), (2, va_rf v2), (3, .int v3), (4, .int v4)] → W p l e (jm_rm 3 64 M M') s m args below meth c H locs cells slots (jm_MQ below g b (some (va_rf r)) M M' args s) (F0 m 18 ls []) := by
      intro a0 v1 v2 v3 v4 Mm12 xe18 Me18 hf hle18 hk18
      intro H locs cells slots ls hst hl
      unfold jf_X11_weighed_L18 at hf
      refine lv_iload hx hb dX11_weighed_18 (lv_at hl 4 rfl) ?_
      refine jw_aload_n (r := (some a0)) hx hb dX11_weighed_20 rfl (lv_at hl 0 rfl) ?_
      obtain ⟨x13, h14, hf⟩ := jm_rd_some hf
      refine jw_getI hx hb hts hown hK hst (fl_X11_15 hts hK) h14 dX11_weighed_21 ?_
      refine lv_icmp_ge (tgt := 50) hx hb dX11_weighed_24 (by decide) (fun hc => ?_) (fun hc => ?_)
      · rw [if_pos hc] at hf
        obtain ⟨rfl, rfl⟩ := jm_ret_some hf
        exact jm_or_r hk18 _ _ _ _ _ hst (lv_sub hl [0, 1, 2, 3] rfl)
      · rw [if_neg hc] at hf
        refine jw_aload_n (r := v2) hx hb dX11_weighed_27 rfl (lv_at hl 2 rfl) ?_
        obtain ⟨x15, h16, hf⟩ := jm_rd_some hf
        refine jw_getR hx hb hts hown hK hst (fl_X11_20 hts hK) h16 dX11_weighed_28 ?_
        refine lv_iload_n hx hb dX11_weighed_31 rfl (lv_at hl 3 rfl) ?_
        obtain ⟨x17, h18, hf⟩ := jm_rd_some hf
        refine jw_aald hx hb hK hst (show jm_ty[13]? = some (.array .long) from rfl) rfl h18 dX11_weighed_32 ?_
        refine lv_iload hx hb dX11_weighed_33 (lv_at hl 4 rfl) ?_
        refine lv_dup2_11 hx hb dX11_weighed_35 rfl (va_rf_cat _) ?_
        obtain ⟨x19, h20, hf⟩ := jm_rd_some hf
        refine jw_lald hx hb hK hst h20 dX11_weighed_36 ?_
        refine jw_aload_n (r := v1) hx hb dX11_weighed_37 rfl (lv_at hl 1 rfl) ?_
        refine lv_iload hx hb dX11_weighed_38 (lv_at hl 4 rfl) ?_
        obtain ⟨x21, h22, hf⟩ := jm_rd_some hf
        refine jw_iald hx hb hK hst h22 dX11_weighed_40 ?_
        refine lv_i2l hx hb dX11_weighed_41 rfl ?_
        refine lv_lmul hx hb dX11_weighed_42 ?_
        obtain ⟨F23, h24, hf⟩ := jm_wr_some hf
        refine jw_last (r := x17) hx hb hK hst h24 dX11_weighed_43 (fun H locs hst => ?_)
        generalize ((Mm12.1, Mm12.2.1, F23) : Mem) = Mm25 at hf hst
        refine lv_iinc (i := 4) (v := (v4 + 1)) (lv' := [(4, .int (v4 + 1)), (0, va_rf (some a0)), (1, va_rf v1), (2, va_rf v2), (3, .int v3)]) hx hb dX11_weighed_44 hl (k := 4) rfl (by rfl) (by decide) rfl (fun ls hl => ?_)
        refine lv_goto (tgt := 18) hx hb dX11_weighed_47 (by decide) ?_
        obtain ⟨rfl, rfl⟩ := jm_ret_some hf
        exact jm_or_l hk18 _ _ _ _ _ hst (lv_sub hl [1, 2, 3, 4, 0] rfl)
    intro H locs cells slots ls hst hl
    unfold jf_X11_weighed_L7 at hf
    refine lv_iload_n hx hb dX11_weighed_7 rfl (lv_at hl 3 rfl) ?_
    refine jw_aload_n (r := (some a0)) hx hb dX11_weighed_8 rfl (lv_at hl 0 rfl) ?_
    obtain ⟨x10, h11, hf⟩ := jm_rd_some hf
    refine jw_getI hx hb hts hown hK hst (fl_X11_9 hts hK) h11 dX11_weighed_9 ?_
    refine lv_icmp_ge (tgt := 56) hx hb dX11_weighed_12 (by decide) (fun hc => ?_) (fun hc => ?_)
    · rw [if_pos hc] at hf
      obtain ⟨rfl, rfl⟩ := jm_ret_some hf
      exact jm_or_r hk7 _ _ _ _ _ hst (lv_sub hl [2] rfl)
    · rw [if_neg hc] at hf
      refine lv_iconst (v := 0) hx hb dX11_weighed_15 (by decide) ?_
      refine lv_istore (i := 4) (lv' := [(4, .int (0 : Int32)), (0, va_rf (some a0)), (1, va_rf v1), (2, va_rf v2), (3, .int v3)]) hx hb dX11_weighed_16 hl (by decide) rfl (fun ls hl => ?_)
      obtain ⟨xl18, Ml18, hit18, hf⟩ := jm_bd_some hf
      have hlf18 : jm_le Ml18 M' := jm_le_tr (jm_mono hf) hle7
      have hwe18 : (fun (y : Unit) (Mz : Mem) => ∀ (H : Heap) (locs : List Loc) (cells slots : Nat) (ls : Array Slot), jm_St g b M M' Mz s (jm_rm 3 64 M M') H locs cells slots → lv_has ls 5 [(0, va_rf (some a0)), (1, va_rf v1), (2, va_rf v2), (3, .int v3)] → W p l e (jm_rm 3 64 M M') s m args below meth c H locs cells slots (jm_MQ below g b (some (va_rf r)) M M' args s) (F0 m 50 ls [])) xl18 Ml18 := fun H locs cells slots ls hst hl => K18_50 v3 _ hf H locs cells slots ls hst hl
      refine jm_it_walk (Mf := M') (Wh := fun (z : Int32) (Mz : Mem) => ∀ (H : Heap) (locs : List Loc) (cells slots : Nat) (ls : Array Slot), jm_St g b M M' Mz s (jm_rm 3 64 M M') H locs cells slots → lv_has ls 5 [(0, va_rf (some a0)), (1, va_rf v1), (2, va_rf v2), (3, .int v3), (4, .int z)] → W p l e (jm_rm 3 64 M M') s m args below meth c H locs cells slots (jm_MQ below g b (some (va_rf r)) M M' args s) (F0 m 18 ls [])) (We := fun (y : Unit) (Mz : Mem) => ∀ (H : Heap) (locs : List Loc) (cells slots : Nat) (ls : Array Slot), jm_St g b M M' Mz s (jm_rm 3 64 M M') H locs cells slots → lv_has ls 5 [(0, va_rf (some a0)), (1, va_rf v1), (2, va_rf v2), (3, .int v3)] → W p l e (jm_rm 3 64 M M') s m args below meth c H locs cells slots (jm_MQ below g b (some (va_rf r)) M M' args s) (F0 m 50 ls [])) ?_ N (0 : Int32) Mm9 xl18 Ml18 hit18 hlf18 hwe18 _ _ _ _ _ hst (lv_sub hl [1, 2, 3, 4, 0] rfl)
      intro v4 Mm26 xe18 Me18 hf hle18 hk18 H locs cells slots ls hst hl
      have hf : (jf_X11_weighed_L18 N a0 v1 v2 v3 v4).1 Mm26 = some (xe18, Me18) := hf
      have hl : lv_has ls 5 [(0, va_rf (some a0)), (1, va_rf v1), (2, va_rf v2), (3, .int v3), (4, .int v4)] := hl
      exact B18 a0 v1 v2 v3 v4 _ _ _ hf hle18 hk18 _ _ _ _ _ hst (lv_sub hl [0, 1, 2, 3, 4] rfl)
  unfold jf_X11_weighed at hf
  refine jw_aload_n (r := (some a0)) hx hb dX11_weighed_0 rfl (lv_at hl 0 rfl) ?_
  obtain ⟨a5, h6, hf⟩ := jm_rd_some hf
  obtain ⟨fsa5, hea5, hr7⟩ := jm_cl_some h6
  obtain ⟨x2, Mm3, h4, hf⟩ := jm_bd_some hf
  refine jw_V (As := []) (rest := []) (C := RX11) (T := TX11) (N := 3) (rv := (some a0)) (jt_X11_like l g b N a5  M Mm3 x2 h4) C0 hK hst (jm_mono h4) (jm_le_tr (jm_mono hf) jm_le_rf) q666 q667 q668 q90 q669 hd_X11_like ⟨Nat.le_of_ble_eq_true rfl, Nat.le_of_ble_eq_true rfl⟩ hea5 hr7 rfl rfl hl.1 rfl (by rw [cs_n]; exact Nat.le_of_ble_eq_true rfl) dX11_weighed_1 (fun H locs cells slots hst => ?_)
  refine W.eq (g2 := F0 m 4 ls [va_rf x2]) rfl ?_
  refine jw_astore_n (i := 2) (r := x2) (lv' := [(2, va_rf x2), (0, va_rf (some a0)), (1, va_rf v1)]) hx hb dX11_weighed_4 rfl hl (by decide) (by simp [va_rf_cat, cat_i, cat_j, cat_f]) (fun ls hl => ?_)
  refine lv_iconst (v := 0) hx hb dX11_weighed_5 (by decide) ?_
  refine lv_istore_n (i := 3) (lv' := [(3, .int (0 : Int32)), (2, va_rf x2), (0, va_rf (some a0)), (1, va_rf v1)]) hx hb dX11_weighed_6 rfl hl (by decide) (by simp [va_rf_cat, cat_i, cat_j, cat_f]) (fun ls hl => ?_)
  obtain ⟨xl7, Ml7, hit7, hf⟩ := jm_bd_some hf
  have hlf7 : jm_le Ml7 M' := jm_le_tr (jm_mono hf) jm_le_rf
  have hwe7 : (fun (y : Unit) (Mz : Mem) => ∀ (H : Heap) (locs : List Loc) (cells slots : Nat) (ls : Array Slot), jm_St g b M M' Mz s (jm_rm 3 64 M M') H locs cells slots → lv_has ls 5 [(2, va_rf x2)] → W p l e (jm_rm 3 64 M M') s m args below meth c H locs cells slots (jm_MQ below g b (some (va_rf r)) M M' args s) (F0 m 56 ls [])) xl7 Ml7 := fun H locs cells slots ls hst hl => K7_56 x2 _ hf H locs cells slots ls hst hl
  refine jm_it_walk (Mf := M') (Wh := fun (z : Int32) (Mz : Mem) => ∀ (H : Heap) (locs : List Loc) (cells slots : Nat) (ls : Array Slot), jm_St g b M M' Mz s (jm_rm 3 64 M M') H locs cells slots → lv_has ls 5 [(0, va_rf (some a0)), (1, va_rf v1), (2, va_rf x2), (3, .int z)] → W p l e (jm_rm 3 64 M M') s m args below meth c H locs cells slots (jm_MQ below g b (some (va_rf r)) M M' args s) (F0 m 7 ls [])) (We := fun (y : Unit) (Mz : Mem) => ∀ (H : Heap) (locs : List Loc) (cells slots : Nat) (ls : Array Slot), jm_St g b M M' Mz s (jm_rm 3 64 M M') H locs cells slots → lv_has ls 5 [(2, va_rf x2)] → W p l e (jm_rm 3 64 M M') s m args below meth c H locs cells slots (jm_MQ below g b (some (va_rf r)) M M' args s) (F0 m 56 ls [])) ?_ N (0 : Int32) Mm3 xl7 Ml7 hit7 hlf7 hwe7 _ _ _ _ _ hst (lv_sub hl [2, 3, 1, 0] rfl)
  intro v3 Mm27 xe7 Me7 hf hle7 hk7 H locs cells slots ls hst hl
  have hf : (jf_X11_weighed_L7 N a0 v1 x2 v3).1 Mm27 = some (xe7, Me7) := hf
  have hl : lv_has ls 5 [(0, va_rf (some a0)), (1, va_rf v1), (2, va_rf x2), (3, .int v3)] := hl
  exact B7 a0 v1 x2 v3 _ _ _ hf hle7 hk7 _ _ _ _ _ hst (lv_sub hl [0, 1, 2, 3] rfl)
def jf_X11_and_k20_69 (N : Nat) (v2 : Option Nat) : jm_P (Option Nat) :=
  jm_ret v2
def jf_X11_and_L20 (N : Nat) (a0 : Nat) (v1 : Option Nat) (v2 : Option Nat) (v3 : Int32) : jm_P (Int32 ⊕ Unit) :=
  jm_rd (jm_fI [11] 1 (some a0)) fun x12 =>
  if x12 ≤ v3 then (
    jm_ret (.inr ()))
  else
    jm_rd (jm_fR [11] 0 (some a0)) fun x14 =>
    jm_rd (jm_ldR 13 x14 v3) fun x16 =>
    jm_rd (jm_fR [11] 0 v2) fun x18 =>
    jm_rd (jm_ldR 13 x18 v3) fun x20 =>
    jm_rd (jm_fI [11] 2 (some a0)) fun x22 =>
    jm_wr (jm_cpJ 2 x16 (0 : Int32) x20 (0 : Int32) x22) <|
    jm_rd (jm_fR [11] 0 v2) fun x27 =>
    jm_rd (jm_ldR 13 x27 v3) fun x29 =>
    jm_rd (jm_fI [11] 2 (some a0)) fun x31 =>
    jm_rd (jm_ldJ 2 v1 v3) fun x33 =>
    jm_wr (jm_stJ 2 x29 x31 x33) <|
    jm_ret (.inl (v3 + 1))
def jf_X11_and (N : Nat) (a0 : Nat) (v1 : Option Nat) : jm_P (Option Nat) :=
  jm_al (.inr (11, [.null, .int 0, .int 0])) fun q2 =>
  jm_rd (jm_fI [11] 1 (some a0)) fun x4 =>
  jm_rd (jm_fI [11] 2 (some a0)) fun x6 =>
  jm_bd (jf_X11_init N q2 x4 (x6 + (1 : Int32))) fun x8 =>
  jm_bd (jm_it (fun z => jf_X11_and_L20 N a0 v1 (some q2) z) N (0 : Int32)) fun y =>
  jf_X11_and_k20_69 N (some q2)
set_option maxHeartbeats 4000000 in
set_option maxRecDepth 100000 in
theorem jt_X11_and (l : Launch) (g : GD) (b N : Nat) (a0 : Nat) (v1 : Option Nat) (M M' : Mem) (r : (Option Nat)) (hf : (jf_X11_and N a0 v1).1 M = some (r, M')) : jm_Met l g b yX11_and (ws_ yX11_and cX11_and 4 (some (.object "ChainParts$Table"))) 2 42 [va_rf (some a0), va_rf v1] M M' (some (va_rf r)) := by
  refine jm_start (by decide) (jm_mono hf) (by rw [lg_sl_r, lg_sl_r, lg_sl_n]; exact Nat.le_of_ble_eq_true rfl) ?_
  intro p e s m args below meth c ls C0 hin hK hst hl
  obtain ⟨hx, hb, hml, hown, hts, hr, hlk⟩ := id C0
  have hown : s.vm.findClass RX11 = some m.cls := hown
  have C0 : jm_Cx p s m args meth c cX11_and 4 (some (.object "ChainParts$Table")) RX11 := C0
  rw [lv_args_r, lv_args_r, lv_args_n] at hl
  have hl : lv_has ls 4 [(0, va_rf (some a0)), (1, va_rf v1)] := hl
  have K20_69 : ∀ (v2 : Option Nat) (Mm1 : Mem), (jf_X11_and_k20_69 N v2).1 Mm1 = some (r, M') → ∀ (H : Heap) (locs : List Loc) (cells slots : Nat) (ls : Array Slot), jm_St g b M M' Mm1 s (jm_rm 2 42 M M') H locs cells slots → lv_has ls 4 [(2, va_rf v2)] → W p l e (jm_rm 2 42 M M') s m args below meth c H locs cells slots (jm_MQ below g b (some (va_rf r)) M M' args s) (F0 m 69 ls []) := by
    intro v2 Mm1 hf H locs cells slots ls hst hl
    unfold jf_X11_and_k20_69 at hf
    refine jw_aload_n (r := v2) hx hb dX11_and_69 rfl (lv_at hl 0 rfl) ?_
    obtain ⟨rfl, rfl⟩ := jm_ret_some hf
    exact jw_aret C0 (Or.inl ⟨_, rfl⟩) hst dX11_and_70
  have B20 : ∀ (a0 : Nat) (v1 : Option Nat) (v2 : Option Nat) (v3 : Int32) (Mm11 : Mem) (xe20 : (Int32 ⊕ Unit)) (Me20 : Mem), (jf_X11_and_L20 N a0 v1 v2 v3).1 Mm11 = some (xe20, Me20) → jm_le Me20 M' → (jm_or (fun (z : Int32) => ∀ (H : Heap) (locs : List Loc) (cells slots : Nat) (ls : Array Slot), jm_St g b M M' Me20 s (jm_rm 2 42 M M') H locs cells slots → lv_has ls 4 [(0, va_rf (some a0)), (1, va_rf v1), (2, va_rf v2), (3, .int z)] → W p l e (jm_rm 2 42 M M') s m args below meth c H locs cells slots (jm_MQ below g b (some (va_rf r)) M M' args s) (F0 m 20 ls [])) (fun (y : Unit) => ∀ (H : Heap) (locs : List Loc) (cells slots : Nat) (ls : Array Slot), jm_St g b M M' Me20 s (jm_rm 2 42 M M') H locs cells slots → lv_has ls 4 [(2, va_rf v2)] → W p l e (jm_rm 2 42 M M') s m args below meth c H locs cells slots (jm_MQ below g b (some (va_rf r)) M M' args s) (F0 m 69 ls [])) xe20) → ∀ (H : Heap) (locs : List Loc) (cells slots : Nat) (ls : Array Slot), jm_St g b M M' Mm11 s (jm_rm 2 42 M M') H locs cells slots → lv_has ls 4 [(0, va_rf (some a0)), (1, va_rf v1), (2, va_rf v2), (3, .int v3)] → W p l e (jm_rm 2 42 M M') s m args below meth c H locs cells slots (jm_MQ below g b (some (va_rf r)) M M' args s) (F0 m 20 ls []) := by
    intro a0 v1 v2 v3 Mm11 xe20 Me20 hf hle20 hk20
    intro H locs cells slots ls hst hl
    unfold jf_X11_and_L20 at hf
    refine lv_iload_n hx hb dX11_and_20 rfl (lv_at hl 3 rfl) ?_
    refine jw_aload_n (r := (some a0)) hx hb dX11_and_21 rfl (lv_at hl 0 rfl) ?_
    obtain ⟨x12, h13, hf⟩ := jm_rd_some hf
    refine jw_getI hx hb hts hown hK hst (fl_X11_9 hts hK) h13 dX11_and_22 ?_
    refine lv_icmp_ge (tgt := 69) hx hb dX11_and_25 (by decide) (fun hc => ?_) (fun hc => ?_)
    · rw [if_pos hc] at hf
      obtain ⟨rfl, rfl⟩ := jm_ret_some hf
      exact jm_or_r hk20 _ _ _ _ _ hst (lv_sub hl [2] rfl)
    · rw [if_neg hc] at hf
      refine jw_aload_n (r := (some a0)) hx hb dX11_and_28 rfl (lv_at hl 0 rfl) ?_
      obtain ⟨x14, h15, hf⟩ := jm_rd_some hf
      refine jw_getR hx hb hts hown hK hst (fl_X11_20 hts hK) h15 dX11_and_29 ?_
      refine lv_iload_n hx hb dX11_and_32 rfl (lv_at hl 3 rfl) ?_
      obtain ⟨x16, h17, hf⟩ := jm_rd_some hf
      refine jw_aald hx hb hK hst (show jm_ty[13]? = some (.array .long) from rfl) rfl h17 dX11_and_33 ?_
      refine lv_iconst (v := 0) hx hb dX11_and_34 (by decide) ?_
      refine jw_aload_n (r := v2) hx hb dX11_and_35 rfl (lv_at hl 2 rfl) ?_
      obtain ⟨x18, h19, hf⟩ := jm_rd_some hf
      refine jw_getR hx hb hts hown hK hst (fl_X11_20 hts hK) h19 dX11_and_36 ?_
      refine lv_iload_n hx hb dX11_and_39 rfl (lv_at hl 3 rfl) ?_
      obtain ⟨x20, h21, hf⟩ := jm_rd_some hf
      refine jw_aald hx hb hK hst (show jm_ty[13]? = some (.array .long) from rfl) rfl h21 dX11_and_40 ?_
      refine lv_iconst (v := 0) hx hb dX11_and_41 (by decide) ?_
      refine jw_aload_n (r := (some a0)) hx hb dX11_and_42 rfl (lv_at hl 0 rfl) ?_
      obtain ⟨x22, h23, hf⟩ := jm_rd_some hf
      refine jw_getI hx hb hts hown hK hst (fl_X11_15 hts hK) h23 dX11_and_43 ?_
      obtain ⟨F24, h25, hf⟩ := jm_wr_some hf
      refine jw_copyJ (src := x16) (dst := x20) (rest := []) hx hb hml hl.1 hown (hts _ q694) (hts _ q317) (hts _ q316) (hts _ q81) hK hst h25 (Nat.le_of_ble_eq_true rfl) (by rw [cs_n]; exact Nat.le_of_ble_eq_true rfl) dX11_and_46 (fun H locs hst => ?_)
      generalize ((Mm11.1, Mm11.2.1, F24) : Mem) = Mm26 at hf hst
      refine jw_aload_n (r := v2) hx hb dX11_and_49 rfl (lv_at hl 2 rfl) ?_
      obtain ⟨x27, h28, hf⟩ := jm_rd_some hf
      refine jw_getR hx hb hts hown hK hst (fl_X11_20 hts hK) h28 dX11_and_50 ?_
      refine lv_iload_n hx hb dX11_and_53 rfl (lv_at hl 3 rfl) ?_
      obtain ⟨x29, h30, hf⟩ := jm_rd_some hf
      refine jw_aald hx hb hK hst (show jm_ty[13]? = some (.array .long) from rfl) rfl h30 dX11_and_54 ?_
      refine jw_aload_n (r := (some a0)) hx hb dX11_and_55 rfl (lv_at hl 0 rfl) ?_
      obtain ⟨x31, h32, hf⟩ := jm_rd_some hf
      refine jw_getI hx hb hts hown hK hst (fl_X11_15 hts hK) h32 dX11_and_56 ?_
      refine jw_aload_n (r := v1) hx hb dX11_and_59 rfl (lv_at hl 1 rfl) ?_
      refine lv_iload_n hx hb dX11_and_60 rfl (lv_at hl 3 rfl) ?_
      obtain ⟨x33, h34, hf⟩ := jm_rd_some hf
      refine jw_lald hx hb hK hst h34 dX11_and_61 ?_
      obtain ⟨F35, h36, hf⟩ := jm_wr_some hf
      refine jw_last (r := x29) hx hb hK hst h36 dX11_and_62 (fun H locs hst => ?_)
      generalize ((Mm26.1, Mm26.2.1, F35) : Mem) = Mm37 at hf hst
      refine lv_iinc (i := 3) (v := (v3 + 1)) (lv' := [(3, .int (v3 + 1)), (0, va_rf (some a0)), (1, va_rf v1), (2, va_rf v2)]) hx hb dX11_and_63 hl (k := 3) rfl (by rfl) (by decide) (by simp [va_rf_cat, cat_i, cat_j, cat_f]) (fun ls hl => ?_)
      refine lv_goto (tgt := 20) hx hb dX11_and_66 (by decide) ?_
      obtain ⟨rfl, rfl⟩ := jm_ret_some hf
      exact jm_or_l hk20 _ _ _ _ _ hst (lv_sub hl [1, 2, 3, 0] rfl)
  unfold jf_X11_and at hf
  obtain ⟨q2, hq2, hf⟩ := jm_al_some hf
  refine jw_new (ci := 11) (C := RX11) (T := TX11) (N := 3) (fs := [.null, .int 0, .int 0]) hx hb hts in_X11 tyX11 tyX11_ok hown (hts _ q652) (hts _ q616) (hts _ q90) hK hst rfl (fun j hj => by match j, hj with | 0, _ => rfl | 1, _ => rfl | 2, _ => rfl | k + 3, hj => omega) rfl (jm_le_tr (jm_mono hf) jm_le_rf) hq2 dX11_and_0 (fun H cells slots hst => ?_)
  generalize jm_new (.inr (11, [.null, .int 0, .int 0])) M = Mm3 at hf hst
  refine lv_dup hx hb dX11_and_3 (va_rf_cat _) ?_
  refine jw_aload_n (r := (some a0)) hx hb dX11_and_4 rfl (lv_at hl 0 rfl) ?_
  obtain ⟨x4, h5, hf⟩ := jm_rd_some hf
  refine jw_getI hx hb hts hown hK hst (fl_X11_9 hts hK) h5 dX11_and_5 ?_
  refine jw_aload_n (r := (some a0)) hx hb dX11_and_8 rfl (lv_at hl 0 rfl) ?_
  obtain ⟨x6, h7, hf⟩ := jm_rd_some hf
  refine jw_getI hx hb hts hown hK hst (fl_X11_15 hts hK) h7 dX11_and_9 ?_
  refine lv_iconst (v := 1) hx hb dX11_and_12 (by decide) ?_
  refine lv_iadd hx hb dX11_and_13 ?_
  obtain ⟨x8, Mm9, h10, hf⟩ := jm_bd_some hf
  refine jw_I (As := [.int x4, .int (x6 + (1 : Int32))]) (rest := [va_rf (some q2)]) (rv := (some q2)) (jt_X11_init l g b N q2 x4 (x6 + (1 : Int32)) Mm3 Mm9 x8 h10) C0 hK hst (jm_mono h10) (jm_le_tr (jm_mono hf) jm_le_rf) q653 q618 q90 q619 rfl hd_X11_init.2 ⟨Nat.le_of_ble_eq_true rfl, Nat.le_of_ble_eq_true rfl⟩ rfl rfl hl.1 rfl (by rw [cs_r, cs_n]; exact Nat.le_of_ble_eq_true rfl) dX11_and_14 (fun H locs cells slots hst => ?_)
  refine W.eq (g2 := F0 m 17 ls [va_rf (some q2)]) rfl ?_
  refine jw_astore_n (i := 2) (r := (some q2)) (lv' := [(2, va_rf (some q2)), (0, va_rf (some a0)), (1, va_rf v1)]) hx hb dX11_and_17 rfl hl (by decide) (by simp [va_rf_cat, cat_i, cat_j, cat_f]) (fun ls hl => ?_)
  refine lv_iconst (v := 0) hx hb dX11_and_18 (by decide) ?_
  refine lv_istore_n (i := 3) (lv' := [(3, .int (0 : Int32)), (2, va_rf (some q2)), (0, va_rf (some a0)), (1, va_rf v1)]) hx hb dX11_and_19 rfl hl (by decide) (by simp [va_rf_cat, cat_i, cat_j, cat_f]) (fun ls hl => ?_)
  obtain ⟨xl20, Ml20, hit20, hf⟩ := jm_bd_some hf
  have hlf20 : jm_le Ml20 M' := jm_le_tr (jm_mono hf) jm_le_rf
  have hwe20 : (fun (y : Unit) (Mz : Mem) => ∀ (H : Heap) (locs : List Loc) (cells slots : Nat) (ls : Array Slot), jm_St g b M M' Mz s (jm_rm 2 42 M M') H locs cells slots → lv_has ls 4 [(2, va_rf (some q2))] → W p l e (jm_rm 2 42 M M') s m args below meth c H locs cells slots (jm_MQ below g b (some (va_rf r)) M M' args s) (F0 m 69 ls [])) xl20 Ml20 := fun H locs cells slots ls hst hl => K20_69 (some q2) _ hf H locs cells slots ls hst hl
  refine jm_it_walk (Mf := M') (Wh := fun (z : Int32) (Mz : Mem) => ∀ (H : Heap) (locs : List Loc) (cells slots : Nat) (ls : Array Slot), jm_St g b M M' Mz s (jm_rm 2 42 M M') H locs cells slots → lv_has ls 4 [(0, va_rf (some a0)), (1, va_rf v1), (2, va_rf (some q2)), (3, .int z)] → W p l e (jm_rm 2 42 M M') s m args below meth c H locs cells slots (jm_MQ below g b (some (va_rf r)) M M' args s) (F0 m 20 ls [])) (We := fun (y : Unit) (Mz : Mem) => ∀ (H : Heap) (locs : List Loc) (cells slots : Nat) (ls : Array Slot), jm_St g b M M' Mz s (jm_rm 2 42 M M') H locs cells slots → lv_has ls 4 [(2, va_rf (some q2))] → W p l e (jm_rm 2 42 M M') s m args below meth c H locs cells slots (jm_MQ below g b (some (va_rf r)) M M' args s) (F0 m 69 ls [])) ?_ N (0 : Int32) Mm9 xl20 Ml20 hit20 hlf20 hwe20 _ _ _ _ _ hst (lv_sub hl [2, 3, 1, 0] rfl)
  intro v3 Mm38 xe20 Me20 hf hle20 hk20 H locs cells slots ls hst hl
  have hf : (jf_X11_and_L20 N a0 v1 (some q2) v3).1 Mm38 = some (xe20, Me20) := hf
  have hl : lv_has ls 4 [(0, va_rf (some a0)), (1, va_rf v1), (2, va_rf (some q2)), (3, .int v3)] := hl
  exact B20 a0 v1 (some q2) v3 _ _ _ hf hle20 hk20 _ _ _ _ _ hst (lv_sub hl [0, 1, 2, 3] rfl)
def jf_X11_least_k8_93 (N : Nat) (v2 : Int32) : jm_P Int32 :=
  jm_ret v2
def jf_X11_least_k20_87 (N : Nat) (a0 : Nat) (v1 : Int32) (v2 : Int32) (v3 : Int64) (v5 : Int32) : jm_P ((Int32 × Int64 × Int32) ⊕ Int32) :=
  jm_ret (.inl (v2, v3, (v5 + 1)))
def jf_X11_least_j81 (N : Nat) (a0 : Nat) (v1 : Int32) (v2 : Int32) (v3 : Int64) (v5 : Int32) (v6 : Int32) : jm_P ((Int32 × Int64 × Int32) ⊕ (Int32 × Int64)) :=
  jm_ret (.inl (v2, v3, (v6 + 1)))
def jf_X11_least_j69 (N : Nat) (a0 : Nat) (v1 : Int32) (v5 : Int32) (v6 : Int32) (v7 : Int64) : jm_P ((Int32 × Int64 × Int32) ⊕ (Int32 × Int64)) :=
  jf_X11_least_j81 N a0 v1 (((100 : Int32) * v5) + v6) v7 v5 v6
def jf_X11_least_L20 (N : Nat) (a0 : Nat) (v1 : Int32) (v5 : Int32) (v2 : Int32) (v3 : Int64) (v6 : Int32) : jm_P ((Int32 × Int64 × Int32) ⊕ (Int32 × Int64)) :=
  jm_rd (jm_fI [11] 2 (some a0)) fun x9 =>
  if (x9 - (1 : Int32)) ≤ v6 then (
    jm_ret (.inr (v2, v3)))
  else
    jm_rd (jm_fR [11] 0 (some a0)) fun x11 =>
    jm_rd (jm_ldR 13 x11 v5) fun x13 =>
    jm_rd (jm_ldJ 2 x13 v6) fun x15 =>
    jm_lt (if 0 < x15 then x15 else -x15) fun x17 =>
    if x17 = (0 : Int64) then (
      jf_X11_least_j81 N a0 v1 v2 v3 v5 v6)
    else
      if v2 = (-1000000 : Int32) then (
        jf_X11_least_j69 N a0 v1 v5 v6 x17)
      else
        if x17 < v3 then (
          jf_X11_least_j69 N a0 v1 v5 v6 x17)
        else
          jf_X11_least_j81 N a0 v1 v2 v3 v5 v6
def jf_X11_least_L8 (N : Nat) (a0 : Nat) (v1 : Int32) (v2 : Int32) (v3 : Int64) (v5 : Int32) : jm_P ((Int32 × Int64 × Int32) ⊕ Int32) :=
  jm_rd (jm_fI [11] 1 (some a0)) fun x4 =>
  if x4 ≤ v5 then (
    jm_ret (.inr v2))
  else
    jm_bd (jm_it (fun z => jf_X11_least_L20 N a0 v1 v5 z.1 z.2.1 z.2.2) N (v2, v3, v1)) fun y =>
    jf_X11_least_k20_87 N a0 v1 y.1 y.2 v5
def jf_X11_least (N : Nat) (a0 : Nat) (v1 : Int32) : jm_P Int32 :=
  jm_bd (jm_it (fun z => jf_X11_least_L8 N a0 v1 z.1 z.2.1 z.2.2) N ((-1000000 : Int32), (0 : Int64), v1)) fun y =>
  jf_X11_least_k8_93 N y
set_option maxHeartbeats 4000000 in
set_option maxRecDepth 100000 in
theorem jt_X11_least (l : Launch) (g : GD) (b N : Nat) (a0 : Nat) (v1 : Int32) (M M' : Mem) (r : Int32) (hf : (jf_X11_least N a0 v1).1 M = some (r, M')) : jm_Met l g b yX11_least (ws_ yX11_least cX11_least 9 (some .int)) 1 40 [va_rf (some a0), .int v1] M M' (some (.int r)) := by
  refine jm_start (by decide) (jm_mono hf) (by rw [lg_sl_r, lg_sl_i, lg_sl_n]; exact Nat.le_of_ble_eq_true rfl) ?_
  intro p e s m args below meth c ls C0 hin hK hst hl
  obtain ⟨hx, hb, hml, hown, hts, hr, hlk⟩ := id C0
  have hown : s.vm.findClass RX11 = some m.cls := hown
  have C0 : jm_Cx p s m args meth c cX11_least 9 (some .int) RX11 := C0
  rw [lv_args_r, lv_args_i, lv_args_n] at hl
  have hl : lv_has ls 9 [(0, va_rf (some a0)), (1, .int v1)] := hl
  have K8_93 : ∀ (v2 : Int32) (Mm1 : Mem), (jf_X11_least_k8_93 N v2).1 Mm1 = some (r, M') → ∀ (H : Heap) (locs : List Loc) (cells slots : Nat) (ls : Array Slot), jm_St g b M M' Mm1 s (jm_rm 1 40 M M') H locs cells slots → lv_has ls 9 [(2, .int v2)] → W p l e (jm_rm 1 40 M M') s m args below meth c H locs cells slots (jm_MQ below g b (some (.int r)) M M' args s) (F0 m 93 ls []) := by
    intro v2 Mm1 hf H locs cells slots ls hst hl
    unfold jf_X11_least_k8_93 at hf
    refine lv_iload_n hx hb dX11_least_93 rfl (lv_at hl 0 rfl) ?_
    obtain ⟨rfl, rfl⟩ := jm_ret_some hf
    exact jw_iret C0 hst dX11_least_94
  have B8 : ∀ (a0 : Nat) (v1 : Int32) (v2 : Int32) (v3 : Int64) (v5 : Int32) (Mm3 : Mem) (xe8 : ((Int32 × Int64 × Int32) ⊕ Int32)) (Me8 : Mem), (jf_X11_least_L8 N a0 v1 v2 v3 v5).1 Mm3 = some (xe8, Me8) → jm_le Me8 M' → (jm_or (fun (z : Int32 × Int64 × Int32) => ∀ (H : Heap) (locs : List Loc) (cells slots : Nat) (ls : Array Slot), jm_St g b M M' Me8 s (jm_rm 1 40 M M') H locs cells slots → lv_has ls 9 [(0, va_rf (some a0)), (1, .int v1), (2, .int z.1), (3, .long z.2.1), (5, .int z.2.2)] → W p l e (jm_rm 1 40 M M') s m args below meth c H locs cells slots (jm_MQ below g b (some (.int r)) M M' args s) (F0 m 8 ls [])) (fun (y : Int32) => ∀ (H : Heap) (locs : List Loc) (cells slots : Nat) (ls : Array Slot), jm_St g b M M' Me8 s (jm_rm 1 40 M M') H locs cells slots → lv_has ls 9 [(2, .int y)] → W p l e (jm_rm 1 40 M M') s m args below meth c H locs cells slots (jm_MQ below g b (some (.int r)) M M' args s) (F0 m 93 ls [])) xe8) → ∀ (H : Heap) (locs : List Loc) (cells slots : Nat) (ls : Array Slot), jm_St g b M M' Mm3 s (jm_rm 1 40 M M') H locs cells slots → lv_has ls 9 [(0, va_rf (some a0)), (1, .int v1), (2, .int v2), (3, .long v3), (5, .int v5)] → W p l e (jm_rm 1 40 M M') s m args below meth c H locs cells slots (jm_MQ below g b (some (.int r)) M M' args s) (F0 m 8 ls []) := by
    intro a0 v1 v2 v3 v5 Mm3 xe8 Me8 hf hle8 hk8
    have K20_87 : ∀ (v2 : Int32) (v3 : Int64) (v5 : Int32) (Mm2 : Mem), (jf_X11_least_k20_87 N a0 v1 v2 v3 v5).1 Mm2 = some (xe8, Me8) → ∀ (H : Heap) (locs : List Loc) (cells slots : Nat) (ls : Array Slot), jm_St g b M M' Mm2 s (jm_rm 1 40 M M') H locs cells slots → lv_has ls 9 [(0, va_rf (some a0)), (1, .int v1), (2, .int v2), (3, .long v3), (5, .int v5)] → W p l e (jm_rm 1 40 M M') s m args below meth c H locs cells slots (jm_MQ below g b (some (.int r)) M M' args s) (F0 m 87 ls []) := by
      intro v2 v3 v5 Mm2 hf H locs cells slots ls hst hl
      unfold jf_X11_least_k20_87 at hf
      refine lv_iinc (i := 5) (v := (v5 + 1)) (lv' := [(5, .int (v5 + 1)), (0, va_rf (some a0)), (1, .int v1), (2, .int v2), (3, .long v3)]) hx hb dX11_least_87 hl (k := 4) rfl (by rfl) (by decide) rfl (fun ls hl => ?_)
      refine lv_goto (tgt := 8) hx hb dX11_least_90 (by decide) ?_
      obtain ⟨rfl, rfl⟩ := jm_ret_some hf
      exact jm_or_l hk8 _ _ _ _ _ hst (lv_sub hl [1, 2, 3, 4, 0] rfl)
    have B20 : ∀ (a0 : Nat) (v1 : Int32) (v5 : Int32) (v2 : Int32) (v3 : Int64) (v6 : Int32) (Mm8 : Mem) (xe20 : ((Int32 × Int64 × Int32) ⊕ (Int32 × Int64))) (Me20 : Mem), (jf_X11_least_L20 N a0 v1 v5 v2 v3 v6).1 Mm8 = some (xe20, Me20) → jm_le Me20 M' → (jm_or (fun (z : Int32 × Int64 × Int32) => ∀ (H : Heap) (locs : List Loc) (cells slots : Nat) (ls : Array Slot), jm_St g b M M' Me20 s (jm_rm 1 40 M M') H locs cells slots → lv_has ls 9 [(0, va_rf (some a0)), (1, .int v1), (2, .int z.1), (3, .long z.2.1), (5, .int v5), (6, .int z.2.2)] → W p l e (jm_rm 1 40 M M') s m args below meth c H locs cells slots (jm_MQ below g b (some (.int r)) M M' args s) (F0 m 20 ls [])) (fun (y : Int32 × Int64) => ∀ (H : Heap) (locs : List Loc) (cells slots : Nat) (ls : Array Slot), jm_St g b M M' Me20 s (jm_rm 1 40 M M') H locs cells slots → lv_has ls 9 [(0, va_rf (some a0)), (1, .int v1), (2, .int y.1), (3, .long y.2), (5, .int v5)] → W p l e (jm_rm 1 40 M M') s m args below meth c H locs cells slots (jm_MQ below g b (some (.int r)) M M' args s) (F0 m 87 ls [])) xe20) → ∀ (H : Heap) (locs : List Loc) (cells slots : Nat) (ls : Array Slot), jm_St g b M M' Mm8 s (jm_rm 1 40 M M') H locs cells slots → lv_has ls 9 [(0, va_rf (some a0)), (1, .int v1), (2, .int v2), (3, .long v3), (5, .int v5), (6, .int v6)] → W p l e (jm_rm 1 40 M M') s m args below meth c H locs cells slots (jm_MQ below g b (some (.int r)) M M' args s) (F0 m 20 ls []) := by
      intro a0 v1 v5 v2 v3 v6 Mm8 xe20 Me20 hf hle20 hk20
      have J81 : ∀ (v2 : Int32) (v3 : Int64) (v6 : Int32) (Mm6 : Mem), (jf_X11_least_j81 N a0 v1 v2 v3 v5 v6).1 Mm6 = some (xe20, Me20) → ∀ (H : Heap) (locs : List Loc) (cells slots : Nat) (ls : Array Slot), jm_St g b M M' Mm6 s (jm_rm 1 40 M M') H locs cells slots → lv_has ls 9 [(0, va_rf (some a0)), (1, .int v1), (2, .int v2), (3, .long v3), (5, .int v5), (6, .int v6)] → W p l e (jm_rm 1 40 M M') s m args below meth c H locs cells slots (jm_MQ below g b (some (.int r)) M M' args s) (F0 m 81 ls []) := by
        intro v2 v3 v6 Mm6 hf H locs cells slots ls hst hl
        unfold jf_X11_least_j81 at hf
        refine lv_iinc (i := 6) (v := (v6 + 1)) (lv' := [(6, .int (v6 + 1)), (0, va_rf (some a0)), (1, .int v1), (2, .int v2), (3, .long v3), (5, .int v5)]) hx hb dX11_least_81 hl (k := 5) rfl (by rfl) (by decide) rfl (fun ls hl => ?_)
        refine lv_goto (tgt := 20) hx hb dX11_least_84 (by decide) ?_
        obtain ⟨rfl, rfl⟩ := jm_ret_some hf
        exact jm_or_l hk20 _ _ _ _ _ hst (lv_sub hl [1, 2, 3, 4, 5, 0] rfl)
      have J69 : ∀ (v6 : Int32) (v7 : Int64) (Mm7 : Mem), (jf_X11_least_j69 N a0 v1 v5 v6 v7).1 Mm7 = some (xe20, Me20) → ∀ (H : Heap) (locs : List Loc) (cells slots : Nat) (ls : Array Slot), jm_St g b M M' Mm7 s (jm_rm 1 40 M M') H locs cells slots → lv_has ls 9 [(0, va_rf (some a0)), (1, .int v1), (5, .int v5), (6, .int v6), (7, .long v7)] → W p l e (jm_rm 1 40 M M') s m args below meth c H locs cells slots (jm_MQ below g b (some (.int r)) M M' args s) (F0 m 69 ls []) := by
        intro v6 v7 Mm7 hf H locs cells slots ls hst hl
        unfold jf_X11_least_j69 at hf
        refine lv_lload hx hb dX11_least_69 (lv_at hl 4 rfl) ?_
        refine lv_lstore_n (i := 3) (lv' := [(3, .long v7), (0, va_rf (some a0)), (1, .int v1), (5, .int v5), (6, .int v6), (7, .long v7)]) hx hb dX11_least_71 rfl hl (by decide) rfl (fun ls hl => ?_)
        refine lv_bipush (v := 100) hx hb dX11_least_72 (by decide) ?_
        refine lv_iload hx hb dX11_least_74 (lv_at hl 3 rfl) ?_
        refine lv_imul hx hb dX11_least_76 ?_
        refine lv_iload hx hb dX11_least_77 (lv_at hl 4 rfl) ?_
        refine lv_iadd hx hb dX11_least_79 ?_
        refine lv_istore_n (i := 2) (lv' := [(2, .int (((100 : Int32) * v5) + v6)), (3, .long v7), (0, va_rf (some a0)), (1, .int v1), (5, .int v5), (6, .int v6), (7, .long v7)]) hx hb dX11_least_80 rfl hl (by decide) rfl (fun ls hl => ?_)
        exact J81 (((100 : Int32) * v5) + v6) v7 v6 _ hf _ _ _ _ _ hst (lv_sub hl [2, 3, 0, 1, 4, 5] rfl)
      intro H locs cells slots ls hst hl
      unfold jf_X11_least_L20 at hf
      refine lv_iload hx hb dX11_least_20 (lv_at hl 5 rfl) ?_
      refine jw_aload_n (r := (some a0)) hx hb dX11_least_22 rfl (lv_at hl 0 rfl) ?_
      obtain ⟨x9, h10, hf⟩ := jm_rd_some hf
      refine jw_getI hx hb hts hown hK hst (fl_X11_15 hts hK) h10 dX11_least_23 ?_
      refine lv_iconst (v := 1) hx hb dX11_least_26 (by decide) ?_
      refine lv_isub hx hb dX11_least_27 ?_
      refine lv_icmp_ge (tgt := 87) hx hb dX11_least_28 (by decide) (fun hc => ?_) (fun hc => ?_)
      · rw [if_pos hc] at hf
        obtain ⟨rfl, rfl⟩ := jm_ret_some hf
        exact jm_or_r hk20 _ _ _ _ _ hst (lv_sub hl [0, 1, 2, 3, 4] rfl)
      · rw [if_neg hc] at hf
        refine jw_aload_n (r := (some a0)) hx hb dX11_least_31 rfl (lv_at hl 0 rfl) ?_
        obtain ⟨x11, h12, hf⟩ := jm_rd_some hf
        refine jw_getR hx hb hts hown hK hst (fl_X11_20 hts hK) h12 dX11_least_32 ?_
        refine lv_iload hx hb dX11_least_35 (lv_at hl 4 rfl) ?_
        obtain ⟨x13, h14, hf⟩ := jm_rd_some hf
        refine jw_aald hx hb hK hst (show jm_ty[13]? = some (.array .long) from rfl) rfl h14 dX11_least_37 ?_
        refine lv_iload hx hb dX11_least_38 (lv_at hl 5 rfl) ?_
        obtain ⟨x15, h16, hf⟩ := jm_rd_some hf
        refine jw_lald hx hb hK hst h16 dX11_least_40 ?_
        refine jw_abs (rest := []) hx hb hml hl.1 hown hts q704 hst (jm_le_tr (jm_mono hf) hle20) (Nat.le_of_ble_eq_true rfl) (by rw [cs_n]; exact Nat.le_of_ble_eq_true rfl) dX11_least_41 ?_
        obtain ⟨x17, ex17, hf⟩ := jm_lt_some hf
        rw [← ex17]
        refine lv_lstore (i := 7) (lv' := [(7, .long x17), (0, va_rf (some a0)), (1, .int v1), (2, .int v2), (3, .long v3), (5, .int v5), (6, .int v6)]) hx hb dX11_least_44 hl (by decide) rfl (fun ls hl => ?_)
        refine lv_lload hx hb dX11_least_46 (lv_at hl 0 rfl) ?_
        refine lv_lconst (v := 0) hx hb dX11_least_48 (by decide) ?_
        refine W.lcmp hx hb dX11_least_49 ?_
        refine lv_if_eq (tgt := 81) hx hb dX11_least_50 (by decide) (fun hc => ?_) (fun hc => ?_)
        · replace hc := (lg_cmp_eq _ _).mp hc
          rw [if_pos hc] at hf
          exact J81 v2 v3 v6 _ hf _ _ _ _ _ hst (lv_sub hl [1, 2, 3, 4, 5, 6] rfl)
        · replace hc := fun q => hc ((lg_cmp_eq _ _).mpr q)
          rw [if_neg hc] at hf
          refine lv_iload_n hx hb dX11_least_53 rfl (lv_at hl 3 rfl) ?_
          refine lv_ldc hx hb hown (hts _ q703) dX11_least_54 ?_
          refine lv_icmp_eq (tgt := 69) hx hb dX11_least_56 (by decide) (fun hc => ?_) (fun hc => ?_)
          · rw [if_pos hc] at hf
            exact J69 v6 x17 _ hf _ _ _ _ _ hst (lv_sub hl [1, 2, 5, 6, 0] rfl)
          · rw [if_neg hc] at hf
            refine lv_lload hx hb dX11_least_59 (lv_at hl 0 rfl) ?_
            refine lv_lload_n hx hb dX11_least_61 rfl (lv_at hl 4 rfl) ?_
            refine W.lcmp hx hb dX11_least_62 ?_
            refine lv_if_lt (tgt := 69) hx hb dX11_least_63 (by decide) (fun hc => ?_) (fun hc => ?_)
            · replace hc := (lg_cmp_lt _ _).mp hc
              rw [if_pos hc] at hf
              exact J69 v6 x17 _ hf _ _ _ _ _ hst (lv_sub hl [1, 2, 5, 6, 0] rfl)
            · replace hc := fun q => hc ((lg_cmp_lt _ _).mpr q)
              rw [if_neg hc] at hf
              refine lv_goto (tgt := 81) hx hb dX11_least_66 (by decide) ?_
              exact J81 v2 v3 v6 _ hf _ _ _ _ _ hst (lv_sub hl [1, 2, 3, 4, 5, 6] rfl)
    intro H locs cells slots ls hst hl
    unfold jf_X11_least_L8 at hf
    refine lv_iload hx hb dX11_least_8 (lv_at hl 4 rfl) ?_
    refine jw_aload_n (r := (some a0)) hx hb dX11_least_10 rfl (lv_at hl 0 rfl) ?_
    obtain ⟨x4, h5, hf⟩ := jm_rd_some hf
    refine jw_getI hx hb hts hown hK hst (fl_X11_9 hts hK) h5 dX11_least_11 ?_
    refine lv_icmp_ge (tgt := 93) hx hb dX11_least_14 (by decide) (fun hc => ?_) (fun hc => ?_)
    · rw [if_pos hc] at hf
      obtain ⟨rfl, rfl⟩ := jm_ret_some hf
      exact jm_or_r hk8 _ _ _ _ _ hst (lv_sub hl [2] rfl)
    · rw [if_neg hc] at hf
      refine lv_iload_n hx hb dX11_least_17 rfl (lv_at hl 1 rfl) ?_
      refine lv_istore (i := 6) (lv' := [(6, .int v1), (0, va_rf (some a0)), (1, .int v1), (2, .int v2), (3, .long v3), (5, .int v5)]) hx hb dX11_least_18 hl (by decide) rfl (fun ls hl => ?_)
      obtain ⟨xl20, Ml20, hit20, hf⟩ := jm_bd_some hf
      have hlf20 : jm_le Ml20 M' := jm_le_tr (jm_mono hf) hle8
      have hwe20 : (fun (y : (Int32 × Int64)) (Mz : Mem) => ∀ (H : Heap) (locs : List Loc) (cells slots : Nat) (ls : Array Slot), jm_St g b M M' Mz s (jm_rm 1 40 M M') H locs cells slots → lv_has ls 9 [(0, va_rf (some a0)), (1, .int v1), (2, .int y.1), (3, .long y.2), (5, .int v5)] → W p l e (jm_rm 1 40 M M') s m args below meth c H locs cells slots (jm_MQ below g b (some (.int r)) M M' args s) (F0 m 87 ls [])) xl20 Ml20 := fun H locs cells slots ls hst hl => K20_87 xl20.1 xl20.2 v5 _ hf H locs cells slots ls hst hl
      refine jm_it_walk (Mf := M') (Wh := fun (z : Int32 × Int64 × Int32) (Mz : Mem) => ∀ (H : Heap) (locs : List Loc) (cells slots : Nat) (ls : Array Slot), jm_St g b M M' Mz s (jm_rm 1 40 M M') H locs cells slots → lv_has ls 9 [(0, va_rf (some a0)), (1, .int v1), (2, .int z.1), (3, .long z.2.1), (5, .int v5), (6, .int z.2.2)] → W p l e (jm_rm 1 40 M M') s m args below meth c H locs cells slots (jm_MQ below g b (some (.int r)) M M' args s) (F0 m 20 ls [])) (We := fun (y : (Int32 × Int64)) (Mz : Mem) => ∀ (H : Heap) (locs : List Loc) (cells slots : Nat) (ls : Array Slot), jm_St g b M M' Mz s (jm_rm 1 40 M M') H locs cells slots → lv_has ls 9 [(0, va_rf (some a0)), (1, .int v1), (2, .int y.1), (3, .long y.2), (5, .int v5)] → W p l e (jm_rm 1 40 M M') s m args below meth c H locs cells slots (jm_MQ below g b (some (.int r)) M M' args s) (F0 m 87 ls [])) ?_ N (v2, v3, v1) Mm3 xl20 Ml20 hit20 hlf20 hwe20 _ _ _ _ _ hst (lv_sub hl [1, 2, 3, 4, 5, 0] rfl)
      intro z Mm18 xe20 Me20 hf hle20 hk20 H locs cells slots ls hst hl
      obtain ⟨v2, v3, v6⟩ := z
      have hf : (jf_X11_least_L20 N a0 v1 v5 v2 v3 v6).1 Mm18 = some (xe20, Me20) := hf
      have hl : lv_has ls 9 [(0, va_rf (some a0)), (1, .int v1), (2, .int v2), (3, .long v3), (5, .int v5), (6, .int v6)] := hl
      exact B20 a0 v1 v5 v2 v3 v6 _ _ _ hf hle20 hk20 _ _ _ _ _ hst (lv_sub hl [0, 1, 2, 3, 4, 5] rfl)
  unfold jf_X11_least at hf
  refine lv_ldc hx hb hown (hts _ q703) dX11_least_0 ?_
  refine lv_istore_n (i := 2) (lv' := [(2, .int (-1000000 : Int32)), (0, va_rf (some a0)), (1, .int v1)]) hx hb dX11_least_2 rfl hl (by decide) rfl (fun ls hl => ?_)
  refine lv_lconst (v := 0) hx hb dX11_least_3 (by decide) ?_
  refine lv_lstore_n (i := 3) (lv' := [(3, .long (0 : Int64)), (2, .int (-1000000 : Int32)), (0, va_rf (some a0)), (1, .int v1)]) hx hb dX11_least_4 rfl hl (by decide) rfl (fun ls hl => ?_)
  refine lv_iload_n hx hb dX11_least_5 rfl (lv_at hl 3 rfl) ?_
  refine lv_istore (i := 5) (lv' := [(5, .int v1), (3, .long (0 : Int64)), (2, .int (-1000000 : Int32)), (0, va_rf (some a0)), (1, .int v1)]) hx hb dX11_least_6 hl (by decide) rfl (fun ls hl => ?_)
  obtain ⟨xl8, Ml8, hit8, hf⟩ := jm_bd_some hf
  have hlf8 : jm_le Ml8 M' := jm_le_tr (jm_mono hf) jm_le_rf
  have hwe8 : (fun (y : Int32) (Mz : Mem) => ∀ (H : Heap) (locs : List Loc) (cells slots : Nat) (ls : Array Slot), jm_St g b M M' Mz s (jm_rm 1 40 M M') H locs cells slots → lv_has ls 9 [(2, .int y)] → W p l e (jm_rm 1 40 M M') s m args below meth c H locs cells slots (jm_MQ below g b (some (.int r)) M M' args s) (F0 m 93 ls [])) xl8 Ml8 := fun H locs cells slots ls hst hl => K8_93 xl8 _ hf H locs cells slots ls hst hl
  refine jm_it_walk (Mf := M') (Wh := fun (z : Int32 × Int64 × Int32) (Mz : Mem) => ∀ (H : Heap) (locs : List Loc) (cells slots : Nat) (ls : Array Slot), jm_St g b M M' Mz s (jm_rm 1 40 M M') H locs cells slots → lv_has ls 9 [(0, va_rf (some a0)), (1, .int v1), (2, .int z.1), (3, .long z.2.1), (5, .int z.2.2)] → W p l e (jm_rm 1 40 M M') s m args below meth c H locs cells slots (jm_MQ below g b (some (.int r)) M M' args s) (F0 m 8 ls [])) (We := fun (y : Int32) (Mz : Mem) => ∀ (H : Heap) (locs : List Loc) (cells slots : Nat) (ls : Array Slot), jm_St g b M M' Mz s (jm_rm 1 40 M M') H locs cells slots → lv_has ls 9 [(2, .int y)] → W p l e (jm_rm 1 40 M M') s m args below meth c H locs cells slots (jm_MQ below g b (some (.int r)) M M' args s) (F0 m 93 ls [])) ?_ N ((-1000000 : Int32), (0 : Int64), v1) M xl8 Ml8 hit8 hlf8 hwe8 _ _ _ _ _ hst (lv_sub hl [3, 4, 2, 1, 0] rfl)
  intro z Mm19 xe8 Me8 hf hle8 hk8 H locs cells slots ls hst hl
  obtain ⟨v2, v3, v5⟩ := z
  have hf : (jf_X11_least_L8 N a0 v1 v2 v3 v5).1 Mm19 = some (xe8, Me8) := hf
  have hl : lv_has ls 9 [(0, va_rf (some a0)), (1, .int v1), (2, .int v2), (3, .long v3), (5, .int v5)] := hl
  exact B8 a0 v1 v2 v3 v5 _ _ _ hf hle8 hk8 _ _ _ _ _ hst (lv_sub hl [0, 1, 2, 3, 4] rfl)
def jf_X11_swapRows (N : Nat) (a0 : Nat) (v1 : Int32) (v2 : Int32) : jm_P Unit :=
  jm_rd (jm_fR [11] 0 (some a0)) fun x1 =>
  jm_rd (jm_ldR 13 x1 v1) fun x3 =>
  jm_rd (jm_fR [11] 0 (some a0)) fun x5 =>
  jm_rd (jm_fR [11] 0 (some a0)) fun x7 =>
  jm_rd (jm_ldR 13 x7 v2) fun x9 =>
  jm_rd (jm_ck (¬ x9 = none)) fun _ =>
  jm_wr (jm_stR 13 [] (some 2) x5 v1 x9) <|
  jm_rd (jm_fR [11] 0 (some a0)) fun x15 =>
  jm_rd (jm_ck (¬ x3 = none)) fun _ =>
  jm_wr (jm_stR 13 [] (some 2) x15 v2 x3) <|
  jm_ret ()
set_option maxHeartbeats 4000000 in
set_option maxRecDepth 100000 in
theorem jt_X11_swapRows (l : Launch) (g : GD) (b N : Nat) (a0 : Nat) (v1 : Int32) (v2 : Int32) (M M' : Mem) (r : Unit) (hf : (jf_X11_swapRows N a0 v1 v2).1 M = some (r, M')) : jm_Met l g b yX11_swapRows (ws_ yX11_swapRows cX11_swapRows 4 none) 0 0 [va_rf (some a0), .int v1, .int v2] M M' none := by
  refine jm_start (by decide) (jm_mono hf) (by rw [lg_sl_r, lg_sl_i, lg_sl_i, lg_sl_n]; exact Nat.le_of_ble_eq_true rfl) ?_
  intro p e s m args below meth c ls C0 hin hK hst hl
  obtain ⟨hx, hb, hml, hown, hts, hr, hlk⟩ := id C0
  have hown : s.vm.findClass RX11 = some m.cls := hown
  have C0 : jm_Cx p s m args meth c cX11_swapRows 4 none RX11 := C0
  rw [lv_args_r, lv_args_i, lv_args_i, lv_args_n] at hl
  have hl : lv_has ls 4 [(0, va_rf (some a0)), (1, .int v1), (2, .int v2)] := hl
  unfold jf_X11_swapRows at hf
  refine jw_aload_n (r := (some a0)) hx hb dX11_swapRows_0 rfl (lv_at hl 0 rfl) ?_
  obtain ⟨x1, h2, hf⟩ := jm_rd_some hf
  refine jw_getR hx hb hts hown hK hst (fl_X11_20 hts hK) h2 dX11_swapRows_1 ?_
  refine lv_iload_n hx hb dX11_swapRows_4 rfl (lv_at hl 1 rfl) ?_
  obtain ⟨x3, h4, hf⟩ := jm_rd_some hf
  refine jw_aald hx hb hK hst (show jm_ty[13]? = some (.array .long) from rfl) rfl h4 dX11_swapRows_5 ?_
  refine jw_astore_n (i := 3) (r := x3) (lv' := [(3, va_rf x3), (0, va_rf (some a0)), (1, .int v1), (2, .int v2)]) hx hb dX11_swapRows_6 rfl hl (by decide) rfl (fun ls hl => ?_)
  refine jw_aload_n (r := (some a0)) hx hb dX11_swapRows_7 rfl (lv_at hl 1 rfl) ?_
  obtain ⟨x5, h6, hf⟩ := jm_rd_some hf
  refine jw_getR hx hb hts hown hK hst (fl_X11_20 hts hK) h6 dX11_swapRows_8 ?_
  refine lv_iload_n hx hb dX11_swapRows_11 rfl (lv_at hl 2 rfl) ?_
  refine jw_aload_n (r := (some a0)) hx hb dX11_swapRows_12 rfl (lv_at hl 1 rfl) ?_
  obtain ⟨x7, h8, hf⟩ := jm_rd_some hf
  refine jw_getR hx hb hts hown hK hst (fl_X11_20 hts hK) h8 dX11_swapRows_13 ?_
  refine lv_iload_n hx hb dX11_swapRows_16 rfl (lv_at hl 3 rfl) ?_
  obtain ⟨x9, h10, hf⟩ := jm_rd_some hf
  refine jw_aald hx hb hK hst (show jm_ty[13]? = some (.array .long) from rfl) rfl h10 dX11_swapRows_17 ?_
  obtain ⟨_, h14, hf⟩ := jm_rd_some hf
  obtain ⟨F11, h12, hf⟩ := jm_wr_some hf
  refine jw_astA (kd := 13) (ke := 2) (r := x5) (v := x9) hx hb hK hst rfl rfl hK.2.2.2.2.2.1 h12 dX11_swapRows_18 (jm_some_of (jm_ck_some h14)) (fun H locs hst => ?_)
  generalize ((M.1, M.2.1, F11) : Mem) = Mm13 at hf hst
  refine jw_aload_n (r := (some a0)) hx hb dX11_swapRows_19 rfl (lv_at hl 1 rfl) ?_
  obtain ⟨x15, h16, hf⟩ := jm_rd_some hf
  refine jw_getR hx hb hts hown hK hst (fl_X11_20 hts hK) h16 dX11_swapRows_20 ?_
  refine lv_iload_n hx hb dX11_swapRows_23 rfl (lv_at hl 3 rfl) ?_
  refine jw_aload_n (r := x3) hx hb dX11_swapRows_24 rfl (lv_at hl 0 rfl) ?_
  obtain ⟨_, h20, hf⟩ := jm_rd_some hf
  obtain ⟨F17, h18, hf⟩ := jm_wr_some hf
  refine jw_astA (kd := 13) (ke := 2) (r := x15) (v := x3) hx hb hK hst rfl rfl hK.2.2.2.2.2.1 h18 dX11_swapRows_25 (jm_some_of (jm_ck_some h20)) (fun H locs hst => ?_)
  generalize ((Mm13.1, Mm13.2.1, F17) : Mem) = Mm19 at hf hst
  obtain ⟨-, rfl⟩ := jm_ret_some hf
  exact jw_vret C0 hst dX11_swapRows_26
def jf_X11_swapColumns_k12_51 (N : Nat)  : jm_P Unit :=
  jm_ret ()
def jf_X11_swapColumns_L12 (N : Nat) (v1 : Int32) (v2 : Int32) (v3 : Option Nat) (v4 : Int32) (v5 : Int32) : jm_P (Int32 ⊕ Unit) :=
  if v4 ≤ v5 then (
    jm_ret (.inr ()))
  else
    jm_rd (jm_ldR 13 v3 v5) fun x7 =>
    jm_rd (jm_ldJ 2 x7 v1) fun x9 =>
    jm_rd (jm_ldJ 2 x7 v2) fun x11 =>
    jm_wr (jm_stJ 2 x7 v1 x11) <|
    jm_wr (jm_stJ 2 x7 v2 x9) <|
    jm_ret (.inl (v5 + 1))
def jf_X11_swapColumns (N : Nat) (a0 : Nat) (v1 : Int32) (v2 : Int32) : jm_P Unit :=
  jm_rd (jm_fR [11] 0 (some a0)) fun x2 =>
  jm_rd (jm_len 13 x2) fun x4 =>
  jm_bd (jm_it (fun z => jf_X11_swapColumns_L12 N v1 v2 x2 x4 z) N (0 : Int32)) fun y =>
  jf_X11_swapColumns_k12_51 N 
set_option maxHeartbeats 4000000 in
set_option maxRecDepth 100000 in
theorem jt_X11_swapColumns (l : Launch) (g : GD) (b N : Nat) (a0 : Nat) (v1 : Int32) (v2 : Int32) (M M' : Mem) (r : Unit) (hf : (jf_X11_swapColumns N a0 v1 v2).1 M = some (r, M')) : jm_Met l g b yX11_swapColumns (ws_ yX11_swapColumns cX11_swapColumns 9 none) 0 0 [va_rf (some a0), .int v1, .int v2] M M' none := by
  refine jm_start (by decide) (jm_mono hf) (by rw [lg_sl_r, lg_sl_i, lg_sl_i, lg_sl_n]; exact Nat.le_of_ble_eq_true rfl) ?_
  intro p e s m args below meth c ls C0 hin hK hst hl
  obtain ⟨hx, hb, hml, hown, hts, hr, hlk⟩ := id C0
  have hown : s.vm.findClass RX11 = some m.cls := hown
  have C0 : jm_Cx p s m args meth c cX11_swapColumns 9 none RX11 := C0
  rw [lv_args_r, lv_args_i, lv_args_i, lv_args_n] at hl
  have hl : lv_has ls 9 [(0, va_rf (some a0)), (1, .int v1), (2, .int v2)] := hl
  have K12_51 : ∀  (Mm1 : Mem), (jf_X11_swapColumns_k12_51 N).1 Mm1 = some (r, M') → ∀ (H : Heap) (locs : List Loc) (cells slots : Nat) (ls : Array Slot), jm_St g b M M' Mm1 s (jm_rm 0 0 M M') H locs cells slots → lv_has ls 9 [] → W p l e (jm_rm 0 0 M M') s m args below meth c H locs cells slots (jm_MQ below g b none M M' args s) (F0 m 51 ls []) := by
    intro  Mm1 hf H locs cells slots ls hst hl
    unfold jf_X11_swapColumns_k12_51 at hf
    obtain ⟨-, rfl⟩ := jm_ret_some hf
    exact jw_vret C0 hst dX11_swapColumns_51
  have B12 : ∀ (v1 : Int32) (v2 : Int32) (v3 : Option Nat) (v4 : Int32) (v5 : Int32) (Mm6 : Mem) (xe12 : (Int32 ⊕ Unit)) (Me12 : Mem), (jf_X11_swapColumns_L12 N v1 v2 v3 v4 v5).1 Mm6 = some (xe12, Me12) → jm_le Me12 M' → (jm_or (fun (z : Int32) => ∀ (H : Heap) (locs : List Loc) (cells slots : Nat) (ls : Array Slot), jm_St g b M M' Me12 s (jm_rm 0 0 M M') H locs cells slots → lv_has ls 9 [(1, .int v1), (2, .int v2), (3, va_rf v3), (4, .int v4), (5, .int z)] → W p l e (jm_rm 0 0 M M') s m args below meth c H locs cells slots (jm_MQ below g b none M M' args s) (F0 m 12 ls [])) (fun (y : Unit) => ∀ (H : Heap) (locs : List Loc) (cells slots : Nat) (ls : Array Slot), jm_St g b M M' Me12 s (jm_rm 0 0 M M') H locs cells slots → lv_has ls 9 [] → W p l e (jm_rm 0 0 M M') s m args below meth c H locs cells slots (jm_MQ below g b none M M' args s) (F0 m 51 ls [])) xe12) → ∀ (H : Heap) (locs : List Loc) (cells slots : Nat) (ls : Array Slot), jm_St g b M M' Mm6 s (jm_rm 0 0 M M') H locs cells slots → lv_has ls 9 [(1, .int v1), (2, .int v2), (3, va_rf v3), (4, .int v4), (5, .int v5)] → W p l e (jm_rm 0 0 M M') s m args below meth c H locs cells slots (jm_MQ below g b none M M' args s) (F0 m 12 ls []) := by
    intro v1 v2 v3 v4 v5 Mm6 xe12 Me12 hf hle12 hk12
    intro H locs cells slots ls hst hl
    unfold jf_X11_swapColumns_L12 at hf
    refine lv_iload hx hb dX11_swapColumns_12 (lv_at hl 4 rfl) ?_
    refine lv_iload hx hb dX11_swapColumns_14 (lv_at hl 3 rfl) ?_
    refine lv_icmp_ge (tgt := 51) hx hb dX11_swapColumns_16 (by decide) (fun hc => ?_) (fun hc => ?_)
    · rw [if_pos hc] at hf
      obtain ⟨rfl, rfl⟩ := jm_ret_some hf
      exact jm_or_r hk12 _ _ _ _ _ hst (lv_sub hl [] rfl)
    · rw [if_neg hc] at hf
      refine jw_aload_n (r := v3) hx hb dX11_swapColumns_19 rfl (lv_at hl 2 rfl) ?_
      refine lv_iload hx hb dX11_swapColumns_20 (lv_at hl 4 rfl) ?_
      obtain ⟨x7, h8, hf⟩ := jm_rd_some hf
      refine jw_aald hx hb hK hst (show jm_ty[13]? = some (.array .long) from rfl) rfl h8 dX11_swapColumns_22 ?_
      refine jw_astore (i := 6) (r := x7) (lv' := [(6, va_rf x7), (1, .int v1), (2, .int v2), (3, va_rf v3), (4, .int v4), (5, .int v5)]) hx hb dX11_swapColumns_23 hl (by decide) rfl (fun ls hl => ?_)
      refine jw_aload (r := x7) hx hb dX11_swapColumns_25 (lv_at hl 0 rfl) ?_
      refine lv_iload_n hx hb dX11_swapColumns_27 rfl (lv_at hl 1 rfl) ?_
      obtain ⟨x9, h10, hf⟩ := jm_rd_some hf
      refine jw_lald hx hb hK hst h10 dX11_swapColumns_28 ?_
      refine lv_lstore (i := 7) (lv' := [(7, .long x9), (6, va_rf x7), (1, .int v1), (2, .int v2), (3, va_rf v3), (4, .int v4), (5, .int v5)]) hx hb dX11_swapColumns_29 hl (by decide) (by simp [va_rf_cat, cat_i, cat_j, cat_f]) (fun ls hl => ?_)
      refine jw_aload (r := x7) hx hb dX11_swapColumns_31 (lv_at hl 1 rfl) ?_
      refine lv_iload_n hx hb dX11_swapColumns_33 rfl (lv_at hl 2 rfl) ?_
      refine jw_aload (r := x7) hx hb dX11_swapColumns_34 (lv_at hl 1 rfl) ?_
      refine lv_iload_n hx hb dX11_swapColumns_36 rfl (lv_at hl 3 rfl) ?_
      obtain ⟨x11, h12, hf⟩ := jm_rd_some hf
      refine jw_lald hx hb hK hst h12 dX11_swapColumns_37 ?_
      obtain ⟨F13, h14, hf⟩ := jm_wr_some hf
      refine jw_last (r := x7) hx hb hK hst h14 dX11_swapColumns_38 (fun H locs hst => ?_)
      generalize ((Mm6.1, Mm6.2.1, F13) : Mem) = Mm15 at hf hst
      refine jw_aload (r := x7) hx hb dX11_swapColumns_39 (lv_at hl 1 rfl) ?_
      refine lv_iload_n hx hb dX11_swapColumns_41 rfl (lv_at hl 3 rfl) ?_
      refine lv_lload hx hb dX11_swapColumns_42 (lv_at hl 0 rfl) ?_
      obtain ⟨F16, h17, hf⟩ := jm_wr_some hf
      refine jw_last (r := x7) hx hb hK hst h17 dX11_swapColumns_44 (fun H locs hst => ?_)
      generalize ((Mm15.1, Mm15.2.1, F16) : Mem) = Mm18 at hf hst
      refine lv_iinc (i := 5) (v := (v5 + 1)) (lv' := [(5, .int (v5 + 1)), (7, .long x9), (6, va_rf x7), (1, .int v1), (2, .int v2), (3, va_rf v3), (4, .int v4)]) hx hb dX11_swapColumns_45 hl (k := 6) rfl (by rfl) (by decide) rfl (fun ls hl => ?_)
      refine lv_goto (tgt := 12) hx hb dX11_swapColumns_48 (by decide) ?_
      obtain ⟨rfl, rfl⟩ := jm_ret_some hf
      exact jm_or_l hk12 _ _ _ _ _ hst (lv_sub hl [3, 4, 5, 6, 0] rfl)
  unfold jf_X11_swapColumns at hf
  refine jw_aload_n (r := (some a0)) hx hb dX11_swapColumns_0 rfl (lv_at hl 0 rfl) ?_
  obtain ⟨x2, h3, hf⟩ := jm_rd_some hf
  refine jw_getR hx hb hts hown hK hst (fl_X11_20 hts hK) h3 dX11_swapColumns_1 ?_
  refine jw_astore_n (i := 3) (r := x2) (lv' := [(3, va_rf x2), (0, va_rf (some a0)), (1, .int v1), (2, .int v2)]) hx hb dX11_swapColumns_4 rfl hl (by decide) rfl (fun ls hl => ?_)
  refine jw_aload_n (r := x2) hx hb dX11_swapColumns_5 rfl (lv_at hl 0 rfl) ?_
  obtain ⟨x4, h5, hf⟩ := jm_rd_some hf
  refine jw_alen hx hb hK hst (show jm_ty[13]? = some (.array .long) from rfl) h5 dX11_swapColumns_6 ?_
  refine lv_istore (i := 4) (lv' := [(4, .int x4), (3, va_rf x2), (0, va_rf (some a0)), (1, .int v1), (2, .int v2)]) hx hb dX11_swapColumns_7 hl (by decide) (by simp [va_rf_cat, cat_i, cat_j, cat_f]) (fun ls hl => ?_)
  refine lv_iconst (v := 0) hx hb dX11_swapColumns_9 (by decide) ?_
  refine lv_istore (i := 5) (lv' := [(5, .int (0 : Int32)), (4, .int x4), (3, va_rf x2), (0, va_rf (some a0)), (1, .int v1), (2, .int v2)]) hx hb dX11_swapColumns_10 hl (by decide) rfl (fun ls hl => ?_)
  obtain ⟨xl12, Ml12, hit12, hf⟩ := jm_bd_some hf
  have hlf12 : jm_le Ml12 M' := jm_le_tr (jm_mono hf) jm_le_rf
  have hwe12 : (fun (y : Unit) (Mz : Mem) => ∀ (H : Heap) (locs : List Loc) (cells slots : Nat) (ls : Array Slot), jm_St g b M M' Mz s (jm_rm 0 0 M M') H locs cells slots → lv_has ls 9 [] → W p l e (jm_rm 0 0 M M') s m args below meth c H locs cells slots (jm_MQ below g b none M M' args s) (F0 m 51 ls [])) xl12 Ml12 := fun H locs cells slots ls hst hl => K12_51  _ hf H locs cells slots ls hst hl
  refine jm_it_walk (Mf := M') (Wh := fun (z : Int32) (Mz : Mem) => ∀ (H : Heap) (locs : List Loc) (cells slots : Nat) (ls : Array Slot), jm_St g b M M' Mz s (jm_rm 0 0 M M') H locs cells slots → lv_has ls 9 [(1, .int v1), (2, .int v2), (3, va_rf x2), (4, .int x4), (5, .int z)] → W p l e (jm_rm 0 0 M M') s m args below meth c H locs cells slots (jm_MQ below g b none M M' args s) (F0 m 12 ls [])) (We := fun (y : Unit) (Mz : Mem) => ∀ (H : Heap) (locs : List Loc) (cells slots : Nat) (ls : Array Slot), jm_St g b M M' Mz s (jm_rm 0 0 M M') H locs cells slots → lv_has ls 9 [] → W p l e (jm_rm 0 0 M M') s m args below meth c H locs cells slots (jm_MQ below g b none M M' args s) (F0 m 51 ls [])) ?_ N (0 : Int32) M xl12 Ml12 hit12 hlf12 hwe12 _ _ _ _ _ hst (lv_sub hl [4, 5, 2, 1, 0] rfl)
  intro v5 Mm19 xe12 Me12 hf hle12 hk12 H locs cells slots ls hst hl
  have hf : (jf_X11_swapColumns_L12 N v1 v2 x2 x4 v5).1 Mm19 = some (xe12, Me12) := hf
  have hl : lv_has ls 9 [(1, .int v1), (2, .int v2), (3, va_rf x2), (4, .int x4), (5, .int v5)] := hl
  exact B12 v1 v2 x2 x4 v5 _ _ _ hf hle12 hk12 _ _ _ _ _ hst (lv_sub hl [0, 1, 2, 3, 4] rfl)
def jf_X11_clear_k106_204 (N : Nat) (v2 : Int32) : jm_P Int32 :=
  jm_rd (jm_ck (v2 = 0 ∨ v2 = 1)) fun _ =>
  jm_ret v2
def jf_X11_clear_j196 (N : Nat) (a0 : Nat) (v1 : Int32) (v3 : Int32) (t0 : Int32) (t1 : Int32) : jm_P ((Int32 × Int32) ⊕ Int32) :=
  jm_ret (.inl ((t0 &&& t1), (v3 + 1)))
def jf_X11_clear_k138_177 (N : Nat) (a0 : Nat) (v1 : Int32) (v2 : Int32) (v3 : Int32) : jm_P ((Int32 × Int32) ⊕ Int32) :=
  jm_rd (jm_fR [11] 0 (some a0)) fun x6 =>
  jm_rd (jm_ldR 13 x6 v1) fun x8 =>
  jm_rd (jm_ldJ 2 x8 v3) fun x10 =>
  if x10 = (0 : Int64) then (
    jf_X11_clear_j196 N a0 v1 v3 v2 (1 : Int32))
  else
    jf_X11_clear_j196 N a0 v1 v3 v2 (0 : Int32)
def jf_X11_clear_L138 (N : Nat) (a0 : Nat) (v1 : Int32) (v2 : Int32) (v3 : Int32) (v4 : Int64) (v6 : Int32) : jm_P (Int32 ⊕ Unit) :=
  jm_rd (jm_fI [11] 1 (some a0)) fun x29 =>
  if x29 ≤ v6 then (
    jm_ret (.inr ()))
  else
    jm_rd (jm_fR [11] 0 (some a0)) fun x31 =>
    jm_rd (jm_ldR 13 x31 v6) fun x33 =>
    jm_rd (jm_ldJ 2 x33 v3) fun x35 =>
    jm_rd (jm_fR [11] 0 (some a0)) fun x37 =>
    jm_rd (jm_ldR 13 x37 v6) fun x39 =>
    jm_rd (jm_ldJ 2 x39 v1) fun x41 =>
    jm_wr (jm_stJ 2 x33 v3 (x35 - (v4 * x41))) <|
    jm_ret (.inl (v6 + 1))
def jf_X11_clear_L106 (N : Nat) (a0 : Nat) (v1 : Int32) (v2 : Int32) (v3 : Int32) : jm_P ((Int32 × Int32) ⊕ Int32) :=
  jm_rd (jm_fI [11] 2 (some a0)) fun x13 =>
  if (x13 - (1 : Int32)) ≤ v3 then (
    jm_ret (.inr v2))
  else
    jm_rd (jm_fR [11] 0 (some a0)) fun x15 =>
    jm_rd (jm_ldR 13 x15 v1) fun x17 =>
    jm_rd (jm_ldJ 2 x17 v3) fun x19 =>
    jm_rd (jm_fR [11] 0 (some a0)) fun x21 =>
    jm_rd (jm_ldR 13 x21 v1) fun x23 =>
    jm_rd (jm_ldJ 2 x23 v1) fun x25 =>
    jm_rd (jm_ck (¬ x25 = 0)) fun _ =>
    jm_bd (jm_it (fun z => jf_X11_clear_L138 N a0 v1 v2 v3 (x19 / x25) z) N (0 : Int32)) fun y =>
    jf_X11_clear_k138_177 N a0 v1 v2 v3
def jf_X11_clear_k6_102 (N : Nat) (a0 : Nat) (v1 : Int32) (v2 : Int32) : jm_P Int32 :=
  jm_bd (jm_it (fun z => jf_X11_clear_L106 N a0 v1 z.1 z.2) N (v2, (v1 + (1 : Int32)))) fun y =>
  jf_X11_clear_k106_204 N y
def jf_X11_clear_j94 (N : Nat) (a0 : Nat) (v1 : Int32) (v3 : Int32) (t0 : Int32) (t1 : Int32) : jm_P ((Int32 × Int32) ⊕ Int32) :=
  jm_ret (.inl ((t0 &&& t1), (v3 + 1)))
def jf_X11_clear_k36_75 (N : Nat) (a0 : Nat) (v1 : Int32) (v2 : Int32) (v3 : Int32) : jm_P ((Int32 × Int32) ⊕ Int32) :=
  jm_rd (jm_fR [11] 0 (some a0)) fun x50 =>
  jm_rd (jm_ldR 13 x50 v3) fun x52 =>
  jm_rd (jm_ldJ 2 x52 v1) fun x54 =>
  if x54 = (0 : Int64) then (
    jf_X11_clear_j94 N a0 v1 v3 v2 (1 : Int32))
  else
    jf_X11_clear_j94 N a0 v1 v3 v2 (0 : Int32)
def jf_X11_clear_L36 (N : Nat) (a0 : Nat) (v1 : Int32) (v2 : Int32) (v3 : Int32) (v4 : Int64) (v6 : Int32) : jm_P (Int32 ⊕ Unit) :=
  jm_rd (jm_fI [11] 2 (some a0)) fun x73 =>
  if x73 ≤ v6 then (
    jm_ret (.inr ()))
  else
    jm_rd (jm_fR [11] 0 (some a0)) fun x75 =>
    jm_rd (jm_ldR 13 x75 v3) fun x77 =>
    jm_rd (jm_ldJ 2 x77 v6) fun x79 =>
    jm_rd (jm_fR [11] 0 (some a0)) fun x81 =>
    jm_rd (jm_ldR 13 x81 v1) fun x83 =>
    jm_rd (jm_ldJ 2 x83 v6) fun x85 =>
    jm_wr (jm_stJ 2 x77 v6 (x79 - (v4 * x85))) <|
    jm_ret (.inl (v6 + 1))
def jf_X11_clear_L6 (N : Nat) (a0 : Nat) (v1 : Int32) (v2 : Int32) (v3 : Int32) : jm_P ((Int32 × Int32) ⊕ Int32) :=
  jm_rd (jm_fI [11] 1 (some a0)) fun x57 =>
  if x57 ≤ v3 then (
    jm_ret (.inr v2))
  else
    jm_rd (jm_fR [11] 0 (some a0)) fun x59 =>
    jm_rd (jm_ldR 13 x59 v3) fun x61 =>
    jm_rd (jm_ldJ 2 x61 v1) fun x63 =>
    jm_rd (jm_fR [11] 0 (some a0)) fun x65 =>
    jm_rd (jm_ldR 13 x65 v1) fun x67 =>
    jm_rd (jm_ldJ 2 x67 v1) fun x69 =>
    jm_rd (jm_ck (¬ x69 = 0)) fun _ =>
    jm_bd (jm_it (fun z => jf_X11_clear_L36 N a0 v1 v2 v3 (x63 / x69) z) N (0 : Int32)) fun y =>
    jf_X11_clear_k36_75 N a0 v1 v2 v3
def jf_X11_clear (N : Nat) (a0 : Nat) (v1 : Int32) : jm_P Int32 :=
  jm_bd (jm_it (fun z => jf_X11_clear_L6 N a0 v1 z.1 z.2) N ((1 : Int32), (v1 + (1 : Int32)))) fun y =>
  jf_X11_clear_k6_102 N a0 v1 y
set_option maxHeartbeats 4000000 in
set_option maxRecDepth 100000 in
theorem jt_X11_clear (l : Launch) (g : GD) (b N : Nat) (a0 : Nat) (v1 : Int32) (M M' : Mem) (r : Int32) (hf : (jf_X11_clear N a0 v1).1 M = some (r, M')) : jm_Met l g b yX11_clear (ws_ yX11_clear cX11_clear 7 (some .boolean)) 0 0 [va_rf (some a0), .int v1] M M' (some (.int r)) := by
  refine jm_start (by decide) (jm_mono hf) (by rw [lg_sl_r, lg_sl_i, lg_sl_n]; exact Nat.le_of_ble_eq_true rfl) ?_
  intro p e s m args below meth c ls C0 hin hK hst hl
  obtain ⟨hx, hb, hml, hown, hts, hr, hlk⟩ := id C0
  have hown : s.vm.findClass RX11 = some m.cls := hown
  have C0 : jm_Cx p s m args meth c cX11_clear 7 (some .boolean) RX11 := C0
  rw [lv_args_r, lv_args_i, lv_args_n] at hl
  have hl : lv_has ls 7 [(0, va_rf (some a0)), (1, .int v1)] := hl
  have K106_204 : ∀ (v2 : Int32) (Mm1 : Mem), (jf_X11_clear_k106_204 N v2).1 Mm1 = some (r, M') → ∀ (H : Heap) (locs : List Loc) (cells slots : Nat) (ls : Array Slot), jm_St g b M M' Mm1 s (jm_rm 0 0 M M') H locs cells slots → lv_has ls 7 [(2, .int v2)] → W p l e (jm_rm 0 0 M M') s m args below meth c H locs cells slots (jm_MQ below g b (some (.int r)) M M' args s) (F0 m 204 ls []) := by
    intro v2 Mm1 hf H locs cells slots ls hst hl
    unfold jf_X11_clear_k106_204 at hf
    refine lv_iload_n hx hb dX11_clear_204 rfl (lv_at hl 0 rfl) ?_
    obtain ⟨_, h2, hf⟩ := jm_rd_some hf
    obtain ⟨rfl, rfl⟩ := jm_ret_some hf
    exact jw_zret C0 (jm_ck_some h2) hst dX11_clear_205
  have B106 : ∀ (a0 : Nat) (v1 : Int32) (v2 : Int32) (v3 : Int32) (Mm12 : Mem) (xe106 : ((Int32 × Int32) ⊕ Int32)) (Me106 : Mem), (jf_X11_clear_L106 N a0 v1 v2 v3).1 Mm12 = some (xe106, Me106) → jm_le Me106 M' → (jm_or (fun (z : Int32 × Int32) => ∀ (H : Heap) (locs : List Loc) (cells slots : Nat) (ls : Array Slot), jm_St g b M M' Me106 s (jm_rm 0 0 M M') H locs cells slots → lv_has ls 7 [(0, va_rf (some a0)), (1, .int v1), (2, .int z.1), (3, .int z.2)] → W p l e (jm_rm 0 0 M M') s m args below meth c H locs cells slots (jm_MQ below g b (some (.int r)) M M' args s) (F0 m 106 ls [])) (fun (y : Int32) => ∀ (H : Heap) (locs : List Loc) (cells slots : Nat) (ls : Array Slot), jm_St g b M M' Me106 s (jm_rm 0 0 M M') H locs cells slots → lv_has ls 7 [(2, .int y)] → W p l e (jm_rm 0 0 M M') s m args below meth c H locs cells slots (jm_MQ below g b (some (.int r)) M M' args s) (F0 m 204 ls [])) xe106) → ∀ (H : Heap) (locs : List Loc) (cells slots : Nat) (ls : Array Slot), jm_St g b M M' Mm12 s (jm_rm 0 0 M M') H locs cells slots → lv_has ls 7 [(0, va_rf (some a0)), (1, .int v1), (2, .int v2), (3, .int v3)] → W p l e (jm_rm 0 0 M M') s m args below meth c H locs cells slots (jm_MQ below g b (some (.int r)) M M' args s) (F0 m 106 ls []) := by
    intro a0 v1 v2 v3 Mm12 xe106 Me106 hf hle106 hk106
    have J196 : ∀ (v3 : Int32) (t0 : Int32) (t1 : Int32) (Mm4 : Mem), (jf_X11_clear_j196 N a0 v1 v3 t0 t1).1 Mm4 = some (xe106, Me106) → ∀ (H : Heap) (locs : List Loc) (cells slots : Nat) (ls : Array Slot), jm_St g b M M' Mm4 s (jm_rm 0 0 M M') H locs cells slots → lv_has ls 7 [(0, va_rf (some a0)), (1, .int v1), (3, .int v3)] → W p l e (jm_rm 0 0 M M') s m args below meth c H locs cells slots (jm_MQ below g b (some (.int r)) M M' args s) (F0 m 196 ls [.int t1, .int t0]) := by
      intro v3 t0 t1 Mm4 hf H locs cells slots ls hst hl
      unfold jf_X11_clear_j196 at hf
      refine lv_iand hx hb dX11_clear_196 ?_
      refine lv_istore_n (i := 2) (lv' := [(2, .int (t0 &&& t1)), (0, va_rf (some a0)), (1, .int v1), (3, .int v3)]) hx hb dX11_clear_197 rfl hl (by decide) rfl (fun ls hl => ?_)
      refine lv_iinc (i := 3) (v := (v3 + 1)) (lv' := [(3, .int (v3 + 1)), (2, .int (t0 &&& t1)), (0, va_rf (some a0)), (1, .int v1)]) hx hb dX11_clear_198 hl (k := 3) rfl (by rfl) (by decide) rfl (fun ls hl => ?_)
      refine lv_goto (tgt := 106) hx hb dX11_clear_201 (by decide) ?_
      obtain ⟨rfl, rfl⟩ := jm_ret_some hf
      exact jm_or_l hk106 _ _ _ _ _ hst (lv_sub hl [2, 3, 1, 0] rfl)
    have K138_177 : ∀ (v2 : Int32) (v3 : Int32) (Mm5 : Mem), (jf_X11_clear_k138_177 N a0 v1 v2 v3).1 Mm5 = some (xe106, Me106) → ∀ (H : Heap) (locs : List Loc) (cells slots : Nat) (ls : Array Slot), jm_St g b M M' Mm5 s (jm_rm 0 0 M M') H locs cells slots → lv_has ls 7 [(0, va_rf (some a0)), (1, .int v1), (2, .int v2), (3, .int v3)] → W p l e (jm_rm 0 0 M M') s m args below meth c H locs cells slots (jm_MQ below g b (some (.int r)) M M' args s) (F0 m 177 ls []) := by
      intro v2 v3 Mm5 hf H locs cells slots ls hst hl
      unfold jf_X11_clear_k138_177 at hf
      refine lv_iload_n hx hb dX11_clear_177 rfl (lv_at hl 2 rfl) ?_
      refine jw_aload_n (r := (some a0)) hx hb dX11_clear_178 rfl (lv_at hl 0 rfl) ?_
      obtain ⟨x6, h7, hf⟩ := jm_rd_some hf
      refine jw_getR hx hb hts hown hK hst (fl_X11_20 hts hK) h7 dX11_clear_179 ?_
      refine lv_iload_n hx hb dX11_clear_182 rfl (lv_at hl 1 rfl) ?_
      obtain ⟨x8, h9, hf⟩ := jm_rd_some hf
      refine jw_aald hx hb hK hst (show jm_ty[13]? = some (.array .long) from rfl) rfl h9 dX11_clear_183 ?_
      refine lv_iload_n hx hb dX11_clear_184 rfl (lv_at hl 3 rfl) ?_
      obtain ⟨x10, h11, hf⟩ := jm_rd_some hf
      refine jw_lald hx hb hK hst h11 dX11_clear_185 ?_
      refine lv_lconst (v := 0) hx hb dX11_clear_186 (by decide) ?_
      refine W.lcmp hx hb dX11_clear_187 ?_
      refine lv_if_ne (tgt := 195) hx hb dX11_clear_188 (by decide) (fun hc => ?_) (fun hc => ?_)
      · replace hc := fun q => hc ((lg_cmp_eq _ _).mpr q)
        rw [if_neg hc] at hf
        refine lv_iconst (v := 0) hx hb dX11_clear_195 (by decide) ?_
        exact J196 v3 v2 (0 : Int32) _ hf _ _ _ _ _ hst (lv_sub hl [0, 1, 3] rfl)
      · replace hc := (lg_cmp_eq _ _).mp hc
        rw [if_pos hc] at hf
        refine lv_iconst (v := 1) hx hb dX11_clear_191 (by decide) ?_
        refine lv_goto (tgt := 196) hx hb dX11_clear_192 (by decide) ?_
        exact J196 v3 v2 (1 : Int32) _ hf _ _ _ _ _ hst (lv_sub hl [0, 1, 3] rfl)
    have B138 : ∀ (a0 : Nat) (v1 : Int32) (v2 : Int32) (v3 : Int32) (v4 : Int64) (v6 : Int32) (Mm28 : Mem) (xe138 : (Int32 ⊕ Unit)) (Me138 : Mem), (jf_X11_clear_L138 N a0 v1 v2 v3 v4 v6).1 Mm28 = some (xe138, Me138) → jm_le Me138 M' → (jm_or (fun (z : Int32) => ∀ (H : Heap) (locs : List Loc) (cells slots : Nat) (ls : Array Slot), jm_St g b M M' Me138 s (jm_rm 0 0 M M') H locs cells slots → lv_has ls 7 [(0, va_rf (some a0)), (1, .int v1), (2, .int v2), (3, .int v3), (4, .long v4), (6, .int z)] → W p l e (jm_rm 0 0 M M') s m args below meth c H locs cells slots (jm_MQ below g b (some (.int r)) M M' args s) (F0 m 138 ls [])) (fun (y : Unit) => ∀ (H : Heap) (locs : List Loc) (cells slots : Nat) (ls : Array Slot), jm_St g b M M' Me138 s (jm_rm 0 0 M M') H locs cells slots → lv_has ls 7 [(0, va_rf (some a0)), (1, .int v1), (2, .int v2), (3, .int v3)] → W p l e (jm_rm 0 0 M M') s m args below meth c H locs cells slots (jm_MQ below g b (some (.int r)) M M' args s) (F0 m 177 ls [])) xe138) → ∀ (H : Heap) (locs : List Loc) (cells slots : Nat) (ls : Array Slot), jm_St g b M M' Mm28 s (jm_rm 0 0 M M') H locs cells slots → lv_has ls 7 [(0, va_rf (some a0)), (1, .int v1), (2, .int v2), (3, .int v3), (4, .long v4), (6, .int v6)] → W p l e (jm_rm 0 0 M M') s m args below meth c H locs cells slots (jm_MQ below g b (some (.int r)) M M' args s) (F0 m 138 ls []) := by
      intro a0 v1 v2 v3 v4 v6 Mm28 xe138 Me138 hf hle138 hk138
      intro H locs cells slots ls hst hl
      unfold jf_X11_clear_L138 at hf
      refine lv_iload hx hb dX11_clear_138 (lv_at hl 5 rfl) ?_
      refine jw_aload_n (r := (some a0)) hx hb dX11_clear_140 rfl (lv_at hl 0 rfl) ?_
      obtain ⟨x29, h30, hf⟩ := jm_rd_some hf
      refine jw_getI hx hb hts hown hK hst (fl_X11_9 hts hK) h30 dX11_clear_141 ?_
      refine lv_icmp_ge (tgt := 177) hx hb dX11_clear_144 (by decide) (fun hc => ?_) (fun hc => ?_)
      · rw [if_pos hc] at hf
        obtain ⟨rfl, rfl⟩ := jm_ret_some hf
        exact jm_or_r hk138 _ _ _ _ _ hst (lv_sub hl [0, 1, 2, 3] rfl)
      · rw [if_neg hc] at hf
        refine jw_aload_n (r := (some a0)) hx hb dX11_clear_147 rfl (lv_at hl 0 rfl) ?_
        obtain ⟨x31, h32, hf⟩ := jm_rd_some hf
        refine jw_getR hx hb hts hown hK hst (fl_X11_20 hts hK) h32 dX11_clear_148 ?_
        refine lv_iload hx hb dX11_clear_151 (lv_at hl 5 rfl) ?_
        obtain ⟨x33, h34, hf⟩ := jm_rd_some hf
        refine jw_aald hx hb hK hst (show jm_ty[13]? = some (.array .long) from rfl) rfl h34 dX11_clear_153 ?_
        refine lv_iload_n hx hb dX11_clear_154 rfl (lv_at hl 3 rfl) ?_
        refine lv_dup2_11 hx hb dX11_clear_155 rfl (va_rf_cat _) ?_
        obtain ⟨x35, h36, hf⟩ := jm_rd_some hf
        refine jw_lald hx hb hK hst h36 dX11_clear_156 ?_
        refine lv_lload hx hb dX11_clear_157 (lv_at hl 4 rfl) ?_
        refine jw_aload_n (r := (some a0)) hx hb dX11_clear_159 rfl (lv_at hl 0 rfl) ?_
        obtain ⟨x37, h38, hf⟩ := jm_rd_some hf
        refine jw_getR hx hb hts hown hK hst (fl_X11_20 hts hK) h38 dX11_clear_160 ?_
        refine lv_iload hx hb dX11_clear_163 (lv_at hl 5 rfl) ?_
        obtain ⟨x39, h40, hf⟩ := jm_rd_some hf
        refine jw_aald hx hb hK hst (show jm_ty[13]? = some (.array .long) from rfl) rfl h40 dX11_clear_165 ?_
        refine lv_iload_n hx hb dX11_clear_166 rfl (lv_at hl 1 rfl) ?_
        obtain ⟨x41, h42, hf⟩ := jm_rd_some hf
        refine jw_lald hx hb hK hst h42 dX11_clear_167 ?_
        refine lv_lmul hx hb dX11_clear_168 ?_
        refine lv_lsub hx hb dX11_clear_169 ?_
        obtain ⟨F43, h44, hf⟩ := jm_wr_some hf
        refine jw_last (r := x33) hx hb hK hst h44 dX11_clear_170 (fun H locs hst => ?_)
        generalize ((Mm28.1, Mm28.2.1, F43) : Mem) = Mm45 at hf hst
        refine lv_iinc (i := 6) (v := (v6 + 1)) (lv' := [(6, .int (v6 + 1)), (0, va_rf (some a0)), (1, .int v1), (2, .int v2), (3, .int v3), (4, .long v4)]) hx hb dX11_clear_171 hl (k := 5) rfl (by rfl) (by decide) rfl (fun ls hl => ?_)
        refine lv_goto (tgt := 138) hx hb dX11_clear_174 (by decide) ?_
        obtain ⟨rfl, rfl⟩ := jm_ret_some hf
        exact jm_or_l hk138 _ _ _ _ _ hst (lv_sub hl [1, 2, 3, 4, 5, 0] rfl)
    intro H locs cells slots ls hst hl
    unfold jf_X11_clear_L106 at hf
    refine lv_iload_n hx hb dX11_clear_106 rfl (lv_at hl 3 rfl) ?_
    refine jw_aload_n (r := (some a0)) hx hb dX11_clear_107 rfl (lv_at hl 0 rfl) ?_
    obtain ⟨x13, h14, hf⟩ := jm_rd_some hf
    refine jw_getI hx hb hts hown hK hst (fl_X11_15 hts hK) h14 dX11_clear_108 ?_
    refine lv_iconst (v := 1) hx hb dX11_clear_111 (by decide) ?_
    refine lv_isub hx hb dX11_clear_112 ?_
    refine lv_icmp_ge (tgt := 204) hx hb dX11_clear_113 (by decide) (fun hc => ?_) (fun hc => ?_)
    · rw [if_pos hc] at hf
      obtain ⟨rfl, rfl⟩ := jm_ret_some hf
      exact jm_or_r hk106 _ _ _ _ _ hst (lv_sub hl [2] rfl)
    · rw [if_neg hc] at hf
      refine jw_aload_n (r := (some a0)) hx hb dX11_clear_116 rfl (lv_at hl 0 rfl) ?_
      obtain ⟨x15, h16, hf⟩ := jm_rd_some hf
      refine jw_getR hx hb hts hown hK hst (fl_X11_20 hts hK) h16 dX11_clear_117 ?_
      refine lv_iload_n hx hb dX11_clear_120 rfl (lv_at hl 1 rfl) ?_
      obtain ⟨x17, h18, hf⟩ := jm_rd_some hf
      refine jw_aald hx hb hK hst (show jm_ty[13]? = some (.array .long) from rfl) rfl h18 dX11_clear_121 ?_
      refine lv_iload_n hx hb dX11_clear_122 rfl (lv_at hl 3 rfl) ?_
      obtain ⟨x19, h20, hf⟩ := jm_rd_some hf
      refine jw_lald hx hb hK hst h20 dX11_clear_123 ?_
      refine jw_aload_n (r := (some a0)) hx hb dX11_clear_124 rfl (lv_at hl 0 rfl) ?_
      obtain ⟨x21, h22, hf⟩ := jm_rd_some hf
      refine jw_getR hx hb hts hown hK hst (fl_X11_20 hts hK) h22 dX11_clear_125 ?_
      refine lv_iload_n hx hb dX11_clear_128 rfl (lv_at hl 1 rfl) ?_
      obtain ⟨x23, h24, hf⟩ := jm_rd_some hf
      refine jw_aald hx hb hK hst (show jm_ty[13]? = some (.array .long) from rfl) rfl h24 dX11_clear_129 ?_
      refine lv_iload_n hx hb dX11_clear_130 rfl (lv_at hl 1 rfl) ?_
      obtain ⟨x25, h26, hf⟩ := jm_rd_some hf
      refine jw_lald hx hb hK hst h26 dX11_clear_131 ?_
      obtain ⟨_, h27, hf⟩ := jm_rd_some hf
      refine lv_ldiv hx hb dX11_clear_132 (jm_ck_some h27) ?_
      refine lv_lstore (i := 4) (lv' := [(4, .long (x19 / x25)), (0, va_rf (some a0)), (1, .int v1), (2, .int v2), (3, .int v3)]) hx hb dX11_clear_133 hl (by decide) rfl (fun ls hl => ?_)
      refine lv_iconst (v := 0) hx hb dX11_clear_135 (by decide) ?_
      refine lv_istore (i := 6) (lv' := [(6, .int (0 : Int32)), (4, .long (x19 / x25)), (0, va_rf (some a0)), (1, .int v1), (2, .int v2), (3, .int v3)]) hx hb dX11_clear_136 hl (by decide) rfl (fun ls hl => ?_)
      obtain ⟨xl138, Ml138, hit138, hf⟩ := jm_bd_some hf
      have hlf138 : jm_le Ml138 M' := jm_le_tr (jm_mono hf) hle106
      have hwe138 : (fun (y : Unit) (Mz : Mem) => ∀ (H : Heap) (locs : List Loc) (cells slots : Nat) (ls : Array Slot), jm_St g b M M' Mz s (jm_rm 0 0 M M') H locs cells slots → lv_has ls 7 [(0, va_rf (some a0)), (1, .int v1), (2, .int v2), (3, .int v3)] → W p l e (jm_rm 0 0 M M') s m args below meth c H locs cells slots (jm_MQ below g b (some (.int r)) M M' args s) (F0 m 177 ls [])) xl138 Ml138 := fun H locs cells slots ls hst hl => K138_177 v2 v3 _ hf H locs cells slots ls hst hl
      refine jm_it_walk (Mf := M') (Wh := fun (z : Int32) (Mz : Mem) => ∀ (H : Heap) (locs : List Loc) (cells slots : Nat) (ls : Array Slot), jm_St g b M M' Mz s (jm_rm 0 0 M M') H locs cells slots → lv_has ls 7 [(0, va_rf (some a0)), (1, .int v1), (2, .int v2), (3, .int v3), (4, .long (x19 / x25)), (6, .int z)] → W p l e (jm_rm 0 0 M M') s m args below meth c H locs cells slots (jm_MQ below g b (some (.int r)) M M' args s) (F0 m 138 ls [])) (We := fun (y : Unit) (Mz : Mem) => ∀ (H : Heap) (locs : List Loc) (cells slots : Nat) (ls : Array Slot), jm_St g b M M' Mz s (jm_rm 0 0 M M') H locs cells slots → lv_has ls 7 [(0, va_rf (some a0)), (1, .int v1), (2, .int v2), (3, .int v3)] → W p l e (jm_rm 0 0 M M') s m args below meth c H locs cells slots (jm_MQ below g b (some (.int r)) M M' args s) (F0 m 177 ls [])) ?_ N (0 : Int32) Mm12 xl138 Ml138 hit138 hlf138 hwe138 _ _ _ _ _ hst (lv_sub hl [2, 3, 4, 5, 1, 0] rfl)
      intro v6 Mm46 xe138 Me138 hf hle138 hk138 H locs cells slots ls hst hl
      have hf : (jf_X11_clear_L138 N a0 v1 v2 v3 (x19 / x25) v6).1 Mm46 = some (xe138, Me138) := hf
      have hl : lv_has ls 7 [(0, va_rf (some a0)), (1, .int v1), (2, .int v2), (3, .int v3), (4, .long (x19 / x25)), (6, .int v6)] := hl
      exact B138 a0 v1 v2 v3 (x19 / x25) v6 _ _ _ hf hle138 hk138 _ _ _ _ _ hst (lv_sub hl [0, 1, 2, 3, 4, 5] rfl)
  have K6_102 : ∀ (a0 : Nat) (v1 : Int32) (v2 : Int32) (Mm3 : Mem), (jf_X11_clear_k6_102 N a0 v1 v2).1 Mm3 = some (r, M') → ∀ (H : Heap) (locs : List Loc) (cells slots : Nat) (ls : Array Slot), jm_St g b M M' Mm3 s (jm_rm 0 0 M M') H locs cells slots → lv_has ls 7 [(0, va_rf (some a0)), (1, .int v1), (2, .int v2)] → W p l e (jm_rm 0 0 M M') s m args below meth c H locs cells slots (jm_MQ below g b (some (.int r)) M M' args s) (F0 m 102 ls []) := by
    intro a0 v1 v2 Mm3 hf H locs cells slots ls hst hl
    unfold jf_X11_clear_k6_102 at hf
    refine lv_iload_n hx hb dX11_clear_102 rfl (lv_at hl 1 rfl) ?_
    refine lv_iconst (v := 1) hx hb dX11_clear_103 (by decide) ?_
    refine lv_iadd hx hb dX11_clear_104 ?_
    refine lv_istore_n (i := 3) (lv' := [(3, .int (v1 + (1 : Int32))), (0, va_rf (some a0)), (1, .int v1), (2, .int v2)]) hx hb dX11_clear_105 rfl hl (by decide) rfl (fun ls hl => ?_)
    obtain ⟨xl106, Ml106, hit106, hf⟩ := jm_bd_some hf
    have hlf106 : jm_le Ml106 M' := jm_le_tr (jm_mono hf) jm_le_rf
    have hwe106 : (fun (y : Int32) (Mz : Mem) => ∀ (H : Heap) (locs : List Loc) (cells slots : Nat) (ls : Array Slot), jm_St g b M M' Mz s (jm_rm 0 0 M M') H locs cells slots → lv_has ls 7 [(2, .int y)] → W p l e (jm_rm 0 0 M M') s m args below meth c H locs cells slots (jm_MQ below g b (some (.int r)) M M' args s) (F0 m 204 ls [])) xl106 Ml106 := fun H locs cells slots ls hst hl => K106_204 xl106 _ hf H locs cells slots ls hst hl
    refine jm_it_walk (Mf := M') (Wh := fun (z : Int32 × Int32) (Mz : Mem) => ∀ (H : Heap) (locs : List Loc) (cells slots : Nat) (ls : Array Slot), jm_St g b M M' Mz s (jm_rm 0 0 M M') H locs cells slots → lv_has ls 7 [(0, va_rf (some a0)), (1, .int v1), (2, .int z.1), (3, .int z.2)] → W p l e (jm_rm 0 0 M M') s m args below meth c H locs cells slots (jm_MQ below g b (some (.int r)) M M' args s) (F0 m 106 ls [])) (We := fun (y : Int32) (Mz : Mem) => ∀ (H : Heap) (locs : List Loc) (cells slots : Nat) (ls : Array Slot), jm_St g b M M' Mz s (jm_rm 0 0 M M') H locs cells slots → lv_has ls 7 [(2, .int y)] → W p l e (jm_rm 0 0 M M') s m args below meth c H locs cells slots (jm_MQ below g b (some (.int r)) M M' args s) (F0 m 204 ls [])) ?_ N (v2, (v1 + (1 : Int32))) Mm3 xl106 Ml106 hit106 hlf106 hwe106 _ _ _ _ _ hst (lv_sub hl [1, 2, 3, 0] rfl)
    intro z Mm47 xe106 Me106 hf hle106 hk106 H locs cells slots ls hst hl
    obtain ⟨v2, v3⟩ := z
    have hf : (jf_X11_clear_L106 N a0 v1 v2 v3).1 Mm47 = some (xe106, Me106) := hf
    have hl : lv_has ls 7 [(0, va_rf (some a0)), (1, .int v1), (2, .int v2), (3, .int v3)] := hl
    exact B106 a0 v1 v2 v3 _ _ _ hf hle106 hk106 _ _ _ _ _ hst (lv_sub hl [0, 1, 2, 3] rfl)
  have B6 : ∀ (a0 : Nat) (v1 : Int32) (v2 : Int32) (v3 : Int32) (Mm56 : Mem) (xe6 : ((Int32 × Int32) ⊕ Int32)) (Me6 : Mem), (jf_X11_clear_L6 N a0 v1 v2 v3).1 Mm56 = some (xe6, Me6) → jm_le Me6 M' → (jm_or (fun (z : Int32 × Int32) => ∀ (H : Heap) (locs : List Loc) (cells slots : Nat) (ls : Array Slot), jm_St g b M M' Me6 s (jm_rm 0 0 M M') H locs cells slots → lv_has ls 7 [(0, va_rf (some a0)), (1, .int v1), (2, .int z.1), (3, .int z.2)] → W p l e (jm_rm 0 0 M M') s m args below meth c H locs cells slots (jm_MQ below g b (some (.int r)) M M' args s) (F0 m 6 ls [])) (fun (y : Int32) => ∀ (H : Heap) (locs : List Loc) (cells slots : Nat) (ls : Array Slot), jm_St g b M M' Me6 s (jm_rm 0 0 M M') H locs cells slots → lv_has ls 7 [(0, va_rf (some a0)), (1, .int v1), (2, .int y)] → W p l e (jm_rm 0 0 M M') s m args below meth c H locs cells slots (jm_MQ below g b (some (.int r)) M M' args s) (F0 m 102 ls [])) xe6) → ∀ (H : Heap) (locs : List Loc) (cells slots : Nat) (ls : Array Slot), jm_St g b M M' Mm56 s (jm_rm 0 0 M M') H locs cells slots → lv_has ls 7 [(0, va_rf (some a0)), (1, .int v1), (2, .int v2), (3, .int v3)] → W p l e (jm_rm 0 0 M M') s m args below meth c H locs cells slots (jm_MQ below g b (some (.int r)) M M' args s) (F0 m 6 ls []) := by
    intro a0 v1 v2 v3 Mm56 xe6 Me6 hf hle6 hk6
    have J94 : ∀ (v3 : Int32) (t0 : Int32) (t1 : Int32) (Mm48 : Mem), (jf_X11_clear_j94 N a0 v1 v3 t0 t1).1 Mm48 = some (xe6, Me6) → ∀ (H : Heap) (locs : List Loc) (cells slots : Nat) (ls : Array Slot), jm_St g b M M' Mm48 s (jm_rm 0 0 M M') H locs cells slots → lv_has ls 7 [(0, va_rf (some a0)), (1, .int v1), (3, .int v3)] → W p l e (jm_rm 0 0 M M') s m args below meth c H locs cells slots (jm_MQ below g b (some (.int r)) M M' args s) (F0 m 94 ls [.int t1, .int t0]) := by
      intro v3 t0 t1 Mm48 hf H locs cells slots ls hst hl
      unfold jf_X11_clear_j94 at hf
      refine lv_iand hx hb dX11_clear_94 ?_
      refine lv_istore_n (i := 2) (lv' := [(2, .int (t0 &&& t1)), (0, va_rf (some a0)), (1, .int v1), (3, .int v3)]) hx hb dX11_clear_95 rfl hl (by decide) rfl (fun ls hl => ?_)
      refine lv_iinc (i := 3) (v := (v3 + 1)) (lv' := [(3, .int (v3 + 1)), (2, .int (t0 &&& t1)), (0, va_rf (some a0)), (1, .int v1)]) hx hb dX11_clear_96 hl (k := 3) rfl (by rfl) (by decide) rfl (fun ls hl => ?_)
      refine lv_goto (tgt := 6) hx hb dX11_clear_99 (by decide) ?_
      obtain ⟨rfl, rfl⟩ := jm_ret_some hf
      exact jm_or_l hk6 _ _ _ _ _ hst (lv_sub hl [2, 3, 1, 0] rfl)
    have K36_75 : ∀ (v2 : Int32) (v3 : Int32) (Mm49 : Mem), (jf_X11_clear_k36_75 N a0 v1 v2 v3).1 Mm49 = some (xe6, Me6) → ∀ (H : Heap) (locs : List Loc) (cells slots : Nat) (ls : Array Slot), jm_St g b M M' Mm49 s (jm_rm 0 0 M M') H locs cells slots → lv_has ls 7 [(0, va_rf (some a0)), (1, .int v1), (2, .int v2), (3, .int v3)] → W p l e (jm_rm 0 0 M M') s m args below meth c H locs cells slots (jm_MQ below g b (some (.int r)) M M' args s) (F0 m 75 ls []) := by
      intro v2 v3 Mm49 hf H locs cells slots ls hst hl
      unfold jf_X11_clear_k36_75 at hf
      refine lv_iload_n hx hb dX11_clear_75 rfl (lv_at hl 2 rfl) ?_
      refine jw_aload_n (r := (some a0)) hx hb dX11_clear_76 rfl (lv_at hl 0 rfl) ?_
      obtain ⟨x50, h51, hf⟩ := jm_rd_some hf
      refine jw_getR hx hb hts hown hK hst (fl_X11_20 hts hK) h51 dX11_clear_77 ?_
      refine lv_iload_n hx hb dX11_clear_80 rfl (lv_at hl 3 rfl) ?_
      obtain ⟨x52, h53, hf⟩ := jm_rd_some hf
      refine jw_aald hx hb hK hst (show jm_ty[13]? = some (.array .long) from rfl) rfl h53 dX11_clear_81 ?_
      refine lv_iload_n hx hb dX11_clear_82 rfl (lv_at hl 1 rfl) ?_
      obtain ⟨x54, h55, hf⟩ := jm_rd_some hf
      refine jw_lald hx hb hK hst h55 dX11_clear_83 ?_
      refine lv_lconst (v := 0) hx hb dX11_clear_84 (by decide) ?_
      refine W.lcmp hx hb dX11_clear_85 ?_
      refine lv_if_ne (tgt := 93) hx hb dX11_clear_86 (by decide) (fun hc => ?_) (fun hc => ?_)
      · replace hc := fun q => hc ((lg_cmp_eq _ _).mpr q)
        rw [if_neg hc] at hf
        refine lv_iconst (v := 0) hx hb dX11_clear_93 (by decide) ?_
        exact J94 v3 v2 (0 : Int32) _ hf _ _ _ _ _ hst (lv_sub hl [0, 1, 3] rfl)
      · replace hc := (lg_cmp_eq _ _).mp hc
        rw [if_pos hc] at hf
        refine lv_iconst (v := 1) hx hb dX11_clear_89 (by decide) ?_
        refine lv_goto (tgt := 94) hx hb dX11_clear_90 (by decide) ?_
        exact J94 v3 v2 (1 : Int32) _ hf _ _ _ _ _ hst (lv_sub hl [0, 1, 3] rfl)
    have B36 : ∀ (a0 : Nat) (v1 : Int32) (v2 : Int32) (v3 : Int32) (v4 : Int64) (v6 : Int32) (Mm72 : Mem) (xe36 : (Int32 ⊕ Unit)) (Me36 : Mem), (jf_X11_clear_L36 N a0 v1 v2 v3 v4 v6).1 Mm72 = some (xe36, Me36) → jm_le Me36 M' → (jm_or (fun (z : Int32) => ∀ (H : Heap) (locs : List Loc) (cells slots : Nat) (ls : Array Slot), jm_St g b M M' Me36 s (jm_rm 0 0 M M') H locs cells slots → lv_has ls 7 [(0, va_rf (some a0)), (1, .int v1), (2, .int v2), (3, .int v3), (4, .long v4), (6, .int z)] → W p l e (jm_rm 0 0 M M') s m args below meth c H locs cells slots (jm_MQ below g b (some (.int r)) M M' args s) (F0 m 36 ls [])) (fun (y : Unit) => ∀ (H : Heap) (locs : List Loc) (cells slots : Nat) (ls : Array Slot), jm_St g b M M' Me36 s (jm_rm 0 0 M M') H locs cells slots → lv_has ls 7 [(0, va_rf (some a0)), (1, .int v1), (2, .int v2), (3, .int v3)] → W p l e (jm_rm 0 0 M M') s m args below meth c H locs cells slots (jm_MQ below g b (some (.int r)) M M' args s) (F0 m 75 ls [])) xe36) → ∀ (H : Heap) (locs : List Loc) (cells slots : Nat) (ls : Array Slot), jm_St g b M M' Mm72 s (jm_rm 0 0 M M') H locs cells slots → lv_has ls 7 [(0, va_rf (some a0)), (1, .int v1), (2, .int v2), (3, .int v3), (4, .long v4), (6, .int v6)] → W p l e (jm_rm 0 0 M M') s m args below meth c H locs cells slots (jm_MQ below g b (some (.int r)) M M' args s) (F0 m 36 ls []) := by
      intro a0 v1 v2 v3 v4 v6 Mm72 xe36 Me36 hf hle36 hk36
      intro H locs cells slots ls hst hl
      unfold jf_X11_clear_L36 at hf
      refine lv_iload hx hb dX11_clear_36 (lv_at hl 5 rfl) ?_
      refine jw_aload_n (r := (some a0)) hx hb dX11_clear_38 rfl (lv_at hl 0 rfl) ?_
      obtain ⟨x73, h74, hf⟩ := jm_rd_some hf
      refine jw_getI hx hb hts hown hK hst (fl_X11_15 hts hK) h74 dX11_clear_39 ?_
      refine lv_icmp_ge (tgt := 75) hx hb dX11_clear_42 (by decide) (fun hc => ?_) (fun hc => ?_)
      · rw [if_pos hc] at hf
        obtain ⟨rfl, rfl⟩ := jm_ret_some hf
        exact jm_or_r hk36 _ _ _ _ _ hst (lv_sub hl [0, 1, 2, 3] rfl)
      · rw [if_neg hc] at hf
        refine jw_aload_n (r := (some a0)) hx hb dX11_clear_45 rfl (lv_at hl 0 rfl) ?_
        obtain ⟨x75, h76, hf⟩ := jm_rd_some hf
        refine jw_getR hx hb hts hown hK hst (fl_X11_20 hts hK) h76 dX11_clear_46 ?_
        refine lv_iload_n hx hb dX11_clear_49 rfl (lv_at hl 3 rfl) ?_
        obtain ⟨x77, h78, hf⟩ := jm_rd_some hf
        refine jw_aald hx hb hK hst (show jm_ty[13]? = some (.array .long) from rfl) rfl h78 dX11_clear_50 ?_
        refine lv_iload hx hb dX11_clear_51 (lv_at hl 5 rfl) ?_
        refine lv_dup2_11 hx hb dX11_clear_53 rfl (va_rf_cat _) ?_
        obtain ⟨x79, h80, hf⟩ := jm_rd_some hf
        refine jw_lald hx hb hK hst h80 dX11_clear_54 ?_
        refine lv_lload hx hb dX11_clear_55 (lv_at hl 4 rfl) ?_
        refine jw_aload_n (r := (some a0)) hx hb dX11_clear_57 rfl (lv_at hl 0 rfl) ?_
        obtain ⟨x81, h82, hf⟩ := jm_rd_some hf
        refine jw_getR hx hb hts hown hK hst (fl_X11_20 hts hK) h82 dX11_clear_58 ?_
        refine lv_iload_n hx hb dX11_clear_61 rfl (lv_at hl 1 rfl) ?_
        obtain ⟨x83, h84, hf⟩ := jm_rd_some hf
        refine jw_aald hx hb hK hst (show jm_ty[13]? = some (.array .long) from rfl) rfl h84 dX11_clear_62 ?_
        refine lv_iload hx hb dX11_clear_63 (lv_at hl 5 rfl) ?_
        obtain ⟨x85, h86, hf⟩ := jm_rd_some hf
        refine jw_lald hx hb hK hst h86 dX11_clear_65 ?_
        refine lv_lmul hx hb dX11_clear_66 ?_
        refine lv_lsub hx hb dX11_clear_67 ?_
        obtain ⟨F87, h88, hf⟩ := jm_wr_some hf
        refine jw_last (r := x77) hx hb hK hst h88 dX11_clear_68 (fun H locs hst => ?_)
        generalize ((Mm72.1, Mm72.2.1, F87) : Mem) = Mm89 at hf hst
        refine lv_iinc (i := 6) (v := (v6 + 1)) (lv' := [(6, .int (v6 + 1)), (0, va_rf (some a0)), (1, .int v1), (2, .int v2), (3, .int v3), (4, .long v4)]) hx hb dX11_clear_69 hl (k := 5) rfl (by rfl) (by decide) rfl (fun ls hl => ?_)
        refine lv_goto (tgt := 36) hx hb dX11_clear_72 (by decide) ?_
        obtain ⟨rfl, rfl⟩ := jm_ret_some hf
        exact jm_or_l hk36 _ _ _ _ _ hst (lv_sub hl [1, 2, 3, 4, 5, 0] rfl)
    intro H locs cells slots ls hst hl
    unfold jf_X11_clear_L6 at hf
    refine lv_iload_n hx hb dX11_clear_6 rfl (lv_at hl 3 rfl) ?_
    refine jw_aload_n (r := (some a0)) hx hb dX11_clear_7 rfl (lv_at hl 0 rfl) ?_
    obtain ⟨x57, h58, hf⟩ := jm_rd_some hf
    refine jw_getI hx hb hts hown hK hst (fl_X11_9 hts hK) h58 dX11_clear_8 ?_
    refine lv_icmp_ge (tgt := 102) hx hb dX11_clear_11 (by decide) (fun hc => ?_) (fun hc => ?_)
    · rw [if_pos hc] at hf
      obtain ⟨rfl, rfl⟩ := jm_ret_some hf
      exact jm_or_r hk6 _ _ _ _ _ hst (lv_sub hl [0, 1, 2] rfl)
    · rw [if_neg hc] at hf
      refine jw_aload_n (r := (some a0)) hx hb dX11_clear_14 rfl (lv_at hl 0 rfl) ?_
      obtain ⟨x59, h60, hf⟩ := jm_rd_some hf
      refine jw_getR hx hb hts hown hK hst (fl_X11_20 hts hK) h60 dX11_clear_15 ?_
      refine lv_iload_n hx hb dX11_clear_18 rfl (lv_at hl 3 rfl) ?_
      obtain ⟨x61, h62, hf⟩ := jm_rd_some hf
      refine jw_aald hx hb hK hst (show jm_ty[13]? = some (.array .long) from rfl) rfl h62 dX11_clear_19 ?_
      refine lv_iload_n hx hb dX11_clear_20 rfl (lv_at hl 1 rfl) ?_
      obtain ⟨x63, h64, hf⟩ := jm_rd_some hf
      refine jw_lald hx hb hK hst h64 dX11_clear_21 ?_
      refine jw_aload_n (r := (some a0)) hx hb dX11_clear_22 rfl (lv_at hl 0 rfl) ?_
      obtain ⟨x65, h66, hf⟩ := jm_rd_some hf
      refine jw_getR hx hb hts hown hK hst (fl_X11_20 hts hK) h66 dX11_clear_23 ?_
      refine lv_iload_n hx hb dX11_clear_26 rfl (lv_at hl 1 rfl) ?_
      obtain ⟨x67, h68, hf⟩ := jm_rd_some hf
      refine jw_aald hx hb hK hst (show jm_ty[13]? = some (.array .long) from rfl) rfl h68 dX11_clear_27 ?_
      refine lv_iload_n hx hb dX11_clear_28 rfl (lv_at hl 1 rfl) ?_
      obtain ⟨x69, h70, hf⟩ := jm_rd_some hf
      refine jw_lald hx hb hK hst h70 dX11_clear_29 ?_
      obtain ⟨_, h71, hf⟩ := jm_rd_some hf
      refine lv_ldiv hx hb dX11_clear_30 (jm_ck_some h71) ?_
      refine lv_lstore (i := 4) (lv' := [(4, .long (x63 / x69)), (0, va_rf (some a0)), (1, .int v1), (2, .int v2), (3, .int v3)]) hx hb dX11_clear_31 hl (by decide) rfl (fun ls hl => ?_)
      refine lv_iconst (v := 0) hx hb dX11_clear_33 (by decide) ?_
      refine lv_istore (i := 6) (lv' := [(6, .int (0 : Int32)), (4, .long (x63 / x69)), (0, va_rf (some a0)), (1, .int v1), (2, .int v2), (3, .int v3)]) hx hb dX11_clear_34 hl (by decide) rfl (fun ls hl => ?_)
      obtain ⟨xl36, Ml36, hit36, hf⟩ := jm_bd_some hf
      have hlf36 : jm_le Ml36 M' := jm_le_tr (jm_mono hf) hle6
      have hwe36 : (fun (y : Unit) (Mz : Mem) => ∀ (H : Heap) (locs : List Loc) (cells slots : Nat) (ls : Array Slot), jm_St g b M M' Mz s (jm_rm 0 0 M M') H locs cells slots → lv_has ls 7 [(0, va_rf (some a0)), (1, .int v1), (2, .int v2), (3, .int v3)] → W p l e (jm_rm 0 0 M M') s m args below meth c H locs cells slots (jm_MQ below g b (some (.int r)) M M' args s) (F0 m 75 ls [])) xl36 Ml36 := fun H locs cells slots ls hst hl => K36_75 v2 v3 _ hf H locs cells slots ls hst hl
      refine jm_it_walk (Mf := M') (Wh := fun (z : Int32) (Mz : Mem) => ∀ (H : Heap) (locs : List Loc) (cells slots : Nat) (ls : Array Slot), jm_St g b M M' Mz s (jm_rm 0 0 M M') H locs cells slots → lv_has ls 7 [(0, va_rf (some a0)), (1, .int v1), (2, .int v2), (3, .int v3), (4, .long (x63 / x69)), (6, .int z)] → W p l e (jm_rm 0 0 M M') s m args below meth c H locs cells slots (jm_MQ below g b (some (.int r)) M M' args s) (F0 m 36 ls [])) (We := fun (y : Unit) (Mz : Mem) => ∀ (H : Heap) (locs : List Loc) (cells slots : Nat) (ls : Array Slot), jm_St g b M M' Mz s (jm_rm 0 0 M M') H locs cells slots → lv_has ls 7 [(0, va_rf (some a0)), (1, .int v1), (2, .int v2), (3, .int v3)] → W p l e (jm_rm 0 0 M M') s m args below meth c H locs cells slots (jm_MQ below g b (some (.int r)) M M' args s) (F0 m 75 ls [])) ?_ N (0 : Int32) Mm56 xl36 Ml36 hit36 hlf36 hwe36 _ _ _ _ _ hst (lv_sub hl [2, 3, 4, 5, 1, 0] rfl)
      intro v6 Mm90 xe36 Me36 hf hle36 hk36 H locs cells slots ls hst hl
      have hf : (jf_X11_clear_L36 N a0 v1 v2 v3 (x63 / x69) v6).1 Mm90 = some (xe36, Me36) := hf
      have hl : lv_has ls 7 [(0, va_rf (some a0)), (1, .int v1), (2, .int v2), (3, .int v3), (4, .long (x63 / x69)), (6, .int v6)] := hl
      exact B36 a0 v1 v2 v3 (x63 / x69) v6 _ _ _ hf hle36 hk36 _ _ _ _ _ hst (lv_sub hl [0, 1, 2, 3, 4, 5] rfl)
  unfold jf_X11_clear at hf
  refine lv_iconst (v := 1) hx hb dX11_clear_0 (by decide) ?_
  refine lv_istore_n (i := 2) (lv' := [(2, .int (1 : Int32)), (0, va_rf (some a0)), (1, .int v1)]) hx hb dX11_clear_1 rfl hl (by decide) rfl (fun ls hl => ?_)
  refine lv_iload_n hx hb dX11_clear_2 rfl (lv_at hl 2 rfl) ?_
  refine lv_iconst (v := 1) hx hb dX11_clear_3 (by decide) ?_
  refine lv_iadd hx hb dX11_clear_4 ?_
  refine lv_istore_n (i := 3) (lv' := [(3, .int (v1 + (1 : Int32))), (2, .int (1 : Int32)), (0, va_rf (some a0)), (1, .int v1)]) hx hb dX11_clear_5 rfl hl (by decide) rfl (fun ls hl => ?_)
  obtain ⟨xl6, Ml6, hit6, hf⟩ := jm_bd_some hf
  have hlf6 : jm_le Ml6 M' := jm_le_tr (jm_mono hf) jm_le_rf
  have hwe6 : (fun (y : Int32) (Mz : Mem) => ∀ (H : Heap) (locs : List Loc) (cells slots : Nat) (ls : Array Slot), jm_St g b M M' Mz s (jm_rm 0 0 M M') H locs cells slots → lv_has ls 7 [(0, va_rf (some a0)), (1, .int v1), (2, .int y)] → W p l e (jm_rm 0 0 M M') s m args below meth c H locs cells slots (jm_MQ below g b (some (.int r)) M M' args s) (F0 m 102 ls [])) xl6 Ml6 := fun H locs cells slots ls hst hl => K6_102 a0 v1 xl6 _ hf H locs cells slots ls hst hl
  refine jm_it_walk (Mf := M') (Wh := fun (z : Int32 × Int32) (Mz : Mem) => ∀ (H : Heap) (locs : List Loc) (cells slots : Nat) (ls : Array Slot), jm_St g b M M' Mz s (jm_rm 0 0 M M') H locs cells slots → lv_has ls 7 [(0, va_rf (some a0)), (1, .int v1), (2, .int z.1), (3, .int z.2)] → W p l e (jm_rm 0 0 M M') s m args below meth c H locs cells slots (jm_MQ below g b (some (.int r)) M M' args s) (F0 m 6 ls [])) (We := fun (y : Int32) (Mz : Mem) => ∀ (H : Heap) (locs : List Loc) (cells slots : Nat) (ls : Array Slot), jm_St g b M M' Mz s (jm_rm 0 0 M M') H locs cells slots → lv_has ls 7 [(0, va_rf (some a0)), (1, .int v1), (2, .int y)] → W p l e (jm_rm 0 0 M M') s m args below meth c H locs cells slots (jm_MQ below g b (some (.int r)) M M' args s) (F0 m 102 ls [])) ?_ N ((1 : Int32), (v1 + (1 : Int32))) M xl6 Ml6 hit6 hlf6 hwe6 _ _ _ _ _ hst (lv_sub hl [2, 3, 1, 0] rfl)
  intro z Mm91 xe6 Me6 hf hle6 hk6 H locs cells slots ls hst hl
  obtain ⟨v2, v3⟩ := z
  have hf : (jf_X11_clear_L6 N a0 v1 v2 v3).1 Mm91 = some (xe6, Me6) := hf
  have hl : lv_has ls 7 [(0, va_rf (some a0)), (1, .int v1), (2, .int v2), (3, .int v3)] := hl
  exact B6 a0 v1 v2 v3 _ _ _ hf hle6 hk6 _ _ _ _ _ hst (lv_sub hl [0, 1, 2, 3] rfl)
theorem hd_X11_least : yX11_least.cls = RX11 ∧ yX11_least.cls ≠ "java/lang/invoke/MethodHandle" ∧ yX11_least.cls ≠ "java/lang/invoke/VarHandle" ∧ (parseMethodDescriptor yX11_least.desc).map (fun d => d.parameters.length) = some 1 := by decide +kernel
theorem hd_X11_swapRows : yX11_swapRows.cls = RX11 ∧ yX11_swapRows.cls ≠ "java/lang/invoke/MethodHandle" ∧ yX11_swapRows.cls ≠ "java/lang/invoke/VarHandle" ∧ (parseMethodDescriptor yX11_swapRows.desc).map (fun d => d.parameters.length) = some 2 := by decide +kernel
theorem hd_X11_swapColumns : yX11_swapColumns.cls = RX11 ∧ yX11_swapColumns.cls ≠ "java/lang/invoke/MethodHandle" ∧ yX11_swapColumns.cls ≠ "java/lang/invoke/VarHandle" ∧ (parseMethodDescriptor yX11_swapColumns.desc).map (fun d => d.parameters.length) = some 2 := by decide +kernel
theorem hd_X11_clear : yX11_clear.cls = RX11 ∧ yX11_clear.cls ≠ "java/lang/invoke/MethodHandle" ∧ yX11_clear.cls ≠ "java/lang/invoke/VarHandle" ∧ (parseMethodDescriptor yX11_clear.desc).map (fun d => d.parameters.length) = some 1 := by decide +kernel
def jf_X11_diagonal_j45 (N : Nat) (a0 : Nat) (v1 : Int32) : jm_P (Int32 ⊕ Int32) :=
  jm_ret (.inl v1)
def jf_X11_diagonal_k2_14 (N : Nat) (v1 : Int32) : jm_P Int32 :=
  jm_ret v1
def jf_X11_diagonal_L2 (N : Nat) (a0 : Nat) (v1 : Int32) : jm_P (Int32 ⊕ Int32) :=
  jm_rd (jm_cl 11 (some a0)) fun a7 =>
  jm_bd (jf_X11_least N a7 v1) fun x4 =>
  if x4 = (-1000000 : Int32) then (
    jm_ret (.inr v1))
  else
    jm_rd (jm_cl 11 (some a0)) fun a13 =>
    jm_bd (jf_X11_swapRows N a13 v1 (x4 / (100 : Int32))) fun x10 =>
    jm_rd (jm_cl 11 (some a0)) fun a19 =>
    jm_bd (jf_X11_swapColumns N a19 v1 (x4 - x4 / (100 : Int32) * (100 : Int32))) fun x16 =>
    jm_rd (jm_cl 11 (some a0)) fun a25 =>
    jm_bd (jf_X11_clear N a25 v1) fun x22 =>
    if x22 = 0 then (
      jf_X11_diagonal_j45 N a0 v1)
    else
      jf_X11_diagonal_j45 N a0 (v1 + 1)
def jf_X11_diagonal (N : Nat) (a0 : Nat) : jm_P Int32 :=
  jm_bd (jm_it (fun z => jf_X11_diagonal_L2 N a0 z) N (0 : Int32)) fun y =>
  jf_X11_diagonal_k2_14 N y
set_option maxHeartbeats 4000000 in
set_option maxRecDepth 100000 in
theorem jt_X11_diagonal (l : Launch) (g : GD) (b N : Nat) (a0 : Nat) (M M' : Mem) (r : Int32) (hf : (jf_X11_diagonal N a0).1 M = some (r, M')) : jm_Met l g b yX11_diagonal (ws_ yX11_diagonal cX11_diagonal 3 (some .int)) 2 68 [va_rf (some a0)] M M' (some (.int r)) := by
  refine jm_start (by decide) (jm_mono hf) (by rw [lg_sl_r, lg_sl_n]; exact Nat.le_of_ble_eq_true rfl) ?_
  intro p e s m args below meth c ls C0 hin hK hst hl
  obtain ⟨hx, hb, hml, hown, hts, hr, hlk⟩ := id C0
  have hown : s.vm.findClass RX11 = some m.cls := hown
  have C0 : jm_Cx p s m args meth c cX11_diagonal 3 (some .int) RX11 := C0
  rw [lv_args_r, lv_args_n] at hl
  have hl : lv_has ls 3 [(0, va_rf (some a0))] := hl
  have K2_14 : ∀ (v1 : Int32) (Mm1 : Mem), (jf_X11_diagonal_k2_14 N v1).1 Mm1 = some (r, M') → ∀ (H : Heap) (locs : List Loc) (cells slots : Nat) (ls : Array Slot), jm_St g b M M' Mm1 s (jm_rm 2 68 M M') H locs cells slots → lv_has ls 3 [(1, .int v1)] → W p l e (jm_rm 2 68 M M') s m args below meth c H locs cells slots (jm_MQ below g b (some (.int r)) M M' args s) (F0 m 14 ls []) := by
    intro v1 Mm1 hf H locs cells slots ls hst hl
    unfold jf_X11_diagonal_k2_14 at hf
    refine lv_iload_n hx hb dX11_diagonal_14 rfl (lv_at hl 0 rfl) ?_
    obtain ⟨rfl, rfl⟩ := jm_ret_some hf
    exact jw_iret C0 hst dX11_diagonal_15
  have B2 : ∀ (a0 : Nat) (v1 : Int32) (Mm3 : Mem) (xe2 : (Int32 ⊕ Int32)) (Me2 : Mem), (jf_X11_diagonal_L2 N a0 v1).1 Mm3 = some (xe2, Me2) → jm_le Me2 M' → (jm_or (fun (z : Int32) => ∀ (H : Heap) (locs : List Loc) (cells slots : Nat) (ls : Array Slot), jm_St g b M M' Me2 s (jm_rm 2 68 M M') H locs cells slots → lv_has ls 3 [(0, va_rf (some a0)), (1, .int z)] → W p l e (jm_rm 2 68 M M') s m args below meth c H locs cells slots (jm_MQ below g b (some (.int r)) M M' args s) (F0 m 2 ls [])) (fun (y : Int32) => ∀ (H : Heap) (locs : List Loc) (cells slots : Nat) (ls : Array Slot), jm_St g b M M' Me2 s (jm_rm 2 68 M M') H locs cells slots → lv_has ls 3 [(1, .int y)] → W p l e (jm_rm 2 68 M M') s m args below meth c H locs cells slots (jm_MQ below g b (some (.int r)) M M' args s) (F0 m 14 ls [])) xe2) → ∀ (H : Heap) (locs : List Loc) (cells slots : Nat) (ls : Array Slot), jm_St g b M M' Mm3 s (jm_rm 2 68 M M') H locs cells slots → lv_has ls 3 [(0, va_rf (some a0)), (1, .int v1)] → W p l e (jm_rm 2 68 M M') s m args below meth c H locs cells slots (jm_MQ below g b (some (.int r)) M M' args s) (F0 m 2 ls []) := by
    intro a0 v1 Mm3 xe2 Me2 hf hle2 hk2
    have J45 : ∀ (v1 : Int32) (Mm2 : Mem), (jf_X11_diagonal_j45 N a0 v1).1 Mm2 = some (xe2, Me2) → ∀ (H : Heap) (locs : List Loc) (cells slots : Nat) (ls : Array Slot), jm_St g b M M' Mm2 s (jm_rm 2 68 M M') H locs cells slots → lv_has ls 3 [(0, va_rf (some a0)), (1, .int v1)] → W p l e (jm_rm 2 68 M M') s m args below meth c H locs cells slots (jm_MQ below g b (some (.int r)) M M' args s) (F0 m 45 ls []) := by
      intro v1 Mm2 hf H locs cells slots ls hst hl
      unfold jf_X11_diagonal_j45 at hf
      refine lv_goto (tgt := 2) hx hb dX11_diagonal_45 (by decide) ?_
      obtain ⟨rfl, rfl⟩ := jm_ret_some hf
      exact jm_or_l hk2 _ _ _ _ _ hst (lv_sub hl [0, 1] rfl)
    intro H locs cells slots ls hst hl
    unfold jf_X11_diagonal_L2 at hf
    refine jw_aload_n (r := (some a0)) hx hb dX11_diagonal_2 rfl (lv_at hl 0 rfl) ?_
    refine lv_iload_n hx hb dX11_diagonal_3 rfl (lv_at hl 1 rfl) ?_
    obtain ⟨a7, h8, hf⟩ := jm_rd_some hf
    obtain ⟨fsa7, hea7, hr9⟩ := jm_cl_some h8
    obtain ⟨x4, Mm5, h6, hf⟩ := jm_bd_some hf
    refine jw_V (As := [.int v1]) (rest := []) (C := RX11) (T := TX11) (N := 3) (rv := (some a0)) (jt_X11_least l g b N a7 v1 Mm3 Mm5 x4 h6) C0 hK hst (jm_mono h6) (jm_le_tr (jm_mono hf) hle2) q699 q701 qs11 q90 q702 hd_X11_least ⟨Nat.le_of_ble_eq_true rfl, Nat.le_of_ble_eq_true rfl⟩ hea7 hr9 rfl rfl hl.1 rfl (by rw [cs_n]; exact Nat.le_of_ble_eq_true rfl) dX11_diagonal_4 (fun H locs cells slots hst => ?_)
    refine W.eq (g2 := F0 m 7 ls [.int x4]) rfl ?_
    refine lv_istore_n (i := 2) (lv' := [(2, .int x4), (0, va_rf (some a0)), (1, .int v1)]) hx hb dX11_diagonal_7 rfl hl (by decide) rfl (fun ls hl => ?_)
    refine lv_iload_n hx hb dX11_diagonal_8 rfl (lv_at hl 0 rfl) ?_
    refine lv_ldc hx hb hown (hts _ q703) dX11_diagonal_9 ?_
    refine lv_icmp_ne (tgt := 16) hx hb dX11_diagonal_11 (by decide) (fun hc => ?_) (fun hc => ?_)
    · rw [if_neg hc] at hf
      refine jw_aload_n (r := (some a0)) hx hb dX11_diagonal_16 rfl (lv_at hl 1 rfl) ?_
      refine lv_iload_n hx hb dX11_diagonal_17 rfl (lv_at hl 2 rfl) ?_
      refine lv_iload_n hx hb dX11_diagonal_18 rfl (lv_at hl 0 rfl) ?_
      refine lv_bipush (v := 100) hx hb dX11_diagonal_19 (by decide) ?_
      refine lv_idiv hx hb dX11_diagonal_21 (by decide) ?_
      obtain ⟨a13, h14, hf⟩ := jm_rd_some hf
      obtain ⟨fsa13, hea13, hr15⟩ := jm_cl_some h14
      obtain ⟨x10, Mm11, h12, hf⟩ := jm_bd_some hf
      refine jw_V (As := [.int v1, .int (x4 / (100 : Int32))]) (rest := []) (C := RX11) (T := TX11) (N := 3) (rv := (some a0)) (jt_X11_swapRows l g b N a13 v1 (x4 / (100 : Int32)) Mm5 Mm11 x10 h12) C0 hK hst (jm_mono h12) (jm_le_tr (jm_mono hf) hle2) q707 q709 qs12 q90 q710 hd_X11_swapRows ⟨Nat.le_of_ble_eq_true rfl, Nat.le_of_ble_eq_true rfl⟩ hea13 hr15 rfl rfl hl.1 rfl (by rw [cs_n]; exact Nat.le_of_ble_eq_true rfl) dX11_diagonal_22 (fun H locs cells slots hst => ?_)
      refine W.eq (g2 := F0 m 25 ls []) rfl ?_
      refine jw_aload_n (r := (some a0)) hx hb dX11_diagonal_25 rfl (lv_at hl 1 rfl) ?_
      refine lv_iload_n hx hb dX11_diagonal_26 rfl (lv_at hl 2 rfl) ?_
      refine lv_iload_n hx hb dX11_diagonal_27 rfl (lv_at hl 0 rfl) ?_
      refine lv_bipush (v := 100) hx hb dX11_diagonal_28 (by decide) ?_
      refine lv_irem hx hb dX11_diagonal_30 (by decide) ?_
      obtain ⟨a19, h20, hf⟩ := jm_rd_some hf
      obtain ⟨fsa19, hea19, hr21⟩ := jm_cl_some h20
      obtain ⟨x16, Mm17, h18, hf⟩ := jm_bd_some hf
      refine jw_V (As := [.int v1, .int (x4 - x4 / (100 : Int32) * (100 : Int32))]) (rest := []) (C := RX11) (T := TX11) (N := 3) (rv := (some a0)) (jt_X11_swapColumns l g b N a19 v1 (x4 - x4 / (100 : Int32) * (100 : Int32)) Mm11 Mm17 x16 h18) C0 hK hst (jm_mono h18) (jm_le_tr (jm_mono hf) hle2) q711 q713 qs13 q90 q714 hd_X11_swapColumns ⟨Nat.le_of_ble_eq_true rfl, Nat.le_of_ble_eq_true rfl⟩ hea19 hr21 rfl rfl hl.1 rfl (by rw [cs_n]; exact Nat.le_of_ble_eq_true rfl) dX11_diagonal_31 (fun H locs cells slots hst => ?_)
      refine W.eq (g2 := F0 m 34 ls []) rfl ?_
      refine jw_aload_n (r := (some a0)) hx hb dX11_diagonal_34 rfl (lv_at hl 1 rfl) ?_
      refine lv_iload_n hx hb dX11_diagonal_35 rfl (lv_at hl 2 rfl) ?_
      obtain ⟨a25, h26, hf⟩ := jm_rd_some hf
      obtain ⟨fsa25, hea25, hr27⟩ := jm_cl_some h26
      obtain ⟨x22, Mm23, h24, hf⟩ := jm_bd_some hf
      refine jw_V (As := [.int v1]) (rest := []) (C := RX11) (T := TX11) (N := 3) (rv := (some a0)) (jt_X11_clear l g b N a25 v1 Mm17 Mm23 x22 h24) C0 hK hst (jm_mono h24) (jm_le_tr (jm_mono hf) hle2) q715 q717 qs14 q90 q718 hd_X11_clear ⟨Nat.le_of_ble_eq_true rfl, Nat.le_of_ble_eq_true rfl⟩ hea25 hr27 rfl rfl hl.1 rfl (by rw [cs_n]; exact Nat.le_of_ble_eq_true rfl) dX11_diagonal_36 (fun H locs cells slots hst => ?_)
      refine W.eq (g2 := F0 m 39 ls [.int x22]) rfl ?_
      refine lv_if_eq (tgt := 45) hx hb dX11_diagonal_39 (by decide) (fun hc => ?_) (fun hc => ?_)
      · rw [if_pos hc] at hf
        exact J45 v1 _ hf _ _ _ _ _ hst (lv_sub hl [1, 2] rfl)
      · rw [if_neg hc] at hf
        refine lv_iinc (i := 1) (v := (v1 + 1)) (lv' := [(1, .int (v1 + 1)), (2, .int x4), (0, va_rf (some a0))]) hx hb dX11_diagonal_42 hl (k := 2) rfl (by rfl) (by decide) (by simp [va_rf_cat, cat_i, cat_j, cat_f]) (fun ls hl => ?_)
        exact J45 (v1 + 1) _ hf _ _ _ _ _ hst (lv_sub hl [2, 0] rfl)
    · rw [if_pos hc] at hf
      obtain ⟨rfl, rfl⟩ := jm_ret_some hf
      exact jm_or_r hk2 _ _ _ _ _ hst (lv_sub hl [2] rfl)
  unfold jf_X11_diagonal at hf
  refine lv_iconst (v := 0) hx hb dX11_diagonal_0 (by decide) ?_
  refine lv_istore_n (i := 1) (lv' := [(1, .int (0 : Int32)), (0, va_rf (some a0))]) hx hb dX11_diagonal_1 rfl hl (by decide) (by simp [va_rf_cat, cat_i, cat_j, cat_f]) (fun ls hl => ?_)
  obtain ⟨xl2, Ml2, hit2, hf⟩ := jm_bd_some hf
  have hlf2 : jm_le Ml2 M' := jm_le_tr (jm_mono hf) jm_le_rf
  have hwe2 : (fun (y : Int32) (Mz : Mem) => ∀ (H : Heap) (locs : List Loc) (cells slots : Nat) (ls : Array Slot), jm_St g b M M' Mz s (jm_rm 2 68 M M') H locs cells slots → lv_has ls 3 [(1, .int y)] → W p l e (jm_rm 2 68 M M') s m args below meth c H locs cells slots (jm_MQ below g b (some (.int r)) M M' args s) (F0 m 14 ls [])) xl2 Ml2 := fun H locs cells slots ls hst hl => K2_14 xl2 _ hf H locs cells slots ls hst hl
  refine jm_it_walk (Mf := M') (Wh := fun (z : Int32) (Mz : Mem) => ∀ (H : Heap) (locs : List Loc) (cells slots : Nat) (ls : Array Slot), jm_St g b M M' Mz s (jm_rm 2 68 M M') H locs cells slots → lv_has ls 3 [(0, va_rf (some a0)), (1, .int z)] → W p l e (jm_rm 2 68 M M') s m args below meth c H locs cells slots (jm_MQ below g b (some (.int r)) M M' args s) (F0 m 2 ls [])) (We := fun (y : Int32) (Mz : Mem) => ∀ (H : Heap) (locs : List Loc) (cells slots : Nat) (ls : Array Slot), jm_St g b M M' Mz s (jm_rm 2 68 M M') H locs cells slots → lv_has ls 3 [(1, .int y)] → W p l e (jm_rm 2 68 M M') s m args below meth c H locs cells slots (jm_MQ below g b (some (.int r)) M M' args s) (F0 m 14 ls [])) ?_ N (0 : Int32) M xl2 Ml2 hit2 hlf2 hwe2 _ _ _ _ _ hst (lv_sub hl [1, 0] rfl)
  intro v1 Mm28 xe2 Me2 hf hle2 hk2 H locs cells slots ls hst hl
  have hf : (jf_X11_diagonal_L2 N a0 v1).1 Mm28 = some (xe2, Me2) := hf
  have hl : lv_has ls 3 [(0, va_rf (some a0)), (1, .int v1)] := hl
  exact B2 a0 v1 _ _ _ hf hle2 hk2 _ _ _ _ _ hst (lv_sub hl [0, 1] rfl)
theorem hd_X11_and : yX11_and.cls = RX11 ∧ yX11_and.cls ≠ "java/lang/invoke/MethodHandle" ∧ yX11_and.cls ≠ "java/lang/invoke/VarHandle" ∧ (parseMethodDescriptor yX11_and.desc).map (fun d => d.parameters.length) = some 1 := by decide +kernel
theorem hd_X11_diagonal : yX11_diagonal.cls = RX11 ∧ yX11_diagonal.cls ≠ "java/lang/invoke/MethodHandle" ∧ yX11_diagonal.cls ≠ "java/lang/invoke/VarHandle" ∧ (parseMethodDescriptor yX11_diagonal.desc).map (fun d => d.parameters.length) = some 0 := by decide +kernel
def jf_X11_rank (N : Nat) (a0 : Nat) : jm_P Int32 :=
  jm_rd (jm_fI [11] 1 (some a0)) fun x1 =>
  jm_rd (jm_ck (¬ x1 < 0 ∧ x1.toNatClampNeg ≤ 1000)) fun _ =>
  jm_al (.inl (2, x1.toNatClampNeg, .inr (.inl (fun _ => 0)))) fun q4 =>
  jm_rd (jm_cl 11 (some a0)) fun a9 =>
  jm_bd (jf_X11_and N a9 (some q4)) fun x6 =>
  jm_rd (jm_cl 11 x6) fun a15 =>
  jm_bd (jf_X11_diagonal N a15 ) fun x12 =>
  jm_ret x12
set_option maxHeartbeats 4000000 in
set_option maxRecDepth 100000 in
theorem jt_X11_rank (l : Launch) (g : GD) (b N : Nat) (a0 : Nat) (M M' : Mem) (r : Int32) (hf : (jf_X11_rank N a0).1 M = some (r, M')) : jm_Met l g b yX11_rank (ws_ yX11_rank cX11_rank 1 (some .int)) 3 90 [va_rf (some a0)] M M' (some (.int r)) := by
  refine jm_start (by decide) (jm_mono hf) (by rw [lg_sl_r, lg_sl_n]; exact Nat.le_of_ble_eq_true rfl) ?_
  intro p e s m args below meth c ls C0 hin hK hst hl
  obtain ⟨hx, hb, hml, hown, hts, hr, hlk⟩ := id C0
  have hown : s.vm.findClass RX11 = some m.cls := hown
  have C0 : jm_Cx p s m args meth c cX11_rank 1 (some .int) RX11 := C0
  rw [lv_args_r, lv_args_n] at hl
  have hl : lv_has ls 1 [(0, va_rf (some a0))] := hl
  unfold jf_X11_rank at hf
  refine jw_aload_n (r := (some a0)) hx hb dX11_rank_0 rfl (lv_at hl 0 rfl) ?_
  refine jw_aload_n (r := (some a0)) hx hb dX11_rank_1 rfl (lv_at hl 0 rfl) ?_
  obtain ⟨x1, h2, hf⟩ := jm_rd_some hf
  refine jw_getI hx hb hts hown hK hst (fl_X11_9 hts hK) h2 dX11_rank_2 ?_
  obtain ⟨_, h3, hf⟩ := jm_rd_some hf
  have h3 := jm_ck_some h3
  obtain ⟨q4, hq4, hf⟩ := jm_al_some hf
  refine jw_newa (kd := 2) (ty := .long) (atype := .long) (a0 := (x1.toNatClampNeg, .inr (.inl (fun _ => 0)))) hx hb (hts _ q637) rfl hK hst rfl (fun _ => rfl) rfl (fun h => h) h3.1 rfl (Nat.le_trans (Nat.mul_le_mul_right _ h3.2) (by decide)) (jm_le_tr (jm_mono hf) jm_le_rf) hq4 dX11_rank_5 (fun H cells slots hst => ?_)
  generalize jm_new (.inl (2, x1.toNatClampNeg, .inr (.inl (fun _ => 0)))) M = Mm5 at hf hst
  obtain ⟨a9, h10, hf⟩ := jm_rd_some hf
  obtain ⟨fsa9, hea9, hr11⟩ := jm_cl_some h10
  obtain ⟨x6, Mm7, h8, hf⟩ := jm_bd_some hf
  refine jw_V (As := [va_rf (some q4)]) (rest := []) (C := RX11) (T := TX11) (N := 3) (rv := (some a0)) (jt_X11_and l g b N a9 (some q4) Mm5 Mm7 x6 h8) C0 hK hst (jm_mono h8) (jm_le_tr (jm_mono hf) jm_le_rf) q690 q691 q692 q90 q693 hd_X11_and ⟨Nat.le_of_ble_eq_true rfl, Nat.le_of_ble_eq_true rfl⟩ hea9 hr11 rfl rfl hl.1 rfl (by rw [cs_n]; exact Nat.le_of_ble_eq_true rfl) dX11_rank_7 (fun H locs cells slots hst => ?_)
  refine W.eq (g2 := F0 m 10 ls [va_rf x6]) rfl ?_
  obtain ⟨a15, h16, hf⟩ := jm_rd_some hf
  obtain ⟨fsa15, hea15, hr17⟩ := jm_cl_some h16
  obtain ⟨x12, Mm13, h14, hf⟩ := jm_bd_some hf
  refine jw_V (As := []) (rest := []) (C := RX11) (T := TX11) (N := 3) (rv := x6) (jt_X11_diagonal l g b N a15  Mm7 Mm13 x12 h14) C0 hK hst (jm_mono h14) (jm_le_tr (jm_mono hf) jm_le_rf) q695 q696 q697 q90 q698 hd_X11_diagonal ⟨Nat.le_of_ble_eq_true rfl, Nat.le_of_ble_eq_true rfl⟩ hea15 hr17 rfl rfl hl.1 rfl (by rw [cs_n]; exact Nat.le_of_ble_eq_true rfl) dX11_rank_10 (fun H locs cells slots hst => ?_)
  refine W.eq (g2 := F0 m 13 ls [.int x12]) rfl ?_
  obtain ⟨rfl, rfl⟩ := jm_ret_some hf
  exact jw_iret C0 hst dX11_rank_13
def jf_X11_leftBy (N : Nat) (v0 : Int64) (v2 : Int32) : jm_P Int64 :=
  jm_rd (jm_ck (¬ (v2.toInt64) = 0)) fun _ =>
  jm_rd (jm_ck (¬ (v2.toInt64) = 0)) fun _ =>
  jm_lt (((v0 - v0 / (v2.toInt64) * (v2.toInt64)) + (v2.toInt64)) - ((v0 - v0 / (v2.toInt64) * (v2.toInt64)) + (v2.toInt64)) / (v2.toInt64) * (v2.toInt64)) fun x3 =>
  jm_ret x3
set_option maxHeartbeats 4000000 in
set_option maxRecDepth 100000 in
theorem jt_X11_leftBy (l : Launch) (g : GD) (b N : Nat) (v0 : Int64) (v2 : Int32) (M M' : Mem) (r : Int64) (hf : (jf_X11_leftBy N v0 v2).1 M = some (r, M')) : jm_Met l g b yX11_leftBy (ws_ yX11_leftBy cX11_leftBy 3 (some .long)) 0 0 [.long v0, .int v2] M M' (some (.long r)) := by
  refine jm_start (by decide) (jm_mono hf) (by rw [lg_sl_j, lg_sl_i, lg_sl_n]; exact Nat.le_of_ble_eq_true rfl) ?_
  intro p e s m args below meth c ls C0 hin hK hst hl
  obtain ⟨hx, hb, hml, hown, hts, hr, hlk⟩ := id C0
  have hown : s.vm.findClass RX11 = some m.cls := hown
  have C0 : jm_Cx p s m args meth c cX11_leftBy 3 (some .long) RX11 := C0
  rw [lv_args_j, lv_args_i, lv_args_n] at hl
  have hl : lv_has ls 3 [(0, .long v0), (2, .int v2)] := hl
  unfold jf_X11_leftBy at hf
  refine lv_lload_n hx hb dX11_leftBy_0 rfl (lv_at hl 0 rfl) ?_
  refine lv_iload_n hx hb dX11_leftBy_1 rfl (lv_at hl 1 rfl) ?_
  refine lv_i2l hx hb dX11_leftBy_2 rfl ?_
  obtain ⟨_, h1, hf⟩ := jm_rd_some hf
  refine lv_lrem hx hb dX11_leftBy_3 (jm_ck_some h1) ?_
  refine lv_iload_n hx hb dX11_leftBy_4 rfl (lv_at hl 1 rfl) ?_
  refine lv_i2l hx hb dX11_leftBy_5 rfl ?_
  refine lv_ladd hx hb dX11_leftBy_6 ?_
  refine lv_iload_n hx hb dX11_leftBy_7 rfl (lv_at hl 1 rfl) ?_
  refine lv_i2l hx hb dX11_leftBy_8 rfl ?_
  obtain ⟨_, h2, hf⟩ := jm_rd_some hf
  refine lv_lrem hx hb dX11_leftBy_9 (jm_ck_some h2) ?_
  obtain ⟨x3, ex3, hf⟩ := jm_lt_some hf
  rw [← ex3]
  obtain ⟨rfl, rfl⟩ := jm_ret_some hf
  exact jw_lret C0 hst dX11_leftBy_10
def jf_X11_inverse_k2_20 (N : Nat) (v3 : Int64) : jm_P Int64 :=
  jm_ret v3
def jf_X11_inverse_L2 (N : Nat) (v0 : Int64) (v2 : Int32) (v3 : Int64) : jm_P (Int64 ⊕ Int64) :=
  jm_rd (jm_ck (¬ (v2.toInt64) = 0)) fun _ =>
  if ((v3 * v0) - (v3 * v0) / (v2.toInt64) * (v2.toInt64)) = (1 : Int64) then (
    jm_ret (.inr v3))
  else
    jm_ret (.inl (v3 + (1 : Int64)))
def jf_X11_inverse (N : Nat) (v0 : Int64) (v2 : Int32) : jm_P Int64 :=
  jm_bd (jm_it (fun z => jf_X11_inverse_L2 N v0 v2 z) N (1 : Int64)) fun y =>
  jf_X11_inverse_k2_20 N y
set_option maxHeartbeats 4000000 in
set_option maxRecDepth 100000 in
theorem jt_X11_inverse (l : Launch) (g : GD) (b N : Nat) (v0 : Int64) (v2 : Int32) (M M' : Mem) (r : Int64) (hf : (jf_X11_inverse N v0 v2).1 M = some (r, M')) : jm_Met l g b yX11_inverse (ws_ yX11_inverse cX11_inverse 5 (some .long)) 0 0 [.long v0, .int v2] M M' (some (.long r)) := by
  refine jm_start (by decide) (jm_mono hf) (by rw [lg_sl_j, lg_sl_i, lg_sl_n]; exact Nat.le_of_ble_eq_true rfl) ?_
  intro p e s m args below meth c ls C0 hin hK hst hl
  obtain ⟨hx, hb, hml, hown, hts, hr, hlk⟩ := id C0
  have hown : s.vm.findClass RX11 = some m.cls := hown
  have C0 : jm_Cx p s m args meth c cX11_inverse 5 (some .long) RX11 := C0
  rw [lv_args_j, lv_args_i, lv_args_n] at hl
  have hl : lv_has ls 5 [(0, .long v0), (2, .int v2)] := hl
  have K2_20 : ∀ (v3 : Int64) (Mm1 : Mem), (jf_X11_inverse_k2_20 N v3).1 Mm1 = some (r, M') → ∀ (H : Heap) (locs : List Loc) (cells slots : Nat) (ls : Array Slot), jm_St g b M M' Mm1 s (jm_rm 0 0 M M') H locs cells slots → lv_has ls 5 [(3, .long v3)] → W p l e (jm_rm 0 0 M M') s m args below meth c H locs cells slots (jm_MQ below g b (some (.long r)) M M' args s) (F0 m 20 ls []) := by
    intro v3 Mm1 hf H locs cells slots ls hst hl
    unfold jf_X11_inverse_k2_20 at hf
    refine lv_lload_n hx hb dX11_inverse_20 rfl (lv_at hl 0 rfl) ?_
    obtain ⟨rfl, rfl⟩ := jm_ret_some hf
    exact jw_lret C0 hst dX11_inverse_21
  have B2 : ∀ (v0 : Int64) (v2 : Int32) (v3 : Int64) (Mm2 : Mem) (xe2 : (Int64 ⊕ Int64)) (Me2 : Mem), (jf_X11_inverse_L2 N v0 v2 v3).1 Mm2 = some (xe2, Me2) → jm_le Me2 M' → (jm_or (fun (z : Int64) => ∀ (H : Heap) (locs : List Loc) (cells slots : Nat) (ls : Array Slot), jm_St g b M M' Me2 s (jm_rm 0 0 M M') H locs cells slots → lv_has ls 5 [(0, .long v0), (2, .int v2), (3, .long z)] → W p l e (jm_rm 0 0 M M') s m args below meth c H locs cells slots (jm_MQ below g b (some (.long r)) M M' args s) (F0 m 2 ls [])) (fun (y : Int64) => ∀ (H : Heap) (locs : List Loc) (cells slots : Nat) (ls : Array Slot), jm_St g b M M' Me2 s (jm_rm 0 0 M M') H locs cells slots → lv_has ls 5 [(3, .long y)] → W p l e (jm_rm 0 0 M M') s m args below meth c H locs cells slots (jm_MQ below g b (some (.long r)) M M' args s) (F0 m 20 ls [])) xe2) → ∀ (H : Heap) (locs : List Loc) (cells slots : Nat) (ls : Array Slot), jm_St g b M M' Mm2 s (jm_rm 0 0 M M') H locs cells slots → lv_has ls 5 [(0, .long v0), (2, .int v2), (3, .long v3)] → W p l e (jm_rm 0 0 M M') s m args below meth c H locs cells slots (jm_MQ below g b (some (.long r)) M M' args s) (F0 m 2 ls []) := by
    intro v0 v2 v3 Mm2 xe2 Me2 hf hle2 hk2
    intro H locs cells slots ls hst hl
    unfold jf_X11_inverse_L2 at hf
    refine lv_lload_n hx hb dX11_inverse_2 rfl (lv_at hl 2 rfl) ?_
    refine lv_lload_n hx hb dX11_inverse_3 rfl (lv_at hl 0 rfl) ?_
    refine lv_lmul hx hb dX11_inverse_4 ?_
    refine lv_iload_n hx hb dX11_inverse_5 rfl (lv_at hl 1 rfl) ?_
    refine lv_i2l hx hb dX11_inverse_6 rfl ?_
    obtain ⟨_, h3, hf⟩ := jm_rd_some hf
    refine lv_lrem hx hb dX11_inverse_7 (jm_ck_some h3) ?_
    refine lv_lconst (v := 1) hx hb dX11_inverse_8 (by decide) ?_
    refine W.lcmp hx hb dX11_inverse_9 ?_
    refine lv_if_eq (tgt := 20) hx hb dX11_inverse_10 (by decide) (fun hc => ?_) (fun hc => ?_)
    · replace hc := (lg_cmp_eq _ _).mp hc
      rw [if_pos hc] at hf
      obtain ⟨rfl, rfl⟩ := jm_ret_some hf
      exact jm_or_r hk2 _ _ _ _ _ hst (lv_sub hl [2] rfl)
    · replace hc := fun q => hc ((lg_cmp_eq _ _).mpr q)
      rw [if_neg hc] at hf
      refine lv_lload_n hx hb dX11_inverse_13 rfl (lv_at hl 2 rfl) ?_
      refine lv_lconst (v := 1) hx hb dX11_inverse_14 (by decide) ?_
      refine lv_ladd hx hb dX11_inverse_15 ?_
      refine lv_lstore_n (i := 3) (lv' := [(3, .long (v3 + (1 : Int64))), (0, .long v0), (2, .int v2)]) hx hb dX11_inverse_16 rfl hl (by decide) rfl (fun ls hl => ?_)
      refine lv_goto (tgt := 2) hx hb dX11_inverse_17 (by decide) ?_
      obtain ⟨rfl, rfl⟩ := jm_ret_some hf
      exact jm_or_l hk2 _ _ _ _ _ hst (lv_sub hl [1, 2, 0] rfl)
  unfold jf_X11_inverse at hf
  refine lv_lconst (v := 1) hx hb dX11_inverse_0 (by decide) ?_
  refine lv_lstore_n (i := 3) (lv' := [(3, .long (1 : Int64)), (0, .long v0), (2, .int v2)]) hx hb dX11_inverse_1 rfl hl (by decide) rfl (fun ls hl => ?_)
  obtain ⟨xl2, Ml2, hit2, hf⟩ := jm_bd_some hf
  have hlf2 : jm_le Ml2 M' := jm_le_tr (jm_mono hf) jm_le_rf
  have hwe2 : (fun (y : Int64) (Mz : Mem) => ∀ (H : Heap) (locs : List Loc) (cells slots : Nat) (ls : Array Slot), jm_St g b M M' Mz s (jm_rm 0 0 M M') H locs cells slots → lv_has ls 5 [(3, .long y)] → W p l e (jm_rm 0 0 M M') s m args below meth c H locs cells slots (jm_MQ below g b (some (.long r)) M M' args s) (F0 m 20 ls [])) xl2 Ml2 := fun H locs cells slots ls hst hl => K2_20 xl2 _ hf H locs cells slots ls hst hl
  refine jm_it_walk (Mf := M') (Wh := fun (z : Int64) (Mz : Mem) => ∀ (H : Heap) (locs : List Loc) (cells slots : Nat) (ls : Array Slot), jm_St g b M M' Mz s (jm_rm 0 0 M M') H locs cells slots → lv_has ls 5 [(0, .long v0), (2, .int v2), (3, .long z)] → W p l e (jm_rm 0 0 M M') s m args below meth c H locs cells slots (jm_MQ below g b (some (.long r)) M M' args s) (F0 m 2 ls [])) (We := fun (y : Int64) (Mz : Mem) => ∀ (H : Heap) (locs : List Loc) (cells slots : Nat) (ls : Array Slot), jm_St g b M M' Mz s (jm_rm 0 0 M M') H locs cells slots → lv_has ls 5 [(3, .long y)] → W p l e (jm_rm 0 0 M M') s m args below meth c H locs cells slots (jm_MQ below g b (some (.long r)) M M' args s) (F0 m 20 ls [])) ?_ N (1 : Int64) M xl2 Ml2 hit2 hlf2 hwe2 _ _ _ _ _ hst (lv_sub hl [1, 2, 0] rfl)
  intro v3 Mm4 xe2 Me2 hf hle2 hk2 H locs cells slots ls hst hl
  have hf : (jf_X11_inverse_L2 N v0 v2 v3).1 Mm4 = some (xe2, Me2) := hf
  have hl : lv_has ls 5 [(0, .long v0), (2, .int v2), (3, .long v3)] := hl
  exact B2 v0 v2 v3 _ _ _ hf hle2 hk2 _ _ _ _ _ hst (lv_sub hl [0, 1, 2] rfl)
theorem hd_X11_leftBy : yX11_leftBy.cls = RX11 ∧ yX11_leftBy.cls ≠ "java/lang/invoke/MethodHandle" ∧ yX11_leftBy.cls ≠ "java/lang/invoke/VarHandle" ∧ (parseMethodDescriptor yX11_leftBy.desc).map (fun d => d.parameters.length) = some 2 := by decide +kernel
theorem hd_X11_inverse : yX11_inverse.cls = RX11 ∧ yX11_inverse.cls ≠ "java/lang/invoke/MethodHandle" ∧ yX11_inverse.cls ≠ "java/lang/invoke/VarHandle" ∧ (parseMethodDescriptor yX11_inverse.desc).map (fun d => d.parameters.length) = some 2 := by decide +kernel
def jf_X11_rankBy_k10_209 (N : Nat) (v3 : Int32) : jm_P Int32 :=
  jm_ret v3
def jf_X11_rankBy_j203 (N : Nat) (a0 : Nat) (v1 : Int32) (v2 : Option Nat) (v3 : Int32) (v4 : Int32) : jm_P ((Int32 × Int32) ⊕ Int32) :=
  jm_ret (.inl (v3, (v4 + 1)))
def jf_X11_rankBy_k107_200 (N : Nat) (a0 : Nat) (v1 : Int32) (v2 : Option Nat) (v3 : Int32) (v4 : Int32) : jm_P ((Int32 × Int32) ⊕ Int32) :=
  jf_X11_rankBy_j203 N a0 v1 v2 (v3 + 1) v4
def jf_X11_rankBy_k142_194 (N : Nat) (a0 : Nat) (v1 : Int32) (v2 : Option Nat) (v3 : Int32) (v4 : Int32) (v6 : Int64) (v8 : Int32) : jm_P (Int32 ⊕ Unit) :=
  jm_ret (.inl (v8 + 1))
def jf_X11_rankBy_L142 (N : Nat) (a0 : Nat) (v1 : Int32) (v2 : Option Nat) (v3 : Int32) (v4 : Int32) (v6 : Int64) (v8 : Int32) (v9 : Int64) (v11 : Int32) : jm_P (Int32 ⊕ Unit) :=
  jm_rd (jm_fI [11] 2 (some a0)) fun x46 =>
  if x46 ≤ v11 then (
    jm_ret (.inr ()))
  else
    jm_rd (jm_fR [11] 0 v2) fun x48 =>
    jm_rd (jm_ldR 13 x48 v8) fun x50 =>
    jm_rd (jm_fR [11] 0 v2) fun x52 =>
    jm_rd (jm_ldR 13 x52 v8) fun x54 =>
    jm_rd (jm_ldJ 2 x54 v11) fun x56 =>
    jm_rd (jm_fR [11] 0 v2) fun x58 =>
    jm_rd (jm_ldR 13 x58 v3) fun x60 =>
    jm_rd (jm_ldJ 2 x60 v11) fun x62 =>
    jm_bd (jf_X11_leftBy N (x56 - (v9 * x62)) v1) fun x64 =>
    jm_wr (jm_stJ 2 x50 v11 x64) <|
    jm_ret (.inl (v11 + 1))
def jf_X11_rankBy_L107 (N : Nat) (a0 : Nat) (v1 : Int32) (v2 : Option Nat) (v3 : Int32) (v4 : Int32) (v6 : Int64) (v8 : Int32) : jm_P (Int32 ⊕ Unit) :=
  jm_rd (jm_fI [11] 1 (some a0)) fun x33 =>
  if x33 ≤ v8 then (
    jm_ret (.inr ()))
  else
    jm_rd (jm_fR [11] 0 v2) fun x35 =>
    jm_rd (jm_ldR 13 x35 v8) fun x37 =>
    jm_rd (jm_ldJ 2 x37 v4) fun x39 =>
    jm_bd (jf_X11_leftBy N x39 v1) fun x41 =>
    jm_rd (jm_ck (¬ (v1.toInt64) = 0)) fun _ =>
    jm_bd (jm_it (fun z => jf_X11_rankBy_L142 N a0 v1 v2 v3 v4 v6 v8 ((x41 * v6) - (x41 * v6) / (v1.toInt64) * (v1.toInt64)) z) N v4) fun y =>
    jf_X11_rankBy_k142_194 N a0 v1 v2 v3 v4 v6 v8
def jf_X11_rankBy_k30_64 (N : Nat) (a0 : Nat) (v1 : Int32) (v2 : Option Nat) (v3 : Int32) (v4 : Int32) (v5 : Int32) : jm_P ((Int32 × Int32) ⊕ Int32) :=
  jm_rd (jm_fI [11] 1 (some a0)) fun x11 =>
  if v5 = x11 then (
    jf_X11_rankBy_j203 N a0 v1 v2 v3 v4)
  else
    jm_rd (jm_cl 11 v2) fun a16 =>
    jm_bd (jf_X11_swapRows N a16 v5 v3) fun x13 =>
    jm_rd (jm_fR [11] 0 v2) fun x19 =>
    jm_rd (jm_ldR 13 x19 v3) fun x21 =>
    jm_rd (jm_ldJ 2 x21 v4) fun x23 =>
    jm_bd (jf_X11_leftBy N x23 v1) fun x25 =>
    jm_bd (jf_X11_inverse N x25 v1) fun x28 =>
    jm_bd (jm_it (fun z => jf_X11_rankBy_L107 N a0 v1 v2 v3 v4 x28 z) N (v3 + (1 : Int32))) fun y =>
    jf_X11_rankBy_k107_200 N a0 v1 v2 v3 v4
def jf_X11_rankBy_L30 (N : Nat) (a0 : Nat) (v1 : Int32) (v2 : Option Nat) (v3 : Int32) (v4 : Int32) (v5 : Int32) : jm_P (Int32 ⊕ Int32) :=
  jm_rd (jm_fI [11] 1 (some a0)) fun x78 =>
  if x78 ≤ v5 then (
    jm_ret (.inr v5))
  else
    jm_rd (jm_fR [11] 0 v2) fun x80 =>
    jm_rd (jm_ldR 13 x80 v5) fun x82 =>
    jm_rd (jm_ldJ 2 x82 v4) fun x84 =>
    jm_bd (jf_X11_leftBy N x84 v1) fun x86 =>
    if x86 = (0 : Int64) then (
      jm_ret (.inl (v5 + 1)))
    else
      jm_ret (.inr v5)
def jf_X11_rankBy_L10 (N : Nat) (a0 : Nat) (v1 : Int32) (v2 : Option Nat) (v3 : Int32) (v4 : Int32) : jm_P ((Int32 × Int32) ⊕ Int32) :=
  jm_rd (jm_fI [11] 2 (some a0)) fun x73 =>
  if x73 ≤ v4 then (
    jm_ret (.inr v3))
  else
    jm_rd (jm_fI [11] 1 (some a0)) fun x75 =>
    if x75 ≤ v3 then (
      jm_ret (.inr v3))
    else
      jm_bd (jm_it (fun z => jf_X11_rankBy_L30 N a0 v1 v2 v3 v4 z) N v3) fun y =>
      jf_X11_rankBy_k30_64 N a0 v1 v2 v3 v4 y
def jf_X11_rankBy (N : Nat) (a0 : Nat) (v1 : Int32) : jm_P Int32 :=
  jm_rd (jm_cl 11 (some a0)) fun a5 =>
  jm_bd (jf_X11_like N a5 ) fun x2 =>
  jm_bd (jm_it (fun z => jf_X11_rankBy_L10 N a0 v1 x2 z.1 z.2) N ((0 : Int32), (0 : Int32))) fun y =>
  jf_X11_rankBy_k10_209 N y
set_option maxHeartbeats 4000000 in
set_option maxRecDepth 100000 in
theorem jt_X11_rankBy (l : Launch) (g : GD) (b N : Nat) (a0 : Nat) (v1 : Int32) (M M' : Mem) (r : Int32) (hf : (jf_X11_rankBy N a0 v1).1 M = some (r, M')) : jm_Met l g b yX11_rankBy (ws_ yX11_rankBy cX11_rankBy 12 (some .int)) 3 64 [va_rf (some a0), .int v1] M M' (some (.int r)) := by
  refine jm_start (by decide) (jm_mono hf) (by rw [lg_sl_r, lg_sl_i, lg_sl_n]; exact Nat.le_of_ble_eq_true rfl) ?_
  intro p e s m args below meth c ls C0 hin hK hst hl
  obtain ⟨hx, hb, hml, hown, hts, hr, hlk⟩ := id C0
  have hown : s.vm.findClass RX11 = some m.cls := hown
  have C0 : jm_Cx p s m args meth c cX11_rankBy 12 (some .int) RX11 := C0
  rw [lv_args_r, lv_args_i, lv_args_n] at hl
  have hl : lv_has ls 12 [(0, va_rf (some a0)), (1, .int v1)] := hl
  have K10_209 : ∀ (v3 : Int32) (Mm1 : Mem), (jf_X11_rankBy_k10_209 N v3).1 Mm1 = some (r, M') → ∀ (H : Heap) (locs : List Loc) (cells slots : Nat) (ls : Array Slot), jm_St g b M M' Mm1 s (jm_rm 3 64 M M') H locs cells slots → lv_has ls 12 [(3, .int v3)] → W p l e (jm_rm 3 64 M M') s m args below meth c H locs cells slots (jm_MQ below g b (some (.int r)) M M' args s) (F0 m 209 ls []) := by
    intro v3 Mm1 hf H locs cells slots ls hst hl
    unfold jf_X11_rankBy_k10_209 at hf
    refine lv_iload_n hx hb dX11_rankBy_209 rfl (lv_at hl 0 rfl) ?_
    obtain ⟨rfl, rfl⟩ := jm_ret_some hf
    exact jw_iret C0 hst dX11_rankBy_210
  have B10 : ∀ (a0 : Nat) (v1 : Int32) (v2 : Option Nat) (v3 : Int32) (v4 : Int32) (Mm72 : Mem) (xe10 : ((Int32 × Int32) ⊕ Int32)) (Me10 : Mem), (jf_X11_rankBy_L10 N a0 v1 v2 v3 v4).1 Mm72 = some (xe10, Me10) → jm_le Me10 M' → (jm_or (fun (z : Int32 × Int32) => ∀ (H : Heap) (locs : List Loc) (cells slots : Nat) (ls : Array Slot), jm_St g b M M' Me10 s (jm_rm 3 64 M M') H locs cells slots → lv_has ls 12 [(0, va_rf (some a0)), (1, .int v1), (2, va_rf v2), (3, .int z.1), (4, .int z.2)] → W p l e (jm_rm 3 64 M M') s m args below meth c H locs cells slots (jm_MQ below g b (some (.int r)) M M' args s) (F0 m 10 ls [])) (fun (y : Int32) => ∀ (H : Heap) (locs : List Loc) (cells slots : Nat) (ls : Array Slot), jm_St g b M M' Me10 s (jm_rm 3 64 M M') H locs cells slots → lv_has ls 12 [(3, .int y)] → W p l e (jm_rm 3 64 M M') s m args below meth c H locs cells slots (jm_MQ below g b (some (.int r)) M M' args s) (F0 m 209 ls [])) xe10) → ∀ (H : Heap) (locs : List Loc) (cells slots : Nat) (ls : Array Slot), jm_St g b M M' Mm72 s (jm_rm 3 64 M M') H locs cells slots → lv_has ls 12 [(0, va_rf (some a0)), (1, .int v1), (2, va_rf v2), (3, .int v3), (4, .int v4)] → W p l e (jm_rm 3 64 M M') s m args below meth c H locs cells slots (jm_MQ below g b (some (.int r)) M M' args s) (F0 m 10 ls []) := by
    intro a0 v1 v2 v3 v4 Mm72 xe10 Me10 hf hle10 hk10
    have J203 : ∀ (v3 : Int32) (v4 : Int32) (Mm8 : Mem), (jf_X11_rankBy_j203 N a0 v1 v2 v3 v4).1 Mm8 = some (xe10, Me10) → ∀ (H : Heap) (locs : List Loc) (cells slots : Nat) (ls : Array Slot), jm_St g b M M' Mm8 s (jm_rm 3 64 M M') H locs cells slots → lv_has ls 12 [(0, va_rf (some a0)), (1, .int v1), (2, va_rf v2), (3, .int v3), (4, .int v4)] → W p l e (jm_rm 3 64 M M') s m args below meth c H locs cells slots (jm_MQ below g b (some (.int r)) M M' args s) (F0 m 203 ls []) := by
      intro v3 v4 Mm8 hf H locs cells slots ls hst hl
      unfold jf_X11_rankBy_j203 at hf
      refine lv_iinc (i := 4) (v := (v4 + 1)) (lv' := [(4, .int (v4 + 1)), (0, va_rf (some a0)), (1, .int v1), (2, va_rf v2), (3, .int v3)]) hx hb dX11_rankBy_203 hl (k := 4) rfl (by rfl) (by decide) rfl (fun ls hl => ?_)
      refine lv_goto (tgt := 10) hx hb dX11_rankBy_206 (by decide) ?_
      obtain ⟨rfl, rfl⟩ := jm_ret_some hf
      exact jm_or_l hk10 _ _ _ _ _ hst (lv_sub hl [1, 2, 3, 4, 0] rfl)
    have K107_200 : ∀ (v3 : Int32) (v4 : Int32) (Mm9 : Mem), (jf_X11_rankBy_k107_200 N a0 v1 v2 v3 v4).1 Mm9 = some (xe10, Me10) → ∀ (H : Heap) (locs : List Loc) (cells slots : Nat) (ls : Array Slot), jm_St g b M M' Mm9 s (jm_rm 3 64 M M') H locs cells slots → lv_has ls 12 [(0, va_rf (some a0)), (1, .int v1), (2, va_rf v2), (3, .int v3), (4, .int v4)] → W p l e (jm_rm 3 64 M M') s m args below meth c H locs cells slots (jm_MQ below g b (some (.int r)) M M' args s) (F0 m 200 ls []) := by
      intro v3 v4 Mm9 hf H locs cells slots ls hst hl
      unfold jf_X11_rankBy_k107_200 at hf
      refine lv_iinc (i := 3) (v := (v3 + 1)) (lv' := [(3, .int (v3 + 1)), (0, va_rf (some a0)), (1, .int v1), (2, va_rf v2), (4, .int v4)]) hx hb dX11_rankBy_200 hl (k := 3) rfl (by rfl) (by decide) (by simp [va_rf_cat, cat_i, cat_j, cat_f]) (fun ls hl => ?_)
      exact J203 (v3 + 1) v4 _ hf _ _ _ _ _ hst (lv_sub hl [1, 2, 3, 0, 4] rfl)
    have B107 : ∀ (a0 : Nat) (v1 : Int32) (v2 : Option Nat) (v3 : Int32) (v4 : Int32) (v6 : Int64) (v8 : Int32) (Mm32 : Mem) (xe107 : (Int32 ⊕ Unit)) (Me107 : Mem), (jf_X11_rankBy_L107 N a0 v1 v2 v3 v4 v6 v8).1 Mm32 = some (xe107, Me107) → jm_le Me107 M' → (jm_or (fun (z : Int32) => ∀ (H : Heap) (locs : List Loc) (cells slots : Nat) (ls : Array Slot), jm_St g b M M' Me107 s (jm_rm 3 64 M M') H locs cells slots → lv_has ls 12 [(0, va_rf (some a0)), (1, .int v1), (2, va_rf v2), (3, .int v3), (4, .int v4), (6, .long v6), (8, .int z)] → W p l e (jm_rm 3 64 M M') s m args below meth c H locs cells slots (jm_MQ below g b (some (.int r)) M M' args s) (F0 m 107 ls [])) (fun (y : Unit) => ∀ (H : Heap) (locs : List Loc) (cells slots : Nat) (ls : Array Slot), jm_St g b M M' Me107 s (jm_rm 3 64 M M') H locs cells slots → lv_has ls 12 [(0, va_rf (some a0)), (1, .int v1), (2, va_rf v2), (3, .int v3), (4, .int v4)] → W p l e (jm_rm 3 64 M M') s m args below meth c H locs cells slots (jm_MQ below g b (some (.int r)) M M' args s) (F0 m 200 ls [])) xe107) → ∀ (H : Heap) (locs : List Loc) (cells slots : Nat) (ls : Array Slot), jm_St g b M M' Mm32 s (jm_rm 3 64 M M') H locs cells slots → lv_has ls 12 [(0, va_rf (some a0)), (1, .int v1), (2, va_rf v2), (3, .int v3), (4, .int v4), (6, .long v6), (8, .int v8)] → W p l e (jm_rm 3 64 M M') s m args below meth c H locs cells slots (jm_MQ below g b (some (.int r)) M M' args s) (F0 m 107 ls []) := by
      intro a0 v1 v2 v3 v4 v6 v8 Mm32 xe107 Me107 hf hle107 hk107
      have K142_194 : ∀ (v8 : Int32) (Mm31 : Mem), (jf_X11_rankBy_k142_194 N a0 v1 v2 v3 v4 v6 v8).1 Mm31 = some (xe107, Me107) → ∀ (H : Heap) (locs : List Loc) (cells slots : Nat) (ls : Array Slot), jm_St g b M M' Mm31 s (jm_rm 3 64 M M') H locs cells slots → lv_has ls 12 [(0, va_rf (some a0)), (1, .int v1), (2, va_rf v2), (3, .int v3), (4, .int v4), (6, .long v6), (8, .int v8)] → W p l e (jm_rm 3 64 M M') s m args below meth c H locs cells slots (jm_MQ below g b (some (.int r)) M M' args s) (F0 m 194 ls []) := by
        intro v8 Mm31 hf H locs cells slots ls hst hl
        unfold jf_X11_rankBy_k142_194 at hf
        refine lv_iinc (i := 8) (v := (v8 + 1)) (lv' := [(8, .int (v8 + 1)), (0, va_rf (some a0)), (1, .int v1), (2, va_rf v2), (3, .int v3), (4, .int v4), (6, .long v6)]) hx hb dX11_rankBy_194 hl (k := 6) rfl (by rfl) (by decide) rfl (fun ls hl => ?_)
        refine lv_goto (tgt := 107) hx hb dX11_rankBy_197 (by decide) ?_
        obtain ⟨rfl, rfl⟩ := jm_ret_some hf
        exact jm_or_l hk107 _ _ _ _ _ hst (lv_sub hl [1, 2, 3, 4, 5, 6, 0] rfl)
      have B142 : ∀ (a0 : Nat) (v1 : Int32) (v2 : Option Nat) (v3 : Int32) (v4 : Int32) (v6 : Int64) (v8 : Int32) (v9 : Int64) (v11 : Int32) (Mm45 : Mem) (xe142 : (Int32 ⊕ Unit)) (Me142 : Mem), (jf_X11_rankBy_L142 N a0 v1 v2 v3 v4 v6 v8 v9 v11).1 Mm45 = some (xe142, Me142) → jm_le Me142 M' → (jm_or (fun (z : Int32) => ∀ (H : Heap) (locs : List Loc) (cells slots : Nat) (ls : Array Slot), jm_St g b M M' Me142 s (jm_rm 3 64 M M') H locs cells slots → lv_has ls 12 [(0, va_rf (some a0)), (1, .int v1), (2, va_rf v2), (3, .int v3), (4, .int v4), (6, .long v6), (8, .int v8), (9, .long v9), (11, .int z)] → W p l e (jm_rm 3 64 M M') s m args below meth c H locs cells slots (jm_MQ below g b (some (.int r)) M M' args s) (F0 m 142 ls [])) (fun (y : Unit) => ∀ (H : Heap) (locs : List Loc) (cells slots : Nat) (ls : Array Slot), jm_St g b M M' Me142 s (jm_rm 3 64 M M') H locs cells slots → lv_has ls 12 [(0, va_rf (some a0)), (1, .int v1), (2, va_rf v2), (3, .int v3), (4, .int v4), (6, .long v6), (8, .int v8)] → W p l e (jm_rm 3 64 M M') s m args below meth c H locs cells slots (jm_MQ below g b (some (.int r)) M M' args s) (F0 m 194 ls [])) xe142) → ∀ (H : Heap) (locs : List Loc) (cells slots : Nat) (ls : Array Slot), jm_St g b M M' Mm45 s (jm_rm 3 64 M M') H locs cells slots → lv_has ls 12 [(0, va_rf (some a0)), (1, .int v1), (2, va_rf v2), (3, .int v3), (4, .int v4), (6, .long v6), (8, .int v8), (9, .long v9), (11, .int v11)] → W p l e (jm_rm 3 64 M M') s m args below meth c H locs cells slots (jm_MQ below g b (some (.int r)) M M' args s) (F0 m 142 ls []) := by
        intro a0 v1 v2 v3 v4 v6 v8 v9 v11 Mm45 xe142 Me142 hf hle142 hk142
        intro H locs cells slots ls hst hl
        unfold jf_X11_rankBy_L142 at hf
        refine lv_iload hx hb dX11_rankBy_142 (lv_at hl 8 rfl) ?_
        refine jw_aload_n (r := (some a0)) hx hb dX11_rankBy_144 rfl (lv_at hl 0 rfl) ?_
        obtain ⟨x46, h47, hf⟩ := jm_rd_some hf
        refine jw_getI hx hb hts hown hK hst (fl_X11_15 hts hK) h47 dX11_rankBy_145 ?_
        refine lv_icmp_ge (tgt := 194) hx hb dX11_rankBy_148 (by decide) (fun hc => ?_) (fun hc => ?_)
        · rw [if_pos hc] at hf
          obtain ⟨rfl, rfl⟩ := jm_ret_some hf
          exact jm_or_r hk142 _ _ _ _ _ hst (lv_sub hl [0, 1, 2, 3, 4, 5, 6] rfl)
        · rw [if_neg hc] at hf
          refine jw_aload_n (r := v2) hx hb dX11_rankBy_151 rfl (lv_at hl 2 rfl) ?_
          obtain ⟨x48, h49, hf⟩ := jm_rd_some hf
          refine jw_getR hx hb hts hown hK hst (fl_X11_20 hts hK) h49 dX11_rankBy_152 ?_
          refine lv_iload hx hb dX11_rankBy_155 (lv_at hl 6 rfl) ?_
          obtain ⟨x50, h51, hf⟩ := jm_rd_some hf
          refine jw_aald hx hb hK hst (show jm_ty[13]? = some (.array .long) from rfl) rfl h51 dX11_rankBy_157 ?_
          refine lv_iload hx hb dX11_rankBy_158 (lv_at hl 8 rfl) ?_
          refine jw_aload_n (r := v2) hx hb dX11_rankBy_160 rfl (lv_at hl 2 rfl) ?_
          obtain ⟨x52, h53, hf⟩ := jm_rd_some hf
          refine jw_getR hx hb hts hown hK hst (fl_X11_20 hts hK) h53 dX11_rankBy_161 ?_
          refine lv_iload hx hb dX11_rankBy_164 (lv_at hl 6 rfl) ?_
          obtain ⟨x54, h55, hf⟩ := jm_rd_some hf
          refine jw_aald hx hb hK hst (show jm_ty[13]? = some (.array .long) from rfl) rfl h55 dX11_rankBy_166 ?_
          refine lv_iload hx hb dX11_rankBy_167 (lv_at hl 8 rfl) ?_
          obtain ⟨x56, h57, hf⟩ := jm_rd_some hf
          refine jw_lald hx hb hK hst h57 dX11_rankBy_169 ?_
          refine lv_lload hx hb dX11_rankBy_170 (lv_at hl 7 rfl) ?_
          refine jw_aload_n (r := v2) hx hb dX11_rankBy_172 rfl (lv_at hl 2 rfl) ?_
          obtain ⟨x58, h59, hf⟩ := jm_rd_some hf
          refine jw_getR hx hb hts hown hK hst (fl_X11_20 hts hK) h59 dX11_rankBy_173 ?_
          refine lv_iload_n hx hb dX11_rankBy_176 rfl (lv_at hl 3 rfl) ?_
          obtain ⟨x60, h61, hf⟩ := jm_rd_some hf
          refine jw_aald hx hb hK hst (show jm_ty[13]? = some (.array .long) from rfl) rfl h61 dX11_rankBy_177 ?_
          refine lv_iload hx hb dX11_rankBy_178 (lv_at hl 8 rfl) ?_
          obtain ⟨x62, h63, hf⟩ := jm_rd_some hf
          refine jw_lald hx hb hK hst h63 dX11_rankBy_180 ?_
          refine lv_lmul hx hb dX11_rankBy_181 ?_
          refine lv_lsub hx hb dX11_rankBy_182 ?_
          refine lv_iload_n hx hb dX11_rankBy_183 rfl (lv_at hl 1 rfl) ?_
          obtain ⟨x64, Mm65, h66, hf⟩ := jm_bd_some hf
          refine jw_S (As := [.long (x56 - (v9 * x62)), .int v1]) (rest := [.int v11, va_rf x50]) (jt_X11_leftBy l g b N (x56 - (v9 * x62)) v1 Mm45 Mm65 x64 h66) C0 hK hst (jm_mono h66) (jm_le_tr (jm_mono hf) hle142) q723 q724 q90 q725 hd_X11_leftBy.2 ⟨Nat.le_of_ble_eq_true rfl, Nat.le_of_ble_eq_true rfl⟩ rfl hl.1 rfl (by rw [cs_i, cs_r, cs_n]; exact Nat.le_of_ble_eq_true rfl) dX11_rankBy_184 (fun H locs cells slots hst => ?_)
          refine W.eq (g2 := F0 m 187 ls [.long x64, .int v11, va_rf x50]) rfl ?_
          obtain ⟨F67, h68, hf⟩ := jm_wr_some hf
          refine jw_last (r := x50) hx hb hK hst h68 dX11_rankBy_187 (fun H locs hst => ?_)
          generalize ((Mm65.1, Mm65.2.1, F67) : Mem) = Mm69 at hf hst
          refine lv_iinc (i := 11) (v := (v11 + 1)) (lv' := [(11, .int (v11 + 1)), (0, va_rf (some a0)), (1, .int v1), (2, va_rf v2), (3, .int v3), (4, .int v4), (6, .long v6), (8, .int v8), (9, .long v9)]) hx hb dX11_rankBy_188 hl (k := 8) rfl (by rfl) (by decide) rfl (fun ls hl => ?_)
          refine lv_goto (tgt := 142) hx hb dX11_rankBy_191 (by decide) ?_
          obtain ⟨rfl, rfl⟩ := jm_ret_some hf
          exact jm_or_l hk142 _ _ _ _ _ hst (lv_sub hl [1, 2, 3, 4, 5, 6, 7, 8, 0] rfl)
      intro H locs cells slots ls hst hl
      unfold jf_X11_rankBy_L107 at hf
      refine lv_iload hx hb dX11_rankBy_107 (lv_at hl 6 rfl) ?_
      refine jw_aload_n (r := (some a0)) hx hb dX11_rankBy_109 rfl (lv_at hl 0 rfl) ?_
      obtain ⟨x33, h34, hf⟩ := jm_rd_some hf
      refine jw_getI hx hb hts hown hK hst (fl_X11_9 hts hK) h34 dX11_rankBy_110 ?_
      refine lv_icmp_ge (tgt := 200) hx hb dX11_rankBy_113 (by decide) (fun hc => ?_) (fun hc => ?_)
      · rw [if_pos hc] at hf
        obtain ⟨rfl, rfl⟩ := jm_ret_some hf
        exact jm_or_r hk107 _ _ _ _ _ hst (lv_sub hl [0, 1, 2, 3, 4] rfl)
      · rw [if_neg hc] at hf
        refine jw_aload_n (r := v2) hx hb dX11_rankBy_116 rfl (lv_at hl 2 rfl) ?_
        obtain ⟨x35, h36, hf⟩ := jm_rd_some hf
        refine jw_getR hx hb hts hown hK hst (fl_X11_20 hts hK) h36 dX11_rankBy_117 ?_
        refine lv_iload hx hb dX11_rankBy_120 (lv_at hl 6 rfl) ?_
        obtain ⟨x37, h38, hf⟩ := jm_rd_some hf
        refine jw_aald hx hb hK hst (show jm_ty[13]? = some (.array .long) from rfl) rfl h38 dX11_rankBy_122 ?_
        refine lv_iload hx hb dX11_rankBy_123 (lv_at hl 4 rfl) ?_
        obtain ⟨x39, h40, hf⟩ := jm_rd_some hf
        refine jw_lald hx hb hK hst h40 dX11_rankBy_125 ?_
        refine lv_iload_n hx hb dX11_rankBy_126 rfl (lv_at hl 1 rfl) ?_
        obtain ⟨x41, Mm42, h43, hf⟩ := jm_bd_some hf
        refine jw_S (As := [.long x39, .int v1]) (rest := []) (jt_X11_leftBy l g b N x39 v1 Mm32 Mm42 x41 h43) C0 hK hst (jm_mono h43) (jm_le_tr (jm_mono hf) hle107) q723 q724 q90 q725 hd_X11_leftBy.2 ⟨Nat.le_of_ble_eq_true rfl, Nat.le_of_ble_eq_true rfl⟩ rfl hl.1 rfl (by rw [cs_n]; exact Nat.le_of_ble_eq_true rfl) dX11_rankBy_127 (fun H locs cells slots hst => ?_)
        refine W.eq (g2 := F0 m 130 ls [.long x41]) rfl ?_
        refine lv_lload hx hb dX11_rankBy_130 (lv_at hl 5 rfl) ?_
        refine lv_lmul hx hb dX11_rankBy_132 ?_
        refine lv_iload_n hx hb dX11_rankBy_133 rfl (lv_at hl 1 rfl) ?_
        refine lv_i2l hx hb dX11_rankBy_134 rfl ?_
        obtain ⟨_, h44, hf⟩ := jm_rd_some hf
        refine lv_lrem hx hb dX11_rankBy_135 (jm_ck_some h44) ?_
        refine lv_lstore (i := 9) (lv' := [(9, .long ((x41 * v6) - (x41 * v6) / (v1.toInt64) * (v1.toInt64))), (0, va_rf (some a0)), (1, .int v1), (2, va_rf v2), (3, .int v3), (4, .int v4), (6, .long v6), (8, .int v8)]) hx hb dX11_rankBy_136 hl (by decide) rfl (fun ls hl => ?_)
        refine lv_iload hx hb dX11_rankBy_138 (lv_at hl 5 rfl) ?_
        refine lv_istore (i := 11) (lv' := [(11, .int v4), (9, .long ((x41 * v6) - (x41 * v6) / (v1.toInt64) * (v1.toInt64))), (0, va_rf (some a0)), (1, .int v1), (2, va_rf v2), (3, .int v3), (4, .int v4), (6, .long v6), (8, .int v8)]) hx hb dX11_rankBy_140 hl (by decide) rfl (fun ls hl => ?_)
        obtain ⟨xl142, Ml142, hit142, hf⟩ := jm_bd_some hf
        have hlf142 : jm_le Ml142 M' := jm_le_tr (jm_mono hf) hle107
        have hwe142 : (fun (y : Unit) (Mz : Mem) => ∀ (H : Heap) (locs : List Loc) (cells slots : Nat) (ls : Array Slot), jm_St g b M M' Mz s (jm_rm 3 64 M M') H locs cells slots → lv_has ls 12 [(0, va_rf (some a0)), (1, .int v1), (2, va_rf v2), (3, .int v3), (4, .int v4), (6, .long v6), (8, .int v8)] → W p l e (jm_rm 3 64 M M') s m args below meth c H locs cells slots (jm_MQ below g b (some (.int r)) M M' args s) (F0 m 194 ls [])) xl142 Ml142 := fun H locs cells slots ls hst hl => K142_194 v8 _ hf H locs cells slots ls hst hl
        refine jm_it_walk (Mf := M') (Wh := fun (z : Int32) (Mz : Mem) => ∀ (H : Heap) (locs : List Loc) (cells slots : Nat) (ls : Array Slot), jm_St g b M M' Mz s (jm_rm 3 64 M M') H locs cells slots → lv_has ls 12 [(0, va_rf (some a0)), (1, .int v1), (2, va_rf v2), (3, .int v3), (4, .int v4), (6, .long v6), (8, .int v8), (9, .long ((x41 * v6) - (x41 * v6) / (v1.toInt64) * (v1.toInt64))), (11, .int z)] → W p l e (jm_rm 3 64 M M') s m args below meth c H locs cells slots (jm_MQ below g b (some (.int r)) M M' args s) (F0 m 142 ls [])) (We := fun (y : Unit) (Mz : Mem) => ∀ (H : Heap) (locs : List Loc) (cells slots : Nat) (ls : Array Slot), jm_St g b M M' Mz s (jm_rm 3 64 M M') H locs cells slots → lv_has ls 12 [(0, va_rf (some a0)), (1, .int v1), (2, va_rf v2), (3, .int v3), (4, .int v4), (6, .long v6), (8, .int v8)] → W p l e (jm_rm 3 64 M M') s m args below meth c H locs cells slots (jm_MQ below g b (some (.int r)) M M' args s) (F0 m 194 ls [])) ?_ N v4 Mm42 xl142 Ml142 hit142 hlf142 hwe142 _ _ _ _ _ hst (lv_sub hl [2, 3, 4, 5, 6, 7, 8, 1, 0] rfl)
        intro v11 Mm70 xe142 Me142 hf hle142 hk142 H locs cells slots ls hst hl
        have hf : (jf_X11_rankBy_L142 N a0 v1 v2 v3 v4 v6 v8 ((x41 * v6) - (x41 * v6) / (v1.toInt64) * (v1.toInt64)) v11).1 Mm70 = some (xe142, Me142) := hf
        have hl : lv_has ls 12 [(0, va_rf (some a0)), (1, .int v1), (2, va_rf v2), (3, .int v3), (4, .int v4), (6, .long v6), (8, .int v8), (9, .long ((x41 * v6) - (x41 * v6) / (v1.toInt64) * (v1.toInt64))), (11, .int v11)] := hl
        exact B142 a0 v1 v2 v3 v4 v6 v8 ((x41 * v6) - (x41 * v6) / (v1.toInt64) * (v1.toInt64)) v11 _ _ _ hf hle142 hk142 _ _ _ _ _ hst (lv_sub hl [0, 1, 2, 3, 4, 5, 6, 7, 8] rfl)
    have K30_64 : ∀ (v3 : Int32) (v4 : Int32) (v5 : Int32) (Mm10 : Mem), (jf_X11_rankBy_k30_64 N a0 v1 v2 v3 v4 v5).1 Mm10 = some (xe10, Me10) → ∀ (H : Heap) (locs : List Loc) (cells slots : Nat) (ls : Array Slot), jm_St g b M M' Mm10 s (jm_rm 3 64 M M') H locs cells slots → lv_has ls 12 [(0, va_rf (some a0)), (1, .int v1), (2, va_rf v2), (3, .int v3), (4, .int v4), (5, .int v5)] → W p l e (jm_rm 3 64 M M') s m args below meth c H locs cells slots (jm_MQ below g b (some (.int r)) M M' args s) (F0 m 64 ls []) := by
      intro v3 v4 v5 Mm10 hf H locs cells slots ls hst hl
      unfold jf_X11_rankBy_k30_64 at hf
      refine lv_iload hx hb dX11_rankBy_64 (lv_at hl 5 rfl) ?_
      refine jw_aload_n (r := (some a0)) hx hb dX11_rankBy_66 rfl (lv_at hl 0 rfl) ?_
      obtain ⟨x11, h12, hf⟩ := jm_rd_some hf
      refine jw_getI hx hb hts hown hK hst (fl_X11_9 hts hK) h12 dX11_rankBy_67 ?_
      refine lv_icmp_ne (tgt := 76) hx hb dX11_rankBy_70 (by decide) (fun hc => ?_) (fun hc => ?_)
      · rw [if_neg hc] at hf
        refine jw_aload_n (r := v2) hx hb dX11_rankBy_76 rfl (lv_at hl 2 rfl) ?_
        refine lv_iload hx hb dX11_rankBy_77 (lv_at hl 5 rfl) ?_
        refine lv_iload_n hx hb dX11_rankBy_79 rfl (lv_at hl 3 rfl) ?_
        obtain ⟨a16, h17, hf⟩ := jm_rd_some hf
        obtain ⟨fsa16, hea16, hr18⟩ := jm_cl_some h17
        obtain ⟨x13, Mm14, h15, hf⟩ := jm_bd_some hf
        refine jw_V (As := [.int v5, .int v3]) (rest := []) (C := RX11) (T := TX11) (N := 3) (rv := v2) (jt_X11_swapRows l g b N a16 v5 v3 Mm10 Mm14 x13 h15) C0 hK hst (jm_mono h15) (jm_le_tr (jm_mono hf) hle10) q707 q709 qs12 q90 q710 hd_X11_swapRows ⟨Nat.le_of_ble_eq_true rfl, Nat.le_of_ble_eq_true rfl⟩ hea16 hr18 rfl rfl hl.1 rfl (by rw [cs_n]; exact Nat.le_of_ble_eq_true rfl) dX11_rankBy_80 (fun H locs cells slots hst => ?_)
        refine W.eq (g2 := F0 m 83 ls []) rfl ?_
        refine jw_aload_n (r := v2) hx hb dX11_rankBy_83 rfl (lv_at hl 2 rfl) ?_
        obtain ⟨x19, h20, hf⟩ := jm_rd_some hf
        refine jw_getR hx hb hts hown hK hst (fl_X11_20 hts hK) h20 dX11_rankBy_84 ?_
        refine lv_iload_n hx hb dX11_rankBy_87 rfl (lv_at hl 3 rfl) ?_
        obtain ⟨x21, h22, hf⟩ := jm_rd_some hf
        refine jw_aald hx hb hK hst (show jm_ty[13]? = some (.array .long) from rfl) rfl h22 dX11_rankBy_88 ?_
        refine lv_iload hx hb dX11_rankBy_89 (lv_at hl 4 rfl) ?_
        obtain ⟨x23, h24, hf⟩ := jm_rd_some hf
        refine jw_lald hx hb hK hst h24 dX11_rankBy_91 ?_
        refine lv_iload_n hx hb dX11_rankBy_92 rfl (lv_at hl 1 rfl) ?_
        obtain ⟨x25, Mm26, h27, hf⟩ := jm_bd_some hf
        refine jw_S (As := [.long x23, .int v1]) (rest := []) (jt_X11_leftBy l g b N x23 v1 Mm14 Mm26 x25 h27) C0 hK hst (jm_mono h27) (jm_le_tr (jm_mono hf) hle10) q723 q724 q90 q725 hd_X11_leftBy.2 ⟨Nat.le_of_ble_eq_true rfl, Nat.le_of_ble_eq_true rfl⟩ rfl hl.1 rfl (by rw [cs_n]; exact Nat.le_of_ble_eq_true rfl) dX11_rankBy_93 (fun H locs cells slots hst => ?_)
        refine W.eq (g2 := F0 m 96 ls [.long x25]) rfl ?_
        refine lv_iload_n hx hb dX11_rankBy_96 rfl (lv_at hl 1 rfl) ?_
        obtain ⟨x28, Mm29, h30, hf⟩ := jm_bd_some hf
        refine jw_S (As := [.long x25, .int v1]) (rest := []) (jt_X11_inverse l g b N x25 v1 Mm26 Mm29 x28 h30) C0 hK hst (jm_mono h30) (jm_le_tr (jm_mono hf) hle10) q726 q727 q90 q728 hd_X11_inverse.2 ⟨Nat.le_of_ble_eq_true rfl, Nat.le_of_ble_eq_true rfl⟩ rfl hl.1 rfl (by rw [cs_n]; exact Nat.le_of_ble_eq_true rfl) dX11_rankBy_97 (fun H locs cells slots hst => ?_)
        refine W.eq (g2 := F0 m 100 ls [.long x28]) rfl ?_
        refine lv_lstore (i := 6) (lv' := [(6, .long x28), (0, va_rf (some a0)), (1, .int v1), (2, va_rf v2), (3, .int v3), (4, .int v4), (5, .int v5)]) hx hb dX11_rankBy_100 hl (by decide) rfl (fun ls hl => ?_)
        refine lv_iload_n hx hb dX11_rankBy_102 rfl (lv_at hl 4 rfl) ?_
        refine lv_iconst (v := 1) hx hb dX11_rankBy_103 (by decide) ?_
        refine lv_iadd hx hb dX11_rankBy_104 ?_
        refine lv_istore (i := 8) (lv' := [(8, .int (v3 + (1 : Int32))), (6, .long x28), (0, va_rf (some a0)), (1, .int v1), (2, va_rf v2), (3, .int v3), (4, .int v4), (5, .int v5)]) hx hb dX11_rankBy_105 hl (by decide) rfl (fun ls hl => ?_)
        obtain ⟨xl107, Ml107, hit107, hf⟩ := jm_bd_some hf
        have hlf107 : jm_le Ml107 M' := jm_le_tr (jm_mono hf) hle10
        have hwe107 : (fun (y : Unit) (Mz : Mem) => ∀ (H : Heap) (locs : List Loc) (cells slots : Nat) (ls : Array Slot), jm_St g b M M' Mz s (jm_rm 3 64 M M') H locs cells slots → lv_has ls 12 [(0, va_rf (some a0)), (1, .int v1), (2, va_rf v2), (3, .int v3), (4, .int v4)] → W p l e (jm_rm 3 64 M M') s m args below meth c H locs cells slots (jm_MQ below g b (some (.int r)) M M' args s) (F0 m 200 ls [])) xl107 Ml107 := fun H locs cells slots ls hst hl => K107_200 v3 v4 _ hf H locs cells slots ls hst hl
        refine jm_it_walk (Mf := M') (Wh := fun (z : Int32) (Mz : Mem) => ∀ (H : Heap) (locs : List Loc) (cells slots : Nat) (ls : Array Slot), jm_St g b M M' Mz s (jm_rm 3 64 M M') H locs cells slots → lv_has ls 12 [(0, va_rf (some a0)), (1, .int v1), (2, va_rf v2), (3, .int v3), (4, .int v4), (6, .long x28), (8, .int z)] → W p l e (jm_rm 3 64 M M') s m args below meth c H locs cells slots (jm_MQ below g b (some (.int r)) M M' args s) (F0 m 107 ls [])) (We := fun (y : Unit) (Mz : Mem) => ∀ (H : Heap) (locs : List Loc) (cells slots : Nat) (ls : Array Slot), jm_St g b M M' Mz s (jm_rm 3 64 M M') H locs cells slots → lv_has ls 12 [(0, va_rf (some a0)), (1, .int v1), (2, va_rf v2), (3, .int v3), (4, .int v4)] → W p l e (jm_rm 3 64 M M') s m args below meth c H locs cells slots (jm_MQ below g b (some (.int r)) M M' args s) (F0 m 200 ls [])) ?_ N (v3 + (1 : Int32)) Mm29 xl107 Ml107 hit107 hlf107 hwe107 _ _ _ _ _ hst (lv_sub hl [2, 3, 4, 5, 6, 1, 0] rfl)
        intro v8 Mm71 xe107 Me107 hf hle107 hk107 H locs cells slots ls hst hl
        have hf : (jf_X11_rankBy_L107 N a0 v1 v2 v3 v4 x28 v8).1 Mm71 = some (xe107, Me107) := hf
        have hl : lv_has ls 12 [(0, va_rf (some a0)), (1, .int v1), (2, va_rf v2), (3, .int v3), (4, .int v4), (6, .long x28), (8, .int v8)] := hl
        exact B107 a0 v1 v2 v3 v4 x28 v8 _ _ _ hf hle107 hk107 _ _ _ _ _ hst (lv_sub hl [0, 1, 2, 3, 4, 5, 6] rfl)
      · rw [if_pos hc] at hf
        refine lv_goto (tgt := 203) hx hb dX11_rankBy_73 (by decide) ?_
        exact J203 v3 v4 _ hf _ _ _ _ _ hst (lv_sub hl [0, 1, 2, 3, 4] rfl)
    have B30 : ∀ (a0 : Nat) (v1 : Int32) (v2 : Option Nat) (v3 : Int32) (v4 : Int32) (v5 : Int32) (Mm77 : Mem) (xe30 : (Int32 ⊕ Int32)) (Me30 : Mem), (jf_X11_rankBy_L30 N a0 v1 v2 v3 v4 v5).1 Mm77 = some (xe30, Me30) → jm_le Me30 M' → (jm_or (fun (z : Int32) => ∀ (H : Heap) (locs : List Loc) (cells slots : Nat) (ls : Array Slot), jm_St g b M M' Me30 s (jm_rm 3 64 M M') H locs cells slots → lv_has ls 12 [(0, va_rf (some a0)), (1, .int v1), (2, va_rf v2), (3, .int v3), (4, .int v4), (5, .int z)] → W p l e (jm_rm 3 64 M M') s m args below meth c H locs cells slots (jm_MQ below g b (some (.int r)) M M' args s) (F0 m 30 ls [])) (fun (y : Int32) => ∀ (H : Heap) (locs : List Loc) (cells slots : Nat) (ls : Array Slot), jm_St g b M M' Me30 s (jm_rm 3 64 M M') H locs cells slots → lv_has ls 12 [(0, va_rf (some a0)), (1, .int v1), (2, va_rf v2), (3, .int v3), (4, .int v4), (5, .int y)] → W p l e (jm_rm 3 64 M M') s m args below meth c H locs cells slots (jm_MQ below g b (some (.int r)) M M' args s) (F0 m 64 ls [])) xe30) → ∀ (H : Heap) (locs : List Loc) (cells slots : Nat) (ls : Array Slot), jm_St g b M M' Mm77 s (jm_rm 3 64 M M') H locs cells slots → lv_has ls 12 [(0, va_rf (some a0)), (1, .int v1), (2, va_rf v2), (3, .int v3), (4, .int v4), (5, .int v5)] → W p l e (jm_rm 3 64 M M') s m args below meth c H locs cells slots (jm_MQ below g b (some (.int r)) M M' args s) (F0 m 30 ls []) := by
      intro a0 v1 v2 v3 v4 v5 Mm77 xe30 Me30 hf hle30 hk30
      intro H locs cells slots ls hst hl
      unfold jf_X11_rankBy_L30 at hf
      refine lv_iload hx hb dX11_rankBy_30 (lv_at hl 5 rfl) ?_
      refine jw_aload_n (r := (some a0)) hx hb dX11_rankBy_32 rfl (lv_at hl 0 rfl) ?_
      obtain ⟨x78, h79, hf⟩ := jm_rd_some hf
      refine jw_getI hx hb hts hown hK hst (fl_X11_9 hts hK) h79 dX11_rankBy_33 ?_
      refine lv_icmp_ge (tgt := 64) hx hb dX11_rankBy_36 (by decide) (fun hc => ?_) (fun hc => ?_)
      · rw [if_pos hc] at hf
        obtain ⟨rfl, rfl⟩ := jm_ret_some hf
        exact jm_or_r hk30 _ _ _ _ _ hst (lv_sub hl [0, 1, 2, 3, 4, 5] rfl)
      · rw [if_neg hc] at hf
        refine jw_aload_n (r := v2) hx hb dX11_rankBy_39 rfl (lv_at hl 2 rfl) ?_
        obtain ⟨x80, h81, hf⟩ := jm_rd_some hf
        refine jw_getR hx hb hts hown hK hst (fl_X11_20 hts hK) h81 dX11_rankBy_40 ?_
        refine lv_iload hx hb dX11_rankBy_43 (lv_at hl 5 rfl) ?_
        obtain ⟨x82, h83, hf⟩ := jm_rd_some hf
        refine jw_aald hx hb hK hst (show jm_ty[13]? = some (.array .long) from rfl) rfl h83 dX11_rankBy_45 ?_
        refine lv_iload hx hb dX11_rankBy_46 (lv_at hl 4 rfl) ?_
        obtain ⟨x84, h85, hf⟩ := jm_rd_some hf
        refine jw_lald hx hb hK hst h85 dX11_rankBy_48 ?_
        refine lv_iload_n hx hb dX11_rankBy_49 rfl (lv_at hl 1 rfl) ?_
        obtain ⟨x86, Mm87, h88, hf⟩ := jm_bd_some hf
        refine jw_S (As := [.long x84, .int v1]) (rest := []) (jt_X11_leftBy l g b N x84 v1 Mm77 Mm87 x86 h88) C0 hK hst (jm_mono h88) (jm_le_tr (jm_mono hf) hle30) q723 q724 q90 q725 hd_X11_leftBy.2 ⟨Nat.le_of_ble_eq_true rfl, Nat.le_of_ble_eq_true rfl⟩ rfl hl.1 rfl (by rw [cs_n]; exact Nat.le_of_ble_eq_true rfl) dX11_rankBy_50 (fun H locs cells slots hst => ?_)
        refine W.eq (g2 := F0 m 53 ls [.long x86]) rfl ?_
        refine lv_lconst (v := 0) hx hb dX11_rankBy_53 (by decide) ?_
        refine W.lcmp hx hb dX11_rankBy_54 ?_
        refine lv_if_ne (tgt := 64) hx hb dX11_rankBy_55 (by decide) (fun hc => ?_) (fun hc => ?_)
        · replace hc := fun q => hc ((lg_cmp_eq _ _).mpr q)
          rw [if_neg hc] at hf
          obtain ⟨rfl, rfl⟩ := jm_ret_some hf
          exact jm_or_r hk30 _ _ _ _ _ hst (lv_sub hl [0, 1, 2, 3, 4, 5] rfl)
        · replace hc := (lg_cmp_eq _ _).mp hc
          rw [if_pos hc] at hf
          refine lv_iinc (i := 5) (v := (v5 + 1)) (lv' := [(5, .int (v5 + 1)), (0, va_rf (some a0)), (1, .int v1), (2, va_rf v2), (3, .int v3), (4, .int v4)]) hx hb dX11_rankBy_58 hl (k := 5) rfl (by rfl) (by decide) rfl (fun ls hl => ?_)
          refine lv_goto (tgt := 30) hx hb dX11_rankBy_61 (by decide) ?_
          obtain ⟨rfl, rfl⟩ := jm_ret_some hf
          exact jm_or_l hk30 _ _ _ _ _ hst (lv_sub hl [1, 2, 3, 4, 5, 0] rfl)
    intro H locs cells slots ls hst hl
    unfold jf_X11_rankBy_L10 at hf
    refine lv_iload hx hb dX11_rankBy_10 (lv_at hl 4 rfl) ?_
    refine jw_aload_n (r := (some a0)) hx hb dX11_rankBy_12 rfl (lv_at hl 0 rfl) ?_
    obtain ⟨x73, h74, hf⟩ := jm_rd_some hf
    refine jw_getI hx hb hts hown hK hst (fl_X11_15 hts hK) h74 dX11_rankBy_13 ?_
    refine lv_icmp_ge (tgt := 209) hx hb dX11_rankBy_16 (by decide) (fun hc => ?_) (fun hc => ?_)
    · rw [if_pos hc] at hf
      obtain ⟨rfl, rfl⟩ := jm_ret_some hf
      exact jm_or_r hk10 _ _ _ _ _ hst (lv_sub hl [3] rfl)
    · rw [if_neg hc] at hf
      refine lv_iload_n hx hb dX11_rankBy_19 rfl (lv_at hl 3 rfl) ?_
      refine jw_aload_n (r := (some a0)) hx hb dX11_rankBy_20 rfl (lv_at hl 0 rfl) ?_
      obtain ⟨x75, h76, hf⟩ := jm_rd_some hf
      refine jw_getI hx hb hts hown hK hst (fl_X11_9 hts hK) h76 dX11_rankBy_21 ?_
      refine lv_icmp_ge (tgt := 209) hx hb dX11_rankBy_24 (by decide) (fun hc => ?_) (fun hc => ?_)
      · rw [if_pos hc] at hf
        obtain ⟨rfl, rfl⟩ := jm_ret_some hf
        exact jm_or_r hk10 _ _ _ _ _ hst (lv_sub hl [3] rfl)
      · rw [if_neg hc] at hf
        refine lv_iload_n hx hb dX11_rankBy_27 rfl (lv_at hl 3 rfl) ?_
        refine lv_istore (i := 5) (lv' := [(5, .int v3), (0, va_rf (some a0)), (1, .int v1), (2, va_rf v2), (3, .int v3), (4, .int v4)]) hx hb dX11_rankBy_28 hl (by decide) rfl (fun ls hl => ?_)
        obtain ⟨xl30, Ml30, hit30, hf⟩ := jm_bd_some hf
        have hlf30 : jm_le Ml30 M' := jm_le_tr (jm_mono hf) hle10
        have hwe30 : (fun (y : Int32) (Mz : Mem) => ∀ (H : Heap) (locs : List Loc) (cells slots : Nat) (ls : Array Slot), jm_St g b M M' Mz s (jm_rm 3 64 M M') H locs cells slots → lv_has ls 12 [(0, va_rf (some a0)), (1, .int v1), (2, va_rf v2), (3, .int v3), (4, .int v4), (5, .int y)] → W p l e (jm_rm 3 64 M M') s m args below meth c H locs cells slots (jm_MQ below g b (some (.int r)) M M' args s) (F0 m 64 ls [])) xl30 Ml30 := fun H locs cells slots ls hst hl => K30_64 v3 v4 xl30 _ hf H locs cells slots ls hst hl
        refine jm_it_walk (Mf := M') (Wh := fun (z : Int32) (Mz : Mem) => ∀ (H : Heap) (locs : List Loc) (cells slots : Nat) (ls : Array Slot), jm_St g b M M' Mz s (jm_rm 3 64 M M') H locs cells slots → lv_has ls 12 [(0, va_rf (some a0)), (1, .int v1), (2, va_rf v2), (3, .int v3), (4, .int v4), (5, .int z)] → W p l e (jm_rm 3 64 M M') s m args below meth c H locs cells slots (jm_MQ below g b (some (.int r)) M M' args s) (F0 m 30 ls [])) (We := fun (y : Int32) (Mz : Mem) => ∀ (H : Heap) (locs : List Loc) (cells slots : Nat) (ls : Array Slot), jm_St g b M M' Mz s (jm_rm 3 64 M M') H locs cells slots → lv_has ls 12 [(0, va_rf (some a0)), (1, .int v1), (2, va_rf v2), (3, .int v3), (4, .int v4), (5, .int y)] → W p l e (jm_rm 3 64 M M') s m args below meth c H locs cells slots (jm_MQ below g b (some (.int r)) M M' args s) (F0 m 64 ls [])) ?_ N v3 Mm72 xl30 Ml30 hit30 hlf30 hwe30 _ _ _ _ _ hst (lv_sub hl [1, 2, 3, 4, 5, 0] rfl)
        intro v5 Mm89 xe30 Me30 hf hle30 hk30 H locs cells slots ls hst hl
        have hf : (jf_X11_rankBy_L30 N a0 v1 v2 v3 v4 v5).1 Mm89 = some (xe30, Me30) := hf
        have hl : lv_has ls 12 [(0, va_rf (some a0)), (1, .int v1), (2, va_rf v2), (3, .int v3), (4, .int v4), (5, .int v5)] := hl
        exact B30 a0 v1 v2 v3 v4 v5 _ _ _ hf hle30 hk30 _ _ _ _ _ hst (lv_sub hl [0, 1, 2, 3, 4, 5] rfl)
  unfold jf_X11_rankBy at hf
  refine jw_aload_n (r := (some a0)) hx hb dX11_rankBy_0 rfl (lv_at hl 0 rfl) ?_
  obtain ⟨a5, h6, hf⟩ := jm_rd_some hf
  obtain ⟨fsa5, hea5, hr7⟩ := jm_cl_some h6
  obtain ⟨x2, Mm3, h4, hf⟩ := jm_bd_some hf
  refine jw_V (As := []) (rest := []) (C := RX11) (T := TX11) (N := 3) (rv := (some a0)) (jt_X11_like l g b N a5  M Mm3 x2 h4) C0 hK hst (jm_mono h4) (jm_le_tr (jm_mono hf) jm_le_rf) q666 q667 q668 q90 q669 hd_X11_like ⟨Nat.le_of_ble_eq_true rfl, Nat.le_of_ble_eq_true rfl⟩ hea5 hr7 rfl rfl hl.1 rfl (by rw [cs_n]; exact Nat.le_of_ble_eq_true rfl) dX11_rankBy_1 (fun H locs cells slots hst => ?_)
  refine W.eq (g2 := F0 m 4 ls [va_rf x2]) rfl ?_
  refine jw_astore_n (i := 2) (r := x2) (lv' := [(2, va_rf x2), (0, va_rf (some a0)), (1, .int v1)]) hx hb dX11_rankBy_4 rfl hl (by decide) rfl (fun ls hl => ?_)
  refine lv_iconst (v := 0) hx hb dX11_rankBy_5 (by decide) ?_
  refine lv_istore_n (i := 3) (lv' := [(3, .int (0 : Int32)), (2, va_rf x2), (0, va_rf (some a0)), (1, .int v1)]) hx hb dX11_rankBy_6 rfl hl (by decide) (by simp [va_rf_cat, cat_i, cat_j, cat_f]) (fun ls hl => ?_)
  refine lv_iconst (v := 0) hx hb dX11_rankBy_7 (by decide) ?_
  refine lv_istore (i := 4) (lv' := [(4, .int (0 : Int32)), (3, .int (0 : Int32)), (2, va_rf x2), (0, va_rf (some a0)), (1, .int v1)]) hx hb dX11_rankBy_8 hl (by decide) rfl (fun ls hl => ?_)
  obtain ⟨xl10, Ml10, hit10, hf⟩ := jm_bd_some hf
  have hlf10 : jm_le Ml10 M' := jm_le_tr (jm_mono hf) jm_le_rf
  have hwe10 : (fun (y : Int32) (Mz : Mem) => ∀ (H : Heap) (locs : List Loc) (cells slots : Nat) (ls : Array Slot), jm_St g b M M' Mz s (jm_rm 3 64 M M') H locs cells slots → lv_has ls 12 [(3, .int y)] → W p l e (jm_rm 3 64 M M') s m args below meth c H locs cells slots (jm_MQ below g b (some (.int r)) M M' args s) (F0 m 209 ls [])) xl10 Ml10 := fun H locs cells slots ls hst hl => K10_209 xl10 _ hf H locs cells slots ls hst hl
  refine jm_it_walk (Mf := M') (Wh := fun (z : Int32 × Int32) (Mz : Mem) => ∀ (H : Heap) (locs : List Loc) (cells slots : Nat) (ls : Array Slot), jm_St g b M M' Mz s (jm_rm 3 64 M M') H locs cells slots → lv_has ls 12 [(0, va_rf (some a0)), (1, .int v1), (2, va_rf x2), (3, .int z.1), (4, .int z.2)] → W p l e (jm_rm 3 64 M M') s m args below meth c H locs cells slots (jm_MQ below g b (some (.int r)) M M' args s) (F0 m 10 ls [])) (We := fun (y : Int32) (Mz : Mem) => ∀ (H : Heap) (locs : List Loc) (cells slots : Nat) (ls : Array Slot), jm_St g b M M' Mz s (jm_rm 3 64 M M') H locs cells slots → lv_has ls 12 [(3, .int y)] → W p l e (jm_rm 3 64 M M') s m args below meth c H locs cells slots (jm_MQ below g b (some (.int r)) M M' args s) (F0 m 209 ls [])) ?_ N ((0 : Int32), (0 : Int32)) Mm3 xl10 Ml10 hit10 hlf10 hwe10 _ _ _ _ _ hst (lv_sub hl [3, 4, 2, 1, 0] rfl)
  intro z Mm90 xe10 Me10 hf hle10 hk10 H locs cells slots ls hst hl
  obtain ⟨v3, v4⟩ := z
  have hf : (jf_X11_rankBy_L10 N a0 v1 x2 v3 v4).1 Mm90 = some (xe10, Me10) := hf
  have hl : lv_has ls 12 [(0, va_rf (some a0)), (1, .int v1), (2, va_rf x2), (3, .int v3), (4, .int v4)] := hl
  exact B10 a0 v1 x2 v3 v4 _ _ _ hf hle10 hk10 _ _ _ _ _ hst (lv_sub hl [0, 1, 2, 3, 4] rfl)
theorem hd_J6_bitCount : yJ6_bitCount.cls = RJ6 ∧ yJ6_bitCount.cls ≠ "java/lang/invoke/MethodHandle" ∧ yJ6_bitCount.cls ≠ "java/lang/invoke/VarHandle" ∧ (parseMethodDescriptor yJ6_bitCount.desc).map (fun d => d.parameters.length) = some 1 := by decide +kernel
theorem hd_X0_has : yX0_has.cls = RX0 ∧ yX0_has.cls ≠ "java/lang/invoke/MethodHandle" ∧ yX0_has.cls ≠ "java/lang/invoke/VarHandle" ∧ (parseMethodDescriptor yX0_has.desc).map (fun d => d.parameters.length) = some 2 := by decide +kernel
def jf_X11_some_k21_88 (N : Nat) (v2 : Option Nat) : jm_P (Option Nat) :=
  jm_ret v2
def jf_X11_some_j82 (N : Nat) (a0 : Nat) (v1 : Int32) (v2 : Option Nat) (v3 : Int32) (v4 : Int32) : jm_P ((Int32 × Int32) ⊕ Unit) :=
  jm_ret (.inl (v3, (v4 + 1)))
def jf_X11_some_k45_79 (N : Nat) (a0 : Nat) (v1 : Int32) (v2 : Option Nat) (v3 : Int32) (v4 : Int32) : jm_P ((Int32 × Int32) ⊕ Unit) :=
  jf_X11_some_j82 N a0 v1 v2 (v3 + 1) v4
def jf_X11_some_L45 (N : Nat) (a0 : Nat) (v1 : Int32) (v2 : Option Nat) (v3 : Int32) (v4 : Int32) (v5 : Int32) : jm_P (Int32 ⊕ Unit) :=
  jm_rd (jm_fI [11] 1 (some a0)) fun x21 =>
  if x21 ≤ v5 then (
    jm_ret (.inr ()))
  else
    jm_rd (jm_fR [11] 0 v2) fun x23 =>
    jm_rd (jm_ldR 13 x23 v5) fun x25 =>
    jm_rd (jm_fR [11] 0 (some a0)) fun x27 =>
    jm_rd (jm_ldR 13 x27 v5) fun x29 =>
    jm_rd (jm_ldJ 2 x29 v4) fun x31 =>
    jm_wr (jm_stJ 2 x25 v3 x31) <|
    jm_ret (.inl (v5 + 1))
def jf_X11_some_L21 (N : Nat) (a0 : Nat) (v1 : Int32) (v2 : Option Nat) (v3 : Int32) (v4 : Int32) : jm_P ((Int32 × Int32) ⊕ Unit) :=
  jm_rd (jm_fI [11] 2 (some a0)) fun x15 =>
  if x15 ≤ v4 then (
    jm_ret (.inr ()))
  else
    jm_bd (jf_X0_has N v1 v4) fun x17 =>
    if x17 = 0 then (
      jf_X11_some_j82 N a0 v1 v2 v3 v4)
    else
      jm_bd (jm_it (fun z => jf_X11_some_L45 N a0 v1 v2 v3 v4 z) N (0 : Int32)) fun y =>
      jf_X11_some_k45_79 N a0 v1 v2 v3 v4
def jf_X11_some (N : Nat) (a0 : Nat) (v1 : Int32) : jm_P (Option Nat) :=
  jm_al (.inr (11, [.null, .int 0, .int 0])) fun q2 =>
  jm_rd (jm_fI [11] 1 (some a0)) fun x4 =>
  jm_bd (jf_J6_bitCount N v1) fun x6 =>
  jm_bd (jf_X11_init N q2 x4 x6) fun x9 =>
  jm_bd (jm_it (fun z => jf_X11_some_L21 N a0 v1 (some q2) z.1 z.2) N ((0 : Int32), (0 : Int32))) fun y =>
  jf_X11_some_k21_88 N (some q2)
set_option maxHeartbeats 4000000 in
set_option maxRecDepth 100000 in
theorem jt_X11_some (l : Launch) (g : GD) (b N : Nat) (a0 : Nat) (v1 : Int32) (M M' : Mem) (r : (Option Nat)) (hf : (jf_X11_some N a0 v1).1 M = some (r, M')) : jm_Met l g b yX11_some (ws_ yX11_some cX11_some 6 (some (.object "ChainParts$Table"))) 2 42 [va_rf (some a0), .int v1] M M' (some (va_rf r)) := by
  refine jm_start (by decide) (jm_mono hf) (by rw [lg_sl_r, lg_sl_i, lg_sl_n]; exact Nat.le_of_ble_eq_true rfl) ?_
  intro p e s m args below meth c ls C0 hin hK hst hl
  obtain ⟨hx, hb, hml, hown, hts, hr, hlk⟩ := id C0
  have hown : s.vm.findClass RX11 = some m.cls := hown
  have C0 : jm_Cx p s m args meth c cX11_some 6 (some (.object "ChainParts$Table")) RX11 := C0
  rw [lv_args_r, lv_args_i, lv_args_n] at hl
  have hl : lv_has ls 6 [(0, va_rf (some a0)), (1, .int v1)] := hl
  have K21_88 : ∀ (v2 : Option Nat) (Mm1 : Mem), (jf_X11_some_k21_88 N v2).1 Mm1 = some (r, M') → ∀ (H : Heap) (locs : List Loc) (cells slots : Nat) (ls : Array Slot), jm_St g b M M' Mm1 s (jm_rm 2 42 M M') H locs cells slots → lv_has ls 6 [(2, va_rf v2)] → W p l e (jm_rm 2 42 M M') s m args below meth c H locs cells slots (jm_MQ below g b (some (va_rf r)) M M' args s) (F0 m 88 ls []) := by
    intro v2 Mm1 hf H locs cells slots ls hst hl
    unfold jf_X11_some_k21_88 at hf
    refine jw_aload_n (r := v2) hx hb dX11_some_88 rfl (lv_at hl 0 rfl) ?_
    obtain ⟨rfl, rfl⟩ := jm_ret_some hf
    exact jw_aret C0 (Or.inl ⟨_, rfl⟩) hst dX11_some_89
  have B21 : ∀ (a0 : Nat) (v1 : Int32) (v2 : Option Nat) (v3 : Int32) (v4 : Int32) (Mm14 : Mem) (xe21 : ((Int32 × Int32) ⊕ Unit)) (Me21 : Mem), (jf_X11_some_L21 N a0 v1 v2 v3 v4).1 Mm14 = some (xe21, Me21) → jm_le Me21 M' → (jm_or (fun (z : Int32 × Int32) => ∀ (H : Heap) (locs : List Loc) (cells slots : Nat) (ls : Array Slot), jm_St g b M M' Me21 s (jm_rm 2 42 M M') H locs cells slots → lv_has ls 6 [(0, va_rf (some a0)), (1, .int v1), (2, va_rf v2), (3, .int z.1), (4, .int z.2)] → W p l e (jm_rm 2 42 M M') s m args below meth c H locs cells slots (jm_MQ below g b (some (va_rf r)) M M' args s) (F0 m 21 ls [])) (fun (y : Unit) => ∀ (H : Heap) (locs : List Loc) (cells slots : Nat) (ls : Array Slot), jm_St g b M M' Me21 s (jm_rm 2 42 M M') H locs cells slots → lv_has ls 6 [(2, va_rf v2)] → W p l e (jm_rm 2 42 M M') s m args below meth c H locs cells slots (jm_MQ below g b (some (va_rf r)) M M' args s) (F0 m 88 ls [])) xe21) → ∀ (H : Heap) (locs : List Loc) (cells slots : Nat) (ls : Array Slot), jm_St g b M M' Mm14 s (jm_rm 2 42 M M') H locs cells slots → lv_has ls 6 [(0, va_rf (some a0)), (1, .int v1), (2, va_rf v2), (3, .int v3), (4, .int v4)] → W p l e (jm_rm 2 42 M M') s m args below meth c H locs cells slots (jm_MQ below g b (some (va_rf r)) M M' args s) (F0 m 21 ls []) := by
    intro a0 v1 v2 v3 v4 Mm14 xe21 Me21 hf hle21 hk21
    have J82 : ∀ (v3 : Int32) (v4 : Int32) (Mm12 : Mem), (jf_X11_some_j82 N a0 v1 v2 v3 v4).1 Mm12 = some (xe21, Me21) → ∀ (H : Heap) (locs : List Loc) (cells slots : Nat) (ls : Array Slot), jm_St g b M M' Mm12 s (jm_rm 2 42 M M') H locs cells slots → lv_has ls 6 [(0, va_rf (some a0)), (1, .int v1), (2, va_rf v2), (3, .int v3), (4, .int v4)] → W p l e (jm_rm 2 42 M M') s m args below meth c H locs cells slots (jm_MQ below g b (some (va_rf r)) M M' args s) (F0 m 82 ls []) := by
      intro v3 v4 Mm12 hf H locs cells slots ls hst hl
      unfold jf_X11_some_j82 at hf
      refine lv_iinc (i := 4) (v := (v4 + 1)) (lv' := [(4, .int (v4 + 1)), (0, va_rf (some a0)), (1, .int v1), (2, va_rf v2), (3, .int v3)]) hx hb dX11_some_82 hl (k := 4) rfl (by rfl) (by decide) rfl (fun ls hl => ?_)
      refine lv_goto (tgt := 21) hx hb dX11_some_85 (by decide) ?_
      obtain ⟨rfl, rfl⟩ := jm_ret_some hf
      exact jm_or_l hk21 _ _ _ _ _ hst (lv_sub hl [1, 2, 3, 4, 0] rfl)
    have K45_79 : ∀ (v3 : Int32) (v4 : Int32) (Mm13 : Mem), (jf_X11_some_k45_79 N a0 v1 v2 v3 v4).1 Mm13 = some (xe21, Me21) → ∀ (H : Heap) (locs : List Loc) (cells slots : Nat) (ls : Array Slot), jm_St g b M M' Mm13 s (jm_rm 2 42 M M') H locs cells slots → lv_has ls 6 [(0, va_rf (some a0)), (1, .int v1), (2, va_rf v2), (3, .int v3), (4, .int v4)] → W p l e (jm_rm 2 42 M M') s m args below meth c H locs cells slots (jm_MQ below g b (some (va_rf r)) M M' args s) (F0 m 79 ls []) := by
      intro v3 v4 Mm13 hf H locs cells slots ls hst hl
      unfold jf_X11_some_k45_79 at hf
      refine lv_iinc (i := 3) (v := (v3 + 1)) (lv' := [(3, .int (v3 + 1)), (0, va_rf (some a0)), (1, .int v1), (2, va_rf v2), (4, .int v4)]) hx hb dX11_some_79 hl (k := 3) rfl (by rfl) (by decide) (by simp [va_rf_cat, cat_i, cat_j, cat_f]) (fun ls hl => ?_)
      exact J82 (v3 + 1) v4 _ hf _ _ _ _ _ hst (lv_sub hl [1, 2, 3, 0, 4] rfl)
    have B45 : ∀ (a0 : Nat) (v1 : Int32) (v2 : Option Nat) (v3 : Int32) (v4 : Int32) (v5 : Int32) (Mm20 : Mem) (xe45 : (Int32 ⊕ Unit)) (Me45 : Mem), (jf_X11_some_L45 N a0 v1 v2 v3 v4 v5).1 Mm20 = some (xe45, Me45) → jm_le Me45 M' → (jm_or (fun (z : Int32) => ∀ (H : Heap) (locs : List Loc) (cells slots : Nat) (ls : Array Slot), jm_St g b M M' Me45 s (jm_rm 2 42 M M') H locs cells slots → lv_has ls 6 [(0, va_rf (some a0)), (1, .int v1), (2, va_rf v2), (3, .int v3), (4, .int v4), (5, .int z)] → W p l e (jm_rm 2 42 M M') s m args below meth c H locs cells slots (jm_MQ below g b (some (va_rf r)) M M' args s) (F0 m 45 ls [])) (fun (y : Unit) => ∀ (H : Heap) (locs : List Loc) (cells slots : Nat) (ls : Array Slot), jm_St g b M M' Me45 s (jm_rm 2 42 M M') H locs cells slots → lv_has ls 6 [(0, va_rf (some a0)), (1, .int v1), (2, va_rf v2), (3, .int v3), (4, .int v4)] → W p l e (jm_rm 2 42 M M') s m args below meth c H locs cells slots (jm_MQ below g b (some (va_rf r)) M M' args s) (F0 m 79 ls [])) xe45) → ∀ (H : Heap) (locs : List Loc) (cells slots : Nat) (ls : Array Slot), jm_St g b M M' Mm20 s (jm_rm 2 42 M M') H locs cells slots → lv_has ls 6 [(0, va_rf (some a0)), (1, .int v1), (2, va_rf v2), (3, .int v3), (4, .int v4), (5, .int v5)] → W p l e (jm_rm 2 42 M M') s m args below meth c H locs cells slots (jm_MQ below g b (some (va_rf r)) M M' args s) (F0 m 45 ls []) := by
      intro a0 v1 v2 v3 v4 v5 Mm20 xe45 Me45 hf hle45 hk45
      intro H locs cells slots ls hst hl
      unfold jf_X11_some_L45 at hf
      refine lv_iload hx hb dX11_some_45 (lv_at hl 5 rfl) ?_
      refine jw_aload_n (r := (some a0)) hx hb dX11_some_47 rfl (lv_at hl 0 rfl) ?_
      obtain ⟨x21, h22, hf⟩ := jm_rd_some hf
      refine jw_getI hx hb hts hown hK hst (fl_X11_9 hts hK) h22 dX11_some_48 ?_
      refine lv_icmp_ge (tgt := 79) hx hb dX11_some_51 (by decide) (fun hc => ?_) (fun hc => ?_)
      · rw [if_pos hc] at hf
        obtain ⟨rfl, rfl⟩ := jm_ret_some hf
        exact jm_or_r hk45 _ _ _ _ _ hst (lv_sub hl [0, 1, 2, 3, 4] rfl)
      · rw [if_neg hc] at hf
        refine jw_aload_n (r := v2) hx hb dX11_some_54 rfl (lv_at hl 2 rfl) ?_
        obtain ⟨x23, h24, hf⟩ := jm_rd_some hf
        refine jw_getR hx hb hts hown hK hst (fl_X11_20 hts hK) h24 dX11_some_55 ?_
        refine lv_iload hx hb dX11_some_58 (lv_at hl 5 rfl) ?_
        obtain ⟨x25, h26, hf⟩ := jm_rd_some hf
        refine jw_aald hx hb hK hst (show jm_ty[13]? = some (.array .long) from rfl) rfl h26 dX11_some_60 ?_
        refine lv_iload_n hx hb dX11_some_61 rfl (lv_at hl 3 rfl) ?_
        refine jw_aload_n (r := (some a0)) hx hb dX11_some_62 rfl (lv_at hl 0 rfl) ?_
        obtain ⟨x27, h28, hf⟩ := jm_rd_some hf
        refine jw_getR hx hb hts hown hK hst (fl_X11_20 hts hK) h28 dX11_some_63 ?_
        refine lv_iload hx hb dX11_some_66 (lv_at hl 5 rfl) ?_
        obtain ⟨x29, h30, hf⟩ := jm_rd_some hf
        refine jw_aald hx hb hK hst (show jm_ty[13]? = some (.array .long) from rfl) rfl h30 dX11_some_68 ?_
        refine lv_iload hx hb dX11_some_69 (lv_at hl 4 rfl) ?_
        obtain ⟨x31, h32, hf⟩ := jm_rd_some hf
        refine jw_lald hx hb hK hst h32 dX11_some_71 ?_
        obtain ⟨F33, h34, hf⟩ := jm_wr_some hf
        refine jw_last (r := x25) hx hb hK hst h34 dX11_some_72 (fun H locs hst => ?_)
        generalize ((Mm20.1, Mm20.2.1, F33) : Mem) = Mm35 at hf hst
        refine lv_iinc (i := 5) (v := (v5 + 1)) (lv' := [(5, .int (v5 + 1)), (0, va_rf (some a0)), (1, .int v1), (2, va_rf v2), (3, .int v3), (4, .int v4)]) hx hb dX11_some_73 hl (k := 5) rfl (by rfl) (by decide) rfl (fun ls hl => ?_)
        refine lv_goto (tgt := 45) hx hb dX11_some_76 (by decide) ?_
        obtain ⟨rfl, rfl⟩ := jm_ret_some hf
        exact jm_or_l hk45 _ _ _ _ _ hst (lv_sub hl [1, 2, 3, 4, 5, 0] rfl)
    intro H locs cells slots ls hst hl
    unfold jf_X11_some_L21 at hf
    refine lv_iload hx hb dX11_some_21 (lv_at hl 4 rfl) ?_
    refine jw_aload_n (r := (some a0)) hx hb dX11_some_23 rfl (lv_at hl 0 rfl) ?_
    obtain ⟨x15, h16, hf⟩ := jm_rd_some hf
    refine jw_getI hx hb hts hown hK hst (fl_X11_15 hts hK) h16 dX11_some_24 ?_
    refine lv_icmp_ge (tgt := 88) hx hb dX11_some_27 (by decide) (fun hc => ?_) (fun hc => ?_)
    · rw [if_pos hc] at hf
      obtain ⟨rfl, rfl⟩ := jm_ret_some hf
      exact jm_or_r hk21 _ _ _ _ _ hst (lv_sub hl [2] rfl)
    · rw [if_neg hc] at hf
      refine lv_iload_n hx hb dX11_some_30 rfl (lv_at hl 1 rfl) ?_
      refine lv_iload hx hb dX11_some_31 (lv_at hl 4 rfl) ?_
      obtain ⟨x17, Mm18, h19, hf⟩ := jm_bd_some hf
      refine jw_SN (As := [.int v1, .int v4]) (rest := []) (jt_X0_has l g b N v1 v4 Mm14 Mm18 x17 h19) C0 hK hst (jm_mono h19) (jm_le_tr (jm_mono hf) hle21) nq757 q758 q72 q759 hd_X0_has.2 ⟨Nat.le_of_ble_eq_true rfl, Nat.le_of_ble_eq_true rfl⟩ rfl hl.1 rfl (by rw [cs_n]; exact Nat.le_of_ble_eq_true rfl) dX11_some_33 (fun H locs cells slots hst => ?_)
      refine W.eq (g2 := F0 m 36 ls [.int x17]) rfl ?_
      refine lv_if_ne (tgt := 42) hx hb dX11_some_36 (by decide) (fun hc => ?_) (fun hc => ?_)
      · rw [if_neg hc] at hf
        refine lv_iconst (v := 0) hx hb dX11_some_42 (by decide) ?_
        refine lv_istore (i := 5) (lv' := [(5, .int (0 : Int32)), (0, va_rf (some a0)), (1, .int v1), (2, va_rf v2), (3, .int v3), (4, .int v4)]) hx hb dX11_some_43 hl (by decide) rfl (fun ls hl => ?_)
        obtain ⟨xl45, Ml45, hit45, hf⟩ := jm_bd_some hf
        have hlf45 : jm_le Ml45 M' := jm_le_tr (jm_mono hf) hle21
        have hwe45 : (fun (y : Unit) (Mz : Mem) => ∀ (H : Heap) (locs : List Loc) (cells slots : Nat) (ls : Array Slot), jm_St g b M M' Mz s (jm_rm 2 42 M M') H locs cells slots → lv_has ls 6 [(0, va_rf (some a0)), (1, .int v1), (2, va_rf v2), (3, .int v3), (4, .int v4)] → W p l e (jm_rm 2 42 M M') s m args below meth c H locs cells slots (jm_MQ below g b (some (va_rf r)) M M' args s) (F0 m 79 ls [])) xl45 Ml45 := fun H locs cells slots ls hst hl => K45_79 v3 v4 _ hf H locs cells slots ls hst hl
        refine jm_it_walk (Mf := M') (Wh := fun (z : Int32) (Mz : Mem) => ∀ (H : Heap) (locs : List Loc) (cells slots : Nat) (ls : Array Slot), jm_St g b M M' Mz s (jm_rm 2 42 M M') H locs cells slots → lv_has ls 6 [(0, va_rf (some a0)), (1, .int v1), (2, va_rf v2), (3, .int v3), (4, .int v4), (5, .int z)] → W p l e (jm_rm 2 42 M M') s m args below meth c H locs cells slots (jm_MQ below g b (some (va_rf r)) M M' args s) (F0 m 45 ls [])) (We := fun (y : Unit) (Mz : Mem) => ∀ (H : Heap) (locs : List Loc) (cells slots : Nat) (ls : Array Slot), jm_St g b M M' Mz s (jm_rm 2 42 M M') H locs cells slots → lv_has ls 6 [(0, va_rf (some a0)), (1, .int v1), (2, va_rf v2), (3, .int v3), (4, .int v4)] → W p l e (jm_rm 2 42 M M') s m args below meth c H locs cells slots (jm_MQ below g b (some (va_rf r)) M M' args s) (F0 m 79 ls [])) ?_ N (0 : Int32) Mm18 xl45 Ml45 hit45 hlf45 hwe45 _ _ _ _ _ hst (lv_sub hl [1, 2, 3, 4, 5, 0] rfl)
        intro v5 Mm36 xe45 Me45 hf hle45 hk45 H locs cells slots ls hst hl
        have hf : (jf_X11_some_L45 N a0 v1 v2 v3 v4 v5).1 Mm36 = some (xe45, Me45) := hf
        have hl : lv_has ls 6 [(0, va_rf (some a0)), (1, .int v1), (2, va_rf v2), (3, .int v3), (4, .int v4), (5, .int v5)] := hl
        exact B45 a0 v1 v2 v3 v4 v5 _ _ _ hf hle45 hk45 _ _ _ _ _ hst (lv_sub hl [0, 1, 2, 3, 4, 5] rfl)
      · rw [if_pos hc] at hf
        refine lv_goto (tgt := 82) hx hb dX11_some_39 (by decide) ?_
        exact J82 v3 v4 _ hf _ _ _ _ _ hst (lv_sub hl [0, 1, 2, 3, 4] rfl)
  unfold jf_X11_some at hf
  obtain ⟨q2, hq2, hf⟩ := jm_al_some hf
  refine jw_new (ci := 11) (C := RX11) (T := TX11) (N := 3) (fs := [.null, .int 0, .int 0]) hx hb hts in_X11 tyX11 tyX11_ok hown (hts _ q652) (hts _ q616) (hts _ q90) hK hst rfl (fun j hj => by match j, hj with | 0, _ => rfl | 1, _ => rfl | 2, _ => rfl | k + 3, hj => omega) rfl (jm_le_tr (jm_mono hf) jm_le_rf) hq2 dX11_some_0 (fun H cells slots hst => ?_)
  generalize jm_new (.inr (11, [.null, .int 0, .int 0])) M = Mm3 at hf hst
  refine lv_dup hx hb dX11_some_3 (va_rf_cat _) ?_
  refine jw_aload_n (r := (some a0)) hx hb dX11_some_4 rfl (lv_at hl 0 rfl) ?_
  obtain ⟨x4, h5, hf⟩ := jm_rd_some hf
  refine jw_getI hx hb hts hown hK hst (fl_X11_9 hts hK) h5 dX11_some_5 ?_
  refine lv_iload_n hx hb dX11_some_8 rfl (lv_at hl 1 rfl) ?_
  obtain ⟨x6, Mm7, h8, hf⟩ := jm_bd_some hf
  refine jw_S (As := [.int v1]) (rest := [.int x4, va_rf (some q2), va_rf (some q2)]) (jt_J6_bitCount l g b N v1 Mm3 Mm7 x6 h8) C0 hK hst (jm_mono h8) (jm_le_tr (jm_mono hf) jm_le_rf) q751 q752 q91 q753 hd_J6_bitCount.2 ⟨Nat.le_of_ble_eq_true rfl, Nat.le_of_ble_eq_true rfl⟩ rfl hl.1 rfl (by rw [cs_i, cs_r, cs_r, cs_n]; exact Nat.le_of_ble_eq_true rfl) dX11_some_9 (fun H locs cells slots hst => ?_)
  refine W.eq (g2 := F0 m 12 ls [.int x6, .int x4, va_rf (some q2), va_rf (some q2)]) rfl ?_
  obtain ⟨x9, Mm10, h11, hf⟩ := jm_bd_some hf
  refine jw_I (As := [.int x4, .int x6]) (rest := [va_rf (some q2)]) (rv := (some q2)) (jt_X11_init l g b N q2 x4 x6 Mm7 Mm10 x9 h11) C0 hK hst (jm_mono h11) (jm_le_tr (jm_mono hf) jm_le_rf) q653 q618 q90 q619 rfl hd_X11_init.2 ⟨Nat.le_of_ble_eq_true rfl, Nat.le_of_ble_eq_true rfl⟩ rfl rfl hl.1 rfl (by rw [cs_r, cs_n]; exact Nat.le_of_ble_eq_true rfl) dX11_some_12 (fun H locs cells slots hst => ?_)
  refine W.eq (g2 := F0 m 15 ls [va_rf (some q2)]) rfl ?_
  refine jw_astore_n (i := 2) (r := (some q2)) (lv' := [(2, va_rf (some q2)), (0, va_rf (some a0)), (1, .int v1)]) hx hb dX11_some_15 rfl hl (by decide) rfl (fun ls hl => ?_)
  refine lv_iconst (v := 0) hx hb dX11_some_16 (by decide) ?_
  refine lv_istore_n (i := 3) (lv' := [(3, .int (0 : Int32)), (2, va_rf (some q2)), (0, va_rf (some a0)), (1, .int v1)]) hx hb dX11_some_17 rfl hl (by decide) (by simp [va_rf_cat, cat_i, cat_j, cat_f]) (fun ls hl => ?_)
  refine lv_iconst (v := 0) hx hb dX11_some_18 (by decide) ?_
  refine lv_istore (i := 4) (lv' := [(4, .int (0 : Int32)), (3, .int (0 : Int32)), (2, va_rf (some q2)), (0, va_rf (some a0)), (1, .int v1)]) hx hb dX11_some_19 hl (by decide) rfl (fun ls hl => ?_)
  obtain ⟨xl21, Ml21, hit21, hf⟩ := jm_bd_some hf
  have hlf21 : jm_le Ml21 M' := jm_le_tr (jm_mono hf) jm_le_rf
  have hwe21 : (fun (y : Unit) (Mz : Mem) => ∀ (H : Heap) (locs : List Loc) (cells slots : Nat) (ls : Array Slot), jm_St g b M M' Mz s (jm_rm 2 42 M M') H locs cells slots → lv_has ls 6 [(2, va_rf (some q2))] → W p l e (jm_rm 2 42 M M') s m args below meth c H locs cells slots (jm_MQ below g b (some (va_rf r)) M M' args s) (F0 m 88 ls [])) xl21 Ml21 := fun H locs cells slots ls hst hl => K21_88 (some q2) _ hf H locs cells slots ls hst hl
  refine jm_it_walk (Mf := M') (Wh := fun (z : Int32 × Int32) (Mz : Mem) => ∀ (H : Heap) (locs : List Loc) (cells slots : Nat) (ls : Array Slot), jm_St g b M M' Mz s (jm_rm 2 42 M M') H locs cells slots → lv_has ls 6 [(0, va_rf (some a0)), (1, .int v1), (2, va_rf (some q2)), (3, .int z.1), (4, .int z.2)] → W p l e (jm_rm 2 42 M M') s m args below meth c H locs cells slots (jm_MQ below g b (some (va_rf r)) M M' args s) (F0 m 21 ls [])) (We := fun (y : Unit) (Mz : Mem) => ∀ (H : Heap) (locs : List Loc) (cells slots : Nat) (ls : Array Slot), jm_St g b M M' Mz s (jm_rm 2 42 M M') H locs cells slots → lv_has ls 6 [(2, va_rf (some q2))] → W p l e (jm_rm 2 42 M M') s m args below meth c H locs cells slots (jm_MQ below g b (some (va_rf r)) M M' args s) (F0 m 88 ls [])) ?_ N ((0 : Int32), (0 : Int32)) Mm10 xl21 Ml21 hit21 hlf21 hwe21 _ _ _ _ _ hst (lv_sub hl [3, 4, 2, 1, 0] rfl)
  intro z Mm37 xe21 Me21 hf hle21 hk21 H locs cells slots ls hst hl
  obtain ⟨v3, v4⟩ := z
  have hf : (jf_X11_some_L21 N a0 v1 (some q2) v3 v4).1 Mm37 = some (xe21, Me21) := hf
  have hl : lv_has ls 6 [(0, va_rf (some a0)), (1, .int v1), (2, va_rf (some q2)), (3, .int v3), (4, .int v4)] := hl
  exact B21 a0 v1 (some q2) v3 v4 _ _ _ hf hle21 hk21 _ _ _ _ _ hst (lv_sub hl [0, 1, 2, 3, 4] rfl)
def jf_X11_twists_k55_120 (N : Nat) (v3 : Option Nat) : jm_P (Option Nat) :=
  jm_ret v3
def jf_X11_twists_k67_114 (N : Nat) (v2 : Int32) (v3 : Option Nat) (v4 : Int32) : jm_P (Int32 ⊕ Unit) :=
  jm_ret (.inl (v4 + 1))
def jf_X11_twists_L67 (N : Nat) (v2 : Int32) (v3 : Option Nat) (v4 : Int32) (v5 : Int32) : jm_P (Int32 ⊕ Unit) :=
  if v2 ≤ v5 then (
    jm_ret (.inr ()))
  else
    jm_rd (jm_ldJ 2 v3 v4) fun x6 =>
    jm_rd (jm_ldJ 2 v3 v5) fun x8 =>
    jm_bd (jf_X0_common N x6 x8) fun x10 =>
    jm_rd (jm_ldJ 2 v3 v4) fun x13 =>
    jm_rd (jm_ck (¬ x10 = 0)) fun _ =>
    jm_rd (jm_ldJ 2 v3 v5) fun x16 =>
    jm_wr (jm_stJ 2 v3 v5 ((x13 / x10) * x16)) <|
    jm_wr (jm_stJ 2 v3 v4 x10) <|
    jm_ret (.inl (v5 + 1))
def jf_X11_twists_L55 (N : Nat) (v2 : Int32) (v3 : Option Nat) (v4 : Int32) : jm_P (Int32 ⊕ Unit) :=
  if v2 ≤ v4 then (
    jm_ret (.inr ()))
  else
    jm_bd (jm_it (fun z => jf_X11_twists_L67 N v2 v3 v4 z) N (v4 + (1 : Int32))) fun y =>
    jf_X11_twists_k67_114 N v2 v3 v4
def jf_X11_twists_k23_52 (N : Nat) (v2 : Int32) (v3 : Option Nat) : jm_P (Option Nat) :=
  jm_bd (jm_it (fun z => jf_X11_twists_L55 N v2 v3 z) N (0 : Int32)) fun y =>
  jf_X11_twists_k55_120 N v3
def jf_X11_twists_L23 (N : Nat) (v1 : Option Nat) (v2 : Int32) (v3 : Option Nat) (v4 : Int32) : jm_P (Int32 ⊕ Unit) :=
  if v2 ≤ v4 then (
    jm_ret (.inr ()))
  else
    jm_rd (jm_fR [11] 0 v1) fun x47 =>
    jm_rd (jm_ldR 13 x47 v4) fun x49 =>
    jm_rd (jm_ldJ 2 x49 v4) fun x51 =>
    jm_lt (if 0 < x51 then x51 else -x51) fun x53 =>
    jm_wr (jm_stJ 2 v3 v4 x53) <|
    jm_ret (.inl (v4 + 1))
def jf_X11_twists (N : Nat) (a0 : Nat) : jm_P (Option Nat) :=
  jm_rd (jm_fI [11] 1 (some a0)) fun x26 =>
  jm_rd (jm_ck (¬ x26 < 0 ∧ x26.toNatClampNeg ≤ 1000)) fun _ =>
  jm_al (.inl (2, x26.toNatClampNeg, .inr (.inl (fun _ => 0)))) fun q29 =>
  jm_rd (jm_cl 11 (some a0)) fun a34 =>
  jm_bd (jf_X11_and N a34 (some q29)) fun x31 =>
  jm_rd (jm_cl 11 x31) fun a40 =>
  jm_bd (jf_X11_diagonal N a40 ) fun x37 =>
  jm_rd (jm_ck (¬ x37 < 0 ∧ x37.toNatClampNeg ≤ 1000)) fun _ =>
  jm_al (.inl (2, x37.toNatClampNeg, .inr (.inl (fun _ => 0)))) fun q44 =>
  jm_bd (jm_it (fun z => jf_X11_twists_L23 N x31 x37 (some q44) z) N (0 : Int32)) fun y =>
  jf_X11_twists_k23_52 N x37 (some q44)
set_option maxHeartbeats 4000000 in
set_option maxRecDepth 100000 in
theorem jt_X11_twists (l : Launch) (g : GD) (b N : Nat) (a0 : Nat) (M M' : Mem) (r : (Option Nat)) (hf : (jf_X11_twists N a0).1 M = some (r, M')) : jm_Met l g b yX11_twists (ws_ yX11_twists cX11_twists 8 (some (.array .long))) 3 90 [va_rf (some a0)] M M' (some (va_rf r)) := by
  refine jm_start (by decide) (jm_mono hf) (by rw [lg_sl_r, lg_sl_n]; exact Nat.le_of_ble_eq_true rfl) ?_
  intro p e s m args below meth c ls C0 hin hK hst hl
  obtain ⟨hx, hb, hml, hown, hts, hr, hlk⟩ := id C0
  have hown : s.vm.findClass RX11 = some m.cls := hown
  have C0 : jm_Cx p s m args meth c cX11_twists 8 (some (.array .long)) RX11 := C0
  rw [lv_args_r, lv_args_n] at hl
  have hl : lv_has ls 8 [(0, va_rf (some a0))] := hl
  have K55_120 : ∀ (v3 : Option Nat) (Mm1 : Mem), (jf_X11_twists_k55_120 N v3).1 Mm1 = some (r, M') → ∀ (H : Heap) (locs : List Loc) (cells slots : Nat) (ls : Array Slot), jm_St g b M M' Mm1 s (jm_rm 3 90 M M') H locs cells slots → lv_has ls 8 [(3, va_rf v3)] → W p l e (jm_rm 3 90 M M') s m args below meth c H locs cells slots (jm_MQ below g b (some (va_rf r)) M M' args s) (F0 m 120 ls []) := by
    intro v3 Mm1 hf H locs cells slots ls hst hl
    unfold jf_X11_twists_k55_120 at hf
    refine jw_aload_n (r := v3) hx hb dX11_twists_120 rfl (lv_at hl 0 rfl) ?_
    obtain ⟨rfl, rfl⟩ := jm_ret_some hf
    exact jw_aret C0 (Or.inr ⟨_, rfl⟩) hst dX11_twists_121
  have B55 : ∀ (v2 : Int32) (v3 : Option Nat) (v4 : Int32) (Mm4 : Mem) (xe55 : (Int32 ⊕ Unit)) (Me55 : Mem), (jf_X11_twists_L55 N v2 v3 v4).1 Mm4 = some (xe55, Me55) → jm_le Me55 M' → (jm_or (fun (z : Int32) => ∀ (H : Heap) (locs : List Loc) (cells slots : Nat) (ls : Array Slot), jm_St g b M M' Me55 s (jm_rm 3 90 M M') H locs cells slots → lv_has ls 8 [(2, .int v2), (3, va_rf v3), (4, .int z)] → W p l e (jm_rm 3 90 M M') s m args below meth c H locs cells slots (jm_MQ below g b (some (va_rf r)) M M' args s) (F0 m 55 ls [])) (fun (y : Unit) => ∀ (H : Heap) (locs : List Loc) (cells slots : Nat) (ls : Array Slot), jm_St g b M M' Me55 s (jm_rm 3 90 M M') H locs cells slots → lv_has ls 8 [(3, va_rf v3)] → W p l e (jm_rm 3 90 M M') s m args below meth c H locs cells slots (jm_MQ below g b (some (va_rf r)) M M' args s) (F0 m 120 ls [])) xe55) → ∀ (H : Heap) (locs : List Loc) (cells slots : Nat) (ls : Array Slot), jm_St g b M M' Mm4 s (jm_rm 3 90 M M') H locs cells slots → lv_has ls 8 [(2, .int v2), (3, va_rf v3), (4, .int v4)] → W p l e (jm_rm 3 90 M M') s m args below meth c H locs cells slots (jm_MQ below g b (some (va_rf r)) M M' args s) (F0 m 55 ls []) := by
    intro v2 v3 v4 Mm4 xe55 Me55 hf hle55 hk55
    have K67_114 : ∀ (v4 : Int32) (Mm3 : Mem), (jf_X11_twists_k67_114 N v2 v3 v4).1 Mm3 = some (xe55, Me55) → ∀ (H : Heap) (locs : List Loc) (cells slots : Nat) (ls : Array Slot), jm_St g b M M' Mm3 s (jm_rm 3 90 M M') H locs cells slots → lv_has ls 8 [(2, .int v2), (3, va_rf v3), (4, .int v4)] → W p l e (jm_rm 3 90 M M') s m args below meth c H locs cells slots (jm_MQ below g b (some (va_rf r)) M M' args s) (F0 m 114 ls []) := by
      intro v4 Mm3 hf H locs cells slots ls hst hl
      unfold jf_X11_twists_k67_114 at hf
      refine lv_iinc (i := 4) (v := (v4 + 1)) (lv' := [(4, .int (v4 + 1)), (2, .int v2), (3, va_rf v3)]) hx hb dX11_twists_114 hl (k := 2) rfl (by rfl) (by decide) (by simp [va_rf_cat, cat_i, cat_j, cat_f]) (fun ls hl => ?_)
      refine lv_goto (tgt := 55) hx hb dX11_twists_117 (by decide) ?_
      obtain ⟨rfl, rfl⟩ := jm_ret_some hf
      exact jm_or_l hk55 _ _ _ _ _ hst (lv_sub hl [1, 2, 0] rfl)
    have B67 : ∀ (v2 : Int32) (v3 : Option Nat) (v4 : Int32) (v5 : Int32) (Mm5 : Mem) (xe67 : (Int32 ⊕ Unit)) (Me67 : Mem), (jf_X11_twists_L67 N v2 v3 v4 v5).1 Mm5 = some (xe67, Me67) → jm_le Me67 M' → (jm_or (fun (z : Int32) => ∀ (H : Heap) (locs : List Loc) (cells slots : Nat) (ls : Array Slot), jm_St g b M M' Me67 s (jm_rm 3 90 M M') H locs cells slots → lv_has ls 8 [(2, .int v2), (3, va_rf v3), (4, .int v4), (5, .int z)] → W p l e (jm_rm 3 90 M M') s m args below meth c H locs cells slots (jm_MQ below g b (some (va_rf r)) M M' args s) (F0 m 67 ls [])) (fun (y : Unit) => ∀ (H : Heap) (locs : List Loc) (cells slots : Nat) (ls : Array Slot), jm_St g b M M' Me67 s (jm_rm 3 90 M M') H locs cells slots → lv_has ls 8 [(2, .int v2), (3, va_rf v3), (4, .int v4)] → W p l e (jm_rm 3 90 M M') s m args below meth c H locs cells slots (jm_MQ below g b (some (va_rf r)) M M' args s) (F0 m 114 ls [])) xe67) → ∀ (H : Heap) (locs : List Loc) (cells slots : Nat) (ls : Array Slot), jm_St g b M M' Mm5 s (jm_rm 3 90 M M') H locs cells slots → lv_has ls 8 [(2, .int v2), (3, va_rf v3), (4, .int v4), (5, .int v5)] → W p l e (jm_rm 3 90 M M') s m args below meth c H locs cells slots (jm_MQ below g b (some (va_rf r)) M M' args s) (F0 m 67 ls []) := by
      intro v2 v3 v4 v5 Mm5 xe67 Me67 hf hle67 hk67
      intro H locs cells slots ls hst hl
      unfold jf_X11_twists_L67 at hf
      refine lv_iload hx hb dX11_twists_67 (lv_at hl 3 rfl) ?_
      refine lv_iload_n hx hb dX11_twists_69 rfl (lv_at hl 0 rfl) ?_
      refine lv_icmp_ge (tgt := 114) hx hb dX11_twists_70 (by decide) (fun hc => ?_) (fun hc => ?_)
      · rw [if_pos hc] at hf
        obtain ⟨rfl, rfl⟩ := jm_ret_some hf
        exact jm_or_r hk67 _ _ _ _ _ hst (lv_sub hl [0, 1, 2] rfl)
      · rw [if_neg hc] at hf
        refine jw_aload_n (r := v3) hx hb dX11_twists_73 rfl (lv_at hl 1 rfl) ?_
        refine lv_iload hx hb dX11_twists_74 (lv_at hl 2 rfl) ?_
        obtain ⟨x6, h7, hf⟩ := jm_rd_some hf
        refine jw_lald hx hb hK hst h7 dX11_twists_76 ?_
        refine jw_aload_n (r := v3) hx hb dX11_twists_77 rfl (lv_at hl 1 rfl) ?_
        refine lv_iload hx hb dX11_twists_78 (lv_at hl 3 rfl) ?_
        obtain ⟨x8, h9, hf⟩ := jm_rd_some hf
        refine jw_lald hx hb hK hst h9 dX11_twists_80 ?_
        obtain ⟨x10, Mm11, h12, hf⟩ := jm_bd_some hf
        refine jw_SN (As := [.long x6, .long x8]) (rest := []) (jt_X0_common l g b N x6 x8 Mm5 Mm11 x10 h12) C0 hK hst (jm_mono h12) (jm_le_tr (jm_mono hf) hle67) nq764 q765 q72 q766 hd_X0_common.2 ⟨Nat.le_of_ble_eq_true rfl, Nat.le_of_ble_eq_true rfl⟩ rfl hl.1 rfl (by rw [cs_n]; exact Nat.le_of_ble_eq_true rfl) dX11_twists_81 (fun H locs cells slots hst => ?_)
        refine W.eq (g2 := F0 m 84 ls [.long x10]) rfl ?_
        refine lv_lstore (i := 6) (lv' := [(6, .long x10), (2, .int v2), (3, va_rf v3), (4, .int v4), (5, .int v5)]) hx hb dX11_twists_84 hl (by decide) rfl (fun ls hl => ?_)
        refine jw_aload_n (r := v3) hx hb dX11_twists_86 rfl (lv_at hl 2 rfl) ?_
        refine lv_iload hx hb dX11_twists_87 (lv_at hl 4 rfl) ?_
        refine jw_aload_n (r := v3) hx hb dX11_twists_89 rfl (lv_at hl 2 rfl) ?_
        refine lv_iload hx hb dX11_twists_90 (lv_at hl 3 rfl) ?_
        obtain ⟨x13, h14, hf⟩ := jm_rd_some hf
        refine jw_lald hx hb hK hst h14 dX11_twists_92 ?_
        refine lv_lload hx hb dX11_twists_93 (lv_at hl 0 rfl) ?_
        obtain ⟨_, h15, hf⟩ := jm_rd_some hf
        refine lv_ldiv hx hb dX11_twists_95 (jm_ck_some h15) ?_
        refine jw_aload_n (r := v3) hx hb dX11_twists_96 rfl (lv_at hl 2 rfl) ?_
        refine lv_iload hx hb dX11_twists_97 (lv_at hl 4 rfl) ?_
        obtain ⟨x16, h17, hf⟩ := jm_rd_some hf
        refine jw_lald hx hb hK hst h17 dX11_twists_99 ?_
        refine lv_lmul hx hb dX11_twists_100 ?_
        obtain ⟨F18, h19, hf⟩ := jm_wr_some hf
        refine jw_last (r := v3) hx hb hK hst h19 dX11_twists_101 (fun H locs hst => ?_)
        generalize ((Mm11.1, Mm11.2.1, F18) : Mem) = Mm20 at hf hst
        refine jw_aload_n (r := v3) hx hb dX11_twists_102 rfl (lv_at hl 2 rfl) ?_
        refine lv_iload hx hb dX11_twists_103 (lv_at hl 3 rfl) ?_
        refine lv_lload hx hb dX11_twists_105 (lv_at hl 0 rfl) ?_
        obtain ⟨F21, h22, hf⟩ := jm_wr_some hf
        refine jw_last (r := v3) hx hb hK hst h22 dX11_twists_107 (fun H locs hst => ?_)
        generalize ((Mm20.1, Mm20.2.1, F21) : Mem) = Mm23 at hf hst
        refine lv_iinc (i := 5) (v := (v5 + 1)) (lv' := [(5, .int (v5 + 1)), (6, .long x10), (2, .int v2), (3, va_rf v3), (4, .int v4)]) hx hb dX11_twists_108 hl (k := 4) rfl (by rfl) (by decide) rfl (fun ls hl => ?_)
        refine lv_goto (tgt := 67) hx hb dX11_twists_111 (by decide) ?_
        obtain ⟨rfl, rfl⟩ := jm_ret_some hf
        exact jm_or_l hk67 _ _ _ _ _ hst (lv_sub hl [2, 3, 4, 0] rfl)
    intro H locs cells slots ls hst hl
    unfold jf_X11_twists_L55 at hf
    refine lv_iload hx hb dX11_twists_55 (lv_at hl 2 rfl) ?_
    refine lv_iload_n hx hb dX11_twists_57 rfl (lv_at hl 0 rfl) ?_
    refine lv_icmp_ge (tgt := 120) hx hb dX11_twists_58 (by decide) (fun hc => ?_) (fun hc => ?_)
    · rw [if_pos hc] at hf
      obtain ⟨rfl, rfl⟩ := jm_ret_some hf
      exact jm_or_r hk55 _ _ _ _ _ hst (lv_sub hl [1] rfl)
    · rw [if_neg hc] at hf
      refine lv_iload hx hb dX11_twists_61 (lv_at hl 2 rfl) ?_
      refine lv_iconst (v := 1) hx hb dX11_twists_63 (by decide) ?_
      refine lv_iadd hx hb dX11_twists_64 ?_
      refine lv_istore (i := 5) (lv' := [(5, .int (v4 + (1 : Int32))), (2, .int v2), (3, va_rf v3), (4, .int v4)]) hx hb dX11_twists_65 hl (by decide) rfl (fun ls hl => ?_)
      obtain ⟨xl67, Ml67, hit67, hf⟩ := jm_bd_some hf
      have hlf67 : jm_le Ml67 M' := jm_le_tr (jm_mono hf) hle55
      have hwe67 : (fun (y : Unit) (Mz : Mem) => ∀ (H : Heap) (locs : List Loc) (cells slots : Nat) (ls : Array Slot), jm_St g b M M' Mz s (jm_rm 3 90 M M') H locs cells slots → lv_has ls 8 [(2, .int v2), (3, va_rf v3), (4, .int v4)] → W p l e (jm_rm 3 90 M M') s m args below meth c H locs cells slots (jm_MQ below g b (some (va_rf r)) M M' args s) (F0 m 114 ls [])) xl67 Ml67 := fun H locs cells slots ls hst hl => K67_114 v4 _ hf H locs cells slots ls hst hl
      refine jm_it_walk (Mf := M') (Wh := fun (z : Int32) (Mz : Mem) => ∀ (H : Heap) (locs : List Loc) (cells slots : Nat) (ls : Array Slot), jm_St g b M M' Mz s (jm_rm 3 90 M M') H locs cells slots → lv_has ls 8 [(2, .int v2), (3, va_rf v3), (4, .int v4), (5, .int z)] → W p l e (jm_rm 3 90 M M') s m args below meth c H locs cells slots (jm_MQ below g b (some (va_rf r)) M M' args s) (F0 m 67 ls [])) (We := fun (y : Unit) (Mz : Mem) => ∀ (H : Heap) (locs : List Loc) (cells slots : Nat) (ls : Array Slot), jm_St g b M M' Mz s (jm_rm 3 90 M M') H locs cells slots → lv_has ls 8 [(2, .int v2), (3, va_rf v3), (4, .int v4)] → W p l e (jm_rm 3 90 M M') s m args below meth c H locs cells slots (jm_MQ below g b (some (va_rf r)) M M' args s) (F0 m 114 ls [])) ?_ N (v4 + (1 : Int32)) Mm4 xl67 Ml67 hit67 hlf67 hwe67 _ _ _ _ _ hst (lv_sub hl [1, 2, 3, 0] rfl)
      intro v5 Mm24 xe67 Me67 hf hle67 hk67 H locs cells slots ls hst hl
      have hf : (jf_X11_twists_L67 N v2 v3 v4 v5).1 Mm24 = some (xe67, Me67) := hf
      have hl : lv_has ls 8 [(2, .int v2), (3, va_rf v3), (4, .int v4), (5, .int v5)] := hl
      exact B67 v2 v3 v4 v5 _ _ _ hf hle67 hk67 _ _ _ _ _ hst (lv_sub hl [0, 1, 2, 3] rfl)
  have K23_52 : ∀ (v2 : Int32) (v3 : Option Nat) (Mm2 : Mem), (jf_X11_twists_k23_52 N v2 v3).1 Mm2 = some (r, M') → ∀ (H : Heap) (locs : List Loc) (cells slots : Nat) (ls : Array Slot), jm_St g b M M' Mm2 s (jm_rm 3 90 M M') H locs cells slots → lv_has ls 8 [(2, .int v2), (3, va_rf v3)] → W p l e (jm_rm 3 90 M M') s m args below meth c H locs cells slots (jm_MQ below g b (some (va_rf r)) M M' args s) (F0 m 52 ls []) := by
    intro v2 v3 Mm2 hf H locs cells slots ls hst hl
    unfold jf_X11_twists_k23_52 at hf
    refine lv_iconst (v := 0) hx hb dX11_twists_52 (by decide) ?_
    refine lv_istore (i := 4) (lv' := [(4, .int (0 : Int32)), (2, .int v2), (3, va_rf v3)]) hx hb dX11_twists_53 hl (by decide) (by simp [va_rf_cat, cat_i, cat_j, cat_f]) (fun ls hl => ?_)
    obtain ⟨xl55, Ml55, hit55, hf⟩ := jm_bd_some hf
    have hlf55 : jm_le Ml55 M' := jm_le_tr (jm_mono hf) jm_le_rf
    have hwe55 : (fun (y : Unit) (Mz : Mem) => ∀ (H : Heap) (locs : List Loc) (cells slots : Nat) (ls : Array Slot), jm_St g b M M' Mz s (jm_rm 3 90 M M') H locs cells slots → lv_has ls 8 [(3, va_rf v3)] → W p l e (jm_rm 3 90 M M') s m args below meth c H locs cells slots (jm_MQ below g b (some (va_rf r)) M M' args s) (F0 m 120 ls [])) xl55 Ml55 := fun H locs cells slots ls hst hl => K55_120 v3 _ hf H locs cells slots ls hst hl
    refine jm_it_walk (Mf := M') (Wh := fun (z : Int32) (Mz : Mem) => ∀ (H : Heap) (locs : List Loc) (cells slots : Nat) (ls : Array Slot), jm_St g b M M' Mz s (jm_rm 3 90 M M') H locs cells slots → lv_has ls 8 [(2, .int v2), (3, va_rf v3), (4, .int z)] → W p l e (jm_rm 3 90 M M') s m args below meth c H locs cells slots (jm_MQ below g b (some (va_rf r)) M M' args s) (F0 m 55 ls [])) (We := fun (y : Unit) (Mz : Mem) => ∀ (H : Heap) (locs : List Loc) (cells slots : Nat) (ls : Array Slot), jm_St g b M M' Mz s (jm_rm 3 90 M M') H locs cells slots → lv_has ls 8 [(3, va_rf v3)] → W p l e (jm_rm 3 90 M M') s m args below meth c H locs cells slots (jm_MQ below g b (some (va_rf r)) M M' args s) (F0 m 120 ls [])) ?_ N (0 : Int32) Mm2 xl55 Ml55 hit55 hlf55 hwe55 _ _ _ _ _ hst (lv_sub hl [1, 2, 0] rfl)
    intro v4 Mm25 xe55 Me55 hf hle55 hk55 H locs cells slots ls hst hl
    have hf : (jf_X11_twists_L55 N v2 v3 v4).1 Mm25 = some (xe55, Me55) := hf
    have hl : lv_has ls 8 [(2, .int v2), (3, va_rf v3), (4, .int v4)] := hl
    exact B55 v2 v3 v4 _ _ _ hf hle55 hk55 _ _ _ _ _ hst (lv_sub hl [0, 1, 2] rfl)
  have B23 : ∀ (v1 : Option Nat) (v2 : Int32) (v3 : Option Nat) (v4 : Int32) (Mm46 : Mem) (xe23 : (Int32 ⊕ Unit)) (Me23 : Mem), (jf_X11_twists_L23 N v1 v2 v3 v4).1 Mm46 = some (xe23, Me23) → jm_le Me23 M' → (jm_or (fun (z : Int32) => ∀ (H : Heap) (locs : List Loc) (cells slots : Nat) (ls : Array Slot), jm_St g b M M' Me23 s (jm_rm 3 90 M M') H locs cells slots → lv_has ls 8 [(1, va_rf v1), (2, .int v2), (3, va_rf v3), (4, .int z)] → W p l e (jm_rm 3 90 M M') s m args below meth c H locs cells slots (jm_MQ below g b (some (va_rf r)) M M' args s) (F0 m 23 ls [])) (fun (y : Unit) => ∀ (H : Heap) (locs : List Loc) (cells slots : Nat) (ls : Array Slot), jm_St g b M M' Me23 s (jm_rm 3 90 M M') H locs cells slots → lv_has ls 8 [(2, .int v2), (3, va_rf v3)] → W p l e (jm_rm 3 90 M M') s m args below meth c H locs cells slots (jm_MQ below g b (some (va_rf r)) M M' args s) (F0 m 52 ls [])) xe23) → ∀ (H : Heap) (locs : List Loc) (cells slots : Nat) (ls : Array Slot), jm_St g b M M' Mm46 s (jm_rm 3 90 M M') H locs cells slots → lv_has ls 8 [(1, va_rf v1), (2, .int v2), (3, va_rf v3), (4, .int v4)] → W p l e (jm_rm 3 90 M M') s m args below meth c H locs cells slots (jm_MQ below g b (some (va_rf r)) M M' args s) (F0 m 23 ls []) := by
    intro v1 v2 v3 v4 Mm46 xe23 Me23 hf hle23 hk23
    intro H locs cells slots ls hst hl
    unfold jf_X11_twists_L23 at hf
    refine lv_iload hx hb dX11_twists_23 (lv_at hl 3 rfl) ?_
    refine lv_iload_n hx hb dX11_twists_25 rfl (lv_at hl 1 rfl) ?_
    refine lv_icmp_ge (tgt := 52) hx hb dX11_twists_26 (by decide) (fun hc => ?_) (fun hc => ?_)
    · rw [if_pos hc] at hf
      obtain ⟨rfl, rfl⟩ := jm_ret_some hf
      exact jm_or_r hk23 _ _ _ _ _ hst (lv_sub hl [1, 2] rfl)
    · rw [if_neg hc] at hf
      refine jw_aload_n (r := v3) hx hb dX11_twists_29 rfl (lv_at hl 2 rfl) ?_
      refine lv_iload hx hb dX11_twists_30 (lv_at hl 3 rfl) ?_
      refine jw_aload_n (r := v1) hx hb dX11_twists_32 rfl (lv_at hl 0 rfl) ?_
      obtain ⟨x47, h48, hf⟩ := jm_rd_some hf
      refine jw_getR hx hb hts hown hK hst (fl_X11_20 hts hK) h48 dX11_twists_33 ?_
      refine lv_iload hx hb dX11_twists_36 (lv_at hl 3 rfl) ?_
      obtain ⟨x49, h50, hf⟩ := jm_rd_some hf
      refine jw_aald hx hb hK hst (show jm_ty[13]? = some (.array .long) from rfl) rfl h50 dX11_twists_38 ?_
      refine lv_iload hx hb dX11_twists_39 (lv_at hl 3 rfl) ?_
      obtain ⟨x51, h52, hf⟩ := jm_rd_some hf
      refine jw_lald hx hb hK hst h52 dX11_twists_41 ?_
      refine jw_abs (rest := [.int v4, va_rf v3]) hx hb hml hl.1 hown hts q704 hst (jm_le_tr (jm_mono hf) hle23) (Nat.le_of_ble_eq_true rfl) (by rw [cs_i, cs_r, cs_n]; exact Nat.le_of_ble_eq_true rfl) dX11_twists_42 ?_
      obtain ⟨x53, ex53, hf⟩ := jm_lt_some hf
      rw [← ex53]
      obtain ⟨F54, h55, hf⟩ := jm_wr_some hf
      refine jw_last (r := v3) hx hb hK hst h55 dX11_twists_45 (fun H locs hst => ?_)
      generalize ((Mm46.1, Mm46.2.1, F54) : Mem) = Mm56 at hf hst
      refine lv_iinc (i := 4) (v := (v4 + 1)) (lv' := [(4, .int (v4 + 1)), (1, va_rf v1), (2, .int v2), (3, va_rf v3)]) hx hb dX11_twists_46 hl (k := 3) rfl (by rfl) (by decide) (by simp [va_rf_cat, cat_i, cat_j, cat_f]) (fun ls hl => ?_)
      refine lv_goto (tgt := 23) hx hb dX11_twists_49 (by decide) ?_
      obtain ⟨rfl, rfl⟩ := jm_ret_some hf
      exact jm_or_l hk23 _ _ _ _ _ hst (lv_sub hl [1, 2, 3, 0] rfl)
  unfold jf_X11_twists at hf
  refine jw_aload_n (r := (some a0)) hx hb dX11_twists_0 rfl (lv_at hl 0 rfl) ?_
  refine jw_aload_n (r := (some a0)) hx hb dX11_twists_1 rfl (lv_at hl 0 rfl) ?_
  obtain ⟨x26, h27, hf⟩ := jm_rd_some hf
  refine jw_getI hx hb hts hown hK hst (fl_X11_9 hts hK) h27 dX11_twists_2 ?_
  obtain ⟨_, h28, hf⟩ := jm_rd_some hf
  have h28 := jm_ck_some h28
  obtain ⟨q29, hq29, hf⟩ := jm_al_some hf
  refine jw_newa (kd := 2) (ty := .long) (atype := .long) (a0 := (x26.toNatClampNeg, .inr (.inl (fun _ => 0)))) hx hb (hts _ q637) rfl hK hst rfl (fun _ => rfl) rfl (fun h => h) h28.1 rfl (Nat.le_trans (Nat.mul_le_mul_right _ h28.2) (by decide)) (jm_le_tr (jm_mono hf) jm_le_rf) hq29 dX11_twists_5 (fun H cells slots hst => ?_)
  generalize jm_new (.inl (2, x26.toNatClampNeg, .inr (.inl (fun _ => 0)))) M = Mm30 at hf hst
  obtain ⟨a34, h35, hf⟩ := jm_rd_some hf
  obtain ⟨fsa34, hea34, hr36⟩ := jm_cl_some h35
  obtain ⟨x31, Mm32, h33, hf⟩ := jm_bd_some hf
  refine jw_V (As := [va_rf (some q29)]) (rest := []) (C := RX11) (T := TX11) (N := 3) (rv := (some a0)) (jt_X11_and l g b N a34 (some q29) Mm30 Mm32 x31 h33) C0 hK hst (jm_mono h33) (jm_le_tr (jm_mono hf) jm_le_rf) q690 q691 q692 q90 q693 hd_X11_and ⟨Nat.le_of_ble_eq_true rfl, Nat.le_of_ble_eq_true rfl⟩ hea34 hr36 rfl rfl hl.1 rfl (by rw [cs_n]; exact Nat.le_of_ble_eq_true rfl) dX11_twists_7 (fun H locs cells slots hst => ?_)
  refine W.eq (g2 := F0 m 10 ls [va_rf x31]) rfl ?_
  refine jw_astore_n (i := 1) (r := x31) (lv' := [(1, va_rf x31), (0, va_rf (some a0))]) hx hb dX11_twists_10 rfl hl (by decide) (by simp [va_rf_cat, cat_i, cat_j, cat_f]) (fun ls hl => ?_)
  refine jw_aload_n (r := x31) hx hb dX11_twists_11 rfl (lv_at hl 0 rfl) ?_
  obtain ⟨a40, h41, hf⟩ := jm_rd_some hf
  obtain ⟨fsa40, hea40, hr42⟩ := jm_cl_some h41
  obtain ⟨x37, Mm38, h39, hf⟩ := jm_bd_some hf
  refine jw_V (As := []) (rest := []) (C := RX11) (T := TX11) (N := 3) (rv := x31) (jt_X11_diagonal l g b N a40  Mm32 Mm38 x37 h39) C0 hK hst (jm_mono h39) (jm_le_tr (jm_mono hf) jm_le_rf) q695 q696 q697 q90 q698 hd_X11_diagonal ⟨Nat.le_of_ble_eq_true rfl, Nat.le_of_ble_eq_true rfl⟩ hea40 hr42 rfl rfl hl.1 rfl (by rw [cs_n]; exact Nat.le_of_ble_eq_true rfl) dX11_twists_12 (fun H locs cells slots hst => ?_)
  refine W.eq (g2 := F0 m 15 ls [.int x37]) rfl ?_
  refine lv_istore_n (i := 2) (lv' := [(2, .int x37), (1, va_rf x31), (0, va_rf (some a0))]) hx hb dX11_twists_15 rfl hl (by decide) (by simp [va_rf_cat, cat_i, cat_j, cat_f]) (fun ls hl => ?_)
  refine lv_iload_n hx hb dX11_twists_16 rfl (lv_at hl 0 rfl) ?_
  obtain ⟨_, h43, hf⟩ := jm_rd_some hf
  have h43 := jm_ck_some h43
  obtain ⟨q44, hq44, hf⟩ := jm_al_some hf
  refine jw_newa (kd := 2) (ty := .long) (atype := .long) (a0 := (x37.toNatClampNeg, .inr (.inl (fun _ => 0)))) hx hb (hts _ q637) rfl hK hst rfl (fun _ => rfl) rfl (fun h => h) h43.1 rfl (Nat.le_trans (Nat.mul_le_mul_right _ h43.2) (by decide)) (jm_le_tr (jm_mono hf) jm_le_rf) hq44 dX11_twists_17 (fun H cells slots hst => ?_)
  generalize jm_new (.inl (2, x37.toNatClampNeg, .inr (.inl (fun _ => 0)))) Mm38 = Mm45 at hf hst
  refine jw_astore_n (i := 3) (r := (some q44)) (lv' := [(3, va_rf (some q44)), (2, .int x37), (1, va_rf x31), (0, va_rf (some a0))]) hx hb dX11_twists_19 rfl hl (by decide) rfl (fun ls hl => ?_)
  refine lv_iconst (v := 0) hx hb dX11_twists_20 (by decide) ?_
  refine lv_istore (i := 4) (lv' := [(4, .int (0 : Int32)), (3, va_rf (some q44)), (2, .int x37), (1, va_rf x31), (0, va_rf (some a0))]) hx hb dX11_twists_21 hl (by decide) (by simp [va_rf_cat, cat_i, cat_j, cat_f]) (fun ls hl => ?_)
  obtain ⟨xl23, Ml23, hit23, hf⟩ := jm_bd_some hf
  have hlf23 : jm_le Ml23 M' := jm_le_tr (jm_mono hf) jm_le_rf
  have hwe23 : (fun (y : Unit) (Mz : Mem) => ∀ (H : Heap) (locs : List Loc) (cells slots : Nat) (ls : Array Slot), jm_St g b M M' Mz s (jm_rm 3 90 M M') H locs cells slots → lv_has ls 8 [(2, .int x37), (3, va_rf (some q44))] → W p l e (jm_rm 3 90 M M') s m args below meth c H locs cells slots (jm_MQ below g b (some (va_rf r)) M M' args s) (F0 m 52 ls [])) xl23 Ml23 := fun H locs cells slots ls hst hl => K23_52 x37 (some q44) _ hf H locs cells slots ls hst hl
  refine jm_it_walk (Mf := M') (Wh := fun (z : Int32) (Mz : Mem) => ∀ (H : Heap) (locs : List Loc) (cells slots : Nat) (ls : Array Slot), jm_St g b M M' Mz s (jm_rm 3 90 M M') H locs cells slots → lv_has ls 8 [(1, va_rf x31), (2, .int x37), (3, va_rf (some q44)), (4, .int z)] → W p l e (jm_rm 3 90 M M') s m args below meth c H locs cells slots (jm_MQ below g b (some (va_rf r)) M M' args s) (F0 m 23 ls [])) (We := fun (y : Unit) (Mz : Mem) => ∀ (H : Heap) (locs : List Loc) (cells slots : Nat) (ls : Array Slot), jm_St g b M M' Mz s (jm_rm 3 90 M M') H locs cells slots → lv_has ls 8 [(2, .int x37), (3, va_rf (some q44))] → W p l e (jm_rm 3 90 M M') s m args below meth c H locs cells slots (jm_MQ below g b (some (va_rf r)) M M' args s) (F0 m 52 ls [])) ?_ N (0 : Int32) Mm45 xl23 Ml23 hit23 hlf23 hwe23 _ _ _ _ _ hst (lv_sub hl [3, 2, 1, 0] rfl)
  intro v4 Mm57 xe23 Me23 hf hle23 hk23 H locs cells slots ls hst hl
  have hf : (jf_X11_twists_L23 N x31 x37 (some q44) v4).1 Mm57 = some (xe23, Me23) := hf
  have hl : lv_has ls 8 [(1, va_rf x31), (2, .int x37), (3, va_rf (some q44)), (4, .int v4)] := hl
  exact B23 x31 x37 (some q44) v4 _ _ _ hf hle23 hk23 _ _ _ _ _ hst (lv_sub hl [0, 1, 2, 3] rfl)
def jf_X11_determinant_k13_203 (N : Nat) (a0 : Nat) (v1 : Option Nat) (v4 : Int64) : jm_P Int64 :=
  jm_rd (jm_fI [11] 1 (some a0)) fun x2 =>
  if x2 = 0 then (
    jm_ret (1 : Int64))
  else
    jm_rd (jm_fR [11] 0 v1) fun x4 =>
    jm_rd (jm_fI [11] 1 (some a0)) fun x6 =>
    jm_rd (jm_ldR 13 x4 (x6 - (1 : Int32))) fun x8 =>
    jm_rd (jm_fI [11] 1 (some a0)) fun x10 =>
    jm_rd (jm_ldJ 2 x8 (x10 - (1 : Int32))) fun x12 =>
    jm_ret (v4 * x12)
def jf_X11_determinant_k95_186 (N : Nat) (a0 : Nat) (v1 : Option Nat) (v4 : Int64) (v6 : Int32) : jm_P ((Int64 × Int64 × Int32) ⊕ (Unit ⊕ Int64)) :=
  jm_rd (jm_fR [11] 0 v1) fun x22 =>
  jm_rd (jm_ldR 13 x22 v6) fun x24 =>
  jm_rd (jm_ldJ 2 x24 v6) fun x26 =>
  jm_ret (.inl (x26, v4, (v6 + 1)))
def jf_X11_determinant_k110_180 (N : Nat) (a0 : Nat) (v1 : Option Nat) (v2 : Int64) (v4 : Int64) (v6 : Int32) (v8 : Int32) : jm_P (Int32 ⊕ Unit) :=
  jm_ret (.inl (v8 + 1))
def jf_X11_determinant_L110 (N : Nat) (a0 : Nat) (v1 : Option Nat) (v2 : Int64) (v4 : Int64) (v6 : Int32) (v8 : Int32) (v9 : Int32) : jm_P (Int32 ⊕ Unit) :=
  jm_rd (jm_fI [11] 1 (some a0)) fun x34 =>
  if x34 ≤ v9 then (
    jm_ret (.inr ()))
  else
    jm_rd (jm_fR [11] 0 v1) fun x36 =>
    jm_rd (jm_ldR 13 x36 v8) fun x38 =>
    jm_rd (jm_fR [11] 0 v1) fun x40 =>
    jm_rd (jm_ldR 13 x40 v8) fun x42 =>
    jm_rd (jm_ldJ 2 x42 v9) fun x44 =>
    jm_rd (jm_fR [11] 0 v1) fun x46 =>
    jm_rd (jm_ldR 13 x46 v6) fun x48 =>
    jm_rd (jm_ldJ 2 x48 v6) fun x50 =>
    jm_rd (jm_fR [11] 0 v1) fun x52 =>
    jm_rd (jm_ldR 13 x52 v8) fun x54 =>
    jm_rd (jm_ldJ 2 x54 v6) fun x56 =>
    jm_rd (jm_fR [11] 0 v1) fun x58 =>
    jm_rd (jm_ldR 13 x58 v6) fun x60 =>
    jm_rd (jm_ldJ 2 x60 v9) fun x62 =>
    jm_rd (jm_ck (¬ v2 = 0)) fun _ =>
    jm_wr (jm_stJ 2 x38 v9 (((x44 * x50) - (x56 * x62)) / v2)) <|
    jm_ret (.inl (v9 + 1))
def jf_X11_determinant_L95 (N : Nat) (a0 : Nat) (v1 : Option Nat) (v2 : Int64) (v4 : Int64) (v6 : Int32) (v8 : Int32) : jm_P (Int32 ⊕ Unit) :=
  jm_rd (jm_fI [11] 1 (some a0)) fun x31 =>
  if x31 ≤ v8 then (
    jm_ret (.inr ()))
  else
    jm_bd (jm_it (fun z => jf_X11_determinant_L110 N a0 v1 v2 v4 v6 v8 z) N (v6 + (1 : Int32))) fun y =>
    jf_X11_determinant_k110_180 N a0 v1 v2 v4 v6 v8
def jf_X11_determinant_j89 (N : Nat) (a0 : Nat) (v1 : Option Nat) (v2 : Int64) (v4 : Int64) (v6 : Int32) : jm_P ((Int64 × Int64 × Int32) ⊕ (Unit ⊕ Int64)) :=
  jm_bd (jm_it (fun z => jf_X11_determinant_L95 N a0 v1 v2 v4 v6 z) N (v6 + (1 : Int32))) fun y =>
  jf_X11_determinant_k95_186 N a0 v1 v4 v6
def jf_X11_determinant_k13_67 (N : Nat)  : jm_P Int64 :=
  jm_ret (0 : Int64)
def jf_X11_determinant_k28_58 (N : Nat) (a0 : Nat) (v1 : Option Nat) (v2 : Int64) (v4 : Int64) (v6 : Int32) (v7 : Int32) : jm_P ((Int64 × Int64 × Int32) ⊕ (Unit ⊕ Int64)) :=
  jm_rd (jm_fI [11] 1 (some a0)) fun x71 =>
  if v7 = x71 then (
    jm_ret (.inr (.inl ())))
  else
    if v7 = v6 then (
      jf_X11_determinant_j89 N a0 v1 v2 v4 v6)
    else
      jm_rd (jm_cl 11 v1) fun a76 =>
      jm_bd (jf_X11_swapRows N a76 v7 v6) fun x73 =>
      jf_X11_determinant_j89 N a0 v1 v2 (-v4) v6
def jf_X11_determinant_L28 (N : Nat) (a0 : Nat) (v1 : Option Nat) (v2 : Int64) (v4 : Int64) (v6 : Int32) (v7 : Int32) : jm_P (Int32 ⊕ Int32) :=
  jm_rd (jm_fI [11] 1 (some a0)) fun x83 =>
  if x83 ≤ v7 then (
    jm_ret (.inr v7))
  else
    jm_rd (jm_fR [11] 0 v1) fun x85 =>
    jm_rd (jm_ldR 13 x85 v7) fun x87 =>
    jm_rd (jm_ldJ 2 x87 v6) fun x89 =>
    if x89 = (0 : Int64) then (
      jm_ret (.inl (v7 + 1)))
    else
      jm_ret (.inr v7)
def jf_X11_determinant_L13 (N : Nat) (a0 : Nat) (v1 : Option Nat) (v2 : Int64) (v4 : Int64) (v6 : Int32) : jm_P ((Int64 × Int64 × Int32) ⊕ (Unit ⊕ Int64)) :=
  jm_rd (jm_fI [11] 1 (some a0)) fun x80 =>
  if x80 ≤ (v6 + (1 : Int32)) then (
    jm_ret (.inr (.inr v4)))
  else
    jm_bd (jm_it (fun z => jf_X11_determinant_L28 N a0 v1 v2 v4 v6 z) N v6) fun y =>
    jf_X11_determinant_k28_58 N a0 v1 v2 v4 v6 y
def jf_X11_determinant (N : Nat) (a0 : Nat) : jm_P Int64 :=
  jm_rd (jm_cl 11 (some a0)) fun a18 =>
  jm_bd (jf_X11_like N a18 ) fun x15 =>
  jm_bd (jm_it (fun z => jf_X11_determinant_L13 N a0 x15 z.1 z.2.1 z.2.2) N ((1 : Int64), (1 : Int64), (0 : Int32))) fun y =>
  match y with
  | .inl y => jf_X11_determinant_k13_67 N 
  | .inr y => jf_X11_determinant_k13_203 N a0 x15 y
set_option maxHeartbeats 4000000 in
set_option maxRecDepth 100000 in
theorem jt_X11_determinant (l : Launch) (g : GD) (b N : Nat) (a0 : Nat) (M M' : Mem) (r : Int64) (hf : (jf_X11_determinant N a0).1 M = some (r, M')) : jm_Met l g b yX11_determinant (ws_ yX11_determinant cX11_determinant 10 (some .long)) 3 64 [va_rf (some a0)] M M' (some (.long r)) := by
  refine jm_start (by decide) (jm_mono hf) (by rw [lg_sl_r, lg_sl_n]; exact Nat.le_of_ble_eq_true rfl) ?_
  intro p e s m args below meth c ls C0 hin hK hst hl
  obtain ⟨hx, hb, hml, hown, hts, hr, hlk⟩ := id C0
  have hown : s.vm.findClass RX11 = some m.cls := hown
  have C0 : jm_Cx p s m args meth c cX11_determinant 10 (some .long) RX11 := C0
  rw [lv_args_r, lv_args_n] at hl
  have hl : lv_has ls 10 [(0, va_rf (some a0))] := hl
  have K13_203 : ∀ (a0 : Nat) (v1 : Option Nat) (v4 : Int64) (Mm1 : Mem), (jf_X11_determinant_k13_203 N a0 v1 v4).1 Mm1 = some (r, M') → ∀ (H : Heap) (locs : List Loc) (cells slots : Nat) (ls : Array Slot), jm_St g b M M' Mm1 s (jm_rm 3 64 M M') H locs cells slots → lv_has ls 10 [(0, va_rf (some a0)), (1, va_rf v1), (4, .long v4)] → W p l e (jm_rm 3 64 M M') s m args below meth c H locs cells slots (jm_MQ below g b (some (.long r)) M M' args s) (F0 m 203 ls []) := by
    intro a0 v1 v4 Mm1 hf H locs cells slots ls hst hl
    unfold jf_X11_determinant_k13_203 at hf
    refine jw_aload_n (r := (some a0)) hx hb dX11_determinant_203 rfl (lv_at hl 0 rfl) ?_
    obtain ⟨x2, h3, hf⟩ := jm_rd_some hf
    refine jw_getI hx hb hts hown hK hst (fl_X11_9 hts hK) h3 dX11_determinant_204 ?_
    refine lv_if_ne (tgt := 214) hx hb dX11_determinant_207 (by decide) (fun hc => ?_) (fun hc => ?_)
    · rw [if_neg hc] at hf
      refine lv_lload hx hb dX11_determinant_214 (lv_at hl 2 rfl) ?_
      refine jw_aload_n (r := v1) hx hb dX11_determinant_216 rfl (lv_at hl 1 rfl) ?_
      obtain ⟨x4, h5, hf⟩ := jm_rd_some hf
      refine jw_getR hx hb hts hown hK hst (fl_X11_20 hts hK) h5 dX11_determinant_217 ?_
      refine jw_aload_n (r := (some a0)) hx hb dX11_determinant_220 rfl (lv_at hl 0 rfl) ?_
      obtain ⟨x6, h7, hf⟩ := jm_rd_some hf
      refine jw_getI hx hb hts hown hK hst (fl_X11_9 hts hK) h7 dX11_determinant_221 ?_
      refine lv_iconst (v := 1) hx hb dX11_determinant_224 (by decide) ?_
      refine lv_isub hx hb dX11_determinant_225 ?_
      obtain ⟨x8, h9, hf⟩ := jm_rd_some hf
      refine jw_aald hx hb hK hst (show jm_ty[13]? = some (.array .long) from rfl) rfl h9 dX11_determinant_226 ?_
      refine jw_aload_n (r := (some a0)) hx hb dX11_determinant_227 rfl (lv_at hl 0 rfl) ?_
      obtain ⟨x10, h11, hf⟩ := jm_rd_some hf
      refine jw_getI hx hb hts hown hK hst (fl_X11_9 hts hK) h11 dX11_determinant_228 ?_
      refine lv_iconst (v := 1) hx hb dX11_determinant_231 (by decide) ?_
      refine lv_isub hx hb dX11_determinant_232 ?_
      obtain ⟨x12, h13, hf⟩ := jm_rd_some hf
      refine jw_lald hx hb hK hst h13 dX11_determinant_233 ?_
      refine lv_lmul hx hb dX11_determinant_234 ?_
      obtain ⟨rfl, rfl⟩ := jm_ret_some hf
      exact jw_lret C0 hst dX11_determinant_235
    · rw [if_pos hc] at hf
      refine lv_lconst (v := 1) hx hb dX11_determinant_210 (by decide) ?_
      refine lv_goto (tgt := 235) hx hb dX11_determinant_211 (by decide) ?_
      obtain ⟨rfl, rfl⟩ := jm_ret_some hf
      exact jw_lret C0 hst dX11_determinant_235
  have K13_67 : ∀  (Mm14 : Mem), (jf_X11_determinant_k13_67 N).1 Mm14 = some (r, M') → ∀ (H : Heap) (locs : List Loc) (cells slots : Nat) (ls : Array Slot), jm_St g b M M' Mm14 s (jm_rm 3 64 M M') H locs cells slots → lv_has ls 10 [] → W p l e (jm_rm 3 64 M M') s m args below meth c H locs cells slots (jm_MQ below g b (some (.long r)) M M' args s) (F0 m 67 ls []) := by
    intro  Mm14 hf H locs cells slots ls hst hl
    unfold jf_X11_determinant_k13_67 at hf
    refine lv_lconst (v := 0) hx hb dX11_determinant_67 (by decide) ?_
    obtain ⟨rfl, rfl⟩ := jm_ret_some hf
    exact jw_lret C0 hst dX11_determinant_68
  have B13 : ∀ (a0 : Nat) (v1 : Option Nat) (v2 : Int64) (v4 : Int64) (v6 : Int32) (Mm79 : Mem) (xe13 : ((Int64 × Int64 × Int32) ⊕ (Unit ⊕ Int64))) (Me13 : Mem), (jf_X11_determinant_L13 N a0 v1 v2 v4 v6).1 Mm79 = some (xe13, Me13) → jm_le Me13 M' → (jm_or (fun (z : Int64 × Int64 × Int32) => ∀ (H : Heap) (locs : List Loc) (cells slots : Nat) (ls : Array Slot), jm_St g b M M' Me13 s (jm_rm 3 64 M M') H locs cells slots → lv_has ls 10 [(0, va_rf (some a0)), (1, va_rf v1), (2, .long z.1), (4, .long z.2.1), (6, .int z.2.2)] → W p l e (jm_rm 3 64 M M') s m args below meth c H locs cells slots (jm_MQ below g b (some (.long r)) M M' args s) (F0 m 13 ls [])) (jm_or (fun (y : Unit) => ∀ (H : Heap) (locs : List Loc) (cells slots : Nat) (ls : Array Slot), jm_St g b M M' Me13 s (jm_rm 3 64 M M') H locs cells slots → lv_has ls 10 [] → W p l e (jm_rm 3 64 M M') s m args below meth c H locs cells slots (jm_MQ below g b (some (.long r)) M M' args s) (F0 m 67 ls [])) (fun (y : Int64) => ∀ (H : Heap) (locs : List Loc) (cells slots : Nat) (ls : Array Slot), jm_St g b M M' Me13 s (jm_rm 3 64 M M') H locs cells slots → lv_has ls 10 [(0, va_rf (some a0)), (1, va_rf v1), (4, .long y)] → W p l e (jm_rm 3 64 M M') s m args below meth c H locs cells slots (jm_MQ below g b (some (.long r)) M M' args s) (F0 m 203 ls []))) xe13) → ∀ (H : Heap) (locs : List Loc) (cells slots : Nat) (ls : Array Slot), jm_St g b M M' Mm79 s (jm_rm 3 64 M M') H locs cells slots → lv_has ls 10 [(0, va_rf (some a0)), (1, va_rf v1), (2, .long v2), (4, .long v4), (6, .int v6)] → W p l e (jm_rm 3 64 M M') s m args below meth c H locs cells slots (jm_MQ below g b (some (.long r)) M M' args s) (F0 m 13 ls []) := by
    intro a0 v1 v2 v4 v6 Mm79 xe13 Me13 hf hle13 hk13
    have K95_186 : ∀ (v4 : Int64) (v6 : Int32) (Mm21 : Mem), (jf_X11_determinant_k95_186 N a0 v1 v4 v6).1 Mm21 = some (xe13, Me13) → ∀ (H : Heap) (locs : List Loc) (cells slots : Nat) (ls : Array Slot), jm_St g b M M' Mm21 s (jm_rm 3 64 M M') H locs cells slots → lv_has ls 10 [(0, va_rf (some a0)), (1, va_rf v1), (4, .long v4), (6, .int v6)] → W p l e (jm_rm 3 64 M M') s m args below meth c H locs cells slots (jm_MQ below g b (some (.long r)) M M' args s) (F0 m 186 ls []) := by
      intro v4 v6 Mm21 hf H locs cells slots ls hst hl
      unfold jf_X11_determinant_k95_186 at hf
      refine jw_aload_n (r := v1) hx hb dX11_determinant_186 rfl (lv_at hl 1 rfl) ?_
      obtain ⟨x22, h23, hf⟩ := jm_rd_some hf
      refine jw_getR hx hb hts hown hK hst (fl_X11_20 hts hK) h23 dX11_determinant_187 ?_
      refine lv_iload hx hb dX11_determinant_190 (lv_at hl 3 rfl) ?_
      obtain ⟨x24, h25, hf⟩ := jm_rd_some hf
      refine jw_aald hx hb hK hst (show jm_ty[13]? = some (.array .long) from rfl) rfl h25 dX11_determinant_192 ?_
      refine lv_iload hx hb dX11_determinant_193 (lv_at hl 3 rfl) ?_
      obtain ⟨x26, h27, hf⟩ := jm_rd_some hf
      refine jw_lald hx hb hK hst h27 dX11_determinant_195 ?_
      refine lv_lstore_n (i := 2) (lv' := [(2, .long x26), (0, va_rf (some a0)), (1, va_rf v1), (4, .long v4), (6, .int v6)]) hx hb dX11_determinant_196 rfl hl (by decide) (by simp [va_rf_cat, cat_i, cat_j, cat_f]) (fun ls hl => ?_)
      refine lv_iinc (i := 6) (v := (v6 + 1)) (lv' := [(6, .int (v6 + 1)), (2, .long x26), (0, va_rf (some a0)), (1, va_rf v1), (4, .long v4)]) hx hb dX11_determinant_197 hl (k := 4) rfl (by rfl) (by decide) rfl (fun ls hl => ?_)
      refine lv_goto (tgt := 13) hx hb dX11_determinant_200 (by decide) ?_
      obtain ⟨rfl, rfl⟩ := jm_ret_some hf
      exact jm_or_l hk13 _ _ _ _ _ hst (lv_sub hl [2, 3, 1, 4, 0] rfl)
    have B95 : ∀ (a0 : Nat) (v1 : Option Nat) (v2 : Int64) (v4 : Int64) (v6 : Int32) (v8 : Int32) (Mm30 : Mem) (xe95 : (Int32 ⊕ Unit)) (Me95 : Mem), (jf_X11_determinant_L95 N a0 v1 v2 v4 v6 v8).1 Mm30 = some (xe95, Me95) → jm_le Me95 M' → (jm_or (fun (z : Int32) => ∀ (H : Heap) (locs : List Loc) (cells slots : Nat) (ls : Array Slot), jm_St g b M M' Me95 s (jm_rm 3 64 M M') H locs cells slots → lv_has ls 10 [(0, va_rf (some a0)), (1, va_rf v1), (2, .long v2), (4, .long v4), (6, .int v6), (8, .int z)] → W p l e (jm_rm 3 64 M M') s m args below meth c H locs cells slots (jm_MQ below g b (some (.long r)) M M' args s) (F0 m 95 ls [])) (fun (y : Unit) => ∀ (H : Heap) (locs : List Loc) (cells slots : Nat) (ls : Array Slot), jm_St g b M M' Me95 s (jm_rm 3 64 M M') H locs cells slots → lv_has ls 10 [(0, va_rf (some a0)), (1, va_rf v1), (4, .long v4), (6, .int v6)] → W p l e (jm_rm 3 64 M M') s m args below meth c H locs cells slots (jm_MQ below g b (some (.long r)) M M' args s) (F0 m 186 ls [])) xe95) → ∀ (H : Heap) (locs : List Loc) (cells slots : Nat) (ls : Array Slot), jm_St g b M M' Mm30 s (jm_rm 3 64 M M') H locs cells slots → lv_has ls 10 [(0, va_rf (some a0)), (1, va_rf v1), (2, .long v2), (4, .long v4), (6, .int v6), (8, .int v8)] → W p l e (jm_rm 3 64 M M') s m args below meth c H locs cells slots (jm_MQ below g b (some (.long r)) M M' args s) (F0 m 95 ls []) := by
      intro a0 v1 v2 v4 v6 v8 Mm30 xe95 Me95 hf hle95 hk95
      have K110_180 : ∀ (v8 : Int32) (Mm29 : Mem), (jf_X11_determinant_k110_180 N a0 v1 v2 v4 v6 v8).1 Mm29 = some (xe95, Me95) → ∀ (H : Heap) (locs : List Loc) (cells slots : Nat) (ls : Array Slot), jm_St g b M M' Mm29 s (jm_rm 3 64 M M') H locs cells slots → lv_has ls 10 [(0, va_rf (some a0)), (1, va_rf v1), (2, .long v2), (4, .long v4), (6, .int v6), (8, .int v8)] → W p l e (jm_rm 3 64 M M') s m args below meth c H locs cells slots (jm_MQ below g b (some (.long r)) M M' args s) (F0 m 180 ls []) := by
        intro v8 Mm29 hf H locs cells slots ls hst hl
        unfold jf_X11_determinant_k110_180 at hf
        refine lv_iinc (i := 8) (v := (v8 + 1)) (lv' := [(8, .int (v8 + 1)), (0, va_rf (some a0)), (1, va_rf v1), (2, .long v2), (4, .long v4), (6, .int v6)]) hx hb dX11_determinant_180 hl (k := 5) rfl (by rfl) (by decide) rfl (fun ls hl => ?_)
        refine lv_goto (tgt := 95) hx hb dX11_determinant_183 (by decide) ?_
        obtain ⟨rfl, rfl⟩ := jm_ret_some hf
        exact jm_or_l hk95 _ _ _ _ _ hst (lv_sub hl [1, 2, 3, 4, 5, 0] rfl)
      have B110 : ∀ (a0 : Nat) (v1 : Option Nat) (v2 : Int64) (v4 : Int64) (v6 : Int32) (v8 : Int32) (v9 : Int32) (Mm33 : Mem) (xe110 : (Int32 ⊕ Unit)) (Me110 : Mem), (jf_X11_determinant_L110 N a0 v1 v2 v4 v6 v8 v9).1 Mm33 = some (xe110, Me110) → jm_le Me110 M' → (jm_or (fun (z : Int32) => ∀ (H : Heap) (locs : List Loc) (cells slots : Nat) (ls : Array Slot), jm_St g b M M' Me110 s (jm_rm 3 64 M M') H locs cells slots → lv_has ls 10 [(0, va_rf (some a0)), (1, va_rf v1), (2, .long v2), (4, .long v4), (6, .int v6), (8, .int v8), (9, .int z)] → W p l e (jm_rm 3 64 M M') s m args below meth c H locs cells slots (jm_MQ below g b (some (.long r)) M M' args s) (F0 m 110 ls [])) (fun (y : Unit) => ∀ (H : Heap) (locs : List Loc) (cells slots : Nat) (ls : Array Slot), jm_St g b M M' Me110 s (jm_rm 3 64 M M') H locs cells slots → lv_has ls 10 [(0, va_rf (some a0)), (1, va_rf v1), (2, .long v2), (4, .long v4), (6, .int v6), (8, .int v8)] → W p l e (jm_rm 3 64 M M') s m args below meth c H locs cells slots (jm_MQ below g b (some (.long r)) M M' args s) (F0 m 180 ls [])) xe110) → ∀ (H : Heap) (locs : List Loc) (cells slots : Nat) (ls : Array Slot), jm_St g b M M' Mm33 s (jm_rm 3 64 M M') H locs cells slots → lv_has ls 10 [(0, va_rf (some a0)), (1, va_rf v1), (2, .long v2), (4, .long v4), (6, .int v6), (8, .int v8), (9, .int v9)] → W p l e (jm_rm 3 64 M M') s m args below meth c H locs cells slots (jm_MQ below g b (some (.long r)) M M' args s) (F0 m 110 ls []) := by
        intro a0 v1 v2 v4 v6 v8 v9 Mm33 xe110 Me110 hf hle110 hk110
        intro H locs cells slots ls hst hl
        unfold jf_X11_determinant_L110 at hf
        refine lv_iload hx hb dX11_determinant_110 (lv_at hl 6 rfl) ?_
        refine jw_aload_n (r := (some a0)) hx hb dX11_determinant_112 rfl (lv_at hl 0 rfl) ?_
        obtain ⟨x34, h35, hf⟩ := jm_rd_some hf
        refine jw_getI hx hb hts hown hK hst (fl_X11_9 hts hK) h35 dX11_determinant_113 ?_
        refine lv_icmp_ge (tgt := 180) hx hb dX11_determinant_116 (by decide) (fun hc => ?_) (fun hc => ?_)
        · rw [if_pos hc] at hf
          obtain ⟨rfl, rfl⟩ := jm_ret_some hf
          exact jm_or_r hk110 _ _ _ _ _ hst (lv_sub hl [0, 1, 2, 3, 4, 5] rfl)
        · rw [if_neg hc] at hf
          refine jw_aload_n (r := v1) hx hb dX11_determinant_119 rfl (lv_at hl 1 rfl) ?_
          obtain ⟨x36, h37, hf⟩ := jm_rd_some hf
          refine jw_getR hx hb hts hown hK hst (fl_X11_20 hts hK) h37 dX11_determinant_120 ?_
          refine lv_iload hx hb dX11_determinant_123 (lv_at hl 5 rfl) ?_
          obtain ⟨x38, h39, hf⟩ := jm_rd_some hf
          refine jw_aald hx hb hK hst (show jm_ty[13]? = some (.array .long) from rfl) rfl h39 dX11_determinant_125 ?_
          refine lv_iload hx hb dX11_determinant_126 (lv_at hl 6 rfl) ?_
          refine jw_aload_n (r := v1) hx hb dX11_determinant_128 rfl (lv_at hl 1 rfl) ?_
          obtain ⟨x40, h41, hf⟩ := jm_rd_some hf
          refine jw_getR hx hb hts hown hK hst (fl_X11_20 hts hK) h41 dX11_determinant_129 ?_
          refine lv_iload hx hb dX11_determinant_132 (lv_at hl 5 rfl) ?_
          obtain ⟨x42, h43, hf⟩ := jm_rd_some hf
          refine jw_aald hx hb hK hst (show jm_ty[13]? = some (.array .long) from rfl) rfl h43 dX11_determinant_134 ?_
          refine lv_iload hx hb dX11_determinant_135 (lv_at hl 6 rfl) ?_
          obtain ⟨x44, h45, hf⟩ := jm_rd_some hf
          refine jw_lald hx hb hK hst h45 dX11_determinant_137 ?_
          refine jw_aload_n (r := v1) hx hb dX11_determinant_138 rfl (lv_at hl 1 rfl) ?_
          obtain ⟨x46, h47, hf⟩ := jm_rd_some hf
          refine jw_getR hx hb hts hown hK hst (fl_X11_20 hts hK) h47 dX11_determinant_139 ?_
          refine lv_iload hx hb dX11_determinant_142 (lv_at hl 4 rfl) ?_
          obtain ⟨x48, h49, hf⟩ := jm_rd_some hf
          refine jw_aald hx hb hK hst (show jm_ty[13]? = some (.array .long) from rfl) rfl h49 dX11_determinant_144 ?_
          refine lv_iload hx hb dX11_determinant_145 (lv_at hl 4 rfl) ?_
          obtain ⟨x50, h51, hf⟩ := jm_rd_some hf
          refine jw_lald hx hb hK hst h51 dX11_determinant_147 ?_
          refine lv_lmul hx hb dX11_determinant_148 ?_
          refine jw_aload_n (r := v1) hx hb dX11_determinant_149 rfl (lv_at hl 1 rfl) ?_
          obtain ⟨x52, h53, hf⟩ := jm_rd_some hf
          refine jw_getR hx hb hts hown hK hst (fl_X11_20 hts hK) h53 dX11_determinant_150 ?_
          refine lv_iload hx hb dX11_determinant_153 (lv_at hl 5 rfl) ?_
          obtain ⟨x54, h55, hf⟩ := jm_rd_some hf
          refine jw_aald hx hb hK hst (show jm_ty[13]? = some (.array .long) from rfl) rfl h55 dX11_determinant_155 ?_
          refine lv_iload hx hb dX11_determinant_156 (lv_at hl 4 rfl) ?_
          obtain ⟨x56, h57, hf⟩ := jm_rd_some hf
          refine jw_lald hx hb hK hst h57 dX11_determinant_158 ?_
          refine jw_aload_n (r := v1) hx hb dX11_determinant_159 rfl (lv_at hl 1 rfl) ?_
          obtain ⟨x58, h59, hf⟩ := jm_rd_some hf
          refine jw_getR hx hb hts hown hK hst (fl_X11_20 hts hK) h59 dX11_determinant_160 ?_
          refine lv_iload hx hb dX11_determinant_163 (lv_at hl 4 rfl) ?_
          obtain ⟨x60, h61, hf⟩ := jm_rd_some hf
          refine jw_aald hx hb hK hst (show jm_ty[13]? = some (.array .long) from rfl) rfl h61 dX11_determinant_165 ?_
          refine lv_iload hx hb dX11_determinant_166 (lv_at hl 6 rfl) ?_
          obtain ⟨x62, h63, hf⟩ := jm_rd_some hf
          refine jw_lald hx hb hK hst h63 dX11_determinant_168 ?_
          refine lv_lmul hx hb dX11_determinant_169 ?_
          refine lv_lsub hx hb dX11_determinant_170 ?_
          refine lv_lload_n hx hb dX11_determinant_171 rfl (lv_at hl 2 rfl) ?_
          obtain ⟨_, h64, hf⟩ := jm_rd_some hf
          refine lv_ldiv hx hb dX11_determinant_172 (jm_ck_some h64) ?_
          obtain ⟨F65, h66, hf⟩ := jm_wr_some hf
          refine jw_last (r := x38) hx hb hK hst h66 dX11_determinant_173 (fun H locs hst => ?_)
          generalize ((Mm33.1, Mm33.2.1, F65) : Mem) = Mm67 at hf hst
          refine lv_iinc (i := 9) (v := (v9 + 1)) (lv' := [(9, .int (v9 + 1)), (0, va_rf (some a0)), (1, va_rf v1), (2, .long v2), (4, .long v4), (6, .int v6), (8, .int v8)]) hx hb dX11_determinant_174 hl (k := 6) rfl (by rfl) (by decide) rfl (fun ls hl => ?_)
          refine lv_goto (tgt := 110) hx hb dX11_determinant_177 (by decide) ?_
          obtain ⟨rfl, rfl⟩ := jm_ret_some hf
          exact jm_or_l hk110 _ _ _ _ _ hst (lv_sub hl [1, 2, 3, 4, 5, 6, 0] rfl)
      intro H locs cells slots ls hst hl
      unfold jf_X11_determinant_L95 at hf
      refine lv_iload hx hb dX11_determinant_95 (lv_at hl 5 rfl) ?_
      refine jw_aload_n (r := (some a0)) hx hb dX11_determinant_97 rfl (lv_at hl 0 rfl) ?_
      obtain ⟨x31, h32, hf⟩ := jm_rd_some hf
      refine jw_getI hx hb hts hown hK hst (fl_X11_9 hts hK) h32 dX11_determinant_98 ?_
      refine lv_icmp_ge (tgt := 186) hx hb dX11_determinant_101 (by decide) (fun hc => ?_) (fun hc => ?_)
      · rw [if_pos hc] at hf
        obtain ⟨rfl, rfl⟩ := jm_ret_some hf
        exact jm_or_r hk95 _ _ _ _ _ hst (lv_sub hl [0, 1, 3, 4] rfl)
      · rw [if_neg hc] at hf
        refine lv_iload hx hb dX11_determinant_104 (lv_at hl 4 rfl) ?_
        refine lv_iconst (v := 1) hx hb dX11_determinant_106 (by decide) ?_
        refine lv_iadd hx hb dX11_determinant_107 ?_
        refine lv_istore (i := 9) (lv' := [(9, .int (v6 + (1 : Int32))), (0, va_rf (some a0)), (1, va_rf v1), (2, .long v2), (4, .long v4), (6, .int v6), (8, .int v8)]) hx hb dX11_determinant_108 hl (by decide) rfl (fun ls hl => ?_)
        obtain ⟨xl110, Ml110, hit110, hf⟩ := jm_bd_some hf
        have hlf110 : jm_le Ml110 M' := jm_le_tr (jm_mono hf) hle95
        have hwe110 : (fun (y : Unit) (Mz : Mem) => ∀ (H : Heap) (locs : List Loc) (cells slots : Nat) (ls : Array Slot), jm_St g b M M' Mz s (jm_rm 3 64 M M') H locs cells slots → lv_has ls 10 [(0, va_rf (some a0)), (1, va_rf v1), (2, .long v2), (4, .long v4), (6, .int v6), (8, .int v8)] → W p l e (jm_rm 3 64 M M') s m args below meth c H locs cells slots (jm_MQ below g b (some (.long r)) M M' args s) (F0 m 180 ls [])) xl110 Ml110 := fun H locs cells slots ls hst hl => K110_180 v8 _ hf H locs cells slots ls hst hl
        refine jm_it_walk (Mf := M') (Wh := fun (z : Int32) (Mz : Mem) => ∀ (H : Heap) (locs : List Loc) (cells slots : Nat) (ls : Array Slot), jm_St g b M M' Mz s (jm_rm 3 64 M M') H locs cells slots → lv_has ls 10 [(0, va_rf (some a0)), (1, va_rf v1), (2, .long v2), (4, .long v4), (6, .int v6), (8, .int v8), (9, .int z)] → W p l e (jm_rm 3 64 M M') s m args below meth c H locs cells slots (jm_MQ below g b (some (.long r)) M M' args s) (F0 m 110 ls [])) (We := fun (y : Unit) (Mz : Mem) => ∀ (H : Heap) (locs : List Loc) (cells slots : Nat) (ls : Array Slot), jm_St g b M M' Mz s (jm_rm 3 64 M M') H locs cells slots → lv_has ls 10 [(0, va_rf (some a0)), (1, va_rf v1), (2, .long v2), (4, .long v4), (6, .int v6), (8, .int v8)] → W p l e (jm_rm 3 64 M M') s m args below meth c H locs cells slots (jm_MQ below g b (some (.long r)) M M' args s) (F0 m 180 ls [])) ?_ N (v6 + (1 : Int32)) Mm30 xl110 Ml110 hit110 hlf110 hwe110 _ _ _ _ _ hst (lv_sub hl [1, 2, 3, 4, 5, 6, 0] rfl)
        intro v9 Mm68 xe110 Me110 hf hle110 hk110 H locs cells slots ls hst hl
        have hf : (jf_X11_determinant_L110 N a0 v1 v2 v4 v6 v8 v9).1 Mm68 = some (xe110, Me110) := hf
        have hl : lv_has ls 10 [(0, va_rf (some a0)), (1, va_rf v1), (2, .long v2), (4, .long v4), (6, .int v6), (8, .int v8), (9, .int v9)] := hl
        exact B110 a0 v1 v2 v4 v6 v8 v9 _ _ _ hf hle110 hk110 _ _ _ _ _ hst (lv_sub hl [0, 1, 2, 3, 4, 5, 6] rfl)
    have J89 : ∀ (v2 : Int64) (v4 : Int64) (v6 : Int32) (Mm28 : Mem), (jf_X11_determinant_j89 N a0 v1 v2 v4 v6).1 Mm28 = some (xe13, Me13) → ∀ (H : Heap) (locs : List Loc) (cells slots : Nat) (ls : Array Slot), jm_St g b M M' Mm28 s (jm_rm 3 64 M M') H locs cells slots → lv_has ls 10 [(0, va_rf (some a0)), (1, va_rf v1), (2, .long v2), (4, .long v4), (6, .int v6)] → W p l e (jm_rm 3 64 M M') s m args below meth c H locs cells slots (jm_MQ below g b (some (.long r)) M M' args s) (F0 m 89 ls []) := by
      intro v2 v4 v6 Mm28 hf H locs cells slots ls hst hl
      unfold jf_X11_determinant_j89 at hf
      refine lv_iload hx hb dX11_determinant_89 (lv_at hl 4 rfl) ?_
      refine lv_iconst (v := 1) hx hb dX11_determinant_91 (by decide) ?_
      refine lv_iadd hx hb dX11_determinant_92 ?_
      refine lv_istore (i := 8) (lv' := [(8, .int (v6 + (1 : Int32))), (0, va_rf (some a0)), (1, va_rf v1), (2, .long v2), (4, .long v4), (6, .int v6)]) hx hb dX11_determinant_93 hl (by decide) rfl (fun ls hl => ?_)
      obtain ⟨xl95, Ml95, hit95, hf⟩ := jm_bd_some hf
      have hlf95 : jm_le Ml95 M' := jm_le_tr (jm_mono hf) hle13
      have hwe95 : (fun (y : Unit) (Mz : Mem) => ∀ (H : Heap) (locs : List Loc) (cells slots : Nat) (ls : Array Slot), jm_St g b M M' Mz s (jm_rm 3 64 M M') H locs cells slots → lv_has ls 10 [(0, va_rf (some a0)), (1, va_rf v1), (4, .long v4), (6, .int v6)] → W p l e (jm_rm 3 64 M M') s m args below meth c H locs cells slots (jm_MQ below g b (some (.long r)) M M' args s) (F0 m 186 ls [])) xl95 Ml95 := fun H locs cells slots ls hst hl => K95_186 v4 v6 _ hf H locs cells slots ls hst hl
      refine jm_it_walk (Mf := M') (Wh := fun (z : Int32) (Mz : Mem) => ∀ (H : Heap) (locs : List Loc) (cells slots : Nat) (ls : Array Slot), jm_St g b M M' Mz s (jm_rm 3 64 M M') H locs cells slots → lv_has ls 10 [(0, va_rf (some a0)), (1, va_rf v1), (2, .long v2), (4, .long v4), (6, .int v6), (8, .int z)] → W p l e (jm_rm 3 64 M M') s m args below meth c H locs cells slots (jm_MQ below g b (some (.long r)) M M' args s) (F0 m 95 ls [])) (We := fun (y : Unit) (Mz : Mem) => ∀ (H : Heap) (locs : List Loc) (cells slots : Nat) (ls : Array Slot), jm_St g b M M' Mz s (jm_rm 3 64 M M') H locs cells slots → lv_has ls 10 [(0, va_rf (some a0)), (1, va_rf v1), (4, .long v4), (6, .int v6)] → W p l e (jm_rm 3 64 M M') s m args below meth c H locs cells slots (jm_MQ below g b (some (.long r)) M M' args s) (F0 m 186 ls [])) ?_ N (v6 + (1 : Int32)) Mm28 xl95 Ml95 hit95 hlf95 hwe95 _ _ _ _ _ hst (lv_sub hl [1, 2, 3, 4, 5, 0] rfl)
      intro v8 Mm69 xe95 Me95 hf hle95 hk95 H locs cells slots ls hst hl
      have hf : (jf_X11_determinant_L95 N a0 v1 v2 v4 v6 v8).1 Mm69 = some (xe95, Me95) := hf
      have hl : lv_has ls 10 [(0, va_rf (some a0)), (1, va_rf v1), (2, .long v2), (4, .long v4), (6, .int v6), (8, .int v8)] := hl
      exact B95 a0 v1 v2 v4 v6 v8 _ _ _ hf hle95 hk95 _ _ _ _ _ hst (lv_sub hl [0, 1, 2, 3, 4, 5] rfl)
    have K28_58 : ∀ (v2 : Int64) (v4 : Int64) (v6 : Int32) (v7 : Int32) (Mm70 : Mem), (jf_X11_determinant_k28_58 N a0 v1 v2 v4 v6 v7).1 Mm70 = some (xe13, Me13) → ∀ (H : Heap) (locs : List Loc) (cells slots : Nat) (ls : Array Slot), jm_St g b M M' Mm70 s (jm_rm 3 64 M M') H locs cells slots → lv_has ls 10 [(0, va_rf (some a0)), (1, va_rf v1), (2, .long v2), (4, .long v4), (6, .int v6), (7, .int v7)] → W p l e (jm_rm 3 64 M M') s m args below meth c H locs cells slots (jm_MQ below g b (some (.long r)) M M' args s) (F0 m 58 ls []) := by
      intro v2 v4 v6 v7 Mm70 hf H locs cells slots ls hst hl
      unfold jf_X11_determinant_k28_58 at hf
      refine lv_iload hx hb dX11_determinant_58 (lv_at hl 5 rfl) ?_
      refine jw_aload_n (r := (some a0)) hx hb dX11_determinant_60 rfl (lv_at hl 0 rfl) ?_
      obtain ⟨x71, h72, hf⟩ := jm_rd_some hf
      refine jw_getI hx hb hts hown hK hst (fl_X11_9 hts hK) h72 dX11_determinant_61 ?_
      refine lv_icmp_ne (tgt := 69) hx hb dX11_determinant_64 (by decide) (fun hc => ?_) (fun hc => ?_)
      · rw [if_neg hc] at hf
        refine lv_iload hx hb dX11_determinant_69 (lv_at hl 5 rfl) ?_
        refine lv_iload hx hb dX11_determinant_71 (lv_at hl 4 rfl) ?_
        refine lv_icmp_eq (tgt := 89) hx hb dX11_determinant_73 (by decide) (fun hc => ?_) (fun hc => ?_)
        · rw [if_pos hc] at hf
          exact J89 v2 v4 v6 _ hf _ _ _ _ _ hst (lv_sub hl [0, 1, 2, 3, 4] rfl)
        · rw [if_neg hc] at hf
          refine jw_aload_n (r := v1) hx hb dX11_determinant_76 rfl (lv_at hl 1 rfl) ?_
          refine lv_iload hx hb dX11_determinant_77 (lv_at hl 5 rfl) ?_
          refine lv_iload hx hb dX11_determinant_79 (lv_at hl 4 rfl) ?_
          obtain ⟨a76, h77, hf⟩ := jm_rd_some hf
          obtain ⟨fsa76, hea76, hr78⟩ := jm_cl_some h77
          obtain ⟨x73, Mm74, h75, hf⟩ := jm_bd_some hf
          refine jw_V (As := [.int v7, .int v6]) (rest := []) (C := RX11) (T := TX11) (N := 3) (rv := v1) (jt_X11_swapRows l g b N a76 v7 v6 Mm70 Mm74 x73 h75) C0 hK hst (jm_mono h75) (jm_le_tr (jm_mono hf) hle13) q707 q709 qs12 q90 q710 hd_X11_swapRows ⟨Nat.le_of_ble_eq_true rfl, Nat.le_of_ble_eq_true rfl⟩ hea76 hr78 rfl rfl hl.1 rfl (by rw [cs_n]; exact Nat.le_of_ble_eq_true rfl) dX11_determinant_81 (fun H locs cells slots hst => ?_)
          refine W.eq (g2 := F0 m 84 ls []) rfl ?_
          refine lv_lload hx hb dX11_determinant_84 (lv_at hl 3 rfl) ?_
          refine lv_lneg hx hb dX11_determinant_86 ?_
          refine lv_lstore (i := 4) (lv' := [(4, .long (-v4)), (0, va_rf (some a0)), (1, va_rf v1), (2, .long v2), (6, .int v6), (7, .int v7)]) hx hb dX11_determinant_87 hl (by decide) rfl (fun ls hl => ?_)
          exact J89 v2 (-v4) v6 _ hf _ _ _ _ _ hst (lv_sub hl [1, 2, 3, 0, 4] rfl)
      · rw [if_pos hc] at hf
        obtain ⟨rfl, rfl⟩ := jm_ret_some hf
        exact jm_or_l (jm_or_r hk13) _ _ _ _ _ hst (lv_sub hl [] rfl)
    have B28 : ∀ (a0 : Nat) (v1 : Option Nat) (v2 : Int64) (v4 : Int64) (v6 : Int32) (v7 : Int32) (Mm82 : Mem) (xe28 : (Int32 ⊕ Int32)) (Me28 : Mem), (jf_X11_determinant_L28 N a0 v1 v2 v4 v6 v7).1 Mm82 = some (xe28, Me28) → jm_le Me28 M' → (jm_or (fun (z : Int32) => ∀ (H : Heap) (locs : List Loc) (cells slots : Nat) (ls : Array Slot), jm_St g b M M' Me28 s (jm_rm 3 64 M M') H locs cells slots → lv_has ls 10 [(0, va_rf (some a0)), (1, va_rf v1), (2, .long v2), (4, .long v4), (6, .int v6), (7, .int z)] → W p l e (jm_rm 3 64 M M') s m args below meth c H locs cells slots (jm_MQ below g b (some (.long r)) M M' args s) (F0 m 28 ls [])) (fun (y : Int32) => ∀ (H : Heap) (locs : List Loc) (cells slots : Nat) (ls : Array Slot), jm_St g b M M' Me28 s (jm_rm 3 64 M M') H locs cells slots → lv_has ls 10 [(0, va_rf (some a0)), (1, va_rf v1), (2, .long v2), (4, .long v4), (6, .int v6), (7, .int y)] → W p l e (jm_rm 3 64 M M') s m args below meth c H locs cells slots (jm_MQ below g b (some (.long r)) M M' args s) (F0 m 58 ls [])) xe28) → ∀ (H : Heap) (locs : List Loc) (cells slots : Nat) (ls : Array Slot), jm_St g b M M' Mm82 s (jm_rm 3 64 M M') H locs cells slots → lv_has ls 10 [(0, va_rf (some a0)), (1, va_rf v1), (2, .long v2), (4, .long v4), (6, .int v6), (7, .int v7)] → W p l e (jm_rm 3 64 M M') s m args below meth c H locs cells slots (jm_MQ below g b (some (.long r)) M M' args s) (F0 m 28 ls []) := by
      intro a0 v1 v2 v4 v6 v7 Mm82 xe28 Me28 hf hle28 hk28
      intro H locs cells slots ls hst hl
      unfold jf_X11_determinant_L28 at hf
      refine lv_iload hx hb dX11_determinant_28 (lv_at hl 5 rfl) ?_
      refine jw_aload_n (r := (some a0)) hx hb dX11_determinant_30 rfl (lv_at hl 0 rfl) ?_
      obtain ⟨x83, h84, hf⟩ := jm_rd_some hf
      refine jw_getI hx hb hts hown hK hst (fl_X11_9 hts hK) h84 dX11_determinant_31 ?_
      refine lv_icmp_ge (tgt := 58) hx hb dX11_determinant_34 (by decide) (fun hc => ?_) (fun hc => ?_)
      · rw [if_pos hc] at hf
        obtain ⟨rfl, rfl⟩ := jm_ret_some hf
        exact jm_or_r hk28 _ _ _ _ _ hst (lv_sub hl [0, 1, 2, 3, 4, 5] rfl)
      · rw [if_neg hc] at hf
        refine jw_aload_n (r := v1) hx hb dX11_determinant_37 rfl (lv_at hl 1 rfl) ?_
        obtain ⟨x85, h86, hf⟩ := jm_rd_some hf
        refine jw_getR hx hb hts hown hK hst (fl_X11_20 hts hK) h86 dX11_determinant_38 ?_
        refine lv_iload hx hb dX11_determinant_41 (lv_at hl 5 rfl) ?_
        obtain ⟨x87, h88, hf⟩ := jm_rd_some hf
        refine jw_aald hx hb hK hst (show jm_ty[13]? = some (.array .long) from rfl) rfl h88 dX11_determinant_43 ?_
        refine lv_iload hx hb dX11_determinant_44 (lv_at hl 4 rfl) ?_
        obtain ⟨x89, h90, hf⟩ := jm_rd_some hf
        refine jw_lald hx hb hK hst h90 dX11_determinant_46 ?_
        refine lv_lconst (v := 0) hx hb dX11_determinant_47 (by decide) ?_
        refine W.lcmp hx hb dX11_determinant_48 ?_
        refine lv_if_ne (tgt := 58) hx hb dX11_determinant_49 (by decide) (fun hc => ?_) (fun hc => ?_)
        · replace hc := fun q => hc ((lg_cmp_eq _ _).mpr q)
          rw [if_neg hc] at hf
          obtain ⟨rfl, rfl⟩ := jm_ret_some hf
          exact jm_or_r hk28 _ _ _ _ _ hst (lv_sub hl [0, 1, 2, 3, 4, 5] rfl)
        · replace hc := (lg_cmp_eq _ _).mp hc
          rw [if_pos hc] at hf
          refine lv_iinc (i := 7) (v := (v7 + 1)) (lv' := [(7, .int (v7 + 1)), (0, va_rf (some a0)), (1, va_rf v1), (2, .long v2), (4, .long v4), (6, .int v6)]) hx hb dX11_determinant_52 hl (k := 5) rfl (by rfl) (by decide) rfl (fun ls hl => ?_)
          refine lv_goto (tgt := 28) hx hb dX11_determinant_55 (by decide) ?_
          obtain ⟨rfl, rfl⟩ := jm_ret_some hf
          exact jm_or_l hk28 _ _ _ _ _ hst (lv_sub hl [1, 2, 3, 4, 5, 0] rfl)
    intro H locs cells slots ls hst hl
    unfold jf_X11_determinant_L13 at hf
    refine lv_iload hx hb dX11_determinant_13 (lv_at hl 4 rfl) ?_
    refine lv_iconst (v := 1) hx hb dX11_determinant_15 (by decide) ?_
    refine lv_iadd hx hb dX11_determinant_16 ?_
    refine jw_aload_n (r := (some a0)) hx hb dX11_determinant_17 rfl (lv_at hl 0 rfl) ?_
    obtain ⟨x80, h81, hf⟩ := jm_rd_some hf
    refine jw_getI hx hb hts hown hK hst (fl_X11_9 hts hK) h81 dX11_determinant_18 ?_
    refine lv_icmp_ge (tgt := 203) hx hb dX11_determinant_21 (by decide) (fun hc => ?_) (fun hc => ?_)
    · rw [if_pos hc] at hf
      obtain ⟨rfl, rfl⟩ := jm_ret_some hf
      exact jm_or_r (jm_or_r hk13) _ _ _ _ _ hst (lv_sub hl [0, 1, 3] rfl)
    · rw [if_neg hc] at hf
      refine lv_iload hx hb dX11_determinant_24 (lv_at hl 4 rfl) ?_
      refine lv_istore (i := 7) (lv' := [(7, .int v6), (0, va_rf (some a0)), (1, va_rf v1), (2, .long v2), (4, .long v4), (6, .int v6)]) hx hb dX11_determinant_26 hl (by decide) rfl (fun ls hl => ?_)
      obtain ⟨xl28, Ml28, hit28, hf⟩ := jm_bd_some hf
      have hlf28 : jm_le Ml28 M' := jm_le_tr (jm_mono hf) hle13
      have hwe28 : (fun (y : Int32) (Mz : Mem) => ∀ (H : Heap) (locs : List Loc) (cells slots : Nat) (ls : Array Slot), jm_St g b M M' Mz s (jm_rm 3 64 M M') H locs cells slots → lv_has ls 10 [(0, va_rf (some a0)), (1, va_rf v1), (2, .long v2), (4, .long v4), (6, .int v6), (7, .int y)] → W p l e (jm_rm 3 64 M M') s m args below meth c H locs cells slots (jm_MQ below g b (some (.long r)) M M' args s) (F0 m 58 ls [])) xl28 Ml28 := fun H locs cells slots ls hst hl => K28_58 v2 v4 v6 xl28 _ hf H locs cells slots ls hst hl
      refine jm_it_walk (Mf := M') (Wh := fun (z : Int32) (Mz : Mem) => ∀ (H : Heap) (locs : List Loc) (cells slots : Nat) (ls : Array Slot), jm_St g b M M' Mz s (jm_rm 3 64 M M') H locs cells slots → lv_has ls 10 [(0, va_rf (some a0)), (1, va_rf v1), (2, .long v2), (4, .long v4), (6, .int v6), (7, .int z)] → W p l e (jm_rm 3 64 M M') s m args below meth c H locs cells slots (jm_MQ below g b (some (.long r)) M M' args s) (F0 m 28 ls [])) (We := fun (y : Int32) (Mz : Mem) => ∀ (H : Heap) (locs : List Loc) (cells slots : Nat) (ls : Array Slot), jm_St g b M M' Mz s (jm_rm 3 64 M M') H locs cells slots → lv_has ls 10 [(0, va_rf (some a0)), (1, va_rf v1), (2, .long v2), (4, .long v4), (6, .int v6), (7, .int y)] → W p l e (jm_rm 3 64 M M') s m args below meth c H locs cells slots (jm_MQ below g b (some (.long r)) M M' args s) (F0 m 58 ls [])) ?_ N v6 Mm79 xl28 Ml28 hit28 hlf28 hwe28 _ _ _ _ _ hst (lv_sub hl [1, 2, 3, 4, 5, 0] rfl)
      intro v7 Mm91 xe28 Me28 hf hle28 hk28 H locs cells slots ls hst hl
      have hf : (jf_X11_determinant_L28 N a0 v1 v2 v4 v6 v7).1 Mm91 = some (xe28, Me28) := hf
      have hl : lv_has ls 10 [(0, va_rf (some a0)), (1, va_rf v1), (2, .long v2), (4, .long v4), (6, .int v6), (7, .int v7)] := hl
      exact B28 a0 v1 v2 v4 v6 v7 _ _ _ hf hle28 hk28 _ _ _ _ _ hst (lv_sub hl [0, 1, 2, 3, 4, 5] rfl)
  unfold jf_X11_determinant at hf
  refine jw_aload_n (r := (some a0)) hx hb dX11_determinant_0 rfl (lv_at hl 0 rfl) ?_
  obtain ⟨a18, h19, hf⟩ := jm_rd_some hf
  obtain ⟨fsa18, hea18, hr20⟩ := jm_cl_some h19
  obtain ⟨x15, Mm16, h17, hf⟩ := jm_bd_some hf
  refine jw_V (As := []) (rest := []) (C := RX11) (T := TX11) (N := 3) (rv := (some a0)) (jt_X11_like l g b N a18  M Mm16 x15 h17) C0 hK hst (jm_mono h17) (jm_le_tr (jm_mono hf) jm_le_rf) q666 q667 q668 q90 q669 hd_X11_like ⟨Nat.le_of_ble_eq_true rfl, Nat.le_of_ble_eq_true rfl⟩ hea18 hr20 rfl rfl hl.1 rfl (by rw [cs_n]; exact Nat.le_of_ble_eq_true rfl) dX11_determinant_1 (fun H locs cells slots hst => ?_)
  refine W.eq (g2 := F0 m 4 ls [va_rf x15]) rfl ?_
  refine jw_astore_n (i := 1) (r := x15) (lv' := [(1, va_rf x15), (0, va_rf (some a0))]) hx hb dX11_determinant_4 rfl hl (by decide) (by simp [va_rf_cat, cat_i, cat_j, cat_f]) (fun ls hl => ?_)
  refine lv_lconst (v := 1) hx hb dX11_determinant_5 (by decide) ?_
  refine lv_lstore_n (i := 2) (lv' := [(2, .long (1 : Int64)), (1, va_rf x15), (0, va_rf (some a0))]) hx hb dX11_determinant_6 rfl hl (by decide) (by simp [va_rf_cat, cat_i, cat_j, cat_f]) (fun ls hl => ?_)
  refine lv_lconst (v := 1) hx hb dX11_determinant_7 (by decide) ?_
  refine lv_lstore (i := 4) (lv' := [(4, .long (1 : Int64)), (2, .long (1 : Int64)), (1, va_rf x15), (0, va_rf (some a0))]) hx hb dX11_determinant_8 hl (by decide) rfl (fun ls hl => ?_)
  refine lv_iconst (v := 0) hx hb dX11_determinant_10 (by decide) ?_
  refine lv_istore (i := 6) (lv' := [(6, .int (0 : Int32)), (4, .long (1 : Int64)), (2, .long (1 : Int64)), (1, va_rf x15), (0, va_rf (some a0))]) hx hb dX11_determinant_11 hl (by decide) rfl (fun ls hl => ?_)
  obtain ⟨xl13, Ml13, hit13, hf⟩ := jm_bd_some hf
  have hlf13 : jm_le Ml13 M' := jm_le_tr (jm_mono hf) jm_le_rf
  have hwe13 : (fun (y : (Unit ⊕ Int64)) (Mz : Mem) => jm_or (fun (y : Unit) => ∀ (H : Heap) (locs : List Loc) (cells slots : Nat) (ls : Array Slot), jm_St g b M M' Mz s (jm_rm 3 64 M M') H locs cells slots → lv_has ls 10 [] → W p l e (jm_rm 3 64 M M') s m args below meth c H locs cells slots (jm_MQ below g b (some (.long r)) M M' args s) (F0 m 67 ls [])) (fun (y : Int64) => ∀ (H : Heap) (locs : List Loc) (cells slots : Nat) (ls : Array Slot), jm_St g b M M' Mz s (jm_rm 3 64 M M') H locs cells slots → lv_has ls 10 [(0, va_rf (some a0)), (1, va_rf x15), (4, .long y)] → W p l e (jm_rm 3 64 M M') s m args below meth c H locs cells slots (jm_MQ below g b (some (.long r)) M M' args s) (F0 m 203 ls [])) y) xl13 Ml13 := by
    cases xl13 with
    | inl y0 => exact fun H locs cells slots ls hst hl => K13_67  _ hf H locs cells slots ls hst hl
    | inr y0 =>
      exact fun H locs cells slots ls hst hl => K13_203 a0 x15 y0 _ hf H locs cells slots ls hst hl
  refine jm_it_walk (Mf := M') (Wh := fun (z : Int64 × Int64 × Int32) (Mz : Mem) => ∀ (H : Heap) (locs : List Loc) (cells slots : Nat) (ls : Array Slot), jm_St g b M M' Mz s (jm_rm 3 64 M M') H locs cells slots → lv_has ls 10 [(0, va_rf (some a0)), (1, va_rf x15), (2, .long z.1), (4, .long z.2.1), (6, .int z.2.2)] → W p l e (jm_rm 3 64 M M') s m args below meth c H locs cells slots (jm_MQ below g b (some (.long r)) M M' args s) (F0 m 13 ls [])) (We := fun (y : (Unit ⊕ Int64)) (Mz : Mem) => jm_or (fun (y : Unit) => ∀ (H : Heap) (locs : List Loc) (cells slots : Nat) (ls : Array Slot), jm_St g b M M' Mz s (jm_rm 3 64 M M') H locs cells slots → lv_has ls 10 [] → W p l e (jm_rm 3 64 M M') s m args below meth c H locs cells slots (jm_MQ below g b (some (.long r)) M M' args s) (F0 m 67 ls [])) (fun (y : Int64) => ∀ (H : Heap) (locs : List Loc) (cells slots : Nat) (ls : Array Slot), jm_St g b M M' Mz s (jm_rm 3 64 M M') H locs cells slots → lv_has ls 10 [(0, va_rf (some a0)), (1, va_rf x15), (4, .long y)] → W p l e (jm_rm 3 64 M M') s m args below meth c H locs cells slots (jm_MQ below g b (some (.long r)) M M' args s) (F0 m 203 ls [])) y) ?_ N ((1 : Int64), (1 : Int64), (0 : Int32)) Mm16 xl13 Ml13 hit13 hlf13 hwe13 _ _ _ _ _ hst (lv_sub hl [4, 3, 2, 1, 0] rfl)
  intro z Mm92 xe13 Me13 hf hle13 hk13 H locs cells slots ls hst hl
  obtain ⟨v2, v4, v6⟩ := z
  have hf : (jf_X11_determinant_L13 N a0 x15 v2 v4 v6).1 Mm92 = some (xe13, Me13) := hf
  have hl : lv_has ls 10 [(0, va_rf (some a0)), (1, va_rf x15), (2, .long v2), (4, .long v4), (6, .int v6)] := hl
  exact B13 a0 x15 v2 v4 v6 _ _ _ hf hle13 hk13 _ _ _ _ _ hst (lv_sub hl [0, 1, 2, 3, 4] rfl)
theorem hd_X11_some : yX11_some.cls = RX11 ∧ yX11_some.cls ≠ "java/lang/invoke/MethodHandle" ∧ yX11_some.cls ≠ "java/lang/invoke/VarHandle" ∧ (parseMethodDescriptor yX11_some.desc).map (fun d => d.parameters.length) = some 1 := by decide +kernel
theorem hd_X11_turned : yX11_turned.cls = RX11 ∧ yX11_turned.cls ≠ "java/lang/invoke/MethodHandle" ∧ yX11_turned.cls ≠ "java/lang/invoke/VarHandle" ∧ (parseMethodDescriptor yX11_turned.desc).map (fun d => d.parameters.length) = some 0 := by decide +kernel
def jf_X11_within (N : Nat) (a0 : Nat) (v1 : Int32) : jm_P (Option Nat) :=
  jm_rd (jm_cl 11 (some a0)) fun a4 =>
  jm_bd (jf_X11_some N a4 v1) fun x1 =>
  jm_rd (jm_cl 11 x1) fun a10 =>
  jm_bd (jf_X11_turned N a10 ) fun x7 =>
  jm_rd (jm_cl 11 x7) fun a16 =>
  jm_bd (jf_X11_some N a16 v1) fun x13 =>
  jm_rd (jm_cl 11 x13) fun a22 =>
  jm_bd (jf_X11_turned N a22 ) fun x19 =>
  jm_ret x19
set_option maxHeartbeats 4000000 in
set_option maxRecDepth 100000 in
theorem jt_X11_within (l : Launch) (g : GD) (b N : Nat) (a0 : Nat) (v1 : Int32) (M M' : Mem) (r : (Option Nat)) (hf : (jf_X11_within N a0 v1).1 M = some (r, M')) : jm_Met l g b yX11_within (ws_ yX11_within cX11_within 2 (some (.object "ChainParts$Table"))) 3 67 [va_rf (some a0), .int v1] M M' (some (va_rf r)) := by
  refine jm_start (by decide) (jm_mono hf) (by rw [lg_sl_r, lg_sl_i, lg_sl_n]; exact Nat.le_of_ble_eq_true rfl) ?_
  intro p e s m args below meth c ls C0 hin hK hst hl
  obtain ⟨hx, hb, hml, hown, hts, hr, hlk⟩ := id C0
  have hown : s.vm.findClass RX11 = some m.cls := hown
  have C0 : jm_Cx p s m args meth c cX11_within 2 (some (.object "ChainParts$Table")) RX11 := C0
  rw [lv_args_r, lv_args_i, lv_args_n] at hl
  have hl : lv_has ls 2 [(0, va_rf (some a0)), (1, .int v1)] := hl
  unfold jf_X11_within at hf
  refine jw_aload_n (r := (some a0)) hx hb dX11_within_0 rfl (lv_at hl 0 rfl) ?_
  refine lv_iload_n hx hb dX11_within_1 rfl (lv_at hl 1 rfl) ?_
  obtain ⟨a4, h5, hf⟩ := jm_rd_some hf
  obtain ⟨fsa4, hea4, hr6⟩ := jm_cl_some h5
  obtain ⟨x1, Mm2, h3, hf⟩ := jm_bd_some hf
  refine jw_V (As := [.int v1]) (rest := []) (C := RX11) (T := TX11) (N := 3) (rv := (some a0)) (jt_X11_some l g b N a4 v1 M Mm2 x1 h3) C0 hK hst (jm_mono h3) (jm_le_tr (jm_mono hf) jm_le_rf) q913 q748 q749 q90 q750 hd_X11_some ⟨Nat.le_of_ble_eq_true rfl, Nat.le_of_ble_eq_true rfl⟩ hea4 hr6 rfl rfl hl.1 rfl (by rw [cs_n]; exact Nat.le_of_ble_eq_true rfl) dX11_within_2 (fun H locs cells slots hst => ?_)
  refine W.eq (g2 := F0 m 5 ls [va_rf x1]) rfl ?_
  obtain ⟨a10, h11, hf⟩ := jm_rd_some hf
  obtain ⟨fsa10, hea10, hr12⟩ := jm_cl_some h11
  obtain ⟨x7, Mm8, h9, hf⟩ := jm_bd_some hf
  refine jw_V (As := []) (rest := []) (C := RX11) (T := TX11) (N := 3) (rv := x1) (jt_X11_turned l g b N a10  Mm2 Mm8 x7 h9) C0 hK hst (jm_mono h9) (jm_le_tr (jm_mono hf) jm_le_rf) q914 q649 q650 q90 q651 hd_X11_turned ⟨Nat.le_of_ble_eq_true rfl, Nat.le_of_ble_eq_true rfl⟩ hea10 hr12 rfl rfl hl.1 rfl (by rw [cs_n]; exact Nat.le_of_ble_eq_true rfl) dX11_within_5 (fun H locs cells slots hst => ?_)
  refine W.eq (g2 := F0 m 8 ls [va_rf x7]) rfl ?_
  refine lv_iload_n hx hb dX11_within_8 rfl (lv_at hl 1 rfl) ?_
  obtain ⟨a16, h17, hf⟩ := jm_rd_some hf
  obtain ⟨fsa16, hea16, hr18⟩ := jm_cl_some h17
  obtain ⟨x13, Mm14, h15, hf⟩ := jm_bd_some hf
  refine jw_V (As := [.int v1]) (rest := []) (C := RX11) (T := TX11) (N := 3) (rv := x7) (jt_X11_some l g b N a16 v1 Mm8 Mm14 x13 h15) C0 hK hst (jm_mono h15) (jm_le_tr (jm_mono hf) jm_le_rf) q913 q748 q749 q90 q750 hd_X11_some ⟨Nat.le_of_ble_eq_true rfl, Nat.le_of_ble_eq_true rfl⟩ hea16 hr18 rfl rfl hl.1 rfl (by rw [cs_n]; exact Nat.le_of_ble_eq_true rfl) dX11_within_9 (fun H locs cells slots hst => ?_)
  refine W.eq (g2 := F0 m 12 ls [va_rf x13]) rfl ?_
  obtain ⟨a22, h23, hf⟩ := jm_rd_some hf
  obtain ⟨fsa22, hea22, hr24⟩ := jm_cl_some h23
  obtain ⟨x19, Mm20, h21, hf⟩ := jm_bd_some hf
  refine jw_V (As := []) (rest := []) (C := RX11) (T := TX11) (N := 3) (rv := x13) (jt_X11_turned l g b N a22  Mm14 Mm20 x19 h21) C0 hK hst (jm_mono h21) (jm_le_tr (jm_mono hf) jm_le_rf) q914 q649 q650 q90 q651 hd_X11_turned ⟨Nat.le_of_ble_eq_true rfl, Nat.le_of_ble_eq_true rfl⟩ hea22 hr24 rfl rfl hl.1 rfl (by rw [cs_n]; exact Nat.le_of_ble_eq_true rfl) dX11_within_12 (fun H locs cells slots hst => ?_)
  refine W.eq (g2 := F0 m 15 ls [va_rf x19]) rfl ?_
  obtain ⟨rfl, rfl⟩ := jm_ret_some hf
  exact jw_aret C0 (Or.inl ⟨_, rfl⟩) hst dX11_within_15
