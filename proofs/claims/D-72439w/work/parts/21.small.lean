/-! WALKS, printed by gen.py: 21.small -/
def jf_J6_bitCount (N : Nat) (v0 : Int32) : jm_P Int32 :=
  jm_lt (((v0.toUInt32 >>> ((1 : Int32).toUInt32 &&& Int32.toUInt32 31)).toInt32) &&& (1431655765 : Int32)) fun x1 =>
  jm_lt (((v0 - x1).toUInt32 >>> ((2 : Int32).toUInt32 &&& Int32.toUInt32 31)).toInt32) fun x2 =>
  jm_lt (((((v0 - x1) &&& (858993459 : Int32)) + (x2 &&& (858993459 : Int32))).toUInt32 >>> ((4 : Int32).toUInt32 &&& Int32.toUInt32 31)).toInt32) fun x3 =>
  jm_lt ((((v0 - x1) &&& (858993459 : Int32)) + (x2 &&& (858993459 : Int32))) + x3) fun x4 =>
  jm_lt (((x4 &&& (252645135 : Int32)).toUInt32 >>> ((8 : Int32).toUInt32 &&& Int32.toUInt32 31)).toInt32) fun x5 =>
  jm_lt ((((x4 &&& (252645135 : Int32)) + x5).toUInt32 >>> ((16 : Int32).toUInt32 &&& Int32.toUInt32 31)).toInt32) fun x6 =>
  jm_ret ((((x4 &&& (252645135 : Int32)) + x5) + x6) &&& (63 : Int32))
set_option maxHeartbeats 4000000 in
set_option maxRecDepth 100000 in
theorem jt_J6_bitCount (l : Launch) (g : GD) (b N : Nat) (v0 : Int32) (M M' : Mem) (r : Int32) (hf : (jf_J6_bitCount N v0).1 M = some (r, M')) : jm_Met l g b yJ6_bitCount (ws_ yJ6_bitCount cJ6_bitCount 1 (some .int)) 0 0 [.int v0] M M' (some (.int r)) := by
  refine jm_start (by decide) (jm_mono hf) (by rw [lg_sl_i, lg_sl_n]; exact Nat.le_of_ble_eq_true rfl) ?_
  intro p e s m args below meth c ls C0 hin hK hst hl
  obtain ⟨hx, hb, hml, hown, hts, hr, hlk⟩ := id C0
  have hown : s.vm.findClass RJ6 = some m.cls := hown
  have C0 : jm_Cx p s m args meth c cJ6_bitCount 1 (some .int) RJ6 := C0
  rw [lv_args_i, lv_args_n] at hl
  have hl : lv_has ls 1 [(0, .int v0)] := hl
  unfold jf_J6_bitCount at hf
  refine lv_iload_n hx hb dJ6_bitCount_0 rfl (lv_at hl 0 rfl) ?_
  refine lv_iload_n hx hb dJ6_bitCount_1 rfl (lv_at hl 0 rfl) ?_
  refine lv_iconst (v := 1) hx hb dJ6_bitCount_2 (by decide) ?_
  refine lv_iushr hx hb dJ6_bitCount_3 rfl ?_
  refine lv_ldcw hx hb hown (hts _ q754) dJ6_bitCount_4 ?_
  refine lv_iand hx hb dJ6_bitCount_7 ?_
  obtain ⟨x1, ex1, hf⟩ := jm_lt_some hf
  rw [← ex1]
  refine lv_isub hx hb dJ6_bitCount_8 ?_
  refine lv_istore_n (i := 0) (lv' := [(0, .int (v0 - x1))]) hx hb dJ6_bitCount_9 rfl hl (by decide) rfl (fun ls hl => ?_)
  refine lv_iload_n hx hb dJ6_bitCount_10 rfl (lv_at hl 0 rfl) ?_
  refine lv_ldcw hx hb hown (hts _ q755) dJ6_bitCount_11 ?_
  refine lv_iand hx hb dJ6_bitCount_14 ?_
  refine lv_iload_n hx hb dJ6_bitCount_15 rfl (lv_at hl 0 rfl) ?_
  refine lv_iconst (v := 2) hx hb dJ6_bitCount_16 (by decide) ?_
  refine lv_iushr hx hb dJ6_bitCount_17 rfl ?_
  obtain ⟨x2, ex2, hf⟩ := jm_lt_some hf
  rw [← ex2]
  refine lv_ldcw hx hb hown (hts _ q755) dJ6_bitCount_18 ?_
  refine lv_iand hx hb dJ6_bitCount_21 ?_
  refine lv_iadd hx hb dJ6_bitCount_22 ?_
  refine lv_istore_n (i := 0) (lv' := [(0, .int (((v0 - x1) &&& (858993459 : Int32)) + (x2 &&& (858993459 : Int32))))]) hx hb dJ6_bitCount_23 rfl hl (by decide) rfl (fun ls hl => ?_)
  refine lv_iload_n hx hb dJ6_bitCount_24 rfl (lv_at hl 0 rfl) ?_
  refine lv_iload_n hx hb dJ6_bitCount_25 rfl (lv_at hl 0 rfl) ?_
  refine lv_iconst (v := 4) hx hb dJ6_bitCount_26 (by decide) ?_
  refine lv_iushr hx hb dJ6_bitCount_27 rfl ?_
  obtain ⟨x3, ex3, hf⟩ := jm_lt_some hf
  rw [← ex3]
  refine lv_iadd hx hb dJ6_bitCount_28 ?_
  obtain ⟨x4, ex4, hf⟩ := jm_lt_some hf
  rw [← ex4]
  refine lv_ldcw hx hb hown (hts _ q756) dJ6_bitCount_29 ?_
  refine lv_iand hx hb dJ6_bitCount_32 ?_
  refine lv_istore_n (i := 0) (lv' := [(0, .int (x4 &&& (252645135 : Int32)))]) hx hb dJ6_bitCount_33 rfl hl (by decide) rfl (fun ls hl => ?_)
  refine lv_iload_n hx hb dJ6_bitCount_34 rfl (lv_at hl 0 rfl) ?_
  refine lv_iload_n hx hb dJ6_bitCount_35 rfl (lv_at hl 0 rfl) ?_
  refine lv_bipush (v := 8) hx hb dJ6_bitCount_36 (by decide) ?_
  refine lv_iushr hx hb dJ6_bitCount_38 rfl ?_
  obtain ⟨x5, ex5, hf⟩ := jm_lt_some hf
  rw [← ex5]
  refine lv_iadd hx hb dJ6_bitCount_39 ?_
  refine lv_istore_n (i := 0) (lv' := [(0, .int ((x4 &&& (252645135 : Int32)) + x5))]) hx hb dJ6_bitCount_40 rfl hl (by decide) rfl (fun ls hl => ?_)
  refine lv_iload_n hx hb dJ6_bitCount_41 rfl (lv_at hl 0 rfl) ?_
  refine lv_iload_n hx hb dJ6_bitCount_42 rfl (lv_at hl 0 rfl) ?_
  refine lv_bipush (v := 16) hx hb dJ6_bitCount_43 (by decide) ?_
  refine lv_iushr hx hb dJ6_bitCount_45 rfl ?_
  obtain ⟨x6, ex6, hf⟩ := jm_lt_some hf
  rw [← ex6]
  refine lv_iadd hx hb dJ6_bitCount_46 ?_
  refine lv_istore_n (i := 0) (lv' := [(0, .int (((x4 &&& (252645135 : Int32)) + x5) + x6))]) hx hb dJ6_bitCount_47 rfl hl (by decide) rfl (fun ls hl => ?_)
  refine lv_iload_n hx hb dJ6_bitCount_48 rfl (lv_at hl 0 rfl) ?_
  refine lv_bipush (v := 63) hx hb dJ6_bitCount_49 (by decide) ?_
  refine lv_iand hx hb dJ6_bitCount_51 ?_
  obtain ⟨rfl, rfl⟩ := jm_ret_some hf
  exact jw_iret C0 hst dJ6_bitCount_52
def jf_X0_isIn (N : Nat) (v0 : Int64) (v2 : Int64) (v4 : Int64) : jm_P Int32 :=
  if v0 < v2 then (
    jm_ret (0 : Int32))
  else
    if v4 < v0 then (
      jm_ret (0 : Int32))
    else
      jm_ret (1 : Int32)
set_option maxHeartbeats 4000000 in
set_option maxRecDepth 100000 in
theorem jt_X0_isIn (l : Launch) (g : GD) (b N : Nat) (v0 : Int64) (v2 : Int64) (v4 : Int64) (M M' : Mem) (r : Int32) (hf : (jf_X0_isIn N v0 v2 v4).1 M = some (r, M')) : jm_Met l g b yX0_isIn (ws_ yX0_isIn cX0_isIn 6 (some .boolean)) 0 0 [.long v0, .long v2, .long v4] M M' (some (.int r)) := by
  refine jm_start (by decide) (jm_mono hf) (by rw [lg_sl_j, lg_sl_j, lg_sl_j, lg_sl_n]; exact Nat.le_of_ble_eq_true rfl) ?_
  intro p e s m args below meth c ls C0 hin hK hst hl
  obtain ⟨hx, hb, hml, hown, hts, hr, hlk⟩ := id C0
  have hown : s.vm.findClass RX0 = some m.cls := hown
  have C0 : jm_Cx p s m args meth c cX0_isIn 6 (some .boolean) RX0 := C0
  rw [lv_args_j, lv_args_j, lv_args_j, lv_args_n] at hl
  have hl : lv_has ls 6 [(0, .long v0), (2, .long v2), (4, .long v4)] := hl
  unfold jf_X0_isIn at hf
  refine lv_lload_n hx hb dX0_isIn_0 rfl (lv_at hl 0 rfl) ?_
  refine lv_lload_n hx hb dX0_isIn_1 rfl (lv_at hl 1 rfl) ?_
  refine W.lcmp hx hb dX0_isIn_2 ?_
  refine lv_if_lt (tgt := 17) hx hb dX0_isIn_3 (by decide) (fun hc => ?_) (fun hc => ?_)
  · replace hc := (lg_cmp_lt _ _).mp hc
    rw [if_pos hc] at hf
    refine lv_iconst (v := 0) hx hb dX0_isIn_17 (by decide) ?_
    obtain ⟨rfl, rfl⟩ := jm_ret_some hf
    exact jw_zret C0 (Or.inl rfl) hst dX0_isIn_18
  · replace hc := fun q => hc ((lg_cmp_lt _ _).mpr q)
    rw [if_neg hc] at hf
    refine lv_lload_n hx hb dX0_isIn_6 rfl (lv_at hl 0 rfl) ?_
    refine lv_lload hx hb dX0_isIn_7 (lv_at hl 2 rfl) ?_
    refine W.lcmp hx hb dX0_isIn_9 ?_
    refine lv_if_gt (tgt := 17) hx hb dX0_isIn_10 (by decide) (fun hc => ?_) (fun hc => ?_)
    · replace hc := (lg_cmp_gt _ _).mp hc
      rw [if_pos hc] at hf
      refine lv_iconst (v := 0) hx hb dX0_isIn_17 (by decide) ?_
      obtain ⟨rfl, rfl⟩ := jm_ret_some hf
      exact jw_zret C0 (Or.inl rfl) hst dX0_isIn_18
    · replace hc := fun q => hc ((lg_cmp_gt _ _).mpr q)
      rw [if_neg hc] at hf
      refine lv_iconst (v := 1) hx hb dX0_isIn_13 (by decide) ?_
      refine lv_goto (tgt := 18) hx hb dX0_isIn_14 (by decide) ?_
      obtain ⟨rfl, rfl⟩ := jm_ret_some hf
      exact jw_zret C0 (Or.inr rfl) hst dX0_isIn_18
def jf_X4_init (N : Nat) (a0 : Nat) : jm_P Unit :=
  jm_ret ()
set_option maxHeartbeats 4000000 in
set_option maxRecDepth 100000 in
theorem jt_X4_init (l : Launch) (g : GD) (b N : Nat) (a0 : Nat) (M M' : Mem) (r : Unit) (hf : (jf_X4_init N a0).1 M = some (r, M')) : jm_Met l g b yX4_init (ws_ yX4_init cX4_init 1 none) 1 20 [va_rf (some a0)] M M' none := by
  refine jm_start (by decide) (jm_mono hf) (by rw [lg_sl_r, lg_sl_n]; exact Nat.le_of_ble_eq_true rfl) ?_
  intro p e s m args below meth c ls C0 hin hK hst hl
  obtain ⟨hx, hb, hml, hown, hts, hr, hlk⟩ := id C0
  have hown : s.vm.findClass RX4 = some m.cls := hown
  have C0 : jm_Cx p s m args meth c cX4_init 1 none RX4 := C0
  rw [lv_args_r, lv_args_n] at hl
  have hl : lv_has ls 1 [(0, va_rf (some a0))] := hl
  unfold jf_X4_init at hf
  refine jw_aload_n (r := (some a0)) hx hb dX4_init_0 rfl (lv_at hl 0 rfl) ?_
  refine W.objInit hx hb hown (hts _ q278) (hts _ q99) (hts _ q100) rfl (by rw [hml]; exact hl.1) rfl dX4_init_1 (Nat.le_of_ble_eq_true rfl) (by rw [cs_n]; exact Nat.le_of_ble_eq_true rfl) ?_
  refine W.eq (g2 := F0 m 4 ls []) rfl ?_
  obtain ⟨-, rfl⟩ := jm_ret_some hf
  exact jw_vret C0 hst dX4_init_4
theorem hd_X4_init : yX4_init.cls = RX4 ∧ yX4_init.cls ≠ "java/lang/invoke/MethodHandle" ∧ yX4_init.cls ≠ "java/lang/invoke/VarHandle" ∧ (parseMethodDescriptor yX4_init.desc).map (fun d => d.parameters.length) = some 0 := by decide +kernel
theorem fw_X5_9 {s : State} {args : Array Value} {meth : Method} (hts : ∀ w ∈ lw_all, w.before args s = true) (hin : meth.name = "<init>") : ∀ q ∈ ([5, 6] : List Nat), jm_FW s args meth RX5 9 q 0 .int := by
  intro q hq
  simp only [List.mem_cons, List.not_mem_nil, or_false] at hq
  rcases hq with rfl | rfl
  · exact ⟨RX5, TX5, 3, rfl, in_X5, by decide, ⟨tyX5, tyX5_ok⟩, nmX5, tyX5_ok 0 (by decide), "ChainParts$EdgeCell", hts _ q279, fun _ h => h, Or.inr ⟨rfl, hin, rfl⟩⟩
  · exact ⟨RX6, TX6, 3, rfl, in_X6, by decide, ⟨tyX6, tyX6_ok⟩, nmX6, tyX6_ok 0 (by decide), "ChainParts$EdgeCell", hts _ q279, fun _ h => h, Or.inr ⟨rfl, hin, rfl⟩⟩
theorem fw_X5_15 {s : State} {args : Array Value} {meth : Method} (hts : ∀ w ∈ lw_all, w.before args s = true) (hin : meth.name = "<init>") : ∀ q ∈ ([5, 6] : List Nat), jm_FW s args meth RX5 15 q 1 .int := by
  intro q hq
  simp only [List.mem_cons, List.not_mem_nil, or_false] at hq
  rcases hq with rfl | rfl
  · exact ⟨RX5, TX5, 3, rfl, in_X5, by decide, ⟨tyX5, tyX5_ok⟩, nmX5, tyX5_ok 1 (by decide), "ChainParts$EdgeCell", hts _ q285, fun _ h => h, Or.inr ⟨rfl, hin, rfl⟩⟩
  · exact ⟨RX6, TX6, 3, rfl, in_X6, by decide, ⟨tyX6, tyX6_ok⟩, nmX6, tyX6_ok 1 (by decide), "ChainParts$EdgeCell", hts _ q285, fun _ h => h, Or.inr ⟨rfl, hin, rfl⟩⟩
theorem fw_X5_18 {s : State} {args : Array Value} {meth : Method} (hts : ∀ w ∈ lw_all, w.before args s = true) (hin : meth.name = "<init>") : ∀ q ∈ ([5, 6] : List Nat), jm_FW s args meth RX5 18 q 2 .int := by
  intro q hq
  simp only [List.mem_cons, List.not_mem_nil, or_false] at hq
  rcases hq with rfl | rfl
  · exact ⟨RX5, TX5, 3, rfl, in_X5, by decide, ⟨tyX5, tyX5_ok⟩, nmX5, tyX5_ok 2 (by decide), "ChainParts$EdgeCell", hts _ q289, fun _ h => h, Or.inr ⟨rfl, hin, rfl⟩⟩
  · exact ⟨RX6, TX6, 3, rfl, in_X6, by decide, ⟨tyX6, tyX6_ok⟩, nmX6, tyX6_ok 2 (by decide), "ChainParts$EdgeCell", hts _ q289, fun _ h => h, Or.inr ⟨rfl, hin, rfl⟩⟩
def jf_X5_init (N : Nat) (a0 : Nat) (v1 : Int32) (v2 : Int32) (v3 : Int32) : jm_P Unit :=
  jm_bd (jf_X4_init N a0 ) fun x1 =>
  jm_wr (jm_put [5, 6] 0 (.int v1) (some a0)) <|
  jm_wr (jm_put [5, 6] 1 (.int v2) (some a0)) <|
  jm_wr (jm_put [5, 6] 2 (.int v3) (some a0)) <|
  jm_ret ()
set_option maxHeartbeats 4000000 in
set_option maxRecDepth 100000 in
theorem jt_X5_init (l : Launch) (g : GD) (b N : Nat) (a0 : Nat) (v1 : Int32) (v2 : Int32) (v3 : Int32) (M M' : Mem) (r : Unit) (hf : (jf_X5_init N a0 v1 v2 v3).1 M = some (r, M')) : jm_Met l g b yX5_init (ws_ yX5_init cX5_init 4 none) 2 40 [va_rf (some a0), .int v1, .int v2, .int v3] M M' none := by
  refine jm_start (by decide) (jm_mono hf) (by rw [lg_sl_r, lg_sl_i, lg_sl_i, lg_sl_i, lg_sl_n]; exact Nat.le_of_ble_eq_true rfl) ?_
  intro p e s m args below meth c ls C0 hin hK hst hl
  obtain ⟨hx, hb, hml, hown, hts, hr, hlk⟩ := id C0
  have hown : s.vm.findClass RX5 = some m.cls := hown
  have C0 : jm_Cx p s m args meth c cX5_init 4 none RX5 := C0
  rw [lv_args_r, lv_args_i, lv_args_i, lv_args_i, lv_args_n] at hl
  have hl : lv_has ls 4 [(0, va_rf (some a0)), (1, .int v1), (2, .int v2), (3, .int v3)] := hl
  unfold jf_X5_init at hf
  refine jw_aload_n (r := (some a0)) hx hb dX5_init_0 rfl (lv_at hl 0 rfl) ?_
  obtain ⟨x1, Mm2, h3, hf⟩ := jm_bd_some hf
  refine jw_IN (As := []) (rest := []) (rv := (some a0)) (jt_X4_init l g b N a0  M Mm2 x1 h3) C0 hK hst (jm_mono h3) (jm_le_tr (jm_mono hf) jm_le_rf) nq275 q276 q78 q277 rfl hd_X4_init.2 ⟨Nat.le_of_ble_eq_true rfl, Nat.le_of_ble_eq_true rfl⟩ rfl rfl hl.1 rfl (by rw [cs_n]; exact Nat.le_of_ble_eq_true rfl) dX5_init_1 (fun H locs cells slots hst => ?_)
  refine W.eq (g2 := F0 m 4 ls []) rfl ?_
  refine jw_aload_n (r := (some a0)) hx hb dX5_init_4 rfl (lv_at hl 0 rfl) ?_
  refine lv_iload_n hx hb dX5_init_5 rfl (lv_at hl 1 rfl) ?_
  obtain ⟨F4, h5, hf⟩ := jm_wr_some hf
  refine jw_put (r := (some a0)) hx hb hts hown hK hst (fw_X5_9 hts hin) h5 rfl rfl dX5_init_6 (fun H locs hst => ?_)
  generalize ((Mm2.1, Mm2.2.1, F4) : Mem) = Mm6 at hf hst
  refine jw_aload_n (r := (some a0)) hx hb dX5_init_9 rfl (lv_at hl 0 rfl) ?_
  refine lv_iload_n hx hb dX5_init_10 rfl (lv_at hl 2 rfl) ?_
  obtain ⟨F7, h8, hf⟩ := jm_wr_some hf
  refine jw_put (r := (some a0)) hx hb hts hown hK hst (fw_X5_15 hts hin) h8 rfl rfl dX5_init_11 (fun H locs hst => ?_)
  generalize ((Mm6.1, Mm6.2.1, F7) : Mem) = Mm9 at hf hst
  refine jw_aload_n (r := (some a0)) hx hb dX5_init_14 rfl (lv_at hl 0 rfl) ?_
  refine lv_iload_n hx hb dX5_init_15 rfl (lv_at hl 3 rfl) ?_
  obtain ⟨F10, h11, hf⟩ := jm_wr_some hf
  refine jw_put (r := (some a0)) hx hb hts hown hK hst (fw_X5_18 hts hin) h11 rfl rfl dX5_init_16 (fun H locs hst => ?_)
  generalize ((Mm9.1, Mm9.2.1, F10) : Mem) = Mm12 at hf hst
  obtain ⟨-, rfl⟩ := jm_ret_some hf
  exact jw_vret C0 hst dX5_init_19
theorem hd_X5_init : yX5_init.cls = RX5 ∧ yX5_init.cls ≠ "java/lang/invoke/MethodHandle" ∧ yX5_init.cls ≠ "java/lang/invoke/VarHandle" ∧ (parseMethodDescriptor yX5_init.desc).map (fun d => d.parameters.length) = some 3 := by decide +kernel
def jf_X6_init (N : Nat) (a0 : Nat) (v1 : Int32) (v2 : Int32) : jm_P Unit :=
  jm_bd (jf_X5_init N a0 v1 v1 v2) fun x1 =>
  jm_ret ()
set_option maxHeartbeats 4000000 in
set_option maxRecDepth 100000 in
theorem jt_X6_init (l : Launch) (g : GD) (b N : Nat) (a0 : Nat) (v1 : Int32) (v2 : Int32) (M M' : Mem) (r : Unit) (hf : (jf_X6_init N a0 v1 v2).1 M = some (r, M')) : jm_Met l g b yX6_init (ws_ yX6_init cX6_init 3 none) 3 63 [va_rf (some a0), .int v1, .int v2] M M' none := by
  refine jm_start (by decide) (jm_mono hf) (by rw [lg_sl_r, lg_sl_i, lg_sl_i, lg_sl_n]; exact Nat.le_of_ble_eq_true rfl) ?_
  intro p e s m args below meth c ls C0 hin hK hst hl
  obtain ⟨hx, hb, hml, hown, hts, hr, hlk⟩ := id C0
  have hown : s.vm.findClass RX6 = some m.cls := hown
  have C0 : jm_Cx p s m args meth c cX6_init 3 none RX6 := C0
  rw [lv_args_r, lv_args_i, lv_args_i, lv_args_n] at hl
  have hl : lv_has ls 3 [(0, va_rf (some a0)), (1, .int v1), (2, .int v2)] := hl
  unfold jf_X6_init at hf
  refine jw_aload_n (r := (some a0)) hx hb dX6_init_0 rfl (lv_at hl 0 rfl) ?_
  refine lv_iload_n hx hb dX6_init_1 rfl (lv_at hl 1 rfl) ?_
  refine lv_iload_n hx hb dX6_init_2 rfl (lv_at hl 1 rfl) ?_
  refine lv_iload_n hx hb dX6_init_3 rfl (lv_at hl 2 rfl) ?_
  obtain ⟨x1, Mm2, h3, hf⟩ := jm_bd_some hf
  refine jw_I (As := [.int v1, .int v1, .int v2]) (rest := []) (rv := (some a0)) (jt_X5_init l g b N a0 v1 v1 v2 M Mm2 x1 h3) C0 hK hst (jm_mono h3) (jm_le_tr (jm_mono hf) jm_le_rf) q272 q273 q79 q274 rfl hd_X5_init.2 ⟨Nat.le_of_ble_eq_true rfl, Nat.le_of_ble_eq_true rfl⟩ rfl rfl hl.1 rfl (by rw [cs_n]; exact Nat.le_of_ble_eq_true rfl) dX6_init_4 (fun H locs cells slots hst => ?_)
  refine W.eq (g2 := F0 m 7 ls []) rfl ?_
  obtain ⟨-, rfl⟩ := jm_ret_some hf
  exact jw_vret C0 hst dX6_init_7
theorem hd_X6_init : yX6_init.cls = RX6 ∧ yX6_init.cls ≠ "java/lang/invoke/MethodHandle" ∧ yX6_init.cls ≠ "java/lang/invoke/VarHandle" ∧ (parseMethodDescriptor yX6_init.desc).map (fun d => d.parameters.length) = some 2 := by decide +kernel
def jf_X0_edgeBy (N : Nat) (v0 : Int32) (v1 : Int32) (v2 : Int32) : jm_P (Option Nat) :=
  if v0 = v1 then (
    jm_al (.inr (6, [.int 0, .int 0, .int 0])) fun q6 =>
    jm_bd (jf_X6_init N q6 v0 v2) fun x8 =>
    jm_ret (some q6))
  else
    jm_al (.inr (5, [.int 0, .int 0, .int 0])) fun q1 =>
    jm_bd (jf_X5_init N q1 v0 v1 v2) fun x3 =>
    jm_ret (some q1)
set_option maxHeartbeats 4000000 in
set_option maxRecDepth 100000 in
theorem jt_X0_edgeBy (l : Launch) (g : GD) (b N : Nat) (v0 : Int32) (v1 : Int32) (v2 : Int32) (M M' : Mem) (r : (Option Nat)) (hf : (jf_X0_edgeBy N v0 v1 v2).1 M = some (r, M')) : jm_Met l g b yX0_edgeBy (ws_ yX0_edgeBy cX0_edgeBy 3 (some (.object "ChainParts$EdgeCell"))) 4 85 [.int v0, .int v1, .int v2] M M' (some (va_rf r)) := by
  refine jm_start (by decide) (jm_mono hf) (by rw [lg_sl_i, lg_sl_i, lg_sl_i, lg_sl_n]; exact Nat.le_of_ble_eq_true rfl) ?_
  intro p e s m args below meth c ls C0 hin hK hst hl
  obtain ⟨hx, hb, hml, hown, hts, hr, hlk⟩ := id C0
  have hown : s.vm.findClass RX0 = some m.cls := hown
  have C0 : jm_Cx p s m args meth c cX0_edgeBy 3 (some (.object "ChainParts$EdgeCell")) RX0 := C0
  rw [lv_args_i, lv_args_i, lv_args_i, lv_args_n] at hl
  have hl : lv_has ls 3 [(0, .int v0), (1, .int v1), (2, .int v2)] := hl
  unfold jf_X0_edgeBy at hf
  refine lv_iload_n hx hb dX0_edgeBy_0 rfl (lv_at hl 0 rfl) ?_
  refine lv_iload_n hx hb dX0_edgeBy_1 rfl (lv_at hl 1 rfl) ?_
  refine lv_icmp_ne (tgt := 17) hx hb dX0_edgeBy_2 (by decide) (fun hc => ?_) (fun hc => ?_)
  · rw [if_neg hc] at hf
    obtain ⟨q1, hq1, hf⟩ := jm_al_some hf
    refine jw_new (ci := 5) (C := RX5) (T := TX5) (N := 3) (fs := [.int 0, .int 0, .int 0]) hx hb hts in_X5 tyX5 tyX5_ok hown (hts _ q299) (hts _ q300) (hts _ q79) hK hst rfl (fun j hj => by match j, hj with | 0, _ => rfl | 1, _ => rfl | 2, _ => rfl | k + 3, hj => omega) rfl (jm_le_tr (jm_mono hf) jm_le_rf) hq1 dX0_edgeBy_17 (fun H cells slots hst => ?_)
    generalize jm_new (.inr (5, [.int 0, .int 0, .int 0])) M = Mm2 at hf hst
    refine lv_dup hx hb dX0_edgeBy_20 (va_rf_cat _) ?_
    refine lv_iload_n hx hb dX0_edgeBy_21 rfl (lv_at hl 0 rfl) ?_
    refine lv_iload_n hx hb dX0_edgeBy_22 rfl (lv_at hl 1 rfl) ?_
    refine lv_iload_n hx hb dX0_edgeBy_23 rfl (lv_at hl 2 rfl) ?_
    obtain ⟨x3, Mm4, h5, hf⟩ := jm_bd_some hf
    refine jw_I (As := [.int v0, .int v1, .int v2]) (rest := [va_rf (some q1)]) (rv := (some q1)) (jt_X5_init l g b N q1 v0 v1 v2 Mm2 Mm4 x3 h5) C0 hK hst (jm_mono h5) (jm_le_tr (jm_mono hf) jm_le_rf) q301 q273 q79 q274 rfl hd_X5_init.2 ⟨Nat.le_of_ble_eq_true rfl, Nat.le_of_ble_eq_true rfl⟩ rfl rfl hl.1 rfl (by rw [cs_r, cs_n]; exact Nat.le_of_ble_eq_true rfl) dX0_edgeBy_24 (fun H locs cells slots hst => ?_)
    refine W.eq (g2 := F0 m 27 ls [va_rf (some q1)]) rfl ?_
    obtain ⟨rfl, rfl⟩ := jm_ret_some hf
    exact jw_aret C0 (Or.inl ⟨_, rfl⟩) hst dX0_edgeBy_27
  · rw [if_pos hc] at hf
    obtain ⟨q6, hq6, hf⟩ := jm_al_some hf
    refine jw_new (ci := 6) (C := RX6) (T := TX6) (N := 3) (fs := [.int 0, .int 0, .int 0]) hx hb hts in_X6 tyX6 tyX6_ok hown (hts _ q267) (hts _ q268) (hts _ q80) hK hst rfl (fun j hj => by match j, hj with | 0, _ => rfl | 1, _ => rfl | 2, _ => rfl | k + 3, hj => omega) rfl (jm_le_tr (jm_mono hf) jm_le_rf) hq6 dX0_edgeBy_5 (fun H cells slots hst => ?_)
    generalize jm_new (.inr (6, [.int 0, .int 0, .int 0])) M = Mm7 at hf hst
    refine lv_dup hx hb dX0_edgeBy_8 (va_rf_cat _) ?_
    refine lv_iload_n hx hb dX0_edgeBy_9 rfl (lv_at hl 0 rfl) ?_
    refine lv_iload_n hx hb dX0_edgeBy_10 rfl (lv_at hl 2 rfl) ?_
    obtain ⟨x8, Mm9, h10, hf⟩ := jm_bd_some hf
    refine jw_I (As := [.int v0, .int v2]) (rest := [va_rf (some q6)]) (rv := (some q6)) (jt_X6_init l g b N q6 v0 v2 Mm7 Mm9 x8 h10) C0 hK hst (jm_mono h10) (jm_le_tr (jm_mono hf) jm_le_rf) q269 q270 q80 q271 rfl hd_X6_init.2 ⟨Nat.le_of_ble_eq_true rfl, Nat.le_of_ble_eq_true rfl⟩ rfl rfl hl.1 rfl (by rw [cs_r, cs_n]; exact Nat.le_of_ble_eq_true rfl) dX0_edgeBy_11 (fun H locs cells slots hst => ?_)
    refine W.eq (g2 := F0 m 14 ls [va_rf (some q6)]) rfl ?_
    refine lv_goto (tgt := 27) hx hb dX0_edgeBy_14 (by decide) ?_
    obtain ⟨rfl, rfl⟩ := jm_ret_some hf
    exact jw_aret C0 (Or.inl ⟨_, rfl⟩) hst dX0_edgeBy_27
theorem fw_X7_9 {s : State} {args : Array Value} {meth : Method} (hts : ∀ w ∈ lw_all, w.before args s = true) (hin : meth.name = "<init>") : ∀ q ∈ ([7, 8] : List Nat), jm_FW s args meth RX7 9 q 0 (.array .int) := by
  intro q hq
  simp only [List.mem_cons, List.not_mem_nil, or_false] at hq
  rcases hq with rfl | rfl
  · exact ⟨RX7, TX7, 2, rfl, in_X7, by decide, ⟨tyX7, tyX7_ok⟩, nmX7, tyX7_ok 0 (by decide), "ChainParts$FaceCell", hts _ q327, fun _ h => h, Or.inr ⟨rfl, hin, rfl⟩⟩
  · exact ⟨RX8, TX8, 2, rfl, in_X8, by decide, ⟨tyX8, tyX8_ok⟩, nmX8, tyX8_ok 0 (by decide), "ChainParts$FaceCell", hts _ q327, fun _ h => h, Or.inr ⟨rfl, hin, rfl⟩⟩
theorem fw_X7_15 {s : State} {args : Array Value} {meth : Method} (hts : ∀ w ∈ lw_all, w.before args s = true) (hin : meth.name = "<init>") : ∀ q ∈ ([7, 8] : List Nat), jm_FW s args meth RX7 15 q 1 .int := by
  intro q hq
  simp only [List.mem_cons, List.not_mem_nil, or_false] at hq
  rcases hq with rfl | rfl
  · exact ⟨RX7, TX7, 2, rfl, in_X7, by decide, ⟨tyX7, tyX7_ok⟩, nmX7, tyX7_ok 1 (by decide), "ChainParts$FaceCell", hts _ q331, fun _ h => h, Or.inr ⟨rfl, hin, rfl⟩⟩
  · exact ⟨RX8, TX8, 2, rfl, in_X8, by decide, ⟨tyX8, tyX8_ok⟩, nmX8, tyX8_ok 1 (by decide), "ChainParts$FaceCell", hts _ q331, fun _ h => h, Or.inr ⟨rfl, hin, rfl⟩⟩
def jf_X7_init (N : Nat) (a0 : Nat) (v1 : Option Nat) (v2 : Int32) : jm_P Unit :=
  jm_bd (jf_X4_init N a0 ) fun x1 =>
  jm_wr (jm_put [7, 8] 0 (va_rf v1) (some a0)) <|
  jm_wr (jm_put [7, 8] 1 (.int v2) (some a0)) <|
  jm_ret ()
set_option maxHeartbeats 4000000 in
set_option maxRecDepth 100000 in
theorem jt_X7_init (l : Launch) (g : GD) (b N : Nat) (a0 : Nat) (v1 : Option Nat) (v2 : Int32) (M M' : Mem) (r : Unit) (hf : (jf_X7_init N a0 v1 v2).1 M = some (r, M')) : jm_Met l g b yX7_init (ws_ yX7_init cX7_init 3 none) 2 40 [va_rf (some a0), va_rf v1, .int v2] M M' none := by
  refine jm_start (by decide) (jm_mono hf) (by rw [lg_sl_r, lg_sl_r, lg_sl_i, lg_sl_n]; exact Nat.le_of_ble_eq_true rfl) ?_
  intro p e s m args below meth c ls C0 hin hK hst hl
  obtain ⟨hx, hb, hml, hown, hts, hr, hlk⟩ := id C0
  have hown : s.vm.findClass RX7 = some m.cls := hown
  have C0 : jm_Cx p s m args meth c cX7_init 3 none RX7 := C0
  rw [lv_args_r, lv_args_r, lv_args_i, lv_args_n] at hl
  have hl : lv_has ls 3 [(0, va_rf (some a0)), (1, va_rf v1), (2, .int v2)] := hl
  unfold jf_X7_init at hf
  refine jw_aload_n (r := (some a0)) hx hb dX7_init_0 rfl (lv_at hl 0 rfl) ?_
  obtain ⟨x1, Mm2, h3, hf⟩ := jm_bd_some hf
  refine jw_IN (As := []) (rest := []) (rv := (some a0)) (jt_X4_init l g b N a0  M Mm2 x1 h3) C0 hK hst (jm_mono h3) (jm_le_tr (jm_mono hf) jm_le_rf) nq326 q276 q78 q277 rfl hd_X4_init.2 ⟨Nat.le_of_ble_eq_true rfl, Nat.le_of_ble_eq_true rfl⟩ rfl rfl hl.1 rfl (by rw [cs_n]; exact Nat.le_of_ble_eq_true rfl) dX7_init_1 (fun H locs cells slots hst => ?_)
  refine W.eq (g2 := F0 m 4 ls []) rfl ?_
  refine jw_aload_n (r := (some a0)) hx hb dX7_init_4 rfl (lv_at hl 0 rfl) ?_
  refine jw_aload_n (r := v1) hx hb dX7_init_5 rfl (lv_at hl 1 rfl) ?_
  obtain ⟨F4, h5, hf⟩ := jm_wr_some hf
  refine jw_put (r := (some a0)) hx hb hts hown hK hst (fw_X7_9 hts hin) h5 (va_nar_a _) (va_fits_a _) dX7_init_6 (fun H locs hst => ?_)
  generalize ((Mm2.1, Mm2.2.1, F4) : Mem) = Mm6 at hf hst
  refine jw_aload_n (r := (some a0)) hx hb dX7_init_9 rfl (lv_at hl 0 rfl) ?_
  refine lv_iload_n hx hb dX7_init_10 rfl (lv_at hl 2 rfl) ?_
  obtain ⟨F7, h8, hf⟩ := jm_wr_some hf
  refine jw_put (r := (some a0)) hx hb hts hown hK hst (fw_X7_15 hts hin) h8 rfl rfl dX7_init_11 (fun H locs hst => ?_)
  generalize ((Mm6.1, Mm6.2.1, F7) : Mem) = Mm9 at hf hst
  obtain ⟨-, rfl⟩ := jm_ret_some hf
  exact jw_vret C0 hst dX7_init_14
theorem fl_X7_9 {g : GD} {s : State} {args : Array Value} (hts : ∀ w ∈ lw_all, w.before args s = true) (hK : jm_KG g s) : ∀ q ∈ ([7, 8] : List Nat), jm_FL s args RX7 9 q 0 := by
  intro q hq
  simp only [List.mem_cons, List.not_mem_nil, or_false] at hq
  rcases hq with rfl | rfl
  · exact ⟨RX7, TX7, 2, rfl, in_X7, by decide, "ChainParts$FaceCell", Or.inl (hts _ q327), fun _ h => h⟩
  · exact ⟨RX8, TX8, 2, rfl, in_X8, by decide, "ChainParts$FaceCell", Or.inl (hts _ q327), fun _ h => h⟩
def jf_X7_often_k14_59 (N : Nat) (v2 : Int32) : jm_P Int32 :=
  jm_ret v2
def jf_X7_often_j51 (N : Nat) (v1 : Int32) (v3 : Option Nat) (v4 : Int32) (v5 : Int32) (t0 : Int32) (t1 : Int32) : jm_P ((Int32 × Int32) ⊕ Int32) :=
  jm_ret (.inl ((t0 + t1), (v5 + 1)))
def jf_X7_often_L14 (N : Nat) (v1 : Int32) (v3 : Option Nat) (v4 : Int32) (v2 : Int32) (v5 : Int32) : jm_P ((Int32 × Int32) ⊕ Int32) :=
  if v4 ≤ v5 then (
    jm_ret (.inr v2))
  else
    jm_rd (jm_ldI 0 v3 v5) fun x8 =>
    if x8 = v1 then (
      jf_X7_often_j51 N v1 v3 v4 v5 v2 (1 : Int32))
    else
      if x8 = ((-1 : Int32) - v1) then (
        jf_X7_often_j51 N v1 v3 v4 v5 v2 (-1 : Int32))
      else
        jf_X7_often_j51 N v1 v3 v4 v5 v2 (0 : Int32)
def jf_X7_often (N : Nat) (a0 : Nat) (v1 : Int32) : jm_P Int32 :=
  jm_rd (jm_fR [7, 8] 0 (some a0)) fun x2 =>
  jm_rd (jm_len 0 x2) fun x4 =>
  jm_bd (jm_it (fun z => jf_X7_often_L14 N v1 x2 x4 z.1 z.2) N ((0 : Int32), (0 : Int32))) fun y =>
  jf_X7_often_k14_59 N y
set_option maxHeartbeats 4000000 in
set_option maxRecDepth 100000 in
theorem jt_X7_often (l : Launch) (g : GD) (b N : Nat) (a0 : Nat) (v1 : Int32) (M M' : Mem) (r : Int32) (hf : (jf_X7_often N a0 v1).1 M = some (r, M')) : jm_Met l g b yX7_often (ws_ yX7_often cX7_often 7 (some .int)) 0 0 [va_rf (some a0), .int v1] M M' (some (.int r)) := by
  refine jm_start (by decide) (jm_mono hf) (by rw [lg_sl_r, lg_sl_i, lg_sl_n]; exact Nat.le_of_ble_eq_true rfl) ?_
  intro p e s m args below meth c ls C0 hin hK hst hl
  obtain ⟨hx, hb, hml, hown, hts, hr, hlk⟩ := id C0
  have hown : s.vm.findClass RX7 = some m.cls := hown
  have C0 : jm_Cx p s m args meth c cX7_often 7 (some .int) RX7 := C0
  rw [lv_args_r, lv_args_i, lv_args_n] at hl
  have hl : lv_has ls 7 [(0, va_rf (some a0)), (1, .int v1)] := hl
  have K14_59 : ∀ (v2 : Int32) (Mm1 : Mem), (jf_X7_often_k14_59 N v2).1 Mm1 = some (r, M') → ∀ (H : Heap) (locs : List Loc) (cells slots : Nat) (ls : Array Slot), jm_St g b M M' Mm1 s (jm_rm 0 0 M M') H locs cells slots → lv_has ls 7 [(2, .int v2)] → W p l e (jm_rm 0 0 M M') s m args below meth c H locs cells slots (jm_MQ below g b (some (.int r)) M M' args s) (F0 m 59 ls []) := by
    intro v2 Mm1 hf H locs cells slots ls hst hl
    unfold jf_X7_often_k14_59 at hf
    refine lv_iload_n hx hb dX7_often_59 rfl (lv_at hl 0 rfl) ?_
    obtain ⟨rfl, rfl⟩ := jm_ret_some hf
    exact jw_iret C0 hst dX7_often_60
  have B14 : ∀ (v1 : Int32) (v3 : Option Nat) (v4 : Int32) (v2 : Int32) (v5 : Int32) (Mm7 : Mem) (xe14 : ((Int32 × Int32) ⊕ Int32)) (Me14 : Mem), (jf_X7_often_L14 N v1 v3 v4 v2 v5).1 Mm7 = some (xe14, Me14) → jm_le Me14 M' → (jm_or (fun (z : Int32 × Int32) => ∀ (H : Heap) (locs : List Loc) (cells slots : Nat) (ls : Array Slot), jm_St g b M M' Me14 s (jm_rm 0 0 M M') H locs cells slots → lv_has ls 7 [(1, .int v1), (2, .int z.1), (3, va_rf v3), (4, .int v4), (5, .int z.2)] → W p l e (jm_rm 0 0 M M') s m args below meth c H locs cells slots (jm_MQ below g b (some (.int r)) M M' args s) (F0 m 14 ls [])) (fun (y : Int32) => ∀ (H : Heap) (locs : List Loc) (cells slots : Nat) (ls : Array Slot), jm_St g b M M' Me14 s (jm_rm 0 0 M M') H locs cells slots → lv_has ls 7 [(2, .int y)] → W p l e (jm_rm 0 0 M M') s m args below meth c H locs cells slots (jm_MQ below g b (some (.int r)) M M' args s) (F0 m 59 ls [])) xe14) → ∀ (H : Heap) (locs : List Loc) (cells slots : Nat) (ls : Array Slot), jm_St g b M M' Mm7 s (jm_rm 0 0 M M') H locs cells slots → lv_has ls 7 [(1, .int v1), (2, .int v2), (3, va_rf v3), (4, .int v4), (5, .int v5)] → W p l e (jm_rm 0 0 M M') s m args below meth c H locs cells slots (jm_MQ below g b (some (.int r)) M M' args s) (F0 m 14 ls []) := by
    intro v1 v3 v4 v2 v5 Mm7 xe14 Me14 hf hle14 hk14
    have J51 : ∀ (v5 : Int32) (t0 : Int32) (t1 : Int32) (Mm6 : Mem), (jf_X7_often_j51 N v1 v3 v4 v5 t0 t1).1 Mm6 = some (xe14, Me14) → ∀ (H : Heap) (locs : List Loc) (cells slots : Nat) (ls : Array Slot), jm_St g b M M' Mm6 s (jm_rm 0 0 M M') H locs cells slots → lv_has ls 7 [(1, .int v1), (3, va_rf v3), (4, .int v4), (5, .int v5)] → W p l e (jm_rm 0 0 M M') s m args below meth c H locs cells slots (jm_MQ below g b (some (.int r)) M M' args s) (F0 m 51 ls [.int t1, .int t0]) := by
      intro v5 t0 t1 Mm6 hf H locs cells slots ls hst hl
      unfold jf_X7_often_j51 at hf
      refine lv_iadd hx hb dX7_often_51 ?_
      refine lv_istore_n (i := 2) (lv' := [(2, .int (t0 + t1)), (1, .int v1), (3, va_rf v3), (4, .int v4), (5, .int v5)]) hx hb dX7_often_52 rfl hl (by decide) rfl (fun ls hl => ?_)
      refine lv_iinc (i := 5) (v := (v5 + 1)) (lv' := [(5, .int (v5 + 1)), (2, .int (t0 + t1)), (1, .int v1), (3, va_rf v3), (4, .int v4)]) hx hb dX7_often_53 hl (k := 4) rfl (by rfl) (by decide) rfl (fun ls hl => ?_)
      refine lv_goto (tgt := 14) hx hb dX7_often_56 (by decide) ?_
      obtain ⟨rfl, rfl⟩ := jm_ret_some hf
      exact jm_or_l hk14 _ _ _ _ _ hst (lv_sub hl [2, 1, 3, 4, 0] rfl)
    intro H locs cells slots ls hst hl
    unfold jf_X7_often_L14 at hf
    refine lv_iload hx hb dX7_often_14 (lv_at hl 4 rfl) ?_
    refine lv_iload hx hb dX7_often_16 (lv_at hl 3 rfl) ?_
    refine lv_icmp_ge (tgt := 59) hx hb dX7_often_18 (by decide) (fun hc => ?_) (fun hc => ?_)
    · rw [if_pos hc] at hf
      obtain ⟨rfl, rfl⟩ := jm_ret_some hf
      exact jm_or_r hk14 _ _ _ _ _ hst (lv_sub hl [1] rfl)
    · rw [if_neg hc] at hf
      refine jw_aload_n (r := v3) hx hb dX7_often_21 rfl (lv_at hl 2 rfl) ?_
      refine lv_iload hx hb dX7_often_22 (lv_at hl 4 rfl) ?_
      obtain ⟨x8, h9, hf⟩ := jm_rd_some hf
      refine jw_iald hx hb hK hst h9 dX7_often_24 ?_
      refine lv_istore (i := 6) (lv' := [(6, .int x8), (1, .int v1), (2, .int v2), (3, va_rf v3), (4, .int v4), (5, .int v5)]) hx hb dX7_often_25 hl (by decide) rfl (fun ls hl => ?_)
      refine lv_iload_n hx hb dX7_often_27 rfl (lv_at hl 2 rfl) ?_
      refine lv_iload hx hb dX7_often_28 (lv_at hl 0 rfl) ?_
      refine lv_iload_n hx hb dX7_often_30 rfl (lv_at hl 1 rfl) ?_
      refine lv_icmp_ne (tgt := 38) hx hb dX7_often_31 (by decide) (fun hc => ?_) (fun hc => ?_)
      · rw [if_neg hc] at hf
        refine lv_iload hx hb dX7_often_38 (lv_at hl 0 rfl) ?_
        refine lv_iconst (v := -1) hx hb dX7_often_40 (by decide) ?_
        refine lv_iload_n hx hb dX7_often_41 rfl (lv_at hl 1 rfl) ?_
        refine lv_isub hx hb dX7_often_42 ?_
        refine lv_icmp_ne (tgt := 50) hx hb dX7_often_43 (by decide) (fun hc => ?_) (fun hc => ?_)
        · rw [if_neg hc] at hf
          refine lv_iconst (v := 0) hx hb dX7_often_50 (by decide) ?_
          exact J51 v5 v2 (0 : Int32) _ hf _ _ _ _ _ hst (lv_sub hl [1, 3, 4, 5] rfl)
        · rw [if_pos hc] at hf
          refine lv_iconst (v := -1) hx hb dX7_often_46 (by decide) ?_
          refine lv_goto (tgt := 51) hx hb dX7_often_47 (by decide) ?_
          exact J51 v5 v2 (-1 : Int32) _ hf _ _ _ _ _ hst (lv_sub hl [1, 3, 4, 5] rfl)
      · rw [if_pos hc] at hf
        refine lv_iconst (v := 1) hx hb dX7_often_34 (by decide) ?_
        refine lv_goto (tgt := 51) hx hb dX7_often_35 (by decide) ?_
        exact J51 v5 v2 (1 : Int32) _ hf _ _ _ _ _ hst (lv_sub hl [1, 3, 4, 5] rfl)
  unfold jf_X7_often at hf
  refine lv_iconst (v := 0) hx hb dX7_often_0 (by decide) ?_
  refine lv_istore_n (i := 2) (lv' := [(2, .int (0 : Int32)), (0, va_rf (some a0)), (1, .int v1)]) hx hb dX7_often_1 rfl hl (by decide) rfl (fun ls hl => ?_)
  refine jw_aload_n (r := (some a0)) hx hb dX7_often_2 rfl (lv_at hl 1 rfl) ?_
  obtain ⟨x2, h3, hf⟩ := jm_rd_some hf
  refine jw_getR hx hb hts hown hK hst (fl_X7_9 hts hK) h3 dX7_often_3 ?_
  refine jw_astore_n (i := 3) (r := x2) (lv' := [(3, va_rf x2), (2, .int (0 : Int32)), (0, va_rf (some a0)), (1, .int v1)]) hx hb dX7_often_6 rfl hl (by decide) rfl (fun ls hl => ?_)
  refine jw_aload_n (r := x2) hx hb dX7_often_7 rfl (lv_at hl 0 rfl) ?_
  obtain ⟨x4, h5, hf⟩ := jm_rd_some hf
  refine jw_alen hx hb hK hst (show jm_ty[0]? = some .int from rfl) h5 dX7_often_8 ?_
  refine lv_istore (i := 4) (lv' := [(4, .int x4), (3, va_rf x2), (2, .int (0 : Int32)), (0, va_rf (some a0)), (1, .int v1)]) hx hb dX7_often_9 hl (by decide) (by simp [va_rf_cat, cat_i, cat_j, cat_f]) (fun ls hl => ?_)
  refine lv_iconst (v := 0) hx hb dX7_often_11 (by decide) ?_
  refine lv_istore (i := 5) (lv' := [(5, .int (0 : Int32)), (4, .int x4), (3, va_rf x2), (2, .int (0 : Int32)), (0, va_rf (some a0)), (1, .int v1)]) hx hb dX7_often_12 hl (by decide) rfl (fun ls hl => ?_)
  obtain ⟨xl14, Ml14, hit14, hf⟩ := jm_bd_some hf
  have hlf14 : jm_le Ml14 M' := jm_le_tr (jm_mono hf) jm_le_rf
  have hwe14 : (fun (y : Int32) (Mz : Mem) => ∀ (H : Heap) (locs : List Loc) (cells slots : Nat) (ls : Array Slot), jm_St g b M M' Mz s (jm_rm 0 0 M M') H locs cells slots → lv_has ls 7 [(2, .int y)] → W p l e (jm_rm 0 0 M M') s m args below meth c H locs cells slots (jm_MQ below g b (some (.int r)) M M' args s) (F0 m 59 ls [])) xl14 Ml14 := fun H locs cells slots ls hst hl => K14_59 xl14 _ hf H locs cells slots ls hst hl
  refine jm_it_walk (Mf := M') (Wh := fun (z : Int32 × Int32) (Mz : Mem) => ∀ (H : Heap) (locs : List Loc) (cells slots : Nat) (ls : Array Slot), jm_St g b M M' Mz s (jm_rm 0 0 M M') H locs cells slots → lv_has ls 7 [(1, .int v1), (2, .int z.1), (3, va_rf x2), (4, .int x4), (5, .int z.2)] → W p l e (jm_rm 0 0 M M') s m args below meth c H locs cells slots (jm_MQ below g b (some (.int r)) M M' args s) (F0 m 14 ls [])) (We := fun (y : Int32) (Mz : Mem) => ∀ (H : Heap) (locs : List Loc) (cells slots : Nat) (ls : Array Slot), jm_St g b M M' Mz s (jm_rm 0 0 M M') H locs cells slots → lv_has ls 7 [(2, .int y)] → W p l e (jm_rm 0 0 M M') s m args below meth c H locs cells slots (jm_MQ below g b (some (.int r)) M M' args s) (F0 m 59 ls [])) ?_ N ((0 : Int32), (0 : Int32)) M xl14 Ml14 hit14 hlf14 hwe14 _ _ _ _ _ hst (lv_sub hl [5, 3, 2, 1, 0] rfl)
  intro z Mm10 xe14 Me14 hf hle14 hk14 H locs cells slots ls hst hl
  obtain ⟨v2, v5⟩ := z
  have hf : (jf_X7_often_L14 N v1 x2 x4 v2 v5).1 Mm10 = some (xe14, Me14) := hf
  have hl : lv_has ls 7 [(1, .int v1), (2, .int v2), (3, va_rf x2), (4, .int x4), (5, .int v5)] := hl
  exact B14 v1 x2 x4 v2 v5 _ _ _ hf hle14 hk14 _ _ _ _ _ hst (lv_sub hl [0, 1, 2, 3, 4] rfl)
theorem hd_X7_init : yX7_init.cls = RX7 ∧ yX7_init.cls ≠ "java/lang/invoke/MethodHandle" ∧ yX7_init.cls ≠ "java/lang/invoke/VarHandle" ∧ (parseMethodDescriptor yX7_init.desc).map (fun d => d.parameters.length) = some 2 := by decide +kernel
def jf_X8_init (N : Nat) (a0 : Nat) (v1 : Option Nat) (v2 : Int32) : jm_P Unit :=
  jm_bd (jf_X7_init N a0 v1 v2) fun x1 =>
  jm_ret ()
set_option maxHeartbeats 4000000 in
set_option maxRecDepth 100000 in
theorem jt_X8_init (l : Launch) (g : GD) (b N : Nat) (a0 : Nat) (v1 : Option Nat) (v2 : Int32) (M M' : Mem) (r : Unit) (hf : (jf_X8_init N a0 v1 v2).1 M = some (r, M')) : jm_Met l g b yX8_init (ws_ yX8_init cX8_init 3 none) 3 62 [va_rf (some a0), va_rf v1, .int v2] M M' none := by
  refine jm_start (by decide) (jm_mono hf) (by rw [lg_sl_r, lg_sl_r, lg_sl_i, lg_sl_n]; exact Nat.le_of_ble_eq_true rfl) ?_
  intro p e s m args below meth c ls C0 hin hK hst hl
  obtain ⟨hx, hb, hml, hown, hts, hr, hlk⟩ := id C0
  have hown : s.vm.findClass RX8 = some m.cls := hown
  have C0 : jm_Cx p s m args meth c cX8_init 3 none RX8 := C0
  rw [lv_args_r, lv_args_r, lv_args_i, lv_args_n] at hl
  have hl : lv_has ls 3 [(0, va_rf (some a0)), (1, va_rf v1), (2, .int v2)] := hl
  unfold jf_X8_init at hf
  refine jw_aload_n (r := (some a0)) hx hb dX8_init_0 rfl (lv_at hl 0 rfl) ?_
  refine jw_aload_n (r := v1) hx hb dX8_init_1 rfl (lv_at hl 1 rfl) ?_
  refine lv_iload_n hx hb dX8_init_2 rfl (lv_at hl 2 rfl) ?_
  obtain ⟨x1, Mm2, h3, hf⟩ := jm_bd_some hf
  refine jw_I (As := [va_rf v1, .int v2]) (rest := []) (rv := (some a0)) (jt_X7_init l g b N a0 v1 v2 M Mm2 x1 h3) C0 hK hst (jm_mono h3) (jm_le_tr (jm_mono hf) jm_le_rf) q351 q324 q82 q325 rfl hd_X7_init.2 ⟨Nat.le_of_ble_eq_true rfl, Nat.le_of_ble_eq_true rfl⟩ rfl rfl hl.1 rfl (by rw [cs_n]; exact Nat.le_of_ble_eq_true rfl) dX8_init_3 (fun H locs cells slots hst => ?_)
  refine W.eq (g2 := F0 m 6 ls []) rfl ?_
  obtain ⟨-, rfl⟩ := jm_ret_some hf
  exact jw_vret C0 hst dX8_init_6
theorem hd_X8_init : yX8_init.cls = RX8 ∧ yX8_init.cls ≠ "java/lang/invoke/MethodHandle" ∧ yX8_init.cls ≠ "java/lang/invoke/VarHandle" ∧ (parseMethodDescriptor yX8_init.desc).map (fun d => d.parameters.length) = some 2 := by decide +kernel
def jf_D_X7_often (N : Nat) (r : Option Nat) (v0 : Int32) : jm_P Int32 :=
  jm_rd (jm_kl r) fun x => if x.2 = 7 then jf_X7_often N x.1 v0 else if x.2 = 8 then jf_X7_often N x.1 v0 else jm_no
theorem hd_X7_often : yX7_often.cls = RX7 ∧ yX7_often.cls ≠ "java/lang/invoke/MethodHandle" ∧ yX7_often.cls ≠ "java/lang/invoke/VarHandle" ∧ (parseMethodDescriptor yX7_often.desc).map (fun d => d.parameters.length) = some 1 := by decide +kernel
def jf_X0_faceBy_k15_45 (N : Nat) (v0 : Option Nat) (v1 : Int32) (v2 : Option Nat) (v3 : Int32) : jm_P (Option Nat) :=
  if v3 = 0 then (
    jm_ret v2)
  else
    jm_al (.inr (8, [.null, .int 0])) fun q2 =>
    jm_bd (jf_X8_init N q2 v0 v1) fun x4 =>
    jm_ret (some q2)
def jf_X0_faceBy_j37 (N : Nat) (v0 : Option Nat) (v1 : Int32) (v2 : Option Nat) (v4 : Int32) (t0 : Int32) (t1 : Int32) : jm_P ((Int32 × Int32) ⊕ Int32) :=
  jm_ret (.inl ((t0 &&& t1), (v4 + 1)))
def jf_X0_faceBy_L15 (N : Nat) (v0 : Option Nat) (v1 : Int32) (v2 : Option Nat) (v3 : Int32) (v4 : Int32) : jm_P ((Int32 × Int32) ⊕ Int32) :=
  if (6 : Int32) ≤ v4 then (
    jm_ret (.inr v3))
  else
    jm_bd (jf_D_X7_often N v2 v4) fun x14 =>
    if x14 = 0 then (
      jf_X0_faceBy_j37 N v0 v1 v2 v4 v3 (1 : Int32))
    else
      jf_X0_faceBy_j37 N v0 v1 v2 v4 v3 (0 : Int32)
def jf_X0_faceBy (N : Nat) (v0 : Option Nat) (v1 : Int32) : jm_P (Option Nat) :=
  jm_al (.inr (7, [.null, .int 0])) fun q7 =>
  jm_bd (jf_X7_init N q7 v0 v1) fun x9 =>
  jm_bd (jm_it (fun z => jf_X0_faceBy_L15 N v0 v1 (some q7) z.1 z.2) N ((1 : Int32), (0 : Int32))) fun y =>
  jf_X0_faceBy_k15_45 N v0 v1 (some q7) y
set_option maxHeartbeats 4000000 in
set_option maxRecDepth 100000 in
theorem jt_X0_faceBy (l : Launch) (g : GD) (b N : Nat) (v0 : Option Nat) (v1 : Int32) (M M' : Mem) (r : (Option Nat)) (hf : (jf_X0_faceBy N v0 v1).1 M = some (r, M')) : jm_Met l g b yX0_faceBy (ws_ yX0_faceBy cX0_faceBy 5 (some (.object "ChainParts$FaceCell"))) 4 84 [va_rf v0, .int v1] M M' (some (va_rf r)) := by
  refine jm_start (by decide) (jm_mono hf) (by rw [lg_sl_r, lg_sl_i, lg_sl_n]; exact Nat.le_of_ble_eq_true rfl) ?_
  intro p e s m args below meth c ls C0 hin hK hst hl
  obtain ⟨hx, hb, hml, hown, hts, hr, hlk⟩ := id C0
  have hown : s.vm.findClass RX0 = some m.cls := hown
  have C0 : jm_Cx p s m args meth c cX0_faceBy 5 (some (.object "ChainParts$FaceCell")) RX0 := C0
  rw [lv_args_r, lv_args_i, lv_args_n] at hl
  have hl : lv_has ls 5 [(0, va_rf v0), (1, .int v1)] := hl
  have K15_45 : ∀ (v0 : Option Nat) (v1 : Int32) (v2 : Option Nat) (v3 : Int32) (Mm1 : Mem), (jf_X0_faceBy_k15_45 N v0 v1 v2 v3).1 Mm1 = some (r, M') → ∀ (H : Heap) (locs : List Loc) (cells slots : Nat) (ls : Array Slot), jm_St g b M M' Mm1 s (jm_rm 4 84 M M') H locs cells slots → lv_has ls 5 [(0, va_rf v0), (1, .int v1), (2, va_rf v2), (3, .int v3)] → W p l e (jm_rm 4 84 M M') s m args below meth c H locs cells slots (jm_MQ below g b (some (va_rf r)) M M' args s) (F0 m 45 ls []) := by
    intro v0 v1 v2 v3 Mm1 hf H locs cells slots ls hst hl
    unfold jf_X0_faceBy_k15_45 at hf
    refine lv_iload_n hx hb dX0_faceBy_45 rfl (lv_at hl 3 rfl) ?_
    refine lv_if_eq (tgt := 61) hx hb dX0_faceBy_46 (by decide) (fun hc => ?_) (fun hc => ?_)
    · rw [if_pos hc] at hf
      refine jw_aload_n (r := v2) hx hb dX0_faceBy_61 rfl (lv_at hl 2 rfl) ?_
      obtain ⟨rfl, rfl⟩ := jm_ret_some hf
      exact jw_aret C0 (Or.inl ⟨_, rfl⟩) hst dX0_faceBy_62
    · rw [if_neg hc] at hf
      obtain ⟨q2, hq2, hf⟩ := jm_al_some hf
      refine jw_new (ci := 8) (C := RX8) (T := TX8) (N := 2) (fs := [.null, .int 0]) hx hb hts in_X8 tyX8 tyX8_ok hown (hts _ q346) (hts _ q347) (hts _ q83) hK hst rfl (fun j hj => by match j, hj with | 0, _ => rfl | 1, _ => rfl | k + 2, hj => omega) rfl (jm_le_tr (jm_mono hf) jm_le_rf) hq2 dX0_faceBy_49 (fun H cells slots hst => ?_)
      generalize jm_new (.inr (8, [.null, .int 0])) Mm1 = Mm3 at hf hst
      refine lv_dup hx hb dX0_faceBy_52 (va_rf_cat _) ?_
      refine jw_aload_n (r := v0) hx hb dX0_faceBy_53 rfl (lv_at hl 0 rfl) ?_
      refine lv_iload_n hx hb dX0_faceBy_54 rfl (lv_at hl 1 rfl) ?_
      obtain ⟨x4, Mm5, h6, hf⟩ := jm_bd_some hf
      refine jw_I (As := [va_rf v0, .int v1]) (rest := [va_rf (some q2)]) (rv := (some q2)) (jt_X8_init l g b N q2 v0 v1 Mm3 Mm5 x4 h6) C0 hK hst (jm_mono h6) (jm_le_tr (jm_mono hf) jm_le_rf) q348 q349 q83 q350 rfl hd_X8_init.2 ⟨Nat.le_of_ble_eq_true rfl, Nat.le_of_ble_eq_true rfl⟩ rfl rfl hl.1 rfl (by rw [cs_r, cs_n]; exact Nat.le_of_ble_eq_true rfl) dX0_faceBy_55 (fun H locs cells slots hst => ?_)
      refine W.eq (g2 := F0 m 58 ls [va_rf (some q2)]) rfl ?_
      refine lv_goto (tgt := 62) hx hb dX0_faceBy_58 (by decide) ?_
      obtain ⟨rfl, rfl⟩ := jm_ret_some hf
      exact jw_aret C0 (Or.inl ⟨_, rfl⟩) hst dX0_faceBy_62
  have B15 : ∀ (v0 : Option Nat) (v1 : Int32) (v2 : Option Nat) (v3 : Int32) (v4 : Int32) (Mm13 : Mem) (xe15 : ((Int32 × Int32) ⊕ Int32)) (Me15 : Mem), (jf_X0_faceBy_L15 N v0 v1 v2 v3 v4).1 Mm13 = some (xe15, Me15) → jm_le Me15 M' → (jm_or (fun (z : Int32 × Int32) => ∀ (H : Heap) (locs : List Loc) (cells slots : Nat) (ls : Array Slot), jm_St g b M M' Me15 s (jm_rm 4 84 M M') H locs cells slots → lv_has ls 5 [(0, va_rf v0), (1, .int v1), (2, va_rf v2), (3, .int z.1), (4, .int z.2)] → W p l e (jm_rm 4 84 M M') s m args below meth c H locs cells slots (jm_MQ below g b (some (va_rf r)) M M' args s) (F0 m 15 ls [])) (fun (y : Int32) => ∀ (H : Heap) (locs : List Loc) (cells slots : Nat) (ls : Array Slot), jm_St g b M M' Me15 s (jm_rm 4 84 M M') H locs cells slots → lv_has ls 5 [(0, va_rf v0), (1, .int v1), (2, va_rf v2), (3, .int y)] → W p l e (jm_rm 4 84 M M') s m args below meth c H locs cells slots (jm_MQ below g b (some (va_rf r)) M M' args s) (F0 m 45 ls [])) xe15) → ∀ (H : Heap) (locs : List Loc) (cells slots : Nat) (ls : Array Slot), jm_St g b M M' Mm13 s (jm_rm 4 84 M M') H locs cells slots → lv_has ls 5 [(0, va_rf v0), (1, .int v1), (2, va_rf v2), (3, .int v3), (4, .int v4)] → W p l e (jm_rm 4 84 M M') s m args below meth c H locs cells slots (jm_MQ below g b (some (va_rf r)) M M' args s) (F0 m 15 ls []) := by
    intro v0 v1 v2 v3 v4 Mm13 xe15 Me15 hf hle15 hk15
    have J37 : ∀ (v4 : Int32) (t0 : Int32) (t1 : Int32) (Mm12 : Mem), (jf_X0_faceBy_j37 N v0 v1 v2 v4 t0 t1).1 Mm12 = some (xe15, Me15) → ∀ (H : Heap) (locs : List Loc) (cells slots : Nat) (ls : Array Slot), jm_St g b M M' Mm12 s (jm_rm 4 84 M M') H locs cells slots → lv_has ls 5 [(0, va_rf v0), (1, .int v1), (2, va_rf v2), (4, .int v4)] → W p l e (jm_rm 4 84 M M') s m args below meth c H locs cells slots (jm_MQ below g b (some (va_rf r)) M M' args s) (F0 m 37 ls [.int t1, .int t0]) := by
      intro v4 t0 t1 Mm12 hf H locs cells slots ls hst hl
      unfold jf_X0_faceBy_j37 at hf
      refine lv_iand hx hb dX0_faceBy_37 ?_
      refine lv_istore_n (i := 3) (lv' := [(3, .int (t0 &&& t1)), (0, va_rf v0), (1, .int v1), (2, va_rf v2), (4, .int v4)]) hx hb dX0_faceBy_38 rfl hl (by decide) (by simp [va_rf_cat, cat_i, cat_j, cat_f]) (fun ls hl => ?_)
      refine lv_iinc (i := 4) (v := (v4 + 1)) (lv' := [(4, .int (v4 + 1)), (3, .int (t0 &&& t1)), (0, va_rf v0), (1, .int v1), (2, va_rf v2)]) hx hb dX0_faceBy_39 hl (k := 4) rfl (by rfl) (by decide) rfl (fun ls hl => ?_)
      refine lv_goto (tgt := 15) hx hb dX0_faceBy_42 (by decide) ?_
      obtain ⟨rfl, rfl⟩ := jm_ret_some hf
      exact jm_or_l hk15 _ _ _ _ _ hst (lv_sub hl [2, 3, 4, 1, 0] rfl)
    intro H locs cells slots ls hst hl
    unfold jf_X0_faceBy_L15 at hf
    refine lv_iload hx hb dX0_faceBy_15 (lv_at hl 4 rfl) ?_
    refine lv_bipush (v := 6) hx hb dX0_faceBy_17 (by decide) ?_
    refine lv_icmp_ge (tgt := 45) hx hb dX0_faceBy_19 (by decide) (fun hc => ?_) (fun hc => ?_)
    · rw [if_pos hc] at hf
      obtain ⟨rfl, rfl⟩ := jm_ret_some hf
      exact jm_or_r hk15 _ _ _ _ _ hst (lv_sub hl [0, 1, 2, 3] rfl)
    · rw [if_neg hc] at hf
      refine lv_iload_n hx hb dX0_faceBy_22 rfl (lv_at hl 3 rfl) ?_
      refine jw_aload_n (r := v2) hx hb dX0_faceBy_23 rfl (lv_at hl 2 rfl) ?_
      refine lv_iload hx hb dX0_faceBy_24 (lv_at hl 4 rfl) ?_
      obtain ⟨x14, Mm15, h16, hf⟩ := jm_bd_some hf
      have hKh16 : ∀ (H1 : Heap) (locs1 : List Loc) (cells1 slots1 : Nat), jm_St g b M M' Mm15 s (jm_rm 4 84 M M') H1 locs1 cells1 slots1 → W p l e (jm_rm 4 84 M M') s m args below meth c H1 locs1 cells1 slots1 (jm_MQ below g b (some (va_rf r)) M M' args s) (F0 m (26 + 3) ls (Option.toList (some (.int x14)) ++ [.int v3])) := by
        intro H locs cells slots hst
        refine W.eq (g2 := F0 m 29 ls [.int x14, .int v3]) rfl ?_
        refine lv_if_ne (tgt := 36) hx hb dX0_faceBy_29 (by decide) (fun hc => ?_) (fun hc => ?_)
        · rw [if_neg hc] at hf
          refine lv_iconst (v := 0) hx hb dX0_faceBy_36 (by decide) ?_
          exact J37 v4 v3 (0 : Int32) _ hf _ _ _ _ _ hst (lv_sub hl [0, 1, 2, 4] rfl)
        · rw [if_pos hc] at hf
          refine lv_iconst (v := 1) hx hb dX0_faceBy_32 (by decide) ?_
          refine lv_goto (tgt := 37) hx hb dX0_faceBy_33 (by decide) ?_
          exact J37 v4 v3 (1 : Int32) _ hf _ _ _ _ _ hst (lv_sub hl [0, 1, 2, 4] rfl)
      have hbh16 := jm_mono h16
      have hch16 := jm_le_tr (jm_mono hf) hle15
      unfold jf_D_X7_often at h16
      obtain ⟨z17, h18, h16⟩ := jm_rd_some h16
      obtain ⟨fs19, hv20, hr21⟩ := jm_kl_some h18
      by_cases hc : z17.2 = 7
      · rw [if_pos hc] at h16
        rw [hc] at hr21
        exact jw_V (As := [.int v4]) (rest := [.int v3]) (C := RX7) (T := TX7) (N := 2) (rv := v2) (jt_X7_often l g b N z17.1 v4 Mm13 Mm15 x14 h16) C0 hK hst hbh16 hch16 q340 q341 q342 q82 q345 hd_X7_often ⟨Nat.le_of_ble_eq_true rfl, Nat.le_of_ble_eq_true rfl⟩ hv20 hr21 rfl rfl hl.1 rfl (by rw [cs_i, cs_n]; exact Nat.le_of_ble_eq_true rfl) dX0_faceBy_26 hKh16
      rw [if_neg hc] at h16
      by_cases hc : z17.2 = 8
      · rw [if_pos hc] at h16
        rw [hc] at hr21
        exact jw_U (As := [.int v4]) (rest := [.int v3]) (C := RX8) (T := TX8) (N := 2) (rv := v2) (owner := RX7) (x := yX7_often) (jt_X7_often l g b N z17.1 v4 Mm13 Mm15 x14 h16) C0 hK hst hbh16 hch16 (jm_cwU hts q340 q343 q344 q341 q82 q345 rfl hd_X7_often.2 ⟨Nat.le_of_ble_eq_true rfl, Nat.le_of_ble_eq_true rfl⟩) hv20 hr21 rfl rfl hl.1 rfl (by rw [cs_i, cs_n]; exact Nat.le_of_ble_eq_true rfl) dX0_faceBy_26 hKh16
      rw [if_neg hc] at h16
      exact (jm_no_some h16).elim
  unfold jf_X0_faceBy at hf
  obtain ⟨q7, hq7, hf⟩ := jm_al_some hf
  refine jw_new (ci := 7) (C := RX7) (T := TX7) (N := 2) (fs := [.null, .int 0]) hx hb hts in_X7 tyX7 tyX7_ok hown (hts _ q321) (hts _ q322) (hts _ q82) hK hst rfl (fun j hj => by match j, hj with | 0, _ => rfl | 1, _ => rfl | k + 2, hj => omega) rfl (jm_le_tr (jm_mono hf) jm_le_rf) hq7 dX0_faceBy_0 (fun H cells slots hst => ?_)
  generalize jm_new (.inr (7, [.null, .int 0])) M = Mm8 at hf hst
  refine lv_dup hx hb dX0_faceBy_3 (va_rf_cat _) ?_
  refine jw_aload_n (r := v0) hx hb dX0_faceBy_4 rfl (lv_at hl 0 rfl) ?_
  refine lv_iload_n hx hb dX0_faceBy_5 rfl (lv_at hl 1 rfl) ?_
  obtain ⟨x9, Mm10, h11, hf⟩ := jm_bd_some hf
  refine jw_I (As := [va_rf v0, .int v1]) (rest := [va_rf (some q7)]) (rv := (some q7)) (jt_X7_init l g b N q7 v0 v1 Mm8 Mm10 x9 h11) C0 hK hst (jm_mono h11) (jm_le_tr (jm_mono hf) jm_le_rf) q323 q324 q82 q325 rfl hd_X7_init.2 ⟨Nat.le_of_ble_eq_true rfl, Nat.le_of_ble_eq_true rfl⟩ rfl rfl hl.1 rfl (by rw [cs_r, cs_n]; exact Nat.le_of_ble_eq_true rfl) dX0_faceBy_6 (fun H locs cells slots hst => ?_)
  refine W.eq (g2 := F0 m 9 ls [va_rf (some q7)]) rfl ?_
  refine jw_astore_n (i := 2) (r := (some q7)) (lv' := [(2, va_rf (some q7)), (0, va_rf v0), (1, .int v1)]) hx hb dX0_faceBy_9 rfl hl (by decide) rfl (fun ls hl => ?_)
  refine lv_iconst (v := 1) hx hb dX0_faceBy_10 (by decide) ?_
  refine lv_istore_n (i := 3) (lv' := [(3, .int (1 : Int32)), (2, va_rf (some q7)), (0, va_rf v0), (1, .int v1)]) hx hb dX0_faceBy_11 rfl hl (by decide) (by simp [va_rf_cat, cat_i, cat_j, cat_f]) (fun ls hl => ?_)
  refine lv_iconst (v := 0) hx hb dX0_faceBy_12 (by decide) ?_
  refine lv_istore (i := 4) (lv' := [(4, .int (0 : Int32)), (3, .int (1 : Int32)), (2, va_rf (some q7)), (0, va_rf v0), (1, .int v1)]) hx hb dX0_faceBy_13 hl (by decide) rfl (fun ls hl => ?_)
  obtain ⟨xl15, Ml15, hit15, hf⟩ := jm_bd_some hf
  have hlf15 : jm_le Ml15 M' := jm_le_tr (jm_mono hf) jm_le_rf
  have hwe15 : (fun (y : Int32) (Mz : Mem) => ∀ (H : Heap) (locs : List Loc) (cells slots : Nat) (ls : Array Slot), jm_St g b M M' Mz s (jm_rm 4 84 M M') H locs cells slots → lv_has ls 5 [(0, va_rf v0), (1, .int v1), (2, va_rf (some q7)), (3, .int y)] → W p l e (jm_rm 4 84 M M') s m args below meth c H locs cells slots (jm_MQ below g b (some (va_rf r)) M M' args s) (F0 m 45 ls [])) xl15 Ml15 := fun H locs cells slots ls hst hl => K15_45 v0 v1 (some q7) xl15 _ hf H locs cells slots ls hst hl
  refine jm_it_walk (Mf := M') (Wh := fun (z : Int32 × Int32) (Mz : Mem) => ∀ (H : Heap) (locs : List Loc) (cells slots : Nat) (ls : Array Slot), jm_St g b M M' Mz s (jm_rm 4 84 M M') H locs cells slots → lv_has ls 5 [(0, va_rf v0), (1, .int v1), (2, va_rf (some q7)), (3, .int z.1), (4, .int z.2)] → W p l e (jm_rm 4 84 M M') s m args below meth c H locs cells slots (jm_MQ below g b (some (va_rf r)) M M' args s) (F0 m 15 ls [])) (We := fun (y : Int32) (Mz : Mem) => ∀ (H : Heap) (locs : List Loc) (cells slots : Nat) (ls : Array Slot), jm_St g b M M' Mz s (jm_rm 4 84 M M') H locs cells slots → lv_has ls 5 [(0, va_rf v0), (1, .int v1), (2, va_rf (some q7)), (3, .int y)] → W p l e (jm_rm 4 84 M M') s m args below meth c H locs cells slots (jm_MQ below g b (some (va_rf r)) M M' args s) (F0 m 45 ls [])) ?_ N ((1 : Int32), (0 : Int32)) Mm10 xl15 Ml15 hit15 hlf15 hwe15 _ _ _ _ _ hst (lv_sub hl [3, 4, 2, 1, 0] rfl)
  intro z Mm22 xe15 Me15 hf hle15 hk15 H locs cells slots ls hst hl
  obtain ⟨v3, v4⟩ := z
  have hf : (jf_X0_faceBy_L15 N v0 v1 (some q7) v3 v4).1 Mm22 = some (xe15, Me15) := hf
  have hl : lv_has ls 5 [(0, va_rf v0), (1, .int v1), (2, va_rf (some q7)), (3, .int v3), (4, .int v4)] := hl
  exact B15 v0 v1 (some q7) v3 v4 _ _ _ hf hle15 hk15 _ _ _ _ _ hst (lv_sub hl [0, 1, 2, 3, 4] rfl)
theorem fl_X5_9 {g : GD} {s : State} {args : Array Value} (hts : ∀ w ∈ lw_all, w.before args s = true) (hK : jm_KG g s) : ∀ q ∈ ([5, 6] : List Nat), jm_FL s args RX5 9 q 0 := by
  intro q hq
  simp only [List.mem_cons, List.not_mem_nil, or_false] at hq
  rcases hq with rfl | rfl
  · exact ⟨RX5, TX5, 3, rfl, in_X5, by decide, "ChainParts$EdgeCell", Or.inl (hts _ q279), fun _ h => h⟩
  · exact ⟨RX6, TX6, 3, rfl, in_X6, by decide, "ChainParts$EdgeCell", Or.inl (hts _ q279), fun _ h => h⟩
theorem fl_X5_15 {g : GD} {s : State} {args : Array Value} (hts : ∀ w ∈ lw_all, w.before args s = true) (hK : jm_KG g s) : ∀ q ∈ ([5, 6] : List Nat), jm_FL s args RX5 15 q 1 := by
  intro q hq
  simp only [List.mem_cons, List.not_mem_nil, or_false] at hq
  rcases hq with rfl | rfl
  · exact ⟨RX5, TX5, 3, rfl, in_X5, by decide, "ChainParts$EdgeCell", Or.inl (hts _ q285), fun _ h => h⟩
  · exact ⟨RX6, TX6, 3, rfl, in_X6, by decide, "ChainParts$EdgeCell", Or.inl (hts _ q285), fun _ h => h⟩
def jf_X5_with (N : Nat) (a0 : Nat) (v1 : Int32) : jm_P (Option Nat) :=
  jm_al (.inr (5, [.int 0, .int 0, .int 0])) fun q1 =>
  jm_rd (jm_fI [5, 6] 0 (some a0)) fun x3 =>
  jm_rd (jm_fI [5, 6] 1 (some a0)) fun x5 =>
  jm_bd (jf_X5_init N q1 x3 x5 v1) fun x7 =>
  jm_ret (some q1)
set_option maxHeartbeats 4000000 in
set_option maxRecDepth 100000 in
theorem jt_X5_with (l : Launch) (g : GD) (b N : Nat) (a0 : Nat) (v1 : Int32) (M M' : Mem) (r : (Option Nat)) (hf : (jf_X5_with N a0 v1).1 M = some (r, M')) : jm_Met l g b yX5_with (ws_ yX5_with cX5_with 2 (some (.object "ChainParts$EdgeCell"))) 3 63 [va_rf (some a0), .int v1] M M' (some (va_rf r)) := by
  refine jm_start (by decide) (jm_mono hf) (by rw [lg_sl_r, lg_sl_i, lg_sl_n]; exact Nat.le_of_ble_eq_true rfl) ?_
  intro p e s m args below meth c ls C0 hin hK hst hl
  obtain ⟨hx, hb, hml, hown, hts, hr, hlk⟩ := id C0
  have hown : s.vm.findClass RX5 = some m.cls := hown
  have C0 : jm_Cx p s m args meth c cX5_with 2 (some (.object "ChainParts$EdgeCell")) RX5 := C0
  rw [lv_args_r, lv_args_i, lv_args_n] at hl
  have hl : lv_has ls 2 [(0, va_rf (some a0)), (1, .int v1)] := hl
  unfold jf_X5_with at hf
  obtain ⟨q1, hq1, hf⟩ := jm_al_some hf
  refine jw_new (ci := 5) (C := RX5) (T := TX5) (N := 3) (fs := [.int 0, .int 0, .int 0]) hx hb hts in_X5 tyX5 tyX5_ok hown (hts _ q417) (hts _ q300) (hts _ q79) hK hst rfl (fun j hj => by match j, hj with | 0, _ => rfl | 1, _ => rfl | 2, _ => rfl | k + 3, hj => omega) rfl (jm_le_tr (jm_mono hf) jm_le_rf) hq1 dX5_with_0 (fun H cells slots hst => ?_)
  generalize jm_new (.inr (5, [.int 0, .int 0, .int 0])) M = Mm2 at hf hst
  refine lv_dup hx hb dX5_with_3 (va_rf_cat _) ?_
  refine jw_aload_n (r := (some a0)) hx hb dX5_with_4 rfl (lv_at hl 0 rfl) ?_
  obtain ⟨x3, h4, hf⟩ := jm_rd_some hf
  refine jw_getI hx hb hts hown hK hst (fl_X5_9 hts hK) h4 dX5_with_5 ?_
  refine jw_aload_n (r := (some a0)) hx hb dX5_with_8 rfl (lv_at hl 0 rfl) ?_
  obtain ⟨x5, h6, hf⟩ := jm_rd_some hf
  refine jw_getI hx hb hts hown hK hst (fl_X5_15 hts hK) h6 dX5_with_9 ?_
  refine lv_iload_n hx hb dX5_with_12 rfl (lv_at hl 1 rfl) ?_
  obtain ⟨x7, Mm8, h9, hf⟩ := jm_bd_some hf
  refine jw_I (As := [.int x3, .int x5, .int v1]) (rest := [va_rf (some q1)]) (rv := (some q1)) (jt_X5_init l g b N q1 x3 x5 v1 Mm2 Mm8 x7 h9) C0 hK hst (jm_mono h9) (jm_le_tr (jm_mono hf) jm_le_rf) q418 q273 q79 q274 rfl hd_X5_init.2 ⟨Nat.le_of_ble_eq_true rfl, Nat.le_of_ble_eq_true rfl⟩ rfl rfl hl.1 rfl (by rw [cs_r, cs_n]; exact Nat.le_of_ble_eq_true rfl) dX5_with_13 (fun H locs cells slots hst => ?_)
  refine W.eq (g2 := F0 m 16 ls [va_rf (some q1)]) rfl ?_
  obtain ⟨rfl, rfl⟩ := jm_ret_some hf
  exact jw_aret C0 (Or.inl ⟨_, rfl⟩) hst dX5_with_16
theorem fl_X6_9 {g : GD} {s : State} {args : Array Value} (hts : ∀ w ∈ lw_all, w.before args s = true) (hK : jm_KG g s) : ∀ q ∈ ([6] : List Nat), jm_FL s args RX6 9 q 0 := by
  intro q hq
  simp only [List.mem_cons, List.not_mem_nil, or_false] at hq
  subst hq
  exact ⟨RX6, TX6, 3, rfl, in_X6, by decide, "ChainParts$LoopCell", Or.inl (hts _ q280), fun x h => u_same (hts _ q281) x h⟩
def jf_X6_with (N : Nat) (a0 : Nat) (v1 : Int32) : jm_P (Option Nat) :=
  jm_al (.inr (6, [.int 0, .int 0, .int 0])) fun q1 =>
  jm_rd (jm_fI [6] 0 (some a0)) fun x3 =>
  jm_bd (jf_X6_init N q1 x3 v1) fun x5 =>
  jm_ret (some q1)
set_option maxHeartbeats 4000000 in
set_option maxRecDepth 100000 in
theorem jt_X6_with (l : Launch) (g : GD) (b N : Nat) (a0 : Nat) (v1 : Int32) (M M' : Mem) (r : (Option Nat)) (hf : (jf_X6_with N a0 v1).1 M = some (r, M')) : jm_Met l g b yX6_with (ws_ yX6_with cX6_with 2 (some (.object "ChainParts$EdgeCell"))) 4 85 [va_rf (some a0), .int v1] M M' (some (va_rf r)) := by
  refine jm_start (by decide) (jm_mono hf) (by rw [lg_sl_r, lg_sl_i, lg_sl_n]; exact Nat.le_of_ble_eq_true rfl) ?_
  intro p e s m args below meth c ls C0 hin hK hst hl
  obtain ⟨hx, hb, hml, hown, hts, hr, hlk⟩ := id C0
  have hown : s.vm.findClass RX6 = some m.cls := hown
  have C0 : jm_Cx p s m args meth c cX6_with 2 (some (.object "ChainParts$EdgeCell")) RX6 := C0
  rw [lv_args_r, lv_args_i, lv_args_n] at hl
  have hl : lv_has ls 2 [(0, va_rf (some a0)), (1, .int v1)] := hl
  unfold jf_X6_with at hf
  obtain ⟨q1, hq1, hf⟩ := jm_al_some hf
  refine jw_new (ci := 6) (C := RX6) (T := TX6) (N := 3) (fs := [.int 0, .int 0, .int 0]) hx hb hts in_X6 tyX6 tyX6_ok hown (hts _ q414) (hts _ q268) (hts _ q80) hK hst rfl (fun j hj => by match j, hj with | 0, _ => rfl | 1, _ => rfl | 2, _ => rfl | k + 3, hj => omega) rfl (jm_le_tr (jm_mono hf) jm_le_rf) hq1 dX6_with_0 (fun H cells slots hst => ?_)
  generalize jm_new (.inr (6, [.int 0, .int 0, .int 0])) M = Mm2 at hf hst
  refine lv_dup hx hb dX6_with_3 (va_rf_cat _) ?_
  refine jw_aload_n (r := (some a0)) hx hb dX6_with_4 rfl (lv_at hl 0 rfl) ?_
  obtain ⟨x3, h4, hf⟩ := jm_rd_some hf
  refine jw_getI hx hb hts hown hK hst (fl_X6_9 hts hK) h4 dX6_with_5 ?_
  refine lv_iload_n hx hb dX6_with_8 rfl (lv_at hl 1 rfl) ?_
  obtain ⟨x5, Mm6, h7, hf⟩ := jm_bd_some hf
  refine jw_I (As := [.int x3, .int v1]) (rest := [va_rf (some q1)]) (rv := (some q1)) (jt_X6_init l g b N q1 x3 v1 Mm2 Mm6 x5 h7) C0 hK hst (jm_mono h7) (jm_le_tr (jm_mono hf) jm_le_rf) q415 q270 q80 q271 rfl hd_X6_init.2 ⟨Nat.le_of_ble_eq_true rfl, Nat.le_of_ble_eq_true rfl⟩ rfl rfl hl.1 rfl (by rw [cs_r, cs_n]; exact Nat.le_of_ble_eq_true rfl) dX6_with_9 (fun H locs cells slots hst => ?_)
  refine W.eq (g2 := F0 m 12 ls [va_rf (some q1)]) rfl ?_
  obtain ⟨rfl, rfl⟩ := jm_ret_some hf
  exact jw_aret C0 (Or.inl ⟨_, rfl⟩) hst dX6_with_12
def jf_X7_with (N : Nat) (a0 : Nat) (v1 : Int32) : jm_P (Option Nat) :=
  jm_al (.inr (7, [.null, .int 0])) fun q1 =>
  jm_rd (jm_fR [7, 8] 0 (some a0)) fun x3 =>
  jm_bd (jf_X7_init N q1 x3 v1) fun x5 =>
  jm_ret (some q1)
set_option maxHeartbeats 4000000 in
set_option maxRecDepth 100000 in
theorem jt_X7_with (l : Launch) (g : GD) (b N : Nat) (a0 : Nat) (v1 : Int32) (M M' : Mem) (r : (Option Nat)) (hf : (jf_X7_with N a0 v1).1 M = some (r, M')) : jm_Met l g b yX7_with (ws_ yX7_with cX7_with 2 (some (.object "ChainParts$FaceCell"))) 3 62 [va_rf (some a0), .int v1] M M' (some (va_rf r)) := by
  refine jm_start (by decide) (jm_mono hf) (by rw [lg_sl_r, lg_sl_i, lg_sl_n]; exact Nat.le_of_ble_eq_true rfl) ?_
  intro p e s m args below meth c ls C0 hin hK hst hl
  obtain ⟨hx, hb, hml, hown, hts, hr, hlk⟩ := id C0
  have hown : s.vm.findClass RX7 = some m.cls := hown
  have C0 : jm_Cx p s m args meth c cX7_with 2 (some (.object "ChainParts$FaceCell")) RX7 := C0
  rw [lv_args_r, lv_args_i, lv_args_n] at hl
  have hl : lv_has ls 2 [(0, va_rf (some a0)), (1, .int v1)] := hl
  unfold jf_X7_with at hf
  obtain ⟨q1, hq1, hf⟩ := jm_al_some hf
  refine jw_new (ci := 7) (C := RX7) (T := TX7) (N := 2) (fs := [.null, .int 0]) hx hb hts in_X7 tyX7 tyX7_ok hown (hts _ q440) (hts _ q322) (hts _ q82) hK hst rfl (fun j hj => by match j, hj with | 0, _ => rfl | 1, _ => rfl | k + 2, hj => omega) rfl (jm_le_tr (jm_mono hf) jm_le_rf) hq1 dX7_with_0 (fun H cells slots hst => ?_)
  generalize jm_new (.inr (7, [.null, .int 0])) M = Mm2 at hf hst
  refine lv_dup hx hb dX7_with_3 (va_rf_cat _) ?_
  refine jw_aload_n (r := (some a0)) hx hb dX7_with_4 rfl (lv_at hl 0 rfl) ?_
  obtain ⟨x3, h4, hf⟩ := jm_rd_some hf
  refine jw_getR hx hb hts hown hK hst (fl_X7_9 hts hK) h4 dX7_with_5 ?_
  refine lv_iload_n hx hb dX7_with_8 rfl (lv_at hl 1 rfl) ?_
  obtain ⟨x5, Mm6, h7, hf⟩ := jm_bd_some hf
  refine jw_I (As := [va_rf x3, .int v1]) (rest := [va_rf (some q1)]) (rv := (some q1)) (jt_X7_init l g b N q1 x3 v1 Mm2 Mm6 x5 h7) C0 hK hst (jm_mono h7) (jm_le_tr (jm_mono hf) jm_le_rf) q441 q324 q82 q325 rfl hd_X7_init.2 ⟨Nat.le_of_ble_eq_true rfl, Nat.le_of_ble_eq_true rfl⟩ rfl rfl hl.1 rfl (by rw [cs_r, cs_n]; exact Nat.le_of_ble_eq_true rfl) dX7_with_9 (fun H locs cells slots hst => ?_)
  refine W.eq (g2 := F0 m 12 ls [va_rf (some q1)]) rfl ?_
  obtain ⟨rfl, rfl⟩ := jm_ret_some hf
  exact jw_aret C0 (Or.inl ⟨_, rfl⟩) hst dX7_with_12
theorem fl_X8_9 {g : GD} {s : State} {args : Array Value} (hts : ∀ w ∈ lw_all, w.before args s = true) (hK : jm_KG g s) : ∀ q ∈ ([8] : List Nat), jm_FL s args RX8 9 q 0 := by
  intro q hq
  simp only [List.mem_cons, List.not_mem_nil, or_false] at hq
  subst hq
  exact ⟨RX8, TX8, 2, rfl, in_X8, by decide, "ChainParts$SealedCell", Or.inl (hts _ q328), fun x h => u_same (hts _ q329) x h⟩
def jf_X8_with (N : Nat) (a0 : Nat) (v1 : Int32) : jm_P (Option Nat) :=
  jm_al (.inr (8, [.null, .int 0])) fun q1 =>
  jm_rd (jm_fR [8] 0 (some a0)) fun x3 =>
  jm_bd (jf_X8_init N q1 x3 v1) fun x5 =>
  jm_ret (some q1)
set_option maxHeartbeats 4000000 in
set_option maxRecDepth 100000 in
theorem jt_X8_with (l : Launch) (g : GD) (b N : Nat) (a0 : Nat) (v1 : Int32) (M M' : Mem) (r : (Option Nat)) (hf : (jf_X8_with N a0 v1).1 M = some (r, M')) : jm_Met l g b yX8_with (ws_ yX8_with cX8_with 2 (some (.object "ChainParts$FaceCell"))) 4 84 [va_rf (some a0), .int v1] M M' (some (va_rf r)) := by
  refine jm_start (by decide) (jm_mono hf) (by rw [lg_sl_r, lg_sl_i, lg_sl_n]; exact Nat.le_of_ble_eq_true rfl) ?_
  intro p e s m args below meth c ls C0 hin hK hst hl
  obtain ⟨hx, hb, hml, hown, hts, hr, hlk⟩ := id C0
  have hown : s.vm.findClass RX8 = some m.cls := hown
  have C0 : jm_Cx p s m args meth c cX8_with 2 (some (.object "ChainParts$FaceCell")) RX8 := C0
  rw [lv_args_r, lv_args_i, lv_args_n] at hl
  have hl : lv_has ls 2 [(0, va_rf (some a0)), (1, .int v1)] := hl
  unfold jf_X8_with at hf
  obtain ⟨q1, hq1, hf⟩ := jm_al_some hf
  refine jw_new (ci := 8) (C := RX8) (T := TX8) (N := 2) (fs := [.null, .int 0]) hx hb hts in_X8 tyX8 tyX8_ok hown (hts _ q437) (hts _ q347) (hts _ q83) hK hst rfl (fun j hj => by match j, hj with | 0, _ => rfl | 1, _ => rfl | k + 2, hj => omega) rfl (jm_le_tr (jm_mono hf) jm_le_rf) hq1 dX8_with_0 (fun H cells slots hst => ?_)
  generalize jm_new (.inr (8, [.null, .int 0])) M = Mm2 at hf hst
  refine lv_dup hx hb dX8_with_3 (va_rf_cat _) ?_
  refine jw_aload_n (r := (some a0)) hx hb dX8_with_4 rfl (lv_at hl 0 rfl) ?_
  obtain ⟨x3, h4, hf⟩ := jm_rd_some hf
  refine jw_getR hx hb hts hown hK hst (fl_X8_9 hts hK) h4 dX8_with_5 ?_
  refine lv_iload_n hx hb dX8_with_8 rfl (lv_at hl 1 rfl) ?_
  obtain ⟨x5, Mm6, h7, hf⟩ := jm_bd_some hf
  refine jw_I (As := [va_rf x3, .int v1]) (rest := [va_rf (some q1)]) (rv := (some q1)) (jt_X8_init l g b N q1 x3 v1 Mm2 Mm6 x5 h7) C0 hK hst (jm_mono h7) (jm_le_tr (jm_mono hf) jm_le_rf) q438 q349 q83 q350 rfl hd_X8_init.2 ⟨Nat.le_of_ble_eq_true rfl, Nat.le_of_ble_eq_true rfl⟩ rfl rfl hl.1 rfl (by rw [cs_r, cs_n]; exact Nat.le_of_ble_eq_true rfl) dX8_with_9 (fun H locs cells slots hst => ?_)
  refine W.eq (g2 := F0 m 12 ls [va_rf (some q1)]) rfl ?_
  obtain ⟨rfl, rfl⟩ := jm_ret_some hf
  exact jw_aret C0 (Or.inl ⟨_, rfl⟩) hst dX8_with_12
def jf_X7_has_k14_55 (N : Nat) (v2 : Int32) : jm_P Int32 :=
  jm_rd (jm_ck (v2 = 0 ∨ v2 = 1)) fun _ =>
  jm_ret v2
def jf_X7_has_j47 (N : Nat) (v1 : Int32) (v3 : Option Nat) (v4 : Int32) (v5 : Int32) (t0 : Int32) (t1 : Int32) : jm_P ((Int32 × Int32) ⊕ Int32) :=
  jm_ret (.inl ((t0 ||| t1), (v5 + 1)))
def jf_X7_has_j42 (N : Nat) (v1 : Int32) (v3 : Option Nat) (v4 : Int32) (v5 : Int32) (t0 : Int32) : jm_P ((Int32 × Int32) ⊕ Int32) :=
  jf_X7_has_j47 N v1 v3 v4 v5 t0 (1 : Int32)
def jf_X7_has_L14 (N : Nat) (v1 : Int32) (v3 : Option Nat) (v4 : Int32) (v2 : Int32) (v5 : Int32) : jm_P ((Int32 × Int32) ⊕ Int32) :=
  if v4 ≤ v5 then (
    jm_ret (.inr v2))
  else
    jm_rd (jm_ldI 0 v3 v5) fun x10 =>
    if x10 = v1 then (
      jf_X7_has_j42 N v1 v3 v4 v5 v2)
    else
      if x10 = ((-1 : Int32) - v1) then (
        jf_X7_has_j42 N v1 v3 v4 v5 v2)
      else
        jf_X7_has_j47 N v1 v3 v4 v5 v2 (0 : Int32)
def jf_X7_has (N : Nat) (a0 : Nat) (v1 : Int32) : jm_P Int32 :=
  jm_rd (jm_fR [7, 8] 0 (some a0)) fun x3 =>
  jm_rd (jm_len 0 x3) fun x5 =>
  jm_bd (jm_it (fun z => jf_X7_has_L14 N v1 x3 x5 z.1 z.2) N ((0 : Int32), (0 : Int32))) fun y =>
  jf_X7_has_k14_55 N y
set_option maxHeartbeats 4000000 in
set_option maxRecDepth 100000 in
theorem jt_X7_has (l : Launch) (g : GD) (b N : Nat) (a0 : Nat) (v1 : Int32) (M M' : Mem) (r : Int32) (hf : (jf_X7_has N a0 v1).1 M = some (r, M')) : jm_Met l g b yX7_has (ws_ yX7_has cX7_has 7 (some .boolean)) 0 0 [va_rf (some a0), .int v1] M M' (some (.int r)) := by
  refine jm_start (by decide) (jm_mono hf) (by rw [lg_sl_r, lg_sl_i, lg_sl_n]; exact Nat.le_of_ble_eq_true rfl) ?_
  intro p e s m args below meth c ls C0 hin hK hst hl
  obtain ⟨hx, hb, hml, hown, hts, hr, hlk⟩ := id C0
  have hown : s.vm.findClass RX7 = some m.cls := hown
  have C0 : jm_Cx p s m args meth c cX7_has 7 (some .boolean) RX7 := C0
  rw [lv_args_r, lv_args_i, lv_args_n] at hl
  have hl : lv_has ls 7 [(0, va_rf (some a0)), (1, .int v1)] := hl
  have K14_55 : ∀ (v2 : Int32) (Mm1 : Mem), (jf_X7_has_k14_55 N v2).1 Mm1 = some (r, M') → ∀ (H : Heap) (locs : List Loc) (cells slots : Nat) (ls : Array Slot), jm_St g b M M' Mm1 s (jm_rm 0 0 M M') H locs cells slots → lv_has ls 7 [(2, .int v2)] → W p l e (jm_rm 0 0 M M') s m args below meth c H locs cells slots (jm_MQ below g b (some (.int r)) M M' args s) (F0 m 55 ls []) := by
    intro v2 Mm1 hf H locs cells slots ls hst hl
    unfold jf_X7_has_k14_55 at hf
    refine lv_iload_n hx hb dX7_has_55 rfl (lv_at hl 0 rfl) ?_
    obtain ⟨_, h2, hf⟩ := jm_rd_some hf
    obtain ⟨rfl, rfl⟩ := jm_ret_some hf
    exact jw_zret C0 (jm_ck_some h2) hst dX7_has_56
  have B14 : ∀ (v1 : Int32) (v3 : Option Nat) (v4 : Int32) (v2 : Int32) (v5 : Int32) (Mm9 : Mem) (xe14 : ((Int32 × Int32) ⊕ Int32)) (Me14 : Mem), (jf_X7_has_L14 N v1 v3 v4 v2 v5).1 Mm9 = some (xe14, Me14) → jm_le Me14 M' → (jm_or (fun (z : Int32 × Int32) => ∀ (H : Heap) (locs : List Loc) (cells slots : Nat) (ls : Array Slot), jm_St g b M M' Me14 s (jm_rm 0 0 M M') H locs cells slots → lv_has ls 7 [(1, .int v1), (2, .int z.1), (3, va_rf v3), (4, .int v4), (5, .int z.2)] → W p l e (jm_rm 0 0 M M') s m args below meth c H locs cells slots (jm_MQ below g b (some (.int r)) M M' args s) (F0 m 14 ls [])) (fun (y : Int32) => ∀ (H : Heap) (locs : List Loc) (cells slots : Nat) (ls : Array Slot), jm_St g b M M' Me14 s (jm_rm 0 0 M M') H locs cells slots → lv_has ls 7 [(2, .int y)] → W p l e (jm_rm 0 0 M M') s m args below meth c H locs cells slots (jm_MQ below g b (some (.int r)) M M' args s) (F0 m 55 ls [])) xe14) → ∀ (H : Heap) (locs : List Loc) (cells slots : Nat) (ls : Array Slot), jm_St g b M M' Mm9 s (jm_rm 0 0 M M') H locs cells slots → lv_has ls 7 [(1, .int v1), (2, .int v2), (3, va_rf v3), (4, .int v4), (5, .int v5)] → W p l e (jm_rm 0 0 M M') s m args below meth c H locs cells slots (jm_MQ below g b (some (.int r)) M M' args s) (F0 m 14 ls []) := by
    intro v1 v3 v4 v2 v5 Mm9 xe14 Me14 hf hle14 hk14
    have J47 : ∀ (v5 : Int32) (t0 : Int32) (t1 : Int32) (Mm7 : Mem), (jf_X7_has_j47 N v1 v3 v4 v5 t0 t1).1 Mm7 = some (xe14, Me14) → ∀ (H : Heap) (locs : List Loc) (cells slots : Nat) (ls : Array Slot), jm_St g b M M' Mm7 s (jm_rm 0 0 M M') H locs cells slots → lv_has ls 7 [(1, .int v1), (3, va_rf v3), (4, .int v4), (5, .int v5)] → W p l e (jm_rm 0 0 M M') s m args below meth c H locs cells slots (jm_MQ below g b (some (.int r)) M M' args s) (F0 m 47 ls [.int t1, .int t0]) := by
      intro v5 t0 t1 Mm7 hf H locs cells slots ls hst hl
      unfold jf_X7_has_j47 at hf
      refine lv_ior hx hb dX7_has_47 ?_
      refine lv_istore_n (i := 2) (lv' := [(2, .int (t0 ||| t1)), (1, .int v1), (3, va_rf v3), (4, .int v4), (5, .int v5)]) hx hb dX7_has_48 rfl hl (by decide) rfl (fun ls hl => ?_)
      refine lv_iinc (i := 5) (v := (v5 + 1)) (lv' := [(5, .int (v5 + 1)), (2, .int (t0 ||| t1)), (1, .int v1), (3, va_rf v3), (4, .int v4)]) hx hb dX7_has_49 hl (k := 4) rfl (by rfl) (by decide) rfl (fun ls hl => ?_)
      refine lv_goto (tgt := 14) hx hb dX7_has_52 (by decide) ?_
      obtain ⟨rfl, rfl⟩ := jm_ret_some hf
      exact jm_or_l hk14 _ _ _ _ _ hst (lv_sub hl [2, 1, 3, 4, 0] rfl)
    have J42 : ∀ (v5 : Int32) (t0 : Int32) (Mm8 : Mem), (jf_X7_has_j42 N v1 v3 v4 v5 t0).1 Mm8 = some (xe14, Me14) → ∀ (H : Heap) (locs : List Loc) (cells slots : Nat) (ls : Array Slot), jm_St g b M M' Mm8 s (jm_rm 0 0 M M') H locs cells slots → lv_has ls 7 [(1, .int v1), (3, va_rf v3), (4, .int v4), (5, .int v5)] → W p l e (jm_rm 0 0 M M') s m args below meth c H locs cells slots (jm_MQ below g b (some (.int r)) M M' args s) (F0 m 42 ls [.int t0]) := by
      intro v5 t0 Mm8 hf H locs cells slots ls hst hl
      unfold jf_X7_has_j42 at hf
      refine lv_iconst (v := 1) hx hb dX7_has_42 (by decide) ?_
      refine lv_goto (tgt := 47) hx hb dX7_has_43 (by decide) ?_
      exact J47 v5 t0 (1 : Int32) _ hf _ _ _ _ _ hst (lv_sub hl [0, 1, 2, 3] rfl)
    intro H locs cells slots ls hst hl
    unfold jf_X7_has_L14 at hf
    refine lv_iload hx hb dX7_has_14 (lv_at hl 4 rfl) ?_
    refine lv_iload hx hb dX7_has_16 (lv_at hl 3 rfl) ?_
    refine lv_icmp_ge (tgt := 55) hx hb dX7_has_18 (by decide) (fun hc => ?_) (fun hc => ?_)
    · rw [if_pos hc] at hf
      obtain ⟨rfl, rfl⟩ := jm_ret_some hf
      exact jm_or_r hk14 _ _ _ _ _ hst (lv_sub hl [1] rfl)
    · rw [if_neg hc] at hf
      refine jw_aload_n (r := v3) hx hb dX7_has_21 rfl (lv_at hl 2 rfl) ?_
      refine lv_iload hx hb dX7_has_22 (lv_at hl 4 rfl) ?_
      obtain ⟨x10, h11, hf⟩ := jm_rd_some hf
      refine jw_iald hx hb hK hst h11 dX7_has_24 ?_
      refine lv_istore (i := 6) (lv' := [(6, .int x10), (1, .int v1), (2, .int v2), (3, va_rf v3), (4, .int v4), (5, .int v5)]) hx hb dX7_has_25 hl (by decide) rfl (fun ls hl => ?_)
      refine lv_iload_n hx hb dX7_has_27 rfl (lv_at hl 2 rfl) ?_
      refine lv_iload hx hb dX7_has_28 (lv_at hl 0 rfl) ?_
      refine lv_iload_n hx hb dX7_has_30 rfl (lv_at hl 1 rfl) ?_
      refine lv_icmp_eq (tgt := 42) hx hb dX7_has_31 (by decide) (fun hc => ?_) (fun hc => ?_)
      · rw [if_pos hc] at hf
        exact J42 v5 v2 _ hf _ _ _ _ _ hst (lv_sub hl [1, 3, 4, 5] rfl)
      · rw [if_neg hc] at hf
        refine lv_iload hx hb dX7_has_34 (lv_at hl 0 rfl) ?_
        refine lv_iconst (v := -1) hx hb dX7_has_36 (by decide) ?_
        refine lv_iload_n hx hb dX7_has_37 rfl (lv_at hl 1 rfl) ?_
        refine lv_isub hx hb dX7_has_38 ?_
        refine lv_icmp_ne (tgt := 46) hx hb dX7_has_39 (by decide) (fun hc => ?_) (fun hc => ?_)
        · rw [if_neg hc] at hf
          refine lv_iconst (v := 0) hx hb dX7_has_46 (by decide) ?_
          exact J47 v5 v2 (0 : Int32) _ hf _ _ _ _ _ hst (lv_sub hl [1, 3, 4, 5] rfl)
        · rw [if_pos hc] at hf
          exact J42 v5 v2 _ hf _ _ _ _ _ hst (lv_sub hl [1, 3, 4, 5] rfl)
  unfold jf_X7_has at hf
  refine lv_iconst (v := 0) hx hb dX7_has_0 (by decide) ?_
  refine lv_istore_n (i := 2) (lv' := [(2, .int (0 : Int32)), (0, va_rf (some a0)), (1, .int v1)]) hx hb dX7_has_1 rfl hl (by decide) rfl (fun ls hl => ?_)
  refine jw_aload_n (r := (some a0)) hx hb dX7_has_2 rfl (lv_at hl 1 rfl) ?_
  obtain ⟨x3, h4, hf⟩ := jm_rd_some hf
  refine jw_getR hx hb hts hown hK hst (fl_X7_9 hts hK) h4 dX7_has_3 ?_
  refine jw_astore_n (i := 3) (r := x3) (lv' := [(3, va_rf x3), (2, .int (0 : Int32)), (0, va_rf (some a0)), (1, .int v1)]) hx hb dX7_has_6 rfl hl (by decide) rfl (fun ls hl => ?_)
  refine jw_aload_n (r := x3) hx hb dX7_has_7 rfl (lv_at hl 0 rfl) ?_
  obtain ⟨x5, h6, hf⟩ := jm_rd_some hf
  refine jw_alen hx hb hK hst (show jm_ty[0]? = some .int from rfl) h6 dX7_has_8 ?_
  refine lv_istore (i := 4) (lv' := [(4, .int x5), (3, va_rf x3), (2, .int (0 : Int32)), (0, va_rf (some a0)), (1, .int v1)]) hx hb dX7_has_9 hl (by decide) (by simp [va_rf_cat, cat_i, cat_j, cat_f]) (fun ls hl => ?_)
  refine lv_iconst (v := 0) hx hb dX7_has_11 (by decide) ?_
  refine lv_istore (i := 5) (lv' := [(5, .int (0 : Int32)), (4, .int x5), (3, va_rf x3), (2, .int (0 : Int32)), (0, va_rf (some a0)), (1, .int v1)]) hx hb dX7_has_12 hl (by decide) rfl (fun ls hl => ?_)
  obtain ⟨xl14, Ml14, hit14, hf⟩ := jm_bd_some hf
  have hlf14 : jm_le Ml14 M' := jm_le_tr (jm_mono hf) jm_le_rf
  have hwe14 : (fun (y : Int32) (Mz : Mem) => ∀ (H : Heap) (locs : List Loc) (cells slots : Nat) (ls : Array Slot), jm_St g b M M' Mz s (jm_rm 0 0 M M') H locs cells slots → lv_has ls 7 [(2, .int y)] → W p l e (jm_rm 0 0 M M') s m args below meth c H locs cells slots (jm_MQ below g b (some (.int r)) M M' args s) (F0 m 55 ls [])) xl14 Ml14 := fun H locs cells slots ls hst hl => K14_55 xl14 _ hf H locs cells slots ls hst hl
  refine jm_it_walk (Mf := M') (Wh := fun (z : Int32 × Int32) (Mz : Mem) => ∀ (H : Heap) (locs : List Loc) (cells slots : Nat) (ls : Array Slot), jm_St g b M M' Mz s (jm_rm 0 0 M M') H locs cells slots → lv_has ls 7 [(1, .int v1), (2, .int z.1), (3, va_rf x3), (4, .int x5), (5, .int z.2)] → W p l e (jm_rm 0 0 M M') s m args below meth c H locs cells slots (jm_MQ below g b (some (.int r)) M M' args s) (F0 m 14 ls [])) (We := fun (y : Int32) (Mz : Mem) => ∀ (H : Heap) (locs : List Loc) (cells slots : Nat) (ls : Array Slot), jm_St g b M M' Mz s (jm_rm 0 0 M M') H locs cells slots → lv_has ls 7 [(2, .int y)] → W p l e (jm_rm 0 0 M M') s m args below meth c H locs cells slots (jm_MQ below g b (some (.int r)) M M' args s) (F0 m 55 ls [])) ?_ N ((0 : Int32), (0 : Int32)) M xl14 Ml14 hit14 hlf14 hwe14 _ _ _ _ _ hst (lv_sub hl [5, 3, 2, 1, 0] rfl)
  intro z Mm12 xe14 Me14 hf hle14 hk14 H locs cells slots ls hst hl
  obtain ⟨v2, v5⟩ := z
  have hf : (jf_X7_has_L14 N v1 x3 x5 v2 v5).1 Mm12 = some (xe14, Me14) := hf
  have hl : lv_has ls 7 [(1, .int v1), (2, .int v2), (3, va_rf x3), (4, .int x5), (5, .int v5)] := hl
  exact B14 v1 x3 x5 v2 v5 _ _ _ hf hle14 hk14 _ _ _ _ _ hst (lv_sub hl [0, 1, 2, 3, 4] rfl)
theorem fl_X7_15 {g : GD} {s : State} {args : Array Value} (hts : ∀ w ∈ lw_all, w.before args s = true) (hK : jm_KG g s) : ∀ q ∈ ([7, 8] : List Nat), jm_FL s args RX7 15 q 1 := by
  intro q hq
  simp only [List.mem_cons, List.not_mem_nil, or_false] at hq
  rcases hq with rfl | rfl
  · exact ⟨RX7, TX7, 2, rfl, in_X7, by decide, "ChainParts$FaceCell", Or.inl (hts _ q331), fun _ h => h⟩
  · exact ⟨RX8, TX8, 2, rfl, in_X8, by decide, "ChainParts$FaceCell", Or.inl (hts _ q331), fun _ h => h⟩
theorem hd_X0_faceBy : yX0_faceBy.cls = RX0 ∧ yX0_faceBy.cls ≠ "java/lang/invoke/MethodHandle" ∧ yX0_faceBy.cls ≠ "java/lang/invoke/VarHandle" ∧ (parseMethodDescriptor yX0_faceBy.desc).map (fun d => d.parameters.length) = some 2 := by decide +kernel
def jf_X7_without_k13_55 (N : Nat) (a0 : Nat) (v2 : Option Nat) : jm_P (Option Nat) :=
  jm_rd (jm_fI [7, 8] 1 (some a0)) fun x2 =>
  jm_bd (jf_X0_faceBy N v2 x2) fun x4 =>
  jm_ret x4
def jf_X7_without_j49 (N : Nat) (a0 : Nat) (v1 : Int32) (v2 : Option Nat) (v3 : Int32) : jm_P (Int32 ⊕ Unit) :=
  jm_ret (.inl (v3 + 1))
def jf_X7_without_j33 (N : Nat) (a0 : Nat) (v1 : Int32) (v2 : Option Nat) (v3 : Int32) : jm_P (Int32 ⊕ Unit) :=
  jm_rd (jm_ldI 0 v2 v3) fun x17 =>
  if ((-1 : Int32) - v1) ≤ x17 then (
    jf_X7_without_j49 N a0 v1 v2 v3)
  else
    jm_rd (jm_ldI 0 v2 v3) fun x19 =>
    jm_wr (jm_stI 0 v2 v3 (x19 + (1 : Int32))) <|
    jf_X7_without_j49 N a0 v1 v2 v3
def jf_X7_without_L13 (N : Nat) (a0 : Nat) (v1 : Int32) (v2 : Option Nat) (v3 : Int32) : jm_P (Int32 ⊕ Unit) :=
  jm_rd (jm_len 0 v2) fun x25 =>
  if x25 ≤ v3 then (
    jm_ret (.inr ()))
  else
    jm_rd (jm_ldI 0 v2 v3) fun x27 =>
    if x27 ≤ v1 then (
      jf_X7_without_j33 N a0 v1 v2 v3)
    else
      jm_rd (jm_ldI 0 v2 v3) fun x29 =>
      jm_wr (jm_stI 0 v2 v3 (x29 - (1 : Int32))) <|
      jf_X7_without_j33 N a0 v1 v2 v3
def jf_X7_without (N : Nat) (a0 : Nat) (v1 : Int32) : jm_P (Option Nat) :=
  jm_rd (jm_fR [7, 8] 0 (some a0)) fun x7 =>
  jm_rd (jm_arI 0 x7) fun y9 =>
  jm_al (.inl (0, y9.1, .inl y9.2)) fun q10 =>
  jm_rd (jm_ar 0 (some q10)) fun _ =>
  jm_bd (jm_it (fun z => jf_X7_without_L13 N a0 v1 (some q10) z) N (0 : Int32)) fun y =>
  jf_X7_without_k13_55 N a0 (some q10)
set_option maxHeartbeats 4000000 in
set_option maxRecDepth 100000 in
theorem jt_X7_without (l : Launch) (g : GD) (b N : Nat) (a0 : Nat) (v1 : Int32) (M M' : Mem) (r : (Option Nat)) (hf : (jf_X7_without N a0 v1).1 M = some (r, M')) : jm_Met l g b yX7_without (ws_ yX7_without cX7_without 4 (some (.object "ChainParts$FaceCell"))) 5 108 [va_rf (some a0), .int v1] M M' (some (va_rf r)) := by
  refine jm_start (by decide) (jm_mono hf) (by rw [lg_sl_r, lg_sl_i, lg_sl_n]; exact Nat.le_of_ble_eq_true rfl) ?_
  intro p e s m args below meth c ls C0 hin hK hst hl
  obtain ⟨hx, hb, hml, hown, hts, hr, hlk⟩ := id C0
  have hown : s.vm.findClass RX7 = some m.cls := hown
  have C0 : jm_Cx p s m args meth c cX7_without 4 (some (.object "ChainParts$FaceCell")) RX7 := C0
  rw [lv_args_r, lv_args_i, lv_args_n] at hl
  have hl : lv_has ls 4 [(0, va_rf (some a0)), (1, .int v1)] := hl
  have K13_55 : ∀ (a0 : Nat) (v2 : Option Nat) (Mm1 : Mem), (jf_X7_without_k13_55 N a0 v2).1 Mm1 = some (r, M') → ∀ (H : Heap) (locs : List Loc) (cells slots : Nat) (ls : Array Slot), jm_St g b M M' Mm1 s (jm_rm 5 108 M M') H locs cells slots → lv_has ls 4 [(0, va_rf (some a0)), (2, va_rf v2)] → W p l e (jm_rm 5 108 M M') s m args below meth c H locs cells slots (jm_MQ below g b (some (va_rf r)) M M' args s) (F0 m 55 ls []) := by
    intro a0 v2 Mm1 hf H locs cells slots ls hst hl
    unfold jf_X7_without_k13_55 at hf
    refine jw_aload_n (r := v2) hx hb dX7_without_55 rfl (lv_at hl 1 rfl) ?_
    refine jw_aload_n (r := (some a0)) hx hb dX7_without_56 rfl (lv_at hl 0 rfl) ?_
    obtain ⟨x2, h3, hf⟩ := jm_rd_some hf
    refine jw_getI hx hb hts hown hK hst (fl_X7_15 hts hK) h3 dX7_without_57 ?_
    obtain ⟨x4, Mm5, h6, hf⟩ := jm_bd_some hf
    refine jw_SN (As := [va_rf v2, .int x2]) (rest := []) (jt_X0_faceBy l g b N v2 x2 Mm1 Mm5 x4 h6) C0 hK hst (jm_mono h6) (jm_le_tr (jm_mono hf) jm_le_rf) nq498 q319 q72 q320 hd_X0_faceBy.2 ⟨Nat.le_of_ble_eq_true rfl, Nat.le_of_ble_eq_true rfl⟩ rfl hl.1 rfl (by rw [cs_n]; exact Nat.le_of_ble_eq_true rfl) dX7_without_60 (fun H locs cells slots hst => ?_)
    refine W.eq (g2 := F0 m 63 ls [va_rf x4]) rfl ?_
    obtain ⟨rfl, rfl⟩ := jm_ret_some hf
    exact jw_aret C0 (Or.inl ⟨_, rfl⟩) hst dX7_without_63
  have B13 : ∀ (a0 : Nat) (v1 : Int32) (v2 : Option Nat) (v3 : Int32) (Mm24 : Mem) (xe13 : (Int32 ⊕ Unit)) (Me13 : Mem), (jf_X7_without_L13 N a0 v1 v2 v3).1 Mm24 = some (xe13, Me13) → jm_le Me13 M' → (jm_or (fun (z : Int32) => ∀ (H : Heap) (locs : List Loc) (cells slots : Nat) (ls : Array Slot), jm_St g b M M' Me13 s (jm_rm 5 108 M M') H locs cells slots → lv_has ls 4 [(0, va_rf (some a0)), (1, .int v1), (2, va_rf v2), (3, .int z)] → W p l e (jm_rm 5 108 M M') s m args below meth c H locs cells slots (jm_MQ below g b (some (va_rf r)) M M' args s) (F0 m 13 ls [])) (fun (y : Unit) => ∀ (H : Heap) (locs : List Loc) (cells slots : Nat) (ls : Array Slot), jm_St g b M M' Me13 s (jm_rm 5 108 M M') H locs cells slots → lv_has ls 4 [(0, va_rf (some a0)), (2, va_rf v2)] → W p l e (jm_rm 5 108 M M') s m args below meth c H locs cells slots (jm_MQ below g b (some (va_rf r)) M M' args s) (F0 m 55 ls [])) xe13) → ∀ (H : Heap) (locs : List Loc) (cells slots : Nat) (ls : Array Slot), jm_St g b M M' Mm24 s (jm_rm 5 108 M M') H locs cells slots → lv_has ls 4 [(0, va_rf (some a0)), (1, .int v1), (2, va_rf v2), (3, .int v3)] → W p l e (jm_rm 5 108 M M') s m args below meth c H locs cells slots (jm_MQ below g b (some (va_rf r)) M M' args s) (F0 m 13 ls []) := by
    intro a0 v1 v2 v3 Mm24 xe13 Me13 hf hle13 hk13
    have J49 : ∀ (v3 : Int32) (Mm15 : Mem), (jf_X7_without_j49 N a0 v1 v2 v3).1 Mm15 = some (xe13, Me13) → ∀ (H : Heap) (locs : List Loc) (cells slots : Nat) (ls : Array Slot), jm_St g b M M' Mm15 s (jm_rm 5 108 M M') H locs cells slots → lv_has ls 4 [(0, va_rf (some a0)), (1, .int v1), (2, va_rf v2), (3, .int v3)] → W p l e (jm_rm 5 108 M M') s m args below meth c H locs cells slots (jm_MQ below g b (some (va_rf r)) M M' args s) (F0 m 49 ls []) := by
      intro v3 Mm15 hf H locs cells slots ls hst hl
      unfold jf_X7_without_j49 at hf
      refine lv_iinc (i := 3) (v := (v3 + 1)) (lv' := [(3, .int (v3 + 1)), (0, va_rf (some a0)), (1, .int v1), (2, va_rf v2)]) hx hb dX7_without_49 hl (k := 3) rfl (by rfl) (by decide) (by simp [va_rf_cat, cat_i, cat_j, cat_f]) (fun ls hl => ?_)
      refine lv_goto (tgt := 13) hx hb dX7_without_52 (by decide) ?_
      obtain ⟨rfl, rfl⟩ := jm_ret_some hf
      exact jm_or_l hk13 _ _ _ _ _ hst (lv_sub hl [1, 2, 3, 0] rfl)
    have J33 : ∀ (v3 : Int32) (Mm16 : Mem), (jf_X7_without_j33 N a0 v1 v2 v3).1 Mm16 = some (xe13, Me13) → ∀ (H : Heap) (locs : List Loc) (cells slots : Nat) (ls : Array Slot), jm_St g b M M' Mm16 s (jm_rm 5 108 M M') H locs cells slots → lv_has ls 4 [(0, va_rf (some a0)), (1, .int v1), (2, va_rf v2), (3, .int v3)] → W p l e (jm_rm 5 108 M M') s m args below meth c H locs cells slots (jm_MQ below g b (some (va_rf r)) M M' args s) (F0 m 33 ls []) := by
      intro v3 Mm16 hf H locs cells slots ls hst hl
      unfold jf_X7_without_j33 at hf
      refine jw_aload_n (r := v2) hx hb dX7_without_33 rfl (lv_at hl 2 rfl) ?_
      refine lv_iload_n hx hb dX7_without_34 rfl (lv_at hl 3 rfl) ?_
      obtain ⟨x17, h18, hf⟩ := jm_rd_some hf
      refine jw_iald hx hb hK hst h18 dX7_without_35 ?_
      refine lv_iconst (v := -1) hx hb dX7_without_36 (by decide) ?_
      refine lv_iload_n hx hb dX7_without_37 rfl (lv_at hl 1 rfl) ?_
      refine lv_isub hx hb dX7_without_38 ?_
      refine lv_icmp_ge (tgt := 49) hx hb dX7_without_39 (by decide) (fun hc => ?_) (fun hc => ?_)
      · rw [if_pos hc] at hf
        exact J49 v3 _ hf _ _ _ _ _ hst (lv_sub hl [0, 1, 2, 3] rfl)
      · rw [if_neg hc] at hf
        refine jw_aload_n (r := v2) hx hb dX7_without_42 rfl (lv_at hl 2 rfl) ?_
        refine lv_iload_n hx hb dX7_without_43 rfl (lv_at hl 3 rfl) ?_
        refine lv_dup2_11 hx hb dX7_without_44 rfl (va_rf_cat _) ?_
        obtain ⟨x19, h20, hf⟩ := jm_rd_some hf
        refine jw_iald hx hb hK hst h20 dX7_without_45 ?_
        refine lv_iconst (v := 1) hx hb dX7_without_46 (by decide) ?_
        refine lv_iadd hx hb dX7_without_47 ?_
        obtain ⟨F21, h22, hf⟩ := jm_wr_some hf
        refine jw_iast (r := v2) hx hb hK hst h22 dX7_without_48 (fun H locs hst => ?_)
        generalize ((Mm16.1, Mm16.2.1, F21) : Mem) = Mm23 at hf hst
        exact J49 v3 _ hf _ _ _ _ _ hst (lv_sub hl [0, 1, 2, 3] rfl)
    intro H locs cells slots ls hst hl
    unfold jf_X7_without_L13 at hf
    refine lv_iload_n hx hb dX7_without_13 rfl (lv_at hl 3 rfl) ?_
    refine jw_aload_n (r := v2) hx hb dX7_without_14 rfl (lv_at hl 2 rfl) ?_
    obtain ⟨x25, h26, hf⟩ := jm_rd_some hf
    refine jw_alen hx hb hK hst (show jm_ty[0]? = some .int from rfl) h26 dX7_without_15 ?_
    refine lv_icmp_ge (tgt := 55) hx hb dX7_without_16 (by decide) (fun hc => ?_) (fun hc => ?_)
    · rw [if_pos hc] at hf
      obtain ⟨rfl, rfl⟩ := jm_ret_some hf
      exact jm_or_r hk13 _ _ _ _ _ hst (lv_sub hl [0, 2] rfl)
    · rw [if_neg hc] at hf
      refine jw_aload_n (r := v2) hx hb dX7_without_19 rfl (lv_at hl 2 rfl) ?_
      refine lv_iload_n hx hb dX7_without_20 rfl (lv_at hl 3 rfl) ?_
      obtain ⟨x27, h28, hf⟩ := jm_rd_some hf
      refine jw_iald hx hb hK hst h28 dX7_without_21 ?_
      refine lv_iload_n hx hb dX7_without_22 rfl (lv_at hl 1 rfl) ?_
      refine lv_icmp_le (tgt := 33) hx hb dX7_without_23 (by decide) (fun hc => ?_) (fun hc => ?_)
      · rw [if_pos hc] at hf
        exact J33 v3 _ hf _ _ _ _ _ hst (lv_sub hl [0, 1, 2, 3] rfl)
      · rw [if_neg hc] at hf
        refine jw_aload_n (r := v2) hx hb dX7_without_26 rfl (lv_at hl 2 rfl) ?_
        refine lv_iload_n hx hb dX7_without_27 rfl (lv_at hl 3 rfl) ?_
        refine lv_dup2_11 hx hb dX7_without_28 rfl (va_rf_cat _) ?_
        obtain ⟨x29, h30, hf⟩ := jm_rd_some hf
        refine jw_iald hx hb hK hst h30 dX7_without_29 ?_
        refine lv_iconst (v := 1) hx hb dX7_without_30 (by decide) ?_
        refine lv_isub hx hb dX7_without_31 ?_
        obtain ⟨F31, h32, hf⟩ := jm_wr_some hf
        refine jw_iast (r := v2) hx hb hK hst h32 dX7_without_32 (fun H locs hst => ?_)
        generalize ((Mm24.1, Mm24.2.1, F31) : Mem) = Mm33 at hf hst
        exact J33 v3 _ hf _ _ _ _ _ hst (lv_sub hl [0, 1, 2, 3] rfl)
  unfold jf_X7_without at hf
  refine jw_aload_n (r := (some a0)) hx hb dX7_without_0 rfl (lv_at hl 0 rfl) ?_
  obtain ⟨x7, h8, hf⟩ := jm_rd_some hf
  refine jw_getR hx hb hts hown hK hst (fl_X7_9 hts hK) h8 dX7_without_1 ?_
  obtain ⟨y9, h11, hf⟩ := jm_rd_some hf
  obtain ⟨q10, hq10, hf⟩ := jm_al_some hf
  refine jw_clone (kd := 0) (t := .int) (x := (y9.1, .inl y9.2)) (ad := "[I") (r := x7) (rest := []) hx hb hml hl.1 hown (hts _ q491) (hts _ q492) (hts _ q493) (hts _ q494) (hts _ q495) nq496 hK hst rfl (jm_arI_some h11) jm_nmI jm_fitI (Nat.le_of_ble_eq_true rfl) (by rw [cs_n]; exact Nat.le_of_ble_eq_true rfl) (jm_le_tr (jm_mono hf) jm_le_rf) hq10 dX7_without_4 (fun H cells slots hst => ?_)
  generalize jm_new (.inl (0, y9.1, .inl y9.2)) M = Mm12 at hf hst
  obtain ⟨y13, h14, hf⟩ := jm_rd_some hf
  refine jw_castA (kd := 0) (t := .int) (r := (some q10)) hx hb hown (hts _ q497) hK hst rfl h14 jm_nmI dX7_without_7 ?_
  refine jw_astore_n (i := 2) (r := (some q10)) (lv' := [(2, va_rf (some q10)), (0, va_rf (some a0)), (1, .int v1)]) hx hb dX7_without_10 rfl hl (by decide) rfl (fun ls hl => ?_)
  refine lv_iconst (v := 0) hx hb dX7_without_11 (by decide) ?_
  refine lv_istore_n (i := 3) (lv' := [(3, .int (0 : Int32)), (2, va_rf (some q10)), (0, va_rf (some a0)), (1, .int v1)]) hx hb dX7_without_12 rfl hl (by decide) (by simp [va_rf_cat, cat_i, cat_j, cat_f]) (fun ls hl => ?_)
  obtain ⟨xl13, Ml13, hit13, hf⟩ := jm_bd_some hf
  have hlf13 : jm_le Ml13 M' := jm_le_tr (jm_mono hf) jm_le_rf
  have hwe13 : (fun (y : Unit) (Mz : Mem) => ∀ (H : Heap) (locs : List Loc) (cells slots : Nat) (ls : Array Slot), jm_St g b M M' Mz s (jm_rm 5 108 M M') H locs cells slots → lv_has ls 4 [(0, va_rf (some a0)), (2, va_rf (some q10))] → W p l e (jm_rm 5 108 M M') s m args below meth c H locs cells slots (jm_MQ below g b (some (va_rf r)) M M' args s) (F0 m 55 ls [])) xl13 Ml13 := fun H locs cells slots ls hst hl => K13_55 a0 (some q10) _ hf H locs cells slots ls hst hl
  refine jm_it_walk (Mf := M') (Wh := fun (z : Int32) (Mz : Mem) => ∀ (H : Heap) (locs : List Loc) (cells slots : Nat) (ls : Array Slot), jm_St g b M M' Mz s (jm_rm 5 108 M M') H locs cells slots → lv_has ls 4 [(0, va_rf (some a0)), (1, .int v1), (2, va_rf (some q10)), (3, .int z)] → W p l e (jm_rm 5 108 M M') s m args below meth c H locs cells slots (jm_MQ below g b (some (va_rf r)) M M' args s) (F0 m 13 ls [])) (We := fun (y : Unit) (Mz : Mem) => ∀ (H : Heap) (locs : List Loc) (cells slots : Nat) (ls : Array Slot), jm_St g b M M' Mz s (jm_rm 5 108 M M') H locs cells slots → lv_has ls 4 [(0, va_rf (some a0)), (2, va_rf (some q10))] → W p l e (jm_rm 5 108 M M') s m args below meth c H locs cells slots (jm_MQ below g b (some (va_rf r)) M M' args s) (F0 m 55 ls [])) ?_ N (0 : Int32) Mm12 xl13 Ml13 hit13 hlf13 hwe13 _ _ _ _ _ hst (lv_sub hl [2, 3, 1, 0] rfl)
  intro v3 Mm34 xe13 Me13 hf hle13 hk13 H locs cells slots ls hst hl
  have hf : (jf_X7_without_L13 N a0 v1 (some q10) v3).1 Mm34 = some (xe13, Me13) := hf
  have hl : lv_has ls 4 [(0, va_rf (some a0)), (1, .int v1), (2, va_rf (some q10)), (3, .int v3)] := hl
  exact B13 a0 v1 (some q10) v3 _ _ _ hf hle13 hk13 _ _ _ _ _ hst (lv_sub hl [0, 1, 2, 3] rfl)
theorem fl_X5_18 {g : GD} {s : State} {args : Array Value} (hts : ∀ w ∈ lw_all, w.before args s = true) (hK : jm_KG g s) : ∀ q ∈ ([5, 6] : List Nat), jm_FL s args RX5 18 q 2 := by
  intro q hq
  simp only [List.mem_cons, List.not_mem_nil, or_false] at hq
  rcases hq with rfl | rfl
  · exact ⟨RX5, TX5, 3, rfl, in_X5, by decide, "ChainParts$EdgeCell", Or.inl (hts _ q289), fun _ h => h⟩
  · exact ⟨RX6, TX6, 3, rfl, in_X6, by decide, "ChainParts$EdgeCell", Or.inl (hts _ q289), fun _ h => h⟩
def jf_X5_told (N : Nat) (a0 : Nat) (v1 : Int32) : jm_P Int32 :=
  if v1 = 0 then (
    jm_rd (jm_fI [5, 6] 2 (some a0)) fun x5 =>
    jm_ret x5)
  else
    if v1 = (1 : Int32) then (
      jm_rd (jm_fI [5, 6] 0 (some a0)) fun x3 =>
      jm_ret x3)
    else
      if v1 = (2 : Int32) then (
        jm_rd (jm_fI [5, 6] 1 (some a0)) fun x1 =>
        jm_ret x1)
      else
        jm_ret (-1000001 : Int32)
set_option maxHeartbeats 4000000 in
set_option maxRecDepth 100000 in
theorem jt_X5_told (l : Launch) (g : GD) (b N : Nat) (a0 : Nat) (v1 : Int32) (M M' : Mem) (r : Int32) (hf : (jf_X5_told N a0 v1).1 M = some (r, M')) : jm_Met l g b yX5_told (ws_ yX5_told cX5_told 2 (some .int)) 0 0 [va_rf (some a0), .int v1] M M' (some (.int r)) := by
  refine jm_start (by decide) (jm_mono hf) (by rw [lg_sl_r, lg_sl_i, lg_sl_n]; exact Nat.le_of_ble_eq_true rfl) ?_
  intro p e s m args below meth c ls C0 hin hK hst hl
  obtain ⟨hx, hb, hml, hown, hts, hr, hlk⟩ := id C0
  have hown : s.vm.findClass RX5 = some m.cls := hown
  have C0 : jm_Cx p s m args meth c cX5_told 2 (some .int) RX5 := C0
  rw [lv_args_r, lv_args_i, lv_args_n] at hl
  have hl : lv_has ls 2 [(0, va_rf (some a0)), (1, .int v1)] := hl
  unfold jf_X5_told at hf
  refine lv_iload_n hx hb dX5_told_0 rfl (lv_at hl 1 rfl) ?_
  refine lv_if_ne (tgt := 11) hx hb dX5_told_1 (by decide) (fun hc => ?_) (fun hc => ?_)
  · rw [if_neg hc] at hf
    refine lv_iload_n hx hb dX5_told_11 rfl (lv_at hl 1 rfl) ?_
    refine lv_iconst (v := 1) hx hb dX5_told_12 (by decide) ?_
    refine lv_icmp_ne (tgt := 23) hx hb dX5_told_13 (by decide) (fun hc => ?_) (fun hc => ?_)
    · rw [if_neg hc] at hf
      refine lv_iload_n hx hb dX5_told_23 rfl (lv_at hl 1 rfl) ?_
      refine lv_iconst (v := 2) hx hb dX5_told_24 (by decide) ?_
      refine lv_icmp_ne (tgt := 35) hx hb dX5_told_25 (by decide) (fun hc => ?_) (fun hc => ?_)
      · rw [if_neg hc] at hf
        refine lv_ldc hx hb hown (hts _ q548) dX5_told_35 ?_
        obtain ⟨rfl, rfl⟩ := jm_ret_some hf
        exact jw_iret C0 hst dX5_told_37
      · rw [if_pos hc] at hf
        refine jw_aload_n (r := (some a0)) hx hb dX5_told_28 rfl (lv_at hl 0 rfl) ?_
        obtain ⟨x1, h2, hf⟩ := jm_rd_some hf
        refine jw_getI hx hb hts hown hK hst (fl_X5_15 hts hK) h2 dX5_told_29 ?_
        refine lv_goto (tgt := 37) hx hb dX5_told_32 (by decide) ?_
        obtain ⟨rfl, rfl⟩ := jm_ret_some hf
        exact jw_iret C0 hst dX5_told_37
    · rw [if_pos hc] at hf
      refine jw_aload_n (r := (some a0)) hx hb dX5_told_16 rfl (lv_at hl 0 rfl) ?_
      obtain ⟨x3, h4, hf⟩ := jm_rd_some hf
      refine jw_getI hx hb hts hown hK hst (fl_X5_9 hts hK) h4 dX5_told_17 ?_
      refine lv_goto (tgt := 37) hx hb dX5_told_20 (by decide) ?_
      obtain ⟨rfl, rfl⟩ := jm_ret_some hf
      exact jw_iret C0 hst dX5_told_37
  · rw [if_pos hc] at hf
    refine jw_aload_n (r := (some a0)) hx hb dX5_told_4 rfl (lv_at hl 0 rfl) ?_
    obtain ⟨x5, h6, hf⟩ := jm_rd_some hf
    refine jw_getI hx hb hts hown hK hst (fl_X5_18 hts hK) h6 dX5_told_5 ?_
    refine lv_goto (tgt := 37) hx hb dX5_told_8 (by decide) ?_
    obtain ⟨rfl, rfl⟩ := jm_ret_some hf
    exact jw_iret C0 hst dX5_told_37
def jf_X7_letter (N : Nat) (a0 : Nat) (v1 : Int32) : jm_P Int32 :=
  jm_rd (jm_fR [7, 8] 0 (some a0)) fun x1 =>
  jm_rd (jm_len 0 x1) fun x3 =>
  if v1 < x3 then (
    jm_rd (jm_fR [7, 8] 0 (some a0)) fun x5 =>
    jm_rd (jm_ldI 0 x5 v1) fun x7 =>
    if x7 < 0 then (
      jm_rd (jm_fR [7, 8] 0 (some a0)) fun x9 =>
      jm_rd (jm_ldI 0 x9 v1) fun x11 =>
      jm_ret ((64 : Int32) - x11))
    else
      jm_rd (jm_fR [7, 8] 0 (some a0)) fun x13 =>
      jm_rd (jm_ldI 0 x13 v1) fun x15 =>
      jm_ret ((97 : Int32) + x15))
  else
    jm_ret (-1000000 : Int32)
set_option maxHeartbeats 4000000 in
set_option maxRecDepth 100000 in
theorem jt_X7_letter (l : Launch) (g : GD) (b N : Nat) (a0 : Nat) (v1 : Int32) (M M' : Mem) (r : Int32) (hf : (jf_X7_letter N a0 v1).1 M = some (r, M')) : jm_Met l g b yX7_letter (ws_ yX7_letter cX7_letter 2 (some .int)) 0 0 [va_rf (some a0), .int v1] M M' (some (.int r)) := by
  refine jm_start (by decide) (jm_mono hf) (by rw [lg_sl_r, lg_sl_i, lg_sl_n]; exact Nat.le_of_ble_eq_true rfl) ?_
  intro p e s m args below meth c ls C0 hin hK hst hl
  obtain ⟨hx, hb, hml, hown, hts, hr, hlk⟩ := id C0
  have hown : s.vm.findClass RX7 = some m.cls := hown
  have C0 : jm_Cx p s m args meth c cX7_letter 2 (some .int) RX7 := C0
  rw [lv_args_r, lv_args_i, lv_args_n] at hl
  have hl : lv_has ls 2 [(0, va_rf (some a0)), (1, .int v1)] := hl
  unfold jf_X7_letter at hf
  refine lv_iload_n hx hb dX7_letter_0 rfl (lv_at hl 1 rfl) ?_
  refine jw_aload_n (r := (some a0)) hx hb dX7_letter_1 rfl (lv_at hl 0 rfl) ?_
  obtain ⟨x1, h2, hf⟩ := jm_rd_some hf
  refine jw_getR hx hb hts hown hK hst (fl_X7_9 hts hK) h2 dX7_letter_2 ?_
  obtain ⟨x3, h4, hf⟩ := jm_rd_some hf
  refine jw_alen hx hb hK hst (show jm_ty[0]? = some .int from rfl) h4 dX7_letter_5 ?_
  refine lv_icmp_lt (tgt := 14) hx hb dX7_letter_6 (by decide) (fun hc => ?_) (fun hc => ?_)
  · rw [if_pos hc] at hf
    refine jw_aload_n (r := (some a0)) hx hb dX7_letter_14 rfl (lv_at hl 0 rfl) ?_
    obtain ⟨x5, h6, hf⟩ := jm_rd_some hf
    refine jw_getR hx hb hts hown hK hst (fl_X7_9 hts hK) h6 dX7_letter_15 ?_
    refine lv_iload_n hx hb dX7_letter_18 rfl (lv_at hl 1 rfl) ?_
    obtain ⟨x7, h8, hf⟩ := jm_rd_some hf
    refine jw_iald hx hb hK hst h8 dX7_letter_19 ?_
    refine lv_if_lt (tgt := 35) hx hb dX7_letter_20 (by decide) (fun hc => ?_) (fun hc => ?_)
    · rw [if_pos hc] at hf
      refine lv_bipush (v := 64) hx hb dX7_letter_35 (by decide) ?_
      refine jw_aload_n (r := (some a0)) hx hb dX7_letter_37 rfl (lv_at hl 0 rfl) ?_
      obtain ⟨x9, h10, hf⟩ := jm_rd_some hf
      refine jw_getR hx hb hts hown hK hst (fl_X7_9 hts hK) h10 dX7_letter_38 ?_
      refine lv_iload_n hx hb dX7_letter_41 rfl (lv_at hl 1 rfl) ?_
      obtain ⟨x11, h12, hf⟩ := jm_rd_some hf
      refine jw_iald hx hb hK hst h12 dX7_letter_42 ?_
      refine lv_isub hx hb dX7_letter_43 ?_
      obtain ⟨rfl, rfl⟩ := jm_ret_some hf
      exact jw_iret C0 hst dX7_letter_44
    · rw [if_neg hc] at hf
      refine lv_bipush (v := 97) hx hb dX7_letter_23 (by decide) ?_
      refine jw_aload_n (r := (some a0)) hx hb dX7_letter_25 rfl (lv_at hl 0 rfl) ?_
      obtain ⟨x13, h14, hf⟩ := jm_rd_some hf
      refine jw_getR hx hb hts hown hK hst (fl_X7_9 hts hK) h14 dX7_letter_26 ?_
      refine lv_iload_n hx hb dX7_letter_29 rfl (lv_at hl 1 rfl) ?_
      obtain ⟨x15, h16, hf⟩ := jm_rd_some hf
      refine jw_iald hx hb hK hst h16 dX7_letter_30 ?_
      refine lv_iadd hx hb dX7_letter_31 ?_
      refine lv_goto (tgt := 44) hx hb dX7_letter_32 (by decide) ?_
      obtain ⟨rfl, rfl⟩ := jm_ret_some hf
      exact jw_iret C0 hst dX7_letter_44
  · rw [if_neg hc] at hf
    refine lv_ldc hx hb hown (hts _ q561) dX7_letter_9 ?_
    refine lv_goto (tgt := 44) hx hb dX7_letter_11 (by decide) ?_
    obtain ⟨rfl, rfl⟩ := jm_ret_some hf
    exact jw_iret C0 hst dX7_letter_44
def jf_X0_has (N : Nat) (v0 : Int32) (v1 : Int32) : jm_P Int32 :=
  if ((v0 >>> (v1 &&& 31)) &&& (1 : Int32)) = (1 : Int32) then (
    jm_ret (1 : Int32))
  else
    jm_ret (0 : Int32)
set_option maxHeartbeats 4000000 in
set_option maxRecDepth 100000 in
theorem jt_X0_has (l : Launch) (g : GD) (b N : Nat) (v0 : Int32) (v1 : Int32) (M M' : Mem) (r : Int32) (hf : (jf_X0_has N v0 v1).1 M = some (r, M')) : jm_Met l g b yX0_has (ws_ yX0_has cX0_has 2 (some .boolean)) 0 0 [.int v0, .int v1] M M' (some (.int r)) := by
  refine jm_start (by decide) (jm_mono hf) (by rw [lg_sl_i, lg_sl_i, lg_sl_n]; exact Nat.le_of_ble_eq_true rfl) ?_
  intro p e s m args below meth c ls C0 hin hK hst hl
  obtain ⟨hx, hb, hml, hown, hts, hr, hlk⟩ := id C0
  have hown : s.vm.findClass RX0 = some m.cls := hown
  have C0 : jm_Cx p s m args meth c cX0_has 2 (some .boolean) RX0 := C0
  rw [lv_args_i, lv_args_i, lv_args_n] at hl
  have hl : lv_has ls 2 [(0, .int v0), (1, .int v1)] := hl
  unfold jf_X0_has at hf
  refine lv_iload_n hx hb dX0_has_0 rfl (lv_at hl 0 rfl) ?_
  refine lv_iload_n hx hb dX0_has_1 rfl (lv_at hl 1 rfl) ?_
  refine lv_ishr hx hb dX0_has_2 ?_
  refine lv_iconst (v := 1) hx hb dX0_has_3 (by decide) ?_
  refine lv_iand hx hb dX0_has_4 ?_
  refine lv_iconst (v := 1) hx hb dX0_has_5 (by decide) ?_
  refine lv_icmp_ne (tgt := 13) hx hb dX0_has_6 (by decide) (fun hc => ?_) (fun hc => ?_)
  · rw [if_neg hc] at hf
    refine lv_iconst (v := 0) hx hb dX0_has_13 (by decide) ?_
    obtain ⟨rfl, rfl⟩ := jm_ret_some hf
    exact jw_zret C0 (Or.inl rfl) hst dX0_has_14
  · rw [if_pos hc] at hf
    refine lv_iconst (v := 1) hx hb dX0_has_9 (by decide) ?_
    refine lv_goto (tgt := 14) hx hb dX0_has_10 (by decide) ?_
    obtain ⟨rfl, rfl⟩ := jm_ret_some hf
    exact jw_zret C0 (Or.inr rfl) hst dX0_has_14
def jf_X0_common_k12_37 (N : Nat) (v4 : Int64) : jm_P Int64 :=
  jm_ret v4
def jf_X0_common_L12 (N : Nat) (v4 : Int64) (v6 : Int64) : jm_P ((Int64 × Int64) ⊕ Int64) :=
  if v6 = (0 : Int64) then (
    jm_ret (.inr v4))
  else
    jm_rd (jm_ck (¬ v6 = 0)) fun _ =>
    jm_ret (.inl (v6, (v4 - v4 / v6 * v6)))
def jf_X0_common (N : Nat) (v0 : Int64) (v2 : Int64) : jm_P Int64 :=
  jm_lt (if 0 < v0 then v0 else -v0) fun x2 =>
  jm_lt (if 0 < v2 then v2 else -v2) fun x3 =>
  jm_bd (jm_it (fun z => jf_X0_common_L12 N z.1 z.2) N (x2, x3)) fun y =>
  jf_X0_common_k12_37 N y
set_option maxHeartbeats 4000000 in
set_option maxRecDepth 100000 in
theorem jt_X0_common (l : Launch) (g : GD) (b N : Nat) (v0 : Int64) (v2 : Int64) (M M' : Mem) (r : Int64) (hf : (jf_X0_common N v0 v2).1 M = some (r, M')) : jm_Met l g b yX0_common (ws_ yX0_common cX0_common 10 (some .long)) 1 40 [.long v0, .long v2] M M' (some (.long r)) := by
  refine jm_start (by decide) (jm_mono hf) (by rw [lg_sl_j, lg_sl_j, lg_sl_n]; exact Nat.le_of_ble_eq_true rfl) ?_
  intro p e s m args below meth c ls C0 hin hK hst hl
  obtain ⟨hx, hb, hml, hown, hts, hr, hlk⟩ := id C0
  have hown : s.vm.findClass RX0 = some m.cls := hown
  have C0 : jm_Cx p s m args meth c cX0_common 10 (some .long) RX0 := C0
  rw [lv_args_j, lv_args_j, lv_args_n] at hl
  have hl : lv_has ls 10 [(0, .long v0), (2, .long v2)] := hl
  have K12_37 : ∀ (v4 : Int64) (Mm1 : Mem), (jf_X0_common_k12_37 N v4).1 Mm1 = some (r, M') → ∀ (H : Heap) (locs : List Loc) (cells slots : Nat) (ls : Array Slot), jm_St g b M M' Mm1 s (jm_rm 1 40 M M') H locs cells slots → lv_has ls 10 [(4, .long v4)] → W p l e (jm_rm 1 40 M M') s m args below meth c H locs cells slots (jm_MQ below g b (some (.long r)) M M' args s) (F0 m 37 ls []) := by
    intro v4 Mm1 hf H locs cells slots ls hst hl
    unfold jf_X0_common_k12_37 at hf
    refine lv_lload hx hb dX0_common_37 (lv_at hl 0 rfl) ?_
    obtain ⟨rfl, rfl⟩ := jm_ret_some hf
    exact jw_lret C0 hst dX0_common_39
  have B12 : ∀ (v4 : Int64) (v6 : Int64) (Mm4 : Mem) (xe12 : ((Int64 × Int64) ⊕ Int64)) (Me12 : Mem), (jf_X0_common_L12 N v4 v6).1 Mm4 = some (xe12, Me12) → jm_le Me12 M' → (jm_or (fun (z : Int64 × Int64) => ∀ (H : Heap) (locs : List Loc) (cells slots : Nat) (ls : Array Slot), jm_St g b M M' Me12 s (jm_rm 1 40 M M') H locs cells slots → lv_has ls 10 [(4, .long z.1), (6, .long z.2)] → W p l e (jm_rm 1 40 M M') s m args below meth c H locs cells slots (jm_MQ below g b (some (.long r)) M M' args s) (F0 m 12 ls [])) (fun (y : Int64) => ∀ (H : Heap) (locs : List Loc) (cells slots : Nat) (ls : Array Slot), jm_St g b M M' Me12 s (jm_rm 1 40 M M') H locs cells slots → lv_has ls 10 [(4, .long y)] → W p l e (jm_rm 1 40 M M') s m args below meth c H locs cells slots (jm_MQ below g b (some (.long r)) M M' args s) (F0 m 37 ls [])) xe12) → ∀ (H : Heap) (locs : List Loc) (cells slots : Nat) (ls : Array Slot), jm_St g b M M' Mm4 s (jm_rm 1 40 M M') H locs cells slots → lv_has ls 10 [(4, .long v4), (6, .long v6)] → W p l e (jm_rm 1 40 M M') s m args below meth c H locs cells slots (jm_MQ below g b (some (.long r)) M M' args s) (F0 m 12 ls []) := by
    intro v4 v6 Mm4 xe12 Me12 hf hle12 hk12
    intro H locs cells slots ls hst hl
    unfold jf_X0_common_L12 at hf
    refine lv_lload hx hb dX0_common_12 (lv_at hl 1 rfl) ?_
    refine lv_lconst (v := 0) hx hb dX0_common_14 (by decide) ?_
    refine W.lcmp hx hb dX0_common_15 ?_
    refine lv_if_eq (tgt := 37) hx hb dX0_common_16 (by decide) (fun hc => ?_) (fun hc => ?_)
    · replace hc := (lg_cmp_eq _ _).mp hc
      rw [if_pos hc] at hf
      obtain ⟨rfl, rfl⟩ := jm_ret_some hf
      exact jm_or_r hk12 _ _ _ _ _ hst (lv_sub hl [0] rfl)
    · replace hc := fun q => hc ((lg_cmp_eq _ _).mpr q)
      rw [if_neg hc] at hf
      refine lv_lload hx hb dX0_common_19 (lv_at hl 0 rfl) ?_
      refine lv_lload hx hb dX0_common_21 (lv_at hl 1 rfl) ?_
      obtain ⟨_, h5, hf⟩ := jm_rd_some hf
      refine lv_lrem hx hb dX0_common_23 (jm_ck_some h5) ?_
      refine lv_lstore (i := 8) (lv' := [(8, .long (v4 - v4 / v6 * v6)), (4, .long v4), (6, .long v6)]) hx hb dX0_common_24 hl (by decide) rfl (fun ls hl => ?_)
      refine lv_lload hx hb dX0_common_26 (lv_at hl 2 rfl) ?_
      refine lv_lstore (i := 4) (lv' := [(4, .long v6), (8, .long (v4 - v4 / v6 * v6)), (6, .long v6)]) hx hb dX0_common_28 hl (by decide) rfl (fun ls hl => ?_)
      refine lv_lload hx hb dX0_common_30 (lv_at hl 1 rfl) ?_
      refine lv_lstore (i := 6) (lv' := [(6, .long (v4 - v4 / v6 * v6)), (4, .long v6), (8, .long (v4 - v4 / v6 * v6))]) hx hb dX0_common_32 hl (by decide) rfl (fun ls hl => ?_)
      refine lv_goto (tgt := 12) hx hb dX0_common_34 (by decide) ?_
      obtain ⟨rfl, rfl⟩ := jm_ret_some hf
      exact jm_or_l hk12 _ _ _ _ _ hst (lv_sub hl [1, 0] rfl)
  unfold jf_X0_common at hf
  refine lv_lload_n hx hb dX0_common_0 rfl (lv_at hl 0 rfl) ?_
  refine jw_abs (rest := []) hx hb hml hl.1 hown hts q767 hst (jm_le_tr (jm_mono hf) jm_le_rf) (Nat.le_of_ble_eq_true rfl) (by rw [cs_n]; exact Nat.le_of_ble_eq_true rfl) dX0_common_1 ?_
  obtain ⟨x2, ex2, hf⟩ := jm_lt_some hf
  rw [← ex2]
  refine lv_lstore (i := 4) (lv' := [(4, .long x2), (0, .long v0), (2, .long v2)]) hx hb dX0_common_4 hl (by decide) rfl (fun ls hl => ?_)
  refine lv_lload_n hx hb dX0_common_6 rfl (lv_at hl 2 rfl) ?_
  refine jw_abs (rest := []) hx hb hml hl.1 hown hts q767 hst (jm_le_tr (jm_mono hf) jm_le_rf) (Nat.le_of_ble_eq_true rfl) (by rw [cs_n]; exact Nat.le_of_ble_eq_true rfl) dX0_common_7 ?_
  obtain ⟨x3, ex3, hf⟩ := jm_lt_some hf
  rw [← ex3]
  refine lv_lstore (i := 6) (lv' := [(6, .long x3), (4, .long x2), (0, .long v0), (2, .long v2)]) hx hb dX0_common_10 hl (by decide) rfl (fun ls hl => ?_)
  obtain ⟨xl12, Ml12, hit12, hf⟩ := jm_bd_some hf
  have hlf12 : jm_le Ml12 M' := jm_le_tr (jm_mono hf) jm_le_rf
  have hwe12 : (fun (y : Int64) (Mz : Mem) => ∀ (H : Heap) (locs : List Loc) (cells slots : Nat) (ls : Array Slot), jm_St g b M M' Mz s (jm_rm 1 40 M M') H locs cells slots → lv_has ls 10 [(4, .long y)] → W p l e (jm_rm 1 40 M M') s m args below meth c H locs cells slots (jm_MQ below g b (some (.long r)) M M' args s) (F0 m 37 ls [])) xl12 Ml12 := fun H locs cells slots ls hst hl => K12_37 xl12 _ hf H locs cells slots ls hst hl
  refine jm_it_walk (Mf := M') (Wh := fun (z : Int64 × Int64) (Mz : Mem) => ∀ (H : Heap) (locs : List Loc) (cells slots : Nat) (ls : Array Slot), jm_St g b M M' Mz s (jm_rm 1 40 M M') H locs cells slots → lv_has ls 10 [(4, .long z.1), (6, .long z.2)] → W p l e (jm_rm 1 40 M M') s m args below meth c H locs cells slots (jm_MQ below g b (some (.long r)) M M' args s) (F0 m 12 ls [])) (We := fun (y : Int64) (Mz : Mem) => ∀ (H : Heap) (locs : List Loc) (cells slots : Nat) (ls : Array Slot), jm_St g b M M' Mz s (jm_rm 1 40 M M') H locs cells slots → lv_has ls 10 [(4, .long y)] → W p l e (jm_rm 1 40 M M') s m args below meth c H locs cells slots (jm_MQ below g b (some (.long r)) M M' args s) (F0 m 37 ls [])) ?_ N (x2, x3) M xl12 Ml12 hit12 hlf12 hwe12 _ _ _ _ _ hst (lv_sub hl [1, 0] rfl)
  intro z Mm6 xe12 Me12 hf hle12 hk12 H locs cells slots ls hst hl
  obtain ⟨v4, v6⟩ := z
  have hf : (jf_X0_common_L12 N v4 v6).1 Mm6 = some (xe12, Me12) := hf
  have hl : lv_has ls 10 [(4, .long v4), (6, .long v6)] := hl
  exact B12 v4 v6 _ _ _ hf hle12 hk12 _ _ _ _ _ hst (lv_sub hl [0, 1] rfl)
theorem fw_X12_15 {s : State} {args : Array Value} {meth : Method} (hts : ∀ w ∈ lw_all, w.before args s = true) (hin : meth.name = "<init>") : ∀ q ∈ ([12] : List Nat), jm_FW s args meth RX12 15 q 0 .long := by
  intro q hq
  simp only [List.mem_cons, List.not_mem_nil, or_false] at hq
  subst hq
  exact ⟨RX12, TX12, 2, rfl, in_X12, by decide, ⟨tyX12, tyX12_ok⟩, nmX12, tyX12_ok 0 (by decide), "ChainParts$Fraction", hts _ q839, fun _ h => h, Or.inr ⟨rfl, hin, rfl⟩⟩
theorem fw_X12_21 {s : State} {args : Array Value} {meth : Method} (hts : ∀ w ∈ lw_all, w.before args s = true) (hin : meth.name = "<init>") : ∀ q ∈ ([12] : List Nat), jm_FW s args meth RX12 21 q 1 .long := by
  intro q hq
  simp only [List.mem_cons, List.not_mem_nil, or_false] at hq
  subst hq
  exact ⟨RX12, TX12, 2, rfl, in_X12, by decide, ⟨tyX12, tyX12_ok⟩, nmX12, tyX12_ok 1 (by decide), "ChainParts$Fraction", hts _ q841, fun _ h => h, Or.inr ⟨rfl, hin, rfl⟩⟩
theorem hd_X0_common : yX0_common.cls = RX0 ∧ yX0_common.cls ≠ "java/lang/invoke/MethodHandle" ∧ yX0_common.cls ≠ "java/lang/invoke/VarHandle" ∧ (parseMethodDescriptor yX0_common.desc).map (fun d => d.parameters.length) = some 2 := by decide +kernel
def jf_X12_init_j22 (N : Nat) (a0 : Nat) (v1 : Int64) (v3 : Int64) (t0 : Int64) (t1 : Int64) : jm_P Unit :=
  jm_rd (jm_ck (¬ (t0 * t1) = 0)) fun _ =>
  jm_wr (jm_put [12] 0 (.long (v1 / (t0 * t1))) (some a0)) <|
  jm_rd (jm_ck (¬ (t0 * t1) = 0)) fun _ =>
  jm_wr (jm_put [12] 1 (.long (v3 / (t0 * t1))) (some a0)) <|
  jm_ret ()
def jf_X12_init (N : Nat) (a0 : Nat) (v1 : Int64) (v3 : Int64) : jm_P Unit :=
  jm_bd (jf_X0_common N v1 v3) fun x10 =>
  if (0 : Int64) ≤ v3 then (
    jf_X12_init_j22 N a0 v1 v3 x10 (1 : Int64))
  else
    jf_X12_init_j22 N a0 v1 v3 x10 (-1 : Int64)
set_option maxHeartbeats 4000000 in
set_option maxRecDepth 100000 in
theorem jt_X12_init (l : Launch) (g : GD) (b N : Nat) (a0 : Nat) (v1 : Int64) (v3 : Int64) (M M' : Mem) (r : Unit) (hf : (jf_X12_init N a0 v1 v3).1 M = some (r, M')) : jm_Met l g b yX12_init (ws_ yX12_init cX12_init 7 none) 2 69 [va_rf (some a0), .long v1, .long v3] M M' none := by
  refine jm_start (by decide) (jm_mono hf) (by rw [lg_sl_r, lg_sl_j, lg_sl_j, lg_sl_n]; exact Nat.le_of_ble_eq_true rfl) ?_
  intro p e s m args below meth c ls C0 hin hK hst hl
  obtain ⟨hx, hb, hml, hown, hts, hr, hlk⟩ := id C0
  have hown : s.vm.findClass RX12 = some m.cls := hown
  have C0 : jm_Cx p s m args meth c cX12_init 7 none RX12 := C0
  rw [lv_args_r, lv_args_j, lv_args_j, lv_args_n] at hl
  have hl : lv_has ls 7 [(0, va_rf (some a0)), (1, .long v1), (3, .long v3)] := hl
  have J22 : ∀ (a0 : Nat) (v1 : Int64) (v3 : Int64) (t0 : Int64) (t1 : Int64) (Mm1 : Mem), (jf_X12_init_j22 N a0 v1 v3 t0 t1).1 Mm1 = some (r, M') → ∀ (H : Heap) (locs : List Loc) (cells slots : Nat) (ls : Array Slot), jm_St g b M M' Mm1 s (jm_rm 2 69 M M') H locs cells slots → lv_has ls 7 [(0, va_rf (some a0)), (1, .long v1), (3, .long v3)] → W p l e (jm_rm 2 69 M M') s m args below meth c H locs cells slots (jm_MQ below g b none M M' args s) (F0 m 22 ls [.long t1, .long t0]) := by
    intro a0 v1 v3 t0 t1 Mm1 hf H locs cells slots ls hst hl
    unfold jf_X12_init_j22 at hf
    refine lv_lmul hx hb dX12_init_22 ?_
    refine lv_lstore (i := 5) (lv' := [(5, .long (t0 * t1)), (0, va_rf (some a0)), (1, .long v1), (3, .long v3)]) hx hb dX12_init_23 hl (by decide) rfl (fun ls hl => ?_)
    refine jw_aload_n (r := (some a0)) hx hb dX12_init_25 rfl (lv_at hl 1 rfl) ?_
    refine lv_lload_n hx hb dX12_init_26 rfl (lv_at hl 2 rfl) ?_
    refine lv_lload hx hb dX12_init_27 (lv_at hl 0 rfl) ?_
    obtain ⟨_, h2, hf⟩ := jm_rd_some hf
    refine lv_ldiv hx hb dX12_init_29 (jm_ck_some h2) ?_
    obtain ⟨F3, h4, hf⟩ := jm_wr_some hf
    refine jw_put (r := (some a0)) hx hb hts hown hK hst (fw_X12_15 hts hin) h4 rfl rfl dX12_init_30 (fun H locs hst => ?_)
    generalize ((Mm1.1, Mm1.2.1, F3) : Mem) = Mm5 at hf hst
    refine jw_aload_n (r := (some a0)) hx hb dX12_init_33 rfl (lv_at hl 1 rfl) ?_
    refine lv_lload_n hx hb dX12_init_34 rfl (lv_at hl 3 rfl) ?_
    refine lv_lload hx hb dX12_init_35 (lv_at hl 0 rfl) ?_
    obtain ⟨_, h6, hf⟩ := jm_rd_some hf
    refine lv_ldiv hx hb dX12_init_37 (jm_ck_some h6) ?_
    obtain ⟨F7, h8, hf⟩ := jm_wr_some hf
    refine jw_put (r := (some a0)) hx hb hts hown hK hst (fw_X12_21 hts hin) h8 rfl rfl dX12_init_38 (fun H locs hst => ?_)
    generalize ((Mm5.1, Mm5.2.1, F7) : Mem) = Mm9 at hf hst
    obtain ⟨-, rfl⟩ := jm_ret_some hf
    exact jw_vret C0 hst dX12_init_41
  unfold jf_X12_init at hf
  refine jw_aload_n (r := (some a0)) hx hb dX12_init_0 rfl (lv_at hl 0 rfl) ?_
  refine W.objInit hx hb hown (hts _ q836) (hts _ q99) (hts _ q100) rfl (by rw [hml]; exact hl.1) rfl dX12_init_1 (Nat.le_of_ble_eq_true rfl) (by rw [cs_n]; exact Nat.le_of_ble_eq_true rfl) ?_
  refine W.eq (g2 := F0 m 4 ls []) rfl ?_
  refine lv_lload_n hx hb dX12_init_4 rfl (lv_at hl 1 rfl) ?_
  refine lv_lload_n hx hb dX12_init_5 rfl (lv_at hl 2 rfl) ?_
  obtain ⟨x10, Mm11, h12, hf⟩ := jm_bd_some hf
  refine jw_SN (As := [.long v1, .long v3]) (rest := []) (jt_X0_common l g b N v1 v3 M Mm11 x10 h12) C0 hK hst (jm_mono h12) (jm_le_tr (jm_mono hf) jm_le_rf) nq837 q765 q72 q766 hd_X0_common.2 ⟨Nat.le_of_ble_eq_true rfl, Nat.le_of_ble_eq_true rfl⟩ rfl hl.1 rfl (by rw [cs_n]; exact Nat.le_of_ble_eq_true rfl) dX12_init_6 (fun H locs cells slots hst => ?_)
  refine W.eq (g2 := F0 m 9 ls [.long x10]) rfl ?_
  refine lv_lload_n hx hb dX12_init_9 rfl (lv_at hl 2 rfl) ?_
  refine lv_lconst (v := 0) hx hb dX12_init_10 (by decide) ?_
  refine W.lcmp hx hb dX12_init_11 ?_
  refine lv_if_ge (tgt := 21) hx hb dX12_init_12 (by decide) (fun hc => ?_) (fun hc => ?_)
  · replace hc := (lg_cmp_ge _ _).mp hc
    rw [if_pos hc] at hf
    refine lv_lconst (v := 1) hx hb dX12_init_21 (by decide) ?_
    exact J22 a0 v1 v3 x10 (1 : Int64) _ hf _ _ _ _ _ hst (lv_sub hl [0, 1, 2] rfl)
  · replace hc := fun q => hc ((lg_cmp_ge _ _).mpr q)
    rw [if_neg hc] at hf
    refine lv_ldc2 hx hb hown (hts _ q838) dX12_init_15 ?_
    refine lv_goto (tgt := 22) hx hb dX12_init_18 (by decide) ?_
    exact J22 a0 v1 v3 x10 (-1 : Int64) _ hf _ _ _ _ _ hst (lv_sub hl [0, 1, 2] rfl)
theorem fl_X12_21 {g : GD} {s : State} {args : Array Value} (hts : ∀ w ∈ lw_all, w.before args s = true) (hK : jm_KG g s) : ∀ q ∈ ([12] : List Nat), jm_FL s args RX12 21 q 1 := by
  intro q hq
  simp only [List.mem_cons, List.not_mem_nil, or_false] at hq
  subst hq
  exact ⟨RX12, TX12, 2, rfl, in_X12, by decide, "ChainParts$Fraction", Or.inl (hts _ q841), fun _ h => h⟩
theorem fl_X12_15 {g : GD} {s : State} {args : Array Value} (hts : ∀ w ∈ lw_all, w.before args s = true) (hK : jm_KG g s) : ∀ q ∈ ([12] : List Nat), jm_FL s args RX12 15 q 0 := by
  intro q hq
  simp only [List.mem_cons, List.not_mem_nil, or_false] at hq
  subst hq
  exact ⟨RX12, TX12, 2, rfl, in_X12, by decide, "ChainParts$Fraction", Or.inl (hts _ q839), fun _ h => h⟩
theorem hd_X12_init : yX12_init.cls = RX12 ∧ yX12_init.cls ≠ "java/lang/invoke/MethodHandle" ∧ yX12_init.cls ≠ "java/lang/invoke/VarHandle" ∧ (parseMethodDescriptor yX12_init.desc).map (fun d => d.parameters.length) = some 2 := by decide +kernel
def jf_X12_plus (N : Nat) (a0 : Nat) (v1 : Option Nat) : jm_P (Option Nat) :=
  jm_rd (jm_fJ [12] 1 (some a0)) fun x1 =>
  jm_rd (jm_fJ [12] 1 v1) fun x3 =>
  jm_bd (jf_X0_common N x1 x3) fun x5 =>
  jm_al (.inr (12, [.long 0, .long 0])) fun q8 =>
  jm_rd (jm_fJ [12] 0 (some a0)) fun x10 =>
  jm_rd (jm_fJ [12] 1 v1) fun x12 =>
  jm_rd (jm_ck (¬ x5 = 0)) fun _ =>
  jm_rd (jm_fJ [12] 0 v1) fun x15 =>
  jm_rd (jm_fJ [12] 1 (some a0)) fun x17 =>
  jm_rd (jm_ck (¬ x5 = 0)) fun _ =>
  jm_rd (jm_fJ [12] 1 (some a0)) fun x20 =>
  jm_rd (jm_ck (¬ x5 = 0)) fun _ =>
  jm_rd (jm_fJ [12] 1 v1) fun x23 =>
  jm_bd (jf_X12_init N q8 ((x10 * (x12 / x5)) + (x15 * (x17 / x5))) ((x20 / x5) * x23)) fun x25 =>
  jm_ret (some q8)
set_option maxHeartbeats 4000000 in
set_option maxRecDepth 100000 in
theorem jt_X12_plus (l : Launch) (g : GD) (b N : Nat) (a0 : Nat) (v1 : Option Nat) (M M' : Mem) (r : (Option Nat)) (hf : (jf_X12_plus N a0 v1).1 M = some (r, M')) : jm_Met l g b yX12_plus (ws_ yX12_plus cX12_plus 4 (some (.object "ChainParts$Fraction"))) 3 95 [va_rf (some a0), va_rf v1] M M' (some (va_rf r)) := by
  refine jm_start (by decide) (jm_mono hf) (by rw [lg_sl_r, lg_sl_r, lg_sl_n]; exact Nat.le_of_ble_eq_true rfl) ?_
  intro p e s m args below meth c ls C0 hin hK hst hl
  obtain ⟨hx, hb, hml, hown, hts, hr, hlk⟩ := id C0
  have hown : s.vm.findClass RX12 = some m.cls := hown
  have C0 : jm_Cx p s m args meth c cX12_plus 4 (some (.object "ChainParts$Fraction")) RX12 := C0
  rw [lv_args_r, lv_args_r, lv_args_n] at hl
  have hl : lv_has ls 4 [(0, va_rf (some a0)), (1, va_rf v1)] := hl
  unfold jf_X12_plus at hf
  refine jw_aload_n (r := (some a0)) hx hb dX12_plus_0 rfl (lv_at hl 0 rfl) ?_
  obtain ⟨x1, h2, hf⟩ := jm_rd_some hf
  refine jw_getJ hx hb hts hown hK hst (fl_X12_21 hts hK) h2 dX12_plus_1 ?_
  refine jw_aload_n (r := v1) hx hb dX12_plus_4 rfl (lv_at hl 1 rfl) ?_
  obtain ⟨x3, h4, hf⟩ := jm_rd_some hf
  refine jw_getJ hx hb hts hown hK hst (fl_X12_21 hts hK) h4 dX12_plus_5 ?_
  obtain ⟨x5, Mm6, h7, hf⟩ := jm_bd_some hf
  refine jw_SN (As := [.long x1, .long x3]) (rest := []) (jt_X0_common l g b N x1 x3 M Mm6 x5 h7) C0 hK hst (jm_mono h7) (jm_le_tr (jm_mono hf) jm_le_rf) nq837 q765 q72 q766 hd_X0_common.2 ⟨Nat.le_of_ble_eq_true rfl, Nat.le_of_ble_eq_true rfl⟩ rfl hl.1 rfl (by rw [cs_n]; exact Nat.le_of_ble_eq_true rfl) dX12_plus_8 (fun H locs cells slots hst => ?_)
  refine W.eq (g2 := F0 m 11 ls [.long x5]) rfl ?_
  refine lv_lstore_n (i := 2) (lv' := [(2, .long x5), (0, va_rf (some a0)), (1, va_rf v1)]) hx hb dX12_plus_11 rfl hl (by decide) (by simp [va_rf_cat, cat_i, cat_j, cat_f]) (fun ls hl => ?_)
  obtain ⟨q8, hq8, hf⟩ := jm_al_some hf
  refine jw_new (ci := 12) (C := RX12) (T := TX12) (N := 2) (fs := [.long 0, .long 0]) hx hb hts in_X12 tyX12 tyX12_ok hown (hts _ q857) (hts _ q832) (hts _ q92) hK hst rfl (fun j hj => by match j, hj with | 0, _ => rfl | 1, _ => rfl | k + 2, hj => omega) rfl (jm_le_tr (jm_mono hf) jm_le_rf) hq8 dX12_plus_12 (fun H cells slots hst => ?_)
  generalize jm_new (.inr (12, [.long 0, .long 0])) Mm6 = Mm9 at hf hst
  refine lv_dup hx hb dX12_plus_15 (va_rf_cat _) ?_
  refine jw_aload_n (r := (some a0)) hx hb dX12_plus_16 rfl (lv_at hl 1 rfl) ?_
  obtain ⟨x10, h11, hf⟩ := jm_rd_some hf
  refine jw_getJ hx hb hts hown hK hst (fl_X12_15 hts hK) h11 dX12_plus_17 ?_
  refine jw_aload_n (r := v1) hx hb dX12_plus_20 rfl (lv_at hl 2 rfl) ?_
  obtain ⟨x12, h13, hf⟩ := jm_rd_some hf
  refine jw_getJ hx hb hts hown hK hst (fl_X12_21 hts hK) h13 dX12_plus_21 ?_
  refine lv_lload_n hx hb dX12_plus_24 rfl (lv_at hl 0 rfl) ?_
  obtain ⟨_, h14, hf⟩ := jm_rd_some hf
  refine lv_ldiv hx hb dX12_plus_25 (jm_ck_some h14) ?_
  refine lv_lmul hx hb dX12_plus_26 ?_
  refine jw_aload_n (r := v1) hx hb dX12_plus_27 rfl (lv_at hl 2 rfl) ?_
  obtain ⟨x15, h16, hf⟩ := jm_rd_some hf
  refine jw_getJ hx hb hts hown hK hst (fl_X12_15 hts hK) h16 dX12_plus_28 ?_
  refine jw_aload_n (r := (some a0)) hx hb dX12_plus_31 rfl (lv_at hl 1 rfl) ?_
  obtain ⟨x17, h18, hf⟩ := jm_rd_some hf
  refine jw_getJ hx hb hts hown hK hst (fl_X12_21 hts hK) h18 dX12_plus_32 ?_
  refine lv_lload_n hx hb dX12_plus_35 rfl (lv_at hl 0 rfl) ?_
  obtain ⟨_, h19, hf⟩ := jm_rd_some hf
  refine lv_ldiv hx hb dX12_plus_36 (jm_ck_some h19) ?_
  refine lv_lmul hx hb dX12_plus_37 ?_
  refine lv_ladd hx hb dX12_plus_38 ?_
  refine jw_aload_n (r := (some a0)) hx hb dX12_plus_39 rfl (lv_at hl 1 rfl) ?_
  obtain ⟨x20, h21, hf⟩ := jm_rd_some hf
  refine jw_getJ hx hb hts hown hK hst (fl_X12_21 hts hK) h21 dX12_plus_40 ?_
  refine lv_lload_n hx hb dX12_plus_43 rfl (lv_at hl 0 rfl) ?_
  obtain ⟨_, h22, hf⟩ := jm_rd_some hf
  refine lv_ldiv hx hb dX12_plus_44 (jm_ck_some h22) ?_
  refine jw_aload_n (r := v1) hx hb dX12_plus_45 rfl (lv_at hl 2 rfl) ?_
  obtain ⟨x23, h24, hf⟩ := jm_rd_some hf
  refine jw_getJ hx hb hts hown hK hst (fl_X12_21 hts hK) h24 dX12_plus_46 ?_
  refine lv_lmul hx hb dX12_plus_49 ?_
  obtain ⟨x25, Mm26, h27, hf⟩ := jm_bd_some hf
  refine jw_I (As := [.long ((x10 * (x12 / x5)) + (x15 * (x17 / x5))), .long ((x20 / x5) * x23)]) (rest := [va_rf (some q8)]) (rv := (some q8)) (jt_X12_init l g b N q8 ((x10 * (x12 / x5)) + (x15 * (x17 / x5))) ((x20 / x5) * x23) Mm9 Mm26 x25 h27) C0 hK hst (jm_mono h27) (jm_le_tr (jm_mono hf) jm_le_rf) q858 q834 q92 q835 rfl hd_X12_init.2 ⟨Nat.le_of_ble_eq_true rfl, Nat.le_of_ble_eq_true rfl⟩ rfl rfl hl.1 rfl (by rw [cs_r, cs_n]; exact Nat.le_of_ble_eq_true rfl) dX12_plus_50 (fun H locs cells slots hst => ?_)
  refine W.eq (g2 := F0 m 53 ls [va_rf (some q8)]) rfl ?_
  obtain ⟨rfl, rfl⟩ := jm_ret_some hf
  exact jw_aret C0 (Or.inl ⟨_, rfl⟩) hst dX12_plus_53
theorem hd_X12_plus : yX12_plus.cls = RX12 ∧ yX12_plus.cls ≠ "java/lang/invoke/MethodHandle" ∧ yX12_plus.cls ≠ "java/lang/invoke/VarHandle" ∧ (parseMethodDescriptor yX12_plus.desc).map (fun d => d.parameters.length) = some 1 := by decide +kernel
def jf_X12_minus (N : Nat) (a0 : Nat) (v1 : Option Nat) : jm_P (Option Nat) :=
  jm_al (.inr (12, [.long 0, .long 0])) fun q1 =>
  jm_rd (jm_fJ [12] 0 v1) fun x3 =>
  jm_rd (jm_fJ [12] 1 v1) fun x5 =>
  jm_bd (jf_X12_init N q1 (-x3) x5) fun x7 =>
  jm_rd (jm_cl 12 (some a0)) fun a13 =>
  jm_bd (jf_X12_plus N a13 (some q1)) fun x10 =>
  jm_ret x10
set_option maxHeartbeats 4000000 in
set_option maxRecDepth 100000 in
theorem jt_X12_minus (l : Launch) (g : GD) (b N : Nat) (a0 : Nat) (v1 : Option Nat) (M M' : Mem) (r : (Option Nat)) (hf : (jf_X12_minus N a0 v1).1 M = some (r, M')) : jm_Met l g b yX12_minus (ws_ yX12_minus cX12_minus 2 (some (.object "ChainParts$Fraction"))) 4 118 [va_rf (some a0), va_rf v1] M M' (some (va_rf r)) := by
  refine jm_start (by decide) (jm_mono hf) (by rw [lg_sl_r, lg_sl_r, lg_sl_n]; exact Nat.le_of_ble_eq_true rfl) ?_
  intro p e s m args below meth c ls C0 hin hK hst hl
  obtain ⟨hx, hb, hml, hown, hts, hr, hlk⟩ := id C0
  have hown : s.vm.findClass RX12 = some m.cls := hown
  have C0 : jm_Cx p s m args meth c cX12_minus 2 (some (.object "ChainParts$Fraction")) RX12 := C0
  rw [lv_args_r, lv_args_r, lv_args_n] at hl
  have hl : lv_has ls 2 [(0, va_rf (some a0)), (1, va_rf v1)] := hl
  unfold jf_X12_minus at hf
  refine jw_aload_n (r := (some a0)) hx hb dX12_minus_0 rfl (lv_at hl 0 rfl) ?_
  obtain ⟨q1, hq1, hf⟩ := jm_al_some hf
  refine jw_new (ci := 12) (C := RX12) (T := TX12) (N := 2) (fs := [.long 0, .long 0]) hx hb hts in_X12 tyX12 tyX12_ok hown (hts _ q857) (hts _ q832) (hts _ q92) hK hst rfl (fun j hj => by match j, hj with | 0, _ => rfl | 1, _ => rfl | k + 2, hj => omega) rfl (jm_le_tr (jm_mono hf) jm_le_rf) hq1 dX12_minus_1 (fun H cells slots hst => ?_)
  generalize jm_new (.inr (12, [.long 0, .long 0])) M = Mm2 at hf hst
  refine lv_dup hx hb dX12_minus_4 (va_rf_cat _) ?_
  refine jw_aload_n (r := v1) hx hb dX12_minus_5 rfl (lv_at hl 1 rfl) ?_
  obtain ⟨x3, h4, hf⟩ := jm_rd_some hf
  refine jw_getJ hx hb hts hown hK hst (fl_X12_15 hts hK) h4 dX12_minus_6 ?_
  refine lv_lneg hx hb dX12_minus_9 ?_
  refine jw_aload_n (r := v1) hx hb dX12_minus_10 rfl (lv_at hl 1 rfl) ?_
  obtain ⟨x5, h6, hf⟩ := jm_rd_some hf
  refine jw_getJ hx hb hts hown hK hst (fl_X12_21 hts hK) h6 dX12_minus_11 ?_
  obtain ⟨x7, Mm8, h9, hf⟩ := jm_bd_some hf
  refine jw_I (As := [.long (-x3), .long x5]) (rest := [va_rf (some q1), va_rf (some a0)]) (rv := (some q1)) (jt_X12_init l g b N q1 (-x3) x5 Mm2 Mm8 x7 h9) C0 hK hst (jm_mono h9) (jm_le_tr (jm_mono hf) jm_le_rf) q858 q834 q92 q835 rfl hd_X12_init.2 ⟨Nat.le_of_ble_eq_true rfl, Nat.le_of_ble_eq_true rfl⟩ rfl rfl hl.1 rfl (by rw [cs_r, cs_r, cs_n]; exact Nat.le_of_ble_eq_true rfl) dX12_minus_14 (fun H locs cells slots hst => ?_)
  refine W.eq (g2 := F0 m 17 ls [va_rf (some q1), va_rf (some a0)]) rfl ?_
  obtain ⟨a13, h14, hf⟩ := jm_rd_some hf
  obtain ⟨fsa13, hea13, hr15⟩ := jm_cl_some h14
  obtain ⟨x10, Mm11, h12, hf⟩ := jm_bd_some hf
  refine jw_V (As := [va_rf (some q1)]) (rest := []) (C := RX12) (T := TX12) (N := 2) (rv := (some a0)) (jt_X12_plus l g b N a13 (some q1) Mm8 Mm11 x10 h12) C0 hK hst (jm_mono h12) (jm_le_tr (jm_mono hf) jm_le_rf) q859 q860 q861 q92 q862 hd_X12_plus ⟨Nat.le_of_ble_eq_true rfl, Nat.le_of_ble_eq_true rfl⟩ hea13 hr15 rfl rfl hl.1 rfl (by rw [cs_n]; exact Nat.le_of_ble_eq_true rfl) dX12_minus_17 (fun H locs cells slots hst => ?_)
  refine W.eq (g2 := F0 m 20 ls [va_rf x10]) rfl ?_
  obtain ⟨rfl, rfl⟩ := jm_ret_some hf
  exact jw_aret C0 (Or.inl ⟨_, rfl⟩) hst dX12_minus_20
def jf_X12_told (N : Nat) (a0 : Nat) (v1 : Int32) : jm_P Int64 :=
  if v1 = 0 then (
    jm_rd (jm_fJ [12] 0 (some a0)) fun x3 =>
    jm_ret x3)
  else
    jm_rd (jm_fJ [12] 1 (some a0)) fun x1 =>
    jm_ret x1
set_option maxHeartbeats 4000000 in
set_option maxRecDepth 100000 in
theorem jt_X12_told (l : Launch) (g : GD) (b N : Nat) (a0 : Nat) (v1 : Int32) (M M' : Mem) (r : Int64) (hf : (jf_X12_told N a0 v1).1 M = some (r, M')) : jm_Met l g b yX12_told (ws_ yX12_told cX12_told 2 (some .long)) 0 0 [va_rf (some a0), .int v1] M M' (some (.long r)) := by
  refine jm_start (by decide) (jm_mono hf) (by rw [lg_sl_r, lg_sl_i, lg_sl_n]; exact Nat.le_of_ble_eq_true rfl) ?_
  intro p e s m args below meth c ls C0 hin hK hst hl
  obtain ⟨hx, hb, hml, hown, hts, hr, hlk⟩ := id C0
  have hown : s.vm.findClass RX12 = some m.cls := hown
  have C0 : jm_Cx p s m args meth c cX12_told 2 (some .long) RX12 := C0
  rw [lv_args_r, lv_args_i, lv_args_n] at hl
  have hl : lv_has ls 2 [(0, va_rf (some a0)), (1, .int v1)] := hl
  unfold jf_X12_told at hf
  refine lv_iload_n hx hb dX12_told_0 rfl (lv_at hl 1 rfl) ?_
  refine lv_if_ne (tgt := 11) hx hb dX12_told_1 (by decide) (fun hc => ?_) (fun hc => ?_)
  · rw [if_neg hc] at hf
    refine jw_aload_n (r := (some a0)) hx hb dX12_told_11 rfl (lv_at hl 0 rfl) ?_
    obtain ⟨x1, h2, hf⟩ := jm_rd_some hf
    refine jw_getJ hx hb hts hown hK hst (fl_X12_21 hts hK) h2 dX12_told_12 ?_
    obtain ⟨rfl, rfl⟩ := jm_ret_some hf
    exact jw_lret C0 hst dX12_told_15
  · rw [if_pos hc] at hf
    refine jw_aload_n (r := (some a0)) hx hb dX12_told_4 rfl (lv_at hl 0 rfl) ?_
    obtain ⟨x3, h4, hf⟩ := jm_rd_some hf
    refine jw_getJ hx hb hts hown hK hst (fl_X12_15 hts hK) h4 dX12_told_5 ?_
    refine lv_goto (tgt := 15) hx hb dX12_told_8 (by decide) ?_
    obtain ⟨rfl, rfl⟩ := jm_ret_some hf
    exact jw_lret C0 hst dX12_told_15
def jf_X12_by (N : Nat) (a0 : Nat) (v1 : Option Nat) : jm_P (Option Nat) :=
  jm_rd (jm_fJ [12] 0 (some a0)) fun x1 =>
  jm_rd (jm_fJ [12] 0 v1) fun x3 =>
  jm_bd (jf_X0_common N x1 x3) fun x5 =>
  jm_rd (jm_fJ [12] 1 (some a0)) fun x8 =>
  jm_rd (jm_fJ [12] 1 v1) fun x10 =>
  jm_bd (jf_X0_common N x8 x10) fun x12 =>
  if x5 = (0 : Int64) then (
    jm_al (.inr (12, [.long 0, .long 0])) fun q32 =>
    jm_bd (jf_X12_init N q32 (0 : Int64) (1 : Int64)) fun x34 =>
    jm_ret (some q32))
  else
    jm_al (.inr (12, [.long 0, .long 0])) fun q15 =>
    jm_rd (jm_fJ [12] 0 (some a0)) fun x17 =>
    jm_rd (jm_ck (¬ x5 = 0)) fun _ =>
    jm_rd (jm_fJ [12] 1 v1) fun x20 =>
    jm_rd (jm_ck (¬ x12 = 0)) fun _ =>
    jm_rd (jm_fJ [12] 1 (some a0)) fun x23 =>
    jm_rd (jm_ck (¬ x12 = 0)) fun _ =>
    jm_rd (jm_fJ [12] 0 v1) fun x26 =>
    jm_rd (jm_ck (¬ x5 = 0)) fun _ =>
    jm_bd (jf_X12_init N q15 ((x17 / x5) * (x20 / x12)) ((x23 / x12) * (x26 / x5))) fun x29 =>
    jm_ret (some q15)
set_option maxHeartbeats 4000000 in
set_option maxRecDepth 100000 in
theorem jt_X12_by (l : Launch) (g : GD) (b N : Nat) (a0 : Nat) (v1 : Option Nat) (M M' : Mem) (r : (Option Nat)) (hf : (jf_X12_by N a0 v1).1 M = some (r, M')) : jm_Met l g b yX12_by (ws_ yX12_by cX12_by 6 (some (.object "ChainParts$Fraction"))) 3 95 [va_rf (some a0), va_rf v1] M M' (some (va_rf r)) := by
  refine jm_start (by decide) (jm_mono hf) (by rw [lg_sl_r, lg_sl_r, lg_sl_n]; exact Nat.le_of_ble_eq_true rfl) ?_
  intro p e s m args below meth c ls C0 hin hK hst hl
  obtain ⟨hx, hb, hml, hown, hts, hr, hlk⟩ := id C0
  have hown : s.vm.findClass RX12 = some m.cls := hown
  have C0 : jm_Cx p s m args meth c cX12_by 6 (some (.object "ChainParts$Fraction")) RX12 := C0
  rw [lv_args_r, lv_args_r, lv_args_n] at hl
  have hl : lv_has ls 6 [(0, va_rf (some a0)), (1, va_rf v1)] := hl
  unfold jf_X12_by at hf
  refine jw_aload_n (r := (some a0)) hx hb dX12_by_0 rfl (lv_at hl 0 rfl) ?_
  obtain ⟨x1, h2, hf⟩ := jm_rd_some hf
  refine jw_getJ hx hb hts hown hK hst (fl_X12_15 hts hK) h2 dX12_by_1 ?_
  refine jw_aload_n (r := v1) hx hb dX12_by_4 rfl (lv_at hl 1 rfl) ?_
  obtain ⟨x3, h4, hf⟩ := jm_rd_some hf
  refine jw_getJ hx hb hts hown hK hst (fl_X12_15 hts hK) h4 dX12_by_5 ?_
  obtain ⟨x5, Mm6, h7, hf⟩ := jm_bd_some hf
  refine jw_SN (As := [.long x1, .long x3]) (rest := []) (jt_X0_common l g b N x1 x3 M Mm6 x5 h7) C0 hK hst (jm_mono h7) (jm_le_tr (jm_mono hf) jm_le_rf) nq837 q765 q72 q766 hd_X0_common.2 ⟨Nat.le_of_ble_eq_true rfl, Nat.le_of_ble_eq_true rfl⟩ rfl hl.1 rfl (by rw [cs_n]; exact Nat.le_of_ble_eq_true rfl) dX12_by_8 (fun H locs cells slots hst => ?_)
  refine W.eq (g2 := F0 m 11 ls [.long x5]) rfl ?_
  refine lv_lstore_n (i := 2) (lv' := [(2, .long x5), (0, va_rf (some a0)), (1, va_rf v1)]) hx hb dX12_by_11 rfl hl (by decide) (by simp [va_rf_cat, cat_i, cat_j, cat_f]) (fun ls hl => ?_)
  refine jw_aload_n (r := (some a0)) hx hb dX12_by_12 rfl (lv_at hl 1 rfl) ?_
  obtain ⟨x8, h9, hf⟩ := jm_rd_some hf
  refine jw_getJ hx hb hts hown hK hst (fl_X12_21 hts hK) h9 dX12_by_13 ?_
  refine jw_aload_n (r := v1) hx hb dX12_by_16 rfl (lv_at hl 2 rfl) ?_
  obtain ⟨x10, h11, hf⟩ := jm_rd_some hf
  refine jw_getJ hx hb hts hown hK hst (fl_X12_21 hts hK) h11 dX12_by_17 ?_
  obtain ⟨x12, Mm13, h14, hf⟩ := jm_bd_some hf
  refine jw_SN (As := [.long x8, .long x10]) (rest := []) (jt_X0_common l g b N x8 x10 Mm6 Mm13 x12 h14) C0 hK hst (jm_mono h14) (jm_le_tr (jm_mono hf) jm_le_rf) nq837 q765 q72 q766 hd_X0_common.2 ⟨Nat.le_of_ble_eq_true rfl, Nat.le_of_ble_eq_true rfl⟩ rfl hl.1 rfl (by rw [cs_n]; exact Nat.le_of_ble_eq_true rfl) dX12_by_20 (fun H locs cells slots hst => ?_)
  refine W.eq (g2 := F0 m 23 ls [.long x12]) rfl ?_
  refine lv_lstore (i := 4) (lv' := [(4, .long x12), (2, .long x5), (0, va_rf (some a0)), (1, va_rf v1)]) hx hb dX12_by_23 hl (by decide) rfl (fun ls hl => ?_)
  refine lv_lload_n hx hb dX12_by_25 rfl (lv_at hl 1 rfl) ?_
  refine lv_lconst (v := 0) hx hb dX12_by_26 (by decide) ?_
  refine W.lcmp hx hb dX12_by_27 ?_
  refine lv_if_ne (tgt := 43) hx hb dX12_by_28 (by decide) (fun hc => ?_) (fun hc => ?_)
  · replace hc := fun q => hc ((lg_cmp_eq _ _).mpr q)
    rw [if_neg hc] at hf
    obtain ⟨q15, hq15, hf⟩ := jm_al_some hf
    refine jw_new (ci := 12) (C := RX12) (T := TX12) (N := 2) (fs := [.long 0, .long 0]) hx hb hts in_X12 tyX12 tyX12_ok hown (hts _ q857) (hts _ q832) (hts _ q92) hK hst rfl (fun j hj => by match j, hj with | 0, _ => rfl | 1, _ => rfl | k + 2, hj => omega) rfl (jm_le_tr (jm_mono hf) jm_le_rf) hq15 dX12_by_43 (fun H cells slots hst => ?_)
    generalize jm_new (.inr (12, [.long 0, .long 0])) Mm13 = Mm16 at hf hst
    refine lv_dup hx hb dX12_by_46 (va_rf_cat _) ?_
    refine jw_aload_n (r := (some a0)) hx hb dX12_by_47 rfl (lv_at hl 2 rfl) ?_
    obtain ⟨x17, h18, hf⟩ := jm_rd_some hf
    refine jw_getJ hx hb hts hown hK hst (fl_X12_15 hts hK) h18 dX12_by_48 ?_
    refine lv_lload_n hx hb dX12_by_51 rfl (lv_at hl 1 rfl) ?_
    obtain ⟨_, h19, hf⟩ := jm_rd_some hf
    refine lv_ldiv hx hb dX12_by_52 (jm_ck_some h19) ?_
    refine jw_aload_n (r := v1) hx hb dX12_by_53 rfl (lv_at hl 3 rfl) ?_
    obtain ⟨x20, h21, hf⟩ := jm_rd_some hf
    refine jw_getJ hx hb hts hown hK hst (fl_X12_21 hts hK) h21 dX12_by_54 ?_
    refine lv_lload hx hb dX12_by_57 (lv_at hl 0 rfl) ?_
    obtain ⟨_, h22, hf⟩ := jm_rd_some hf
    refine lv_ldiv hx hb dX12_by_59 (jm_ck_some h22) ?_
    refine lv_lmul hx hb dX12_by_60 ?_
    refine jw_aload_n (r := (some a0)) hx hb dX12_by_61 rfl (lv_at hl 2 rfl) ?_
    obtain ⟨x23, h24, hf⟩ := jm_rd_some hf
    refine jw_getJ hx hb hts hown hK hst (fl_X12_21 hts hK) h24 dX12_by_62 ?_
    refine lv_lload hx hb dX12_by_65 (lv_at hl 0 rfl) ?_
    obtain ⟨_, h25, hf⟩ := jm_rd_some hf
    refine lv_ldiv hx hb dX12_by_67 (jm_ck_some h25) ?_
    refine jw_aload_n (r := v1) hx hb dX12_by_68 rfl (lv_at hl 3 rfl) ?_
    obtain ⟨x26, h27, hf⟩ := jm_rd_some hf
    refine jw_getJ hx hb hts hown hK hst (fl_X12_15 hts hK) h27 dX12_by_69 ?_
    refine lv_lload_n hx hb dX12_by_72 rfl (lv_at hl 1 rfl) ?_
    obtain ⟨_, h28, hf⟩ := jm_rd_some hf
    refine lv_ldiv hx hb dX12_by_73 (jm_ck_some h28) ?_
    refine lv_lmul hx hb dX12_by_74 ?_
    obtain ⟨x29, Mm30, h31, hf⟩ := jm_bd_some hf
    refine jw_I (As := [.long ((x17 / x5) * (x20 / x12)), .long ((x23 / x12) * (x26 / x5))]) (rest := [va_rf (some q15)]) (rv := (some q15)) (jt_X12_init l g b N q15 ((x17 / x5) * (x20 / x12)) ((x23 / x12) * (x26 / x5)) Mm16 Mm30 x29 h31) C0 hK hst (jm_mono h31) (jm_le_tr (jm_mono hf) jm_le_rf) q858 q834 q92 q835 rfl hd_X12_init.2 ⟨Nat.le_of_ble_eq_true rfl, Nat.le_of_ble_eq_true rfl⟩ rfl rfl hl.1 rfl (by rw [cs_r, cs_n]; exact Nat.le_of_ble_eq_true rfl) dX12_by_75 (fun H locs cells slots hst => ?_)
    refine W.eq (g2 := F0 m 78 ls [va_rf (some q15)]) rfl ?_
    obtain ⟨rfl, rfl⟩ := jm_ret_some hf
    exact jw_aret C0 (Or.inl ⟨_, rfl⟩) hst dX12_by_78
  · replace hc := (lg_cmp_eq _ _).mp hc
    rw [if_pos hc] at hf
    obtain ⟨q32, hq32, hf⟩ := jm_al_some hf
    refine jw_new (ci := 12) (C := RX12) (T := TX12) (N := 2) (fs := [.long 0, .long 0]) hx hb hts in_X12 tyX12 tyX12_ok hown (hts _ q857) (hts _ q832) (hts _ q92) hK hst rfl (fun j hj => by match j, hj with | 0, _ => rfl | 1, _ => rfl | k + 2, hj => omega) rfl (jm_le_tr (jm_mono hf) jm_le_rf) hq32 dX12_by_31 (fun H cells slots hst => ?_)
    generalize jm_new (.inr (12, [.long 0, .long 0])) Mm13 = Mm33 at hf hst
    refine lv_dup hx hb dX12_by_34 (va_rf_cat _) ?_
    refine lv_lconst (v := 0) hx hb dX12_by_35 (by decide) ?_
    refine lv_lconst (v := 1) hx hb dX12_by_36 (by decide) ?_
    obtain ⟨x34, Mm35, h36, hf⟩ := jm_bd_some hf
    refine jw_I (As := [.long (0 : Int64), .long (1 : Int64)]) (rest := [va_rf (some q32)]) (rv := (some q32)) (jt_X12_init l g b N q32 (0 : Int64) (1 : Int64) Mm33 Mm35 x34 h36) C0 hK hst (jm_mono h36) (jm_le_tr (jm_mono hf) jm_le_rf) q858 q834 q92 q835 rfl hd_X12_init.2 ⟨Nat.le_of_ble_eq_true rfl, Nat.le_of_ble_eq_true rfl⟩ rfl rfl hl.1 rfl (by rw [cs_r, cs_n]; exact Nat.le_of_ble_eq_true rfl) dX12_by_37 (fun H locs cells slots hst => ?_)
    refine W.eq (g2 := F0 m 40 ls [va_rf (some q32)]) rfl ?_
    refine lv_goto (tgt := 78) hx hb dX12_by_40 (by decide) ?_
    obtain ⟨rfl, rfl⟩ := jm_ret_some hf
    exact jw_aret C0 (Or.inl ⟨_, rfl⟩) hst dX12_by_78
def jf_X12_thousandths (N : Nat) (a0 : Nat) : jm_P Int32 :=
  jm_rd (jm_fJ [12] 0 (some a0)) fun x1 =>
  jm_rd (jm_fJ [12] 1 (some a0)) fun x3 =>
  jm_rd (jm_ck ((FP.fdiv (FP.l2f x1) (FP.l2f x3)) &&& 0x7fffffff ≤ 0x7f800000)) fun _ =>
  jm_rd (jm_ck ((FP.fmul (FP.fdiv (FP.l2f x1) (FP.l2f x3)) (1148846080 : UInt32)) &&& 0x7fffffff ≤ 0x7f800000)) fun _ =>
  jm_lt (FP.f2i (FP.fmul (FP.fdiv (FP.l2f x1) (FP.l2f x3)) (1148846080 : UInt32))) fun x7 =>
  jm_ret x7
set_option maxHeartbeats 4000000 in
set_option maxRecDepth 100000 in
theorem jt_X12_thousandths (l : Launch) (g : GD) (b N : Nat) (a0 : Nat) (M M' : Mem) (r : Int32) (hf : (jf_X12_thousandths N a0).1 M = some (r, M')) : jm_Met l g b yX12_thousandths (ws_ yX12_thousandths cX12_thousandths 1 (some .int)) 0 0 [va_rf (some a0)] M M' (some (.int r)) := by
  refine jm_start (by decide) (jm_mono hf) (by rw [lg_sl_r, lg_sl_n]; exact Nat.le_of_ble_eq_true rfl) ?_
  intro p e s m args below meth c ls C0 hin hK hst hl
  obtain ⟨hx, hb, hml, hown, hts, hr, hlk⟩ := id C0
  have hown : s.vm.findClass RX12 = some m.cls := hown
  have C0 : jm_Cx p s m args meth c cX12_thousandths 1 (some .int) RX12 := C0
  rw [lv_args_r, lv_args_n] at hl
  have hl : lv_has ls 1 [(0, va_rf (some a0))] := hl
  unfold jf_X12_thousandths at hf
  refine jw_aload_n (r := (some a0)) hx hb dX12_thousandths_0 rfl (lv_at hl 0 rfl) ?_
  obtain ⟨x1, h2, hf⟩ := jm_rd_some hf
  refine jw_getJ hx hb hts hown hK hst (fl_X12_15 hts hK) h2 dX12_thousandths_1 ?_
  refine lv_l2f hx hb dX12_thousandths_4 ?_
  refine jw_aload_n (r := (some a0)) hx hb dX12_thousandths_5 rfl (lv_at hl 0 rfl) ?_
  obtain ⟨x3, h4, hf⟩ := jm_rd_some hf
  refine jw_getJ hx hb hts hown hK hst (fl_X12_21 hts hK) h4 dX12_thousandths_6 ?_
  refine lv_l2f hx hb dX12_thousandths_9 ?_
  obtain ⟨_, h5, hf⟩ := jm_rd_some hf
  have h5 := jm_ck_some h5
  refine lv_fdiv hx hb dX12_thousandths_10 h5 ?_
  refine lv_ldcf hx hb hown (hts _ q889) dX12_thousandths_11 ?_
  obtain ⟨_, h6, hf⟩ := jm_rd_some hf
  have h6 := jm_ck_some h6
  refine lv_fmul hx hb dX12_thousandths_13 h6 ?_
  refine lv_f2i hx hb dX12_thousandths_14 ?_
  obtain ⟨x7, ex7, hf⟩ := jm_lt_some hf
  rw [← ex7]
  obtain ⟨rfl, rfl⟩ := jm_ret_some hf
  exact jw_iret C0 hst dX12_thousandths_15
def jf_X10_init (N : Nat) (a0 : Nat) : jm_P Unit :=
  jm_bd (jf_X4_init N a0 ) fun x1 =>
  jm_ret ()
set_option maxHeartbeats 4000000 in
set_option maxRecDepth 100000 in
theorem jt_X10_init (l : Launch) (g : GD) (b N : Nat) (a0 : Nat) (M M' : Mem) (r : Unit) (hf : (jf_X10_init N a0).1 M = some (r, M')) : jm_Met l g b yX10_init (ws_ yX10_init cX10_init 1 none) 2 40 [va_rf (some a0)] M M' none := by
  refine jm_start (by decide) (jm_mono hf) (by rw [lg_sl_r, lg_sl_n]; exact Nat.le_of_ble_eq_true rfl) ?_
  intro p e s m args below meth c ls C0 hin hK hst hl
  obtain ⟨hx, hb, hml, hown, hts, hr, hlk⟩ := id C0
  have hown : s.vm.findClass RX10 = some m.cls := hown
  have C0 : jm_Cx p s m args meth c cX10_init 1 none RX10 := C0
  rw [lv_args_r, lv_args_n] at hl
  have hl : lv_has ls 1 [(0, va_rf (some a0))] := hl
  unfold jf_X10_init at hf
  refine jw_aload_n (r := (some a0)) hx hb dX10_init_0 rfl (lv_at hl 0 rfl) ?_
  obtain ⟨x1, Mm2, h3, hf⟩ := jm_bd_some hf
  refine jw_IN (As := []) (rest := []) (rv := (some a0)) (jt_X4_init l g b N a0  M Mm2 x1 h3) C0 hK hst (jm_mono h3) (jm_le_tr (jm_mono hf) jm_le_rf) nq604 q276 q78 q277 rfl hd_X4_init.2 ⟨Nat.le_of_ble_eq_true rfl, Nat.le_of_ble_eq_true rfl⟩ rfl rfl hl.1 rfl (by rw [cs_n]; exact Nat.le_of_ble_eq_true rfl) dX10_init_1 (fun H locs cells slots hst => ?_)
  refine W.eq (g2 := F0 m 4 ls []) rfl ?_
  obtain ⟨-, rfl⟩ := jm_ret_some hf
  exact jw_vret C0 hst dX10_init_4
theorem fw_X2_9 {s : State} {args : Array Value} {meth : Method} (hts : ∀ w ∈ lw_all, w.before args s = true) (hin : meth.name = "<init>") : ∀ q ∈ ([2] : List Nat), jm_FW s args meth RX2 9 q 0 (.array .byte) := by
  intro q hq
  simp only [List.mem_cons, List.not_mem_nil, or_false] at hq
  subst hq
  exact ⟨RX2, TX2, 3, rfl, in_X2, by decide, ⟨tyX2, tyX2_ok⟩, nmX2, tyX2_ok 0 (by decide), "ChainParts$Reader", hts _ q147, fun _ h => h, Or.inr ⟨rfl, hin, rfl⟩⟩
theorem fw_X2_15 {s : State} {args : Array Value} {meth : Method} (hts : ∀ w ∈ lw_all, w.before args s = true) (hin : meth.name = "<init>") : ∀ q ∈ ([2] : List Nat), jm_FW s args meth RX2 15 q 1 .int := by
  intro q hq
  simp only [List.mem_cons, List.not_mem_nil, or_false] at hq
  subst hq
  exact ⟨RX2, TX2, 3, rfl, in_X2, by decide, ⟨tyX2, tyX2_ok⟩, nmX2, tyX2_ok 1 (by decide), "ChainParts$Reader", hts _ q148, fun _ h => h, Or.inr ⟨rfl, hin, rfl⟩⟩
def jf_X2_init (N : Nat) (a0 : Nat) (v1 : Option Nat) (v2 : Int32) : jm_P Unit :=
  jm_wr (jm_put [2] 0 (va_rf v1) (some a0)) <|
  jm_wr (jm_put [2] 1 (.int v2) (some a0)) <|
  jm_ret ()
set_option maxHeartbeats 4000000 in
set_option maxRecDepth 100000 in
theorem jt_X2_init (l : Launch) (g : GD) (b N : Nat) (a0 : Nat) (v1 : Option Nat) (v2 : Int32) (M M' : Mem) (r : Unit) (hf : (jf_X2_init N a0 v1 v2).1 M = some (r, M')) : jm_Met l g b yX2_init (ws_ yX2_init cX2_init 3 none) 1 20 [va_rf (some a0), va_rf v1, .int v2] M M' none := by
  refine jm_start (by decide) (jm_mono hf) (by rw [lg_sl_r, lg_sl_r, lg_sl_i, lg_sl_n]; exact Nat.le_of_ble_eq_true rfl) ?_
  intro p e s m args below meth c ls C0 hin hK hst hl
  obtain ⟨hx, hb, hml, hown, hts, hr, hlk⟩ := id C0
  have hown : s.vm.findClass RX2 = some m.cls := hown
  have C0 : jm_Cx p s m args meth c cX2_init 3 none RX2 := C0
  rw [lv_args_r, lv_args_r, lv_args_i, lv_args_n] at hl
  have hl : lv_has ls 3 [(0, va_rf (some a0)), (1, va_rf v1), (2, .int v2)] := hl
  unfold jf_X2_init at hf
  refine jw_aload_n (r := (some a0)) hx hb dX2_init_0 rfl (lv_at hl 0 rfl) ?_
  refine W.objInit hx hb hown (hts _ q146) (hts _ q99) (hts _ q100) rfl (by rw [hml]; exact hl.1) rfl dX2_init_1 (Nat.le_of_ble_eq_true rfl) (by rw [cs_n]; exact Nat.le_of_ble_eq_true rfl) ?_
  refine W.eq (g2 := F0 m 4 ls []) rfl ?_
  refine jw_aload_n (r := (some a0)) hx hb dX2_init_4 rfl (lv_at hl 0 rfl) ?_
  refine jw_aload_n (r := v1) hx hb dX2_init_5 rfl (lv_at hl 1 rfl) ?_
  obtain ⟨F1, h2, hf⟩ := jm_wr_some hf
  refine jw_put (r := (some a0)) hx hb hts hown hK hst (fw_X2_9 hts hin) h2 (va_nar_a _) (va_fits_a _) dX2_init_6 (fun H locs hst => ?_)
  generalize ((M.1, M.2.1, F1) : Mem) = Mm3 at hf hst
  refine jw_aload_n (r := (some a0)) hx hb dX2_init_9 rfl (lv_at hl 0 rfl) ?_
  refine lv_iload_n hx hb dX2_init_10 rfl (lv_at hl 2 rfl) ?_
  obtain ⟨F4, h5, hf⟩ := jm_wr_some hf
  refine jw_put (r := (some a0)) hx hb hts hown hK hst (fw_X2_15 hts hin) h5 rfl rfl dX2_init_11 (fun H locs hst => ?_)
  generalize ((Mm3.1, Mm3.2.1, F4) : Mem) = Mm6 at hf hst
  obtain ⟨-, rfl⟩ := jm_ret_some hf
  exact jw_vret C0 hst dX2_init_14
theorem fl_X2_19 {g : GD} {s : State} {args : Array Value} (hts : ∀ w ∈ lw_all, w.before args s = true) (hK : jm_KG g s) : ∀ q ∈ ([2] : List Nat), jm_FL s args RX2 19 q 2 := by
  intro q hq
  simp only [List.mem_cons, List.not_mem_nil, or_false] at hq
  subst hq
  exact ⟨RX2, TX2, 3, rfl, in_X2, by decide, "ChainParts$Reader", Or.inl (hts _ q149), fun _ h => h⟩
theorem fl_X2_15 {g : GD} {s : State} {args : Array Value} (hts : ∀ w ∈ lw_all, w.before args s = true) (hK : jm_KG g s) : ∀ q ∈ ([2] : List Nat), jm_FL s args RX2 15 q 1 := by
  intro q hq
  simp only [List.mem_cons, List.not_mem_nil, or_false] at hq
  subst hq
  exact ⟨RX2, TX2, 3, rfl, in_X2, by decide, "ChainParts$Reader", Or.inl (hts _ q148), fun _ h => h⟩
theorem fl_X2_9 {g : GD} {s : State} {args : Array Value} (hts : ∀ w ∈ lw_all, w.before args s = true) (hK : jm_KG g s) : ∀ q ∈ ([2] : List Nat), jm_FL s args RX2 9 q 0 := by
  intro q hq
  simp only [List.mem_cons, List.not_mem_nil, or_false] at hq
  subst hq
  exact ⟨RX2, TX2, 3, rfl, in_X2, by decide, "ChainParts$Reader", Or.inl (hts _ q147), fun _ h => h⟩
def jf_X2_look (N : Nat) (a0 : Nat) : jm_P Int32 :=
  jm_rd (jm_fI [2] 2 (some a0)) fun x1 =>
  jm_rd (jm_fI [2] 1 (some a0)) fun x3 =>
  if x3 ≤ x1 then (
    jm_ret (-1000000 : Int32))
  else
    jm_rd (jm_fR [2] 0 (some a0)) fun x5 =>
    jm_rd (jm_fI [2] 2 (some a0)) fun x7 =>
    jm_rd (jm_ldI 1 x5 x7) fun x9 =>
    jm_ret (x9 &&& (255 : Int32))
set_option maxHeartbeats 4000000 in
set_option maxRecDepth 100000 in
theorem jt_X2_look (l : Launch) (g : GD) (b N : Nat) (a0 : Nat) (M M' : Mem) (r : Int32) (hf : (jf_X2_look N a0).1 M = some (r, M')) : jm_Met l g b yX2_look (ws_ yX2_look cX2_look 1 (some .int)) 0 0 [va_rf (some a0)] M M' (some (.int r)) := by
  refine jm_start (by decide) (jm_mono hf) (by rw [lg_sl_r, lg_sl_n]; exact Nat.le_of_ble_eq_true rfl) ?_
  intro p e s m args below meth c ls C0 hin hK hst hl
  obtain ⟨hx, hb, hml, hown, hts, hr, hlk⟩ := id C0
  have hown : s.vm.findClass RX2 = some m.cls := hown
  have C0 : jm_Cx p s m args meth c cX2_look 1 (some .int) RX2 := C0
  rw [lv_args_r, lv_args_n] at hl
  have hl : lv_has ls 1 [(0, va_rf (some a0))] := hl
  unfold jf_X2_look at hf
  refine jw_aload_n (r := (some a0)) hx hb dX2_look_0 rfl (lv_at hl 0 rfl) ?_
  obtain ⟨x1, h2, hf⟩ := jm_rd_some hf
  refine jw_getI hx hb hts hown hK hst (fl_X2_19 hts hK) h2 dX2_look_1 ?_
  refine jw_aload_n (r := (some a0)) hx hb dX2_look_4 rfl (lv_at hl 0 rfl) ?_
  obtain ⟨x3, h4, hf⟩ := jm_rd_some hf
  refine jw_getI hx hb hts hown hK hst (fl_X2_15 hts hK) h4 dX2_look_5 ?_
  refine lv_icmp_ge (tgt := 27) hx hb dX2_look_8 (by decide) (fun hc => ?_) (fun hc => ?_)
  · rw [if_pos hc] at hf
    refine lv_ldc hx hb hown (hts _ q169) dX2_look_27 ?_
    obtain ⟨rfl, rfl⟩ := jm_ret_some hf
    exact jw_iret C0 hst dX2_look_29
  · rw [if_neg hc] at hf
    refine jw_aload_n (r := (some a0)) hx hb dX2_look_11 rfl (lv_at hl 0 rfl) ?_
    obtain ⟨x5, h6, hf⟩ := jm_rd_some hf
    refine jw_getR hx hb hts hown hK hst (fl_X2_9 hts hK) h6 dX2_look_12 ?_
    refine jw_aload_n (r := (some a0)) hx hb dX2_look_15 rfl (lv_at hl 0 rfl) ?_
    obtain ⟨x7, h8, hf⟩ := jm_rd_some hf
    refine jw_getI hx hb hts hown hK hst (fl_X2_19 hts hK) h8 dX2_look_16 ?_
    obtain ⟨x9, h10, hf⟩ := jm_rd_some hf
    refine jw_bald hx hb hK hst h10 dX2_look_19 ?_
    refine lv_sipush (v := 255) hx hb dX2_look_20 (by decide) ?_
    refine lv_iand hx hb dX2_look_23 ?_
    refine lv_goto (tgt := 29) hx hb dX2_look_24 (by decide) ?_
    obtain ⟨rfl, rfl⟩ := jm_ret_some hf
    exact jw_iret C0 hst dX2_look_29
theorem hd_X2_look : yX2_look.cls = RX2 ∧ yX2_look.cls ≠ "java/lang/invoke/MethodHandle" ∧ yX2_look.cls ≠ "java/lang/invoke/VarHandle" ∧ (parseMethodDescriptor yX2_look.desc).map (fun d => d.parameters.length) = some 0 := by decide +kernel
theorem hd_X0_isIn : yX0_isIn.cls = RX0 ∧ yX0_isIn.cls ≠ "java/lang/invoke/MethodHandle" ∧ yX0_isIn.cls ≠ "java/lang/invoke/VarHandle" ∧ (parseMethodDescriptor yX0_isIn.desc).map (fun d => d.parameters.length) = some 3 := by decide +kernel
def jf_X2_token_j43 (N : Nat)  : jm_P Int32 :=
  jm_ret (1 : Int32)
def jf_X2_token (N : Nat) (a0 : Nat) : jm_P Int32 :=
  jm_rd (jm_cl 2 (some a0)) fun a5 =>
  jm_bd (jf_X2_look N a5 ) fun x2 =>
  if x2 = (-1000000 : Int32) then (
    jm_ret (0 : Int32))
  else
    jm_bd (jf_X0_isIn N (x2.toInt64) (97 : Int64) (122 : Int64)) fun x8 =>
    if x8 = 0 then (
      jm_bd (jf_X0_isIn N (x2.toInt64) (65 : Int64) (90 : Int64)) fun x11 =>
      if x11 = 0 then (
        jm_bd (jf_X0_isIn N (x2.toInt64) (48 : Int64) (57 : Int64)) fun x14 =>
        if x14 = 0 then (
          if x2 = (59 : Int32) then (
            jm_ret (3 : Int32))
          else
            jm_ret (4 : Int32))
        else
          jm_ret (2 : Int32))
      else
        jf_X2_token_j43 N )
    else
      jf_X2_token_j43 N 
set_option maxHeartbeats 4000000 in
set_option maxRecDepth 100000 in
theorem jt_X2_token (l : Launch) (g : GD) (b N : Nat) (a0 : Nat) (M M' : Mem) (r : Int32) (hf : (jf_X2_token N a0).1 M = some (r, M')) : jm_Met l g b yX2_token (ws_ yX2_token cX2_token 2 (some .int)) 1 25 [va_rf (some a0)] M M' (some (.int r)) := by
  refine jm_start (by decide) (jm_mono hf) (by rw [lg_sl_r, lg_sl_n]; exact Nat.le_of_ble_eq_true rfl) ?_
  intro p e s m args below meth c ls C0 hin hK hst hl
  obtain ⟨hx, hb, hml, hown, hts, hr, hlk⟩ := id C0
  have hown : s.vm.findClass RX2 = some m.cls := hown
  have C0 : jm_Cx p s m args meth c cX2_token 2 (some .int) RX2 := C0
  rw [lv_args_r, lv_args_n] at hl
  have hl : lv_has ls 2 [(0, va_rf (some a0))] := hl
  have J43 : ∀  (Mm1 : Mem), (jf_X2_token_j43 N).1 Mm1 = some (r, M') → ∀ (H : Heap) (locs : List Loc) (cells slots : Nat) (ls : Array Slot), jm_St g b M M' Mm1 s (jm_rm 1 25 M M') H locs cells slots → lv_has ls 2 [] → W p l e (jm_rm 1 25 M M') s m args below meth c H locs cells slots (jm_MQ below g b (some (.int r)) M M' args s) (F0 m 43 ls []) := by
    intro  Mm1 hf H locs cells slots ls hst hl
    unfold jf_X2_token_j43 at hf
    refine lv_iconst (v := 1) hx hb dX2_token_43 (by decide) ?_
    refine lv_goto (tgt := 76) hx hb dX2_token_44 (by decide) ?_
    obtain ⟨rfl, rfl⟩ := jm_ret_some hf
    exact jw_iret C0 hst dX2_token_76
  unfold jf_X2_token at hf
  refine jw_aload_n (r := (some a0)) hx hb dX2_token_0 rfl (lv_at hl 0 rfl) ?_
  obtain ⟨a5, h6, hf⟩ := jm_rd_some hf
  obtain ⟨fsa5, hea5, hr7⟩ := jm_cl_some h6
  obtain ⟨x2, Mm3, h4, hf⟩ := jm_bd_some hf
  refine jw_V (As := []) (rest := []) (C := RX2) (T := TX2) (N := 3) (rv := (some a0)) (jt_X2_look l g b N a5  M Mm3 x2 h4) C0 hK hst (jm_mono h4) (jm_le_tr (jm_mono hf) jm_le_rf) q165 q167 qs1 q74 q168 hd_X2_look ⟨Nat.le_of_ble_eq_true rfl, Nat.le_of_ble_eq_true rfl⟩ hea5 hr7 rfl rfl hl.1 rfl (by rw [cs_n]; exact Nat.le_of_ble_eq_true rfl) dX2_token_1 (fun H locs cells slots hst => ?_)
  refine W.eq (g2 := F0 m 4 ls [.int x2]) rfl ?_
  refine lv_istore_n (i := 1) (lv' := [(1, .int x2), (0, va_rf (some a0))]) hx hb dX2_token_4 rfl hl (by decide) (by simp [va_rf_cat, cat_i, cat_j, cat_f]) (fun ls hl => ?_)
  refine lv_iload_n hx hb dX2_token_5 rfl (lv_at hl 0 rfl) ?_
  refine lv_ldc hx hb hown (hts _ q169) dX2_token_6 ?_
  refine lv_icmp_ne (tgt := 15) hx hb dX2_token_8 (by decide) (fun hc => ?_) (fun hc => ?_)
  · rw [if_neg hc] at hf
    refine lv_iload_n hx hb dX2_token_15 rfl (lv_at hl 0 rfl) ?_
    refine lv_i2l hx hb dX2_token_16 rfl ?_
    refine lv_ldc2 hx hb hown (hts _ q251) dX2_token_17 ?_
    refine lv_ldc2 hx hb hown (hts _ q252) dX2_token_20 ?_
    obtain ⟨x8, Mm9, h10, hf⟩ := jm_bd_some hf
    refine jw_SN (As := [.long (x2.toInt64), .long (97 : Int64), .long (122 : Int64)]) (rest := []) (jt_X0_isIn l g b N (x2.toInt64) (97 : Int64) (122 : Int64) Mm3 Mm9 x8 h10) C0 hK hst (jm_mono h10) (jm_le_tr (jm_mono hf) jm_le_rf) nq253 q132 q72 q133 hd_X0_isIn.2 ⟨Nat.le_of_ble_eq_true rfl, Nat.le_of_ble_eq_true rfl⟩ rfl hl.1 rfl (by rw [cs_n]; exact Nat.le_of_ble_eq_true rfl) dX2_token_23 (fun H locs cells slots hst => ?_)
    refine W.eq (g2 := F0 m 26 ls [.int x8]) rfl ?_
    refine lv_if_ne (tgt := 43) hx hb dX2_token_26 (by decide) (fun hc => ?_) (fun hc => ?_)
    · rw [if_neg hc] at hf
      exact J43  _ hf _ _ _ _ _ hst (lv_sub hl [] rfl)
    · rw [if_pos hc] at hf
      refine lv_iload_n hx hb dX2_token_29 rfl (lv_at hl 0 rfl) ?_
      refine lv_i2l hx hb dX2_token_30 rfl ?_
      refine lv_ldc2 hx hb hown (hts _ q254) dX2_token_31 ?_
      refine lv_ldc2 hx hb hown (hts _ q255) dX2_token_34 ?_
      obtain ⟨x11, Mm12, h13, hf⟩ := jm_bd_some hf
      refine jw_SN (As := [.long (x2.toInt64), .long (65 : Int64), .long (90 : Int64)]) (rest := []) (jt_X0_isIn l g b N (x2.toInt64) (65 : Int64) (90 : Int64) Mm9 Mm12 x11 h13) C0 hK hst (jm_mono h13) (jm_le_tr (jm_mono hf) jm_le_rf) nq253 q132 q72 q133 hd_X0_isIn.2 ⟨Nat.le_of_ble_eq_true rfl, Nat.le_of_ble_eq_true rfl⟩ rfl hl.1 rfl (by rw [cs_n]; exact Nat.le_of_ble_eq_true rfl) dX2_token_37 (fun H locs cells slots hst => ?_)
      refine W.eq (g2 := F0 m 40 ls [.int x11]) rfl ?_
      refine lv_if_eq (tgt := 47) hx hb dX2_token_40 (by decide) (fun hc => ?_) (fun hc => ?_)
      · rw [if_pos hc] at hf
        refine lv_iload_n hx hb dX2_token_47 rfl (lv_at hl 0 rfl) ?_
        refine lv_i2l hx hb dX2_token_48 rfl ?_
        refine lv_ldc2 hx hb hown (hts _ q256) dX2_token_49 ?_
        refine lv_ldc2 hx hb hown (hts _ q257) dX2_token_52 ?_
        obtain ⟨x14, Mm15, h16, hf⟩ := jm_bd_some hf
        refine jw_SN (As := [.long (x2.toInt64), .long (48 : Int64), .long (57 : Int64)]) (rest := []) (jt_X0_isIn l g b N (x2.toInt64) (48 : Int64) (57 : Int64) Mm12 Mm15 x14 h16) C0 hK hst (jm_mono h16) (jm_le_tr (jm_mono hf) jm_le_rf) nq253 q132 q72 q133 hd_X0_isIn.2 ⟨Nat.le_of_ble_eq_true rfl, Nat.le_of_ble_eq_true rfl⟩ rfl hl.1 rfl (by rw [cs_n]; exact Nat.le_of_ble_eq_true rfl) dX2_token_55 (fun H locs cells slots hst => ?_)
        refine W.eq (g2 := F0 m 58 ls [.int x14]) rfl ?_
        refine lv_if_eq (tgt := 65) hx hb dX2_token_58 (by decide) (fun hc => ?_) (fun hc => ?_)
        · rw [if_pos hc] at hf
          refine lv_iload_n hx hb dX2_token_65 rfl (lv_at hl 0 rfl) ?_
          refine lv_bipush (v := 59) hx hb dX2_token_66 (by decide) ?_
          refine lv_icmp_ne (tgt := 75) hx hb dX2_token_68 (by decide) (fun hc => ?_) (fun hc => ?_)
          · rw [if_neg hc] at hf
            refine lv_iconst (v := 4) hx hb dX2_token_75 (by decide) ?_
            obtain ⟨rfl, rfl⟩ := jm_ret_some hf
            exact jw_iret C0 hst dX2_token_76
          · rw [if_pos hc] at hf
            refine lv_iconst (v := 3) hx hb dX2_token_71 (by decide) ?_
            refine lv_goto (tgt := 76) hx hb dX2_token_72 (by decide) ?_
            obtain ⟨rfl, rfl⟩ := jm_ret_some hf
            exact jw_iret C0 hst dX2_token_76
        · rw [if_neg hc] at hf
          refine lv_iconst (v := 2) hx hb dX2_token_61 (by decide) ?_
          refine lv_goto (tgt := 76) hx hb dX2_token_62 (by decide) ?_
          obtain ⟨rfl, rfl⟩ := jm_ret_some hf
          exact jw_iret C0 hst dX2_token_76
      · rw [if_neg hc] at hf
        exact J43  _ hf _ _ _ _ _ hst (lv_sub hl [] rfl)
  · rw [if_pos hc] at hf
    refine lv_iconst (v := 0) hx hb dX2_token_11 (by decide) ?_
    refine lv_goto (tgt := 76) hx hb dX2_token_12 (by decide) ?_
    obtain ⟨rfl, rfl⟩ := jm_ret_some hf
    exact jw_iret C0 hst dX2_token_76
def jf_X2_edgeOf (N : Nat) (v0 : Int32) : jm_P Int32 :=
  jm_bd (jf_X0_isIn N (v0.toInt64) (97 : Int64) (122 : Int64)) fun x1 =>
  if x1 = 0 then (
    jm_ret ((64 : Int32) - v0))
  else
    jm_ret (v0 - (97 : Int32))
set_option maxHeartbeats 4000000 in
set_option maxRecDepth 100000 in
theorem jt_X2_edgeOf (l : Launch) (g : GD) (b N : Nat) (v0 : Int32) (M M' : Mem) (r : Int32) (hf : (jf_X2_edgeOf N v0).1 M = some (r, M')) : jm_Met l g b yX2_edgeOf (ws_ yX2_edgeOf cX2_edgeOf 1 (some .int)) 1 25 [.int v0] M M' (some (.int r)) := by
  refine jm_start (by decide) (jm_mono hf) (by rw [lg_sl_i, lg_sl_n]; exact Nat.le_of_ble_eq_true rfl) ?_
  intro p e s m args below meth c ls C0 hin hK hst hl
  obtain ⟨hx, hb, hml, hown, hts, hr, hlk⟩ := id C0
  have hown : s.vm.findClass RX2 = some m.cls := hown
  have C0 : jm_Cx p s m args meth c cX2_edgeOf 1 (some .int) RX2 := C0
  rw [lv_args_i, lv_args_n] at hl
  have hl : lv_has ls 1 [(0, .int v0)] := hl
  unfold jf_X2_edgeOf at hf
  refine lv_iload_n hx hb dX2_edgeOf_0 rfl (lv_at hl 0 rfl) ?_
  refine lv_i2l hx hb dX2_edgeOf_1 rfl ?_
  refine lv_ldc2 hx hb hown (hts _ q251) dX2_edgeOf_2 ?_
  refine lv_ldc2 hx hb hown (hts _ q252) dX2_edgeOf_5 ?_
  obtain ⟨x1, Mm2, h3, hf⟩ := jm_bd_some hf
  refine jw_SN (As := [.long (v0.toInt64), .long (97 : Int64), .long (122 : Int64)]) (rest := []) (jt_X0_isIn l g b N (v0.toInt64) (97 : Int64) (122 : Int64) M Mm2 x1 h3) C0 hK hst (jm_mono h3) (jm_le_tr (jm_mono hf) jm_le_rf) nq253 q132 q72 q133 hd_X0_isIn.2 ⟨Nat.le_of_ble_eq_true rfl, Nat.le_of_ble_eq_true rfl⟩ rfl hl.1 rfl (by rw [cs_n]; exact Nat.le_of_ble_eq_true rfl) dX2_edgeOf_8 (fun H locs cells slots hst => ?_)
  refine W.eq (g2 := F0 m 11 ls [.int x1]) rfl ?_
  refine lv_if_eq (tgt := 21) hx hb dX2_edgeOf_11 (by decide) (fun hc => ?_) (fun hc => ?_)
  · rw [if_pos hc] at hf
    refine lv_bipush (v := 64) hx hb dX2_edgeOf_21 (by decide) ?_
    refine lv_iload_n hx hb dX2_edgeOf_23 rfl (lv_at hl 0 rfl) ?_
    refine lv_isub hx hb dX2_edgeOf_24 ?_
    obtain ⟨rfl, rfl⟩ := jm_ret_some hf
    exact jw_iret C0 hst dX2_edgeOf_25
  · rw [if_neg hc] at hf
    refine lv_iload_n hx hb dX2_edgeOf_14 rfl (lv_at hl 0 rfl) ?_
    refine lv_bipush (v := 97) hx hb dX2_edgeOf_15 (by decide) ?_
    refine lv_isub hx hb dX2_edgeOf_17 ?_
    refine lv_goto (tgt := 25) hx hb dX2_edgeOf_18 (by decide) ?_
    obtain ⟨rfl, rfl⟩ := jm_ret_some hf
    exact jw_iret C0 hst dX2_edgeOf_25
