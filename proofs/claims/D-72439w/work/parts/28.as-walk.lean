/-! WALKS, printed by genb.py: methods that throw or catch -/
theorem hd_X0_placeFor : yX0_placeFor.cls = RX0 ∧ yX0_placeFor.cls ≠ "java/lang/invoke/MethodHandle" ∧ yX0_placeFor.cls ≠ "java/lang/invoke/VarHandle" ∧ (parseMethodDescriptor yX0_placeFor.desc).map (fun d => d.parameters.length) = some 1 := by decide +kernel
theorem hd_X10_init : yX10_init.cls = RX10 ∧ yX10_init.cls ≠ "java/lang/invoke/MethodHandle" ∧ yX10_init.cls ≠ "java/lang/invoke/VarHandle" ∧ (parseMethodDescriptor yX10_init.desc).map (fun d => d.parameters.length) = some 0 := by decide +kernel
def jf_X0_as_j73 (N : Nat) (v2 : Int32) (t0 : Option Nat) (t1 : Int32) (t2 : Option Nat) : jm_P Int32 :=
  jm_rd (jm_kd t0) fun kd2 =>
  jm_rd (jm_kl t2) fun y3 =>
  jm_rd (jm_ldR kd2 t0 t1) fun w4 =>
  if y3.2 ∈ jm_oks kd2 then (
    jm_wr (jm_stR kd2 (jm_oks kd2) none t0 t1 t2) <|
    jm_ret v2)
  else
    jm_rd (jm_ck (y3.2 ∈ jm_bds kd2)) fun _ =>
    jm_sk 3 32 <|
    jm_ret (-1000000 : Int32)
def jf_X0_as (N : Nat) (a0 : Nat) (v1 : Int32) (v2 : Int32) (v3 : Int32) : jm_P Int32 :=
  jm_rd (jm_cl 0 (some a0)) fun a15 =>
  jm_bd (jf_X0_isCell N a15 v1 v2) fun x12 =>
  if x12 = 0 then (
    jm_ret (-1000001 : Int32))
  else
    jm_bd (jf_X0_isIn N (v3.toInt64) (0 : Int64) (5 : Int64)) fun x18 =>
    if x18 = 0 then (
      jm_ret (-1000001 : Int32))
    else
      jm_bd (jf_X0_placeFor N v3) fun x21 =>
      if v1 = 0 then (
        jm_al (.inr (10, [])) fun q36 =>
        jm_bd (jf_X10_init N q36 ) fun x38 =>
        jf_X0_as_j73 N v2 x21 (0 : Int32) (some q36))
      else
        if v1 = (1 : Int32) then (
          jm_rd (jm_fR [0] 0 (some a0)) fun x30 =>
          jm_rd (jm_fR [9] 1 x30) fun x32 =>
          jm_rd (jm_ldR 4 x32 v2) fun x34 =>
          jf_X0_as_j73 N v2 x21 (0 : Int32) x34)
        else
          jm_rd (jm_fR [0] 0 (some a0)) fun x24 =>
          jm_rd (jm_fR [9] 2 x24) fun x26 =>
          jm_rd (jm_ldR 5 x26 v2) fun x28 =>
          jf_X0_as_j73 N v2 x21 (0 : Int32) x28
set_option maxHeartbeats 4000000 in
set_option maxRecDepth 100000 in
theorem jt_X0_as (l : Launch) (hl0 : l.stackTraces = false) (g : GD) (b sa N : Nat) (a0 : Nat) (v1 : Int32) (v2 : Int32) (v3 : Int32) (M M' : Mem) (r : Int32) (hf : (jf_X0_as N a0 v1 v2 v3).1 M = some (r, M')) : jm_MX l g b sa yX0_as (wsW_ yX0_as cX0_as 6 (some .int) [(30, 74, 77, 235)]) 7 10300 [va_rf (some a0), .int v1, .int v2, .int v3] M M' (.inl (some (.int r))) := by
  refine jm_startXW (by decide) (jm_mono hf) (by rw [lg_sl_r, lg_sl_i, lg_sl_i, lg_sl_i, lg_sl_n]; exact Nat.le_of_ble_eq_true rfl) ?_
  intro p e s m args below meth c ls C0 hin hK hKX hst hl hto
  obtain ⟨hx, hb, hml, hown, hts, hr, hlk⟩ := id C0
  have hown : s.vm.findClass RX0 = some m.cls := hown
  have C0 : jm_Cx p s m args meth c cX0_as 6 (some .int) RX0 := C0
  rw [lv_args_r, lv_args_i, lv_args_i, lv_args_i, lv_args_n] at hl
  have hl : lv_has ls 6 [(0, va_rf (some a0)), (1, .int v1), (2, .int v2), (3, .int v3)] := hl
  have J73 : ∀ (v2 : Int32) (t0 : Option Nat) (t1 : Int32) (t2 : Option Nat) (Mm1 : Mem), (jf_X0_as_j73 N v2 t0 t1 t2).1 Mm1 = some (r, M') → ∀ (H : Heap) (locs : List Loc) (cells slots : Nat) (ls : Array Slot), jm_St g b M M' Mm1 s (jm_rm 7 10300 M M') H locs cells slots → lv_has ls 6 [(2, .int v2)] → W p l e (jm_rm 7 10300 M M') s m args below meth c H locs cells slots (jm_MQX below g b (.inl (some (.int r))) M M' args s) (F0 m 73 ls [va_rf t2, .int t1, va_rf t0]) := by
    intro v2 t0 t1 t2 Mm1 hf H locs cells slots ls hst hl
    unfold jf_X0_as_j73 at hf
    obtain ⟨kd2, _, hf⟩ := jm_rd_some hf
    obtain ⟨y3, h6, hf⟩ := jm_rd_some hf
    obtain ⟨w4, h7, hf⟩ := jm_rd_some hf
    by_cases hc : y3.2 ∈ jm_oks kd2
    · rw [if_pos hc] at hf
      obtain ⟨F5, h8, hf⟩ := jm_wr_some hf
      refine jw_astR (kd := kd2) (r := t0) (v := t2) hx hb hK hst (jm_good hK hc).1 (jm_good hK hc).2 h8 dX0_as_73 (fun H locs hst => ?_)
      generalize ((Mm1.1, Mm1.2.1, F5) : Mem) = Mm9 at hf hst
      refine lv_goto (tgt := 82) hx hb dX0_as_74 (by decide) ?_
      refine lv_iload_n hx hb dX0_as_82 rfl (lv_at hl 0 rfl) ?_
      obtain ⟨rfl, rfl⟩ := jm_ret_some hf
      exact jw_iret C0 hst dX0_as_83
    · rw [if_neg hc] at hf
      obtain ⟨_, h8, hf⟩ := jm_rd_some hf
      have hf := (jm_sk_eq).symm.trans hf
      refine jw_aseH (cpc := 77) (rest := []) (r := t0) (v := t2) (z := ⟨30, 74, 77, 235⟩) hl0 C0 hK hKX hst h6 h7 (jm_ck_some h8) (jm_le_tr (jm_mono hf) jm_le_rf) hl.1 (Nat.le_of_ble_eq_true rfl) (Nat.le_of_ble_eq_true rfl) (by rw [cs_n]; exact Nat.le_of_ble_eq_true rfl) hto (by decide) (by decide) q566 rfl dX0_as_73 (fun q11 H cells slots hst => ?_)
      generalize ((Mm1.1 + 3, Mm1.2.1 + 32, Mm1.2.2) : Mem) = Mm10 at hf hst
      refine jw_astore (i := 5) (r := (some q11)) (lv' := [(5, va_rf (some q11)), (2, .int v2)]) hx hb dX0_as_77 hl (by decide) rfl (fun ls hl => ?_)
      refine lv_ldc hx hb hown (hts _ q606) dX0_as_79 ?_
      obtain ⟨rfl, rfl⟩ := jm_ret_some hf
      exact jw_iret C0 hst dX0_as_81
  unfold jf_X0_as at hf
  refine jw_aload_n (r := (some a0)) hx hb dX0_as_0 rfl (lv_at hl 0 rfl) ?_
  refine lv_iload_n hx hb dX0_as_1 rfl (lv_at hl 1 rfl) ?_
  refine lv_iload_n hx hb dX0_as_2 rfl (lv_at hl 2 rfl) ?_
  obtain ⟨a15, h16, hf⟩ := jm_rd_some hf
  obtain ⟨fsa15, hea15, hr17⟩ := jm_cl_some h16
  obtain ⟨x12, Mm13, h14, hf⟩ := jm_bd_some hf
  refine jw_V (As := [.int v1, .int v2]) (rest := []) (C := RX0) (T := TX0) (N := 7) (rv := (some a0)) (jt_X0_isCell l g b N a15 v1 v2 M Mm13 x12 h14) C0 hK hst (jm_mono h14) (jm_le_tr (jm_mono hf) jm_le_rf) q394 q396 qs7 q72 q397 hd_X0_isCell ⟨Nat.le_of_ble_eq_true rfl, Nat.le_of_ble_eq_true rfl⟩ hea15 hr17 rfl rfl hl.1 rfl (by rw [cs_n]; exact Nat.le_of_ble_eq_true rfl) dX0_as_3 (fun H locs cells slots hst => ?_)
  refine W.eq (g2 := F0 m 6 ls [.int x12]) rfl ?_
  refine lv_if_eq (tgt := 21) hx hb dX0_as_6 (by decide) (fun hc => ?_) (fun hc => ?_)
  · rw [if_pos hc] at hf
    refine lv_ldc hx hb hown (hts _ q134) dX0_as_21 ?_
    obtain ⟨rfl, rfl⟩ := jm_ret_some hf
    exact jw_iret C0 hst dX0_as_23
  · rw [if_neg hc] at hf
    refine lv_iload_n hx hb dX0_as_9 rfl (lv_at hl 3 rfl) ?_
    refine lv_i2l hx hb dX0_as_10 rfl ?_
    refine lv_lconst (v := 0) hx hb dX0_as_11 (by decide) ?_
    refine lv_ldc2 hx hb hown (hts _ q590) dX0_as_12 ?_
    obtain ⟨x18, Mm19, h20, hf⟩ := jm_bd_some hf
    refine jw_S (As := [.long (v3.toInt64), .long (0 : Int64), .long (5 : Int64)]) (rest := []) (jt_X0_isIn l g b N (v3.toInt64) (0 : Int64) (5 : Int64) Mm13 Mm19 x18 h20) C0 hK hst (jm_mono h20) (jm_le_tr (jm_mono hf) jm_le_rf) q131 q132 q72 q133 hd_X0_isIn.2 ⟨Nat.le_of_ble_eq_true rfl, Nat.le_of_ble_eq_true rfl⟩ rfl hl.1 rfl (by rw [cs_n]; exact Nat.le_of_ble_eq_true rfl) dX0_as_15 (fun H locs cells slots hst => ?_)
    refine W.eq (g2 := F0 m 18 ls [.int x18]) rfl ?_
    refine lv_if_ne (tgt := 24) hx hb dX0_as_18 (by decide) (fun hc => ?_) (fun hc => ?_)
    · rw [if_neg hc] at hf
      refine lv_iload_n hx hb dX0_as_24 rfl (lv_at hl 3 rfl) ?_
      obtain ⟨x21, Mm22, h23, hf⟩ := jm_bd_some hf
      refine jw_S (As := [.int v3]) (rest := []) (jt_X0_placeFor l g b N v3 Mm19 Mm22 x21 h23) C0 hK hst (jm_mono h23) (jm_le_tr (jm_mono hf) jm_le_rf) q591 q592 q72 q593 hd_X0_placeFor.2 ⟨Nat.le_of_ble_eq_true rfl, Nat.le_of_ble_eq_true rfl⟩ rfl hl.1 rfl (by rw [cs_n]; exact Nat.le_of_ble_eq_true rfl) dX0_as_25 (fun H locs cells slots hst => ?_)
      refine W.eq (g2 := F0 m 28 ls [va_rf x21]) rfl ?_
      refine jw_astore (i := 4) (r := x21) (lv' := [(4, va_rf x21), (0, va_rf (some a0)), (1, .int v1), (2, .int v2), (3, .int v3)]) hx hb dX0_as_28 hl (by decide) rfl (fun ls hl => ?_)
      refine jw_aload (r := x21) hx hb dX0_as_30 (lv_at hl 0 rfl) ?_
      refine lv_iconst (v := 0) hx hb dX0_as_32 (by decide) ?_
      refine lv_iload_n hx hb dX0_as_33 rfl (lv_at hl 2 rfl) ?_
      refine lv_if_ne (tgt := 47) hx hb dX0_as_34 (by decide) (fun hc => ?_) (fun hc => ?_)
      · rw [if_neg hc] at hf
        refine lv_iload_n hx hb dX0_as_47 rfl (lv_at hl 2 rfl) ?_
        refine lv_iconst (v := 1) hx hb dX0_as_48 (by decide) ?_
        refine lv_icmp_ne (tgt := 64) hx hb dX0_as_49 (by decide) (fun hc => ?_) (fun hc => ?_)
        · rw [if_neg hc] at hf
          refine jw_aload_n (r := (some a0)) hx hb dX0_as_64 rfl (lv_at hl 1 rfl) ?_
          obtain ⟨x24, h25, hf⟩ := jm_rd_some hf
          refine jw_getR hx hb hts hown hK hst (fl_X0_75 hts hK) h25 dX0_as_65 ?_
          obtain ⟨x26, h27, hf⟩ := jm_rd_some hf
          refine jw_getR hx hb hts hown hK hst (fl_X0_101 hts hK) h27 dX0_as_68 ?_
          refine lv_iload_n hx hb dX0_as_71 rfl (lv_at hl 3 rfl) ?_
          obtain ⟨x28, h29, hf⟩ := jm_rd_some hf
          refine jw_aald hx hb hK hst (show jm_ty[5]? = some (.object "ChainParts$FaceCell") from rfl) rfl h29 dX0_as_72 ?_
          exact J73 v2 x21 (0 : Int32) x28 _ hf _ _ _ _ _ hst (lv_sub hl [3] rfl)
        · rw [if_pos hc] at hf
          refine jw_aload_n (r := (some a0)) hx hb dX0_as_52 rfl (lv_at hl 1 rfl) ?_
          obtain ⟨x30, h31, hf⟩ := jm_rd_some hf
          refine jw_getR hx hb hts hown hK hst (fl_X0_75 hts hK) h31 dX0_as_53 ?_
          obtain ⟨x32, h33, hf⟩ := jm_rd_some hf
          refine jw_getR hx hb hts hown hK hst (fl_X0_97 hts hK) h33 dX0_as_56 ?_
          refine lv_iload_n hx hb dX0_as_59 rfl (lv_at hl 3 rfl) ?_
          obtain ⟨x34, h35, hf⟩ := jm_rd_some hf
          refine jw_aald hx hb hK hst (show jm_ty[4]? = some (.object "ChainParts$EdgeCell") from rfl) rfl h35 dX0_as_60 ?_
          refine lv_goto (tgt := 73) hx hb dX0_as_61 (by decide) ?_
          exact J73 v2 x21 (0 : Int32) x34 _ hf _ _ _ _ _ hst (lv_sub hl [3] rfl)
      · rw [if_pos hc] at hf
        obtain ⟨q36, hq36, hf⟩ := jm_al_some hf
        refine jw_new (ci := 10) (C := RX10) (T := TX10) (N := 0) (fs := []) hx hb hts (fun w h => by cases h) tyX10 (fun k hk => absurd hk (Nat.not_lt_zero _)) hown (hts _ q596) (hts _ q600) (hts _ q89) hK hst rfl (fun j hj => absurd hj (Nat.not_lt_zero _)) rfl (jm_le_tr (jm_mono hf) jm_le_rf) hq36 dX0_as_37 (fun H cells slots hst => ?_)
        generalize jm_new (.inr (10, [])) Mm22 = Mm37 at hf hst
        refine lv_dup hx hb dX0_as_40 (va_rf_cat _) ?_
        obtain ⟨x38, Mm39, h40, hf⟩ := jm_bd_some hf
        refine jw_IN (As := []) (rest := [va_rf (some q36), .int (0 : Int32), va_rf x21]) (rv := (some q36)) (jt_X10_init l g b N q36  Mm37 Mm39 x38 h40) C0 hK hst (jm_mono h40) (jm_le_tr (jm_mono hf) jm_le_rf) nq601 q602 q89 q603 rfl hd_X10_init.2 ⟨Nat.le_of_ble_eq_true rfl, Nat.le_of_ble_eq_true rfl⟩ rfl rfl hl.1 rfl (by rw [cs_r, cs_i, cs_r, cs_n]; exact Nat.le_of_ble_eq_true rfl) dX0_as_41 (fun H locs cells slots hst => ?_)
        refine W.eq (g2 := F0 m 44 ls [va_rf (some q36), .int (0 : Int32), va_rf x21]) rfl ?_
        refine lv_goto (tgt := 73) hx hb dX0_as_44 (by decide) ?_
        exact J73 v2 x21 (0 : Int32) (some q36) _ hf _ _ _ _ _ hst (lv_sub hl [3] rfl)
    · rw [if_pos hc] at hf
      refine lv_ldc hx hb hown (hts _ q134) dX0_as_21 ?_
      obtain ⟨rfl, rfl⟩ := jm_ret_some hf
      exact jw_iret C0 hst dX0_as_23
