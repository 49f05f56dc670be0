/-! WALKS, printed by genb.py: methods that throw or catch -/
theorem hd_X2_must : yX2_must.cls = RX2 ∧ yX2_must.cls ≠ "java/lang/invoke/MethodHandle" ∧ yX2_must.cls ≠ "java/lang/invoke/VarHandle" ∧ (parseMethodDescriptor yX2_must.desc).map (fun d => d.parameters.length) = some 2 := by decide +kernel
theorem fw_X2_19 {s : State} {args : Array Value} {meth : Method} (hts : ∀ w ∈ lw_all, w.before args s = true) : ∀ q ∈ ([2] : List Nat), jm_FW s args meth RX2 19 q 2 .int := by
  intro q hq
  simp only [List.mem_cons, List.not_mem_nil, or_false] at hq
  subst hq
  exact ⟨RX2, TX2, 3, rfl, in_X2, by decide, ⟨tyX2, tyX2_ok⟩, nmX2, tyX2_ok 2 (by decide), "ChainParts$Reader", hts _ q149, fun _ h => h, Or.inl rfl⟩
def jf_X2_letter_j14 (N : Nat) (a0 : Nat) (t0 : Option Nat) (t1 : Int32) : jm_P (Unit ⊕ Nat) :=
  jm_rd (jm_cl 2 t0) fun a5 =>
  jm_bx (jf_X2_must N a5 t1 (1 : Int32)) (fun q8 => jm_ret (.inr q8)) fun x2 =>
  jm_rd (jm_fI [2] 2 (some a0)) fun x13 =>
  jm_wr (jm_put [2] 2 (.int (x13 + (1 : Int32))) (some a0)) <|
  jm_ret (.inl ())
def jf_X2_letter (N : Nat) (a0 : Nat) (v1 : Int32) : jm_P (Unit ⊕ Nat) :=
  jm_rd (jm_cl 2 (some a0)) fun a21 =>
  jm_bd (jf_X2_look N a21 ) fun x18 =>
  if x18 = v1 then (
    jf_X2_letter_j14 N a0 (some a0) (1 : Int32))
  else
    jf_X2_letter_j14 N a0 (some a0) (0 : Int32)
set_option maxHeartbeats 4000000 in
set_option maxRecDepth 100000 in
theorem jt_X2_letter (l : Launch) (hl0 : l.stackTraces = false) (g : GD) (b sa N : Nat) (a0 : Nat) (v1 : Int32) (M M' : Mem) (r : (Unit ⊕ Nat)) (hf : (jf_X2_letter N a0 v1).1 M = some (r, M')) : jm_MX l g b sa yX2_letter (ws_ yX2_letter cX2_letter 2 none) 6 112 [va_rf (some a0), .int v1] M M' (jm_xo (fun _ => none) r) := by
  refine jm_startX (by decide) (jm_mono hf) (by rw [lg_sl_r, lg_sl_i, lg_sl_n]; exact Nat.le_of_ble_eq_true rfl) ?_
  intro p e s m args below meth c ls C0 hin hK hKX hst hl hto
  obtain ⟨hx, hb, hml, hown, hts, hr, hlk⟩ := id C0
  have hown : s.vm.findClass RX2 = some m.cls := hown
  have C0 : jm_Cx p s m args meth c cX2_letter 2 none RX2 := C0
  rw [lv_args_r, lv_args_i, lv_args_n] at hl
  have hl : lv_has ls 2 [(0, va_rf (some a0)), (1, .int v1)] := hl
  have J14 : ∀ (a0 : Nat) (t0 : Option Nat) (t1 : Int32) (Mm1 : Mem), (jf_X2_letter_j14 N a0 t0 t1).1 Mm1 = some (r, M') → ∀ (H : Heap) (locs : List Loc) (cells slots : Nat) (ls : Array Slot), jm_St g b M M' Mm1 s (jm_rm 6 112 M M') H locs cells slots → lv_has ls 2 [(0, va_rf (some a0))] → W p l e (jm_rm 6 112 M M') s m args below meth c H locs cells slots (jm_MQX below g b (jm_xo (fun _ => none) r) M M' args s) (F0 m 14 ls [.int t1, va_rf t0]) := by
    intro a0 t0 t1 Mm1 hf H locs cells slots ls hst hl
    unfold jf_X2_letter_j14 at hf
    refine lv_iconst (v := 1) hx hb dX2_letter_14 (by decide) ?_
    obtain ⟨a5, h6, hf⟩ := jm_rd_some hf
    obtain ⟨fsa5, hea5, hr7⟩ := jm_cl_some h6
    obtain ⟨y9, Mm3, h4, hb10, hy11⟩ := jm_bx_some hf
    rcases hy11 with ⟨q8, rfl, ⟨fsq8, hq12⟩, hf⟩ | ⟨x2, rfl, hf⟩
    · refine jw_VT (As := [.int t1, .int (1 : Int32)]) (rest := []) (C := RX2) (T := TX2) (N := 3) (rv := t0) (jt_X2_must l hl0 g b sa N a5 t1 (1 : Int32) Mm1 Mm3 (.inr q8) h4) C0 hK hKX hst (jm_mono h4) (jm_le_tr hb10 jm_le_rf) q170 q172 qs2 q74 q173 hd_X2_must ⟨Nat.le_of_ble_eq_true rfl, Nat.le_of_ble_eq_true rfl⟩ hea5 hr7 rfl rfl hl.1 rfl (by rw [cs_n]; exact Nat.le_of_ble_eq_true rfl) dX2_letter_15 (fun H locs cells slots hst => ?_)
      obtain ⟨rfl, rfl⟩ := jm_ret_some hf
      exact jw_out hK hst hq12 (fun z hz => absurd hz (hto z)) hlk
    refine jw_VX (As := [.int t1, .int (1 : Int32)]) (rest := []) (C := RX2) (T := TX2) (N := 3) (rv := t0) (jt_X2_must l hl0 g b sa N a5 t1 (1 : Int32) Mm1 Mm3 (.inl x2) h4) C0 hK hKX hst (jm_mono h4) (jm_le_tr hb10 jm_le_rf) q170 q172 qs2 q74 q173 hd_X2_must ⟨Nat.le_of_ble_eq_true rfl, Nat.le_of_ble_eq_true rfl⟩ hea5 hr7 rfl rfl hl.1 rfl (by rw [cs_n]; exact Nat.le_of_ble_eq_true rfl) dX2_letter_15 (fun H locs cells slots hst => ?_)
    refine W.eq (g2 := F0 m 18 ls []) rfl ?_
    refine jw_aload_n (r := (some a0)) hx hb dX2_letter_18 rfl (lv_at hl 0 rfl) ?_
    refine lv_dup hx hb dX2_letter_19 (va_rf_cat _) ?_
    obtain ⟨x13, h14, hf⟩ := jm_rd_some hf
    refine jw_getI hx hb hts hown hK hst (fl_X2_19 hts hK) h14 dX2_letter_20 ?_
    refine lv_iconst (v := 1) hx hb dX2_letter_23 (by decide) ?_
    refine lv_iadd hx hb dX2_letter_24 ?_
    obtain ⟨F15, h16, hf⟩ := jm_wr_some hf
    refine jw_put (r := (some a0)) hx hb hts hown hK hst (fw_X2_19 hts) h16 rfl rfl dX2_letter_25 (fun H locs hst => ?_)
    generalize ((Mm3.1, Mm3.2.1, F15) : Mem) = Mm17 at hf hst
    obtain ⟨rfl, rfl⟩ := jm_ret_some hf
    exact jw_vret C0 hst dX2_letter_28
  unfold jf_X2_letter at hf
  refine jw_aload_n (r := (some a0)) hx hb dX2_letter_0 rfl (lv_at hl 0 rfl) ?_
  refine jw_aload_n (r := (some a0)) hx hb dX2_letter_1 rfl (lv_at hl 0 rfl) ?_
  obtain ⟨a21, h22, hf⟩ := jm_rd_some hf
  obtain ⟨fsa21, hea21, hr23⟩ := jm_cl_some h22
  obtain ⟨x18, Mm19, h20, hf⟩ := jm_bd_some hf
  refine jw_V (As := []) (rest := [va_rf (some a0)]) (C := RX2) (T := TX2) (N := 3) (rv := (some a0)) (jt_X2_look l g b N a21  M Mm19 x18 h20) C0 hK hst (jm_mono h20) (jm_le_tr (jm_mono hf) jm_le_rf) q165 q167 qs1 q74 q168 hd_X2_look ⟨Nat.le_of_ble_eq_true rfl, Nat.le_of_ble_eq_true rfl⟩ hea21 hr23 rfl rfl hl.1 rfl (by rw [cs_r, cs_n]; exact Nat.le_of_ble_eq_true rfl) dX2_letter_2 (fun H locs cells slots hst => ?_)
  refine W.eq (g2 := F0 m 5 ls [.int x18, va_rf (some a0)]) rfl ?_
  refine lv_iload_n hx hb dX2_letter_5 rfl (lv_at hl 1 rfl) ?_
  refine lv_icmp_ne (tgt := 13) hx hb dX2_letter_6 (by decide) (fun hc => ?_) (fun hc => ?_)
  · rw [if_neg hc] at hf
    refine lv_iconst (v := 0) hx hb dX2_letter_13 (by decide) ?_
    exact J14 a0 (some a0) (0 : Int32) _ hf _ _ _ _ _ hst (lv_sub hl [0] rfl)
  · rw [if_pos hc] at hf
    refine lv_iconst (v := 1) hx hb dX2_letter_9 (by decide) ?_
    refine lv_goto (tgt := 14) hx hb dX2_letter_10 (by decide) ?_
    exact J14 a0 (some a0) (1 : Int32) _ hf _ _ _ _ _ hst (lv_sub hl [0] rfl)
theorem hd_X2_token : yX2_token.cls = RX2 ∧ yX2_token.cls ≠ "java/lang/invoke/MethodHandle" ∧ yX2_token.cls ≠ "java/lang/invoke/VarHandle" ∧ (parseMethodDescriptor yX2_token.desc).map (fun d => d.parameters.length) = some 0 := by decide +kernel
def jf_X2_digit_j14 (N : Nat) (a0 : Nat) (v1 : Int32) (v2 : Int32) (t0 : Option Nat) (t1 : Int32) : jm_P (Int32 ⊕ Nat) :=
  jm_rd (jm_cl 2 t0) fun a5 =>
  jm_bx (jf_X2_must N a5 t1 (1 : Int32)) (fun q8 => jm_ret (.inr q8)) fun x2 =>
  jm_rd (jm_cl 2 (some a0)) fun a16 =>
  jm_bd (jf_X2_look N a16 ) fun x13 =>
  jm_bd (jf_X0_isIn N ((x13 - (48 : Int32)).toInt64) (v1.toInt64) (v2.toInt64)) fun x19 =>
  jm_rd (jm_cl 2 (some a0)) fun a25 =>
  jm_bx (jf_X2_must N a25 x19 (2 : Int32)) (fun q28 => jm_ret (.inr q28)) fun x22 =>
  jm_rd (jm_fI [2] 2 (some a0)) fun x33 =>
  jm_wr (jm_put [2] 2 (.int (x33 + (1 : Int32))) (some a0)) <|
  jm_ret (.inl (x13 - (48 : Int32)))
def jf_X2_digit (N : Nat) (a0 : Nat) (v1 : Int32) (v2 : Int32) : jm_P (Int32 ⊕ Nat) :=
  jm_rd (jm_cl 2 (some a0)) fun a41 =>
  jm_bd (jf_X2_token N a41 ) fun x38 =>
  if x38 = (2 : Int32) then (
    jf_X2_digit_j14 N a0 v1 v2 (some a0) (1 : Int32))
  else
    jf_X2_digit_j14 N a0 v1 v2 (some a0) (0 : Int32)
set_option maxHeartbeats 4000000 in
set_option maxRecDepth 100000 in
theorem jt_X2_digit (l : Launch) (hl0 : l.stackTraces = false) (g : GD) (b sa N : Nat) (a0 : Nat) (v1 : Int32) (v2 : Int32) (M M' : Mem) (r : (Int32 ⊕ Nat)) (hf : (jf_X2_digit N a0 v1 v2).1 M = some (r, M')) : jm_MX l g b sa yX2_digit (ws_ yX2_digit cX2_digit 4 (some .int)) 6 112 [va_rf (some a0), .int v1, .int v2] M M' (jm_xo (fun v => some (.int v)) r) := by
  refine jm_startX (by decide) (jm_mono hf) (by rw [lg_sl_r, lg_sl_i, lg_sl_i, lg_sl_n]; exact Nat.le_of_ble_eq_true rfl) ?_
  intro p e s m args below meth c ls C0 hin hK hKX hst hl hto
  obtain ⟨hx, hb, hml, hown, hts, hr, hlk⟩ := id C0
  have hown : s.vm.findClass RX2 = some m.cls := hown
  have C0 : jm_Cx p s m args meth c cX2_digit 4 (some .int) RX2 := C0
  rw [lv_args_r, lv_args_i, lv_args_i, lv_args_n] at hl
  have hl : lv_has ls 4 [(0, va_rf (some a0)), (1, .int v1), (2, .int v2)] := hl
  have J14 : ∀ (a0 : Nat) (v1 : Int32) (v2 : Int32) (t0 : Option Nat) (t1 : Int32) (Mm1 : Mem), (jf_X2_digit_j14 N a0 v1 v2 t0 t1).1 Mm1 = some (r, M') → ∀ (H : Heap) (locs : List Loc) (cells slots : Nat) (ls : Array Slot), jm_St g b M M' Mm1 s (jm_rm 6 112 M M') H locs cells slots → lv_has ls 4 [(0, va_rf (some a0)), (1, .int v1), (2, .int v2)] → W p l e (jm_rm 6 112 M M') s m args below meth c H locs cells slots (jm_MQX below g b (jm_xo (fun v => some (.int v)) r) M M' args s) (F0 m 14 ls [.int t1, va_rf t0]) := by
    intro a0 v1 v2 t0 t1 Mm1 hf H locs cells slots ls hst hl
    unfold jf_X2_digit_j14 at hf
    refine lv_iconst (v := 1) hx hb dX2_digit_14 (by decide) ?_
    obtain ⟨a5, h6, hf⟩ := jm_rd_some hf
    obtain ⟨fsa5, hea5, hr7⟩ := jm_cl_some h6
    obtain ⟨y9, Mm3, h4, hb10, hy11⟩ := jm_bx_some hf
    rcases hy11 with ⟨q8, rfl, ⟨fsq8, hq12⟩, hf⟩ | ⟨x2, rfl, hf⟩
    · refine jw_VT (As := [.int t1, .int (1 : Int32)]) (rest := []) (C := RX2) (T := TX2) (N := 3) (rv := t0) (jt_X2_must l hl0 g b sa N a5 t1 (1 : Int32) Mm1 Mm3 (.inr q8) h4) C0 hK hKX hst (jm_mono h4) (jm_le_tr hb10 jm_le_rf) q170 q172 qs2 q74 q173 hd_X2_must ⟨Nat.le_of_ble_eq_true rfl, Nat.le_of_ble_eq_true rfl⟩ hea5 hr7 rfl rfl hl.1 rfl (by rw [cs_n]; exact Nat.le_of_ble_eq_true rfl) dX2_digit_15 (fun H locs cells slots hst => ?_)
      obtain ⟨rfl, rfl⟩ := jm_ret_some hf
      exact jw_out hK hst hq12 (fun z hz => absurd hz (hto z)) hlk
    refine jw_VX (As := [.int t1, .int (1 : Int32)]) (rest := []) (C := RX2) (T := TX2) (N := 3) (rv := t0) (jt_X2_must l hl0 g b sa N a5 t1 (1 : Int32) Mm1 Mm3 (.inl x2) h4) C0 hK hKX hst (jm_mono h4) (jm_le_tr hb10 jm_le_rf) q170 q172 qs2 q74 q173 hd_X2_must ⟨Nat.le_of_ble_eq_true rfl, Nat.le_of_ble_eq_true rfl⟩ hea5 hr7 rfl rfl hl.1 rfl (by rw [cs_n]; exact Nat.le_of_ble_eq_true rfl) dX2_digit_15 (fun H locs cells slots hst => ?_)
    refine W.eq (g2 := F0 m 18 ls []) rfl ?_
    refine jw_aload_n (r := (some a0)) hx hb dX2_digit_18 rfl (lv_at hl 0 rfl) ?_
    obtain ⟨a16, h17, hf⟩ := jm_rd_some hf
    obtain ⟨fsa16, hea16, hr18⟩ := jm_cl_some h17
    obtain ⟨x13, Mm14, h15, hf⟩ := jm_bd_some hf
    refine jw_V (As := []) (rest := []) (C := RX2) (T := TX2) (N := 3) (rv := (some a0)) (jt_X2_look l g b N a16  Mm3 Mm14 x13 h15) C0 hK hst (jm_mono h15) (jm_le_tr (jm_mono hf) jm_le_rf) q165 q167 qs1 q74 q168 hd_X2_look ⟨Nat.le_of_ble_eq_true rfl, Nat.le_of_ble_eq_true rfl⟩ hea16 hr18 rfl rfl hl.1 rfl (by rw [cs_n]; exact Nat.le_of_ble_eq_true rfl) dX2_digit_19 (fun H locs cells slots hst => ?_)
    refine W.eq (g2 := F0 m 22 ls [.int x13]) rfl ?_
    refine lv_bipush (v := 48) hx hb dX2_digit_22 (by decide) ?_
    refine lv_isub hx hb dX2_digit_24 ?_
    refine lv_istore_n (i := 3) (lv' := [(3, .int (x13 - (48 : Int32))), (0, va_rf (some a0)), (1, .int v1), (2, .int v2)]) hx hb dX2_digit_25 rfl hl (by decide) rfl (fun ls hl => ?_)
    refine jw_aload_n (r := (some a0)) hx hb dX2_digit_26 rfl (lv_at hl 1 rfl) ?_
    refine lv_iload_n hx hb dX2_digit_27 rfl (lv_at hl 0 rfl) ?_
    refine lv_i2l hx hb dX2_digit_28 rfl ?_
    refine lv_iload_n hx hb dX2_digit_29 rfl (lv_at hl 2 rfl) ?_
    refine lv_i2l hx hb dX2_digit_30 rfl ?_
    refine lv_iload_n hx hb dX2_digit_31 rfl (lv_at hl 3 rfl) ?_
    refine lv_i2l hx hb dX2_digit_32 rfl ?_
    obtain ⟨x19, Mm20, h21, hf⟩ := jm_bd_some hf
    refine jw_SN (As := [.long ((x13 - (48 : Int32)).toInt64), .long (v1.toInt64), .long (v2.toInt64)]) (rest := [va_rf (some a0)]) (jt_X0_isIn l g b N ((x13 - (48 : Int32)).toInt64) (v1.toInt64) (v2.toInt64) Mm14 Mm20 x19 h21) C0 hK hst (jm_mono h21) (jm_le_tr (jm_mono hf) jm_le_rf) nq253 q132 q72 q133 hd_X0_isIn.2 ⟨Nat.le_of_ble_eq_true rfl, Nat.le_of_ble_eq_true rfl⟩ rfl hl.1 rfl (by rw [cs_r, cs_n]; exact Nat.le_of_ble_eq_true rfl) dX2_digit_33 (fun H locs cells slots hst => ?_)
    refine W.eq (g2 := F0 m 36 ls [.int x19, va_rf (some a0)]) rfl ?_
    refine lv_iconst (v := 2) hx hb dX2_digit_36 (by decide) ?_
    obtain ⟨a25, h26, hf⟩ := jm_rd_some hf
    obtain ⟨fsa25, hea25, hr27⟩ := jm_cl_some h26
    obtain ⟨y29, Mm23, h24, hb30, hy31⟩ := jm_bx_some hf
    rcases hy31 with ⟨q28, rfl, ⟨fsq28, hq32⟩, hf⟩ | ⟨x22, rfl, hf⟩
    · refine jw_VT (As := [.int x19, .int (2 : Int32)]) (rest := []) (C := RX2) (T := TX2) (N := 3) (rv := (some a0)) (jt_X2_must l hl0 g b sa N a25 x19 (2 : Int32) Mm20 Mm23 (.inr q28) h24) C0 hK hKX hst (jm_mono h24) (jm_le_tr hb30 jm_le_rf) q170 q172 qs2 q74 q173 hd_X2_must ⟨Nat.le_of_ble_eq_true rfl, Nat.le_of_ble_eq_true rfl⟩ hea25 hr27 rfl rfl hl.1 rfl (by rw [cs_n]; exact Nat.le_of_ble_eq_true rfl) dX2_digit_37 (fun H locs cells slots hst => ?_)
      obtain ⟨rfl, rfl⟩ := jm_ret_some hf
      exact jw_out hK hst hq32 (fun z hz => absurd hz (hto z)) hlk
    refine jw_VX (As := [.int x19, .int (2 : Int32)]) (rest := []) (C := RX2) (T := TX2) (N := 3) (rv := (some a0)) (jt_X2_must l hl0 g b sa N a25 x19 (2 : Int32) Mm20 Mm23 (.inl x22) h24) C0 hK hKX hst (jm_mono h24) (jm_le_tr hb30 jm_le_rf) q170 q172 qs2 q74 q173 hd_X2_must ⟨Nat.le_of_ble_eq_true rfl, Nat.le_of_ble_eq_true rfl⟩ hea25 hr27 rfl rfl hl.1 rfl (by rw [cs_n]; exact Nat.le_of_ble_eq_true rfl) dX2_digit_37 (fun H locs cells slots hst => ?_)
    refine W.eq (g2 := F0 m 40 ls []) rfl ?_
    refine jw_aload_n (r := (some a0)) hx hb dX2_digit_40 rfl (lv_at hl 1 rfl) ?_
    refine lv_dup hx hb dX2_digit_41 (va_rf_cat _) ?_
    obtain ⟨x33, h34, hf⟩ := jm_rd_some hf
    refine jw_getI hx hb hts hown hK hst (fl_X2_19 hts hK) h34 dX2_digit_42 ?_
    refine lv_iconst (v := 1) hx hb dX2_digit_45 (by decide) ?_
    refine lv_iadd hx hb dX2_digit_46 ?_
    obtain ⟨F35, h36, hf⟩ := jm_wr_some hf
    refine jw_put (r := (some a0)) hx hb hts hown hK hst (fw_X2_19 hts) h36 rfl rfl dX2_digit_47 (fun H locs hst => ?_)
    generalize ((Mm23.1, Mm23.2.1, F35) : Mem) = Mm37 at hf hst
    refine lv_iload_n hx hb dX2_digit_50 rfl (lv_at hl 0 rfl) ?_
    obtain ⟨rfl, rfl⟩ := jm_ret_some hf
    exact jw_iret C0 hst dX2_digit_51
  unfold jf_X2_digit at hf
  refine jw_aload_n (r := (some a0)) hx hb dX2_digit_0 rfl (lv_at hl 0 rfl) ?_
  refine jw_aload_n (r := (some a0)) hx hb dX2_digit_1 rfl (lv_at hl 0 rfl) ?_
  obtain ⟨a41, h42, hf⟩ := jm_rd_some hf
  obtain ⟨fsa41, hea41, hr43⟩ := jm_cl_some h42
  obtain ⟨x38, Mm39, h40, hf⟩ := jm_bd_some hf
  refine jw_V (As := []) (rest := [va_rf (some a0)]) (C := RX2) (T := TX2) (N := 3) (rv := (some a0)) (jt_X2_token l g b N a41  M Mm39 x38 h40) C0 hK hst (jm_mono h40) (jm_le_tr (jm_mono hf) jm_le_rf) q247 q249 qs5 q74 q250 hd_X2_token ⟨Nat.le_of_ble_eq_true rfl, Nat.le_of_ble_eq_true rfl⟩ hea41 hr43 rfl rfl hl.1 rfl (by rw [cs_r, cs_n]; exact Nat.le_of_ble_eq_true rfl) dX2_digit_2 (fun H locs cells slots hst => ?_)
  refine W.eq (g2 := F0 m 5 ls [.int x38, va_rf (some a0)]) rfl ?_
  refine lv_iconst (v := 2) hx hb dX2_digit_5 (by decide) ?_
  refine lv_icmp_ne (tgt := 13) hx hb dX2_digit_6 (by decide) (fun hc => ?_) (fun hc => ?_)
  · rw [if_neg hc] at hf
    refine lv_iconst (v := 0) hx hb dX2_digit_13 (by decide) ?_
    exact J14 a0 v1 v2 (some a0) (0 : Int32) _ hf _ _ _ _ _ hst (lv_sub hl [0, 1, 2] rfl)
  · rw [if_pos hc] at hf
    refine lv_iconst (v := 1) hx hb dX2_digit_9 (by decide) ?_
    refine lv_goto (tgt := 14) hx hb dX2_digit_10 (by decide) ?_
    exact J14 a0 v1 v2 (some a0) (1 : Int32) _ hf _ _ _ _ _ hst (lv_sub hl [0, 1, 2] rfl)
def jf_X2_stop_j14 (N : Nat) (a0 : Nat) (t0 : Option Nat) (t1 : Int32) : jm_P (Unit ⊕ Nat) :=
  jm_rd (jm_cl 2 t0) fun a5 =>
  jm_bx (jf_X2_must N a5 t1 (1 : Int32)) (fun q8 => jm_ret (.inr q8)) fun x2 =>
  jm_rd (jm_fI [2] 2 (some a0)) fun x13 =>
  jm_wr (jm_put [2] 2 (.int (x13 + (1 : Int32))) (some a0)) <|
  jm_ret (.inl ())
def jf_X2_stop (N : Nat) (a0 : Nat) : jm_P (Unit ⊕ Nat) :=
  jm_rd (jm_cl 2 (some a0)) fun a21 =>
  jm_bd (jf_X2_token N a21 ) fun x18 =>
  if x18 = (3 : Int32) then (
    jf_X2_stop_j14 N a0 (some a0) (1 : Int32))
  else
    jf_X2_stop_j14 N a0 (some a0) (0 : Int32)
set_option maxHeartbeats 4000000 in
set_option maxRecDepth 100000 in
theorem jt_X2_stop (l : Launch) (hl0 : l.stackTraces = false) (g : GD) (b sa N : Nat) (a0 : Nat) (M M' : Mem) (r : (Unit ⊕ Nat)) (hf : (jf_X2_stop N a0).1 M = some (r, M')) : jm_MX l g b sa yX2_stop (ws_ yX2_stop cX2_stop 1 none) 6 112 [va_rf (some a0)] M M' (jm_xo (fun _ => none) r) := by
  refine jm_startX (by decide) (jm_mono hf) (by rw [lg_sl_r, lg_sl_n]; exact Nat.le_of_ble_eq_true rfl) ?_
  intro p e s m args below meth c ls C0 hin hK hKX hst hl hto
  obtain ⟨hx, hb, hml, hown, hts, hr, hlk⟩ := id C0
  have hown : s.vm.findClass RX2 = some m.cls := hown
  have C0 : jm_Cx p s m args meth c cX2_stop 1 none RX2 := C0
  rw [lv_args_r, lv_args_n] at hl
  have hl : lv_has ls 1 [(0, va_rf (some a0))] := hl
  have J14 : ∀ (a0 : Nat) (t0 : Option Nat) (t1 : Int32) (Mm1 : Mem), (jf_X2_stop_j14 N a0 t0 t1).1 Mm1 = some (r, M') → ∀ (H : Heap) (locs : List Loc) (cells slots : Nat) (ls : Array Slot), jm_St g b M M' Mm1 s (jm_rm 6 112 M M') H locs cells slots → lv_has ls 1 [(0, va_rf (some a0))] → W p l e (jm_rm 6 112 M M') s m args below meth c H locs cells slots (jm_MQX below g b (jm_xo (fun _ => none) r) M M' args s) (F0 m 14 ls [.int t1, va_rf t0]) := by
    intro a0 t0 t1 Mm1 hf H locs cells slots ls hst hl
    unfold jf_X2_stop_j14 at hf
    refine lv_iconst (v := 1) hx hb dX2_stop_14 (by decide) ?_
    obtain ⟨a5, h6, hf⟩ := jm_rd_some hf
    obtain ⟨fsa5, hea5, hr7⟩ := jm_cl_some h6
    obtain ⟨y9, Mm3, h4, hb10, hy11⟩ := jm_bx_some hf
    rcases hy11 with ⟨q8, rfl, ⟨fsq8, hq12⟩, hf⟩ | ⟨x2, rfl, hf⟩
    · refine jw_VT (As := [.int t1, .int (1 : Int32)]) (rest := []) (C := RX2) (T := TX2) (N := 3) (rv := t0) (jt_X2_must l hl0 g b sa N a5 t1 (1 : Int32) Mm1 Mm3 (.inr q8) h4) C0 hK hKX hst (jm_mono h4) (jm_le_tr hb10 jm_le_rf) q170 q172 qs2 q74 q173 hd_X2_must ⟨Nat.le_of_ble_eq_true rfl, Nat.le_of_ble_eq_true rfl⟩ hea5 hr7 rfl rfl hl.1 rfl (by rw [cs_n]; exact Nat.le_of_ble_eq_true rfl) dX2_stop_15 (fun H locs cells slots hst => ?_)
      obtain ⟨rfl, rfl⟩ := jm_ret_some hf
      exact jw_out hK hst hq12 (fun z hz => absurd hz (hto z)) hlk
    refine jw_VX (As := [.int t1, .int (1 : Int32)]) (rest := []) (C := RX2) (T := TX2) (N := 3) (rv := t0) (jt_X2_must l hl0 g b sa N a5 t1 (1 : Int32) Mm1 Mm3 (.inl x2) h4) C0 hK hKX hst (jm_mono h4) (jm_le_tr hb10 jm_le_rf) q170 q172 qs2 q74 q173 hd_X2_must ⟨Nat.le_of_ble_eq_true rfl, Nat.le_of_ble_eq_true rfl⟩ hea5 hr7 rfl rfl hl.1 rfl (by rw [cs_n]; exact Nat.le_of_ble_eq_true rfl) dX2_stop_15 (fun H locs cells slots hst => ?_)
    refine W.eq (g2 := F0 m 18 ls []) rfl ?_
    refine jw_aload_n (r := (some a0)) hx hb dX2_stop_18 rfl (lv_at hl 0 rfl) ?_
    refine lv_dup hx hb dX2_stop_19 (va_rf_cat _) ?_
    obtain ⟨x13, h14, hf⟩ := jm_rd_some hf
    refine jw_getI hx hb hts hown hK hst (fl_X2_19 hts hK) h14 dX2_stop_20 ?_
    refine lv_iconst (v := 1) hx hb dX2_stop_23 (by decide) ?_
    refine lv_iadd hx hb dX2_stop_24 ?_
    obtain ⟨F15, h16, hf⟩ := jm_wr_some hf
    refine jw_put (r := (some a0)) hx hb hts hown hK hst (fw_X2_19 hts) h16 rfl rfl dX2_stop_25 (fun H locs hst => ?_)
    generalize ((Mm3.1, Mm3.2.1, F15) : Mem) = Mm17 at hf hst
    obtain ⟨rfl, rfl⟩ := jm_ret_some hf
    exact jw_vret C0 hst dX2_stop_28
  unfold jf_X2_stop at hf
  refine jw_aload_n (r := (some a0)) hx hb dX2_stop_0 rfl (lv_at hl 0 rfl) ?_
  refine jw_aload_n (r := (some a0)) hx hb dX2_stop_1 rfl (lv_at hl 0 rfl) ?_
  obtain ⟨a21, h22, hf⟩ := jm_rd_some hf
  obtain ⟨fsa21, hea21, hr23⟩ := jm_cl_some h22
  obtain ⟨x18, Mm19, h20, hf⟩ := jm_bd_some hf
  refine jw_V (As := []) (rest := [va_rf (some a0)]) (C := RX2) (T := TX2) (N := 3) (rv := (some a0)) (jt_X2_token l g b N a21  M Mm19 x18 h20) C0 hK hst (jm_mono h20) (jm_le_tr (jm_mono hf) jm_le_rf) q247 q249 qs5 q74 q250 hd_X2_token ⟨Nat.le_of_ble_eq_true rfl, Nat.le_of_ble_eq_true rfl⟩ hea21 hr23 rfl rfl hl.1 rfl (by rw [cs_r, cs_n]; exact Nat.le_of_ble_eq_true rfl) dX2_stop_2 (fun H locs cells slots hst => ?_)
  refine W.eq (g2 := F0 m 5 ls [.int x18, va_rf (some a0)]) rfl ?_
  refine lv_iconst (v := 3) hx hb dX2_stop_5 (by decide) ?_
  refine lv_icmp_ne (tgt := 13) hx hb dX2_stop_6 (by decide) (fun hc => ?_) (fun hc => ?_)
  · rw [if_neg hc] at hf
    refine lv_iconst (v := 0) hx hb dX2_stop_13 (by decide) ?_
    exact J14 a0 (some a0) (0 : Int32) _ hf _ _ _ _ _ hst (lv_sub hl [0] rfl)
  · rw [if_pos hc] at hf
    refine lv_iconst (v := 1) hx hb dX2_stop_9 (by decide) ?_
    refine lv_goto (tgt := 14) hx hb dX2_stop_10 (by decide) ?_
    exact J14 a0 (some a0) (1 : Int32) _ hf _ _ _ _ _ hst (lv_sub hl [0] rfl)
theorem fl_X2_59 {g : GD} {s : State} {args : Array Value} (hts : ∀ w ∈ lw_all, w.before args s = true) (hK : jm_KG g s) : ∀ q ∈ ([5, 6] : List Nat), jm_FL s args RX2 59 q 1 := by
  intro q hq
  simp only [List.mem_cons, List.not_mem_nil, or_false] at hq
  rcases hq with rfl | rfl
  · exact ⟨RX5, TX5, 3, rfl, in_X5, by decide, "ChainParts$EdgeCell", Or.inl (hts _ q287), fun _ h => h⟩
  · exact ⟨RX6, TX6, 3, rfl, in_X6, by decide, "ChainParts$EdgeCell", Or.inl (hts _ q287), fun _ h => h⟩
theorem fl_X2_64 {g : GD} {s : State} {args : Array Value} (hts : ∀ w ∈ lw_all, w.before args s = true) (hK : jm_KG g s) : ∀ q ∈ ([5, 6] : List Nat), jm_FL s args RX2 64 q 0 := by
  intro q hq
  simp only [List.mem_cons, List.not_mem_nil, or_false] at hq
  rcases hq with rfl | rfl
  · exact ⟨RX5, TX5, 3, rfl, in_X5, by decide, "ChainParts$EdgeCell", Or.inl (hts _ q283), fun _ h => h⟩
  · exact ⟨RX6, TX6, 3, rfl, in_X6, by decide, "ChainParts$EdgeCell", Or.inl (hts _ q283), fun _ h => h⟩
theorem hd_X2_edgeOf : yX2_edgeOf.cls = RX2 ∧ yX2_edgeOf.cls ≠ "java/lang/invoke/MethodHandle" ∧ yX2_edgeOf.cls ≠ "java/lang/invoke/VarHandle" ∧ (parseMethodDescriptor yX2_edgeOf.desc).map (fun d => d.parameters.length) = some 1 := by decide +kernel
def jf_X2_word_j226 (N : Nat) (v3 : Option Nat) (v4 : Int32) (v5 : Int32) (v6 : Int32) (t0 : Option Nat) (t1 : Int32) : jm_P ((Option Nat) ⊕ Nat) :=
  jm_rd (jm_cl 2 t0) fun a5 =>
  jm_bx (jf_X2_must N a5 t1 (2 : Int32)) (fun q8 => jm_ret (.inr q8)) fun x2 =>
  jm_rd (jm_ck (¬ v4 < 0 ∧ v4.toNatClampNeg ≤ 1000)) fun _ =>
  jm_al (.inl (0, v4.toNatClampNeg, .inl (fun _ => 0))) fun q14 =>
  jm_wr (jm_cpI 0 v3 (0 : Int32) (some q14) (0 : Int32) v4) <|
  if v5 = v6 then (
    jm_ret (.inl (some q14)))
  else
    jm_ret (.inl none)
def jf_X2_word_j221 (N : Nat) (v3 : Option Nat) (v4 : Int32) (v5 : Int32) (v6 : Int32) (t0 : Option Nat) : jm_P ((Option Nat) ⊕ Nat) :=
  jf_X2_word_j226 N v3 v4 v5 v6 t0 (1 : Int32)
def jf_X2_word_j202 (N : Nat) (a0 : Nat) (v3 : Option Nat) (v4 : Int32) (v5 : Int32) (v6 : Int32) (t0 : Option Nat) (t1 : Int32) : jm_P ((Option Nat) ⊕ Nat) :=
  jm_rd (jm_cl 2 t0) fun a24 =>
  jm_bx (jf_X2_must N a24 t1 (1 : Int32)) (fun q27 => jm_ret (.inr q27)) fun x21 =>
  jm_rd (jm_cl 2 (some a0)) fun a35 =>
  jm_bd (jf_X2_token N a35 ) fun x32 =>
  if x32 = 0 then (
    jf_X2_word_j221 N v3 v4 v5 v6 (some a0))
  else
    if v5 = v6 then (
      jf_X2_word_j221 N v3 v4 v5 v6 (some a0))
    else
      jf_X2_word_j226 N v3 v4 v5 v6 (some a0) (0 : Int32)
def jf_X2_word_j201 (N : Nat) (a0 : Nat) (v3 : Option Nat) (v4 : Int32) (v5 : Int32) (v6 : Int32) (t0 : Option Nat) : jm_P ((Option Nat) ⊕ Nat) :=
  jf_X2_word_j202 N a0 v3 v4 v5 v6 t0 (0 : Int32)
def jf_X2_word_j197 (N : Nat) (a0 : Nat) (v3 : Option Nat) (v4 : Int32) (v5 : Int32) (v6 : Int32) (t0 : Option Nat) : jm_P ((Option Nat) ⊕ Nat) :=
  jf_X2_word_j202 N a0 v3 v4 v5 v6 t0 (1 : Int32)
def jf_X2_word_k15_176 (N : Nat) (a0 : Nat) (v3 : Option Nat) (v4 : Int32) (v5 : Int32) (v6 : Int32) : jm_P ((Option Nat) ⊕ Nat) :=
  if v4 ≤ 0 then (
    jf_X2_word_j201 N a0 v3 v4 v5 v6 (some a0))
  else
    jm_rd (jm_cl 2 (some a0)) fun a44 =>
    jm_bd (jf_X2_token N a44 ) fun x41 =>
    if x41 = (3 : Int32) then (
      jf_X2_word_j197 N a0 v3 v4 v5 v6 (some a0))
    else
      jm_rd (jm_cl 2 (some a0)) fun a50 =>
      jm_bd (jf_X2_token N a50 ) fun x47 =>
      if x47 = 0 then (
        jf_X2_word_j197 N a0 v3 v4 v5 v6 (some a0))
      else
        jf_X2_word_j201 N a0 v3 v4 v5 v6 (some a0)
def jf_X2_word_j152 (N : Nat) (a0 : Nat) (v1 : Option Nat) (v2 : Int32) (v3 : Option Nat) (v4 : Int32) (v5 : Int32) (v7 : Int32) (t0 : Int32) : jm_P ((Int32 × Int32 × Int32) ⊕ ((Int32 × Int32 × Int32) ⊕ Nat)) :=
  jm_wr (jm_stI 0 v3 v4 v7) <|
  jm_rd (jm_fI [2] 2 (some a0)) fun x60 =>
  jm_wr (jm_put [2] 2 (.int (x60 + (1 : Int32))) (some a0)) <|
  jm_ret (.inl ((v4 + 1), v5, t0))
def jf_X2_word_j128 (N : Nat) (a0 : Nat) (v1 : Option Nat) (v2 : Int32) (v3 : Option Nat) (v4 : Int32) (v7 : Int32) (v8 : Int32) (t0 : Int32) : jm_P ((Int32 × Int32 × Int32) ⊕ ((Int32 × Int32 × Int32) ⊕ Nat)) :=
  if 0 ≤ v7 then (
    jm_rd (jm_ldR 4 v1 v8) fun x66 =>
    jm_rd (jm_fI [5, 6] 1 x66) fun x68 =>
    jf_X2_word_j152 N a0 v1 v2 v3 v4 t0 v7 x68)
  else
    jm_rd (jm_ldR 4 v1 v8) fun x70 =>
    jm_rd (jm_fI [5, 6] 0 x70) fun x72 =>
    jf_X2_word_j152 N a0 v1 v2 v3 v4 t0 v7 x72
def jf_X2_word_j112 (N : Nat) (a0 : Nat) (v1 : Option Nat) (v2 : Int32) (v3 : Option Nat) (v4 : Int32) (v5 : Int32) (v7 : Int32) (v8 : Int32) (v9 : Int32) (t0 : Option Nat) (t1 : Int32) : jm_P ((Int32 × Int32 × Int32) ⊕ ((Int32 × Int32 × Int32) ⊕ Nat)) :=
  jm_rd (jm_cl 2 t0) fun a78 =>
  jm_bx (jf_X2_must N a78 t1 (2 : Int32)) (fun q81 => jm_ret (.inr (.inr q81))) fun x75 =>
  if v4 = 0 then (
    jf_X2_word_j128 N a0 v1 v2 v3 v4 v7 v8 v9)
  else
    jf_X2_word_j128 N a0 v1 v2 v3 v4 v7 v8 v5
def jf_X2_word_j107 (N : Nat) (a0 : Nat) (v1 : Option Nat) (v2 : Int32) (v3 : Option Nat) (v4 : Int32) (v5 : Int32) (v7 : Int32) (v8 : Int32) (v9 : Int32) (t0 : Option Nat) : jm_P ((Int32 × Int32 × Int32) ⊕ ((Int32 × Int32 × Int32) ⊕ Nat)) :=
  jf_X2_word_j112 N a0 v1 v2 v3 v4 v5 v7 v8 v9 t0 (1 : Int32)
def jf_X2_word_j92 (N : Nat) (a0 : Nat) (v1 : Option Nat) (v2 : Int32) (v3 : Option Nat) (v4 : Int32) (v5 : Int32) (v6 : Int32) (v7 : Int32) (v8 : Int32) (t0 : Int32) : jm_P ((Int32 × Int32 × Int32) ⊕ ((Int32 × Int32 × Int32) ⊕ Nat)) :=
  if v4 = 0 then (
    jf_X2_word_j107 N a0 v1 v2 v3 v4 v5 v7 v8 t0 (some a0))
  else
    if t0 = v6 then (
      jf_X2_word_j107 N a0 v1 v2 v3 v4 v5 v7 v8 t0 (some a0))
    else
      jf_X2_word_j112 N a0 v1 v2 v3 v4 v5 v7 v8 t0 (some a0) (0 : Int32)
def jf_X2_word_j66 (N : Nat) (a0 : Nat) (v1 : Option Nat) (v2 : Int32) (v3 : Option Nat) (v4 : Int32) (v5 : Int32) (v6 : Int32) (v7 : Int32) (v8 : Int32) (t0 : Option Nat) (t1 : Int32) : jm_P ((Int32 × Int32 × Int32) ⊕ ((Int32 × Int32 × Int32) ⊕ Nat)) :=
  jm_rd (jm_cl 2 t0) fun a92 =>
  jm_bx (jf_X2_must N a92 t1 (2 : Int32)) (fun q95 => jm_ret (.inr (.inr q95))) fun x89 =>
  if 0 ≤ v7 then (
    jm_rd (jm_ldR 4 v1 v8) fun x100 =>
    jm_rd (jm_fI [5, 6] 0 x100) fun x102 =>
    jf_X2_word_j92 N a0 v1 v2 v3 v4 v5 v6 v7 v8 x102)
  else
    jm_rd (jm_ldR 4 v1 v8) fun x104 =>
    jm_rd (jm_fI [5, 6] 1 x104) fun x106 =>
    jf_X2_word_j92 N a0 v1 v2 v3 v4 v5 v6 v7 v8 x106
def jf_X2_word_j65 (N : Nat) (a0 : Nat) (v1 : Option Nat) (v2 : Int32) (v3 : Option Nat) (v4 : Int32) (v5 : Int32) (v6 : Int32) (v7 : Int32) (v8 : Int32) (t0 : Option Nat) : jm_P ((Int32 × Int32 × Int32) ⊕ ((Int32 × Int32 × Int32) ⊕ Nat)) :=
  jf_X2_word_j66 N a0 v1 v2 v3 v4 v5 v6 v7 v8 t0 (0 : Int32)
def jf_X2_word_j46 (N : Nat) (a0 : Nat) (v1 : Option Nat) (v2 : Int32) (v3 : Option Nat) (v4 : Int32) (v5 : Int32) (v6 : Int32) (v7 : Int32) (t0 : Int32) : jm_P ((Int32 × Int32 × Int32) ⊕ ((Int32 × Int32 × Int32) ⊕ Nat)) :=
  if (4 : Int32) ≤ v4 then (
    jf_X2_word_j65 N a0 v1 v2 v3 v4 v5 v6 v7 t0 (some a0))
  else
    if v2 ≤ t0 then (
      jf_X2_word_j65 N a0 v1 v2 v3 v4 v5 v6 v7 t0 (some a0))
    else
      jf_X2_word_j66 N a0 v1 v2 v3 v4 v5 v6 v7 t0 (some a0) (1 : Int32)
def jf_X2_word_L15 (N : Nat) (a0 : Nat) (v1 : Option Nat) (v2 : Int32) (v3 : Option Nat) (v4 : Int32) (v5 : Int32) (v6 : Int32) : jm_P ((Int32 × Int32 × Int32) ⊕ ((Int32 × Int32 × Int32) ⊕ Nat)) :=
  jm_rd (jm_cl 2 (some a0)) fun a114 =>
  jm_bd (jf_X2_token N a114 ) fun x111 =>
  if x111 = (1 : Int32) then (
    jm_rd (jm_cl 2 (some a0)) fun a120 =>
    jm_bd (jf_X2_look N a120 ) fun x117 =>
    jm_bd (jf_X2_edgeOf N x117) fun x123 =>
    if 0 ≤ x123 then (
      jf_X2_word_j46 N a0 v1 v2 v3 v4 v5 v6 x123 x123)
    else
      jf_X2_word_j46 N a0 v1 v2 v3 v4 v5 v6 x123 ((-1 : Int32) - x123))
  else
    jm_ret (.inr (.inl (v4, v5, v6)))
def jf_X2_word (N : Nat) (a0 : Nat) (v1 : Option Nat) (v2 : Int32) : jm_P ((Option Nat) ⊕ Nat) :=
  jm_rd (jm_ck (¬ (4 : Int32) < 0 ∧ (4 : Int32).toNatClampNeg ≤ 1000)) fun _ =>
  jm_al (.inl (0, (4 : Int32).toNatClampNeg, .inl (fun _ => 0))) fun q54 =>
  jm_bd (jm_it (fun z => jf_X2_word_L15 N a0 v1 v2 (some q54) z.1 z.2.1 z.2.2) N ((0 : Int32), (-1000000 : Int32), (-1000000 : Int32))) fun y =>
  match y with
  | .inl y => jf_X2_word_k15_176 N a0 (some q54) y.1 y.2.1 y.2.2
  | .inr y => jm_ret (.inr y)
set_option maxHeartbeats 4000000 in
set_option maxRecDepth 100000 in
theorem jt_X2_word (l : Launch) (hl0 : l.stackTraces = false) (g : GD) (b sa N : Nat) (a0 : Nat) (v1 : Option Nat) (v2 : Int32) (M M' : Mem) (r : ((Option Nat) ⊕ Nat)) (hf : (jf_X2_word N a0 v1 v2).1 M = some (r, M')) : jm_MX l g b sa yX2_word (ws_ yX2_word cX2_word 10 (some (.array .int))) 6 112 [va_rf (some a0), va_rf v1, .int v2] M M' (jm_xo (fun v => some (va_rf v)) r) := by
  refine jm_startX (by decide) (jm_mono hf) (by rw [lg_sl_r, lg_sl_r, lg_sl_i, lg_sl_n]; exact Nat.le_of_ble_eq_true rfl) ?_
  intro p e s m args below meth c ls C0 hin hK hKX hst hl hto
  obtain ⟨hx, hb, hml, hown, hts, hr, hlk⟩ := id C0
  have hown : s.vm.findClass RX2 = some m.cls := hown
  have C0 : jm_Cx p s m args meth c cX2_word 10 (some (.array .int)) RX2 := C0
  rw [lv_args_r, lv_args_r, lv_args_i, lv_args_n] at hl
  have hl : lv_has ls 10 [(0, va_rf (some a0)), (1, va_rf v1), (2, .int v2)] := hl
  have J226 : ∀ (v3 : Option Nat) (v4 : Int32) (v5 : Int32) (v6 : Int32) (t0 : Option Nat) (t1 : Int32) (Mm1 : Mem), (jf_X2_word_j226 N v3 v4 v5 v6 t0 t1).1 Mm1 = some (r, M') → ∀ (H : Heap) (locs : List Loc) (cells slots : Nat) (ls : Array Slot), jm_St g b M M' Mm1 s (jm_rm 6 112 M M') H locs cells slots → lv_has ls 10 [(3, va_rf v3), (4, .int v4), (5, .int v5), (6, .int v6)] → W p l e (jm_rm 6 112 M M') s m args below meth c H locs cells slots (jm_MQX below g b (jm_xo (fun v => some (va_rf v)) r) M M' args s) (F0 m 226 ls [.int t1, va_rf t0]) := by
    intro v3 v4 v5 v6 t0 t1 Mm1 hf H locs cells slots ls hst hl
    unfold jf_X2_word_j226 at hf
    refine lv_iconst (v := 2) hx hb dX2_word_226 (by decide) ?_
    obtain ⟨a5, h6, hf⟩ := jm_rd_some hf
    obtain ⟨fsa5, hea5, hr7⟩ := jm_cl_some h6
    obtain ⟨y9, Mm3, h4, hb10, hy11⟩ := jm_bx_some hf
    rcases hy11 with ⟨q8, rfl, ⟨fsq8, hq12⟩, hf⟩ | ⟨x2, rfl, hf⟩
    · refine jw_VT (As := [.int t1, .int (2 : Int32)]) (rest := []) (C := RX2) (T := TX2) (N := 3) (rv := t0) (jt_X2_must l hl0 g b sa N a5 t1 (2 : Int32) Mm1 Mm3 (.inr q8) h4) C0 hK hKX hst (jm_mono h4) (jm_le_tr hb10 jm_le_rf) q170 q172 qs2 q74 q173 hd_X2_must ⟨Nat.le_of_ble_eq_true rfl, Nat.le_of_ble_eq_true rfl⟩ hea5 hr7 rfl rfl hl.1 rfl (by rw [cs_n]; exact Nat.le_of_ble_eq_true rfl) dX2_word_227 (fun H locs cells slots hst => ?_)
      obtain ⟨rfl, rfl⟩ := jm_ret_some hf
      exact jw_out hK hst hq12 (fun z hz => absurd hz (hto z)) hlk
    refine jw_VX (As := [.int t1, .int (2 : Int32)]) (rest := []) (C := RX2) (T := TX2) (N := 3) (rv := t0) (jt_X2_must l hl0 g b sa N a5 t1 (2 : Int32) Mm1 Mm3 (.inl x2) h4) C0 hK hKX hst (jm_mono h4) (jm_le_tr hb10 jm_le_rf) q170 q172 qs2 q74 q173 hd_X2_must ⟨Nat.le_of_ble_eq_true rfl, Nat.le_of_ble_eq_true rfl⟩ hea5 hr7 rfl rfl hl.1 rfl (by rw [cs_n]; exact Nat.le_of_ble_eq_true rfl) dX2_word_227 (fun H locs cells slots hst => ?_)
    refine W.eq (g2 := F0 m 230 ls []) rfl ?_
    refine lv_iload hx hb dX2_word_230 (lv_at hl 1 rfl) ?_
    obtain ⟨_, h13, hf⟩ := jm_rd_some hf
    have h13 := jm_ck_some h13
    obtain ⟨q14, hq14, hf⟩ := jm_al_some hf
    refine jw_newa (kd := 0) (ty := .int) (atype := .int) (a0 := (v4.toNatClampNeg, .inl (fun _ => 0))) hx hb (hts _ q339) rfl hK hst rfl (fun _ => rfl) rfl (fun h => h) h13.1 rfl (Nat.le_trans (Nat.mul_le_mul_right _ h13.2) (by decide)) (jm_le_tr (jm_mono hf) jm_le_rf) hq14 dX2_word_232 (fun H cells slots hst => ?_)
    generalize jm_new (.inl (0, v4.toNatClampNeg, .inl (fun _ => 0))) Mm3 = Mm15 at hf hst
    refine jw_astore (i := 7) (r := (some q14)) (lv' := [(7, va_rf (some q14)), (3, va_rf v3), (4, .int v4), (5, .int v5), (6, .int v6)]) hx hb dX2_word_234 hl (by decide) rfl (fun ls hl => ?_)
    refine jw_aload_n (r := v3) hx hb dX2_word_236 rfl (lv_at hl 1 rfl) ?_
    refine lv_iconst (v := 0) hx hb dX2_word_237 (by decide) ?_
    refine jw_aload (r := (some q14)) hx hb dX2_word_238 (lv_at hl 0 rfl) ?_
    refine lv_iconst (v := 0) hx hb dX2_word_240 (by decide) ?_
    refine lv_iload hx hb dX2_word_241 (lv_at hl 2 rfl) ?_
    obtain ⟨F16, h17, hf⟩ := jm_wr_some hf
    refine jw_copyI (src := v3) (dst := (some q14)) (rest := []) hx hb hml hl.1 hown (hts _ q315) (hts _ q317) (hts _ q316) (hts _ q81) hK hst h17 (Nat.le_of_ble_eq_true rfl) (by rw [cs_n]; exact Nat.le_of_ble_eq_true rfl) dX2_word_243 (fun H locs hst => ?_)
    generalize ((Mm15.1, Mm15.2.1, F16) : Mem) = Mm18 at hf hst
    refine lv_iload hx hb dX2_word_246 (lv_at hl 3 rfl) ?_
    refine lv_iload hx hb dX2_word_248 (lv_at hl 4 rfl) ?_
    refine lv_icmp_ne (tgt := 258) hx hb dX2_word_250 (by decide) (fun hc => ?_) (fun hc => ?_)
    · rw [if_neg hc] at hf
      refine jw_null hx hb dX2_word_258 ?_
      obtain ⟨rfl, rfl⟩ := jm_ret_some hf
      exact jw_aret C0 (Or.inr ⟨_, rfl⟩) hst dX2_word_259
    · rw [if_pos hc] at hf
      refine jw_aload (r := (some q14)) hx hb dX2_word_253 (lv_at hl 0 rfl) ?_
      refine lv_goto (tgt := 259) hx hb dX2_word_255 (by decide) ?_
      obtain ⟨rfl, rfl⟩ := jm_ret_some hf
      exact jw_aret C0 (Or.inr ⟨_, rfl⟩) hst dX2_word_259
  have J221 : ∀ (v3 : Option Nat) (v4 : Int32) (v5 : Int32) (v6 : Int32) (t0 : Option Nat) (Mm19 : Mem), (jf_X2_word_j221 N v3 v4 v5 v6 t0).1 Mm19 = some (r, M') → ∀ (H : Heap) (locs : List Loc) (cells slots : Nat) (ls : Array Slot), jm_St g b M M' Mm19 s (jm_rm 6 112 M M') H locs cells slots → lv_has ls 10 [(3, va_rf v3), (4, .int v4), (5, .int v5), (6, .int v6)] → W p l e (jm_rm 6 112 M M') s m args below meth c H locs cells slots (jm_MQX below g b (jm_xo (fun v => some (va_rf v)) r) M M' args s) (F0 m 221 ls [va_rf t0]) := by
    intro v3 v4 v5 v6 t0 Mm19 hf H locs cells slots ls hst hl
    unfold jf_X2_word_j221 at hf
    refine lv_iconst (v := 1) hx hb dX2_word_221 (by decide) ?_
    refine lv_goto (tgt := 226) hx hb dX2_word_222 (by decide) ?_
    exact J226 v3 v4 v5 v6 t0 (1 : Int32) _ hf _ _ _ _ _ hst (lv_sub hl [0, 1, 2, 3] rfl)
  have J202 : ∀ (a0 : Nat) (v3 : Option Nat) (v4 : Int32) (v5 : Int32) (v6 : Int32) (t0 : Option Nat) (t1 : Int32) (Mm20 : Mem), (jf_X2_word_j202 N a0 v3 v4 v5 v6 t0 t1).1 Mm20 = some (r, M') → ∀ (H : Heap) (locs : List Loc) (cells slots : Nat) (ls : Array Slot), jm_St g b M M' Mm20 s (jm_rm 6 112 M M') H locs cells slots → lv_has ls 10 [(0, va_rf (some a0)), (3, va_rf v3), (4, .int v4), (5, .int v5), (6, .int v6)] → W p l e (jm_rm 6 112 M M') s m args below meth c H locs cells slots (jm_MQX below g b (jm_xo (fun v => some (va_rf v)) r) M M' args s) (F0 m 202 ls [.int t1, va_rf t0]) := by
    intro a0 v3 v4 v5 v6 t0 t1 Mm20 hf H locs cells slots ls hst hl
    unfold jf_X2_word_j202 at hf
    refine lv_iconst (v := 1) hx hb dX2_word_202 (by decide) ?_
    obtain ⟨a24, h25, hf⟩ := jm_rd_some hf
    obtain ⟨fsa24, hea24, hr26⟩ := jm_cl_some h25
    obtain ⟨y28, Mm22, h23, hb29, hy30⟩ := jm_bx_some hf
    rcases hy30 with ⟨q27, rfl, ⟨fsq27, hq31⟩, hf⟩ | ⟨x21, rfl, hf⟩
    · refine jw_VT (As := [.int t1, .int (1 : Int32)]) (rest := []) (C := RX2) (T := TX2) (N := 3) (rv := t0) (jt_X2_must l hl0 g b sa N a24 t1 (1 : Int32) Mm20 Mm22 (.inr q27) h23) C0 hK hKX hst (jm_mono h23) (jm_le_tr hb29 jm_le_rf) q170 q172 qs2 q74 q173 hd_X2_must ⟨Nat.le_of_ble_eq_true rfl, Nat.le_of_ble_eq_true rfl⟩ hea24 hr26 rfl rfl hl.1 rfl (by rw [cs_n]; exact Nat.le_of_ble_eq_true rfl) dX2_word_203 (fun H locs cells slots hst => ?_)
      obtain ⟨rfl, rfl⟩ := jm_ret_some hf
      exact jw_out hK hst hq31 (fun z hz => absurd hz (hto z)) hlk
    refine jw_VX (As := [.int t1, .int (1 : Int32)]) (rest := []) (C := RX2) (T := TX2) (N := 3) (rv := t0) (jt_X2_must l hl0 g b sa N a24 t1 (1 : Int32) Mm20 Mm22 (.inl x21) h23) C0 hK hKX hst (jm_mono h23) (jm_le_tr hb29 jm_le_rf) q170 q172 qs2 q74 q173 hd_X2_must ⟨Nat.le_of_ble_eq_true rfl, Nat.le_of_ble_eq_true rfl⟩ hea24 hr26 rfl rfl hl.1 rfl (by rw [cs_n]; exact Nat.le_of_ble_eq_true rfl) dX2_word_203 (fun H locs cells slots hst => ?_)
    refine W.eq (g2 := F0 m 206 ls []) rfl ?_
    refine jw_aload_n (r := (some a0)) hx hb dX2_word_206 rfl (lv_at hl 0 rfl) ?_
    refine jw_aload_n (r := (some a0)) hx hb dX2_word_207 rfl (lv_at hl 0 rfl) ?_
    obtain ⟨a35, h36, hf⟩ := jm_rd_some hf
    obtain ⟨fsa35, hea35, hr37⟩ := jm_cl_some h36
    obtain ⟨x32, Mm33, h34, hf⟩ := jm_bd_some hf
    refine jw_V (As := []) (rest := [va_rf (some a0)]) (C := RX2) (T := TX2) (N := 3) (rv := (some a0)) (jt_X2_token l g b N a35  Mm22 Mm33 x32 h34) C0 hK hst (jm_mono h34) (jm_le_tr (jm_mono hf) jm_le_rf) q247 q249 qs5 q74 q250 hd_X2_token ⟨Nat.le_of_ble_eq_true rfl, Nat.le_of_ble_eq_true rfl⟩ hea35 hr37 rfl rfl hl.1 rfl (by rw [cs_r, cs_n]; exact Nat.le_of_ble_eq_true rfl) dX2_word_208 (fun H locs cells slots hst => ?_)
    refine W.eq (g2 := F0 m 211 ls [.int x32, va_rf (some a0)]) rfl ?_
    refine lv_if_eq (tgt := 221) hx hb dX2_word_211 (by decide) (fun hc => ?_) (fun hc => ?_)
    · rw [if_pos hc] at hf
      exact J221 v3 v4 v5 v6 (some a0) _ hf _ _ _ _ _ hst (lv_sub hl [1, 2, 3, 4] rfl)
    · rw [if_neg hc] at hf
      refine lv_iload hx hb dX2_word_214 (lv_at hl 3 rfl) ?_
      refine lv_iload hx hb dX2_word_216 (lv_at hl 4 rfl) ?_
      refine lv_icmp_ne (tgt := 225) hx hb dX2_word_218 (by decide) (fun hc => ?_) (fun hc => ?_)
      · rw [if_neg hc] at hf
        refine lv_iconst (v := 0) hx hb dX2_word_225 (by decide) ?_
        exact J226 v3 v4 v5 v6 (some a0) (0 : Int32) _ hf _ _ _ _ _ hst (lv_sub hl [1, 2, 3, 4] rfl)
      · rw [if_pos hc] at hf
        exact J221 v3 v4 v5 v6 (some a0) _ hf _ _ _ _ _ hst (lv_sub hl [1, 2, 3, 4] rfl)
  have J201 : ∀ (a0 : Nat) (v3 : Option Nat) (v4 : Int32) (v5 : Int32) (v6 : Int32) (t0 : Option Nat) (Mm38 : Mem), (jf_X2_word_j201 N a0 v3 v4 v5 v6 t0).1 Mm38 = some (r, M') → ∀ (H : Heap) (locs : List Loc) (cells slots : Nat) (ls : Array Slot), jm_St g b M M' Mm38 s (jm_rm 6 112 M M') H locs cells slots → lv_has ls 10 [(0, va_rf (some a0)), (3, va_rf v3), (4, .int v4), (5, .int v5), (6, .int v6)] → W p l e (jm_rm 6 112 M M') s m args below meth c H locs cells slots (jm_MQX below g b (jm_xo (fun v => some (va_rf v)) r) M M' args s) (F0 m 201 ls [va_rf t0]) := by
    intro a0 v3 v4 v5 v6 t0 Mm38 hf H locs cells slots ls hst hl
    unfold jf_X2_word_j201 at hf
    refine lv_iconst (v := 0) hx hb dX2_word_201 (by decide) ?_
    exact J202 a0 v3 v4 v5 v6 t0 (0 : Int32) _ hf _ _ _ _ _ hst (lv_sub hl [0, 1, 2, 3, 4] rfl)
  have J197 : ∀ (a0 : Nat) (v3 : Option Nat) (v4 : Int32) (v5 : Int32) (v6 : Int32) (t0 : Option Nat) (Mm39 : Mem), (jf_X2_word_j197 N a0 v3 v4 v5 v6 t0).1 Mm39 = some (r, M') → ∀ (H : Heap) (locs : List Loc) (cells slots : Nat) (ls : Array Slot), jm_St g b M M' Mm39 s (jm_rm 6 112 M M') H locs cells slots → lv_has ls 10 [(0, va_rf (some a0)), (3, va_rf v3), (4, .int v4), (5, .int v5), (6, .int v6)] → W p l e (jm_rm 6 112 M M') s m args below meth c H locs cells slots (jm_MQX below g b (jm_xo (fun v => some (va_rf v)) r) M M' args s) (F0 m 197 ls [va_rf t0]) := by
    intro a0 v3 v4 v5 v6 t0 Mm39 hf H locs cells slots ls hst hl
    unfold jf_X2_word_j197 at hf
    refine lv_iconst (v := 1) hx hb dX2_word_197 (by decide) ?_
    refine lv_goto (tgt := 202) hx hb dX2_word_198 (by decide) ?_
    exact J202 a0 v3 v4 v5 v6 t0 (1 : Int32) _ hf _ _ _ _ _ hst (lv_sub hl [0, 1, 2, 3, 4] rfl)
  have K15_176 : ∀ (a0 : Nat) (v3 : Option Nat) (v4 : Int32) (v5 : Int32) (v6 : Int32) (Mm40 : Mem), (jf_X2_word_k15_176 N a0 v3 v4 v5 v6).1 Mm40 = some (r, M') → ∀ (H : Heap) (locs : List Loc) (cells slots : Nat) (ls : Array Slot), jm_St g b M M' Mm40 s (jm_rm 6 112 M M') H locs cells slots → lv_has ls 10 [(0, va_rf (some a0)), (3, va_rf v3), (4, .int v4), (5, .int v5), (6, .int v6)] → W p l e (jm_rm 6 112 M M') s m args below meth c H locs cells slots (jm_MQX below g b (jm_xo (fun v => some (va_rf v)) r) M M' args s) (F0 m 176 ls []) := by
    intro a0 v3 v4 v5 v6 Mm40 hf H locs cells slots ls hst hl
    unfold jf_X2_word_k15_176 at hf
    refine jw_aload_n (r := (some a0)) hx hb dX2_word_176 rfl (lv_at hl 0 rfl) ?_
    refine lv_iload hx hb dX2_word_177 (lv_at hl 2 rfl) ?_
    refine lv_if_le (tgt := 201) hx hb dX2_word_179 (by decide) (fun hc => ?_) (fun hc => ?_)
    · rw [if_pos hc] at hf
      exact J201 a0 v3 v4 v5 v6 (some a0) _ hf _ _ _ _ _ hst (lv_sub hl [0, 1, 2, 3, 4] rfl)
    · rw [if_neg hc] at hf
      refine jw_aload_n (r := (some a0)) hx hb dX2_word_182 rfl (lv_at hl 0 rfl) ?_
      obtain ⟨a44, h45, hf⟩ := jm_rd_some hf
      obtain ⟨fsa44, hea44, hr46⟩ := jm_cl_some h45
      obtain ⟨x41, Mm42, h43, hf⟩ := jm_bd_some hf
      refine jw_V (As := []) (rest := [va_rf (some a0)]) (C := RX2) (T := TX2) (N := 3) (rv := (some a0)) (jt_X2_token l g b N a44  Mm40 Mm42 x41 h43) C0 hK hst (jm_mono h43) (jm_le_tr (jm_mono hf) jm_le_rf) q247 q249 qs5 q74 q250 hd_X2_token ⟨Nat.le_of_ble_eq_true rfl, Nat.le_of_ble_eq_true rfl⟩ hea44 hr46 rfl rfl hl.1 rfl (by rw [cs_r, cs_n]; exact Nat.le_of_ble_eq_true rfl) dX2_word_183 (fun H locs cells slots hst => ?_)
      refine W.eq (g2 := F0 m 186 ls [.int x41, va_rf (some a0)]) rfl ?_
      refine lv_iconst (v := 3) hx hb dX2_word_186 (by decide) ?_
      refine lv_icmp_eq (tgt := 197) hx hb dX2_word_187 (by decide) (fun hc => ?_) (fun hc => ?_)
      · rw [if_pos hc] at hf
        exact J197 a0 v3 v4 v5 v6 (some a0) _ hf _ _ _ _ _ hst (lv_sub hl [0, 1, 2, 3, 4] rfl)
      · rw [if_neg hc] at hf
        refine jw_aload_n (r := (some a0)) hx hb dX2_word_190 rfl (lv_at hl 0 rfl) ?_
        obtain ⟨a50, h51, hf⟩ := jm_rd_some hf
        obtain ⟨fsa50, hea50, hr52⟩ := jm_cl_some h51
        obtain ⟨x47, Mm48, h49, hf⟩ := jm_bd_some hf
        refine jw_V (As := []) (rest := [va_rf (some a0)]) (C := RX2) (T := TX2) (N := 3) (rv := (some a0)) (jt_X2_token l g b N a50  Mm42 Mm48 x47 h49) C0 hK hst (jm_mono h49) (jm_le_tr (jm_mono hf) jm_le_rf) q247 q249 qs5 q74 q250 hd_X2_token ⟨Nat.le_of_ble_eq_true rfl, Nat.le_of_ble_eq_true rfl⟩ hea50 hr52 rfl rfl hl.1 rfl (by rw [cs_r, cs_n]; exact Nat.le_of_ble_eq_true rfl) dX2_word_191 (fun H locs cells slots hst => ?_)
        refine W.eq (g2 := F0 m 194 ls [.int x47, va_rf (some a0)]) rfl ?_
        refine lv_if_ne (tgt := 201) hx hb dX2_word_194 (by decide) (fun hc => ?_) (fun hc => ?_)
        · rw [if_neg hc] at hf
          exact J201 a0 v3 v4 v5 v6 (some a0) _ hf _ _ _ _ _ hst (lv_sub hl [0, 1, 2, 3, 4] rfl)
        · rw [if_pos hc] at hf
          exact J197 a0 v3 v4 v5 v6 (some a0) _ hf _ _ _ _ _ hst (lv_sub hl [0, 1, 2, 3, 4] rfl)
  have B15 : ∀ (a0 : Nat) (v1 : Option Nat) (v2 : Int32) (v3 : Option Nat) (v4 : Int32) (v5 : Int32) (v6 : Int32) (Mm110 : Mem) (xe15 : ((Int32 × Int32 × Int32) ⊕ ((Int32 × Int32 × Int32) ⊕ Nat))) (Me15 : Mem), (jf_X2_word_L15 N a0 v1 v2 v3 v4 v5 v6).1 Mm110 = some (xe15, Me15) → jm_le Me15 M' → (jm_or (fun (z : Int32 × Int32 × Int32) => ∀ (H : Heap) (locs : List Loc) (cells slots : Nat) (ls : Array Slot), jm_St g b M M' Me15 s (jm_rm 6 112 M M') H locs cells slots → lv_has ls 10 [(0, va_rf (some a0)), (1, va_rf v1), (2, .int v2), (3, va_rf v3), (4, .int z.1), (5, .int z.2.1), (6, .int z.2.2)] → W p l e (jm_rm 6 112 M M') s m args below meth c H locs cells slots (jm_MQX below g b (jm_xo (fun v => some (va_rf v)) r) M M' args s) (F0 m 15 ls [])) (jm_or (fun (y : Int32 × Int32 × Int32) => ∀ (H : Heap) (locs : List Loc) (cells slots : Nat) (ls : Array Slot), jm_St g b M M' Me15 s (jm_rm 6 112 M M') H locs cells slots → lv_has ls 10 [(0, va_rf (some a0)), (3, va_rf v3), (4, .int y.1), (5, .int y.2.1), (6, .int y.2.2)] → W p l e (jm_rm 6 112 M M') s m args below meth c H locs cells slots (jm_MQX below g b (jm_xo (fun v => some (va_rf v)) r) M M' args s) (F0 m 176 ls [])) (fun (y : Nat) => ∀ (H : Heap) (locs : List Loc) (cells slots pc : Nat) (ls : Array Slot) (rest : List Value), jm_St g b M M' Me15 s (jm_rm 6 112 M M') H locs cells slots → (∃ fs, Me15.2.2 y = some (.inr (3, fs))) → vx_W p l e (jm_rm 6 112 M M') s m args below meth c H locs cells slots (jm_MQX below g b (jm_xo (fun v => some (va_rf v)) r) M M' args s) (F0 m pc ls rest) y)) xe15) → ∀ (H : Heap) (locs : List Loc) (cells slots : Nat) (ls : Array Slot), jm_St g b M M' Mm110 s (jm_rm 6 112 M M') H locs cells slots → lv_has ls 10 [(0, va_rf (some a0)), (1, va_rf v1), (2, .int v2), (3, va_rf v3), (4, .int v4), (5, .int v5), (6, .int v6)] → W p l e (jm_rm 6 112 M M') s m args below meth c H locs cells slots (jm_MQX below g b (jm_xo (fun v => some (va_rf v)) r) M M' args s) (F0 m 15 ls []) := by
    intro a0 v1 v2 v3 v4 v5 v6 Mm110 xe15 Me15 hf hle15 hk15
    have J152 : ∀ (v4 : Int32) (v5 : Int32) (v7 : Int32) (t0 : Int32) (Mm56 : Mem), (jf_X2_word_j152 N a0 v1 v2 v3 v4 v5 v7 t0).1 Mm56 = some (xe15, Me15) → ∀ (H : Heap) (locs : List Loc) (cells slots : Nat) (ls : Array Slot), jm_St g b M M' Mm56 s (jm_rm 6 112 M M') H locs cells slots → lv_has ls 10 [(0, va_rf (some a0)), (1, va_rf v1), (2, .int v2), (3, va_rf v3), (4, .int v4), (5, .int v5), (7, .int v7)] → W p l e (jm_rm 6 112 M M') s m args below meth c H locs cells slots (jm_MQX below g b (jm_xo (fun v => some (va_rf v)) r) M M' args s) (F0 m 152 ls [.int t0]) := by
      intro v4 v5 v7 t0 Mm56 hf H locs cells slots ls hst hl
      unfold jf_X2_word_j152 at hf
      refine lv_istore (i := 6) (lv' := [(6, .int t0), (0, va_rf (some a0)), (1, va_rf v1), (2, .int v2), (3, va_rf v3), (4, .int v4), (5, .int v5), (7, .int v7)]) hx hb dX2_word_152 hl (by decide) rfl (fun ls hl => ?_)
      refine jw_aload_n (r := v3) hx hb dX2_word_154 rfl (lv_at hl 4 rfl) ?_
      refine lv_iload hx hb dX2_word_155 (lv_at hl 5 rfl) ?_
      refine lv_iinc (i := 4) (v := (v4 + 1)) (lv' := [(4, .int (v4 + 1)), (6, .int t0), (0, va_rf (some a0)), (1, va_rf v1), (2, .int v2), (3, va_rf v3), (5, .int v5), (7, .int v7)]) hx hb dX2_word_157 hl (k := 5) rfl (by rfl) (by decide) (by simp [va_rf_cat, cat_i, cat_j, cat_f]) (fun ls hl => ?_)
      refine lv_iload hx hb dX2_word_160 (lv_at hl 7 rfl) ?_
      obtain ⟨F57, h58, hf⟩ := jm_wr_some hf
      refine jw_iast (r := v3) hx hb hK hst h58 dX2_word_162 (fun H locs hst => ?_)
      generalize ((Mm56.1, Mm56.2.1, F57) : Mem) = Mm59 at hf hst
      refine jw_aload_n (r := (some a0)) hx hb dX2_word_163 rfl (lv_at hl 2 rfl) ?_
      refine lv_dup hx hb dX2_word_164 (va_rf_cat _) ?_
      obtain ⟨x60, h61, hf⟩ := jm_rd_some hf
      refine jw_getI hx hb hts hown hK hst (fl_X2_19 hts hK) h61 dX2_word_165 ?_
      refine lv_iconst (v := 1) hx hb dX2_word_168 (by decide) ?_
      refine lv_iadd hx hb dX2_word_169 ?_
      obtain ⟨F62, h63, hf⟩ := jm_wr_some hf
      refine jw_put (r := (some a0)) hx hb hts hown hK hst (fw_X2_19 hts) h63 rfl rfl dX2_word_170 (fun H locs hst => ?_)
      generalize ((Mm59.1, Mm59.2.1, F62) : Mem) = Mm64 at hf hst
      refine lv_goto (tgt := 15) hx hb dX2_word_173 (by decide) ?_
      obtain ⟨rfl, rfl⟩ := jm_ret_some hf
      exact jm_or_l hk15 _ _ _ _ _ hst (lv_sub hl [2, 3, 4, 5, 0, 6, 1] rfl)
    have J128 : ∀ (v4 : Int32) (v7 : Int32) (v8 : Int32) (t0 : Int32) (Mm65 : Mem), (jf_X2_word_j128 N a0 v1 v2 v3 v4 v7 v8 t0).1 Mm65 = some (xe15, Me15) → ∀ (H : Heap) (locs : List Loc) (cells slots : Nat) (ls : Array Slot), jm_St g b M M' Mm65 s (jm_rm 6 112 M M') H locs cells slots → lv_has ls 10 [(0, va_rf (some a0)), (1, va_rf v1), (2, .int v2), (3, va_rf v3), (4, .int v4), (7, .int v7), (8, .int v8)] → W p l e (jm_rm 6 112 M M') s m args below meth c H locs cells slots (jm_MQX below g b (jm_xo (fun v => some (va_rf v)) r) M M' args s) (F0 m 128 ls [.int t0]) := by
      intro v4 v7 v8 t0 Mm65 hf H locs cells slots ls hst hl
      unfold jf_X2_word_j128 at hf
      refine lv_istore (i := 5) (lv' := [(5, .int t0), (0, va_rf (some a0)), (1, va_rf v1), (2, .int v2), (3, va_rf v3), (4, .int v4), (7, .int v7), (8, .int v8)]) hx hb dX2_word_128 hl (by decide) rfl (fun ls hl => ?_)
      refine lv_iload hx hb dX2_word_130 (lv_at hl 6 rfl) ?_
      refine lv_if_ge (tgt := 145) hx hb dX2_word_132 (by decide) (fun hc => ?_) (fun hc => ?_)
      · rw [if_pos hc] at hf
        refine jw_aload_n (r := v1) hx hb dX2_word_145 rfl (lv_at hl 2 rfl) ?_
        refine lv_iload hx hb dX2_word_146 (lv_at hl 7 rfl) ?_
        obtain ⟨x66, h67, hf⟩ := jm_rd_some hf
        refine jw_aald hx hb hK hst (show jm_ty[4]? = some (.object "ChainParts$EdgeCell") from rfl) rfl h67 dX2_word_148 ?_
        obtain ⟨x68, h69, hf⟩ := jm_rd_some hf
        refine jw_getI hx hb hts hown hK hst (fl_X2_59 hts hK) h69 dX2_word_149 ?_
        exact J152 v4 t0 v7 x68 _ hf _ _ _ _ _ hst (lv_sub hl [1, 2, 3, 4, 5, 0, 6] rfl)
      · rw [if_neg hc] at hf
        refine jw_aload_n (r := v1) hx hb dX2_word_135 rfl (lv_at hl 2 rfl) ?_
        refine lv_iload hx hb dX2_word_136 (lv_at hl 7 rfl) ?_
        obtain ⟨x70, h71, hf⟩ := jm_rd_some hf
        refine jw_aald hx hb hK hst (show jm_ty[4]? = some (.object "ChainParts$EdgeCell") from rfl) rfl h71 dX2_word_138 ?_
        obtain ⟨x72, h73, hf⟩ := jm_rd_some hf
        refine jw_getI hx hb hts hown hK hst (fl_X2_64 hts hK) h73 dX2_word_139 ?_
        refine lv_goto (tgt := 152) hx hb dX2_word_142 (by decide) ?_
        exact J152 v4 t0 v7 x72 _ hf _ _ _ _ _ hst (lv_sub hl [1, 2, 3, 4, 5, 0, 6] rfl)
    have J112 : ∀ (v4 : Int32) (v5 : Int32) (v7 : Int32) (v8 : Int32) (v9 : Int32) (t0 : Option Nat) (t1 : Int32) (Mm74 : Mem), (jf_X2_word_j112 N a0 v1 v2 v3 v4 v5 v7 v8 v9 t0 t1).1 Mm74 = some (xe15, Me15) → ∀ (H : Heap) (locs : List Loc) (cells slots : Nat) (ls : Array Slot), jm_St g b M M' Mm74 s (jm_rm 6 112 M M') H locs cells slots → lv_has ls 10 [(0, va_rf (some a0)), (1, va_rf v1), (2, .int v2), (3, va_rf v3), (4, .int v4), (5, .int v5), (7, .int v7), (8, .int v8), (9, .int v9)] → W p l e (jm_rm 6 112 M M') s m args below meth c H locs cells slots (jm_MQX below g b (jm_xo (fun v => some (va_rf v)) r) M M' args s) (F0 m 112 ls [.int t1, va_rf t0]) := by
      intro v4 v5 v7 v8 v9 t0 t1 Mm74 hf H locs cells slots ls hst hl
      unfold jf_X2_word_j112 at hf
      refine lv_iconst (v := 2) hx hb dX2_word_112 (by decide) ?_
      obtain ⟨a78, h79, hf⟩ := jm_rd_some hf
      obtain ⟨fsa78, hea78, hr80⟩ := jm_cl_some h79
      obtain ⟨y82, Mm76, h77, hb83, hy84⟩ := jm_bx_some hf
      rcases hy84 with ⟨q81, rfl, ⟨fsq81, hq85⟩, hf⟩ | ⟨x75, rfl, hf⟩
      · refine jw_VT (As := [.int t1, .int (2 : Int32)]) (rest := []) (C := RX2) (T := TX2) (N := 3) (rv := t0) (jt_X2_must l hl0 g b sa N a78 t1 (2 : Int32) Mm74 Mm76 (.inr q81) h77) C0 hK hKX hst (jm_mono h77) (jm_le_tr hb83 hle15) q170 q172 qs2 q74 q173 hd_X2_must ⟨Nat.le_of_ble_eq_true rfl, Nat.le_of_ble_eq_true rfl⟩ hea78 hr80 rfl rfl hl.1 rfl (by rw [cs_n]; exact Nat.le_of_ble_eq_true rfl) dX2_word_113 (fun H locs cells slots hst => ?_)
        obtain ⟨rfl, rfl⟩ := jm_ret_some hf
        exact jm_or_r (jm_or_r hk15) _ _ _ _ _ _ _ hst ⟨_, hq85⟩
      refine jw_VX (As := [.int t1, .int (2 : Int32)]) (rest := []) (C := RX2) (T := TX2) (N := 3) (rv := t0) (jt_X2_must l hl0 g b sa N a78 t1 (2 : Int32) Mm74 Mm76 (.inl x75) h77) C0 hK hKX hst (jm_mono h77) (jm_le_tr hb83 hle15) q170 q172 qs2 q74 q173 hd_X2_must ⟨Nat.le_of_ble_eq_true rfl, Nat.le_of_ble_eq_true rfl⟩ hea78 hr80 rfl rfl hl.1 rfl (by rw [cs_n]; exact Nat.le_of_ble_eq_true rfl) dX2_word_113 (fun H locs cells slots hst => ?_)
      refine W.eq (g2 := F0 m 116 ls []) rfl ?_
      refine lv_iload hx hb dX2_word_116 (lv_at hl 4 rfl) ?_
      refine lv_if_ne (tgt := 126) hx hb dX2_word_118 (by decide) (fun hc => ?_) (fun hc => ?_)
      · rw [if_neg hc] at hf
        refine lv_iload hx hb dX2_word_126 (lv_at hl 5 rfl) ?_
        exact J128 v4 v7 v8 v5 _ hf _ _ _ _ _ hst (lv_sub hl [0, 1, 2, 3, 4, 6, 7] rfl)
      · rw [if_pos hc] at hf
        refine lv_iload hx hb dX2_word_121 (lv_at hl 8 rfl) ?_
        refine lv_goto (tgt := 128) hx hb dX2_word_123 (by decide) ?_
        exact J128 v4 v7 v8 v9 _ hf _ _ _ _ _ hst (lv_sub hl [0, 1, 2, 3, 4, 6, 7] rfl)
    have J107 : ∀ (v4 : Int32) (v5 : Int32) (v7 : Int32) (v8 : Int32) (v9 : Int32) (t0 : Option Nat) (Mm86 : Mem), (jf_X2_word_j107 N a0 v1 v2 v3 v4 v5 v7 v8 v9 t0).1 Mm86 = some (xe15, Me15) → ∀ (H : Heap) (locs : List Loc) (cells slots : Nat) (ls : Array Slot), jm_St g b M M' Mm86 s (jm_rm 6 112 M M') H locs cells slots → lv_has ls 10 [(0, va_rf (some a0)), (1, va_rf v1), (2, .int v2), (3, va_rf v3), (4, .int v4), (5, .int v5), (7, .int v7), (8, .int v8), (9, .int v9)] → W p l e (jm_rm 6 112 M M') s m args below meth c H locs cells slots (jm_MQX below g b (jm_xo (fun v => some (va_rf v)) r) M M' args s) (F0 m 107 ls [va_rf t0]) := by
      intro v4 v5 v7 v8 v9 t0 Mm86 hf H locs cells slots ls hst hl
      unfold jf_X2_word_j107 at hf
      refine lv_iconst (v := 1) hx hb dX2_word_107 (by decide) ?_
      refine lv_goto (tgt := 112) hx hb dX2_word_108 (by decide) ?_
      exact J112 v4 v5 v7 v8 v9 t0 (1 : Int32) _ hf _ _ _ _ _ hst (lv_sub hl [0, 1, 2, 3, 4, 5, 6, 7, 8] rfl)
    have J92 : ∀ (v4 : Int32) (v5 : Int32) (v6 : Int32) (v7 : Int32) (v8 : Int32) (t0 : Int32) (Mm87 : Mem), (jf_X2_word_j92 N a0 v1 v2 v3 v4 v5 v6 v7 v8 t0).1 Mm87 = some (xe15, Me15) → ∀ (H : Heap) (locs : List Loc) (cells slots : Nat) (ls : Array Slot), jm_St g b M M' Mm87 s (jm_rm 6 112 M M') H locs cells slots → lv_has ls 10 [(0, va_rf (some a0)), (1, va_rf v1), (2, .int v2), (3, va_rf v3), (4, .int v4), (5, .int v5), (6, .int v6), (7, .int v7), (8, .int v8)] → W p l e (jm_rm 6 112 M M') s m args below meth c H locs cells slots (jm_MQX below g b (jm_xo (fun v => some (va_rf v)) r) M M' args s) (F0 m 92 ls [.int t0]) := by
      intro v4 v5 v6 v7 v8 t0 Mm87 hf H locs cells slots ls hst hl
      unfold jf_X2_word_j92 at hf
      refine lv_istore (i := 9) (lv' := [(9, .int t0), (0, va_rf (some a0)), (1, va_rf v1), (2, .int v2), (3, va_rf v3), (4, .int v4), (5, .int v5), (6, .int v6), (7, .int v7), (8, .int v8)]) hx hb dX2_word_92 hl (by decide) rfl (fun ls hl => ?_)
      refine jw_aload_n (r := (some a0)) hx hb dX2_word_94 rfl (lv_at hl 1 rfl) ?_
      refine lv_iload hx hb dX2_word_95 (lv_at hl 5 rfl) ?_
      refine lv_if_eq (tgt := 107) hx hb dX2_word_97 (by decide) (fun hc => ?_) (fun hc => ?_)
      · rw [if_pos hc] at hf
        exact J107 v4 v5 v7 v8 t0 (some a0) _ hf _ _ _ _ _ hst (lv_sub hl [1, 2, 3, 4, 5, 6, 8, 9, 0] rfl)
      · rw [if_neg hc] at hf
        refine lv_iload hx hb dX2_word_100 (lv_at hl 0 rfl) ?_
        refine lv_iload hx hb dX2_word_102 (lv_at hl 7 rfl) ?_
        refine lv_icmp_ne (tgt := 111) hx hb dX2_word_104 (by decide) (fun hc => ?_) (fun hc => ?_)
        · rw [if_neg hc] at hf
          refine lv_iconst (v := 0) hx hb dX2_word_111 (by decide) ?_
          exact J112 v4 v5 v7 v8 t0 (some a0) (0 : Int32) _ hf _ _ _ _ _ hst (lv_sub hl [1, 2, 3, 4, 5, 6, 8, 9, 0] rfl)
        · rw [if_pos hc] at hf
          exact J107 v4 v5 v7 v8 t0 (some a0) _ hf _ _ _ _ _ hst (lv_sub hl [1, 2, 3, 4, 5, 6, 8, 9, 0] rfl)
    have J66 : ∀ (v4 : Int32) (v5 : Int32) (v6 : Int32) (v7 : Int32) (v8 : Int32) (t0 : Option Nat) (t1 : Int32) (Mm88 : Mem), (jf_X2_word_j66 N a0 v1 v2 v3 v4 v5 v6 v7 v8 t0 t1).1 Mm88 = some (xe15, Me15) → ∀ (H : Heap) (locs : List Loc) (cells slots : Nat) (ls : Array Slot), jm_St g b M M' Mm88 s (jm_rm 6 112 M M') H locs cells slots → lv_has ls 10 [(0, va_rf (some a0)), (1, va_rf v1), (2, .int v2), (3, va_rf v3), (4, .int v4), (5, .int v5), (6, .int v6), (7, .int v7), (8, .int v8)] → W p l e (jm_rm 6 112 M M') s m args below meth c H locs cells slots (jm_MQX below g b (jm_xo (fun v => some (va_rf v)) r) M M' args s) (F0 m 66 ls [.int t1, va_rf t0]) := by
      intro v4 v5 v6 v7 v8 t0 t1 Mm88 hf H locs cells slots ls hst hl
      unfold jf_X2_word_j66 at hf
      refine lv_iconst (v := 2) hx hb dX2_word_66 (by decide) ?_
      obtain ⟨a92, h93, hf⟩ := jm_rd_some hf
      obtain ⟨fsa92, hea92, hr94⟩ := jm_cl_some h93
      obtain ⟨y96, Mm90, h91, hb97, hy98⟩ := jm_bx_some hf
      rcases hy98 with ⟨q95, rfl, ⟨fsq95, hq99⟩, hf⟩ | ⟨x89, rfl, hf⟩
      · refine jw_VT (As := [.int t1, .int (2 : Int32)]) (rest := []) (C := RX2) (T := TX2) (N := 3) (rv := t0) (jt_X2_must l hl0 g b sa N a92 t1 (2 : Int32) Mm88 Mm90 (.inr q95) h91) C0 hK hKX hst (jm_mono h91) (jm_le_tr hb97 hle15) q170 q172 qs2 q74 q173 hd_X2_must ⟨Nat.le_of_ble_eq_true rfl, Nat.le_of_ble_eq_true rfl⟩ hea92 hr94 rfl rfl hl.1 rfl (by rw [cs_n]; exact Nat.le_of_ble_eq_true rfl) dX2_word_67 (fun H locs cells slots hst => ?_)
        obtain ⟨rfl, rfl⟩ := jm_ret_some hf
        exact jm_or_r (jm_or_r hk15) _ _ _ _ _ _ _ hst ⟨_, hq99⟩
      refine jw_VX (As := [.int t1, .int (2 : Int32)]) (rest := []) (C := RX2) (T := TX2) (N := 3) (rv := t0) (jt_X2_must l hl0 g b sa N a92 t1 (2 : Int32) Mm88 Mm90 (.inl x89) h91) C0 hK hKX hst (jm_mono h91) (jm_le_tr hb97 hle15) q170 q172 qs2 q74 q173 hd_X2_must ⟨Nat.le_of_ble_eq_true rfl, Nat.le_of_ble_eq_true rfl⟩ hea92 hr94 rfl rfl hl.1 rfl (by rw [cs_n]; exact Nat.le_of_ble_eq_true rfl) dX2_word_67 (fun H locs cells slots hst => ?_)
      refine W.eq (g2 := F0 m 70 ls []) rfl ?_
      refine lv_iload hx hb dX2_word_70 (lv_at hl 7 rfl) ?_
      refine lv_if_ge (tgt := 85) hx hb dX2_word_72 (by decide) (fun hc => ?_) (fun hc => ?_)
      · rw [if_pos hc] at hf
        refine jw_aload_n (r := v1) hx hb dX2_word_85 rfl (lv_at hl 1 rfl) ?_
        refine lv_iload hx hb dX2_word_86 (lv_at hl 8 rfl) ?_
        obtain ⟨x100, h101, hf⟩ := jm_rd_some hf
        refine jw_aald hx hb hK hst (show jm_ty[4]? = some (.object "ChainParts$EdgeCell") from rfl) rfl h101 dX2_word_88 ?_
        obtain ⟨x102, h103, hf⟩ := jm_rd_some hf
        refine jw_getI hx hb hts hown hK hst (fl_X2_64 hts hK) h103 dX2_word_89 ?_
        exact J92 v4 v5 v6 v7 v8 x102 _ hf _ _ _ _ _ hst (lv_sub hl [0, 1, 2, 3, 4, 5, 6, 7, 8] rfl)
      · rw [if_neg hc] at hf
        refine jw_aload_n (r := v1) hx hb dX2_word_75 rfl (lv_at hl 1 rfl) ?_
        refine lv_iload hx hb dX2_word_76 (lv_at hl 8 rfl) ?_
        obtain ⟨x104, h105, hf⟩ := jm_rd_some hf
        refine jw_aald hx hb hK hst (show jm_ty[4]? = some (.object "ChainParts$EdgeCell") from rfl) rfl h105 dX2_word_78 ?_
        obtain ⟨x106, h107, hf⟩ := jm_rd_some hf
        refine jw_getI hx hb hts hown hK hst (fl_X2_59 hts hK) h107 dX2_word_79 ?_
        refine lv_goto (tgt := 92) hx hb dX2_word_82 (by decide) ?_
        exact J92 v4 v5 v6 v7 v8 x106 _ hf _ _ _ _ _ hst (lv_sub hl [0, 1, 2, 3, 4, 5, 6, 7, 8] rfl)
    have J65 : ∀ (v4 : Int32) (v5 : Int32) (v6 : Int32) (v7 : Int32) (v8 : Int32) (t0 : Option Nat) (Mm108 : Mem), (jf_X2_word_j65 N a0 v1 v2 v3 v4 v5 v6 v7 v8 t0).1 Mm108 = some (xe15, Me15) → ∀ (H : Heap) (locs : List Loc) (cells slots : Nat) (ls : Array Slot), jm_St g b M M' Mm108 s (jm_rm 6 112 M M') H locs cells slots → lv_has ls 10 [(0, va_rf (some a0)), (1, va_rf v1), (2, .int v2), (3, va_rf v3), (4, .int v4), (5, .int v5), (6, .int v6), (7, .int v7), (8, .int v8)] → W p l e (jm_rm 6 112 M M') s m args below meth c H locs cells slots (jm_MQX below g b (jm_xo (fun v => some (va_rf v)) r) M M' args s) (F0 m 65 ls [va_rf t0]) := by
      intro v4 v5 v6 v7 v8 t0 Mm108 hf H locs cells slots ls hst hl
      unfold jf_X2_word_j65 at hf
      refine lv_iconst (v := 0) hx hb dX2_word_65 (by decide) ?_
      exact J66 v4 v5 v6 v7 v8 t0 (0 : Int32) _ hf _ _ _ _ _ hst (lv_sub hl [0, 1, 2, 3, 4, 5, 6, 7, 8] rfl)
    have J46 : ∀ (v4 : Int32) (v5 : Int32) (v6 : Int32) (v7 : Int32) (t0 : Int32) (Mm109 : Mem), (jf_X2_word_j46 N a0 v1 v2 v3 v4 v5 v6 v7 t0).1 Mm109 = some (xe15, Me15) → ∀ (H : Heap) (locs : List Loc) (cells slots : Nat) (ls : Array Slot), jm_St g b M M' Mm109 s (jm_rm 6 112 M M') H locs cells slots → lv_has ls 10 [(0, va_rf (some a0)), (1, va_rf v1), (2, .int v2), (3, va_rf v3), (4, .int v4), (5, .int v5), (6, .int v6), (7, .int v7)] → W p l e (jm_rm 6 112 M M') s m args below meth c H locs cells slots (jm_MQX below g b (jm_xo (fun v => some (va_rf v)) r) M M' args s) (F0 m 46 ls [.int t0]) := by
      intro v4 v5 v6 v7 t0 Mm109 hf H locs cells slots ls hst hl
      unfold jf_X2_word_j46 at hf
      refine lv_istore (i := 8) (lv' := [(8, .int t0), (0, va_rf (some a0)), (1, va_rf v1), (2, .int v2), (3, va_rf v3), (4, .int v4), (5, .int v5), (6, .int v6), (7, .int v7)]) hx hb dX2_word_46 hl (by decide) rfl (fun ls hl => ?_)
      refine jw_aload_n (r := (some a0)) hx hb dX2_word_48 rfl (lv_at hl 1 rfl) ?_
      refine lv_iload hx hb dX2_word_49 (lv_at hl 5 rfl) ?_
      refine lv_iconst (v := 4) hx hb dX2_word_51 (by decide) ?_
      refine lv_icmp_ge (tgt := 65) hx hb dX2_word_52 (by decide) (fun hc => ?_) (fun hc => ?_)
      · rw [if_pos hc] at hf
        exact J65 v4 v5 v6 v7 t0 (some a0) _ hf _ _ _ _ _ hst (lv_sub hl [1, 2, 3, 4, 5, 6, 7, 8, 0] rfl)
      · rw [if_neg hc] at hf
        refine lv_iload hx hb dX2_word_55 (lv_at hl 0 rfl) ?_
        refine lv_iload_n hx hb dX2_word_57 rfl (lv_at hl 3 rfl) ?_
        refine lv_icmp_ge (tgt := 65) hx hb dX2_word_58 (by decide) (fun hc => ?_) (fun hc => ?_)
        · rw [if_pos hc] at hf
          exact J65 v4 v5 v6 v7 t0 (some a0) _ hf _ _ _ _ _ hst (lv_sub hl [1, 2, 3, 4, 5, 6, 7, 8, 0] rfl)
        · rw [if_neg hc] at hf
          refine lv_iconst (v := 1) hx hb dX2_word_61 (by decide) ?_
          refine lv_goto (tgt := 66) hx hb dX2_word_62 (by decide) ?_
          exact J66 v4 v5 v6 v7 t0 (some a0) (1 : Int32) _ hf _ _ _ _ _ hst (lv_sub hl [1, 2, 3, 4, 5, 6, 7, 8, 0] rfl)
    intro H locs cells slots ls hst hl
    unfold jf_X2_word_L15 at hf
    refine jw_aload_n (r := (some a0)) hx hb dX2_word_15 rfl (lv_at hl 0 rfl) ?_
    obtain ⟨a114, h115, hf⟩ := jm_rd_some hf
    obtain ⟨fsa114, hea114, hr116⟩ := jm_cl_some h115
    obtain ⟨x111, Mm112, h113, hf⟩ := jm_bd_some hf
    refine jw_V (As := []) (rest := []) (C := RX2) (T := TX2) (N := 3) (rv := (some a0)) (jt_X2_token l g b N a114  Mm110 Mm112 x111 h113) C0 hK hst (jm_mono h113) (jm_le_tr (jm_mono hf) hle15) q247 q249 qs5 q74 q250 hd_X2_token ⟨Nat.le_of_ble_eq_true rfl, Nat.le_of_ble_eq_true rfl⟩ hea114 hr116 rfl rfl hl.1 rfl (by rw [cs_n]; exact Nat.le_of_ble_eq_true rfl) dX2_word_16 (fun H locs cells slots hst => ?_)
    refine W.eq (g2 := F0 m 19 ls [.int x111]) rfl ?_
    refine lv_iconst (v := 1) hx hb dX2_word_19 (by decide) ?_
    refine lv_icmp_ne (tgt := 176) hx hb dX2_word_20 (by decide) (fun hc => ?_) (fun hc => ?_)
    · rw [if_neg hc] at hf
      obtain ⟨rfl, rfl⟩ := jm_ret_some hf
      exact jm_or_l (jm_or_r hk15) _ _ _ _ _ hst (lv_sub hl [0, 3, 4, 5, 6] rfl)
    · rw [if_pos hc] at hf
      refine jw_aload_n (r := (some a0)) hx hb dX2_word_23 rfl (lv_at hl 0 rfl) ?_
      obtain ⟨a120, h121, hf⟩ := jm_rd_some hf
      obtain ⟨fsa120, hea120, hr122⟩ := jm_cl_some h121
      obtain ⟨x117, Mm118, h119, hf⟩ := jm_bd_some hf
      refine jw_V (As := []) (rest := []) (C := RX2) (T := TX2) (N := 3) (rv := (some a0)) (jt_X2_look l g b N a120  Mm112 Mm118 x117 h119) C0 hK hst (jm_mono h119) (jm_le_tr (jm_mono hf) hle15) q165 q167 qs1 q74 q168 hd_X2_look ⟨Nat.le_of_ble_eq_true rfl, Nat.le_of_ble_eq_true rfl⟩ hea120 hr122 rfl rfl hl.1 rfl (by rw [cs_n]; exact Nat.le_of_ble_eq_true rfl) dX2_word_24 (fun H locs cells slots hst => ?_)
      refine W.eq (g2 := F0 m 27 ls [.int x117]) rfl ?_
      obtain ⟨x123, Mm124, h125, hf⟩ := jm_bd_some hf
      refine jw_S (As := [.int x117]) (rest := []) (jt_X2_edgeOf l g b N x117 Mm118 Mm124 x123 h125) C0 hK hst (jm_mono h125) (jm_le_tr (jm_mono hf) hle15) q312 q313 q74 q314 hd_X2_edgeOf.2 ⟨Nat.le_of_ble_eq_true rfl, Nat.le_of_ble_eq_true rfl⟩ rfl hl.1 rfl (by rw [cs_n]; exact Nat.le_of_ble_eq_true rfl) dX2_word_27 (fun H locs cells slots hst => ?_)
      refine W.eq (g2 := F0 m 30 ls [.int x123]) rfl ?_
      refine lv_istore (i := 7) (lv' := [(7, .int x123), (0, va_rf (some a0)), (1, va_rf v1), (2, .int v2), (3, va_rf v3), (4, .int v4), (5, .int v5), (6, .int v6)]) hx hb dX2_word_30 hl (by decide) rfl (fun ls hl => ?_)
      refine lv_iload hx hb dX2_word_32 (lv_at hl 0 rfl) ?_
      refine lv_if_ge (tgt := 44) hx hb dX2_word_34 (by decide) (fun hc => ?_) (fun hc => ?_)
      · rw [if_pos hc] at hf
        refine lv_iload hx hb dX2_word_44 (lv_at hl 0 rfl) ?_
        exact J46 v4 v5 v6 x123 x123 _ hf _ _ _ _ _ hst (lv_sub hl [1, 2, 3, 4, 5, 6, 7, 0] rfl)
      · rw [if_neg hc] at hf
        refine lv_iconst (v := -1) hx hb dX2_word_37 (by decide) ?_
        refine lv_iload hx hb dX2_word_38 (lv_at hl 0 rfl) ?_
        refine lv_isub hx hb dX2_word_40 ?_
        refine lv_goto (tgt := 46) hx hb dX2_word_41 (by decide) ?_
        exact J46 v4 v5 v6 x123 ((-1 : Int32) - x123) _ hf _ _ _ _ _ hst (lv_sub hl [1, 2, 3, 4, 5, 6, 7, 0] rfl)
  unfold jf_X2_word at hf
  refine lv_iconst (v := 4) hx hb dX2_word_0 (by decide) ?_
  obtain ⟨_, h53, hf⟩ := jm_rd_some hf
  have h53 := jm_ck_some h53
  obtain ⟨q54, hq54, hf⟩ := jm_al_some hf
  refine jw_newa (kd := 0) (ty := .int) (atype := .int) (a0 := ((4 : Int32).toNatClampNeg, .inl (fun _ => 0))) hx hb (hts _ q339) rfl hK hst rfl (fun _ => rfl) rfl (fun h => h) h53.1 rfl (Nat.le_trans (Nat.mul_le_mul_right _ h53.2) (by decide)) (jm_le_tr (jm_mono hf) jm_le_rf) hq54 dX2_word_1 (fun H cells slots hst => ?_)
  generalize jm_new (.inl (0, (4 : Int32).toNatClampNeg, .inl (fun _ => 0))) M = Mm55 at hf hst
  refine jw_astore_n (i := 3) (r := (some q54)) (lv' := [(3, va_rf (some q54)), (0, va_rf (some a0)), (1, va_rf v1), (2, .int v2)]) hx hb dX2_word_3 rfl hl (by decide) rfl (fun ls hl => ?_)
  refine lv_iconst (v := 0) hx hb dX2_word_4 (by decide) ?_
  refine lv_istore (i := 4) (lv' := [(4, .int (0 : Int32)), (3, va_rf (some q54)), (0, va_rf (some a0)), (1, va_rf v1), (2, .int v2)]) hx hb dX2_word_5 hl (by decide) (by simp [va_rf_cat, cat_i, cat_j, cat_f]) (fun ls hl => ?_)
  refine lv_ldc hx hb hown (hts _ q169) dX2_word_7 ?_
  refine lv_istore (i := 5) (lv' := [(5, .int (-1000000 : Int32)), (4, .int (0 : Int32)), (3, va_rf (some q54)), (0, va_rf (some a0)), (1, va_rf v1), (2, .int v2)]) hx hb dX2_word_9 hl (by decide) rfl (fun ls hl => ?_)
  refine lv_ldc hx hb hown (hts _ q169) dX2_word_11 ?_
  refine lv_istore (i := 6) (lv' := [(6, .int (-1000000 : Int32)), (5, .int (-1000000 : Int32)), (4, .int (0 : Int32)), (3, va_rf (some q54)), (0, va_rf (some a0)), (1, va_rf v1), (2, .int v2)]) hx hb dX2_word_13 hl (by decide) rfl (fun ls hl => ?_)
  obtain ⟨xl15, Ml15, hit15, hf⟩ := jm_bd_some hf
  have hlf15 : jm_le Ml15 M' := jm_le_tr (jm_mono hf) jm_le_rf
  have hwe15 : (fun (y : ((Int32 × Int32 × Int32) ⊕ Nat)) (Mz : Mem) => jm_or (fun (y : Int32 × Int32 × Int32) => ∀ (H : Heap) (locs : List Loc) (cells slots : Nat) (ls : Array Slot), jm_St g b M M' Mz s (jm_rm 6 112 M M') H locs cells slots → lv_has ls 10 [(0, va_rf (some a0)), (3, va_rf (some q54)), (4, .int y.1), (5, .int y.2.1), (6, .int y.2.2)] → W p l e (jm_rm 6 112 M M') s m args below meth c H locs cells slots (jm_MQX below g b (jm_xo (fun v => some (va_rf v)) r) M M' args s) (F0 m 176 ls [])) (fun (y : Nat) => ∀ (H : Heap) (locs : List Loc) (cells slots pc : Nat) (ls : Array Slot) (rest : List Value), jm_St g b M M' Mz s (jm_rm 6 112 M M') H locs cells slots → (∃ fs, Mz.2.2 y = some (.inr (3, fs))) → vx_W p l e (jm_rm 6 112 M M') s m args below meth c H locs cells slots (jm_MQX below g b (jm_xo (fun v => some (va_rf v)) r) M M' args s) (F0 m pc ls rest) y) y) xl15 Ml15 := by
    cases xl15 with
    | inl y0 => exact fun H locs cells slots ls hst hl => K15_176 a0 (some q54) y0.1 y0.2.1 y0.2.2 _ hf H locs cells slots ls hst hl
    | inr y0 =>
      exact fun H locs cells slots pc ls rest hst hq => by obtain ⟨rfl, rfl⟩ := jm_ret_some hf; exact jw_out hK hst hq.choose_spec (fun z hz => absurd hz (hto z)) hlk
  refine jm_it_walk (Mf := M') (Wh := fun (z : Int32 × Int32 × Int32) (Mz : Mem) => ∀ (H : Heap) (locs : List Loc) (cells slots : Nat) (ls : Array Slot), jm_St g b M M' Mz s (jm_rm 6 112 M M') H locs cells slots → lv_has ls 10 [(0, va_rf (some a0)), (1, va_rf v1), (2, .int v2), (3, va_rf (some q54)), (4, .int z.1), (5, .int z.2.1), (6, .int z.2.2)] → W p l e (jm_rm 6 112 M M') s m args below meth c H locs cells slots (jm_MQX below g b (jm_xo (fun v => some (va_rf v)) r) M M' args s) (F0 m 15 ls [])) (We := fun (y : ((Int32 × Int32 × Int32) ⊕ Nat)) (Mz : Mem) => jm_or (fun (y : Int32 × Int32 × Int32) => ∀ (H : Heap) (locs : List Loc) (cells slots : Nat) (ls : Array Slot), jm_St g b M M' Mz s (jm_rm 6 112 M M') H locs cells slots → lv_has ls 10 [(0, va_rf (some a0)), (3, va_rf (some q54)), (4, .int y.1), (5, .int y.2.1), (6, .int y.2.2)] → W p l e (jm_rm 6 112 M M') s m args below meth c H locs cells slots (jm_MQX below g b (jm_xo (fun v => some (va_rf v)) r) M M' args s) (F0 m 176 ls [])) (fun (y : Nat) => ∀ (H : Heap) (locs : List Loc) (cells slots pc : Nat) (ls : Array Slot) (rest : List Value), jm_St g b M M' Mz s (jm_rm 6 112 M M') H locs cells slots → (∃ fs, Mz.2.2 y = some (.inr (3, fs))) → vx_W p l e (jm_rm 6 112 M M') s m args below meth c H locs cells slots (jm_MQX below g b (jm_xo (fun v => some (va_rf v)) r) M M' args s) (F0 m pc ls rest) y) y) ?_ N ((0 : Int32), (-1000000 : Int32), (-1000000 : Int32)) Mm55 xl15 Ml15 hit15 hlf15 hwe15 _ _ _ _ _ hst (lv_sub hl [4, 5, 6, 3, 2, 1, 0] rfl)
  intro z Mm126 xe15 Me15 hf hle15 hk15 H locs cells slots ls hst hl
  obtain ⟨v4, v5, v6⟩ := z
  have hf : (jf_X2_word_L15 N a0 v1 v2 (some q54) v4 v5 v6).1 Mm126 = some (xe15, Me15) := hf
  have hl : lv_has ls 10 [(0, va_rf (some a0)), (1, va_rf v1), (2, .int v2), (3, va_rf (some q54)), (4, .int v4), (5, .int v5), (6, .int v6)] := hl
  exact B15 a0 v1 v2 (some q54) v4 v5 v6 _ _ _ hf hle15 hk15 _ _ _ _ _ hst (lv_sub hl [0, 1, 2, 3, 4, 5, 6] rfl)
theorem hd_X2_digit : yX2_digit.cls = RX2 ∧ yX2_digit.cls ≠ "java/lang/invoke/MethodHandle" ∧ yX2_digit.cls ≠ "java/lang/invoke/VarHandle" ∧ (parseMethodDescriptor yX2_digit.desc).map (fun d => d.parameters.length) = some 2 := by decide +kernel
theorem hd_X2_word : yX2_word.cls = RX2 ∧ yX2_word.cls ≠ "java/lang/invoke/MethodHandle" ∧ yX2_word.cls ≠ "java/lang/invoke/VarHandle" ∧ (parseMethodDescriptor yX2_word.desc).map (fun d => d.parameters.length) = some 2 := by decide +kernel
theorem hd_X2_stop : yX2_stop.cls = RX2 ∧ yX2_stop.cls ≠ "java/lang/invoke/MethodHandle" ∧ yX2_stop.cls ≠ "java/lang/invoke/VarHandle" ∧ (parseMethodDescriptor yX2_stop.desc).map (fun d => d.parameters.length) = some 0 := by decide +kernel
theorem hd_X2_letter : yX2_letter.cls = RX2 ∧ yX2_letter.cls ≠ "java/lang/invoke/MethodHandle" ∧ yX2_letter.cls ≠ "java/lang/invoke/VarHandle" ∧ (parseMethodDescriptor yX2_letter.desc).map (fun d => d.parameters.length) = some 1 := by decide +kernel
def jf_X2_all_j201 (N : Nat) (v1 : Int32) (v2 : Option Nat) (v3 : Int32) (v4 : Option Nat) (v5 : Int32) (t0 : Option Nat) (t1 : Int32) : jm_P ((Option Nat) ⊕ Nat) :=
  jm_rd (jm_cl 2 t0) fun a5 =>
  jm_bx (jf_X2_must N a5 t1 (1 : Int32)) (fun q8 => jm_ret (.inr q8)) fun x2 =>
  jm_rd (jm_ck (¬ v3 < 0 ∧ v3.toNatClampNeg ≤ 1000)) fun _ =>
  jm_al (.inl (4, v3.toNatClampNeg, .inr (.inr (.inr (.inr (fun _ => none)))))) fun q14 =>
  jm_wr (jm_cpR 4 [5, 6] v2 (0 : Int32) (some q14) (0 : Int32) v3) <|
  jm_rd (jm_ck (¬ v5 < 0 ∧ v5.toNatClampNeg ≤ 1000)) fun _ =>
  jm_al (.inl (5, v5.toNatClampNeg, .inr (.inr (.inr (.inr (fun _ => none)))))) fun q20 =>
  jm_wr (jm_cpR 5 [7, 8] v4 (0 : Int32) (some q20) (0 : Int32) v5) <|
  jm_al (.inr (9, [.int 0, .null, .null, .null])) fun q25 =>
  jm_rd (jm_ck ((¬ (3 : Int32) < 0 ∧ ¬ (6 : Int32) < 0) ∧ ((3 : Int32).toNatClampNeg ≤ 1000 ∧ (6 : Int32).toNatClampNeg ≤ 1000))) fun _ =>
  jm_ml 12 0 (3 : Int32).toNatClampNeg (6 : Int32).toNatClampNeg (.inl (fun _ => 0)) fun q28 =>
  jm_bd (jf_X9_init N q25 v1 (some q14) (some q20) (some q28)) fun x30 =>
  jm_ret (.inl (some q25))
def jf_X2_all_k115_188 (N : Nat) (a0 : Nat) (v1 : Int32) (v2 : Option Nat) (v3 : Int32) (v4 : Option Nat) (v5 : Int32) : jm_P ((Option Nat) ⊕ Nat) :=
  jm_rd (jm_cl 2 (some a0)) fun a37 =>
  jm_bd (jf_X2_token N a37 ) fun x34 =>
  if x34 = 0 then (
    jf_X2_all_j201 N v1 v2 v3 v4 v5 (some a0) (1 : Int32))
  else
    jf_X2_all_j201 N v1 v2 v3 v4 v5 (some a0) (0 : Int32)
def jf_X2_all_j136 (N : Nat) (a0 : Nat) (v1 : Int32) (v2 : Option Nat) (v3 : Int32) (v4 : Option Nat) (v5 : Int32) (t0 : Option Nat) (t1 : Int32) : jm_P (Int32 ⊕ (Int32 ⊕ Nat)) :=
  jm_rd (jm_cl 2 t0) fun a48 =>
  jm_bx (jf_X2_must N a48 t1 (3 : Int32)) (fun q51 => jm_ret (.inr (.inr q51))) fun x45 =>
  jm_rd (jm_fI [2] 2 (some a0)) fun x56 =>
  jm_wr (jm_put [2] 2 (.int (x56 + (1 : Int32))) (some a0)) <|
  jm_rd (jm_cl 2 (some a0)) fun a64 =>
  jm_bx (jf_X2_digit N a64 (1 : Int32) (3 : Int32)) (fun q67 => jm_ret (.inr (.inr q67))) fun x61 =>
  jm_rd (jm_cl 2 (some a0)) fun a75 =>
  jm_bx (jf_X2_word N a75 v2 v3) (fun q78 => jm_ret (.inr (.inr q78))) fun x72 =>
  jm_rd (jm_cl 2 (some a0)) fun a86 =>
  jm_bx (jf_X2_stop N a86 ) (fun q89 => jm_ret (.inr (.inr q89))) fun x83 =>
  jm_bd (jf_X0_faceBy N x72 x61) fun x94 =>
  jm_wr (jm_stR 5 [7, 8] none v4 v5 x94) <|
  jm_ret (.inl (v5 + 1))
def jf_X2_all_L115 (N : Nat) (a0 : Nat) (v1 : Int32) (v2 : Option Nat) (v3 : Int32) (v4 : Option Nat) (v5 : Int32) : jm_P (Int32 ⊕ (Int32 ⊕ Nat)) :=
  jm_rd (jm_cl 2 (some a0)) fun a104 =>
  jm_bd (jf_X2_look N a104 ) fun x101 =>
  if x101 = (102 : Int32) then (
    if (4 : Int32) ≤ v5 then (
      jf_X2_all_j136 N a0 v1 v2 v3 v4 v5 (some a0) (0 : Int32))
    else
      jf_X2_all_j136 N a0 v1 v2 v3 v4 v5 (some a0) (1 : Int32))
  else
    jm_ret (.inr (.inl v5))
def jf_X2_all_k25_106 (N : Nat) (a0 : Nat) (v1 : Int32) (v2 : Option Nat) (v3 : Int32) : jm_P ((Option Nat) ⊕ Nat) :=
  jm_rd (jm_ck (¬ (4 : Int32) < 0 ∧ (4 : Int32).toNatClampNeg ≤ 1000)) fun _ =>
  jm_al (.inl (5, (4 : Int32).toNatClampNeg, .inr (.inr (.inr (.inr (fun _ => none)))))) fun q42 =>
  jm_bd (jm_it (fun z => jf_X2_all_L115 N a0 v1 v2 v3 (some q42) z) N (0 : Int32)) fun y =>
  match y with
  | .inl y => jf_X2_all_k115_188 N a0 v1 v2 v3 (some q42) y
  | .inr y => jm_ret (.inr y)
def jf_X2_all_j46 (N : Nat) (a0 : Nat) (v1 : Int32) (v2 : Option Nat) (v3 : Int32) (t0 : Option Nat) (t1 : Int32) : jm_P (Int32 ⊕ (Int32 ⊕ Nat)) :=
  jm_rd (jm_cl 2 t0) fun a148 =>
  jm_bx (jf_X2_must N a148 t1 (3 : Int32)) (fun q151 => jm_ret (.inr (.inr q151))) fun x145 =>
  jm_rd (jm_fI [2] 2 (some a0)) fun x156 =>
  jm_wr (jm_put [2] 2 (.int (x156 + (1 : Int32))) (some a0)) <|
  jm_rd (jm_cl 2 (some a0)) fun a164 =>
  jm_bx (jf_X2_digit N a164 (0 : Int32) (v1 - (1 : Int32))) (fun q167 => jm_ret (.inr (.inr q167))) fun x161 =>
  jm_rd (jm_cl 2 (some a0)) fun a175 =>
  jm_bx (jf_X2_digit N a175 (0 : Int32) (v1 - (1 : Int32))) (fun q178 => jm_ret (.inr (.inr q178))) fun x172 =>
  jm_rd (jm_cl 2 (some a0)) fun a186 =>
  jm_bx (jf_X2_digit N a186 (1 : Int32) (3 : Int32)) (fun q189 => jm_ret (.inr (.inr q189))) fun x183 =>
  jm_bd (jf_X0_edgeBy N x161 x172 x183) fun x194 =>
  jm_wr (jm_stR 4 [5, 6] none v2 v3 x194) <|
  jm_rd (jm_cl 2 (some a0)) fun a203 =>
  jm_bx (jf_X2_stop N a203 ) (fun q206 => jm_ret (.inr (.inr q206))) fun x200 =>
  jm_ret (.inl (v3 + 1))
def jf_X2_all_L25 (N : Nat) (a0 : Nat) (v1 : Int32) (v2 : Option Nat) (v3 : Int32) : jm_P (Int32 ⊕ (Int32 ⊕ Nat)) :=
  jm_rd (jm_cl 2 (some a0)) fun a215 =>
  jm_bd (jf_X2_look N a215 ) fun x212 =>
  if x212 = (101 : Int32) then (
    if (6 : Int32) ≤ v3 then (
      jf_X2_all_j46 N a0 v1 v2 v3 (some a0) (0 : Int32))
    else
      jf_X2_all_j46 N a0 v1 v2 v3 (some a0) (1 : Int32))
  else
    jm_ret (.inr (.inl v3))
def jf_X2_all (N : Nat) (a0 : Nat) : jm_P ((Option Nat) ⊕ Nat) :=
  jm_rd (jm_cl 2 (some a0)) fun a111 =>
  jm_bx (jf_X2_letter N a111 (99 : Int32)) (fun q114 => jm_ret (.inr q114)) fun x108 =>
  jm_rd (jm_cl 2 (some a0)) fun a122 =>
  jm_bx (jf_X2_digit N a122 (1 : Int32) (5 : Int32)) (fun q125 => jm_ret (.inr q125)) fun x119 =>
  jm_rd (jm_cl 2 (some a0)) fun a133 =>
  jm_bx (jf_X2_stop N a133 ) (fun q136 => jm_ret (.inr q136)) fun x130 =>
  jm_rd (jm_ck (¬ (6 : Int32) < 0 ∧ (6 : Int32).toNatClampNeg ≤ 1000)) fun _ =>
  jm_al (.inl (4, (6 : Int32).toNatClampNeg, .inr (.inr (.inr (.inr (fun _ => none)))))) fun q142 =>
  jm_bd (jm_it (fun z => jf_X2_all_L25 N a0 x119 (some q142) z) N (0 : Int32)) fun y =>
  match y with
  | .inl y => jf_X2_all_k25_106 N a0 x119 (some q142) y
  | .inr y => jm_ret (.inr y)
set_option maxHeartbeats 4000000 in
set_option maxRecDepth 100000 in
theorem jt_X2_all (l : Launch) (hl0 : l.stackTraces = false) (g : GD) (b sa N : Nat) (a0 : Nat) (M M' : Mem) (r : ((Option Nat) ⊕ Nat)) (hf : (jf_X2_all N a0).1 M = some (r, M')) : jm_MX l g b sa yX2_all (ws_ yX2_all cX2_all 8 (some (.object "ChainParts$Complex"))) 7 141 [va_rf (some a0)] M M' (jm_xo (fun v => some (va_rf v)) r) := by
  refine jm_startX (by decide) (jm_mono hf) (by rw [lg_sl_r, lg_sl_n]; exact Nat.le_of_ble_eq_true rfl) ?_
  intro p e s m args below meth c ls C0 hin hK hKX hst hl hto
  obtain ⟨hx, hb, hml, hown, hts, hr, hlk⟩ := id C0
  have hown : s.vm.findClass RX2 = some m.cls := hown
  have C0 : jm_Cx p s m args meth c cX2_all 8 (some (.object "ChainParts$Complex")) RX2 := C0
  rw [lv_args_r, lv_args_n] at hl
  have hl : lv_has ls 8 [(0, va_rf (some a0))] := hl
  have J201 : ∀ (v1 : Int32) (v2 : Option Nat) (v3 : Int32) (v4 : Option Nat) (v5 : Int32) (t0 : Option Nat) (t1 : Int32) (Mm1 : Mem), (jf_X2_all_j201 N v1 v2 v3 v4 v5 t0 t1).1 Mm1 = some (r, M') → ∀ (H : Heap) (locs : List Loc) (cells slots : Nat) (ls : Array Slot), jm_St g b M M' Mm1 s (jm_rm 7 141 M M') H locs cells slots → lv_has ls 8 [(1, .int v1), (2, va_rf v2), (3, .int v3), (4, va_rf v4), (5, .int v5)] → W p l e (jm_rm 7 141 M M') s m args below meth c H locs cells slots (jm_MQX below g b (jm_xo (fun v => some (va_rf v)) r) M M' args s) (F0 m 201 ls [.int t1, va_rf t0]) := by
    intro v1 v2 v3 v4 v5 t0 t1 Mm1 hf H locs cells slots ls hst hl
    unfold jf_X2_all_j201 at hf
    refine lv_iconst (v := 1) hx hb dX2_all_201 (by decide) ?_
    obtain ⟨a5, h6, hf⟩ := jm_rd_some hf
    obtain ⟨fsa5, hea5, hr7⟩ := jm_cl_some h6
    obtain ⟨y9, Mm3, h4, hb10, hy11⟩ := jm_bx_some hf
    rcases hy11 with ⟨q8, rfl, ⟨fsq8, hq12⟩, hf⟩ | ⟨x2, rfl, hf⟩
    · refine jw_VT (As := [.int t1, .int (1 : Int32)]) (rest := []) (C := RX2) (T := TX2) (N := 3) (rv := t0) (jt_X2_must l hl0 g b sa N a5 t1 (1 : Int32) Mm1 Mm3 (.inr q8) h4) C0 hK hKX hst (jm_mono h4) (jm_le_tr hb10 jm_le_rf) q170 q172 qs2 q74 q173 hd_X2_must ⟨Nat.le_of_ble_eq_true rfl, Nat.le_of_ble_eq_true rfl⟩ hea5 hr7 rfl rfl hl.1 rfl (by rw [cs_n]; exact Nat.le_of_ble_eq_true rfl) dX2_all_202 (fun H locs cells slots hst => ?_)
      obtain ⟨rfl, rfl⟩ := jm_ret_some hf
      exact jw_out hK hst hq12 (fun z hz => absurd hz (hto z)) hlk
    refine jw_VX (As := [.int t1, .int (1 : Int32)]) (rest := []) (C := RX2) (T := TX2) (N := 3) (rv := t0) (jt_X2_must l hl0 g b sa N a5 t1 (1 : Int32) Mm1 Mm3 (.inl x2) h4) C0 hK hKX hst (jm_mono h4) (jm_le_tr hb10 jm_le_rf) q170 q172 qs2 q74 q173 hd_X2_must ⟨Nat.le_of_ble_eq_true rfl, Nat.le_of_ble_eq_true rfl⟩ hea5 hr7 rfl rfl hl.1 rfl (by rw [cs_n]; exact Nat.le_of_ble_eq_true rfl) dX2_all_202 (fun H locs cells slots hst => ?_)
    refine W.eq (g2 := F0 m 205 ls []) rfl ?_
    refine lv_iload_n hx hb dX2_all_205 rfl (lv_at hl 2 rfl) ?_
    obtain ⟨_, h13, hf⟩ := jm_rd_some hf
    have h13 := jm_ck_some h13
    obtain ⟨q14, hq14, hf⟩ := jm_al_some hf
    refine jw_anew (kd := 4) (C := "ChainParts$EdgeCell") hx hb hown (hts _ q262) (by simp [jm_aoC]) hK hst rfl h13.1 h13.2 (jm_le_tr (jm_mono hf) jm_le_rf) hq14 dX2_all_206 (fun H cells slots hst => ?_)
    generalize jm_new (.inl (4, v3.toNatClampNeg, .inr (.inr (.inr (.inr (fun _ => none)))))) Mm3 = Mm15 at hf hst
    refine jw_astore (i := 6) (r := (some q14)) (lv' := [(6, va_rf (some q14)), (1, .int v1), (2, va_rf v2), (3, .int v3), (4, va_rf v4), (5, .int v5)]) hx hb dX2_all_209 hl (by decide) rfl (fun ls hl => ?_)
    refine jw_aload_n (r := v2) hx hb dX2_all_211 rfl (lv_at hl 2 rfl) ?_
    refine lv_iconst (v := 0) hx hb dX2_all_212 (by decide) ?_
    refine jw_aload (r := (some q14)) hx hb dX2_all_213 (lv_at hl 0 rfl) ?_
    refine lv_iconst (v := 0) hx hb dX2_all_215 (by decide) ?_
    refine lv_iload_n hx hb dX2_all_216 rfl (lv_at hl 3 rfl) ?_
    obtain ⟨F16, h17, hf⟩ := jm_wr_some hf
    refine jw_copyR (src := v2) (dst := (some q14)) (rest := []) hx hb hml hl.1 hown (hts _ q315) (hts _ q317) (hts _ q316) (hts _ q81) hK hst rfl (as_4 hK) h17 (Nat.le_of_ble_eq_true rfl) (by rw [cs_n]; exact Nat.le_of_ble_eq_true rfl) dX2_all_217 (fun H locs hst => ?_)
    generalize ((Mm15.1, Mm15.2.1, F16) : Mem) = Mm18 at hf hst
    refine lv_iload hx hb dX2_all_220 (lv_at hl 5 rfl) ?_
    obtain ⟨_, h19, hf⟩ := jm_rd_some hf
    have h19 := jm_ck_some h19
    obtain ⟨q20, hq20, hf⟩ := jm_al_some hf
    refine jw_anew (kd := 5) (C := "ChainParts$FaceCell") hx hb hown (hts _ q306) (by simp [jm_aoC]) hK hst rfl h19.1 h19.2 (jm_le_tr (jm_mono hf) jm_le_rf) hq20 dX2_all_222 (fun H cells slots hst => ?_)
    generalize jm_new (.inl (5, v5.toNatClampNeg, .inr (.inr (.inr (.inr (fun _ => none)))))) Mm18 = Mm21 at hf hst
    refine jw_astore (i := 7) (r := (some q20)) (lv' := [(7, va_rf (some q20)), (6, va_rf (some q14)), (1, .int v1), (2, va_rf v2), (3, .int v3), (4, va_rf v4), (5, .int v5)]) hx hb dX2_all_225 hl (by decide) (by simp [va_rf_cat, cat_i, cat_j, cat_f]) (fun ls hl => ?_)
    refine jw_aload (r := v4) hx hb dX2_all_227 (lv_at hl 5 rfl) ?_
    refine lv_iconst (v := 0) hx hb dX2_all_229 (by decide) ?_
    refine jw_aload (r := (some q20)) hx hb dX2_all_230 (lv_at hl 0 rfl) ?_
    refine lv_iconst (v := 0) hx hb dX2_all_232 (by decide) ?_
    refine lv_iload hx hb dX2_all_233 (lv_at hl 6 rfl) ?_
    obtain ⟨F22, h23, hf⟩ := jm_wr_some hf
    refine jw_copyR (src := v4) (dst := (some q20)) (rest := []) hx hb hml hl.1 hown (hts _ q315) (hts _ q317) (hts _ q316) (hts _ q81) hK hst rfl (as_5 hK) h23 (Nat.le_of_ble_eq_true rfl) (by rw [cs_n]; exact Nat.le_of_ble_eq_true rfl) dX2_all_235 (fun H locs hst => ?_)
    generalize ((Mm21.1, Mm21.2.1, F22) : Mem) = Mm24 at hf hst
    obtain ⟨q25, hq25, hf⟩ := jm_al_some hf
    refine jw_new (ci := 9) (C := RX9) (T := TX9) (N := 4) (fs := [.int 0, .null, .null, .null]) hx hb hts in_X9 tyX9 tyX9_ok hown (hts _ q355) (hts _ q356) (hts _ q84) hK hst rfl (fun j hj => by match j, hj with | 0, _ => rfl | 1, _ => rfl | 2, _ => rfl | 3, _ => rfl | k + 4, hj => omega) rfl (jm_le_tr (jm_mono hf) jm_le_rf) hq25 dX2_all_238 (fun H cells slots hst => ?_)
    generalize jm_new (.inr (9, [.int 0, .null, .null, .null])) Mm24 = Mm26 at hf hst
    refine lv_dup hx hb dX2_all_241 (va_rf_cat _) ?_
    refine lv_iload_n hx hb dX2_all_242 rfl (lv_at hl 2 rfl) ?_
    refine jw_aload (r := (some q14)) hx hb dX2_all_243 (lv_at hl 1 rfl) ?_
    refine jw_aload (r := (some q20)) hx hb dX2_all_245 (lv_at hl 0 rfl) ?_
    refine lv_iconst (v := 3) hx hb dX2_all_247 (by decide) ?_
    refine lv_bipush (v := 6) hx hb dX2_all_248 (by decide) ?_
    obtain ⟨_, h27, hf⟩ := jm_rd_some hf
    have h27 := jm_ck_some h27
    obtain ⟨q28, hq28, hf⟩ := jm_ml_some hf
    refine jw_multi (kO := 12) (kI := 0) (ty := .int) (body := (.inl (fun _ => 0))) hx hb hown (by rw [jm_str_II]; exact hts _ q357) (jm_ao_args hK.2.2.2.2.2.2.1) (hts _ q339) hK hst rfl rfl (fun h => h) jm_nmI2 (fun _ _ => rfl) h27.1.1 h27.1.2 h27.2.1 h27.2.2 (Nat.le_of_ble_eq_true rfl) rfl rfl (jm_le_tr (jm_mono hf) jm_le_rf) hq28 dX2_all_250 (fun H cells slots hst => ?_)
    generalize jm_mul 12 0 (3 : Int32).toNatClampNeg (6 : Int32).toNatClampNeg (.inl (fun _ => 0)) Mm26 = Mm29 at hf hst
    obtain ⟨x30, Mm31, h32, hf⟩ := jm_bd_some hf
    refine jw_I (As := [.int v1, va_rf (some q14), va_rf (some q20), va_rf (some q28)]) (rest := [va_rf (some q25)]) (rv := (some q25)) (jt_X9_init l g b N q25 v1 (some q14) (some q20) (some q28) Mm29 Mm31 x30 h32) C0 hK hst (jm_mono h32) (jm_le_tr (jm_mono hf) jm_le_rf) q359 q360 q84 q361 rfl hd_X9_init.2 ⟨Nat.le_of_ble_eq_true rfl, Nat.le_of_ble_eq_true rfl⟩ rfl rfl hl.1 rfl (by rw [cs_r, cs_n]; exact Nat.le_of_ble_eq_true rfl) dX2_all_254 (fun H locs cells slots hst => ?_)
    refine W.eq (g2 := F0 m 257 ls [va_rf (some q25)]) rfl ?_
    obtain ⟨rfl, rfl⟩ := jm_ret_some hf
    exact jw_aret C0 (Or.inl ⟨_, rfl⟩) hst dX2_all_257
  have K115_188 : ∀ (a0 : Nat) (v1 : Int32) (v2 : Option Nat) (v3 : Int32) (v4 : Option Nat) (v5 : Int32) (Mm33 : Mem), (jf_X2_all_k115_188 N a0 v1 v2 v3 v4 v5).1 Mm33 = some (r, M') → ∀ (H : Heap) (locs : List Loc) (cells slots : Nat) (ls : Array Slot), jm_St g b M M' Mm33 s (jm_rm 7 141 M M') H locs cells slots → lv_has ls 8 [(0, va_rf (some a0)), (1, .int v1), (2, va_rf v2), (3, .int v3), (4, va_rf v4), (5, .int v5)] → W p l e (jm_rm 7 141 M M') s m args below meth c H locs cells slots (jm_MQX below g b (jm_xo (fun v => some (va_rf v)) r) M M' args s) (F0 m 188 ls []) := by
    intro a0 v1 v2 v3 v4 v5 Mm33 hf H locs cells slots ls hst hl
    unfold jf_X2_all_k115_188 at hf
    refine jw_aload_n (r := (some a0)) hx hb dX2_all_188 rfl (lv_at hl 0 rfl) ?_
    refine jw_aload_n (r := (some a0)) hx hb dX2_all_189 rfl (lv_at hl 0 rfl) ?_
    obtain ⟨a37, h38, hf⟩ := jm_rd_some hf
    obtain ⟨fsa37, hea37, hr39⟩ := jm_cl_some h38
    obtain ⟨x34, Mm35, h36, hf⟩ := jm_bd_some hf
    refine jw_V (As := []) (rest := [va_rf (some a0)]) (C := RX2) (T := TX2) (N := 3) (rv := (some a0)) (jt_X2_token l g b N a37  Mm33 Mm35 x34 h36) C0 hK hst (jm_mono h36) (jm_le_tr (jm_mono hf) jm_le_rf) q247 q249 qs5 q74 q250 hd_X2_token ⟨Nat.le_of_ble_eq_true rfl, Nat.le_of_ble_eq_true rfl⟩ hea37 hr39 rfl rfl hl.1 rfl (by rw [cs_r, cs_n]; exact Nat.le_of_ble_eq_true rfl) dX2_all_190 (fun H locs cells slots hst => ?_)
    refine W.eq (g2 := F0 m 193 ls [.int x34, va_rf (some a0)]) rfl ?_
    refine lv_if_ne (tgt := 200) hx hb dX2_all_193 (by decide) (fun hc => ?_) (fun hc => ?_)
    · rw [if_neg hc] at hf
      refine lv_iconst (v := 0) hx hb dX2_all_200 (by decide) ?_
      exact J201 v1 v2 v3 v4 v5 (some a0) (0 : Int32) _ hf _ _ _ _ _ hst (lv_sub hl [1, 2, 3, 4, 5] rfl)
    · rw [if_pos hc] at hf
      refine lv_iconst (v := 1) hx hb dX2_all_196 (by decide) ?_
      refine lv_goto (tgt := 201) hx hb dX2_all_197 (by decide) ?_
      exact J201 v1 v2 v3 v4 v5 (some a0) (1 : Int32) _ hf _ _ _ _ _ hst (lv_sub hl [1, 2, 3, 4, 5] rfl)
  have B115 : ∀ (a0 : Nat) (v1 : Int32) (v2 : Option Nat) (v3 : Int32) (v4 : Option Nat) (v5 : Int32) (Mm100 : Mem) (xe115 : (Int32 ⊕ (Int32 ⊕ Nat))) (Me115 : Mem), (jf_X2_all_L115 N a0 v1 v2 v3 v4 v5).1 Mm100 = some (xe115, Me115) → jm_le Me115 M' → (jm_or (fun (z : Int32) => ∀ (H : Heap) (locs : List Loc) (cells slots : Nat) (ls : Array Slot), jm_St g b M M' Me115 s (jm_rm 7 141 M M') H locs cells slots → lv_has ls 8 [(0, va_rf (some a0)), (1, .int v1), (2, va_rf v2), (3, .int v3), (4, va_rf v4), (5, .int z)] → W p l e (jm_rm 7 141 M M') s m args below meth c H locs cells slots (jm_MQX below g b (jm_xo (fun v => some (va_rf v)) r) M M' args s) (F0 m 115 ls [])) (jm_or (fun (y : Int32) => ∀ (H : Heap) (locs : List Loc) (cells slots : Nat) (ls : Array Slot), jm_St g b M M' Me115 s (jm_rm 7 141 M M') H locs cells slots → lv_has ls 8 [(0, va_rf (some a0)), (1, .int v1), (2, va_rf v2), (3, .int v3), (4, va_rf v4), (5, .int y)] → W p l e (jm_rm 7 141 M M') s m args below meth c H locs cells slots (jm_MQX below g b (jm_xo (fun v => some (va_rf v)) r) M M' args s) (F0 m 188 ls [])) (fun (y : Nat) => ∀ (H : Heap) (locs : List Loc) (cells slots pc : Nat) (ls : Array Slot) (rest : List Value), jm_St g b M M' Me115 s (jm_rm 7 141 M M') H locs cells slots → (∃ fs, Me115.2.2 y = some (.inr (3, fs))) → vx_W p l e (jm_rm 7 141 M M') s m args below meth c H locs cells slots (jm_MQX below g b (jm_xo (fun v => some (va_rf v)) r) M M' args s) (F0 m pc ls rest) y)) xe115) → ∀ (H : Heap) (locs : List Loc) (cells slots : Nat) (ls : Array Slot), jm_St g b M M' Mm100 s (jm_rm 7 141 M M') H locs cells slots → lv_has ls 8 [(0, va_rf (some a0)), (1, .int v1), (2, va_rf v2), (3, .int v3), (4, va_rf v4), (5, .int v5)] → W p l e (jm_rm 7 141 M M') s m args below meth c H locs cells slots (jm_MQX below g b (jm_xo (fun v => some (va_rf v)) r) M M' args s) (F0 m 115 ls []) := by
    intro a0 v1 v2 v3 v4 v5 Mm100 xe115 Me115 hf hle115 hk115
    have J136 : ∀ (v5 : Int32) (t0 : Option Nat) (t1 : Int32) (Mm44 : Mem), (jf_X2_all_j136 N a0 v1 v2 v3 v4 v5 t0 t1).1 Mm44 = some (xe115, Me115) → ∀ (H : Heap) (locs : List Loc) (cells slots : Nat) (ls : Array Slot), jm_St g b M M' Mm44 s (jm_rm 7 141 M M') H locs cells slots → lv_has ls 8 [(0, va_rf (some a0)), (1, .int v1), (2, va_rf v2), (3, .int v3), (4, va_rf v4), (5, .int v5)] → W p l e (jm_rm 7 141 M M') s m args below meth c H locs cells slots (jm_MQX below g b (jm_xo (fun v => some (va_rf v)) r) M M' args s) (F0 m 136 ls [.int t1, va_rf t0]) := by
      intro v5 t0 t1 Mm44 hf H locs cells slots ls hst hl
      unfold jf_X2_all_j136 at hf
      refine lv_iconst (v := 3) hx hb dX2_all_136 (by decide) ?_
      obtain ⟨a48, h49, hf⟩ := jm_rd_some hf
      obtain ⟨fsa48, hea48, hr50⟩ := jm_cl_some h49
      obtain ⟨y52, Mm46, h47, hb53, hy54⟩ := jm_bx_some hf
      rcases hy54 with ⟨q51, rfl, ⟨fsq51, hq55⟩, hf⟩ | ⟨x45, rfl, hf⟩
      · refine jw_VT (As := [.int t1, .int (3 : Int32)]) (rest := []) (C := RX2) (T := TX2) (N := 3) (rv := t0) (jt_X2_must l hl0 g b sa N a48 t1 (3 : Int32) Mm44 Mm46 (.inr q51) h47) C0 hK hKX hst (jm_mono h47) (jm_le_tr hb53 hle115) q170 q172 qs2 q74 q173 hd_X2_must ⟨Nat.le_of_ble_eq_true rfl, Nat.le_of_ble_eq_true rfl⟩ hea48 hr50 rfl rfl hl.1 rfl (by rw [cs_n]; exact Nat.le_of_ble_eq_true rfl) dX2_all_137 (fun H locs cells slots hst => ?_)
        obtain ⟨rfl, rfl⟩ := jm_ret_some hf
        exact jm_or_r (jm_or_r hk115) _ _ _ _ _ _ _ hst ⟨_, hq55⟩
      refine jw_VX (As := [.int t1, .int (3 : Int32)]) (rest := []) (C := RX2) (T := TX2) (N := 3) (rv := t0) (jt_X2_must l hl0 g b sa N a48 t1 (3 : Int32) Mm44 Mm46 (.inl x45) h47) C0 hK hKX hst (jm_mono h47) (jm_le_tr hb53 hle115) q170 q172 qs2 q74 q173 hd_X2_must ⟨Nat.le_of_ble_eq_true rfl, Nat.le_of_ble_eq_true rfl⟩ hea48 hr50 rfl rfl hl.1 rfl (by rw [cs_n]; exact Nat.le_of_ble_eq_true rfl) dX2_all_137 (fun H locs cells slots hst => ?_)
      refine W.eq (g2 := F0 m 140 ls []) rfl ?_
      refine jw_aload_n (r := (some a0)) hx hb dX2_all_140 rfl (lv_at hl 0 rfl) ?_
      refine lv_dup hx hb dX2_all_141 (va_rf_cat _) ?_
      obtain ⟨x56, h57, hf⟩ := jm_rd_some hf
      refine jw_getI hx hb hts hown hK hst (fl_X2_19 hts hK) h57 dX2_all_142 ?_
      refine lv_iconst (v := 1) hx hb dX2_all_145 (by decide) ?_
      refine lv_iadd hx hb dX2_all_146 ?_
      obtain ⟨F58, h59, hf⟩ := jm_wr_some hf
      refine jw_put (r := (some a0)) hx hb hts hown hK hst (fw_X2_19 hts) h59 rfl rfl dX2_all_147 (fun H locs hst => ?_)
      generalize ((Mm46.1, Mm46.2.1, F58) : Mem) = Mm60 at hf hst
      refine jw_aload_n (r := (some a0)) hx hb dX2_all_150 rfl (lv_at hl 0 rfl) ?_
      refine lv_iconst (v := 1) hx hb dX2_all_151 (by decide) ?_
      refine lv_iconst (v := 3) hx hb dX2_all_152 (by decide) ?_
      obtain ⟨a64, h65, hf⟩ := jm_rd_some hf
      obtain ⟨fsa64, hea64, hr66⟩ := jm_cl_some h65
      obtain ⟨y68, Mm62, h63, hb69, hy70⟩ := jm_bx_some hf
      rcases hy70 with ⟨q67, rfl, ⟨fsq67, hq71⟩, hf⟩ | ⟨x61, rfl, hf⟩
      · refine jw_VT (As := [.int (1 : Int32), .int (3 : Int32)]) (rest := []) (C := RX2) (T := TX2) (N := 3) (rv := (some a0)) (jt_X2_digit l hl0 g b sa N a64 (1 : Int32) (3 : Int32) Mm60 Mm62 (.inr q67) h63) C0 hK hKX hst (jm_mono h63) (jm_le_tr hb69 hle115) q243 q245 qs4 q74 q246 hd_X2_digit ⟨Nat.le_of_ble_eq_true rfl, Nat.le_of_ble_eq_true rfl⟩ hea64 hr66 rfl rfl hl.1 rfl (by rw [cs_n]; exact Nat.le_of_ble_eq_true rfl) dX2_all_153 (fun H locs cells slots hst => ?_)
        obtain ⟨rfl, rfl⟩ := jm_ret_some hf
        exact jm_or_r (jm_or_r hk115) _ _ _ _ _ _ _ hst ⟨_, hq71⟩
      refine jw_VX (As := [.int (1 : Int32), .int (3 : Int32)]) (rest := []) (C := RX2) (T := TX2) (N := 3) (rv := (some a0)) (jt_X2_digit l hl0 g b sa N a64 (1 : Int32) (3 : Int32) Mm60 Mm62 (.inl x61) h63) C0 hK hKX hst (jm_mono h63) (jm_le_tr hb69 hle115) q243 q245 qs4 q74 q246 hd_X2_digit ⟨Nat.le_of_ble_eq_true rfl, Nat.le_of_ble_eq_true rfl⟩ hea64 hr66 rfl rfl hl.1 rfl (by rw [cs_n]; exact Nat.le_of_ble_eq_true rfl) dX2_all_153 (fun H locs cells slots hst => ?_)
      refine W.eq (g2 := F0 m 156 ls [.int x61]) rfl ?_
      refine lv_istore (i := 6) (lv' := [(6, .int x61), (0, va_rf (some a0)), (1, .int v1), (2, va_rf v2), (3, .int v3), (4, va_rf v4), (5, .int v5)]) hx hb dX2_all_156 hl (by decide) rfl (fun ls hl => ?_)
      refine jw_aload_n (r := (some a0)) hx hb dX2_all_158 rfl (lv_at hl 1 rfl) ?_
      refine jw_aload_n (r := v2) hx hb dX2_all_159 rfl (lv_at hl 3 rfl) ?_
      refine lv_iload_n hx hb dX2_all_160 rfl (lv_at hl 4 rfl) ?_
      obtain ⟨a75, h76, hf⟩ := jm_rd_some hf
      obtain ⟨fsa75, hea75, hr77⟩ := jm_cl_some h76
      obtain ⟨y79, Mm73, h74, hb80, hy81⟩ := jm_bx_some hf
      rcases hy81 with ⟨q78, rfl, ⟨fsq78, hq82⟩, hf⟩ | ⟨x72, rfl, hf⟩
      · refine jw_VT (As := [va_rf v2, .int v3]) (rest := []) (C := RX2) (T := TX2) (N := 3) (rv := (some a0)) (jt_X2_word l hl0 g b sa N a75 v2 v3 Mm62 Mm73 (.inr q78) h74) C0 hK hKX hst (jm_mono h74) (jm_le_tr hb80 hle115) q308 q309 q310 q74 q311 hd_X2_word ⟨Nat.le_of_ble_eq_true rfl, Nat.le_of_ble_eq_true rfl⟩ hea75 hr77 rfl rfl hl.1 rfl (by rw [cs_n]; exact Nat.le_of_ble_eq_true rfl) dX2_all_161 (fun H locs cells slots hst => ?_)
        obtain ⟨rfl, rfl⟩ := jm_ret_some hf
        exact jm_or_r (jm_or_r hk115) _ _ _ _ _ _ _ hst ⟨_, hq82⟩
      refine jw_VX (As := [va_rf v2, .int v3]) (rest := []) (C := RX2) (T := TX2) (N := 3) (rv := (some a0)) (jt_X2_word l hl0 g b sa N a75 v2 v3 Mm62 Mm73 (.inl x72) h74) C0 hK hKX hst (jm_mono h74) (jm_le_tr hb80 hle115) q308 q309 q310 q74 q311 hd_X2_word ⟨Nat.le_of_ble_eq_true rfl, Nat.le_of_ble_eq_true rfl⟩ hea75 hr77 rfl rfl hl.1 rfl (by rw [cs_n]; exact Nat.le_of_ble_eq_true rfl) dX2_all_161 (fun H locs cells slots hst => ?_)
      refine W.eq (g2 := F0 m 164 ls [va_rf x72]) rfl ?_
      refine jw_astore (i := 7) (r := x72) (lv' := [(7, va_rf x72), (6, .int x61), (0, va_rf (some a0)), (1, .int v1), (2, va_rf v2), (3, .int v3), (4, va_rf v4), (5, .int v5)]) hx hb dX2_all_164 hl (by decide) rfl (fun ls hl => ?_)
      refine jw_aload_n (r := (some a0)) hx hb dX2_all_166 rfl (lv_at hl 2 rfl) ?_
      obtain ⟨a86, h87, hf⟩ := jm_rd_some hf
      obtain ⟨fsa86, hea86, hr88⟩ := jm_cl_some h87
      obtain ⟨y90, Mm84, h85, hb91, hy92⟩ := jm_bx_some hf
      rcases hy92 with ⟨q89, rfl, ⟨fsq89, hq93⟩, hf⟩ | ⟨x83, rfl, hf⟩
      · refine jw_VT (As := []) (rest := []) (C := RX2) (T := TX2) (N := 3) (rv := (some a0)) (jt_X2_stop l hl0 g b sa N a86  Mm73 Mm84 (.inr q89) h85) C0 hK hKX hst (jm_mono h85) (jm_le_tr hb91 hle115) q258 q260 qs6 q74 q261 hd_X2_stop ⟨Nat.le_of_ble_eq_true rfl, Nat.le_of_ble_eq_true rfl⟩ hea86 hr88 rfl rfl hl.1 rfl (by rw [cs_n]; exact Nat.le_of_ble_eq_true rfl) dX2_all_167 (fun H locs cells slots hst => ?_)
        obtain ⟨rfl, rfl⟩ := jm_ret_some hf
        exact jm_or_r (jm_or_r hk115) _ _ _ _ _ _ _ hst ⟨_, hq93⟩
      refine jw_VX (As := []) (rest := []) (C := RX2) (T := TX2) (N := 3) (rv := (some a0)) (jt_X2_stop l hl0 g b sa N a86  Mm73 Mm84 (.inl x83) h85) C0 hK hKX hst (jm_mono h85) (jm_le_tr hb91 hle115) q258 q260 qs6 q74 q261 hd_X2_stop ⟨Nat.le_of_ble_eq_true rfl, Nat.le_of_ble_eq_true rfl⟩ hea86 hr88 rfl rfl hl.1 rfl (by rw [cs_n]; exact Nat.le_of_ble_eq_true rfl) dX2_all_167 (fun H locs cells slots hst => ?_)
      refine W.eq (g2 := F0 m 170 ls []) rfl ?_
      refine jw_aload (r := v4) hx hb dX2_all_170 (lv_at hl 6 rfl) ?_
      refine lv_iload hx hb dX2_all_172 (lv_at hl 7 rfl) ?_
      refine lv_iinc (i := 5) (v := (v5 + 1)) (lv' := [(5, .int (v5 + 1)), (7, va_rf x72), (6, .int x61), (0, va_rf (some a0)), (1, .int v1), (2, va_rf v2), (3, .int v3), (4, va_rf v4)]) hx hb dX2_all_174 hl (k := 7) rfl (by rfl) (by decide) (by simp [va_rf_cat, cat_i, cat_j, cat_f]) (fun ls hl => ?_)
      refine jw_aload (r := x72) hx hb dX2_all_177 (lv_at hl 1 rfl) ?_
      refine lv_iload hx hb dX2_all_179 (lv_at hl 2 rfl) ?_
      obtain ⟨x94, Mm95, h96, hf⟩ := jm_bd_some hf
      refine jw_SN (As := [va_rf x72, .int x61]) (rest := [.int v5, va_rf v4]) (jt_X0_faceBy l g b N x72 x61 Mm84 Mm95 x94 h96) C0 hK hst (jm_mono h96) (jm_le_tr (jm_mono hf) hle115) nq318 q319 q72 q320 hd_X0_faceBy.2 ⟨Nat.le_of_ble_eq_true rfl, Nat.le_of_ble_eq_true rfl⟩ rfl hl.1 rfl (by rw [cs_i, cs_r, cs_n]; exact Nat.le_of_ble_eq_true rfl) dX2_all_181 (fun H locs cells slots hst => ?_)
      refine W.eq (g2 := F0 m 184 ls [va_rf x94, .int v5, va_rf v4]) rfl ?_
      obtain ⟨F97, h98, hf⟩ := jm_wr_some hf
      refine jw_astR (kd := 5) (r := v4) (v := x94) hx hb hK hst rfl (as_5 hK) h98 dX2_all_184 (fun H locs hst => ?_)
      generalize ((Mm95.1, Mm95.2.1, F97) : Mem) = Mm99 at hf hst
      refine lv_goto (tgt := 115) hx hb dX2_all_185 (by decide) ?_
      obtain ⟨rfl, rfl⟩ := jm_ret_some hf
      exact jm_or_l hk115 _ _ _ _ _ hst (lv_sub hl [3, 4, 5, 6, 7, 0] rfl)
    intro H locs cells slots ls hst hl
    unfold jf_X2_all_L115 at hf
    refine jw_aload_n (r := (some a0)) hx hb dX2_all_115 rfl (lv_at hl 0 rfl) ?_
    obtain ⟨a104, h105, hf⟩ := jm_rd_some hf
    obtain ⟨fsa104, hea104, hr106⟩ := jm_cl_some h105
    obtain ⟨x101, Mm102, h103, hf⟩ := jm_bd_some hf
    refine jw_V (As := []) (rest := []) (C := RX2) (T := TX2) (N := 3) (rv := (some a0)) (jt_X2_look l g b N a104  Mm100 Mm102 x101 h103) C0 hK hst (jm_mono h103) (jm_le_tr (jm_mono hf) hle115) q165 q167 qs1 q74 q168 hd_X2_look ⟨Nat.le_of_ble_eq_true rfl, Nat.le_of_ble_eq_true rfl⟩ hea104 hr106 rfl rfl hl.1 rfl (by rw [cs_n]; exact Nat.le_of_ble_eq_true rfl) dX2_all_116 (fun H locs cells slots hst => ?_)
    refine W.eq (g2 := F0 m 119 ls [.int x101]) rfl ?_
    refine lv_bipush (v := 102) hx hb dX2_all_119 (by decide) ?_
    refine lv_icmp_ne (tgt := 188) hx hb dX2_all_121 (by decide) (fun hc => ?_) (fun hc => ?_)
    · rw [if_neg hc] at hf
      obtain ⟨rfl, rfl⟩ := jm_ret_some hf
      exact jm_or_l (jm_or_r hk115) _ _ _ _ _ hst (lv_sub hl [0, 1, 2, 3, 4, 5] rfl)
    · rw [if_pos hc] at hf
      refine jw_aload_n (r := (some a0)) hx hb dX2_all_124 rfl (lv_at hl 0 rfl) ?_
      refine lv_iload hx hb dX2_all_125 (lv_at hl 5 rfl) ?_
      refine lv_iconst (v := 4) hx hb dX2_all_127 (by decide) ?_
      refine lv_icmp_ge (tgt := 135) hx hb dX2_all_128 (by decide) (fun hc => ?_) (fun hc => ?_)
      · rw [if_pos hc] at hf
        refine lv_iconst (v := 0) hx hb dX2_all_135 (by decide) ?_
        exact J136 v5 (some a0) (0 : Int32) _ hf _ _ _ _ _ hst (lv_sub hl [0, 1, 2, 3, 4, 5] rfl)
      · rw [if_neg hc] at hf
        refine lv_iconst (v := 1) hx hb dX2_all_131 (by decide) ?_
        refine lv_goto (tgt := 136) hx hb dX2_all_132 (by decide) ?_
        exact J136 v5 (some a0) (1 : Int32) _ hf _ _ _ _ _ hst (lv_sub hl [0, 1, 2, 3, 4, 5] rfl)
  have K25_106 : ∀ (a0 : Nat) (v1 : Int32) (v2 : Option Nat) (v3 : Int32) (Mm40 : Mem), (jf_X2_all_k25_106 N a0 v1 v2 v3).1 Mm40 = some (r, M') → ∀ (H : Heap) (locs : List Loc) (cells slots : Nat) (ls : Array Slot), jm_St g b M M' Mm40 s (jm_rm 7 141 M M') H locs cells slots → lv_has ls 8 [(0, va_rf (some a0)), (1, .int v1), (2, va_rf v2), (3, .int v3)] → W p l e (jm_rm 7 141 M M') s m args below meth c H locs cells slots (jm_MQX below g b (jm_xo (fun v => some (va_rf v)) r) M M' args s) (F0 m 106 ls []) := by
    intro a0 v1 v2 v3 Mm40 hf H locs cells slots ls hst hl
    unfold jf_X2_all_k25_106 at hf
    refine lv_iconst (v := 4) hx hb dX2_all_106 (by decide) ?_
    obtain ⟨_, h41, hf⟩ := jm_rd_some hf
    have h41 := jm_ck_some h41
    obtain ⟨q42, hq42, hf⟩ := jm_al_some hf
    refine jw_anew (kd := 5) (C := "ChainParts$FaceCell") hx hb hown (hts _ q306) (by simp [jm_aoC]) hK hst rfl h41.1 h41.2 (jm_le_tr (jm_mono hf) jm_le_rf) hq42 dX2_all_107 (fun H cells slots hst => ?_)
    generalize jm_new (.inl (5, (4 : Int32).toNatClampNeg, .inr (.inr (.inr (.inr (fun _ => none)))))) Mm40 = Mm43 at hf hst
    refine jw_astore (i := 4) (r := (some q42)) (lv' := [(4, va_rf (some q42)), (0, va_rf (some a0)), (1, .int v1), (2, va_rf v2), (3, .int v3)]) hx hb dX2_all_110 hl (by decide) rfl (fun ls hl => ?_)
    refine lv_iconst (v := 0) hx hb dX2_all_112 (by decide) ?_
    refine lv_istore (i := 5) (lv' := [(5, .int (0 : Int32)), (4, va_rf (some q42)), (0, va_rf (some a0)), (1, .int v1), (2, va_rf v2), (3, .int v3)]) hx hb dX2_all_113 hl (by decide) (by simp [va_rf_cat, cat_i, cat_j, cat_f]) (fun ls hl => ?_)
    obtain ⟨xl115, Ml115, hit115, hf⟩ := jm_bd_some hf
    have hlf115 : jm_le Ml115 M' := jm_le_tr (jm_mono hf) jm_le_rf
    have hwe115 : (fun (y : (Int32 ⊕ Nat)) (Mz : Mem) => jm_or (fun (y : Int32) => ∀ (H : Heap) (locs : List Loc) (cells slots : Nat) (ls : Array Slot), jm_St g b M M' Mz s (jm_rm 7 141 M M') H locs cells slots → lv_has ls 8 [(0, va_rf (some a0)), (1, .int v1), (2, va_rf v2), (3, .int v3), (4, va_rf (some q42)), (5, .int y)] → W p l e (jm_rm 7 141 M M') s m args below meth c H locs cells slots (jm_MQX below g b (jm_xo (fun v => some (va_rf v)) r) M M' args s) (F0 m 188 ls [])) (fun (y : Nat) => ∀ (H : Heap) (locs : List Loc) (cells slots pc : Nat) (ls : Array Slot) (rest : List Value), jm_St g b M M' Mz s (jm_rm 7 141 M M') H locs cells slots → (∃ fs, Mz.2.2 y = some (.inr (3, fs))) → vx_W p l e (jm_rm 7 141 M M') s m args below meth c H locs cells slots (jm_MQX below g b (jm_xo (fun v => some (va_rf v)) r) M M' args s) (F0 m pc ls rest) y) y) xl115 Ml115 := by
      cases xl115 with
      | inl y0 => exact fun H locs cells slots ls hst hl => K115_188 a0 v1 v2 v3 (some q42) y0 _ hf H locs cells slots ls hst hl
      | inr y0 =>
        exact fun H locs cells slots pc ls rest hst hq => by obtain ⟨rfl, rfl⟩ := jm_ret_some hf; exact jw_out hK hst hq.choose_spec (fun z hz => absurd hz (hto z)) hlk
    refine jm_it_walk (Mf := M') (Wh := fun (z : Int32) (Mz : Mem) => ∀ (H : Heap) (locs : List Loc) (cells slots : Nat) (ls : Array Slot), jm_St g b M M' Mz s (jm_rm 7 141 M M') H locs cells slots → lv_has ls 8 [(0, va_rf (some a0)), (1, .int v1), (2, va_rf v2), (3, .int v3), (4, va_rf (some q42)), (5, .int z)] → W p l e (jm_rm 7 141 M M') s m args below meth c H locs cells slots (jm_MQX below g b (jm_xo (fun v => some (va_rf v)) r) M M' args s) (F0 m 115 ls [])) (We := fun (y : (Int32 ⊕ Nat)) (Mz : Mem) => jm_or (fun (y : Int32) => ∀ (H : Heap) (locs : List Loc) (cells slots : Nat) (ls : Array Slot), jm_St g b M M' Mz s (jm_rm 7 141 M M') H locs cells slots → lv_has ls 8 [(0, va_rf (some a0)), (1, .int v1), (2, va_rf v2), (3, .int v3), (4, va_rf (some q42)), (5, .int y)] → W p l e (jm_rm 7 141 M M') s m args below meth c H locs cells slots (jm_MQX below g b (jm_xo (fun v => some (va_rf v)) r) M M' args s) (F0 m 188 ls [])) (fun (y : Nat) => ∀ (H : Heap) (locs : List Loc) (cells slots pc : Nat) (ls : Array Slot) (rest : List Value), jm_St g b M M' Mz s (jm_rm 7 141 M M') H locs cells slots → (∃ fs, Mz.2.2 y = some (.inr (3, fs))) → vx_W p l e (jm_rm 7 141 M M') s m args below meth c H locs cells slots (jm_MQX below g b (jm_xo (fun v => some (va_rf v)) r) M M' args s) (F0 m pc ls rest) y) y) ?_ N (0 : Int32) Mm43 xl115 Ml115 hit115 hlf115 hwe115 _ _ _ _ _ hst (lv_sub hl [2, 3, 4, 5, 1, 0] rfl)
    intro v5 Mm107 xe115 Me115 hf hle115 hk115 H locs cells slots ls hst hl
    have hf : (jf_X2_all_L115 N a0 v1 v2 v3 (some q42) v5).1 Mm107 = some (xe115, Me115) := hf
    have hl : lv_has ls 8 [(0, va_rf (some a0)), (1, .int v1), (2, va_rf v2), (3, .int v3), (4, va_rf (some q42)), (5, .int v5)] := hl
    exact B115 a0 v1 v2 v3 (some q42) v5 _ _ _ hf hle115 hk115 _ _ _ _ _ hst (lv_sub hl [0, 1, 2, 3, 4, 5] rfl)
  have B25 : ∀ (a0 : Nat) (v1 : Int32) (v2 : Option Nat) (v3 : Int32) (Mm211 : Mem) (xe25 : (Int32 ⊕ (Int32 ⊕ Nat))) (Me25 : Mem), (jf_X2_all_L25 N a0 v1 v2 v3).1 Mm211 = some (xe25, Me25) → jm_le Me25 M' → (jm_or (fun (z : Int32) => ∀ (H : Heap) (locs : List Loc) (cells slots : Nat) (ls : Array Slot), jm_St g b M M' Me25 s (jm_rm 7 141 M M') H locs cells slots → lv_has ls 8 [(0, va_rf (some a0)), (1, .int v1), (2, va_rf v2), (3, .int z)] → W p l e (jm_rm 7 141 M M') s m args below meth c H locs cells slots (jm_MQX below g b (jm_xo (fun v => some (va_rf v)) r) M M' args s) (F0 m 25 ls [])) (jm_or (fun (y : Int32) => ∀ (H : Heap) (locs : List Loc) (cells slots : Nat) (ls : Array Slot), jm_St g b M M' Me25 s (jm_rm 7 141 M M') H locs cells slots → lv_has ls 8 [(0, va_rf (some a0)), (1, .int v1), (2, va_rf v2), (3, .int y)] → W p l e (jm_rm 7 141 M M') s m args below meth c H locs cells slots (jm_MQX below g b (jm_xo (fun v => some (va_rf v)) r) M M' args s) (F0 m 106 ls [])) (fun (y : Nat) => ∀ (H : Heap) (locs : List Loc) (cells slots pc : Nat) (ls : Array Slot) (rest : List Value), jm_St g b M M' Me25 s (jm_rm 7 141 M M') H locs cells slots → (∃ fs, Me25.2.2 y = some (.inr (3, fs))) → vx_W p l e (jm_rm 7 141 M M') s m args below meth c H locs cells slots (jm_MQX below g b (jm_xo (fun v => some (va_rf v)) r) M M' args s) (F0 m pc ls rest) y)) xe25) → ∀ (H : Heap) (locs : List Loc) (cells slots : Nat) (ls : Array Slot), jm_St g b M M' Mm211 s (jm_rm 7 141 M M') H locs cells slots → lv_has ls 8 [(0, va_rf (some a0)), (1, .int v1), (2, va_rf v2), (3, .int v3)] → W p l e (jm_rm 7 141 M M') s m args below meth c H locs cells slots (jm_MQX below g b (jm_xo (fun v => some (va_rf v)) r) M M' args s) (F0 m 25 ls []) := by
    intro a0 v1 v2 v3 Mm211 xe25 Me25 hf hle25 hk25
    have J46 : ∀ (v3 : Int32) (t0 : Option Nat) (t1 : Int32) (Mm144 : Mem), (jf_X2_all_j46 N a0 v1 v2 v3 t0 t1).1 Mm144 = some (xe25, Me25) → ∀ (H : Heap) (locs : List Loc) (cells slots : Nat) (ls : Array Slot), jm_St g b M M' Mm144 s (jm_rm 7 141 M M') H locs cells slots → lv_has ls 8 [(0, va_rf (some a0)), (1, .int v1), (2, va_rf v2), (3, .int v3)] → W p l e (jm_rm 7 141 M M') s m args below meth c H locs cells slots (jm_MQX below g b (jm_xo (fun v => some (va_rf v)) r) M M' args s) (F0 m 46 ls [.int t1, va_rf t0]) := by
      intro v3 t0 t1 Mm144 hf H locs cells slots ls hst hl
      unfold jf_X2_all_j46 at hf
      refine lv_iconst (v := 3) hx hb dX2_all_46 (by decide) ?_
      obtain ⟨a148, h149, hf⟩ := jm_rd_some hf
      obtain ⟨fsa148, hea148, hr150⟩ := jm_cl_some h149
      obtain ⟨y152, Mm146, h147, hb153, hy154⟩ := jm_bx_some hf
      rcases hy154 with ⟨q151, rfl, ⟨fsq151, hq155⟩, hf⟩ | ⟨x145, rfl, hf⟩
      · refine jw_VT (As := [.int t1, .int (3 : Int32)]) (rest := []) (C := RX2) (T := TX2) (N := 3) (rv := t0) (jt_X2_must l hl0 g b sa N a148 t1 (3 : Int32) Mm144 Mm146 (.inr q151) h147) C0 hK hKX hst (jm_mono h147) (jm_le_tr hb153 hle25) q170 q172 qs2 q74 q173 hd_X2_must ⟨Nat.le_of_ble_eq_true rfl, Nat.le_of_ble_eq_true rfl⟩ hea148 hr150 rfl rfl hl.1 rfl (by rw [cs_n]; exact Nat.le_of_ble_eq_true rfl) dX2_all_47 (fun H locs cells slots hst => ?_)
        obtain ⟨rfl, rfl⟩ := jm_ret_some hf
        exact jm_or_r (jm_or_r hk25) _ _ _ _ _ _ _ hst ⟨_, hq155⟩
      refine jw_VX (As := [.int t1, .int (3 : Int32)]) (rest := []) (C := RX2) (T := TX2) (N := 3) (rv := t0) (jt_X2_must l hl0 g b sa N a148 t1 (3 : Int32) Mm144 Mm146 (.inl x145) h147) C0 hK hKX hst (jm_mono h147) (jm_le_tr hb153 hle25) q170 q172 qs2 q74 q173 hd_X2_must ⟨Nat.le_of_ble_eq_true rfl, Nat.le_of_ble_eq_true rfl⟩ hea148 hr150 rfl rfl hl.1 rfl (by rw [cs_n]; exact Nat.le_of_ble_eq_true rfl) dX2_all_47 (fun H locs cells slots hst => ?_)
      refine W.eq (g2 := F0 m 50 ls []) rfl ?_
      refine jw_aload_n (r := (some a0)) hx hb dX2_all_50 rfl (lv_at hl 0 rfl) ?_
      refine lv_dup hx hb dX2_all_51 (va_rf_cat _) ?_
      obtain ⟨x156, h157, hf⟩ := jm_rd_some hf
      refine jw_getI hx hb hts hown hK hst (fl_X2_19 hts hK) h157 dX2_all_52 ?_
      refine lv_iconst (v := 1) hx hb dX2_all_55 (by decide) ?_
      refine lv_iadd hx hb dX2_all_56 ?_
      obtain ⟨F158, h159, hf⟩ := jm_wr_some hf
      refine jw_put (r := (some a0)) hx hb hts hown hK hst (fw_X2_19 hts) h159 rfl rfl dX2_all_57 (fun H locs hst => ?_)
      generalize ((Mm146.1, Mm146.2.1, F158) : Mem) = Mm160 at hf hst
      refine jw_aload_n (r := (some a0)) hx hb dX2_all_60 rfl (lv_at hl 0 rfl) ?_
      refine lv_iconst (v := 0) hx hb dX2_all_61 (by decide) ?_
      refine lv_iload_n hx hb dX2_all_62 rfl (lv_at hl 1 rfl) ?_
      refine lv_iconst (v := 1) hx hb dX2_all_63 (by decide) ?_
      refine lv_isub hx hb dX2_all_64 ?_
      obtain ⟨a164, h165, hf⟩ := jm_rd_some hf
      obtain ⟨fsa164, hea164, hr166⟩ := jm_cl_some h165
      obtain ⟨y168, Mm162, h163, hb169, hy170⟩ := jm_bx_some hf
      rcases hy170 with ⟨q167, rfl, ⟨fsq167, hq171⟩, hf⟩ | ⟨x161, rfl, hf⟩
      · refine jw_VT (As := [.int (0 : Int32), .int (v1 - (1 : Int32))]) (rest := []) (C := RX2) (T := TX2) (N := 3) (rv := (some a0)) (jt_X2_digit l hl0 g b sa N a164 (0 : Int32) (v1 - (1 : Int32)) Mm160 Mm162 (.inr q167) h163) C0 hK hKX hst (jm_mono h163) (jm_le_tr hb169 hle25) q243 q245 qs4 q74 q246 hd_X2_digit ⟨Nat.le_of_ble_eq_true rfl, Nat.le_of_ble_eq_true rfl⟩ hea164 hr166 rfl rfl hl.1 rfl (by rw [cs_n]; exact Nat.le_of_ble_eq_true rfl) dX2_all_65 (fun H locs cells slots hst => ?_)
        obtain ⟨rfl, rfl⟩ := jm_ret_some hf
        exact jm_or_r (jm_or_r hk25) _ _ _ _ _ _ _ hst ⟨_, hq171⟩
      refine jw_VX (As := [.int (0 : Int32), .int (v1 - (1 : Int32))]) (rest := []) (C := RX2) (T := TX2) (N := 3) (rv := (some a0)) (jt_X2_digit l hl0 g b sa N a164 (0 : Int32) (v1 - (1 : Int32)) Mm160 Mm162 (.inl x161) h163) C0 hK hKX hst (jm_mono h163) (jm_le_tr hb169 hle25) q243 q245 qs4 q74 q246 hd_X2_digit ⟨Nat.le_of_ble_eq_true rfl, Nat.le_of_ble_eq_true rfl⟩ hea164 hr166 rfl rfl hl.1 rfl (by rw [cs_n]; exact Nat.le_of_ble_eq_true rfl) dX2_all_65 (fun H locs cells slots hst => ?_)
      refine W.eq (g2 := F0 m 68 ls [.int x161]) rfl ?_
      refine lv_istore (i := 4) (lv' := [(4, .int x161), (0, va_rf (some a0)), (1, .int v1), (2, va_rf v2), (3, .int v3)]) hx hb dX2_all_68 hl (by decide) rfl (fun ls hl => ?_)
      refine jw_aload_n (r := (some a0)) hx hb dX2_all_70 rfl (lv_at hl 1 rfl) ?_
      refine lv_iconst (v := 0) hx hb dX2_all_71 (by decide) ?_
      refine lv_iload_n hx hb dX2_all_72 rfl (lv_at hl 2 rfl) ?_
      refine lv_iconst (v := 1) hx hb dX2_all_73 (by decide) ?_
      refine lv_isub hx hb dX2_all_74 ?_
      obtain ⟨a175, h176, hf⟩ := jm_rd_some hf
      obtain ⟨fsa175, hea175, hr177⟩ := jm_cl_some h176
      obtain ⟨y179, Mm173, h174, hb180, hy181⟩ := jm_bx_some hf
      rcases hy181 with ⟨q178, rfl, ⟨fsq178, hq182⟩, hf⟩ | ⟨x172, rfl, hf⟩
      · refine jw_VT (As := [.int (0 : Int32), .int (v1 - (1 : Int32))]) (rest := []) (C := RX2) (T := TX2) (N := 3) (rv := (some a0)) (jt_X2_digit l hl0 g b sa N a175 (0 : Int32) (v1 - (1 : Int32)) Mm162 Mm173 (.inr q178) h174) C0 hK hKX hst (jm_mono h174) (jm_le_tr hb180 hle25) q243 q245 qs4 q74 q246 hd_X2_digit ⟨Nat.le_of_ble_eq_true rfl, Nat.le_of_ble_eq_true rfl⟩ hea175 hr177 rfl rfl hl.1 rfl (by rw [cs_n]; exact Nat.le_of_ble_eq_true rfl) dX2_all_75 (fun H locs cells slots hst => ?_)
        obtain ⟨rfl, rfl⟩ := jm_ret_some hf
        exact jm_or_r (jm_or_r hk25) _ _ _ _ _ _ _ hst ⟨_, hq182⟩
      refine jw_VX (As := [.int (0 : Int32), .int (v1 - (1 : Int32))]) (rest := []) (C := RX2) (T := TX2) (N := 3) (rv := (some a0)) (jt_X2_digit l hl0 g b sa N a175 (0 : Int32) (v1 - (1 : Int32)) Mm162 Mm173 (.inl x172) h174) C0 hK hKX hst (jm_mono h174) (jm_le_tr hb180 hle25) q243 q245 qs4 q74 q246 hd_X2_digit ⟨Nat.le_of_ble_eq_true rfl, Nat.le_of_ble_eq_true rfl⟩ hea175 hr177 rfl rfl hl.1 rfl (by rw [cs_n]; exact Nat.le_of_ble_eq_true rfl) dX2_all_75 (fun H locs cells slots hst => ?_)
      refine W.eq (g2 := F0 m 78 ls [.int x172]) rfl ?_
      refine lv_istore (i := 5) (lv' := [(5, .int x172), (4, .int x161), (0, va_rf (some a0)), (1, .int v1), (2, va_rf v2), (3, .int v3)]) hx hb dX2_all_78 hl (by decide) rfl (fun ls hl => ?_)
      refine jw_aload_n (r := v2) hx hb dX2_all_80 rfl (lv_at hl 4 rfl) ?_
      refine lv_iload_n hx hb dX2_all_81 rfl (lv_at hl 5 rfl) ?_
      refine lv_iload hx hb dX2_all_82 (lv_at hl 1 rfl) ?_
      refine lv_iload hx hb dX2_all_84 (lv_at hl 0 rfl) ?_
      refine jw_aload_n (r := (some a0)) hx hb dX2_all_86 rfl (lv_at hl 2 rfl) ?_
      refine lv_iconst (v := 1) hx hb dX2_all_87 (by decide) ?_
      refine lv_iconst (v := 3) hx hb dX2_all_88 (by decide) ?_
      obtain ⟨a186, h187, hf⟩ := jm_rd_some hf
      obtain ⟨fsa186, hea186, hr188⟩ := jm_cl_some h187
      obtain ⟨y190, Mm184, h185, hb191, hy192⟩ := jm_bx_some hf
      rcases hy192 with ⟨q189, rfl, ⟨fsq189, hq193⟩, hf⟩ | ⟨x183, rfl, hf⟩
      · refine jw_VT (As := [.int (1 : Int32), .int (3 : Int32)]) (rest := [.int x172, .int x161, .int v3, va_rf v2]) (C := RX2) (T := TX2) (N := 3) (rv := (some a0)) (jt_X2_digit l hl0 g b sa N a186 (1 : Int32) (3 : Int32) Mm173 Mm184 (.inr q189) h185) C0 hK hKX hst (jm_mono h185) (jm_le_tr hb191 hle25) q243 q245 qs4 q74 q246 hd_X2_digit ⟨Nat.le_of_ble_eq_true rfl, Nat.le_of_ble_eq_true rfl⟩ hea186 hr188 rfl rfl hl.1 rfl (by rw [cs_i, cs_i, cs_i, cs_r, cs_n]; exact Nat.le_of_ble_eq_true rfl) dX2_all_89 (fun H locs cells slots hst => ?_)
        obtain ⟨rfl, rfl⟩ := jm_ret_some hf
        exact jm_or_r (jm_or_r hk25) _ _ _ _ _ _ _ hst ⟨_, hq193⟩
      refine jw_VX (As := [.int (1 : Int32), .int (3 : Int32)]) (rest := [.int x172, .int x161, .int v3, va_rf v2]) (C := RX2) (T := TX2) (N := 3) (rv := (some a0)) (jt_X2_digit l hl0 g b sa N a186 (1 : Int32) (3 : Int32) Mm173 Mm184 (.inl x183) h185) C0 hK hKX hst (jm_mono h185) (jm_le_tr hb191 hle25) q243 q245 qs4 q74 q246 hd_X2_digit ⟨Nat.le_of_ble_eq_true rfl, Nat.le_of_ble_eq_true rfl⟩ hea186 hr188 rfl rfl hl.1 rfl (by rw [cs_i, cs_i, cs_i, cs_r, cs_n]; exact Nat.le_of_ble_eq_true rfl) dX2_all_89 (fun H locs cells slots hst => ?_)
      refine W.eq (g2 := F0 m 92 ls [.int x183, .int x172, .int x161, .int v3, va_rf v2]) rfl ?_
      obtain ⟨x194, Mm195, h196, hf⟩ := jm_bd_some hf
      refine jw_SN (As := [.int x161, .int x172, .int x183]) (rest := [.int v3, va_rf v2]) (jt_X0_edgeBy l g b N x161 x172 x183 Mm184 Mm195 x194 h196) C0 hK hst (jm_mono h196) (jm_le_tr (jm_mono hf) hle25) nq264 q265 q72 q266 hd_X0_edgeBy.2 ⟨Nat.le_of_ble_eq_true rfl, Nat.le_of_ble_eq_true rfl⟩ rfl hl.1 rfl (by rw [cs_i, cs_r, cs_n]; exact Nat.le_of_ble_eq_true rfl) dX2_all_92 (fun H locs cells slots hst => ?_)
      refine W.eq (g2 := F0 m 95 ls [va_rf x194, .int v3, va_rf v2]) rfl ?_
      obtain ⟨F197, h198, hf⟩ := jm_wr_some hf
      refine jw_astR (kd := 4) (r := v2) (v := x194) hx hb hK hst rfl (as_4 hK) h198 dX2_all_95 (fun H locs hst => ?_)
      generalize ((Mm195.1, Mm195.2.1, F197) : Mem) = Mm199 at hf hst
      refine jw_aload_n (r := (some a0)) hx hb dX2_all_96 rfl (lv_at hl 2 rfl) ?_
      obtain ⟨a203, h204, hf⟩ := jm_rd_some hf
      obtain ⟨fsa203, hea203, hr205⟩ := jm_cl_some h204
      obtain ⟨y207, Mm201, h202, hb208, hy209⟩ := jm_bx_some hf
      rcases hy209 with ⟨q206, rfl, ⟨fsq206, hq210⟩, hf⟩ | ⟨x200, rfl, hf⟩
      · refine jw_VT (As := []) (rest := []) (C := RX2) (T := TX2) (N := 3) (rv := (some a0)) (jt_X2_stop l hl0 g b sa N a203  Mm199 Mm201 (.inr q206) h202) C0 hK hKX hst (jm_mono h202) (jm_le_tr hb208 hle25) q258 q260 qs6 q74 q261 hd_X2_stop ⟨Nat.le_of_ble_eq_true rfl, Nat.le_of_ble_eq_true rfl⟩ hea203 hr205 rfl rfl hl.1 rfl (by rw [cs_n]; exact Nat.le_of_ble_eq_true rfl) dX2_all_97 (fun H locs cells slots hst => ?_)
        obtain ⟨rfl, rfl⟩ := jm_ret_some hf
        exact jm_or_r (jm_or_r hk25) _ _ _ _ _ _ _ hst ⟨_, hq210⟩
      refine jw_VX (As := []) (rest := []) (C := RX2) (T := TX2) (N := 3) (rv := (some a0)) (jt_X2_stop l hl0 g b sa N a203  Mm199 Mm201 (.inl x200) h202) C0 hK hKX hst (jm_mono h202) (jm_le_tr hb208 hle25) q258 q260 qs6 q74 q261 hd_X2_stop ⟨Nat.le_of_ble_eq_true rfl, Nat.le_of_ble_eq_true rfl⟩ hea203 hr205 rfl rfl hl.1 rfl (by rw [cs_n]; exact Nat.le_of_ble_eq_true rfl) dX2_all_97 (fun H locs cells slots hst => ?_)
      refine W.eq (g2 := F0 m 100 ls []) rfl ?_
      refine lv_iinc (i := 3) (v := (v3 + 1)) (lv' := [(3, .int (v3 + 1)), (5, .int x172), (4, .int x161), (0, va_rf (some a0)), (1, .int v1), (2, va_rf v2)]) hx hb dX2_all_100 hl (k := 5) rfl (by rfl) (by decide) (by simp [va_rf_cat, cat_i, cat_j, cat_f]) (fun ls hl => ?_)
      refine lv_goto (tgt := 25) hx hb dX2_all_103 (by decide) ?_
      obtain ⟨rfl, rfl⟩ := jm_ret_some hf
      exact jm_or_l hk25 _ _ _ _ _ hst (lv_sub hl [3, 4, 5, 0] rfl)
    intro H locs cells slots ls hst hl
    unfold jf_X2_all_L25 at hf
    refine jw_aload_n (r := (some a0)) hx hb dX2_all_25 rfl (lv_at hl 0 rfl) ?_
    obtain ⟨a215, h216, hf⟩ := jm_rd_some hf
    obtain ⟨fsa215, hea215, hr217⟩ := jm_cl_some h216
    obtain ⟨x212, Mm213, h214, hf⟩ := jm_bd_some hf
    refine jw_V (As := []) (rest := []) (C := RX2) (T := TX2) (N := 3) (rv := (some a0)) (jt_X2_look l g b N a215  Mm211 Mm213 x212 h214) C0 hK hst (jm_mono h214) (jm_le_tr (jm_mono hf) hle25) q165 q167 qs1 q74 q168 hd_X2_look ⟨Nat.le_of_ble_eq_true rfl, Nat.le_of_ble_eq_true rfl⟩ hea215 hr217 rfl rfl hl.1 rfl (by rw [cs_n]; exact Nat.le_of_ble_eq_true rfl) dX2_all_26 (fun H locs cells slots hst => ?_)
    refine W.eq (g2 := F0 m 29 ls [.int x212]) rfl ?_
    refine lv_bipush (v := 101) hx hb dX2_all_29 (by decide) ?_
    refine lv_icmp_ne (tgt := 106) hx hb dX2_all_31 (by decide) (fun hc => ?_) (fun hc => ?_)
    · rw [if_neg hc] at hf
      obtain ⟨rfl, rfl⟩ := jm_ret_some hf
      exact jm_or_l (jm_or_r hk25) _ _ _ _ _ hst (lv_sub hl [0, 1, 2, 3] rfl)
    · rw [if_pos hc] at hf
      refine jw_aload_n (r := (some a0)) hx hb dX2_all_34 rfl (lv_at hl 0 rfl) ?_
      refine lv_iload_n hx hb dX2_all_35 rfl (lv_at hl 3 rfl) ?_
      refine lv_bipush (v := 6) hx hb dX2_all_36 (by decide) ?_
      refine lv_icmp_ge (tgt := 45) hx hb dX2_all_38 (by decide) (fun hc => ?_) (fun hc => ?_)
      · rw [if_pos hc] at hf
        refine lv_iconst (v := 0) hx hb dX2_all_45 (by decide) ?_
        exact J46 v3 (some a0) (0 : Int32) _ hf _ _ _ _ _ hst (lv_sub hl [0, 1, 2, 3] rfl)
      · rw [if_neg hc] at hf
        refine lv_iconst (v := 1) hx hb dX2_all_41 (by decide) ?_
        refine lv_goto (tgt := 46) hx hb dX2_all_42 (by decide) ?_
        exact J46 v3 (some a0) (1 : Int32) _ hf _ _ _ _ _ hst (lv_sub hl [0, 1, 2, 3] rfl)
  unfold jf_X2_all at hf
  refine jw_aload_n (r := (some a0)) hx hb dX2_all_0 rfl (lv_at hl 0 rfl) ?_
  refine lv_bipush (v := 99) hx hb dX2_all_1 (by decide) ?_
  obtain ⟨a111, h112, hf⟩ := jm_rd_some hf
  obtain ⟨fsa111, hea111, hr113⟩ := jm_cl_some h112
  obtain ⟨y115, Mm109, h110, hb116, hy117⟩ := jm_bx_some hf
  rcases hy117 with ⟨q114, rfl, ⟨fsq114, hq118⟩, hf⟩ | ⟨x108, rfl, hf⟩
  · refine jw_VT (As := [.int (99 : Int32)]) (rest := []) (C := RX2) (T := TX2) (N := 3) (rv := (some a0)) (jt_X2_letter l hl0 g b sa N a111 (99 : Int32) M Mm109 (.inr q114) h110) C0 hK hKX hst (jm_mono h110) (jm_le_tr hb116 jm_le_rf) q161 q163 qs0 q74 q164 hd_X2_letter ⟨Nat.le_of_ble_eq_true rfl, Nat.le_of_ble_eq_true rfl⟩ hea111 hr113 rfl rfl hl.1 rfl (by rw [cs_n]; exact Nat.le_of_ble_eq_true rfl) dX2_all_3 (fun H locs cells slots hst => ?_)
    obtain ⟨rfl, rfl⟩ := jm_ret_some hf
    exact jw_out hK hst hq118 (fun z hz => absurd hz (hto z)) hlk
  refine jw_VX (As := [.int (99 : Int32)]) (rest := []) (C := RX2) (T := TX2) (N := 3) (rv := (some a0)) (jt_X2_letter l hl0 g b sa N a111 (99 : Int32) M Mm109 (.inl x108) h110) C0 hK hKX hst (jm_mono h110) (jm_le_tr hb116 jm_le_rf) q161 q163 qs0 q74 q164 hd_X2_letter ⟨Nat.le_of_ble_eq_true rfl, Nat.le_of_ble_eq_true rfl⟩ hea111 hr113 rfl rfl hl.1 rfl (by rw [cs_n]; exact Nat.le_of_ble_eq_true rfl) dX2_all_3 (fun H locs cells slots hst => ?_)
  refine W.eq (g2 := F0 m 6 ls []) rfl ?_
  refine jw_aload_n (r := (some a0)) hx hb dX2_all_6 rfl (lv_at hl 0 rfl) ?_
  refine lv_iconst (v := 1) hx hb dX2_all_7 (by decide) ?_
  refine lv_iconst (v := 5) hx hb dX2_all_8 (by decide) ?_
  obtain ⟨a122, h123, hf⟩ := jm_rd_some hf
  obtain ⟨fsa122, hea122, hr124⟩ := jm_cl_some h123
  obtain ⟨y126, Mm120, h121, hb127, hy128⟩ := jm_bx_some hf
  rcases hy128 with ⟨q125, rfl, ⟨fsq125, hq129⟩, hf⟩ | ⟨x119, rfl, hf⟩
  · refine jw_VT (As := [.int (1 : Int32), .int (5 : Int32)]) (rest := []) (C := RX2) (T := TX2) (N := 3) (rv := (some a0)) (jt_X2_digit l hl0 g b sa N a122 (1 : Int32) (5 : Int32) Mm109 Mm120 (.inr q125) h121) C0 hK hKX hst (jm_mono h121) (jm_le_tr hb127 jm_le_rf) q243 q245 qs4 q74 q246 hd_X2_digit ⟨Nat.le_of_ble_eq_true rfl, Nat.le_of_ble_eq_true rfl⟩ hea122 hr124 rfl rfl hl.1 rfl (by rw [cs_n]; exact Nat.le_of_ble_eq_true rfl) dX2_all_9 (fun H locs cells slots hst => ?_)
    obtain ⟨rfl, rfl⟩ := jm_ret_some hf
    exact jw_out hK hst hq129 (fun z hz => absurd hz (hto z)) hlk
  refine jw_VX (As := [.int (1 : Int32), .int (5 : Int32)]) (rest := []) (C := RX2) (T := TX2) (N := 3) (rv := (some a0)) (jt_X2_digit l hl0 g b sa N a122 (1 : Int32) (5 : Int32) Mm109 Mm120 (.inl x119) h121) C0 hK hKX hst (jm_mono h121) (jm_le_tr hb127 jm_le_rf) q243 q245 qs4 q74 q246 hd_X2_digit ⟨Nat.le_of_ble_eq_true rfl, Nat.le_of_ble_eq_true rfl⟩ hea122 hr124 rfl rfl hl.1 rfl (by rw [cs_n]; exact Nat.le_of_ble_eq_true rfl) dX2_all_9 (fun H locs cells slots hst => ?_)
  refine W.eq (g2 := F0 m 12 ls [.int x119]) rfl ?_
  refine lv_istore_n (i := 1) (lv' := [(1, .int x119), (0, va_rf (some a0))]) hx hb dX2_all_12 rfl hl (by decide) (by simp [va_rf_cat, cat_i, cat_j, cat_f]) (fun ls hl => ?_)
  refine jw_aload_n (r := (some a0)) hx hb dX2_all_13 rfl (lv_at hl 1 rfl) ?_
  obtain ⟨a133, h134, hf⟩ := jm_rd_some hf
  obtain ⟨fsa133, hea133, hr135⟩ := jm_cl_some h134
  obtain ⟨y137, Mm131, h132, hb138, hy139⟩ := jm_bx_some hf
  rcases hy139 with ⟨q136, rfl, ⟨fsq136, hq140⟩, hf⟩ | ⟨x130, rfl, hf⟩
  · refine jw_VT (As := []) (rest := []) (C := RX2) (T := TX2) (N := 3) (rv := (some a0)) (jt_X2_stop l hl0 g b sa N a133  Mm120 Mm131 (.inr q136) h132) C0 hK hKX hst (jm_mono h132) (jm_le_tr hb138 jm_le_rf) q258 q260 qs6 q74 q261 hd_X2_stop ⟨Nat.le_of_ble_eq_true rfl, Nat.le_of_ble_eq_true rfl⟩ hea133 hr135 rfl rfl hl.1 rfl (by rw [cs_n]; exact Nat.le_of_ble_eq_true rfl) dX2_all_14 (fun H locs cells slots hst => ?_)
    obtain ⟨rfl, rfl⟩ := jm_ret_some hf
    exact jw_out hK hst hq140 (fun z hz => absurd hz (hto z)) hlk
  refine jw_VX (As := []) (rest := []) (C := RX2) (T := TX2) (N := 3) (rv := (some a0)) (jt_X2_stop l hl0 g b sa N a133  Mm120 Mm131 (.inl x130) h132) C0 hK hKX hst (jm_mono h132) (jm_le_tr hb138 jm_le_rf) q258 q260 qs6 q74 q261 hd_X2_stop ⟨Nat.le_of_ble_eq_true rfl, Nat.le_of_ble_eq_true rfl⟩ hea133 hr135 rfl rfl hl.1 rfl (by rw [cs_n]; exact Nat.le_of_ble_eq_true rfl) dX2_all_14 (fun H locs cells slots hst => ?_)
  refine W.eq (g2 := F0 m 17 ls []) rfl ?_
  refine lv_bipush (v := 6) hx hb dX2_all_17 (by decide) ?_
  obtain ⟨_, h141, hf⟩ := jm_rd_some hf
  have h141 := jm_ck_some h141
  obtain ⟨q142, hq142, hf⟩ := jm_al_some hf
  refine jw_anew (kd := 4) (C := "ChainParts$EdgeCell") hx hb hown (hts _ q262) (by simp [jm_aoC]) hK hst rfl h141.1 h141.2 (jm_le_tr (jm_mono hf) jm_le_rf) hq142 dX2_all_19 (fun H cells slots hst => ?_)
  generalize jm_new (.inl (4, (6 : Int32).toNatClampNeg, .inr (.inr (.inr (.inr (fun _ => none)))))) Mm131 = Mm143 at hf hst
  refine jw_astore_n (i := 2) (r := (some q142)) (lv' := [(2, va_rf (some q142)), (1, .int x119), (0, va_rf (some a0))]) hx hb dX2_all_22 rfl hl (by decide) rfl (fun ls hl => ?_)
  refine lv_iconst (v := 0) hx hb dX2_all_23 (by decide) ?_
  refine lv_istore_n (i := 3) (lv' := [(3, .int (0 : Int32)), (2, va_rf (some q142)), (1, .int x119), (0, va_rf (some a0))]) hx hb dX2_all_24 rfl hl (by decide) (by simp [va_rf_cat, cat_i, cat_j, cat_f]) (fun ls hl => ?_)
  obtain ⟨xl25, Ml25, hit25, hf⟩ := jm_bd_some hf
  have hlf25 : jm_le Ml25 M' := jm_le_tr (jm_mono hf) jm_le_rf
  have hwe25 : (fun (y : (Int32 ⊕ Nat)) (Mz : Mem) => jm_or (fun (y : Int32) => ∀ (H : Heap) (locs : List Loc) (cells slots : Nat) (ls : Array Slot), jm_St g b M M' Mz s (jm_rm 7 141 M M') H locs cells slots → lv_has ls 8 [(0, va_rf (some a0)), (1, .int x119), (2, va_rf (some q142)), (3, .int y)] → W p l e (jm_rm 7 141 M M') s m args below meth c H locs cells slots (jm_MQX below g b (jm_xo (fun v => some (va_rf v)) r) M M' args s) (F0 m 106 ls [])) (fun (y : Nat) => ∀ (H : Heap) (locs : List Loc) (cells slots pc : Nat) (ls : Array Slot) (rest : List Value), jm_St g b M M' Mz s (jm_rm 7 141 M M') H locs cells slots → (∃ fs, Mz.2.2 y = some (.inr (3, fs))) → vx_W p l e (jm_rm 7 141 M M') s m args below meth c H locs cells slots (jm_MQX below g b (jm_xo (fun v => some (va_rf v)) r) M M' args s) (F0 m pc ls rest) y) y) xl25 Ml25 := by
    cases xl25 with
    | inl y0 => exact fun H locs cells slots ls hst hl => K25_106 a0 x119 (some q142) y0 _ hf H locs cells slots ls hst hl
    | inr y0 =>
      exact fun H locs cells slots pc ls rest hst hq => by obtain ⟨rfl, rfl⟩ := jm_ret_some hf; exact jw_out hK hst hq.choose_spec (fun z hz => absurd hz (hto z)) hlk
  refine jm_it_walk (Mf := M') (Wh := fun (z : Int32) (Mz : Mem) => ∀ (H : Heap) (locs : List Loc) (cells slots : Nat) (ls : Array Slot), jm_St g b M M' Mz s (jm_rm 7 141 M M') H locs cells slots → lv_has ls 8 [(0, va_rf (some a0)), (1, .int x119), (2, va_rf (some q142)), (3, .int z)] → W p l e (jm_rm 7 141 M M') s m args below meth c H locs cells slots (jm_MQX below g b (jm_xo (fun v => some (va_rf v)) r) M M' args s) (F0 m 25 ls [])) (We := fun (y : (Int32 ⊕ Nat)) (Mz : Mem) => jm_or (fun (y : Int32) => ∀ (H : Heap) (locs : List Loc) (cells slots : Nat) (ls : Array Slot), jm_St g b M M' Mz s (jm_rm 7 141 M M') H locs cells slots → lv_has ls 8 [(0, va_rf (some a0)), (1, .int x119), (2, va_rf (some q142)), (3, .int y)] → W p l e (jm_rm 7 141 M M') s m args below meth c H locs cells slots (jm_MQX below g b (jm_xo (fun v => some (va_rf v)) r) M M' args s) (F0 m 106 ls [])) (fun (y : Nat) => ∀ (H : Heap) (locs : List Loc) (cells slots pc : Nat) (ls : Array Slot) (rest : List Value), jm_St g b M M' Mz s (jm_rm 7 141 M M') H locs cells slots → (∃ fs, Mz.2.2 y = some (.inr (3, fs))) → vx_W p l e (jm_rm 7 141 M M') s m args below meth c H locs cells slots (jm_MQX below g b (jm_xo (fun v => some (va_rf v)) r) M M' args s) (F0 m pc ls rest) y) y) ?_ N (0 : Int32) Mm143 xl25 Ml25 hit25 hlf25 hwe25 _ _ _ _ _ hst (lv_sub hl [3, 2, 1, 0] rfl)
  intro v3 Mm218 xe25 Me25 hf hle25 hk25 H locs cells slots ls hst hl
  have hf : (jf_X2_all_L25 N a0 x119 (some q142) v3).1 Mm218 = some (xe25, Me25) := hf
  have hl : lv_has ls 8 [(0, va_rf (some a0)), (1, .int x119), (2, va_rf (some q142)), (3, .int v3)] := hl
  exact B25 a0 x119 (some q142) v3 _ _ _ hf hle25 hk25 _ _ _ _ _ hst (lv_sub hl [0, 1, 2, 3] rfl)
theorem hd_X2_init : yX2_init.cls = RX2 ∧ yX2_init.cls ≠ "java/lang/invoke/MethodHandle" ∧ yX2_init.cls ≠ "java/lang/invoke/VarHandle" ∧ (parseMethodDescriptor yX2_init.desc).map (fun d => d.parameters.length) = some 2 := by decide +kernel
theorem hd_X2_all : yX2_all.cls = RX2 ∧ yX2_all.cls ≠ "java/lang/invoke/MethodHandle" ∧ yX2_all.cls ≠ "java/lang/invoke/VarHandle" ∧ (parseMethodDescriptor yX2_all.desc).map (fun d => d.parameters.length) = some 0 := by decide +kernel
theorem fl_X0_81 {g : GD} {s : State} {args : Array Value} (hts : ∀ w ∈ lw_all, w.before args s = true) (hK : jm_KG g s) : ∀ q ∈ ([3] : List Nat), jm_FL s args RX0 81 q 0 := by
  intro q hq
  simp only [List.mem_cons, List.not_mem_nil, or_false] at hq
  subst hq
  exact ⟨RX3, TX3F, 2, rfl, in_X3F, by decide, "ChainParts$Fault", Or.inl (hts _ q223), fun _ h => h⟩
theorem fw_X0_84 {s : State} {args : Array Value} {meth : Method} (hts : ∀ w ∈ lw_all, w.before args s = true) : ∀ q ∈ ([0] : List Nat), jm_FW s args meth RX0 84 q 3 .int := by
  intro q hq
  simp only [List.mem_cons, List.not_mem_nil, or_false] at hq
  subst hq
  exact ⟨RX0, TX0, 7, rfl, in_X0, by decide, ⟨tyX0, tyX0_ok⟩, nmX0, tyX0_ok 3 (by decide), "ChainParts", hts _ q106, fun _ h => h, Or.inl rfl⟩
theorem fl_X0_88 {g : GD} {s : State} {args : Array Value} (hts : ∀ w ∈ lw_all, w.before args s = true) (hK : jm_KG g s) : ∀ q ∈ ([3] : List Nat), jm_FL s args RX0 88 q 1 := by
  intro q hq
  simp only [List.mem_cons, List.not_mem_nil, or_false] at hq
  subst hq
  exact ⟨RX3, TX3F, 2, rfl, in_X3F, by decide, "ChainParts$Fault", Or.inl (hts _ q225), fun _ h => h⟩
def jf_X0_complex (N : Nat) (a0 : Nat) : jm_P Int32 :=
  jm_al (.inr (2, [.null, .int 0, .int 0])) fun q1 =>
  jm_rd (jm_fR [0] 1 (some a0)) fun x3 =>
  jm_rd (jm_fI [0] 2 (some a0)) fun x5 =>
  jm_bd (jf_X2_init N q1 x3 x5) fun x7 =>
  jm_wr (jm_put [0] 2 (.int (0 : Int32)) (some a0)) <|
  jm_rd (jm_cl 2 (some q1)) fun a16 =>
  jm_bx (jf_X2_all N a16 ) (fun q19 => (
    jm_rd (jm_fI [3] 0 (some q19)) fun x24 =>
    jm_wr (jm_put [0] 3 (.int x24) (some a0)) <|
    jm_rd (jm_fI [3] 1 (some q19)) fun x29 =>
    jm_ret ((-1000100 : Int32) - x29))) fun x13 =>
  jm_wr (jm_put [0] 0 (va_rf x13) (some a0)) <|
  jm_wr (jm_put [0] 5 (.int (0 : Int32)) (some a0)) <|
  jm_rd (jm_fR [0] 0 (some a0)) fun x37 =>
  jm_rd (jm_fI [9] 0 x37) fun x39 =>
  jm_rd (jm_fR [0] 0 (some a0)) fun x41 =>
  jm_rd (jm_fR [9] 1 x41) fun x43 =>
  jm_rd (jm_len 4 x43) fun x45 =>
  jm_rd (jm_fR [0] 0 (some a0)) fun x47 =>
  jm_rd (jm_fR [9] 2 x47) fun x49 =>
  jm_rd (jm_len 5 x49) fun x51 =>
  jm_ret ((x39 + x45) + x51)
set_option maxHeartbeats 4000000 in
set_option maxRecDepth 100000 in
theorem jt_X0_complex (l : Launch) (hl0 : l.stackTraces = false) (g : GD) (b sa N : Nat) (a0 : Nat) (M M' : Mem) (r : Int32) (hf : (jf_X0_complex N a0).1 M = some (r, M')) : jm_MX l g b sa yX0_complex (wsW_ yX0_complex cX0_complex 3 (some .int) [(21, 29, 32, 79)]) 8 168 [va_rf (some a0)] M M' (.inl (some (.int r))) := by
  refine jm_startXW (by decide) (jm_mono hf) (by rw [lg_sl_r, lg_sl_n]; exact Nat.le_of_ble_eq_true rfl) ?_
  intro p e s m args below meth c ls C0 hin hK hKX hst hl hto
  obtain ⟨hx, hb, hml, hown, hts, hr, hlk⟩ := id C0
  have hown : s.vm.findClass RX0 = some m.cls := hown
  have C0 : jm_Cx p s m args meth c cX0_complex 3 (some .int) RX0 := C0
  rw [lv_args_r, lv_args_n] at hl
  have hl : lv_has ls 3 [(0, va_rf (some a0))] := hl
  unfold jf_X0_complex at hf
  obtain ⟨q1, hq1, hf⟩ := jm_al_some hf
  refine jw_new (ci := 2) (C := RX2) (T := TX2) (N := 3) (fs := [.null, .int 0, .int 0]) hx hb hts in_X2 tyX2 tyX2_ok hown (hts _ q141) (hts _ q142) (hts _ q74) hK hst rfl (fun j hj => by match j, hj with | 0, _ => rfl | 1, _ => rfl | 2, _ => rfl | k + 3, hj => omega) rfl (jm_le_tr (jm_mono hf) jm_le_rf) hq1 dX0_complex_0 (fun H cells slots hst => ?_)
  generalize jm_new (.inr (2, [.null, .int 0, .int 0])) M = Mm2 at hf hst
  refine lv_dup hx hb dX0_complex_3 (va_rf_cat _) ?_
  refine jw_aload_n (r := (some a0)) hx hb dX0_complex_4 rfl (lv_at hl 0 rfl) ?_
  obtain ⟨x3, h4, hf⟩ := jm_rd_some hf
  refine jw_getR hx hb hts hown hK hst (fl_X0_41 hts hK) h4 dX0_complex_5 ?_
  refine jw_aload_n (r := (some a0)) hx hb dX0_complex_8 rfl (lv_at hl 0 rfl) ?_
  obtain ⟨x5, h6, hf⟩ := jm_rd_some hf
  refine jw_getI hx hb hts hown hK hst (fl_X0_61 hts hK) h6 dX0_complex_9 ?_
  obtain ⟨x7, Mm8, h9, hf⟩ := jm_bd_some hf
  refine jw_I (As := [va_rf x3, .int x5]) (rest := [va_rf (some q1)]) (rv := (some q1)) (jt_X2_init l g b N q1 x3 x5 Mm2 Mm8 x7 h9) C0 hK hst (jm_mono h9) (jm_le_tr (jm_mono hf) jm_le_rf) q143 q144 q74 q145 rfl hd_X2_init.2 ⟨Nat.le_of_ble_eq_true rfl, Nat.le_of_ble_eq_true rfl⟩ rfl rfl hl.1 rfl (by rw [cs_r, cs_n]; exact Nat.le_of_ble_eq_true rfl) dX0_complex_12 (fun H locs cells slots hst => ?_)
  refine W.eq (g2 := F0 m 15 ls [va_rf (some q1)]) rfl ?_
  refine jw_astore_n (i := 1) (r := (some q1)) (lv' := [(1, va_rf (some q1)), (0, va_rf (some a0))]) hx hb dX0_complex_15 rfl hl (by decide) (by simp [va_rf_cat, cat_i, cat_j, cat_f]) (fun ls hl => ?_)
  refine jw_aload_n (r := (some a0)) hx hb dX0_complex_16 rfl (lv_at hl 1 rfl) ?_
  refine lv_iconst (v := 0) hx hb dX0_complex_17 (by decide) ?_
  obtain ⟨F10, h11, hf⟩ := jm_wr_some hf
  refine jw_put (r := (some a0)) hx hb hts hown hK hst (fw_X0_61 hts) h11 rfl rfl dX0_complex_18 (fun H locs hst => ?_)
  generalize ((Mm8.1, Mm8.2.1, F10) : Mem) = Mm12 at hf hst
  refine jw_aload_n (r := (some a0)) hx hb dX0_complex_21 rfl (lv_at hl 1 rfl) ?_
  refine jw_aload_n (r := (some q1)) hx hb dX0_complex_22 rfl (lv_at hl 0 rfl) ?_
  obtain ⟨a16, h17, hf⟩ := jm_rd_some hf
  obtain ⟨fsa16, hea16, hr18⟩ := jm_cl_some h17
  obtain ⟨y20, Mm14, h15, hb21, hy22⟩ := jm_bx_some hf
  rcases hy22 with ⟨q19, rfl, ⟨fsq19, hq23⟩, hf⟩ | ⟨x13, rfl, hf⟩
  · refine jw_VT (As := []) (rest := [va_rf (some a0)]) (C := RX2) (T := TX2) (N := 3) (rv := (some q1)) (jt_X2_all l hl0 g b sa N a16  Mm12 Mm14 (.inr q19) h15) C0 hK hKX hst (jm_mono h15) (jm_le_tr hb21 jm_le_rf) q157 q158 q159 q74 q160 hd_X2_all ⟨Nat.le_of_ble_eq_true rfl, Nat.le_of_ble_eq_true rfl⟩ hea16 hr18 rfl rfl hl.1 rfl (by rw [cs_r, cs_n]; exact Nat.le_of_ble_eq_true rfl) dX0_complex_23 (fun H locs cells slots hst => ?_)
    refine jw_catch (cpc := 32) (z := ⟨21, 29, 32, 79⟩) C0 hK hst hq23 hto (by decide) (by decide) q140 rfl ?_
    refine jw_astore_n (i := 2) (r := (some q19)) (lv' := [(2, va_rf (some q19)), (1, va_rf (some q1)), (0, va_rf (some a0))]) hx hb dX0_complex_32 rfl hl (by decide) (by simp [va_rf_cat, cat_i, cat_j, cat_f]) (fun ls hl => ?_)
    refine jw_aload_n (r := (some a0)) hx hb dX0_complex_33 rfl (lv_at hl 2 rfl) ?_
    refine jw_aload_n (r := (some q19)) hx hb dX0_complex_34 rfl (lv_at hl 0 rfl) ?_
    obtain ⟨x24, h25, hf⟩ := jm_rd_some hf
    refine jw_getI hx hb hts hown hK hst (fl_X0_81 hts hK) h25 dX0_complex_35 ?_
    obtain ⟨F26, h27, hf⟩ := jm_wr_some hf
    refine jw_put (r := (some a0)) hx hb hts hown hK hst (fw_X0_84 hts) h27 rfl rfl dX0_complex_38 (fun H locs hst => ?_)
    generalize ((Mm14.1, Mm14.2.1, F26) : Mem) = Mm28 at hf hst
    refine lv_ldc hx hb hown (hts _ q380) dX0_complex_41 ?_
    refine jw_aload_n (r := (some q19)) hx hb dX0_complex_43 rfl (lv_at hl 0 rfl) ?_
    obtain ⟨x29, h30, hf⟩ := jm_rd_some hf
    refine jw_getI hx hb hts hown hK hst (fl_X0_88 hts hK) h30 dX0_complex_44 ?_
    refine lv_isub hx hb dX0_complex_47 ?_
    obtain ⟨rfl, rfl⟩ := jm_ret_some hf
    exact jw_iret C0 hst dX0_complex_48
  refine jw_VX (As := []) (rest := [va_rf (some a0)]) (C := RX2) (T := TX2) (N := 3) (rv := (some q1)) (jt_X2_all l hl0 g b sa N a16  Mm12 Mm14 (.inl x13) h15) C0 hK hKX hst (jm_mono h15) (jm_le_tr hb21 jm_le_rf) q157 q158 q159 q74 q160 hd_X2_all ⟨Nat.le_of_ble_eq_true rfl, Nat.le_of_ble_eq_true rfl⟩ hea16 hr18 rfl rfl hl.1 rfl (by rw [cs_r, cs_n]; exact Nat.le_of_ble_eq_true rfl) dX0_complex_23 (fun H locs cells slots hst => ?_)
  refine W.eq (g2 := F0 m 26 ls [va_rf x13, va_rf (some a0)]) rfl ?_
  obtain ⟨F31, h32, hf⟩ := jm_wr_some hf
  refine jw_put (r := (some a0)) hx hb hts hown hK hst (fw_X0_75 hts) h32 (va_nar_o _) (va_fits_o _) dX0_complex_26 (fun H locs hst => ?_)
  generalize ((Mm14.1, Mm14.2.1, F31) : Mem) = Mm33 at hf hst
  refine lv_goto (tgt := 49) hx hb dX0_complex_29 (by decide) ?_
  refine jw_aload_n (r := (some a0)) hx hb dX0_complex_49 rfl (lv_at hl 1 rfl) ?_
  refine lv_iconst (v := 0) hx hb dX0_complex_50 (by decide) ?_
  obtain ⟨F34, h35, hf⟩ := jm_wr_some hf
  refine jw_put (r := (some a0)) hx hb hts hown hK hst (fw_X0_91 hts) h35 rfl rfl dX0_complex_51 (fun H locs hst => ?_)
  generalize ((Mm33.1, Mm33.2.1, F34) : Mem) = Mm36 at hf hst
  refine jw_aload_n (r := (some a0)) hx hb dX0_complex_54 rfl (lv_at hl 1 rfl) ?_
  obtain ⟨x37, h38, hf⟩ := jm_rd_some hf
  refine jw_getR hx hb hts hown hK hst (fl_X0_75 hts hK) h38 dX0_complex_55 ?_
  obtain ⟨x39, h40, hf⟩ := jm_rd_some hf
  refine jw_getI hx hb hts hown hK hst (fl_X0_94 hts hK) h40 dX0_complex_58 ?_
  refine jw_aload_n (r := (some a0)) hx hb dX0_complex_61 rfl (lv_at hl 1 rfl) ?_
  obtain ⟨x41, h42, hf⟩ := jm_rd_some hf
  refine jw_getR hx hb hts hown hK hst (fl_X0_75 hts hK) h42 dX0_complex_62 ?_
  obtain ⟨x43, h44, hf⟩ := jm_rd_some hf
  refine jw_getR hx hb hts hown hK hst (fl_X0_97 hts hK) h44 dX0_complex_65 ?_
  obtain ⟨x45, h46, hf⟩ := jm_rd_some hf
  refine jw_alen hx hb hK hst (show jm_ty[4]? = some (.object "ChainParts$EdgeCell") from rfl) h46 dX0_complex_68 ?_
  refine lv_iadd hx hb dX0_complex_69 ?_
  refine jw_aload_n (r := (some a0)) hx hb dX0_complex_70 rfl (lv_at hl 1 rfl) ?_
  obtain ⟨x47, h48, hf⟩ := jm_rd_some hf
  refine jw_getR hx hb hts hown hK hst (fl_X0_75 hts hK) h48 dX0_complex_71 ?_
  obtain ⟨x49, h50, hf⟩ := jm_rd_some hf
  refine jw_getR hx hb hts hown hK hst (fl_X0_101 hts hK) h50 dX0_complex_74 ?_
  obtain ⟨x51, h52, hf⟩ := jm_rd_some hf
  refine jw_alen hx hb hK hst (show jm_ty[5]? = some (.object "ChainParts$FaceCell") from rfl) h52 dX0_complex_77 ?_
  refine lv_iadd hx hb dX0_complex_78 ?_
  obtain ⟨rfl, rfl⟩ := jm_ret_some hf
  exact jw_iret C0 hst dX0_complex_79
def jf_X0_word (N : Nat) (a0 : Nat) (v1 : Int32) : jm_P (Option Nat) :=
  jm_al (.inr (2, [.null, .int 0, .int 0])) fun q1 =>
  jm_rd (jm_fR [0] 1 (some a0)) fun x3 =>
  jm_bd (jf_X2_init N q1 x3 v1) fun x5 =>
  jm_rd (jm_fR [0] 0 (some a0)) fun x8 =>
  jm_rd (jm_fR [9] 1 x8) fun x10 =>
  jm_rd (jm_fR [0] 0 (some a0)) fun x12 =>
  jm_rd (jm_fR [9] 1 x12) fun x14 =>
  jm_rd (jm_len 4 x14) fun x16 =>
  jm_rd (jm_cl 2 (some q1)) fun a21 =>
  jm_bx (jf_X2_word N a21 x10 x16) (fun q24 => jm_ret none) fun x18 =>
  jm_rd (jm_cl 2 (some q1)) fun a32 =>
  jm_bd (jf_X2_token N a32 ) fun x29 =>
  if x29 = 0 then (
    jm_ret x18)
  else
    jm_ret none
set_option maxHeartbeats 4000000 in
set_option maxRecDepth 100000 in
theorem jt_X0_word (l : Launch) (hl0 : l.stackTraces = false) (g : GD) (b sa N : Nat) (a0 : Nat) (v1 : Int32) (M M' : Mem) (r : (Option Nat)) (hf : (jf_X0_word N a0 v1).1 M = some (r, M')) : jm_MX l g b sa yX0_word (wsW_ yX0_word cX0_word 4 (some (.array .int)) [(13, 45, 46, 79)]) 7 141 [va_rf (some a0), .int v1] M M' (.inl (some (va_rf r))) := by
  refine jm_startXW (by decide) (jm_mono hf) (by rw [lg_sl_r, lg_sl_i, lg_sl_n]; exact Nat.le_of_ble_eq_true rfl) ?_
  intro p e s m args below meth c ls C0 hin hK hKX hst hl hto
  obtain ⟨hx, hb, hml, hown, hts, hr, hlk⟩ := id C0
  have hown : s.vm.findClass RX0 = some m.cls := hown
  have C0 : jm_Cx p s m args meth c cX0_word 4 (some (.array .int)) RX0 := C0
  rw [lv_args_r, lv_args_i, lv_args_n] at hl
  have hl : lv_has ls 4 [(0, va_rf (some a0)), (1, .int v1)] := hl
  unfold jf_X0_word at hf
  obtain ⟨q1, hq1, hf⟩ := jm_al_some hf
  refine jw_new (ci := 2) (C := RX2) (T := TX2) (N := 3) (fs := [.null, .int 0, .int 0]) hx hb hts in_X2 tyX2 tyX2_ok hown (hts _ q141) (hts _ q142) (hts _ q74) hK hst rfl (fun j hj => by match j, hj with | 0, _ => rfl | 1, _ => rfl | 2, _ => rfl | k + 3, hj => omega) rfl (jm_le_tr (jm_mono hf) jm_le_rf) hq1 dX0_word_0 (fun H cells slots hst => ?_)
  generalize jm_new (.inr (2, [.null, .int 0, .int 0])) M = Mm2 at hf hst
  refine lv_dup hx hb dX0_word_3 (va_rf_cat _) ?_
  refine jw_aload_n (r := (some a0)) hx hb dX0_word_4 rfl (lv_at hl 0 rfl) ?_
  obtain ⟨x3, h4, hf⟩ := jm_rd_some hf
  refine jw_getR hx hb hts hown hK hst (fl_X0_41 hts hK) h4 dX0_word_5 ?_
  refine lv_iload_n hx hb dX0_word_8 rfl (lv_at hl 1 rfl) ?_
  obtain ⟨x5, Mm6, h7, hf⟩ := jm_bd_some hf
  refine jw_I (As := [va_rf x3, .int v1]) (rest := [va_rf (some q1)]) (rv := (some q1)) (jt_X2_init l g b N q1 x3 v1 Mm2 Mm6 x5 h7) C0 hK hst (jm_mono h7) (jm_le_tr (jm_mono hf) jm_le_rf) q143 q144 q74 q145 rfl hd_X2_init.2 ⟨Nat.le_of_ble_eq_true rfl, Nat.le_of_ble_eq_true rfl⟩ rfl rfl hl.1 rfl (by rw [cs_r, cs_n]; exact Nat.le_of_ble_eq_true rfl) dX0_word_9 (fun H locs cells slots hst => ?_)
  refine W.eq (g2 := F0 m 12 ls [va_rf (some q1)]) rfl ?_
  refine jw_astore_n (i := 2) (r := (some q1)) (lv' := [(2, va_rf (some q1)), (0, va_rf (some a0)), (1, .int v1)]) hx hb dX0_word_12 rfl hl (by decide) rfl (fun ls hl => ?_)
  refine jw_aload_n (r := (some q1)) hx hb dX0_word_13 rfl (lv_at hl 0 rfl) ?_
  refine jw_aload_n (r := (some a0)) hx hb dX0_word_14 rfl (lv_at hl 1 rfl) ?_
  obtain ⟨x8, h9, hf⟩ := jm_rd_some hf
  refine jw_getR hx hb hts hown hK hst (fl_X0_75 hts hK) h9 dX0_word_15 ?_
  obtain ⟨x10, h11, hf⟩ := jm_rd_some hf
  refine jw_getR hx hb hts hown hK hst (fl_X0_97 hts hK) h11 dX0_word_18 ?_
  refine jw_aload_n (r := (some a0)) hx hb dX0_word_21 rfl (lv_at hl 1 rfl) ?_
  obtain ⟨x12, h13, hf⟩ := jm_rd_some hf
  refine jw_getR hx hb hts hown hK hst (fl_X0_75 hts hK) h13 dX0_word_22 ?_
  obtain ⟨x14, h15, hf⟩ := jm_rd_some hf
  refine jw_getR hx hb hts hown hK hst (fl_X0_97 hts hK) h15 dX0_word_25 ?_
  obtain ⟨x16, h17, hf⟩ := jm_rd_some hf
  refine jw_alen hx hb hK hst (show jm_ty[4]? = some (.object "ChainParts$EdgeCell") from rfl) h17 dX0_word_28 ?_
  obtain ⟨a21, h22, hf⟩ := jm_rd_some hf
  obtain ⟨fsa21, hea21, hr23⟩ := jm_cl_some h22
  obtain ⟨y25, Mm19, h20, hb26, hy27⟩ := jm_bx_some hf
  rcases hy27 with ⟨q24, rfl, ⟨fsq24, hq28⟩, hf⟩ | ⟨x18, rfl, hf⟩
  · refine jw_VT (As := [va_rf x10, .int x16]) (rest := []) (C := RX2) (T := TX2) (N := 3) (rv := (some q1)) (jt_X2_word l hl0 g b sa N a21 x10 x16 Mm6 Mm19 (.inr q24) h20) C0 hK hKX hst (jm_mono h20) (jm_le_tr hb26 jm_le_rf) q464 q309 q310 q74 q311 hd_X2_word ⟨Nat.le_of_ble_eq_true rfl, Nat.le_of_ble_eq_true rfl⟩ hea21 hr23 rfl rfl hl.1 rfl (by rw [cs_n]; exact Nat.le_of_ble_eq_true rfl) dX0_word_29 (fun H locs cells slots hst => ?_)
    refine jw_catch (cpc := 46) (z := ⟨13, 45, 46, 79⟩) C0 hK hst hq28 hto (by decide) (by decide) q140 rfl ?_
    refine jw_astore_n (i := 3) (r := (some q24)) (lv' := [(3, va_rf (some q24)), (2, va_rf (some q1)), (0, va_rf (some a0)), (1, .int v1)]) hx hb dX0_word_46 rfl hl (by decide) (by simp [va_rf_cat, cat_i, cat_j, cat_f]) (fun ls hl => ?_)
    refine jw_null hx hb dX0_word_47 ?_
    obtain ⟨rfl, rfl⟩ := jm_ret_some hf
    exact jw_aret C0 (Or.inr ⟨_, rfl⟩) hst dX0_word_48
  refine jw_VX (As := [va_rf x10, .int x16]) (rest := []) (C := RX2) (T := TX2) (N := 3) (rv := (some q1)) (jt_X2_word l hl0 g b sa N a21 x10 x16 Mm6 Mm19 (.inl x18) h20) C0 hK hKX hst (jm_mono h20) (jm_le_tr hb26 jm_le_rf) q464 q309 q310 q74 q311 hd_X2_word ⟨Nat.le_of_ble_eq_true rfl, Nat.le_of_ble_eq_true rfl⟩ hea21 hr23 rfl rfl hl.1 rfl (by rw [cs_n]; exact Nat.le_of_ble_eq_true rfl) dX0_word_29 (fun H locs cells slots hst => ?_)
  refine W.eq (g2 := F0 m 32 ls [va_rf x18]) rfl ?_
  refine jw_astore_n (i := 3) (r := x18) (lv' := [(3, va_rf x18), (2, va_rf (some q1)), (0, va_rf (some a0)), (1, .int v1)]) hx hb dX0_word_32 rfl hl (by decide) (by simp [va_rf_cat, cat_i, cat_j, cat_f]) (fun ls hl => ?_)
  refine jw_aload_n (r := (some q1)) hx hb dX0_word_33 rfl (lv_at hl 1 rfl) ?_
  obtain ⟨a32, h33, hf⟩ := jm_rd_some hf
  obtain ⟨fsa32, hea32, hr34⟩ := jm_cl_some h33
  obtain ⟨x29, Mm30, h31, hf⟩ := jm_bd_some hf
  refine jw_VN (As := []) (rest := []) (C := RX2) (T := TX2) (N := 3) (rv := (some q1)) (jt_X2_token l g b N a32  Mm19 Mm30 x29 h31) C0 hK hst (jm_mono h31) (jm_le_tr (jm_mono hf) jm_le_rf) nq465 q249 qs5 q74 q250 hd_X2_token.2 ⟨Nat.le_of_ble_eq_true rfl, Nat.le_of_ble_eq_true rfl⟩ hea32 hr34 rfl rfl hl.1 rfl (by rw [cs_n]; exact Nat.le_of_ble_eq_true rfl) dX0_word_34 (fun H locs cells slots hst => ?_)
  refine W.eq (g2 := F0 m 37 ls [.int x29]) rfl ?_
  refine lv_if_ne (tgt := 44) hx hb dX0_word_37 (by decide) (fun hc => ?_) (fun hc => ?_)
  · rw [if_neg hc] at hf
    refine jw_null hx hb dX0_word_44 ?_
    obtain ⟨rfl, rfl⟩ := jm_ret_some hf
    exact jw_aret C0 (Or.inr ⟨_, rfl⟩) hst dX0_word_45
  · rw [if_pos hc] at hf
    refine jw_aload_n (r := x18) hx hb dX0_word_40 rfl (lv_at hl 0 rfl) ?_
    refine lv_goto (tgt := 45) hx hb dX0_word_41 (by decide) ?_
    obtain ⟨rfl, rfl⟩ := jm_ret_some hf
    exact jw_aret C0 (Or.inr ⟨_, rfl⟩) hst dX0_word_45
theorem hd_X0_word : yX0_word.cls = RX0 ∧ yX0_word.cls ≠ "java/lang/invoke/MethodHandle" ∧ yX0_word.cls ≠ "java/lang/invoke/VarHandle" ∧ (parseMethodDescriptor yX0_word.desc).map (fun d => d.parameters.length) = some 1 := by decide +kernel
def jf_X0_face (N : Nat) (a0 : Nat) (v1 : Int32) : jm_P Int32 :=
  jm_rd (jm_fI [0] 2 (some a0)) fun x1 =>
  jm_wr (jm_put [0] 2 (.int (0 : Int32)) (some a0)) <|
  jm_rd (jm_fR [0] 0 (some a0)) fun x6 =>
  if x6 = none then (
    jm_ret (-1000002 : Int32))
  else
    jm_rd (jm_cl 0 (some a0)) fun a11 =>
    jm_bd (jf_X0_word N a11 x1) fun x8 =>
    jm_bd (jf_X0_isWeight N v1) fun x14 =>
    if x14 = 0 then (
      jm_ret (-1000001 : Int32))
    else
      if x8 = none then (
        jm_ret (-1000001 : Int32))
      else
        jm_rd (jm_fR [0] 0 (some a0)) fun x17 =>
        jm_rd (jm_fR [9] 2 x17) fun x19 =>
        jm_rd (jm_len 5 x19) fun x21 =>
        if x21 = (4 : Int32) then (
          jm_ret (-1000003 : Int32))
        else
          jm_rd (jm_fR [0] 0 (some a0)) fun x23 =>
          jm_bd (jf_X0_faceBy N x8 v1) fun x25 =>
          jm_rd (jm_cl 9 x23) fun a31 =>
          jm_bd (jf_X9_withFace N a31 x21 x25) fun x28 =>
          jm_rd (jm_cl 0 (some a0)) fun a37 =>
          jm_bd (jf_X0_act N a37 x28) fun x34 =>
          jm_ret x21
set_option maxHeartbeats 4000000 in
set_option maxRecDepth 100000 in
theorem jt_X0_face (l : Launch) (hl0 : l.stackTraces = false) (g : GD) (b sa N : Nat) (a0 : Nat) (v1 : Int32) (M M' : Mem) (r : Int32) (hf : (jf_X0_face N a0 v1).1 M = some (r, M')) : jm_MX l g b sa yX0_face (ws_ yX0_face cX0_face 5 (some .int)) 8 164 [va_rf (some a0), .int v1] M M' (.inl (some (.int r))) := by
  refine jm_startX (by decide) (jm_mono hf) (by rw [lg_sl_r, lg_sl_i, lg_sl_n]; exact Nat.le_of_ble_eq_true rfl) ?_
  intro p e s m args below meth c ls C0 hin hK hKX hst hl hto
  obtain ⟨hx, hb, hml, hown, hts, hr, hlk⟩ := id C0
  have hown : s.vm.findClass RX0 = some m.cls := hown
  have C0 : jm_Cx p s m args meth c cX0_face 5 (some .int) RX0 := C0
  rw [lv_args_r, lv_args_i, lv_args_n] at hl
  have hl : lv_has ls 5 [(0, va_rf (some a0)), (1, .int v1)] := hl
  unfold jf_X0_face at hf
  refine jw_aload_n (r := (some a0)) hx hb dX0_face_0 rfl (lv_at hl 0 rfl) ?_
  obtain ⟨x1, h2, hf⟩ := jm_rd_some hf
  refine jw_getI hx hb hts hown hK hst (fl_X0_61 hts hK) h2 dX0_face_1 ?_
  refine lv_istore_n (i := 2) (lv' := [(2, .int x1), (0, va_rf (some a0)), (1, .int v1)]) hx hb dX0_face_4 rfl hl (by decide) rfl (fun ls hl => ?_)
  refine jw_aload_n (r := (some a0)) hx hb dX0_face_5 rfl (lv_at hl 1 rfl) ?_
  refine lv_iconst (v := 0) hx hb dX0_face_6 (by decide) ?_
  obtain ⟨F3, h4, hf⟩ := jm_wr_some hf
  refine jw_put (r := (some a0)) hx hb hts hown hK hst (fw_X0_61 hts) h4 rfl rfl dX0_face_7 (fun H locs hst => ?_)
  generalize ((M.1, M.2.1, F3) : Mem) = Mm5 at hf hst
  refine jw_aload_n (r := (some a0)) hx hb dX0_face_10 rfl (lv_at hl 1 rfl) ?_
  obtain ⟨x6, h7, hf⟩ := jm_rd_some hf
  refine jw_getR hx hb hts hown hK hst (fl_X0_75 hts hK) h7 dX0_face_11 ?_
  refine jw_ifnonnull (tgt := 20) hx hb dX0_face_14 (by decide) (fun hc => ?_) (fun hc => ?_)
  · rw [if_neg hc] at hf
    refine jw_aload_n (r := (some a0)) hx hb dX0_face_20 rfl (lv_at hl 1 rfl) ?_
    refine lv_iload_n hx hb dX0_face_21 rfl (lv_at hl 0 rfl) ?_
    obtain ⟨a11, h12, hf⟩ := jm_rd_some hf
    obtain ⟨fsa11, hea11, hr13⟩ := jm_cl_some h12
    obtain ⟨x8, Mm9, h10, hf⟩ := jm_bd_some hf
    refine jw_VXW (hh := [(13, 45, 46, 79)]) (As := [.int x1]) (rest := []) (C := RX0) (T := TX0) (N := 7) (rv := (some a0)) (jt_X0_word l hl0 g b sa N a11 x1 Mm5 Mm9 x8 h10) C0 hK hKX hst (jm_mono h10) (jm_le_tr (jm_mono hf) jm_le_rf) q460 q462 qs9 q72 q463 hd_X0_word ⟨Nat.le_of_ble_eq_true rfl, Nat.le_of_ble_eq_true rfl⟩ hea11 hr13 rfl rfl hl.1 rfl (by rw [cs_n]; exact Nat.le_of_ble_eq_true rfl) dX0_face_22 (fun H locs cells slots hst => ?_)
    refine W.eq (g2 := F0 m 25 ls [va_rf x8]) rfl ?_
    refine jw_astore_n (i := 3) (r := x8) (lv' := [(3, va_rf x8), (2, .int x1), (0, va_rf (some a0)), (1, .int v1)]) hx hb dX0_face_25 rfl hl (by decide) rfl (fun ls hl => ?_)
    refine lv_iload_n hx hb dX0_face_26 rfl (lv_at hl 3 rfl) ?_
    obtain ⟨x14, Mm15, h16, hf⟩ := jm_bd_some hf
    refine jw_S (As := [.int v1]) (rest := []) (jt_X0_isWeight l g b N v1 Mm9 Mm15 x14 h16) C0 hK hst (jm_mono h16) (jm_le_tr (jm_mono hf) jm_le_rf) q403 q404 q72 q405 hd_X0_isWeight.2 ⟨Nat.le_of_ble_eq_true rfl, Nat.le_of_ble_eq_true rfl⟩ rfl hl.1 rfl (by rw [cs_n]; exact Nat.le_of_ble_eq_true rfl) dX0_face_27 (fun H locs cells slots hst => ?_)
    refine W.eq (g2 := F0 m 30 ls [.int x14]) rfl ?_
    refine lv_if_eq (tgt := 37) hx hb dX0_face_30 (by decide) (fun hc => ?_) (fun hc => ?_)
    · rw [if_pos hc] at hf
      refine lv_ldc hx hb hown (hts _ q134) dX0_face_37 ?_
      obtain ⟨rfl, rfl⟩ := jm_ret_some hf
      exact jw_iret C0 hst dX0_face_39
    · rw [if_neg hc] at hf
      refine jw_aload_n (r := x8) hx hb dX0_face_33 rfl (lv_at hl 0 rfl) ?_
      refine jw_ifnonnull (tgt := 40) hx hb dX0_face_34 (by decide) (fun hc => ?_) (fun hc => ?_)
      · rw [if_neg hc] at hf
        refine jw_aload_n (r := (some a0)) hx hb dX0_face_40 rfl (lv_at hl 2 rfl) ?_
        obtain ⟨x17, h18, hf⟩ := jm_rd_some hf
        refine jw_getR hx hb hts hown hK hst (fl_X0_75 hts hK) h18 dX0_face_41 ?_
        obtain ⟨x19, h20, hf⟩ := jm_rd_some hf
        refine jw_getR hx hb hts hown hK hst (fl_X0_101 hts hK) h20 dX0_face_44 ?_
        obtain ⟨x21, h22, hf⟩ := jm_rd_some hf
        refine jw_alen hx hb hK hst (show jm_ty[5]? = some (.object "ChainParts$FaceCell") from rfl) h22 dX0_face_47 ?_
        refine lv_istore (i := 4) (lv' := [(4, .int x21), (3, va_rf x8), (2, .int x1), (0, va_rf (some a0)), (1, .int v1)]) hx hb dX0_face_48 hl (by decide) (by simp [va_rf_cat, cat_i, cat_j, cat_f]) (fun ls hl => ?_)
        refine lv_iload hx hb dX0_face_50 (lv_at hl 0 rfl) ?_
        refine lv_iconst (v := 4) hx hb dX0_face_52 (by decide) ?_
        refine lv_icmp_ne (tgt := 59) hx hb dX0_face_53 (by decide) (fun hc => ?_) (fun hc => ?_)
        · rw [if_neg hc] at hf
          refine jw_aload_n (r := (some a0)) hx hb dX0_face_59 rfl (lv_at hl 3 rfl) ?_
          refine jw_aload_n (r := (some a0)) hx hb dX0_face_60 rfl (lv_at hl 3 rfl) ?_
          obtain ⟨x23, h24, hf⟩ := jm_rd_some hf
          refine jw_getR hx hb hts hown hK hst (fl_X0_75 hts hK) h24 dX0_face_61 ?_
          refine lv_iload hx hb dX0_face_64 (lv_at hl 0 rfl) ?_
          refine jw_aload_n (r := x8) hx hb dX0_face_66 rfl (lv_at hl 1 rfl) ?_
          refine lv_iload_n hx hb dX0_face_67 rfl (lv_at hl 4 rfl) ?_
          obtain ⟨x25, Mm26, h27, hf⟩ := jm_bd_some hf
          refine jw_S (As := [va_rf x8, .int v1]) (rest := [.int x21, va_rf x23, va_rf (some a0)]) (jt_X0_faceBy l g b N x8 v1 Mm15 Mm26 x25 h27) C0 hK hst (jm_mono h27) (jm_le_tr (jm_mono hf) jm_le_rf) q466 q319 q72 q320 hd_X0_faceBy.2 ⟨Nat.le_of_ble_eq_true rfl, Nat.le_of_ble_eq_true rfl⟩ rfl hl.1 rfl (by rw [cs_i, cs_r, cs_r, cs_n]; exact Nat.le_of_ble_eq_true rfl) dX0_face_68 (fun H locs cells slots hst => ?_)
          refine W.eq (g2 := F0 m 71 ls [va_rf x25, .int x21, va_rf x23, va_rf (some a0)]) rfl ?_
          obtain ⟨a31, h32, hf⟩ := jm_rd_some hf
          obtain ⟨fsa31, hea31, hr33⟩ := jm_cl_some h32
          obtain ⟨x28, Mm29, h30, hf⟩ := jm_bd_some hf
          refine jw_V (As := [.int x21, va_rf x25]) (rest := [va_rf (some a0)]) (C := RX9) (T := TX9) (N := 4) (rv := x23) (jt_X9_withFace l g b N a31 x21 x25 Mm26 Mm29 x28 h30) C0 hK hst (jm_mono h30) (jm_le_tr (jm_mono hf) jm_le_rf) q442 q443 q444 q84 q445 hd_X9_withFace ⟨Nat.le_of_ble_eq_true rfl, Nat.le_of_ble_eq_true rfl⟩ hea31 hr33 rfl rfl hl.1 rfl (by rw [cs_r, cs_n]; exact Nat.le_of_ble_eq_true rfl) dX0_face_71 (fun H locs cells slots hst => ?_)
          refine W.eq (g2 := F0 m 74 ls [va_rf x28, va_rf (some a0)]) rfl ?_
          obtain ⟨a37, h38, hf⟩ := jm_rd_some hf
          obtain ⟨fsa37, hea37, hr39⟩ := jm_cl_some h38
          obtain ⟨x34, Mm35, h36, hf⟩ := jm_bd_some hf
          refine jw_V (As := [va_rf x28]) (rest := []) (C := RX0) (T := TX0) (N := 7) (rv := (some a0)) (jt_X0_act l g b N a37 x28 Mm29 Mm35 x34 h36) C0 hK hst (jm_mono h36) (jm_le_tr (jm_mono hf) jm_le_rf) q447 q449 qs8 q72 q450 hd_X0_act ⟨Nat.le_of_ble_eq_true rfl, Nat.le_of_ble_eq_true rfl⟩ hea37 hr39 rfl rfl hl.1 rfl (by rw [cs_n]; exact Nat.le_of_ble_eq_true rfl) dX0_face_74 (fun H locs cells slots hst => ?_)
          refine W.eq (g2 := F0 m 77 ls []) rfl ?_
          refine lv_iload hx hb dX0_face_77 (lv_at hl 0 rfl) ?_
          obtain ⟨rfl, rfl⟩ := jm_ret_some hf
          exact jw_iret C0 hst dX0_face_79
        · rw [if_pos hc] at hf
          refine lv_ldc hx hb hown (hts _ q135) dX0_face_56 ?_
          obtain ⟨rfl, rfl⟩ := jm_ret_some hf
          exact jw_iret C0 hst dX0_face_58
      · rw [if_pos hc] at hf
        refine lv_ldc hx hb hown (hts _ q134) dX0_face_37 ?_
        obtain ⟨rfl, rfl⟩ := jm_ret_some hf
        exact jw_iret C0 hst dX0_face_39
  · rw [if_pos hc] at hf
    refine lv_ldc hx hb hown (hts _ q389) dX0_face_17 ?_
    obtain ⟨rfl, rfl⟩ := jm_ret_some hf
    exact jw_iret C0 hst dX0_face_19
def jf_X0_placeFor (N : Nat) (v0 : Int32) : jm_P (Option Nat) :=
  if v0 = (0 : Int32) then (
    jm_rd (jm_ck (¬ (1 : Int32) < 0 ∧ (1 : Int32).toNatClampNeg ≤ 1000)) fun _ =>
    jm_al (.inl (7, (1 : Int32).toNatClampNeg, .inr (.inr (.inr (.inr (fun _ => none)))))) fun q2 =>
    jm_ret (some q2))
  else
  if v0 = (1 : Int32) then (
    jm_rd (jm_ck (¬ (1 : Int32) < 0 ∧ (1 : Int32).toNatClampNeg ≤ 1000)) fun _ =>
    jm_al (.inl (8, (1 : Int32).toNatClampNeg, .inr (.inr (.inr (.inr (fun _ => none)))))) fun q5 =>
    jm_ret (some q5))
  else
  if v0 = (2 : Int32) then (
    jm_rd (jm_ck (¬ (1 : Int32) < 0 ∧ (1 : Int32).toNatClampNeg ≤ 1000)) fun _ =>
    jm_al (.inl (4, (1 : Int32).toNatClampNeg, .inr (.inr (.inr (.inr (fun _ => none)))))) fun q8 =>
    jm_ret (some q8))
  else
  if v0 = (3 : Int32) then (
    jm_rd (jm_ck (¬ (1 : Int32) < 0 ∧ (1 : Int32).toNatClampNeg ≤ 1000)) fun _ =>
    jm_al (.inl (9, (1 : Int32).toNatClampNeg, .inr (.inr (.inr (.inr (fun _ => none)))))) fun q11 =>
    jm_ret (some q11))
  else
  if v0 = (4 : Int32) then (
    jm_rd (jm_ck (¬ (1 : Int32) < 0 ∧ (1 : Int32).toNatClampNeg ≤ 1000)) fun _ =>
    jm_al (.inl (5, (1 : Int32).toNatClampNeg, .inr (.inr (.inr (.inr (fun _ => none)))))) fun q14 =>
    jm_ret (some q14))
  else
  jm_rd (jm_ck (¬ (1 : Int32) < 0 ∧ (1 : Int32).toNatClampNeg ≤ 1000)) fun _ =>
  jm_al (.inl (10, (1 : Int32).toNatClampNeg, .inr (.inr (.inr (.inr (fun _ => none)))))) fun q17 =>
  jm_ret (some q17)
set_option maxHeartbeats 4000000 in
set_option maxRecDepth 100000 in
theorem jt_X0_placeFor (l : Launch) (g : GD) (b N : Nat) (v0 : Int32) (M M' : Mem) (r : (Option Nat)) (hf : (jf_X0_placeFor N v0).1 M = some (r, M')) : jm_Met l g b yX0_placeFor (ws_ yX0_placeFor cX0_placeFor 1 (some (.array (.object "ChainParts$Cell")))) 0 0 [.int v0] M M' (some (va_rf r)) := by
  refine jm_start (by decide) (jm_mono hf) (by rw [lg_sl_i, lg_sl_n]; exact Nat.le_of_ble_eq_true rfl) ?_
  intro p e s m args below meth c ls C0 hin hK hst hl
  obtain ⟨hx, hb, hml, hown, hts, hr, hlk⟩ := id C0
  have hown : s.vm.findClass RX0 = some m.cls := hown
  have C0 : jm_Cx p s m args meth c cX0_placeFor 1 (some (.array (.object "ChainParts$Cell"))) RX0 := C0
  rw [lv_args_i, lv_args_n] at hl
  have hl : lv_has ls 1 [(0, .int v0)] := hl
  unfold jf_X0_placeFor at hf
  refine lv_iload_n hx hb dX0_placeFor_0 rfl (lv_at hl 0 rfl) ?_
  by_cases hn0 : v0 = (0 : Int32)
  · rw [if_pos hn0] at hf
    refine lv_tableIn (tgt := 36) hx hb dX0_placeFor_1 (by rw [hn0]; decide) (by rw [hn0]; decide) (off := 35) (by rw [hn0]; rfl) (by decide) ?_
    refine lv_iconst (v := 1) hx hb dX0_placeFor_36 (by decide) ?_
    obtain ⟨_, h1, hf⟩ := jm_rd_some hf
    have h1 := jm_ck_some h1
    obtain ⟨q2, hq2, hf⟩ := jm_al_some hf
    refine jw_anew (kd := 7) (C := "ChainParts$Cell") hx hb hown (hts _ q594) (by simp [jm_aoC]) hK hst rfl h1.1 h1.2 (jm_le_tr (jm_mono hf) jm_le_rf) hq2 dX0_placeFor_37 (fun H cells slots hst => ?_)
    generalize jm_new (.inl (7, (1 : Int32).toNatClampNeg, .inr (.inr (.inr (.inr (fun _ => none)))))) M = Mm3 at hf hst
    obtain ⟨rfl, rfl⟩ := jm_ret_some hf
    exact jw_aret C0 (Or.inr ⟨_, rfl⟩) hst dX0_placeFor_40
  rw [if_neg hn0] at hf
  by_cases hn1 : v0 = (1 : Int32)
  · rw [if_pos hn1] at hf
    refine lv_tableIn (tgt := 41) hx hb dX0_placeFor_1 (by rw [hn1]; decide) (by rw [hn1]; decide) (off := 40) (by rw [hn1]; rfl) (by decide) ?_
    refine lv_iconst (v := 1) hx hb dX0_placeFor_41 (by decide) ?_
    obtain ⟨_, h4, hf⟩ := jm_rd_some hf
    have h4 := jm_ck_some h4
    obtain ⟨q5, hq5, hf⟩ := jm_al_some hf
    refine jw_anew (kd := 8) (C := "ChainParts$PointCell") hx hb hown (hts _ q596) (by simp [jm_aoC]) hK hst rfl h4.1 h4.2 (jm_le_tr (jm_mono hf) jm_le_rf) hq5 dX0_placeFor_42 (fun H cells slots hst => ?_)
    generalize jm_new (.inl (8, (1 : Int32).toNatClampNeg, .inr (.inr (.inr (.inr (fun _ => none)))))) M = Mm6 at hf hst
    obtain ⟨rfl, rfl⟩ := jm_ret_some hf
    exact jw_aret C0 (Or.inr ⟨_, rfl⟩) hst dX0_placeFor_45
  rw [if_neg hn1] at hf
  by_cases hn2 : v0 = (2 : Int32)
  · rw [if_pos hn2] at hf
    refine lv_tableIn (tgt := 46) hx hb dX0_placeFor_1 (by rw [hn2]; decide) (by rw [hn2]; decide) (off := 45) (by rw [hn2]; rfl) (by decide) ?_
    refine lv_iconst (v := 1) hx hb dX0_placeFor_46 (by decide) ?_
    obtain ⟨_, h7, hf⟩ := jm_rd_some hf
    have h7 := jm_ck_some h7
    obtain ⟨q8, hq8, hf⟩ := jm_al_some hf
    refine jw_anew (kd := 4) (C := "ChainParts$EdgeCell") hx hb hown (hts _ q299) (by simp [jm_aoC]) hK hst rfl h7.1 h7.2 (jm_le_tr (jm_mono hf) jm_le_rf) hq8 dX0_placeFor_47 (fun H cells slots hst => ?_)
    generalize jm_new (.inl (4, (1 : Int32).toNatClampNeg, .inr (.inr (.inr (.inr (fun _ => none)))))) M = Mm9 at hf hst
    obtain ⟨rfl, rfl⟩ := jm_ret_some hf
    exact jw_aret C0 (Or.inr ⟨_, rfl⟩) hst dX0_placeFor_50
  rw [if_neg hn2] at hf
  by_cases hn3 : v0 = (3 : Int32)
  · rw [if_pos hn3] at hf
    refine lv_tableIn (tgt := 51) hx hb dX0_placeFor_1 (by rw [hn3]; decide) (by rw [hn3]; decide) (off := 50) (by rw [hn3]; rfl) (by decide) ?_
    refine lv_iconst (v := 1) hx hb dX0_placeFor_51 (by decide) ?_
    obtain ⟨_, h10, hf⟩ := jm_rd_some hf
    have h10 := jm_ck_some h10
    obtain ⟨q11, hq11, hf⟩ := jm_al_some hf
    refine jw_anew (kd := 9) (C := "ChainParts$LoopCell") hx hb hown (hts _ q267) (by simp [jm_aoC]) hK hst rfl h10.1 h10.2 (jm_le_tr (jm_mono hf) jm_le_rf) hq11 dX0_placeFor_52 (fun H cells slots hst => ?_)
    generalize jm_new (.inl (9, (1 : Int32).toNatClampNeg, .inr (.inr (.inr (.inr (fun _ => none)))))) M = Mm12 at hf hst
    obtain ⟨rfl, rfl⟩ := jm_ret_some hf
    exact jw_aret C0 (Or.inr ⟨_, rfl⟩) hst dX0_placeFor_55
  rw [if_neg hn3] at hf
  by_cases hn4 : v0 = (4 : Int32)
  · rw [if_pos hn4] at hf
    refine lv_tableIn (tgt := 56) hx hb dX0_placeFor_1 (by rw [hn4]; decide) (by rw [hn4]; decide) (off := 55) (by rw [hn4]; rfl) (by decide) ?_
    refine lv_iconst (v := 1) hx hb dX0_placeFor_56 (by decide) ?_
    obtain ⟨_, h13, hf⟩ := jm_rd_some hf
    have h13 := jm_ck_some h13
    obtain ⟨q14, hq14, hf⟩ := jm_al_some hf
    refine jw_anew (kd := 5) (C := "ChainParts$FaceCell") hx hb hown (hts _ q321) (by simp [jm_aoC]) hK hst rfl h13.1 h13.2 (jm_le_tr (jm_mono hf) jm_le_rf) hq14 dX0_placeFor_57 (fun H cells slots hst => ?_)
    generalize jm_new (.inl (5, (1 : Int32).toNatClampNeg, .inr (.inr (.inr (.inr (fun _ => none)))))) M = Mm15 at hf hst
    obtain ⟨rfl, rfl⟩ := jm_ret_some hf
    exact jw_aret C0 (Or.inr ⟨_, rfl⟩) hst dX0_placeFor_60
  rw [if_neg hn4] at hf
  have hz0 : v0.toInt ≠ 0 := fun q => hn0 (Int32.toInt_inj.mp (q.trans (by decide)))
  have hz1 : v0.toInt ≠ 1 := fun q => hn1 (Int32.toInt_inj.mp (q.trans (by decide)))
  have hz2 : v0.toInt ≠ 2 := fun q => hn2 (Int32.toInt_inj.mp (q.trans (by decide)))
  have hz3 : v0.toInt ≠ 3 := fun q => hn3 (Int32.toInt_inj.mp (q.trans (by decide)))
  have hz4 : v0.toInt ≠ 4 := fun q => hn4 (Int32.toInt_inj.mp (q.trans (by decide)))
  refine lv_tableOut (tgt := 61) hx hb dX0_placeFor_1 (by omega) (by decide) ?_
  refine lv_iconst (v := 1) hx hb dX0_placeFor_61 (by decide) ?_
  obtain ⟨_, h16, hf⟩ := jm_rd_some hf
  have h16 := jm_ck_some h16
  obtain ⟨q17, hq17, hf⟩ := jm_al_some hf
  refine jw_anew (kd := 10) (C := "ChainParts$SealedCell") hx hb hown (hts _ q346) (by simp [jm_aoC]) hK hst rfl h16.1 h16.2 (jm_le_tr (jm_mono hf) jm_le_rf) hq17 dX0_placeFor_62 (fun H cells slots hst => ?_)
  generalize jm_new (.inl (10, (1 : Int32).toNatClampNeg, .inr (.inr (.inr (.inr (fun _ => none)))))) M = Mm18 at hf hst
  obtain ⟨rfl, rfl⟩ := jm_ret_some hf
  exact jw_aret C0 (Or.inr ⟨_, rfl⟩) hst dX0_placeFor_65
