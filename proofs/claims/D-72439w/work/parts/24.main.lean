/-! WALKS, printed by gen.py: 24.main -/
theorem fw_X0_41 {s : State} {args : Array Value} {meth : Method} (hts : ∀ w ∈ lw_all, w.before args s = true) (hin : meth.name = "<init>") : ∀ q ∈ ([0] : List Nat), jm_FW s args meth RX0 41 q 1 (.array .byte) := by
  intro q hq
  simp only [List.mem_cons, List.not_mem_nil, or_false] at hq
  subst hq
  exact ⟨RX0, TX0, 7, rfl, in_X0, by decide, ⟨tyX0, tyX0_ok⟩, nmX0, tyX0_ok 1 (by decide), "ChainParts", hts _ q104, fun _ h => h, Or.inr ⟨rfl, hin, rfl⟩⟩
theorem fw_X0_47 {s : State} {args : Array Value} {meth : Method} (hts : ∀ w ∈ lw_all, w.before args s = true) (hin : meth.name = "<init>") : ∀ q ∈ ([0] : List Nat), jm_FW s args meth RX0 47 q 4 (.array (.object "ChainParts$Complex")) := by
  intro q hq
  simp only [List.mem_cons, List.not_mem_nil, or_false] at hq
  subst hq
  exact ⟨RX0, TX0, 7, rfl, in_X0, by decide, ⟨tyX0, tyX0_ok⟩, nmX0, tyX0_ok 4 (by decide), "ChainParts", hts _ q107, fun _ h => h, Or.inr ⟨rfl, hin, rfl⟩⟩
theorem fw_X0_51 {s : State} {args : Array Value} {meth : Method} (hts : ∀ w ∈ lw_all, w.before args s = true) (hin : meth.name = "<init>") : ∀ q ∈ ([0] : List Nat), jm_FW s args meth RX0 51 q 6 (.array (.object "ChainParts$Complex")) := by
  intro q hq
  simp only [List.mem_cons, List.not_mem_nil, or_false] at hq
  subst hq
  exact ⟨RX0, TX0, 7, rfl, in_X0, by decide, ⟨tyX0, tyX0_ok⟩, nmX0, tyX0_ok 6 (by decide), "ChainParts", hts _ q109, fun _ h => h, Or.inr ⟨rfl, hin, rfl⟩⟩
def jf_X0_init (N : Nat) (a0 : Nat) : jm_P Unit :=
  jm_rd (jm_ck (¬ (90 : Int32) < 0 ∧ (90 : Int32).toNatClampNeg ≤ 1000)) fun _ =>
  jm_al (.inl (1, (90 : Int32).toNatClampNeg, .inl (fun _ => 0))) fun q2 =>
  jm_wr (jm_put [0] 1 (va_rf (some q2)) (some a0)) <|
  jm_rd (jm_ck (¬ (8 : Int32) < 0 ∧ (8 : Int32).toNatClampNeg ≤ 1000)) fun _ =>
  jm_al (.inl (6, (8 : Int32).toNatClampNeg, .inr (.inr (.inr (.inr (fun _ => none)))))) fun q8 =>
  jm_wr (jm_put [0] 4 (va_rf (some q8)) (some a0)) <|
  jm_rd (jm_ck (¬ (2 : Int32) < 0 ∧ (2 : Int32).toNatClampNeg ≤ 1000)) fun _ =>
  jm_al (.inl (6, (2 : Int32).toNatClampNeg, .inr (.inr (.inr (.inr (fun _ => none)))))) fun q14 =>
  jm_wr (jm_put [0] 6 (va_rf (some q14)) (some a0)) <|
  jm_ret ()
set_option maxHeartbeats 4000000 in
set_option maxRecDepth 100000 in
theorem jt_X0_init (l : Launch) (g : GD) (b N : Nat) (a0 : Nat) (M M' : Mem) (r : Unit) (hf : (jf_X0_init N a0).1 M = some (r, M')) : jm_Met l g b yX0_init (ws_ yX0_init cX0_init 1 none) 1 20 [va_rf (some a0)] M M' none := by
  refine jm_start (by decide) (jm_mono hf) (by rw [lg_sl_r, lg_sl_n]; exact Nat.le_of_ble_eq_true rfl) ?_
  intro p e s m args below meth c ls C0 hin hK hst hl
  obtain ⟨hx, hb, hml, hown, hts, hr, hlk⟩ := id C0
  have hown : s.vm.findClass RX0 = some m.cls := hown
  have C0 : jm_Cx p s m args meth c cX0_init 1 none RX0 := C0
  rw [lv_args_r, lv_args_n] at hl
  have hl : lv_has ls 1 [(0, va_rf (some a0))] := hl
  unfold jf_X0_init at hf
  refine jw_aload_n (r := (some a0)) hx hb dX0_init_0 rfl (lv_at hl 0 rfl) ?_
  refine W.objInit hx hb hown (hts _ q98) (hts _ q99) (hts _ q100) rfl (by rw [hml]; exact hl.1) rfl dX0_init_1 (Nat.le_of_ble_eq_true rfl) (by rw [cs_n]; exact Nat.le_of_ble_eq_true rfl) ?_
  refine W.eq (g2 := F0 m 4 ls []) rfl ?_
  refine jw_aload_n (r := (some a0)) hx hb dX0_init_4 rfl (lv_at hl 0 rfl) ?_
  refine lv_bipush (v := 90) hx hb dX0_init_5 (by decide) ?_
  obtain ⟨_, h1, hf⟩ := jm_rd_some hf
  have h1 := jm_ck_some h1
  obtain ⟨q2, hq2, hf⟩ := jm_al_some hf
  refine jw_newa (kd := 1) (ty := .byte) (atype := .byte) (a0 := ((90 : Int32).toNatClampNeg, .inl (fun _ => 0))) hx hb (hts _ q125) rfl hK hst rfl (fun _ => rfl) rfl (fun h => h) h1.1 rfl (Nat.le_trans (Nat.mul_le_mul_right _ h1.2) (by decide)) (jm_le_tr (jm_mono hf) jm_le_rf) hq2 dX0_init_7 (fun H cells slots hst => ?_)
  generalize jm_new (.inl (1, (90 : Int32).toNatClampNeg, .inl (fun _ => 0))) M = Mm3 at hf hst
  obtain ⟨F4, h5, hf⟩ := jm_wr_some hf
  refine jw_put (r := (some a0)) hx hb hts hown hK hst (fw_X0_41 hts hin) h5 (va_nar_a _) (va_fits_a _) dX0_init_9 (fun H locs hst => ?_)
  generalize ((Mm3.1, Mm3.2.1, F4) : Mem) = Mm6 at hf hst
  refine jw_aload_n (r := (some a0)) hx hb dX0_init_12 rfl (lv_at hl 0 rfl) ?_
  refine lv_bipush (v := 8) hx hb dX0_init_13 (by decide) ?_
  obtain ⟨_, h7, hf⟩ := jm_rd_some hf
  have h7 := jm_ck_some h7
  obtain ⟨q8, hq8, hf⟩ := jm_al_some hf
  refine jw_anew (kd := 6) (C := "ChainParts$Complex") hx hb hown (hts _ q101) (by simp [jm_aoC]) hK hst rfl h7.1 h7.2 (jm_le_tr (jm_mono hf) jm_le_rf) hq8 dX0_init_15 (fun H cells slots hst => ?_)
  generalize jm_new (.inl (6, (8 : Int32).toNatClampNeg, .inr (.inr (.inr (.inr (fun _ => none)))))) Mm6 = Mm9 at hf hst
  obtain ⟨F10, h11, hf⟩ := jm_wr_some hf
  refine jw_put (r := (some a0)) hx hb hts hown hK hst (fw_X0_47 hts hin) h11 (va_nar_a _) (va_fits_a _) dX0_init_18 (fun H locs hst => ?_)
  generalize ((Mm9.1, Mm9.2.1, F10) : Mem) = Mm12 at hf hst
  refine jw_aload_n (r := (some a0)) hx hb dX0_init_21 rfl (lv_at hl 0 rfl) ?_
  refine lv_iconst (v := 2) hx hb dX0_init_22 (by decide) ?_
  obtain ⟨_, h13, hf⟩ := jm_rd_some hf
  have h13 := jm_ck_some h13
  obtain ⟨q14, hq14, hf⟩ := jm_al_some hf
  refine jw_anew (kd := 6) (C := "ChainParts$Complex") hx hb hown (hts _ q101) (by simp [jm_aoC]) hK hst rfl h13.1 h13.2 (jm_le_tr (jm_mono hf) jm_le_rf) hq14 dX0_init_23 (fun H cells slots hst => ?_)
  generalize jm_new (.inl (6, (2 : Int32).toNatClampNeg, .inr (.inr (.inr (.inr (fun _ => none)))))) Mm12 = Mm15 at hf hst
  obtain ⟨F16, h17, hf⟩ := jm_wr_some hf
  refine jw_put (r := (some a0)) hx hb hts hown hK hst (fw_X0_51 hts hin) h17 (va_nar_a _) (va_fits_a _) dX0_init_26 (fun H locs hst => ?_)
  generalize ((Mm15.1, Mm15.2.1, F16) : Mem) = Mm18 at hf hst
  obtain ⟨-, rfl⟩ := jm_ret_some hf
  exact jw_vret C0 hst dX0_init_29
theorem fl_X0_61 {g : GD} {s : State} {args : Array Value} (hts : ∀ w ∈ lw_all, w.before args s = true) (hK : jm_KG g s) : ∀ q ∈ ([0] : List Nat), jm_FL s args RX0 61 q 2 := by
  intro q hq
  simp only [List.mem_cons, List.not_mem_nil, or_false] at hq
  subst hq
  exact ⟨RX0, TX0, 7, rfl, in_X0, by decide, "ChainParts", Or.inl (hts _ q105), fun _ h => h⟩
theorem fl_X0_41 {g : GD} {s : State} {args : Array Value} (hts : ∀ w ∈ lw_all, w.before args s = true) (hK : jm_KG g s) : ∀ q ∈ ([0] : List Nat), jm_FL s args RX0 41 q 1 := by
  intro q hq
  simp only [List.mem_cons, List.not_mem_nil, or_false] at hq
  subst hq
  exact ⟨RX0, TX0, 7, rfl, in_X0, by decide, "ChainParts", Or.inl (hts _ q104), fun _ h => h⟩
theorem fw_X0_61 {s : State} {args : Array Value} {meth : Method} (hts : ∀ w ∈ lw_all, w.before args s = true) : ∀ q ∈ ([0] : List Nat), jm_FW s args meth RX0 61 q 2 .int := by
  intro q hq
  simp only [List.mem_cons, List.not_mem_nil, or_false] at hq
  subst hq
  exact ⟨RX0, TX0, 7, rfl, in_X0, by decide, ⟨tyX0, tyX0_ok⟩, nmX0, tyX0_ok 2 (by decide), "ChainParts", hts _ q105, fun _ h => h, Or.inl rfl⟩
def jf_X0_feed (N : Nat) (a0 : Nat) (v1 : Int32) : jm_P Int32 :=
  jm_bd (jf_X0_isIn N (v1.toInt64) (0 : Int64) (255 : Int64)) fun x1 =>
  if x1 = 0 then (
    jm_ret (-1000001 : Int32))
  else
    jm_rd (jm_fI [0] 2 (some a0)) fun x4 =>
    if x4 = (90 : Int32) then (
      jm_ret (-1000003 : Int32))
    else
      jm_rd (jm_fR [0] 1 (some a0)) fun x6 =>
      jm_rd (jm_fI [0] 2 (some a0)) fun x8 =>
      jm_wr (jm_put [0] 2 (.int (x8 + (1 : Int32))) (some a0)) <|
      jm_wr (jm_stI 1 x6 x8 ((v1.toInt8.toInt32).toInt8.toInt32)) <|
      jm_rd (jm_fI [0] 2 (some a0)) fun x16 =>
      jm_ret x16
set_option maxHeartbeats 4000000 in
set_option maxRecDepth 100000 in
theorem jt_X0_feed (l : Launch) (g : GD) (b N : Nat) (a0 : Nat) (v1 : Int32) (M M' : Mem) (r : Int32) (hf : (jf_X0_feed N a0 v1).1 M = some (r, M')) : jm_Met l g b yX0_feed (ws_ yX0_feed cX0_feed 2 (some .int)) 1 25 [va_rf (some a0), .int v1] M M' (some (.int r)) := by
  refine jm_start (by decide) (jm_mono hf) (by rw [lg_sl_r, lg_sl_i, lg_sl_n]; exact Nat.le_of_ble_eq_true rfl) ?_
  intro p e s m args below meth c ls C0 hin hK hst hl
  obtain ⟨hx, hb, hml, hown, hts, hr, hlk⟩ := id C0
  have hown : s.vm.findClass RX0 = some m.cls := hown
  have C0 : jm_Cx p s m args meth c cX0_feed 2 (some .int) RX0 := C0
  rw [lv_args_r, lv_args_i, lv_args_n] at hl
  have hl : lv_has ls 2 [(0, va_rf (some a0)), (1, .int v1)] := hl
  unfold jf_X0_feed at hf
  refine lv_iload_n hx hb dX0_feed_0 rfl (lv_at hl 1 rfl) ?_
  refine lv_i2l hx hb dX0_feed_1 rfl ?_
  refine lv_lconst (v := 0) hx hb dX0_feed_2 (by decide) ?_
  refine lv_ldc2 hx hb hown (hts _ q130) dX0_feed_3 ?_
  obtain ⟨x1, Mm2, h3, hf⟩ := jm_bd_some hf
  refine jw_S (As := [.long (v1.toInt64), .long (0 : Int64), .long (255 : Int64)]) (rest := []) (jt_X0_isIn l g b N (v1.toInt64) (0 : Int64) (255 : Int64) M Mm2 x1 h3) C0 hK hst (jm_mono h3) (jm_le_tr (jm_mono hf) jm_le_rf) q131 q132 q72 q133 hd_X0_isIn.2 ⟨Nat.le_of_ble_eq_true rfl, Nat.le_of_ble_eq_true rfl⟩ rfl hl.1 rfl (by rw [cs_n]; exact Nat.le_of_ble_eq_true rfl) dX0_feed_6 (fun H locs cells slots hst => ?_)
  refine W.eq (g2 := F0 m 9 ls [.int x1]) rfl ?_
  refine lv_if_ne (tgt := 15) hx hb dX0_feed_9 (by decide) (fun hc => ?_) (fun hc => ?_)
  · rw [if_neg hc] at hf
    refine jw_aload_n (r := (some a0)) hx hb dX0_feed_15 rfl (lv_at hl 0 rfl) ?_
    obtain ⟨x4, h5, hf⟩ := jm_rd_some hf
    refine jw_getI hx hb hts hown hK hst (fl_X0_61 hts hK) h5 dX0_feed_16 ?_
    refine lv_bipush (v := 90) hx hb dX0_feed_19 (by decide) ?_
    refine lv_icmp_ne (tgt := 27) hx hb dX0_feed_21 (by decide) (fun hc => ?_) (fun hc => ?_)
    · rw [if_neg hc] at hf
      refine jw_aload_n (r := (some a0)) hx hb dX0_feed_27 rfl (lv_at hl 0 rfl) ?_
      obtain ⟨x6, h7, hf⟩ := jm_rd_some hf
      refine jw_getR hx hb hts hown hK hst (fl_X0_41 hts hK) h7 dX0_feed_28 ?_
      refine jw_aload_n (r := (some a0)) hx hb dX0_feed_31 rfl (lv_at hl 0 rfl) ?_
      refine lv_dup hx hb dX0_feed_32 (va_rf_cat _) ?_
      obtain ⟨x8, h9, hf⟩ := jm_rd_some hf
      refine jw_getI hx hb hts hown hK hst (fl_X0_61 hts hK) h9 dX0_feed_33 ?_
      refine lv_dup_x1 hx hb dX0_feed_36 rfl (va_rf_cat _) ?_
      refine lv_iconst (v := 1) hx hb dX0_feed_37 (by decide) ?_
      refine lv_iadd hx hb dX0_feed_38 ?_
      obtain ⟨F10, h11, hf⟩ := jm_wr_some hf
      refine jw_put (r := (some a0)) hx hb hts hown hK hst (fw_X0_61 hts) h11 rfl rfl dX0_feed_39 (fun H locs hst => ?_)
      generalize ((Mm2.1, Mm2.2.1, F10) : Mem) = Mm12 at hf hst
      refine lv_iload_n hx hb dX0_feed_42 rfl (lv_at hl 1 rfl) ?_
      refine lv_i2b hx hb dX0_feed_43 rfl ?_
      obtain ⟨F13, h14, hf⟩ := jm_wr_some hf
      refine jw_bast (r := x6) hx hb hK hst h14 dX0_feed_44 (fun H locs hst => ?_)
      generalize ((Mm12.1, Mm12.2.1, F13) : Mem) = Mm15 at hf hst
      refine jw_aload_n (r := (some a0)) hx hb dX0_feed_45 rfl (lv_at hl 0 rfl) ?_
      obtain ⟨x16, h17, hf⟩ := jm_rd_some hf
      refine jw_getI hx hb hts hown hK hst (fl_X0_61 hts hK) h17 dX0_feed_46 ?_
      obtain ⟨rfl, rfl⟩ := jm_ret_some hf
      exact jw_iret C0 hst dX0_feed_49
    · rw [if_pos hc] at hf
      refine lv_ldc hx hb hown (hts _ q135) dX0_feed_24 ?_
      obtain ⟨rfl, rfl⟩ := jm_ret_some hf
      exact jw_iret C0 hst dX0_feed_26
  · rw [if_pos hc] at hf
    refine lv_ldc hx hb hown (hts _ q134) dX0_feed_12 ?_
    obtain ⟨rfl, rfl⟩ := jm_ret_some hf
    exact jw_iret C0 hst dX0_feed_14
theorem fl_X0_84 {g : GD} {s : State} {args : Array Value} (hts : ∀ w ∈ lw_all, w.before args s = true) (hK : jm_KG g s) : ∀ q ∈ ([0] : List Nat), jm_FL s args RX0 84 q 3 := by
  intro q hq
  simp only [List.mem_cons, List.not_mem_nil, or_false] at hq
  subst hq
  exact ⟨RX0, TX0, 7, rfl, in_X0, by decide, "ChainParts", Or.inl (hts _ q106), fun _ h => h⟩
def jf_X0_fault (N : Nat) (a0 : Nat) : jm_P Int32 :=
  jm_rd (jm_fI [0] 3 (some a0)) fun x1 =>
  jm_ret x1
set_option maxHeartbeats 4000000 in
set_option maxRecDepth 100000 in
theorem jt_X0_fault (l : Launch) (g : GD) (b N : Nat) (a0 : Nat) (M M' : Mem) (r : Int32) (hf : (jf_X0_fault N a0).1 M = some (r, M')) : jm_Met l g b yX0_fault (ws_ yX0_fault cX0_fault 1 (some .int)) 0 0 [va_rf (some a0)] M M' (some (.int r)) := by
  refine jm_start (by decide) (jm_mono hf) (by rw [lg_sl_r, lg_sl_n]; exact Nat.le_of_ble_eq_true rfl) ?_
  intro p e s m args below meth c ls C0 hin hK hst hl
  obtain ⟨hx, hb, hml, hown, hts, hr, hlk⟩ := id C0
  have hown : s.vm.findClass RX0 = some m.cls := hown
  have C0 : jm_Cx p s m args meth c cX0_fault 1 (some .int) RX0 := C0
  rw [lv_args_r, lv_args_n] at hl
  have hl : lv_has ls 1 [(0, va_rf (some a0))] := hl
  unfold jf_X0_fault at hf
  refine jw_aload_n (r := (some a0)) hx hb dX0_fault_0 rfl (lv_at hl 0 rfl) ?_
  obtain ⟨x1, h2, hf⟩ := jm_rd_some hf
  refine jw_getI hx hb hts hown hK hst (fl_X0_84 hts hK) h2 dX0_fault_1 ?_
  obtain ⟨rfl, rfl⟩ := jm_ret_some hf
  exact jw_iret C0 hst dX0_fault_4
theorem fl_X0_91 {g : GD} {s : State} {args : Array Value} (hts : ∀ w ∈ lw_all, w.before args s = true) (hK : jm_KG g s) : ∀ q ∈ ([0] : List Nat), jm_FL s args RX0 91 q 5 := by
  intro q hq
  simp only [List.mem_cons, List.not_mem_nil, or_false] at hq
  subst hq
  exact ⟨RX0, TX0, 7, rfl, in_X0, by decide, "ChainParts", Or.inl (hts _ q108), fun _ h => h⟩
theorem fl_X0_47 {g : GD} {s : State} {args : Array Value} (hts : ∀ w ∈ lw_all, w.before args s = true) (hK : jm_KG g s) : ∀ q ∈ ([0] : List Nat), jm_FL s args RX0 47 q 4 := by
  intro q hq
  simp only [List.mem_cons, List.not_mem_nil, or_false] at hq
  subst hq
  exact ⟨RX0, TX0, 7, rfl, in_X0, by decide, "ChainParts", Or.inl (hts _ q107), fun _ h => h⟩
theorem fw_X0_91 {s : State} {args : Array Value} {meth : Method} (hts : ∀ w ∈ lw_all, w.before args s = true) : ∀ q ∈ ([0] : List Nat), jm_FW s args meth RX0 91 q 5 .int := by
  intro q hq
  simp only [List.mem_cons, List.not_mem_nil, or_false] at hq
  subst hq
  exact ⟨RX0, TX0, 7, rfl, in_X0, by decide, ⟨tyX0, tyX0_ok⟩, nmX0, tyX0_ok 5 (by decide), "ChainParts", hts _ q108, fun _ h => h, Or.inl rfl⟩
theorem fw_X0_75 {s : State} {args : Array Value} {meth : Method} (hts : ∀ w ∈ lw_all, w.before args s = true) : ∀ q ∈ ([0] : List Nat), jm_FW s args meth RX0 75 q 0 (.object "ChainParts$Complex") := by
  intro q hq
  simp only [List.mem_cons, List.not_mem_nil, or_false] at hq
  subst hq
  exact ⟨RX0, TX0, 7, rfl, in_X0, by decide, ⟨tyX0, tyX0_ok⟩, nmX0, tyX0_ok 0 (by decide), "ChainParts", hts _ q103, fun _ h => h, Or.inl rfl⟩
def jf_X0_undo (N : Nat) (a0 : Nat) : jm_P Int32 :=
  jm_rd (jm_fI [0] 5 (some a0)) fun x1 =>
  if x1 = 0 then (
    jm_ret (-1000002 : Int32))
  else
    jm_rd (jm_fR [0] 4 (some a0)) fun x3 =>
    jm_rd (jm_fI [0] 5 (some a0)) fun x5 =>
    jm_wr (jm_put [0] 5 (.int (x5 - (1 : Int32))) (some a0)) <|
    jm_rd (jm_ldR 6 x3 (x5 - (1 : Int32))) fun x10 =>
    jm_wr (jm_put [0] 0 (va_rf x10) (some a0)) <|
    jm_rd (jm_fI [0] 5 (some a0)) fun x15 =>
    jm_ret x15
set_option maxHeartbeats 4000000 in
set_option maxRecDepth 100000 in
theorem jt_X0_undo (l : Launch) (g : GD) (b N : Nat) (a0 : Nat) (M M' : Mem) (r : Int32) (hf : (jf_X0_undo N a0).1 M = some (r, M')) : jm_Met l g b yX0_undo (ws_ yX0_undo cX0_undo 1 (some .int)) 0 0 [va_rf (some a0)] M M' (some (.int r)) := by
  refine jm_start (by decide) (jm_mono hf) (by rw [lg_sl_r, lg_sl_n]; exact Nat.le_of_ble_eq_true rfl) ?_
  intro p e s m args below meth c ls C0 hin hK hst hl
  obtain ⟨hx, hb, hml, hown, hts, hr, hlk⟩ := id C0
  have hown : s.vm.findClass RX0 = some m.cls := hown
  have C0 : jm_Cx p s m args meth c cX0_undo 1 (some .int) RX0 := C0
  rw [lv_args_r, lv_args_n] at hl
  have hl : lv_has ls 1 [(0, va_rf (some a0))] := hl
  unfold jf_X0_undo at hf
  refine jw_aload_n (r := (some a0)) hx hb dX0_undo_0 rfl (lv_at hl 0 rfl) ?_
  obtain ⟨x1, h2, hf⟩ := jm_rd_some hf
  refine jw_getI hx hb hts hown hK hst (fl_X0_91 hts hK) h2 dX0_undo_1 ?_
  refine lv_if_ne (tgt := 10) hx hb dX0_undo_4 (by decide) (fun hc => ?_) (fun hc => ?_)
  · rw [if_neg hc] at hf
    refine jw_aload_n (r := (some a0)) hx hb dX0_undo_10 rfl (lv_at hl 0 rfl) ?_
    refine jw_aload_n (r := (some a0)) hx hb dX0_undo_11 rfl (lv_at hl 0 rfl) ?_
    obtain ⟨x3, h4, hf⟩ := jm_rd_some hf
    refine jw_getR hx hb hts hown hK hst (fl_X0_47 hts hK) h4 dX0_undo_12 ?_
    refine jw_aload_n (r := (some a0)) hx hb dX0_undo_15 rfl (lv_at hl 0 rfl) ?_
    refine lv_dup hx hb dX0_undo_16 (va_rf_cat _) ?_
    obtain ⟨x5, h6, hf⟩ := jm_rd_some hf
    refine jw_getI hx hb hts hown hK hst (fl_X0_91 hts hK) h6 dX0_undo_17 ?_
    refine lv_iconst (v := 1) hx hb dX0_undo_20 (by decide) ?_
    refine lv_isub hx hb dX0_undo_21 ?_
    refine lv_dup_x1 hx hb dX0_undo_22 rfl (va_rf_cat _) ?_
    obtain ⟨F7, h8, hf⟩ := jm_wr_some hf
    refine jw_put (r := (some a0)) hx hb hts hown hK hst (fw_X0_91 hts) h8 rfl rfl dX0_undo_23 (fun H locs hst => ?_)
    generalize ((M.1, M.2.1, F7) : Mem) = Mm9 at hf hst
    obtain ⟨x10, h11, hf⟩ := jm_rd_some hf
    refine jw_aald hx hb hK hst (show jm_ty[6]? = some (.object "ChainParts$Complex") from rfl) rfl h11 dX0_undo_26 ?_
    obtain ⟨F12, h13, hf⟩ := jm_wr_some hf
    refine jw_put (r := (some a0)) hx hb hts hown hK hst (fw_X0_75 hts) h13 (va_nar_o _) (va_fits_o _) dX0_undo_27 (fun H locs hst => ?_)
    generalize ((Mm9.1, Mm9.2.1, F12) : Mem) = Mm14 at hf hst
    refine jw_aload_n (r := (some a0)) hx hb dX0_undo_30 rfl (lv_at hl 0 rfl) ?_
    obtain ⟨x15, h16, hf⟩ := jm_rd_some hf
    refine jw_getI hx hb hts hown hK hst (fl_X0_91 hts hK) h16 dX0_undo_31 ?_
    obtain ⟨rfl, rfl⟩ := jm_ret_some hf
    exact jw_iret C0 hst dX0_undo_34
  · rw [if_pos hc] at hf
    refine lv_ldc hx hb hown (hts _ q389) dX0_undo_7 ?_
    obtain ⟨rfl, rfl⟩ := jm_ret_some hf
    exact jw_iret C0 hst dX0_undo_9
theorem fl_X0_75 {g : GD} {s : State} {args : Array Value} (hts : ∀ w ∈ lw_all, w.before args s = true) (hK : jm_KG g s) : ∀ q ∈ ([0] : List Nat), jm_FL s args RX0 75 q 0 := by
  intro q hq
  simp only [List.mem_cons, List.not_mem_nil, or_false] at hq
  subst hq
  exact ⟨RX0, TX0, 7, rfl, in_X0, by decide, "ChainParts", Or.inl (hts _ q103), fun _ h => h⟩
def jf_X0_isCell (N : Nat) (a0 : Nat) (v1 : Int32) (v2 : Int32) : jm_P Int32 :=
  jm_rd (jm_fR [0] 0 (some a0)) fun x1 =>
  if x1 = none then (
    jm_ret (0 : Int32))
  else
    jm_bd (jf_X0_isIn N (v1.toInt64) (0 : Int64) (2 : Int64)) fun x3 =>
    if x3 = 0 then (
      jm_ret (0 : Int32))
    else
      jm_rd (jm_fR [0] 0 (some a0)) fun x6 =>
      jm_rd (jm_cl 9 x6) fun a11 =>
      jm_bd (jf_X9_many N a11 v1) fun x8 =>
      jm_bd (jf_X0_isIn N (v2.toInt64) (0 : Int64) ((x8 - (1 : Int32)).toInt64)) fun x14 =>
      if x14 = 0 then (
        jm_ret (0 : Int32))
      else
        jm_ret (1 : Int32)
set_option maxHeartbeats 4000000 in
set_option maxRecDepth 100000 in
theorem jt_X0_isCell (l : Launch) (g : GD) (b N : Nat) (a0 : Nat) (v1 : Int32) (v2 : Int32) (M M' : Mem) (r : Int32) (hf : (jf_X0_isCell N a0 v1 v2).1 M = some (r, M')) : jm_Met l g b yX0_isCell (ws_ yX0_isCell cX0_isCell 3 (some .boolean)) 1 25 [va_rf (some a0), .int v1, .int v2] M M' (some (.int r)) := by
  refine jm_start (by decide) (jm_mono hf) (by rw [lg_sl_r, lg_sl_i, lg_sl_i, lg_sl_n]; exact Nat.le_of_ble_eq_true rfl) ?_
  intro p e s m args below meth c ls C0 hin hK hst hl
  obtain ⟨hx, hb, hml, hown, hts, hr, hlk⟩ := id C0
  have hown : s.vm.findClass RX0 = some m.cls := hown
  have C0 : jm_Cx p s m args meth c cX0_isCell 3 (some .boolean) RX0 := C0
  rw [lv_args_r, lv_args_i, lv_args_i, lv_args_n] at hl
  have hl : lv_has ls 3 [(0, va_rf (some a0)), (1, .int v1), (2, .int v2)] := hl
  unfold jf_X0_isCell at hf
  refine jw_aload_n (r := (some a0)) hx hb dX0_isCell_0 rfl (lv_at hl 0 rfl) ?_
  obtain ⟨x1, h2, hf⟩ := jm_rd_some hf
  refine jw_getR hx hb hts hown hK hst (fl_X0_75 hts hK) h2 dX0_isCell_1 ?_
  refine jw_ifnull (tgt := 43) hx hb dX0_isCell_4 (by decide) (fun hc => ?_) (fun hc => ?_)
  · rw [if_pos hc] at hf
    refine lv_iconst (v := 0) hx hb dX0_isCell_43 (by decide) ?_
    obtain ⟨rfl, rfl⟩ := jm_ret_some hf
    exact jw_zret C0 (Or.inl rfl) hst dX0_isCell_44
  · rw [if_neg hc] at hf
    refine lv_iload_n hx hb dX0_isCell_7 rfl (lv_at hl 1 rfl) ?_
    refine lv_i2l hx hb dX0_isCell_8 rfl ?_
    refine lv_lconst (v := 0) hx hb dX0_isCell_9 (by decide) ?_
    refine lv_ldc2 hx hb hown (hts _ q398) dX0_isCell_10 ?_
    obtain ⟨x3, Mm4, h5, hf⟩ := jm_bd_some hf
    refine jw_S (As := [.long (v1.toInt64), .long (0 : Int64), .long (2 : Int64)]) (rest := []) (jt_X0_isIn l g b N (v1.toInt64) (0 : Int64) (2 : Int64) M Mm4 x3 h5) C0 hK hst (jm_mono h5) (jm_le_tr (jm_mono hf) jm_le_rf) q131 q132 q72 q133 hd_X0_isIn.2 ⟨Nat.le_of_ble_eq_true rfl, Nat.le_of_ble_eq_true rfl⟩ rfl hl.1 rfl (by rw [cs_n]; exact Nat.le_of_ble_eq_true rfl) dX0_isCell_13 (fun H locs cells slots hst => ?_)
    refine W.eq (g2 := F0 m 16 ls [.int x3]) rfl ?_
    refine lv_if_eq (tgt := 43) hx hb dX0_isCell_16 (by decide) (fun hc => ?_) (fun hc => ?_)
    · rw [if_pos hc] at hf
      refine lv_iconst (v := 0) hx hb dX0_isCell_43 (by decide) ?_
      obtain ⟨rfl, rfl⟩ := jm_ret_some hf
      exact jw_zret C0 (Or.inl rfl) hst dX0_isCell_44
    · rw [if_neg hc] at hf
      refine lv_iload_n hx hb dX0_isCell_19 rfl (lv_at hl 2 rfl) ?_
      refine lv_i2l hx hb dX0_isCell_20 rfl ?_
      refine lv_lconst (v := 0) hx hb dX0_isCell_21 (by decide) ?_
      refine jw_aload_n (r := (some a0)) hx hb dX0_isCell_22 rfl (lv_at hl 0 rfl) ?_
      obtain ⟨x6, h7, hf⟩ := jm_rd_some hf
      refine jw_getR hx hb hts hown hK hst (fl_X0_75 hts hK) h7 dX0_isCell_23 ?_
      refine lv_iload_n hx hb dX0_isCell_26 rfl (lv_at hl 1 rfl) ?_
      obtain ⟨a11, h12, hf⟩ := jm_rd_some hf
      obtain ⟨fsa11, hea11, hr13⟩ := jm_cl_some h12
      obtain ⟨x8, Mm9, h10, hf⟩ := jm_bd_some hf
      refine jw_V (As := [.int v1]) (rest := [.long (0 : Int64), .long (v2.toInt64)]) (C := RX9) (T := TX9) (N := 4) (rv := x6) (jt_X9_many l g b N a11 v1 Mm4 Mm9 x8 h10) C0 hK hst (jm_mono h10) (jm_le_tr (jm_mono hf) jm_le_rf) q399 q400 q401 q84 q402 hd_X9_many ⟨Nat.le_of_ble_eq_true rfl, Nat.le_of_ble_eq_true rfl⟩ hea11 hr13 rfl rfl hl.1 rfl (by rw [cs_j, cs_j, cs_n]; exact Nat.le_of_ble_eq_true rfl) dX0_isCell_27 (fun H locs cells slots hst => ?_)
      refine W.eq (g2 := F0 m 30 ls [.int x8, .long (0 : Int64), .long (v2.toInt64)]) rfl ?_
      refine lv_iconst (v := 1) hx hb dX0_isCell_30 (by decide) ?_
      refine lv_isub hx hb dX0_isCell_31 ?_
      refine lv_i2l hx hb dX0_isCell_32 rfl ?_
      obtain ⟨x14, Mm15, h16, hf⟩ := jm_bd_some hf
      refine jw_S (As := [.long (v2.toInt64), .long (0 : Int64), .long ((x8 - (1 : Int32)).toInt64)]) (rest := []) (jt_X0_isIn l g b N (v2.toInt64) (0 : Int64) ((x8 - (1 : Int32)).toInt64) Mm9 Mm15 x14 h16) C0 hK hst (jm_mono h16) (jm_le_tr (jm_mono hf) jm_le_rf) q131 q132 q72 q133 hd_X0_isIn.2 ⟨Nat.le_of_ble_eq_true rfl, Nat.le_of_ble_eq_true rfl⟩ rfl hl.1 rfl (by rw [cs_n]; exact Nat.le_of_ble_eq_true rfl) dX0_isCell_33 (fun H locs cells slots hst => ?_)
      refine W.eq (g2 := F0 m 36 ls [.int x14]) rfl ?_
      refine lv_if_eq (tgt := 43) hx hb dX0_isCell_36 (by decide) (fun hc => ?_) (fun hc => ?_)
      · rw [if_pos hc] at hf
        refine lv_iconst (v := 0) hx hb dX0_isCell_43 (by decide) ?_
        obtain ⟨rfl, rfl⟩ := jm_ret_some hf
        exact jw_zret C0 (Or.inl rfl) hst dX0_isCell_44
      · rw [if_neg hc] at hf
        refine lv_iconst (v := 1) hx hb dX0_isCell_39 (by decide) ?_
        refine lv_goto (tgt := 44) hx hb dX0_isCell_40 (by decide) ?_
        obtain ⟨rfl, rfl⟩ := jm_ret_some hf
        exact jw_zret C0 (Or.inr rfl) hst dX0_isCell_44
def jf_X0_isWeight (N : Nat) (v0 : Int32) : jm_P Int32 :=
  jm_bd (jf_X0_isIn N (v0.toInt64) (1 : Int64) (3 : Int64)) fun x1 =>
  jm_rd (jm_ck (x1 = 0 ∨ x1 = 1)) fun _ =>
  jm_ret x1
set_option maxHeartbeats 4000000 in
set_option maxRecDepth 100000 in
theorem jt_X0_isWeight (l : Launch) (g : GD) (b N : Nat) (v0 : Int32) (M M' : Mem) (r : Int32) (hf : (jf_X0_isWeight N v0).1 M = some (r, M')) : jm_Met l g b yX0_isWeight (ws_ yX0_isWeight cX0_isWeight 1 (some .boolean)) 1 25 [.int v0] M M' (some (.int r)) := by
  refine jm_start (by decide) (jm_mono hf) (by rw [lg_sl_i, lg_sl_n]; exact Nat.le_of_ble_eq_true rfl) ?_
  intro p e s m args below meth c ls C0 hin hK hst hl
  obtain ⟨hx, hb, hml, hown, hts, hr, hlk⟩ := id C0
  have hown : s.vm.findClass RX0 = some m.cls := hown
  have C0 : jm_Cx p s m args meth c cX0_isWeight 1 (some .boolean) RX0 := C0
  rw [lv_args_i, lv_args_n] at hl
  have hl : lv_has ls 1 [(0, .int v0)] := hl
  unfold jf_X0_isWeight at hf
  refine lv_iload_n hx hb dX0_isWeight_0 rfl (lv_at hl 0 rfl) ?_
  refine lv_i2l hx hb dX0_isWeight_1 rfl ?_
  refine lv_lconst (v := 1) hx hb dX0_isWeight_2 (by decide) ?_
  refine lv_ldc2 hx hb hown (hts _ q406) dX0_isWeight_3 ?_
  obtain ⟨x1, Mm2, h3, hf⟩ := jm_bd_some hf
  refine jw_S (As := [.long (v0.toInt64), .long (1 : Int64), .long (3 : Int64)]) (rest := []) (jt_X0_isIn l g b N (v0.toInt64) (1 : Int64) (3 : Int64) M Mm2 x1 h3) C0 hK hst (jm_mono h3) (jm_le_tr (jm_mono hf) jm_le_rf) q131 q132 q72 q133 hd_X0_isIn.2 ⟨Nat.le_of_ble_eq_true rfl, Nat.le_of_ble_eq_true rfl⟩ rfl hl.1 rfl (by rw [cs_n]; exact Nat.le_of_ble_eq_true rfl) dX0_isWeight_6 (fun H locs cells slots hst => ?_)
  refine W.eq (g2 := F0 m 9 ls [.int x1]) rfl ?_
  obtain ⟨_, h4, hf⟩ := jm_rd_some hf
  obtain ⟨rfl, rfl⟩ := jm_ret_some hf
  exact jw_zret C0 (jm_ck_some h4) hst dX0_isWeight_9
def jf_X0_act_j47 (N : Nat) (a0 : Nat) (v1 : Option Nat) : jm_P Unit :=
  jm_rd (jm_fR [0] 4 (some a0)) fun x2 =>
  jm_rd (jm_fI [0] 5 (some a0)) fun x4 =>
  jm_wr (jm_put [0] 5 (.int (x4 + (1 : Int32))) (some a0)) <|
  jm_rd (jm_fR [0] 0 (some a0)) fun x9 =>
  jm_wr (jm_stR 6 [9] none x2 x4 x9) <|
  jm_wr (jm_put [0] 0 (va_rf v1) (some a0)) <|
  jm_ret ()
def jf_X0_act_k11_37 (N : Nat) (a0 : Nat) (v1 : Option Nat) : jm_P Unit :=
  jm_rd (jm_fI [0] 5 (some a0)) fun x18 =>
  jm_wr (jm_put [0] 5 (.int (x18 - (1 : Int32))) (some a0)) <|
  jf_X0_act_j47 N a0 v1
def jf_X0_act_L11 (N : Nat) (a0 : Nat) (v1 : Option Nat) (v2 : Int32) : jm_P (Int32 ⊕ Unit) :=
  if (8 : Int32) ≤ v2 then (
    jm_ret (.inr ()))
  else
    jm_rd (jm_fR [0] 4 (some a0)) fun x26 =>
    jm_rd (jm_fR [0] 4 (some a0)) fun x28 =>
    jm_rd (jm_ldR 6 x28 v2) fun x30 =>
    jm_wr (jm_stR 6 [9] none x26 (v2 - (1 : Int32)) x30) <|
    jm_ret (.inl (v2 + 1))
def jf_X0_act (N : Nat) (a0 : Nat) (v1 : Option Nat) : jm_P Unit :=
  jm_rd (jm_fI [0] 5 (some a0)) fun x23 =>
  if x23 = (8 : Int32) then (
    jm_bd (jm_it (fun z => jf_X0_act_L11 N a0 v1 z) N (1 : Int32)) fun y =>
    jf_X0_act_k11_37 N a0 v1)
  else
    jf_X0_act_j47 N a0 v1
set_option maxHeartbeats 4000000 in
set_option maxRecDepth 100000 in
theorem jt_X0_act (l : Launch) (g : GD) (b N : Nat) (a0 : Nat) (v1 : Option Nat) (M M' : Mem) (r : Unit) (hf : (jf_X0_act N a0 v1).1 M = some (r, M')) : jm_Met l g b yX0_act (ws_ yX0_act cX0_act 3 none) 0 0 [va_rf (some a0), va_rf v1] M M' none := by
  refine jm_start (by decide) (jm_mono hf) (by rw [lg_sl_r, lg_sl_r, lg_sl_n]; exact Nat.le_of_ble_eq_true rfl) ?_
  intro p e s m args below meth c ls C0 hin hK hst hl
  obtain ⟨hx, hb, hml, hown, hts, hr, hlk⟩ := id C0
  have hown : s.vm.findClass RX0 = some m.cls := hown
  have C0 : jm_Cx p s m args meth c cX0_act 3 none RX0 := C0
  rw [lv_args_r, lv_args_r, lv_args_n] at hl
  have hl : lv_has ls 3 [(0, va_rf (some a0)), (1, va_rf v1)] := hl
  have J47 : ∀ (a0 : Nat) (v1 : Option Nat) (Mm1 : Mem), (jf_X0_act_j47 N a0 v1).1 Mm1 = some (r, M') → ∀ (H : Heap) (locs : List Loc) (cells slots : Nat) (ls : Array Slot), jm_St g b M M' Mm1 s (jm_rm 0 0 M M') H locs cells slots → lv_has ls 3 [(0, va_rf (some a0)), (1, va_rf v1)] → W p l e (jm_rm 0 0 M M') s m args below meth c H locs cells slots (jm_MQ below g b none M M' args s) (F0 m 47 ls []) := by
    intro a0 v1 Mm1 hf H locs cells slots ls hst hl
    unfold jf_X0_act_j47 at hf
    refine jw_aload_n (r := (some a0)) hx hb dX0_act_47 rfl (lv_at hl 0 rfl) ?_
    obtain ⟨x2, h3, hf⟩ := jm_rd_some hf
    refine jw_getR hx hb hts hown hK hst (fl_X0_47 hts hK) h3 dX0_act_48 ?_
    refine jw_aload_n (r := (some a0)) hx hb dX0_act_51 rfl (lv_at hl 0 rfl) ?_
    refine lv_dup hx hb dX0_act_52 (va_rf_cat _) ?_
    obtain ⟨x4, h5, hf⟩ := jm_rd_some hf
    refine jw_getI hx hb hts hown hK hst (fl_X0_91 hts hK) h5 dX0_act_53 ?_
    refine lv_dup_x1 hx hb dX0_act_56 rfl (va_rf_cat _) ?_
    refine lv_iconst (v := 1) hx hb dX0_act_57 (by decide) ?_
    refine lv_iadd hx hb dX0_act_58 ?_
    obtain ⟨F6, h7, hf⟩ := jm_wr_some hf
    refine jw_put (r := (some a0)) hx hb hts hown hK hst (fw_X0_91 hts) h7 rfl rfl dX0_act_59 (fun H locs hst => ?_)
    generalize ((Mm1.1, Mm1.2.1, F6) : Mem) = Mm8 at hf hst
    refine jw_aload_n (r := (some a0)) hx hb dX0_act_62 rfl (lv_at hl 0 rfl) ?_
    obtain ⟨x9, h10, hf⟩ := jm_rd_some hf
    refine jw_getR hx hb hts hown hK hst (fl_X0_75 hts hK) h10 dX0_act_63 ?_
    obtain ⟨F11, h12, hf⟩ := jm_wr_some hf
    refine jw_astR (kd := 6) (r := x2) (v := x9) hx hb hK hst rfl (as_6 hK) h12 dX0_act_66 (fun H locs hst => ?_)
    generalize ((Mm8.1, Mm8.2.1, F11) : Mem) = Mm13 at hf hst
    refine jw_aload_n (r := (some a0)) hx hb dX0_act_67 rfl (lv_at hl 0 rfl) ?_
    refine jw_aload_n (r := v1) hx hb dX0_act_68 rfl (lv_at hl 1 rfl) ?_
    obtain ⟨F14, h15, hf⟩ := jm_wr_some hf
    refine jw_put (r := (some a0)) hx hb hts hown hK hst (fw_X0_75 hts) h15 (va_nar_o _) (va_fits_o _) dX0_act_69 (fun H locs hst => ?_)
    generalize ((Mm13.1, Mm13.2.1, F14) : Mem) = Mm16 at hf hst
    obtain ⟨-, rfl⟩ := jm_ret_some hf
    exact jw_vret C0 hst dX0_act_72
  have K11_37 : ∀ (a0 : Nat) (v1 : Option Nat) (Mm17 : Mem), (jf_X0_act_k11_37 N a0 v1).1 Mm17 = some (r, M') → ∀ (H : Heap) (locs : List Loc) (cells slots : Nat) (ls : Array Slot), jm_St g b M M' Mm17 s (jm_rm 0 0 M M') H locs cells slots → lv_has ls 3 [(0, va_rf (some a0)), (1, va_rf v1)] → W p l e (jm_rm 0 0 M M') s m args below meth c H locs cells slots (jm_MQ below g b none M M' args s) (F0 m 37 ls []) := by
    intro a0 v1 Mm17 hf H locs cells slots ls hst hl
    unfold jf_X0_act_k11_37 at hf
    refine jw_aload_n (r := (some a0)) hx hb dX0_act_37 rfl (lv_at hl 0 rfl) ?_
    refine lv_dup hx hb dX0_act_38 (va_rf_cat _) ?_
    obtain ⟨x18, h19, hf⟩ := jm_rd_some hf
    refine jw_getI hx hb hts hown hK hst (fl_X0_91 hts hK) h19 dX0_act_39 ?_
    refine lv_iconst (v := 1) hx hb dX0_act_42 (by decide) ?_
    refine lv_isub hx hb dX0_act_43 ?_
    obtain ⟨F20, h21, hf⟩ := jm_wr_some hf
    refine jw_put (r := (some a0)) hx hb hts hown hK hst (fw_X0_91 hts) h21 rfl rfl dX0_act_44 (fun H locs hst => ?_)
    generalize ((Mm17.1, Mm17.2.1, F20) : Mem) = Mm22 at hf hst
    exact J47 a0 v1 _ hf _ _ _ _ _ hst (lv_sub hl [0, 1] rfl)
  have B11 : ∀ (a0 : Nat) (v1 : Option Nat) (v2 : Int32) (Mm25 : Mem) (xe11 : (Int32 ⊕ Unit)) (Me11 : Mem), (jf_X0_act_L11 N a0 v1 v2).1 Mm25 = some (xe11, Me11) → jm_le Me11 M' → (jm_or (fun (z : Int32) => ∀ (H : Heap) (locs : List Loc) (cells slots : Nat) (ls : Array Slot), jm_St g b M M' Me11 s (jm_rm 0 0 M M') H locs cells slots → lv_has ls 3 [(0, va_rf (some a0)), (1, va_rf v1), (2, .int z)] → W p l e (jm_rm 0 0 M M') s m args below meth c H locs cells slots (jm_MQ below g b none M M' args s) (F0 m 11 ls [])) (fun (y : Unit) => ∀ (H : Heap) (locs : List Loc) (cells slots : Nat) (ls : Array Slot), jm_St g b M M' Me11 s (jm_rm 0 0 M M') H locs cells slots → lv_has ls 3 [(0, va_rf (some a0)), (1, va_rf v1)] → W p l e (jm_rm 0 0 M M') s m args below meth c H locs cells slots (jm_MQ below g b none M M' args s) (F0 m 37 ls [])) xe11) → ∀ (H : Heap) (locs : List Loc) (cells slots : Nat) (ls : Array Slot), jm_St g b M M' Mm25 s (jm_rm 0 0 M M') H locs cells slots → lv_has ls 3 [(0, va_rf (some a0)), (1, va_rf v1), (2, .int v2)] → W p l e (jm_rm 0 0 M M') s m args below meth c H locs cells slots (jm_MQ below g b none M M' args s) (F0 m 11 ls []) := by
    intro a0 v1 v2 Mm25 xe11 Me11 hf hle11 hk11
    intro H locs cells slots ls hst hl
    unfold jf_X0_act_L11 at hf
    refine lv_iload_n hx hb dX0_act_11 rfl (lv_at hl 2 rfl) ?_
    refine lv_bipush (v := 8) hx hb dX0_act_12 (by decide) ?_
    refine lv_icmp_ge (tgt := 37) hx hb dX0_act_14 (by decide) (fun hc => ?_) (fun hc => ?_)
    · rw [if_pos hc] at hf
      obtain ⟨rfl, rfl⟩ := jm_ret_some hf
      exact jm_or_r hk11 _ _ _ _ _ hst (lv_sub hl [0, 1] rfl)
    · rw [if_neg hc] at hf
      refine jw_aload_n (r := (some a0)) hx hb dX0_act_17 rfl (lv_at hl 0 rfl) ?_
      obtain ⟨x26, h27, hf⟩ := jm_rd_some hf
      refine jw_getR hx hb hts hown hK hst (fl_X0_47 hts hK) h27 dX0_act_18 ?_
      refine lv_iload_n hx hb dX0_act_21 rfl (lv_at hl 2 rfl) ?_
      refine lv_iconst (v := 1) hx hb dX0_act_22 (by decide) ?_
      refine lv_isub hx hb dX0_act_23 ?_
      refine jw_aload_n (r := (some a0)) hx hb dX0_act_24 rfl (lv_at hl 0 rfl) ?_
      obtain ⟨x28, h29, hf⟩ := jm_rd_some hf
      refine jw_getR hx hb hts hown hK hst (fl_X0_47 hts hK) h29 dX0_act_25 ?_
      refine lv_iload_n hx hb dX0_act_28 rfl (lv_at hl 2 rfl) ?_
      obtain ⟨x30, h31, hf⟩ := jm_rd_some hf
      refine jw_aald hx hb hK hst (show jm_ty[6]? = some (.object "ChainParts$Complex") from rfl) rfl h31 dX0_act_29 ?_
      obtain ⟨F32, h33, hf⟩ := jm_wr_some hf
      refine jw_astR (kd := 6) (r := x26) (v := x30) hx hb hK hst rfl (as_6 hK) h33 dX0_act_30 (fun H locs hst => ?_)
      generalize ((Mm25.1, Mm25.2.1, F32) : Mem) = Mm34 at hf hst
      refine lv_iinc (i := 2) (v := (v2 + 1)) (lv' := [(2, .int (v2 + 1)), (0, va_rf (some a0)), (1, va_rf v1)]) hx hb dX0_act_31 hl (k := 2) rfl (by rfl) (by decide) (by simp [va_rf_cat, cat_i, cat_j, cat_f]) (fun ls hl => ?_)
      refine lv_goto (tgt := 11) hx hb dX0_act_34 (by decide) ?_
      obtain ⟨rfl, rfl⟩ := jm_ret_some hf
      exact jm_or_l hk11 _ _ _ _ _ hst (lv_sub hl [1, 2, 0] rfl)
  unfold jf_X0_act at hf
  refine jw_aload_n (r := (some a0)) hx hb dX0_act_0 rfl (lv_at hl 0 rfl) ?_
  obtain ⟨x23, h24, hf⟩ := jm_rd_some hf
  refine jw_getI hx hb hts hown hK hst (fl_X0_91 hts hK) h24 dX0_act_1 ?_
  refine lv_bipush (v := 8) hx hb dX0_act_4 (by decide) ?_
  refine lv_icmp_ne (tgt := 47) hx hb dX0_act_6 (by decide) (fun hc => ?_) (fun hc => ?_)
  · rw [if_neg hc] at hf
    exact J47 a0 v1 _ hf _ _ _ _ _ hst (lv_sub hl [0, 1] rfl)
  · rw [if_pos hc] at hf
    refine lv_iconst (v := 1) hx hb dX0_act_9 (by decide) ?_
    refine lv_istore_n (i := 2) (lv' := [(2, .int (1 : Int32)), (0, va_rf (some a0)), (1, va_rf v1)]) hx hb dX0_act_10 rfl hl (by decide) (by simp [va_rf_cat, cat_i, cat_j, cat_f]) (fun ls hl => ?_)
    obtain ⟨xl11, Ml11, hit11, hf⟩ := jm_bd_some hf
    have hlf11 : jm_le Ml11 M' := jm_le_tr (jm_mono hf) jm_le_rf
    have hwe11 : (fun (y : Unit) (Mz : Mem) => ∀ (H : Heap) (locs : List Loc) (cells slots : Nat) (ls : Array Slot), jm_St g b M M' Mz s (jm_rm 0 0 M M') H locs cells slots → lv_has ls 3 [(0, va_rf (some a0)), (1, va_rf v1)] → W p l e (jm_rm 0 0 M M') s m args below meth c H locs cells slots (jm_MQ below g b none M M' args s) (F0 m 37 ls [])) xl11 Ml11 := fun H locs cells slots ls hst hl => K11_37 a0 v1 _ hf H locs cells slots ls hst hl
    refine jm_it_walk (Mf := M') (Wh := fun (z : Int32) (Mz : Mem) => ∀ (H : Heap) (locs : List Loc) (cells slots : Nat) (ls : Array Slot), jm_St g b M M' Mz s (jm_rm 0 0 M M') H locs cells slots → lv_has ls 3 [(0, va_rf (some a0)), (1, va_rf v1), (2, .int z)] → W p l e (jm_rm 0 0 M M') s m args below meth c H locs cells slots (jm_MQ below g b none M M' args s) (F0 m 11 ls [])) (We := fun (y : Unit) (Mz : Mem) => ∀ (H : Heap) (locs : List Loc) (cells slots : Nat) (ls : Array Slot), jm_St g b M M' Mz s (jm_rm 0 0 M M') H locs cells slots → lv_has ls 3 [(0, va_rf (some a0)), (1, va_rf v1)] → W p l e (jm_rm 0 0 M M') s m args below meth c H locs cells slots (jm_MQ below g b none M M' args s) (F0 m 37 ls [])) ?_ N (1 : Int32) M xl11 Ml11 hit11 hlf11 hwe11 _ _ _ _ _ hst (lv_sub hl [1, 2, 0] rfl)
    intro v2 Mm35 xe11 Me11 hf hle11 hk11 H locs cells slots ls hst hl
    have hf : (jf_X0_act_L11 N a0 v1 v2).1 Mm35 = some (xe11, Me11) := hf
    have hl : lv_has ls 3 [(0, va_rf (some a0)), (1, va_rf v1), (2, .int v2)] := hl
    exact B11 a0 v1 v2 _ _ _ hf hle11 hk11 _ _ _ _ _ hst (lv_sub hl [0, 1, 2] rfl)
theorem hd_X0_act : yX0_act.cls = RX0 ∧ yX0_act.cls ≠ "java/lang/invoke/MethodHandle" ∧ yX0_act.cls ≠ "java/lang/invoke/VarHandle" ∧ (parseMethodDescriptor yX0_act.desc).map (fun d => d.parameters.length) = some 1 := by decide +kernel
theorem fl_X0_101 {g : GD} {s : State} {args : Array Value} (hts : ∀ w ∈ lw_all, w.before args s = true) (hK : jm_KG g s) : ∀ q ∈ ([9] : List Nat), jm_FL s args RX0 101 q 2 := by
  intro q hq
  simp only [List.mem_cons, List.not_mem_nil, or_false] at hq
  subst hq
  exact ⟨RX9, TX9, 4, rfl, in_X9, by decide, "ChainParts$Complex", Or.inl (hts _ q368), fun _ h => h⟩
def jf_D_X7_with (N : Nat) (r : Option Nat) (v0 : Int32) : jm_P (Option Nat) :=
  jm_rd (jm_kl r) fun x => if x.2 = 7 then jf_X7_with N x.1 v0 else if x.2 = 8 then jf_X8_with N x.1 v0 else jm_no
theorem hd_X9_withFace : yX9_withFace.cls = RX9 ∧ yX9_withFace.cls ≠ "java/lang/invoke/MethodHandle" ∧ yX9_withFace.cls ≠ "java/lang/invoke/VarHandle" ∧ (parseMethodDescriptor yX9_withFace.desc).map (fun d => d.parameters.length) = some 2 := by decide +kernel
theorem hd_X7_with : yX7_with.cls = RX7 ∧ yX7_with.cls ≠ "java/lang/invoke/MethodHandle" ∧ yX7_with.cls ≠ "java/lang/invoke/VarHandle" ∧ (parseMethodDescriptor yX7_with.desc).map (fun d => d.parameters.length) = some 1 := by decide +kernel
theorem hd_X8_with : yX8_with.cls = RX8 ∧ yX8_with.cls ≠ "java/lang/invoke/MethodHandle" ∧ yX8_with.cls ≠ "java/lang/invoke/VarHandle" ∧ (parseMethodDescriptor yX8_with.desc).map (fun d => d.parameters.length) = some 1 := by decide +kernel
theorem fl_X0_97 {g : GD} {s : State} {args : Array Value} (hts : ∀ w ∈ lw_all, w.before args s = true) (hK : jm_KG g s) : ∀ q ∈ ([9] : List Nat), jm_FL s args RX0 97 q 1 := by
  intro q hq
  simp only [List.mem_cons, List.not_mem_nil, or_false] at hq
  subst hq
  exact ⟨RX9, TX9, 4, rfl, in_X9, by decide, "ChainParts$Complex", Or.inl (hts _ q366), fun _ h => h⟩
def jf_D_X5_with (N : Nat) (r : Option Nat) (v0 : Int32) : jm_P (Option Nat) :=
  jm_rd (jm_kl r) fun x => if x.2 = 5 then jf_X5_with N x.1 v0 else if x.2 = 6 then jf_X6_with N x.1 v0 else jm_no
theorem hd_X9_withEdge : yX9_withEdge.cls = RX9 ∧ yX9_withEdge.cls ≠ "java/lang/invoke/MethodHandle" ∧ yX9_withEdge.cls ≠ "java/lang/invoke/VarHandle" ∧ (parseMethodDescriptor yX9_withEdge.desc).map (fun d => d.parameters.length) = some 2 := by decide +kernel
theorem hd_X5_with : yX5_with.cls = RX5 ∧ yX5_with.cls ≠ "java/lang/invoke/MethodHandle" ∧ yX5_with.cls ≠ "java/lang/invoke/VarHandle" ∧ (parseMethodDescriptor yX5_with.desc).map (fun d => d.parameters.length) = some 1 := by decide +kernel
theorem hd_X6_with : yX6_with.cls = RX6 ∧ yX6_with.cls ≠ "java/lang/invoke/MethodHandle" ∧ yX6_with.cls ≠ "java/lang/invoke/VarHandle" ∧ (parseMethodDescriptor yX6_with.desc).map (fun d => d.parameters.length) = some 1 := by decide +kernel
theorem hd_X0_isCell : yX0_isCell.cls = RX0 ∧ yX0_isCell.cls ≠ "java/lang/invoke/MethodHandle" ∧ yX0_isCell.cls ≠ "java/lang/invoke/VarHandle" ∧ (parseMethodDescriptor yX0_isCell.desc).map (fun d => d.parameters.length) = some 2 := by decide +kernel
theorem hd_X0_isWeight : yX0_isWeight.cls = RX0 ∧ yX0_isWeight.cls ≠ "java/lang/invoke/MethodHandle" ∧ yX0_isWeight.cls ≠ "java/lang/invoke/VarHandle" ∧ (parseMethodDescriptor yX0_isWeight.desc).map (fun d => d.parameters.length) = some 1 := by decide +kernel
theorem fl_X0_124 {g : GD} {s : State} {args : Array Value} (hts : ∀ w ∈ lw_all, w.before args s = true) (hK : jm_KG g s) : ∀ q ∈ ([7, 8] : List Nat), jm_FL s args RX0 124 q 1 := by
  intro q hq
  simp only [List.mem_cons, List.not_mem_nil, or_false] at hq
  rcases hq with rfl | rfl
  · exact ⟨RX7, TX7, 2, rfl, in_X7, by decide, "ChainParts$FaceCell", Or.inl (hts _ q333), fun _ h => h⟩
  · exact ⟨RX8, TX8, 2, rfl, in_X8, by decide, "ChainParts$FaceCell", Or.inl (hts _ q333), fun _ h => h⟩
theorem fl_X0_121 {g : GD} {s : State} {args : Array Value} (hts : ∀ w ∈ lw_all, w.before args s = true) (hK : jm_KG g s) : ∀ q ∈ ([5, 6] : List Nat), jm_FL s args RX0 121 q 2 := by
  intro q hq
  simp only [List.mem_cons, List.not_mem_nil, or_false] at hq
  rcases hq with rfl | rfl
  · exact ⟨RX5, TX5, 3, rfl, in_X5, by decide, "ChainParts$EdgeCell", Or.inl (hts _ q291), fun _ h => h⟩
  · exact ⟨RX6, TX6, 3, rfl, in_X6, by decide, "ChainParts$EdgeCell", Or.inl (hts _ q291), fun _ h => h⟩
def jf_X0_weigh_j108 (N : Nat) (v4 : Int32) (t0 : Option Nat) (t1 : Option Nat) : jm_P Int32 :=
  jm_rd (jm_cl 0 t0) fun a5 =>
  jm_bd (jf_X0_act N a5 t1) fun x2 =>
  jm_ret v4
def jf_X0_weigh_j55 (N : Nat) (a0 : Nat) (v1 : Int32) (v2 : Int32) (v3 : Int32) (t0 : Int32) : jm_P Int32 :=
  if v1 = (1 : Int32) then (
    jm_rd (jm_fR [0] 0 (some a0)) fun x31 =>
    jm_rd (jm_fR [0] 0 (some a0)) fun x33 =>
    jm_rd (jm_fR [9] 1 x33) fun x35 =>
    jm_rd (jm_ldR 4 x35 v2) fun x37 =>
    jm_bd (jf_D_X5_with N x37 v3) fun x39 =>
    jm_rd (jm_cl 9 x31) fun a45 =>
    jm_bd (jf_X9_withEdge N a45 v2 x39) fun x42 =>
    jf_X0_weigh_j108 N t0 (some a0) x42)
  else
    jm_rd (jm_fR [0] 0 (some a0)) fun x9 =>
    jm_rd (jm_fR [0] 0 (some a0)) fun x11 =>
    jm_rd (jm_fR [9] 2 x11) fun x13 =>
    jm_rd (jm_ldR 5 x13 v2) fun x15 =>
    jm_bd (jf_D_X7_with N x15 v3) fun x17 =>
    jm_rd (jm_cl 9 x9) fun a23 =>
    jm_bd (jf_X9_withFace N a23 v2 x17) fun x20 =>
    jf_X0_weigh_j108 N t0 (some a0) x20
def jf_X0_weigh (N : Nat) (a0 : Nat) (v1 : Int32) (v2 : Int32) (v3 : Int32) : jm_P Int32 :=
  if v1 = 0 then (
    jm_ret (-1000001 : Int32))
  else
    jm_rd (jm_cl 0 (some a0)) fun a56 =>
    jm_bd (jf_X0_isCell N a56 v1 v2) fun x53 =>
    if x53 = 0 then (
      jm_ret (-1000001 : Int32))
    else
      jm_bd (jf_X0_isWeight N v3) fun x59 =>
      if x59 = 0 then (
        jm_ret (-1000001 : Int32))
      else
        if v1 = (1 : Int32) then (
          jm_rd (jm_fR [0] 0 (some a0)) fun x70 =>
          jm_rd (jm_fR [9] 1 x70) fun x72 =>
          jm_rd (jm_ldR 4 x72 v2) fun x74 =>
          jm_rd (jm_fI [5, 6] 2 x74) fun x76 =>
          jf_X0_weigh_j55 N a0 v1 v2 v3 x76)
        else
          jm_rd (jm_fR [0] 0 (some a0)) fun x62 =>
          jm_rd (jm_fR [9] 2 x62) fun x64 =>
          jm_rd (jm_ldR 5 x64 v2) fun x66 =>
          jm_rd (jm_fI [7, 8] 1 x66) fun x68 =>
          jf_X0_weigh_j55 N a0 v1 v2 v3 x68
set_option maxHeartbeats 4000000 in
set_option maxRecDepth 100000 in
theorem jt_X0_weigh (l : Launch) (g : GD) (b N : Nat) (a0 : Nat) (v1 : Int32) (v2 : Int32) (v3 : Int32) (M M' : Mem) (r : Int32) (hf : (jf_X0_weigh N a0 v1 v2 v3).1 M = some (r, M')) : jm_Met l g b yX0_weigh (ws_ yX0_weigh cX0_weigh 5 (some .int)) 5 106 [va_rf (some a0), .int v1, .int v2, .int v3] M M' (some (.int r)) := by
  refine jm_start (by decide) (jm_mono hf) (by rw [lg_sl_r, lg_sl_i, lg_sl_i, lg_sl_i, lg_sl_n]; exact Nat.le_of_ble_eq_true rfl) ?_
  intro p e s m args below meth c ls C0 hin hK hst hl
  obtain ⟨hx, hb, hml, hown, hts, hr, hlk⟩ := id C0
  have hown : s.vm.findClass RX0 = some m.cls := hown
  have C0 : jm_Cx p s m args meth c cX0_weigh 5 (some .int) RX0 := C0
  rw [lv_args_r, lv_args_i, lv_args_i, lv_args_i, lv_args_n] at hl
  have hl : lv_has ls 5 [(0, va_rf (some a0)), (1, .int v1), (2, .int v2), (3, .int v3)] := hl
  have J108 : ∀ (v4 : Int32) (t0 : Option Nat) (t1 : Option Nat) (Mm1 : Mem), (jf_X0_weigh_j108 N v4 t0 t1).1 Mm1 = some (r, M') → ∀ (H : Heap) (locs : List Loc) (cells slots : Nat) (ls : Array Slot), jm_St g b M M' Mm1 s (jm_rm 5 106 M M') H locs cells slots → lv_has ls 5 [(4, .int v4)] → W p l e (jm_rm 5 106 M M') s m args below meth c H locs cells slots (jm_MQ below g b (some (.int r)) M M' args s) (F0 m 108 ls [va_rf t1, va_rf t0]) := by
    intro v4 t0 t1 Mm1 hf H locs cells slots ls hst hl
    unfold jf_X0_weigh_j108 at hf
    obtain ⟨a5, h6, hf⟩ := jm_rd_some hf
    obtain ⟨fsa5, hea5, hr7⟩ := jm_cl_some h6
    obtain ⟨x2, Mm3, h4, hf⟩ := jm_bd_some hf
    refine jw_V (As := [va_rf t1]) (rest := []) (C := RX0) (T := TX0) (N := 7) (rv := t0) (jt_X0_act l g b N a5 t1 Mm1 Mm3 x2 h4) C0 hK hst (jm_mono h4) (jm_le_tr (jm_mono hf) jm_le_rf) q447 q449 qs8 q72 q450 hd_X0_act ⟨Nat.le_of_ble_eq_true rfl, Nat.le_of_ble_eq_true rfl⟩ hea5 hr7 rfl rfl hl.1 rfl (by rw [cs_n]; exact Nat.le_of_ble_eq_true rfl) dX0_weigh_108 (fun H locs cells slots hst => ?_)
    refine W.eq (g2 := F0 m 111 ls []) rfl ?_
    refine lv_iload hx hb dX0_weigh_111 (lv_at hl 0 rfl) ?_
    obtain ⟨rfl, rfl⟩ := jm_ret_some hf
    exact jw_iret C0 hst dX0_weigh_113
  have J55 : ∀ (a0 : Nat) (v1 : Int32) (v2 : Int32) (v3 : Int32) (t0 : Int32) (Mm8 : Mem), (jf_X0_weigh_j55 N a0 v1 v2 v3 t0).1 Mm8 = some (r, M') → ∀ (H : Heap) (locs : List Loc) (cells slots : Nat) (ls : Array Slot), jm_St g b M M' Mm8 s (jm_rm 5 106 M M') H locs cells slots → lv_has ls 5 [(0, va_rf (some a0)), (1, .int v1), (2, .int v2), (3, .int v3)] → W p l e (jm_rm 5 106 M M') s m args below meth c H locs cells slots (jm_MQ below g b (some (.int r)) M M' args s) (F0 m 55 ls [.int t0]) := by
    intro a0 v1 v2 v3 t0 Mm8 hf H locs cells slots ls hst hl
    unfold jf_X0_weigh_j55 at hf
    refine lv_istore (i := 4) (lv' := [(4, .int t0), (0, va_rf (some a0)), (1, .int v1), (2, .int v2), (3, .int v3)]) hx hb dX0_weigh_55 hl (by decide) rfl (fun ls hl => ?_)
    refine jw_aload_n (r := (some a0)) hx hb dX0_weigh_57 rfl (lv_at hl 1 rfl) ?_
    refine lv_iload_n hx hb dX0_weigh_58 rfl (lv_at hl 2 rfl) ?_
    refine lv_iconst (v := 1) hx hb dX0_weigh_59 (by decide) ?_
    refine lv_icmp_ne (tgt := 87) hx hb dX0_weigh_60 (by decide) (fun hc => ?_) (fun hc => ?_)
    · rw [if_neg hc] at hf
      refine jw_aload_n (r := (some a0)) hx hb dX0_weigh_87 rfl (lv_at hl 1 rfl) ?_
      obtain ⟨x9, h10, hf⟩ := jm_rd_some hf
      refine jw_getR hx hb hts hown hK hst (fl_X0_75 hts hK) h10 dX0_weigh_88 ?_
      refine lv_iload_n hx hb dX0_weigh_91 rfl (lv_at hl 3 rfl) ?_
      refine jw_aload_n (r := (some a0)) hx hb dX0_weigh_92 rfl (lv_at hl 1 rfl) ?_
      obtain ⟨x11, h12, hf⟩ := jm_rd_some hf
      refine jw_getR hx hb hts hown hK hst (fl_X0_75 hts hK) h12 dX0_weigh_93 ?_
      obtain ⟨x13, h14, hf⟩ := jm_rd_some hf
      refine jw_getR hx hb hts hown hK hst (fl_X0_101 hts hK) h14 dX0_weigh_96 ?_
      refine lv_iload_n hx hb dX0_weigh_99 rfl (lv_at hl 3 rfl) ?_
      obtain ⟨x15, h16, hf⟩ := jm_rd_some hf
      refine jw_aald hx hb hK hst (show jm_ty[5]? = some (.object "ChainParts$FaceCell") from rfl) rfl h16 dX0_weigh_100 ?_
      refine lv_iload_n hx hb dX0_weigh_101 rfl (lv_at hl 4 rfl) ?_
      obtain ⟨x17, Mm18, h19, hf⟩ := jm_bd_some hf
      have hKh19 : ∀ (H1 : Heap) (locs1 : List Loc) (cells1 slots1 : Nat), jm_St g b M M' Mm18 s (jm_rm 5 106 M M') H1 locs1 cells1 slots1 → W p l e (jm_rm 5 106 M M') s m args below meth c H1 locs1 cells1 slots1 (jm_MQ below g b (some (.int r)) M M' args s) (F0 m (102 + 3) ls (Option.toList (some (va_rf x17)) ++ [.int v2, va_rf x9, va_rf (some a0)])) := by
        intro H locs cells slots hst
        refine W.eq (g2 := F0 m 105 ls [va_rf x17, .int v2, va_rf x9, va_rf (some a0)]) rfl ?_
        obtain ⟨a23, h24, hf⟩ := jm_rd_some hf
        obtain ⟨fsa23, hea23, hr25⟩ := jm_cl_some h24
        obtain ⟨x20, Mm21, h22, hf⟩ := jm_bd_some hf
        refine jw_V (As := [.int v2, va_rf x17]) (rest := [va_rf (some a0)]) (C := RX9) (T := TX9) (N := 4) (rv := x9) (jt_X9_withFace l g b N a23 v2 x17 Mm18 Mm21 x20 h22) C0 hK hst (jm_mono h22) (jm_le_tr (jm_mono hf) jm_le_rf) q442 q443 q444 q84 q445 hd_X9_withFace ⟨Nat.le_of_ble_eq_true rfl, Nat.le_of_ble_eq_true rfl⟩ hea23 hr25 rfl rfl hl.1 rfl (by rw [cs_r, cs_n]; exact Nat.le_of_ble_eq_true rfl) dX0_weigh_105 (fun H locs cells slots hst => ?_)
        refine W.eq (g2 := F0 m 108 ls [va_rf x20, va_rf (some a0)]) rfl ?_
        exact J108 t0 (some a0) x20 _ hf _ _ _ _ _ hst (lv_sub hl [0] rfl)
      have hbh19 := jm_mono h19
      have hch19 := jm_le_tr (jm_mono hf) jm_le_rf
      unfold jf_D_X7_with at h19
      obtain ⟨z26, h27, h19⟩ := jm_rd_some h19
      obtain ⟨fs28, hv29, hr30⟩ := jm_kl_some h27
      by_cases hc : z26.2 = 7
      · rw [if_pos hc] at h19
        rw [hc] at hr30
        exact jw_V (As := [.int v3]) (rest := [.int v2, va_rf x9, va_rf (some a0)]) (C := RX7) (T := TX7) (N := 2) (rv := x15) (jt_X7_with l g b N z26.1 v3 Mm8 Mm18 x17 h19) C0 hK hst hbh19 hch19 q430 q431 q432 q82 q439 hd_X7_with ⟨Nat.le_of_ble_eq_true rfl, Nat.le_of_ble_eq_true rfl⟩ hv29 hr30 rfl rfl hl.1 rfl (by rw [cs_i, cs_r, cs_r, cs_n]; exact Nat.le_of_ble_eq_true rfl) dX0_weigh_102 hKh19
      rw [if_neg hc] at h19
      by_cases hc : z26.2 = 8
      · rw [if_pos hc] at h19
        rw [hc] at hr30
        exact jw_U (As := [.int v3]) (rest := [.int v2, va_rf x9, va_rf (some a0)]) (C := RX8) (T := TX8) (N := 2) (rv := x15) (owner := RX7) (x := yX7_with) (jt_X8_with l g b N z26.1 v3 Mm8 Mm18 x17 h19) C0 hK hst hbh19 hch19 (jm_cwO hts q430 q433 q431 q434 q435 q83 q436 q439 hd_X7_with.2 ⟨Nat.le_of_ble_eq_true rfl, Nat.le_of_ble_eq_true rfl⟩) hv29 hr30 rfl rfl hl.1 rfl (by rw [cs_i, cs_r, cs_r, cs_n]; exact Nat.le_of_ble_eq_true rfl) dX0_weigh_102 hKh19
      rw [if_neg hc] at h19
      exact (jm_no_some h19).elim
    · rw [if_pos hc] at hf
      refine jw_aload_n (r := (some a0)) hx hb dX0_weigh_63 rfl (lv_at hl 1 rfl) ?_
      obtain ⟨x31, h32, hf⟩ := jm_rd_some hf
      refine jw_getR hx hb hts hown hK hst (fl_X0_75 hts hK) h32 dX0_weigh_64 ?_
      refine lv_iload_n hx hb dX0_weigh_67 rfl (lv_at hl 3 rfl) ?_
      refine jw_aload_n (r := (some a0)) hx hb dX0_weigh_68 rfl (lv_at hl 1 rfl) ?_
      obtain ⟨x33, h34, hf⟩ := jm_rd_some hf
      refine jw_getR hx hb hts hown hK hst (fl_X0_75 hts hK) h34 dX0_weigh_69 ?_
      obtain ⟨x35, h36, hf⟩ := jm_rd_some hf
      refine jw_getR hx hb hts hown hK hst (fl_X0_97 hts hK) h36 dX0_weigh_72 ?_
      refine lv_iload_n hx hb dX0_weigh_75 rfl (lv_at hl 3 rfl) ?_
      obtain ⟨x37, h38, hf⟩ := jm_rd_some hf
      refine jw_aald hx hb hK hst (show jm_ty[4]? = some (.object "ChainParts$EdgeCell") from rfl) rfl h38 dX0_weigh_76 ?_
      refine lv_iload_n hx hb dX0_weigh_77 rfl (lv_at hl 4 rfl) ?_
      obtain ⟨x39, Mm40, h41, hf⟩ := jm_bd_some hf
      have hKh41 : ∀ (H1 : Heap) (locs1 : List Loc) (cells1 slots1 : Nat), jm_St g b M M' Mm40 s (jm_rm 5 106 M M') H1 locs1 cells1 slots1 → W p l e (jm_rm 5 106 M M') s m args below meth c H1 locs1 cells1 slots1 (jm_MQ below g b (some (.int r)) M M' args s) (F0 m (78 + 3) ls (Option.toList (some (va_rf x39)) ++ [.int v2, va_rf x31, va_rf (some a0)])) := by
        intro H locs cells slots hst
        refine W.eq (g2 := F0 m 81 ls [va_rf x39, .int v2, va_rf x31, va_rf (some a0)]) rfl ?_
        obtain ⟨a45, h46, hf⟩ := jm_rd_some hf
        obtain ⟨fsa45, hea45, hr47⟩ := jm_cl_some h46
        obtain ⟨x42, Mm43, h44, hf⟩ := jm_bd_some hf
        refine jw_V (As := [.int v2, va_rf x39]) (rest := [va_rf (some a0)]) (C := RX9) (T := TX9) (N := 4) (rv := x31) (jt_X9_withEdge l g b N a45 v2 x39 Mm40 Mm43 x42 h44) C0 hK hst (jm_mono h44) (jm_le_tr (jm_mono hf) jm_le_rf) q419 q420 q421 q84 q422 hd_X9_withEdge ⟨Nat.le_of_ble_eq_true rfl, Nat.le_of_ble_eq_true rfl⟩ hea45 hr47 rfl rfl hl.1 rfl (by rw [cs_r, cs_n]; exact Nat.le_of_ble_eq_true rfl) dX0_weigh_81 (fun H locs cells slots hst => ?_)
        refine W.eq (g2 := F0 m 84 ls [va_rf x42, va_rf (some a0)]) rfl ?_
        refine lv_goto (tgt := 108) hx hb dX0_weigh_84 (by decide) ?_
        exact J108 t0 (some a0) x42 _ hf _ _ _ _ _ hst (lv_sub hl [0] rfl)
      have hbh41 := jm_mono h41
      have hch41 := jm_le_tr (jm_mono hf) jm_le_rf
      unfold jf_D_X5_with at h41
      obtain ⟨z48, h49, h41⟩ := jm_rd_some h41
      obtain ⟨fs50, hv51, hr52⟩ := jm_kl_some h49
      by_cases hc : z48.2 = 5
      · rw [if_pos hc] at h41
        rw [hc] at hr52
        exact jw_V (As := [.int v3]) (rest := [.int v2, va_rf x31, va_rf (some a0)]) (C := RX5) (T := TX5) (N := 3) (rv := x37) (jt_X5_with l g b N z48.1 v3 Mm8 Mm40 x39 h41) C0 hK hst hbh41 hch41 q407 q408 q409 q79 q416 hd_X5_with ⟨Nat.le_of_ble_eq_true rfl, Nat.le_of_ble_eq_true rfl⟩ hv51 hr52 rfl rfl hl.1 rfl (by rw [cs_i, cs_r, cs_r, cs_n]; exact Nat.le_of_ble_eq_true rfl) dX0_weigh_78 hKh41
      rw [if_neg hc] at h41
      by_cases hc : z48.2 = 6
      · rw [if_pos hc] at h41
        rw [hc] at hr52
        exact jw_U (As := [.int v3]) (rest := [.int v2, va_rf x31, va_rf (some a0)]) (C := RX6) (T := TX6) (N := 3) (rv := x37) (owner := RX5) (x := yX5_with) (jt_X6_with l g b N z48.1 v3 Mm8 Mm40 x39 h41) C0 hK hst hbh41 hch41 (jm_cwO hts q407 q410 q408 q411 q412 q80 q413 q416 hd_X5_with.2 ⟨Nat.le_of_ble_eq_true rfl, Nat.le_of_ble_eq_true rfl⟩) hv51 hr52 rfl rfl hl.1 rfl (by rw [cs_i, cs_r, cs_r, cs_n]; exact Nat.le_of_ble_eq_true rfl) dX0_weigh_78 hKh41
      rw [if_neg hc] at h41
      exact (jm_no_some h41).elim
  unfold jf_X0_weigh at hf
  refine lv_iload_n hx hb dX0_weigh_0 rfl (lv_at hl 1 rfl) ?_
  refine lv_if_eq (tgt := 20) hx hb dX0_weigh_1 (by decide) (fun hc => ?_) (fun hc => ?_)
  · rw [if_pos hc] at hf
    refine lv_ldc hx hb hown (hts _ q134) dX0_weigh_20 ?_
    obtain ⟨rfl, rfl⟩ := jm_ret_some hf
    exact jw_iret C0 hst dX0_weigh_22
  · rw [if_neg hc] at hf
    refine jw_aload_n (r := (some a0)) hx hb dX0_weigh_4 rfl (lv_at hl 0 rfl) ?_
    refine lv_iload_n hx hb dX0_weigh_5 rfl (lv_at hl 1 rfl) ?_
    refine lv_iload_n hx hb dX0_weigh_6 rfl (lv_at hl 2 rfl) ?_
    obtain ⟨a56, h57, hf⟩ := jm_rd_some hf
    obtain ⟨fsa56, hea56, hr58⟩ := jm_cl_some h57
    obtain ⟨x53, Mm54, h55, hf⟩ := jm_bd_some hf
    refine jw_V (As := [.int v1, .int v2]) (rest := []) (C := RX0) (T := TX0) (N := 7) (rv := (some a0)) (jt_X0_isCell l g b N a56 v1 v2 M Mm54 x53 h55) C0 hK hst (jm_mono h55) (jm_le_tr (jm_mono hf) jm_le_rf) q394 q396 qs7 q72 q397 hd_X0_isCell ⟨Nat.le_of_ble_eq_true rfl, Nat.le_of_ble_eq_true rfl⟩ hea56 hr58 rfl rfl hl.1 rfl (by rw [cs_n]; exact Nat.le_of_ble_eq_true rfl) dX0_weigh_7 (fun H locs cells slots hst => ?_)
    refine W.eq (g2 := F0 m 10 ls [.int x53]) rfl ?_
    refine lv_if_eq (tgt := 20) hx hb dX0_weigh_10 (by decide) (fun hc => ?_) (fun hc => ?_)
    · rw [if_pos hc] at hf
      refine lv_ldc hx hb hown (hts _ q134) dX0_weigh_20 ?_
      obtain ⟨rfl, rfl⟩ := jm_ret_some hf
      exact jw_iret C0 hst dX0_weigh_22
    · rw [if_neg hc] at hf
      refine lv_iload_n hx hb dX0_weigh_13 rfl (lv_at hl 3 rfl) ?_
      obtain ⟨x59, Mm60, h61, hf⟩ := jm_bd_some hf
      refine jw_S (As := [.int v3]) (rest := []) (jt_X0_isWeight l g b N v3 Mm54 Mm60 x59 h61) C0 hK hst (jm_mono h61) (jm_le_tr (jm_mono hf) jm_le_rf) q403 q404 q72 q405 hd_X0_isWeight.2 ⟨Nat.le_of_ble_eq_true rfl, Nat.le_of_ble_eq_true rfl⟩ rfl hl.1 rfl (by rw [cs_n]; exact Nat.le_of_ble_eq_true rfl) dX0_weigh_14 (fun H locs cells slots hst => ?_)
      refine W.eq (g2 := F0 m 17 ls [.int x59]) rfl ?_
      refine lv_if_ne (tgt := 23) hx hb dX0_weigh_17 (by decide) (fun hc => ?_) (fun hc => ?_)
      · rw [if_neg hc] at hf
        refine lv_iload_n hx hb dX0_weigh_23 rfl (lv_at hl 1 rfl) ?_
        refine lv_iconst (v := 1) hx hb dX0_weigh_24 (by decide) ?_
        refine lv_icmp_ne (tgt := 43) hx hb dX0_weigh_25 (by decide) (fun hc => ?_) (fun hc => ?_)
        · rw [if_neg hc] at hf
          refine jw_aload_n (r := (some a0)) hx hb dX0_weigh_43 rfl (lv_at hl 0 rfl) ?_
          obtain ⟨x62, h63, hf⟩ := jm_rd_some hf
          refine jw_getR hx hb hts hown hK hst (fl_X0_75 hts hK) h63 dX0_weigh_44 ?_
          obtain ⟨x64, h65, hf⟩ := jm_rd_some hf
          refine jw_getR hx hb hts hown hK hst (fl_X0_101 hts hK) h65 dX0_weigh_47 ?_
          refine lv_iload_n hx hb dX0_weigh_50 rfl (lv_at hl 2 rfl) ?_
          obtain ⟨x66, h67, hf⟩ := jm_rd_some hf
          refine jw_aald hx hb hK hst (show jm_ty[5]? = some (.object "ChainParts$FaceCell") from rfl) rfl h67 dX0_weigh_51 ?_
          obtain ⟨x68, h69, hf⟩ := jm_rd_some hf
          refine jw_getI hx hb hts hown hK hst (fl_X0_124 hts hK) h69 dX0_weigh_52 ?_
          exact J55 a0 v1 v2 v3 x68 _ hf _ _ _ _ _ hst (lv_sub hl [0, 1, 2, 3] rfl)
        · rw [if_pos hc] at hf
          refine jw_aload_n (r := (some a0)) hx hb dX0_weigh_28 rfl (lv_at hl 0 rfl) ?_
          obtain ⟨x70, h71, hf⟩ := jm_rd_some hf
          refine jw_getR hx hb hts hown hK hst (fl_X0_75 hts hK) h71 dX0_weigh_29 ?_
          obtain ⟨x72, h73, hf⟩ := jm_rd_some hf
          refine jw_getR hx hb hts hown hK hst (fl_X0_97 hts hK) h73 dX0_weigh_32 ?_
          refine lv_iload_n hx hb dX0_weigh_35 rfl (lv_at hl 2 rfl) ?_
          obtain ⟨x74, h75, hf⟩ := jm_rd_some hf
          refine jw_aald hx hb hK hst (show jm_ty[4]? = some (.object "ChainParts$EdgeCell") from rfl) rfl h75 dX0_weigh_36 ?_
          obtain ⟨x76, h77, hf⟩ := jm_rd_some hf
          refine jw_getI hx hb hts hown hK hst (fl_X0_121 hts hK) h77 dX0_weigh_37 ?_
          refine lv_goto (tgt := 55) hx hb dX0_weigh_40 (by decide) ?_
          exact J55 a0 v1 v2 v3 x76 _ hf _ _ _ _ _ hst (lv_sub hl [0, 1, 2, 3] rfl)
      · rw [if_pos hc] at hf
        refine lv_ldc hx hb hown (hts _ q134) dX0_weigh_20 ?_
        obtain ⟨rfl, rfl⟩ := jm_ret_some hf
        exact jw_iret C0 hst dX0_weigh_22
theorem hd_X0_edgeBy : yX0_edgeBy.cls = RX0 ∧ yX0_edgeBy.cls ≠ "java/lang/invoke/MethodHandle" ∧ yX0_edgeBy.cls ≠ "java/lang/invoke/VarHandle" ∧ (parseMethodDescriptor yX0_edgeBy.desc).map (fun d => d.parameters.length) = some 3 := by decide +kernel
def jf_X0_edge (N : Nat) (a0 : Nat) (v1 : Int32) (v2 : Int32) (v3 : Int32) : jm_P Int32 :=
  jm_rd (jm_fR [0] 0 (some a0)) fun x1 =>
  if x1 = none then (
    jm_ret (-1000002 : Int32))
  else
    jm_rd (jm_cl 0 (some a0)) fun a6 =>
    jm_bd (jf_X0_isCell N a6 (0 : Int32) v1) fun x3 =>
    if x3 = 0 then (
      jm_ret (-1000001 : Int32))
    else
      jm_rd (jm_cl 0 (some a0)) fun a12 =>
      jm_bd (jf_X0_isCell N a12 (0 : Int32) v2) fun x9 =>
      if x9 = 0 then (
        jm_ret (-1000001 : Int32))
      else
        jm_bd (jf_X0_isWeight N v3) fun x15 =>
        if x15 = 0 then (
          jm_ret (-1000001 : Int32))
        else
          jm_rd (jm_fR [0] 0 (some a0)) fun x18 =>
          jm_rd (jm_fR [9] 1 x18) fun x20 =>
          jm_rd (jm_len 4 x20) fun x22 =>
          if x22 = (6 : Int32) then (
            jm_ret (-1000003 : Int32))
          else
            jm_rd (jm_fR [0] 0 (some a0)) fun x24 =>
            jm_bd (jf_X0_edgeBy N v1 v2 v3) fun x26 =>
            jm_rd (jm_cl 9 x24) fun a32 =>
            jm_bd (jf_X9_withEdge N a32 x22 x26) fun x29 =>
            jm_rd (jm_cl 0 (some a0)) fun a38 =>
            jm_bd (jf_X0_act N a38 x29) fun x35 =>
            jm_ret x22
set_option maxHeartbeats 4000000 in
set_option maxRecDepth 100000 in
theorem jt_X0_edge (l : Launch) (g : GD) (b N : Nat) (a0 : Nat) (v1 : Int32) (v2 : Int32) (v3 : Int32) (M M' : Mem) (r : Int32) (hf : (jf_X0_edge N a0 v1 v2 v3).1 M = some (r, M')) : jm_Met l g b yX0_edge (ws_ yX0_edge cX0_edge 5 (some .int)) 5 107 [va_rf (some a0), .int v1, .int v2, .int v3] M M' (some (.int r)) := by
  refine jm_start (by decide) (jm_mono hf) (by rw [lg_sl_r, lg_sl_i, lg_sl_i, lg_sl_i, lg_sl_n]; exact Nat.le_of_ble_eq_true rfl) ?_
  intro p e s m args below meth c ls C0 hin hK hst hl
  obtain ⟨hx, hb, hml, hown, hts, hr, hlk⟩ := id C0
  have hown : s.vm.findClass RX0 = some m.cls := hown
  have C0 : jm_Cx p s m args meth c cX0_edge 5 (some .int) RX0 := C0
  rw [lv_args_r, lv_args_i, lv_args_i, lv_args_i, lv_args_n] at hl
  have hl : lv_has ls 5 [(0, va_rf (some a0)), (1, .int v1), (2, .int v2), (3, .int v3)] := hl
  unfold jf_X0_edge at hf
  refine jw_aload_n (r := (some a0)) hx hb dX0_edge_0 rfl (lv_at hl 0 rfl) ?_
  obtain ⟨x1, h2, hf⟩ := jm_rd_some hf
  refine jw_getR hx hb hts hown hK hst (fl_X0_75 hts hK) h2 dX0_edge_1 ?_
  refine jw_ifnonnull (tgt := 10) hx hb dX0_edge_4 (by decide) (fun hc => ?_) (fun hc => ?_)
  · rw [if_neg hc] at hf
    refine jw_aload_n (r := (some a0)) hx hb dX0_edge_10 rfl (lv_at hl 0 rfl) ?_
    refine lv_iconst (v := 0) hx hb dX0_edge_11 (by decide) ?_
    refine lv_iload_n hx hb dX0_edge_12 rfl (lv_at hl 1 rfl) ?_
    obtain ⟨a6, h7, hf⟩ := jm_rd_some hf
    obtain ⟨fsa6, hea6, hr8⟩ := jm_cl_some h7
    obtain ⟨x3, Mm4, h5, hf⟩ := jm_bd_some hf
    refine jw_V (As := [.int (0 : Int32), .int v1]) (rest := []) (C := RX0) (T := TX0) (N := 7) (rv := (some a0)) (jt_X0_isCell l g b N a6 (0 : Int32) v1 M Mm4 x3 h5) C0 hK hst (jm_mono h5) (jm_le_tr (jm_mono hf) jm_le_rf) q394 q396 qs7 q72 q397 hd_X0_isCell ⟨Nat.le_of_ble_eq_true rfl, Nat.le_of_ble_eq_true rfl⟩ hea6 hr8 rfl rfl hl.1 rfl (by rw [cs_n]; exact Nat.le_of_ble_eq_true rfl) dX0_edge_13 (fun H locs cells slots hst => ?_)
    refine W.eq (g2 := F0 m 16 ls [.int x3]) rfl ?_
    refine lv_if_eq (tgt := 35) hx hb dX0_edge_16 (by decide) (fun hc => ?_) (fun hc => ?_)
    · rw [if_pos hc] at hf
      refine lv_ldc hx hb hown (hts _ q134) dX0_edge_35 ?_
      obtain ⟨rfl, rfl⟩ := jm_ret_some hf
      exact jw_iret C0 hst dX0_edge_37
    · rw [if_neg hc] at hf
      refine jw_aload_n (r := (some a0)) hx hb dX0_edge_19 rfl (lv_at hl 0 rfl) ?_
      refine lv_iconst (v := 0) hx hb dX0_edge_20 (by decide) ?_
      refine lv_iload_n hx hb dX0_edge_21 rfl (lv_at hl 2 rfl) ?_
      obtain ⟨a12, h13, hf⟩ := jm_rd_some hf
      obtain ⟨fsa12, hea12, hr14⟩ := jm_cl_some h13
      obtain ⟨x9, Mm10, h11, hf⟩ := jm_bd_some hf
      refine jw_V (As := [.int (0 : Int32), .int v2]) (rest := []) (C := RX0) (T := TX0) (N := 7) (rv := (some a0)) (jt_X0_isCell l g b N a12 (0 : Int32) v2 Mm4 Mm10 x9 h11) C0 hK hst (jm_mono h11) (jm_le_tr (jm_mono hf) jm_le_rf) q394 q396 qs7 q72 q397 hd_X0_isCell ⟨Nat.le_of_ble_eq_true rfl, Nat.le_of_ble_eq_true rfl⟩ hea12 hr14 rfl rfl hl.1 rfl (by rw [cs_n]; exact Nat.le_of_ble_eq_true rfl) dX0_edge_22 (fun H locs cells slots hst => ?_)
      refine W.eq (g2 := F0 m 25 ls [.int x9]) rfl ?_
      refine lv_if_eq (tgt := 35) hx hb dX0_edge_25 (by decide) (fun hc => ?_) (fun hc => ?_)
      · rw [if_pos hc] at hf
        refine lv_ldc hx hb hown (hts _ q134) dX0_edge_35 ?_
        obtain ⟨rfl, rfl⟩ := jm_ret_some hf
        exact jw_iret C0 hst dX0_edge_37
      · rw [if_neg hc] at hf
        refine lv_iload_n hx hb dX0_edge_28 rfl (lv_at hl 3 rfl) ?_
        obtain ⟨x15, Mm16, h17, hf⟩ := jm_bd_some hf
        refine jw_S (As := [.int v3]) (rest := []) (jt_X0_isWeight l g b N v3 Mm10 Mm16 x15 h17) C0 hK hst (jm_mono h17) (jm_le_tr (jm_mono hf) jm_le_rf) q403 q404 q72 q405 hd_X0_isWeight.2 ⟨Nat.le_of_ble_eq_true rfl, Nat.le_of_ble_eq_true rfl⟩ rfl hl.1 rfl (by rw [cs_n]; exact Nat.le_of_ble_eq_true rfl) dX0_edge_29 (fun H locs cells slots hst => ?_)
        refine W.eq (g2 := F0 m 32 ls [.int x15]) rfl ?_
        refine lv_if_ne (tgt := 38) hx hb dX0_edge_32 (by decide) (fun hc => ?_) (fun hc => ?_)
        · rw [if_neg hc] at hf
          refine jw_aload_n (r := (some a0)) hx hb dX0_edge_38 rfl (lv_at hl 0 rfl) ?_
          obtain ⟨x18, h19, hf⟩ := jm_rd_some hf
          refine jw_getR hx hb hts hown hK hst (fl_X0_75 hts hK) h19 dX0_edge_39 ?_
          obtain ⟨x20, h21, hf⟩ := jm_rd_some hf
          refine jw_getR hx hb hts hown hK hst (fl_X0_97 hts hK) h21 dX0_edge_42 ?_
          obtain ⟨x22, h23, hf⟩ := jm_rd_some hf
          refine jw_alen hx hb hK hst (show jm_ty[4]? = some (.object "ChainParts$EdgeCell") from rfl) h23 dX0_edge_45 ?_
          refine lv_istore (i := 4) (lv' := [(4, .int x22), (0, va_rf (some a0)), (1, .int v1), (2, .int v2), (3, .int v3)]) hx hb dX0_edge_46 hl (by decide) rfl (fun ls hl => ?_)
          refine lv_iload hx hb dX0_edge_48 (lv_at hl 0 rfl) ?_
          refine lv_bipush (v := 6) hx hb dX0_edge_50 (by decide) ?_
          refine lv_icmp_ne (tgt := 58) hx hb dX0_edge_52 (by decide) (fun hc => ?_) (fun hc => ?_)
          · rw [if_neg hc] at hf
            refine jw_aload_n (r := (some a0)) hx hb dX0_edge_58 rfl (lv_at hl 1 rfl) ?_
            refine jw_aload_n (r := (some a0)) hx hb dX0_edge_59 rfl (lv_at hl 1 rfl) ?_
            obtain ⟨x24, h25, hf⟩ := jm_rd_some hf
            refine jw_getR hx hb hts hown hK hst (fl_X0_75 hts hK) h25 dX0_edge_60 ?_
            refine lv_iload hx hb dX0_edge_63 (lv_at hl 0 rfl) ?_
            refine lv_iload_n hx hb dX0_edge_65 rfl (lv_at hl 2 rfl) ?_
            refine lv_iload_n hx hb dX0_edge_66 rfl (lv_at hl 3 rfl) ?_
            refine lv_iload_n hx hb dX0_edge_67 rfl (lv_at hl 4 rfl) ?_
            obtain ⟨x26, Mm27, h28, hf⟩ := jm_bd_some hf
            refine jw_S (As := [.int v1, .int v2, .int v3]) (rest := [.int x22, va_rf x24, va_rf (some a0)]) (jt_X0_edgeBy l g b N v1 v2 v3 Mm16 Mm27 x26 h28) C0 hK hst (jm_mono h28) (jm_le_tr (jm_mono hf) jm_le_rf) q455 q265 q72 q266 hd_X0_edgeBy.2 ⟨Nat.le_of_ble_eq_true rfl, Nat.le_of_ble_eq_true rfl⟩ rfl hl.1 rfl (by rw [cs_i, cs_r, cs_r, cs_n]; exact Nat.le_of_ble_eq_true rfl) dX0_edge_68 (fun H locs cells slots hst => ?_)
            refine W.eq (g2 := F0 m 71 ls [va_rf x26, .int x22, va_rf x24, va_rf (some a0)]) rfl ?_
            obtain ⟨a32, h33, hf⟩ := jm_rd_some hf
            obtain ⟨fsa32, hea32, hr34⟩ := jm_cl_some h33
            obtain ⟨x29, Mm30, h31, hf⟩ := jm_bd_some hf
            refine jw_V (As := [.int x22, va_rf x26]) (rest := [va_rf (some a0)]) (C := RX9) (T := TX9) (N := 4) (rv := x24) (jt_X9_withEdge l g b N a32 x22 x26 Mm27 Mm30 x29 h31) C0 hK hst (jm_mono h31) (jm_le_tr (jm_mono hf) jm_le_rf) q419 q420 q421 q84 q422 hd_X9_withEdge ⟨Nat.le_of_ble_eq_true rfl, Nat.le_of_ble_eq_true rfl⟩ hea32 hr34 rfl rfl hl.1 rfl (by rw [cs_r, cs_n]; exact Nat.le_of_ble_eq_true rfl) dX0_edge_71 (fun H locs cells slots hst => ?_)
            refine W.eq (g2 := F0 m 74 ls [va_rf x29, va_rf (some a0)]) rfl ?_
            obtain ⟨a38, h39, hf⟩ := jm_rd_some hf
            obtain ⟨fsa38, hea38, hr40⟩ := jm_cl_some h39
            obtain ⟨x35, Mm36, h37, hf⟩ := jm_bd_some hf
            refine jw_V (As := [va_rf x29]) (rest := []) (C := RX0) (T := TX0) (N := 7) (rv := (some a0)) (jt_X0_act l g b N a38 x29 Mm30 Mm36 x35 h37) C0 hK hst (jm_mono h37) (jm_le_tr (jm_mono hf) jm_le_rf) q447 q449 qs8 q72 q450 hd_X0_act ⟨Nat.le_of_ble_eq_true rfl, Nat.le_of_ble_eq_true rfl⟩ hea38 hr40 rfl rfl hl.1 rfl (by rw [cs_n]; exact Nat.le_of_ble_eq_true rfl) dX0_edge_74 (fun H locs cells slots hst => ?_)
            refine W.eq (g2 := F0 m 77 ls []) rfl ?_
            refine lv_iload hx hb dX0_edge_77 (lv_at hl 0 rfl) ?_
            obtain ⟨rfl, rfl⟩ := jm_ret_some hf
            exact jw_iret C0 hst dX0_edge_79
          · rw [if_pos hc] at hf
            refine lv_ldc hx hb hown (hts _ q135) dX0_edge_55 ?_
            obtain ⟨rfl, rfl⟩ := jm_ret_some hf
            exact jw_iret C0 hst dX0_edge_57
        · rw [if_pos hc] at hf
          refine lv_ldc hx hb hown (hts _ q134) dX0_edge_35 ?_
          obtain ⟨rfl, rfl⟩ := jm_ret_some hf
          exact jw_iret C0 hst dX0_edge_37
  · rw [if_pos hc] at hf
    refine lv_ldc hx hb hown (hts _ q389) dX0_edge_7 ?_
    obtain ⟨rfl, rfl⟩ := jm_ret_some hf
    exact jw_iret C0 hst dX0_edge_9
theorem hd_X9_withoutFace : yX9_withoutFace.cls = RX9 ∧ yX9_withoutFace.cls ≠ "java/lang/invoke/MethodHandle" ∧ yX9_withoutFace.cls ≠ "java/lang/invoke/VarHandle" ∧ (parseMethodDescriptor yX9_withoutFace.desc).map (fun d => d.parameters.length) = some 1 := by decide +kernel
theorem hd_X9_withoutEdge : yX9_withoutEdge.cls = RX9 ∧ yX9_withoutEdge.cls ≠ "java/lang/invoke/MethodHandle" ∧ yX9_withoutEdge.cls ≠ "java/lang/invoke/VarHandle" ∧ (parseMethodDescriptor yX9_withoutEdge.desc).map (fun d => d.parameters.length) = some 1 := by decide +kernel
theorem hd_X9_isUsed : yX9_isUsed.cls = RX9 ∧ yX9_isUsed.cls ≠ "java/lang/invoke/MethodHandle" ∧ yX9_isUsed.cls ≠ "java/lang/invoke/VarHandle" ∧ (parseMethodDescriptor yX9_isUsed.desc).map (fun d => d.parameters.length) = some 1 := by decide +kernel
def jf_X0_drop_j60 (N : Nat) (a0 : Nat) (v1 : Int32) (t0 : Option Nat) (t1 : Option Nat) : jm_P Int32 :=
  jm_rd (jm_cl 0 t0) fun a5 =>
  jm_bd (jf_X0_act N a5 t1) fun x2 =>
  jm_rd (jm_fR [0] 0 (some a0)) fun x8 =>
  jm_rd (jm_cl 9 x8) fun a13 =>
  jm_bd (jf_X9_many N a13 v1) fun x10 =>
  jm_ret x10
def jf_X0_drop_j35 (N : Nat) (a0 : Nat) (v1 : Int32) (v2 : Int32) : jm_P Int32 :=
  if v1 = (1 : Int32) then (
    jm_rd (jm_fR [0] 0 (some a0)) fun x25 =>
    jm_rd (jm_cl 9 x25) fun a30 =>
    jm_bd (jf_X9_withoutEdge N a30 v2) fun x27 =>
    jf_X0_drop_j60 N a0 v1 (some a0) x27)
  else
    jm_rd (jm_fR [0] 0 (some a0)) fun x17 =>
    jm_rd (jm_cl 9 x17) fun a22 =>
    jm_bd (jf_X9_withoutFace N a22 v2) fun x19 =>
    jf_X0_drop_j60 N a0 v1 (some a0) x19
def jf_X0_drop (N : Nat) (a0 : Nat) (v1 : Int32) (v2 : Int32) : jm_P Int32 :=
  if v1 = 0 then (
    jm_ret (-1000001 : Int32))
  else
    jm_rd (jm_cl 0 (some a0)) fun a36 =>
    jm_bd (jf_X0_isCell N a36 v1 v2) fun x33 =>
    if x33 = 0 then (
      jm_ret (-1000001 : Int32))
    else
      if v1 = (1 : Int32) then (
        jm_rd (jm_fR [0] 0 (some a0)) fun x39 =>
        jm_rd (jm_cl 9 x39) fun a44 =>
        jm_bd (jf_X9_isUsed N a44 v2) fun x41 =>
        if x41 = 0 then (
          jf_X0_drop_j35 N a0 v1 v2)
        else
          jm_ret (-1000002 : Int32))
      else
        jf_X0_drop_j35 N a0 v1 v2
set_option maxHeartbeats 4000000 in
set_option maxRecDepth 100000 in
theorem jt_X0_drop (l : Launch) (g : GD) (b N : Nat) (a0 : Nat) (v1 : Int32) (v2 : Int32) (M M' : Mem) (r : Int32) (hf : (jf_X0_drop N a0 v1 v2).1 M = some (r, M')) : jm_Met l g b yX0_drop (ws_ yX0_drop cX0_drop 3 (some .int)) 7 157 [va_rf (some a0), .int v1, .int v2] M M' (some (.int r)) := by
  refine jm_start (by decide) (jm_mono hf) (by rw [lg_sl_r, lg_sl_i, lg_sl_i, lg_sl_n]; exact Nat.le_of_ble_eq_true rfl) ?_
  intro p e s m args below meth c ls C0 hin hK hst hl
  obtain ⟨hx, hb, hml, hown, hts, hr, hlk⟩ := id C0
  have hown : s.vm.findClass RX0 = some m.cls := hown
  have C0 : jm_Cx p s m args meth c cX0_drop 3 (some .int) RX0 := C0
  rw [lv_args_r, lv_args_i, lv_args_i, lv_args_n] at hl
  have hl : lv_has ls 3 [(0, va_rf (some a0)), (1, .int v1), (2, .int v2)] := hl
  have J60 : ∀ (a0 : Nat) (v1 : Int32) (t0 : Option Nat) (t1 : Option Nat) (Mm1 : Mem), (jf_X0_drop_j60 N a0 v1 t0 t1).1 Mm1 = some (r, M') → ∀ (H : Heap) (locs : List Loc) (cells slots : Nat) (ls : Array Slot), jm_St g b M M' Mm1 s (jm_rm 7 157 M M') H locs cells slots → lv_has ls 3 [(0, va_rf (some a0)), (1, .int v1)] → W p l e (jm_rm 7 157 M M') s m args below meth c H locs cells slots (jm_MQ below g b (some (.int r)) M M' args s) (F0 m 60 ls [va_rf t1, va_rf t0]) := by
    intro a0 v1 t0 t1 Mm1 hf H locs cells slots ls hst hl
    unfold jf_X0_drop_j60 at hf
    obtain ⟨a5, h6, hf⟩ := jm_rd_some hf
    obtain ⟨fsa5, hea5, hr7⟩ := jm_cl_some h6
    obtain ⟨x2, Mm3, h4, hf⟩ := jm_bd_some hf
    refine jw_V (As := [va_rf t1]) (rest := []) (C := RX0) (T := TX0) (N := 7) (rv := t0) (jt_X0_act l g b N a5 t1 Mm1 Mm3 x2 h4) C0 hK hst (jm_mono h4) (jm_le_tr (jm_mono hf) jm_le_rf) q447 q449 qs8 q72 q450 hd_X0_act ⟨Nat.le_of_ble_eq_true rfl, Nat.le_of_ble_eq_true rfl⟩ hea5 hr7 rfl rfl hl.1 rfl (by rw [cs_n]; exact Nat.le_of_ble_eq_true rfl) dX0_drop_60 (fun H locs cells slots hst => ?_)
    refine W.eq (g2 := F0 m 63 ls []) rfl ?_
    refine jw_aload_n (r := (some a0)) hx hb dX0_drop_63 rfl (lv_at hl 0 rfl) ?_
    obtain ⟨x8, h9, hf⟩ := jm_rd_some hf
    refine jw_getR hx hb hts hown hK hst (fl_X0_75 hts hK) h9 dX0_drop_64 ?_
    refine lv_iload_n hx hb dX0_drop_67 rfl (lv_at hl 1 rfl) ?_
    obtain ⟨a13, h14, hf⟩ := jm_rd_some hf
    obtain ⟨fsa13, hea13, hr15⟩ := jm_cl_some h14
    obtain ⟨x10, Mm11, h12, hf⟩ := jm_bd_some hf
    refine jw_V (As := [.int v1]) (rest := []) (C := RX9) (T := TX9) (N := 4) (rv := x8) (jt_X9_many l g b N a13 v1 Mm3 Mm11 x10 h12) C0 hK hst (jm_mono h12) (jm_le_tr (jm_mono hf) jm_le_rf) q399 q400 q401 q84 q402 hd_X9_many ⟨Nat.le_of_ble_eq_true rfl, Nat.le_of_ble_eq_true rfl⟩ hea13 hr15 rfl rfl hl.1 rfl (by rw [cs_n]; exact Nat.le_of_ble_eq_true rfl) dX0_drop_68 (fun H locs cells slots hst => ?_)
    refine W.eq (g2 := F0 m 71 ls [.int x10]) rfl ?_
    obtain ⟨rfl, rfl⟩ := jm_ret_some hf
    exact jw_iret C0 hst dX0_drop_71
  have J35 : ∀ (a0 : Nat) (v1 : Int32) (v2 : Int32) (Mm16 : Mem), (jf_X0_drop_j35 N a0 v1 v2).1 Mm16 = some (r, M') → ∀ (H : Heap) (locs : List Loc) (cells slots : Nat) (ls : Array Slot), jm_St g b M M' Mm16 s (jm_rm 7 157 M M') H locs cells slots → lv_has ls 3 [(0, va_rf (some a0)), (1, .int v1), (2, .int v2)] → W p l e (jm_rm 7 157 M M') s m args below meth c H locs cells slots (jm_MQ below g b (some (.int r)) M M' args s) (F0 m 35 ls []) := by
    intro a0 v1 v2 Mm16 hf H locs cells slots ls hst hl
    unfold jf_X0_drop_j35 at hf
    refine jw_aload_n (r := (some a0)) hx hb dX0_drop_35 rfl (lv_at hl 0 rfl) ?_
    refine lv_iload_n hx hb dX0_drop_36 rfl (lv_at hl 1 rfl) ?_
    refine lv_iconst (v := 1) hx hb dX0_drop_37 (by decide) ?_
    refine lv_icmp_ne (tgt := 52) hx hb dX0_drop_38 (by decide) (fun hc => ?_) (fun hc => ?_)
    · rw [if_neg hc] at hf
      refine jw_aload_n (r := (some a0)) hx hb dX0_drop_52 rfl (lv_at hl 0 rfl) ?_
      obtain ⟨x17, h18, hf⟩ := jm_rd_some hf
      refine jw_getR hx hb hts hown hK hst (fl_X0_75 hts hK) h18 dX0_drop_53 ?_
      refine lv_iload_n hx hb dX0_drop_56 rfl (lv_at hl 2 rfl) ?_
      obtain ⟨a22, h23, hf⟩ := jm_rd_some hf
      obtain ⟨fsa22, hea22, hr24⟩ := jm_cl_some h23
      obtain ⟨x19, Mm20, h21, hf⟩ := jm_bd_some hf
      refine jw_V (As := [.int v2]) (rest := [va_rf (some a0)]) (C := RX9) (T := TX9) (N := 4) (rv := x17) (jt_X9_withoutFace l g b N a22 v2 Mm16 Mm20 x19 h21) C0 hK hst (jm_mono h21) (jm_le_tr (jm_mono hf) jm_le_rf) q500 q501 q502 q84 q503 hd_X9_withoutFace ⟨Nat.le_of_ble_eq_true rfl, Nat.le_of_ble_eq_true rfl⟩ hea22 hr24 rfl rfl hl.1 rfl (by rw [cs_r, cs_n]; exact Nat.le_of_ble_eq_true rfl) dX0_drop_57 (fun H locs cells slots hst => ?_)
      refine W.eq (g2 := F0 m 60 ls [va_rf x19, va_rf (some a0)]) rfl ?_
      exact J60 a0 v1 (some a0) x19 _ hf _ _ _ _ _ hst (lv_sub hl [0, 1] rfl)
    · rw [if_pos hc] at hf
      refine jw_aload_n (r := (some a0)) hx hb dX0_drop_41 rfl (lv_at hl 0 rfl) ?_
      obtain ⟨x25, h26, hf⟩ := jm_rd_some hf
      refine jw_getR hx hb hts hown hK hst (fl_X0_75 hts hK) h26 dX0_drop_42 ?_
      refine lv_iload_n hx hb dX0_drop_45 rfl (lv_at hl 2 rfl) ?_
      obtain ⟨a30, h31, hf⟩ := jm_rd_some hf
      obtain ⟨fsa30, hea30, hr32⟩ := jm_cl_some h31
      obtain ⟨x27, Mm28, h29, hf⟩ := jm_bd_some hf
      refine jw_V (As := [.int v2]) (rest := [va_rf (some a0)]) (C := RX9) (T := TX9) (N := 4) (rv := x25) (jt_X9_withoutEdge l g b N a30 v2 Mm16 Mm28 x27 h29) C0 hK hst (jm_mono h29) (jm_le_tr (jm_mono hf) jm_le_rf) q481 q482 q483 q84 q484 hd_X9_withoutEdge ⟨Nat.le_of_ble_eq_true rfl, Nat.le_of_ble_eq_true rfl⟩ hea30 hr32 rfl rfl hl.1 rfl (by rw [cs_r, cs_n]; exact Nat.le_of_ble_eq_true rfl) dX0_drop_46 (fun H locs cells slots hst => ?_)
      refine W.eq (g2 := F0 m 49 ls [va_rf x27, va_rf (some a0)]) rfl ?_
      refine lv_goto (tgt := 60) hx hb dX0_drop_49 (by decide) ?_
      exact J60 a0 v1 (some a0) x27 _ hf _ _ _ _ _ hst (lv_sub hl [0, 1] rfl)
  unfold jf_X0_drop at hf
  refine lv_iload_n hx hb dX0_drop_0 rfl (lv_at hl 1 rfl) ?_
  refine lv_if_eq (tgt := 13) hx hb dX0_drop_1 (by decide) (fun hc => ?_) (fun hc => ?_)
  · rw [if_pos hc] at hf
    refine lv_ldc hx hb hown (hts _ q134) dX0_drop_13 ?_
    obtain ⟨rfl, rfl⟩ := jm_ret_some hf
    exact jw_iret C0 hst dX0_drop_15
  · rw [if_neg hc] at hf
    refine jw_aload_n (r := (some a0)) hx hb dX0_drop_4 rfl (lv_at hl 0 rfl) ?_
    refine lv_iload_n hx hb dX0_drop_5 rfl (lv_at hl 1 rfl) ?_
    refine lv_iload_n hx hb dX0_drop_6 rfl (lv_at hl 2 rfl) ?_
    obtain ⟨a36, h37, hf⟩ := jm_rd_some hf
    obtain ⟨fsa36, hea36, hr38⟩ := jm_cl_some h37
    obtain ⟨x33, Mm34, h35, hf⟩ := jm_bd_some hf
    refine jw_V (As := [.int v1, .int v2]) (rest := []) (C := RX0) (T := TX0) (N := 7) (rv := (some a0)) (jt_X0_isCell l g b N a36 v1 v2 M Mm34 x33 h35) C0 hK hst (jm_mono h35) (jm_le_tr (jm_mono hf) jm_le_rf) q394 q396 qs7 q72 q397 hd_X0_isCell ⟨Nat.le_of_ble_eq_true rfl, Nat.le_of_ble_eq_true rfl⟩ hea36 hr38 rfl rfl hl.1 rfl (by rw [cs_n]; exact Nat.le_of_ble_eq_true rfl) dX0_drop_7 (fun H locs cells slots hst => ?_)
    refine W.eq (g2 := F0 m 10 ls [.int x33]) rfl ?_
    refine lv_if_ne (tgt := 16) hx hb dX0_drop_10 (by decide) (fun hc => ?_) (fun hc => ?_)
    · rw [if_neg hc] at hf
      refine lv_iload_n hx hb dX0_drop_16 rfl (lv_at hl 1 rfl) ?_
      refine lv_iconst (v := 1) hx hb dX0_drop_17 (by decide) ?_
      refine lv_icmp_ne (tgt := 35) hx hb dX0_drop_18 (by decide) (fun hc => ?_) (fun hc => ?_)
      · rw [if_neg hc] at hf
        exact J35 a0 v1 v2 _ hf _ _ _ _ _ hst (lv_sub hl [0, 1, 2] rfl)
      · rw [if_pos hc] at hf
        refine jw_aload_n (r := (some a0)) hx hb dX0_drop_21 rfl (lv_at hl 0 rfl) ?_
        obtain ⟨x39, h40, hf⟩ := jm_rd_some hf
        refine jw_getR hx hb hts hown hK hst (fl_X0_75 hts hK) h40 dX0_drop_22 ?_
        refine lv_iload_n hx hb dX0_drop_25 rfl (lv_at hl 2 rfl) ?_
        obtain ⟨a44, h45, hf⟩ := jm_rd_some hf
        obtain ⟨fsa44, hea44, hr46⟩ := jm_cl_some h45
        obtain ⟨x41, Mm42, h43, hf⟩ := jm_bd_some hf
        refine jw_V (As := [.int v2]) (rest := []) (C := RX9) (T := TX9) (N := 4) (rv := x39) (jt_X9_isUsed l g b N a44 v2 Mm34 Mm42 x41 h43) C0 hK hst (jm_mono h43) (jm_le_tr (jm_mono hf) jm_le_rf) q471 q472 q473 q84 q474 hd_X9_isUsed ⟨Nat.le_of_ble_eq_true rfl, Nat.le_of_ble_eq_true rfl⟩ hea44 hr46 rfl rfl hl.1 rfl (by rw [cs_n]; exact Nat.le_of_ble_eq_true rfl) dX0_drop_26 (fun H locs cells slots hst => ?_)
        refine W.eq (g2 := F0 m 29 ls [.int x41]) rfl ?_
        refine lv_if_eq (tgt := 35) hx hb dX0_drop_29 (by decide) (fun hc => ?_) (fun hc => ?_)
        · rw [if_pos hc] at hf
          exact J35 a0 v1 v2 _ hf _ _ _ _ _ hst (lv_sub hl [0, 1, 2] rfl)
        · rw [if_neg hc] at hf
          refine lv_ldc hx hb hown (hts _ q389) dX0_drop_32 ?_
          obtain ⟨rfl, rfl⟩ := jm_ret_some hf
          exact jw_iret C0 hst dX0_drop_34
    · rw [if_pos hc] at hf
      refine lv_ldc hx hb hown (hts _ q134) dX0_drop_13 ?_
      obtain ⟨rfl, rfl⟩ := jm_ret_some hf
      exact jw_iret C0 hst dX0_drop_15
def jf_X0_isChain (N : Nat) (v0 : Int32) : jm_P Int32 :=
  jm_bd (jf_X0_isIn N (v0.toInt64) (0 : Int64) (2 : Int64)) fun x1 =>
  jm_rd (jm_ck (x1 = 0 ∨ x1 = 1)) fun _ =>
  jm_ret x1
set_option maxHeartbeats 4000000 in
set_option maxRecDepth 100000 in
theorem jt_X0_isChain (l : Launch) (g : GD) (b N : Nat) (v0 : Int32) (M M' : Mem) (r : Int32) (hf : (jf_X0_isChain N v0).1 M = some (r, M')) : jm_Met l g b yX0_isChain (ws_ yX0_isChain cX0_isChain 1 (some .boolean)) 1 25 [.int v0] M M' (some (.int r)) := by
  refine jm_start (by decide) (jm_mono hf) (by rw [lg_sl_i, lg_sl_n]; exact Nat.le_of_ble_eq_true rfl) ?_
  intro p e s m args below meth c ls C0 hin hK hst hl
  obtain ⟨hx, hb, hml, hown, hts, hr, hlk⟩ := id C0
  have hown : s.vm.findClass RX0 = some m.cls := hown
  have C0 : jm_Cx p s m args meth c cX0_isChain 1 (some .boolean) RX0 := C0
  rw [lv_args_i, lv_args_n] at hl
  have hl : lv_has ls 1 [(0, .int v0)] := hl
  unfold jf_X0_isChain at hf
  refine lv_iload_n hx hb dX0_isChain_0 rfl (lv_at hl 0 rfl) ?_
  refine lv_i2l hx hb dX0_isChain_1 rfl ?_
  refine lv_lconst (v := 0) hx hb dX0_isChain_2 (by decide) ?_
  refine lv_ldc2 hx hb hown (hts _ q398) dX0_isChain_3 ?_
  obtain ⟨x1, Mm2, h3, hf⟩ := jm_bd_some hf
  refine jw_S (As := [.long (v0.toInt64), .long (0 : Int64), .long (2 : Int64)]) (rest := []) (jt_X0_isIn l g b N (v0.toInt64) (0 : Int64) (2 : Int64) M Mm2 x1 h3) C0 hK hst (jm_mono h3) (jm_le_tr (jm_mono hf) jm_le_rf) q131 q132 q72 q133 hd_X0_isIn.2 ⟨Nat.le_of_ble_eq_true rfl, Nat.le_of_ble_eq_true rfl⟩ rfl hl.1 rfl (by rw [cs_n]; exact Nat.le_of_ble_eq_true rfl) dX0_isChain_6 (fun H locs cells slots hst => ?_)
  refine W.eq (g2 := F0 m 9 ls [.int x1]) rfl ?_
  obtain ⟨_, h4, hf⟩ := jm_rd_some hf
  obtain ⟨rfl, rfl⟩ := jm_ret_some hf
  exact jw_zret C0 (jm_ck_some h4) hst dX0_isChain_9
theorem hd_X0_isChain : yX0_isChain.cls = RX0 ∧ yX0_isChain.cls ≠ "java/lang/invoke/MethodHandle" ∧ yX0_isChain.cls ≠ "java/lang/invoke/VarHandle" ∧ (parseMethodDescriptor yX0_isChain.desc).map (fun d => d.parameters.length) = some 1 := by decide +kernel
theorem fl_X0_180 {g : GD} {s : State} {args : Array Value} (hts : ∀ w ∈ lw_all, w.before args s = true) (hK : jm_KG g s) : ∀ q ∈ ([9] : List Nat), jm_FL s args RX0 180 q 3 := by
  intro q hq
  simp only [List.mem_cons, List.not_mem_nil, or_false] at hq
  subst hq
  exact ⟨RX9, TX9, 4, rfl, in_X9, by decide, "ChainParts$Complex", Or.inl (hts _ q370), fun _ h => h⟩
theorem hd_X9_withChain : yX9_withChain.cls = RX9 ∧ yX9_withChain.cls ≠ "java/lang/invoke/MethodHandle" ∧ yX9_withChain.cls ≠ "java/lang/invoke/VarHandle" ∧ (parseMethodDescriptor yX9_withChain.desc).map (fun d => d.parameters.length) = some 2 := by decide +kernel
def jf_X0_put (N : Nat) (a0 : Nat) (v1 : Int32) (v2 : Int32) (v3 : Int32) : jm_P Int32 :=
  jm_bd (jf_X0_isChain N v1) fun x1 =>
  if x1 = 0 then (
    jm_ret (-1000001 : Int32))
  else
    jm_rd (jm_cl 0 (some a0)) fun a7 =>
    jm_bd (jf_X0_isCell N a7 (1 : Int32) v2) fun x4 =>
    if x4 = 0 then (
      jm_ret (-1000001 : Int32))
    else
      jm_bd (jf_X0_isIn N (v3.toInt64) (-9 : Int64) (9 : Int64)) fun x10 =>
      if x10 = 0 then (
        jm_ret (-1000001 : Int32))
      else
        jm_rd (jm_fR [0] 0 (some a0)) fun x13 =>
        jm_rd (jm_fR [9] 3 x13) fun x15 =>
        jm_rd (jm_ldR 12 x15 v1) fun x17 =>
        jm_rd (jm_arI 0 x17) fun y19 =>
        jm_al (.inl (0, y19.1, .inl y19.2)) fun q20 =>
        jm_rd (jm_ar 0 (some q20)) fun _ =>
        jm_rd (jm_ldI 0 (some q20) v2) fun x25 =>
        jm_wr (jm_stI 0 (some q20) v2 v3) <|
        jm_rd (jm_fR [0] 0 (some a0)) fun x30 =>
        jm_rd (jm_cl 9 x30) fun a35 =>
        jm_bd (jf_X9_withChain N a35 v1 (some q20)) fun x32 =>
        jm_rd (jm_cl 0 (some a0)) fun a41 =>
        jm_bd (jf_X0_act N a41 x32) fun x38 =>
        jm_ret x25
set_option maxHeartbeats 4000000 in
set_option maxRecDepth 100000 in
theorem jt_X0_put (l : Launch) (g : GD) (b N : Nat) (a0 : Nat) (v1 : Int32) (v2 : Int32) (v3 : Int32) (M M' : Mem) (r : Int32) (hf : (jf_X0_put N a0 v1 v2 v3).1 M = some (r, M')) : jm_Met l g b yX0_put (ws_ yX0_put cX0_put 6 (some .int)) 3 67 [va_rf (some a0), .int v1, .int v2, .int v3] M M' (some (.int r)) := by
  refine jm_start (by decide) (jm_mono hf) (by rw [lg_sl_r, lg_sl_i, lg_sl_i, lg_sl_i, lg_sl_n]; exact Nat.le_of_ble_eq_true rfl) ?_
  intro p e s m args below meth c ls C0 hin hK hst hl
  obtain ⟨hx, hb, hml, hown, hts, hr, hlk⟩ := id C0
  have hown : s.vm.findClass RX0 = some m.cls := hown
  have C0 : jm_Cx p s m args meth c cX0_put 6 (some .int) RX0 := C0
  rw [lv_args_r, lv_args_i, lv_args_i, lv_args_i, lv_args_n] at hl
  have hl : lv_has ls 6 [(0, va_rf (some a0)), (1, .int v1), (2, .int v2), (3, .int v3)] := hl
  unfold jf_X0_put at hf
  refine lv_iload_n hx hb dX0_put_0 rfl (lv_at hl 1 rfl) ?_
  obtain ⟨x1, Mm2, h3, hf⟩ := jm_bd_some hf
  refine jw_S (As := [.int v1]) (rest := []) (jt_X0_isChain l g b N v1 M Mm2 x1 h3) C0 hK hst (jm_mono h3) (jm_le_tr (jm_mono hf) jm_le_rf) q508 q509 q72 q510 hd_X0_isChain.2 ⟨Nat.le_of_ble_eq_true rfl, Nat.le_of_ble_eq_true rfl⟩ rfl hl.1 rfl (by rw [cs_n]; exact Nat.le_of_ble_eq_true rfl) dX0_put_1 (fun H locs cells slots hst => ?_)
  refine W.eq (g2 := F0 m 4 ls [.int x1]) rfl ?_
  refine lv_if_eq (tgt := 30) hx hb dX0_put_4 (by decide) (fun hc => ?_) (fun hc => ?_)
  · rw [if_pos hc] at hf
    refine lv_ldc hx hb hown (hts _ q134) dX0_put_30 ?_
    obtain ⟨rfl, rfl⟩ := jm_ret_some hf
    exact jw_iret C0 hst dX0_put_32
  · rw [if_neg hc] at hf
    refine jw_aload_n (r := (some a0)) hx hb dX0_put_7 rfl (lv_at hl 0 rfl) ?_
    refine lv_iconst (v := 1) hx hb dX0_put_8 (by decide) ?_
    refine lv_iload_n hx hb dX0_put_9 rfl (lv_at hl 2 rfl) ?_
    obtain ⟨a7, h8, hf⟩ := jm_rd_some hf
    obtain ⟨fsa7, hea7, hr9⟩ := jm_cl_some h8
    obtain ⟨x4, Mm5, h6, hf⟩ := jm_bd_some hf
    refine jw_V (As := [.int (1 : Int32), .int v2]) (rest := []) (C := RX0) (T := TX0) (N := 7) (rv := (some a0)) (jt_X0_isCell l g b N a7 (1 : Int32) v2 Mm2 Mm5 x4 h6) C0 hK hst (jm_mono h6) (jm_le_tr (jm_mono hf) jm_le_rf) q394 q396 qs7 q72 q397 hd_X0_isCell ⟨Nat.le_of_ble_eq_true rfl, Nat.le_of_ble_eq_true rfl⟩ hea7 hr9 rfl rfl hl.1 rfl (by rw [cs_n]; exact Nat.le_of_ble_eq_true rfl) dX0_put_10 (fun H locs cells slots hst => ?_)
    refine W.eq (g2 := F0 m 13 ls [.int x4]) rfl ?_
    refine lv_if_eq (tgt := 30) hx hb dX0_put_13 (by decide) (fun hc => ?_) (fun hc => ?_)
    · rw [if_pos hc] at hf
      refine lv_ldc hx hb hown (hts _ q134) dX0_put_30 ?_
      obtain ⟨rfl, rfl⟩ := jm_ret_some hf
      exact jw_iret C0 hst dX0_put_32
    · rw [if_neg hc] at hf
      refine lv_iload_n hx hb dX0_put_16 rfl (lv_at hl 3 rfl) ?_
      refine lv_i2l hx hb dX0_put_17 rfl ?_
      refine lv_ldc2 hx hb hown (hts _ q511) dX0_put_18 ?_
      refine lv_ldc2 hx hb hown (hts _ q512) dX0_put_21 ?_
      obtain ⟨x10, Mm11, h12, hf⟩ := jm_bd_some hf
      refine jw_S (As := [.long (v3.toInt64), .long (-9 : Int64), .long (9 : Int64)]) (rest := []) (jt_X0_isIn l g b N (v3.toInt64) (-9 : Int64) (9 : Int64) Mm5 Mm11 x10 h12) C0 hK hst (jm_mono h12) (jm_le_tr (jm_mono hf) jm_le_rf) q131 q132 q72 q133 hd_X0_isIn.2 ⟨Nat.le_of_ble_eq_true rfl, Nat.le_of_ble_eq_true rfl⟩ rfl hl.1 rfl (by rw [cs_n]; exact Nat.le_of_ble_eq_true rfl) dX0_put_24 (fun H locs cells slots hst => ?_)
      refine W.eq (g2 := F0 m 27 ls [.int x10]) rfl ?_
      refine lv_if_ne (tgt := 33) hx hb dX0_put_27 (by decide) (fun hc => ?_) (fun hc => ?_)
      · rw [if_neg hc] at hf
        refine jw_aload_n (r := (some a0)) hx hb dX0_put_33 rfl (lv_at hl 0 rfl) ?_
        obtain ⟨x13, h14, hf⟩ := jm_rd_some hf
        refine jw_getR hx hb hts hown hK hst (fl_X0_75 hts hK) h14 dX0_put_34 ?_
        obtain ⟨x15, h16, hf⟩ := jm_rd_some hf
        refine jw_getR hx hb hts hown hK hst (fl_X0_180 hts hK) h16 dX0_put_37 ?_
        refine lv_iload_n hx hb dX0_put_40 rfl (lv_at hl 1 rfl) ?_
        obtain ⟨x17, h18, hf⟩ := jm_rd_some hf
        refine jw_aald hx hb hK hst (show jm_ty[12]? = some (.array .int) from rfl) rfl h18 dX0_put_41 ?_
        obtain ⟨y19, h21, hf⟩ := jm_rd_some hf
        obtain ⟨q20, hq20, hf⟩ := jm_al_some hf
        refine jw_clone (kd := 0) (t := .int) (x := (y19.1, .inl y19.2)) (ad := "[I") (r := x17) (rest := []) hx hb hml hl.1 hown (hts _ q513) (hts _ q492) (hts _ q493) (hts _ q494) (hts _ q495) nq496 hK hst rfl (jm_arI_some h21) jm_nmI jm_fitI (Nat.le_of_ble_eq_true rfl) (by rw [cs_n]; exact Nat.le_of_ble_eq_true rfl) (jm_le_tr (jm_mono hf) jm_le_rf) hq20 dX0_put_42 (fun H cells slots hst => ?_)
        generalize jm_new (.inl (0, y19.1, .inl y19.2)) Mm11 = Mm22 at hf hst
        obtain ⟨y23, h24, hf⟩ := jm_rd_some hf
        refine jw_castA (kd := 0) (t := .int) (r := (some q20)) hx hb hown (hts _ q514) hK hst rfl h24 jm_nmI dX0_put_45 ?_
        refine jw_astore (i := 4) (r := (some q20)) (lv' := [(4, va_rf (some q20)), (0, va_rf (some a0)), (1, .int v1), (2, .int v2), (3, .int v3)]) hx hb dX0_put_48 hl (by decide) rfl (fun ls hl => ?_)
        refine jw_aload (r := (some q20)) hx hb dX0_put_50 (lv_at hl 0 rfl) ?_
        refine lv_iload_n hx hb dX0_put_52 rfl (lv_at hl 3 rfl) ?_
        obtain ⟨x25, h26, hf⟩ := jm_rd_some hf
        refine jw_iald hx hb hK hst h26 dX0_put_53 ?_
        refine lv_istore (i := 5) (lv' := [(5, .int x25), (4, va_rf (some q20)), (0, va_rf (some a0)), (1, .int v1), (2, .int v2), (3, .int v3)]) hx hb dX0_put_54 hl (by decide) (by simp [va_rf_cat, cat_i, cat_j, cat_f]) (fun ls hl => ?_)
        refine jw_aload (r := (some q20)) hx hb dX0_put_56 (lv_at hl 1 rfl) ?_
        refine lv_iload_n hx hb dX0_put_58 rfl (lv_at hl 4 rfl) ?_
        refine lv_iload_n hx hb dX0_put_59 rfl (lv_at hl 5 rfl) ?_
        obtain ⟨F27, h28, hf⟩ := jm_wr_some hf
        refine jw_iast (r := (some q20)) hx hb hK hst h28 dX0_put_60 (fun H locs hst => ?_)
        generalize ((Mm22.1, Mm22.2.1, F27) : Mem) = Mm29 at hf hst
        refine jw_aload_n (r := (some a0)) hx hb dX0_put_61 rfl (lv_at hl 2 rfl) ?_
        refine jw_aload_n (r := (some a0)) hx hb dX0_put_62 rfl (lv_at hl 2 rfl) ?_
        obtain ⟨x30, h31, hf⟩ := jm_rd_some hf
        refine jw_getR hx hb hts hown hK hst (fl_X0_75 hts hK) h31 dX0_put_63 ?_
        refine lv_iload_n hx hb dX0_put_66 rfl (lv_at hl 3 rfl) ?_
        refine jw_aload (r := (some q20)) hx hb dX0_put_67 (lv_at hl 1 rfl) ?_
        obtain ⟨a35, h36, hf⟩ := jm_rd_some hf
        obtain ⟨fsa35, hea35, hr37⟩ := jm_cl_some h36
        obtain ⟨x32, Mm33, h34, hf⟩ := jm_bd_some hf
        refine jw_V (As := [.int v1, va_rf (some q20)]) (rest := [va_rf (some a0)]) (C := RX9) (T := TX9) (N := 4) (rv := x30) (jt_X9_withChain l g b N a35 v1 (some q20) Mm29 Mm33 x32 h34) C0 hK hst (jm_mono h34) (jm_le_tr (jm_mono hf) jm_le_rf) q515 q516 q517 q84 q518 hd_X9_withChain ⟨Nat.le_of_ble_eq_true rfl, Nat.le_of_ble_eq_true rfl⟩ hea35 hr37 rfl rfl hl.1 rfl (by rw [cs_r, cs_n]; exact Nat.le_of_ble_eq_true rfl) dX0_put_69 (fun H locs cells slots hst => ?_)
        refine W.eq (g2 := F0 m 72 ls [va_rf x32, va_rf (some a0)]) rfl ?_
        obtain ⟨a41, h42, hf⟩ := jm_rd_some hf
        obtain ⟨fsa41, hea41, hr43⟩ := jm_cl_some h42
        obtain ⟨x38, Mm39, h40, hf⟩ := jm_bd_some hf
        refine jw_V (As := [va_rf x32]) (rest := []) (C := RX0) (T := TX0) (N := 7) (rv := (some a0)) (jt_X0_act l g b N a41 x32 Mm33 Mm39 x38 h40) C0 hK hst (jm_mono h40) (jm_le_tr (jm_mono hf) jm_le_rf) q447 q449 qs8 q72 q450 hd_X0_act ⟨Nat.le_of_ble_eq_true rfl, Nat.le_of_ble_eq_true rfl⟩ hea41 hr43 rfl rfl hl.1 rfl (by rw [cs_n]; exact Nat.le_of_ble_eq_true rfl) dX0_put_72 (fun H locs cells slots hst => ?_)
        refine W.eq (g2 := F0 m 75 ls []) rfl ?_
        refine lv_iload hx hb dX0_put_75 (lv_at hl 0 rfl) ?_
        obtain ⟨rfl, rfl⟩ := jm_ret_some hf
        exact jw_iret C0 hst dX0_put_77
      · rw [if_pos hc] at hf
        refine lv_ldc hx hb hown (hts _ q134) dX0_put_30 ?_
        obtain ⟨rfl, rfl⟩ := jm_ret_some hf
        exact jw_iret C0 hst dX0_put_32
def jf_X0_others_k10_41 (N : Nat) (v1 : Int32) : jm_P Int32 :=
  jm_ret v1
def jf_X0_others_j33 (N : Nat) (v2 : Option Nat) (v3 : Int32) (v4 : Int32) (t0 : Int32) (t1 : Int32) : jm_P ((Int32 × Int32) ⊕ Int32) :=
  jm_ret (.inl ((t0 + t1), (v4 + 1)))
def jf_X0_others_L10 (N : Nat) (v2 : Option Nat) (v3 : Int32) (v1 : Int32) (v4 : Int32) : jm_P ((Int32 × Int32) ⊕ Int32) :=
  if v3 ≤ v4 then (
    jm_ret (.inr v1))
  else
    jm_rd (jm_ldI 0 v2 v4) fun x6 =>
    if x6 = 0 then (
      jf_X0_others_j33 N v2 v3 v4 v1 (0 : Int32))
    else
      jf_X0_others_j33 N v2 v3 v4 v1 (1 : Int32)
def jf_X0_others (N : Nat) (v0 : Option Nat) : jm_P Int32 :=
  jm_rd (jm_len 0 v0) fun x2 =>
  jm_bd (jm_it (fun z => jf_X0_others_L10 N v0 x2 z.1 z.2) N ((0 : Int32), (0 : Int32))) fun y =>
  jf_X0_others_k10_41 N y
set_option maxHeartbeats 4000000 in
set_option maxRecDepth 100000 in
theorem jt_X0_others (l : Launch) (g : GD) (b N : Nat) (v0 : Option Nat) (M M' : Mem) (r : Int32) (hf : (jf_X0_others N v0).1 M = some (r, M')) : jm_Met l g b yX0_others (ws_ yX0_others cX0_others 6 (some .int)) 0 0 [va_rf v0] M M' (some (.int r)) := by
  refine jm_start (by decide) (jm_mono hf) (by rw [lg_sl_r, lg_sl_n]; exact Nat.le_of_ble_eq_true rfl) ?_
  intro p e s m args below meth c ls C0 hin hK hst hl
  obtain ⟨hx, hb, hml, hown, hts, hr, hlk⟩ := id C0
  have hown : s.vm.findClass RX0 = some m.cls := hown
  have C0 : jm_Cx p s m args meth c cX0_others 6 (some .int) RX0 := C0
  rw [lv_args_r, lv_args_n] at hl
  have hl : lv_has ls 6 [(0, va_rf v0)] := hl
  have K10_41 : ∀ (v1 : Int32) (Mm1 : Mem), (jf_X0_others_k10_41 N v1).1 Mm1 = some (r, M') → ∀ (H : Heap) (locs : List Loc) (cells slots : Nat) (ls : Array Slot), jm_St g b M M' Mm1 s (jm_rm 0 0 M M') H locs cells slots → lv_has ls 6 [(1, .int v1)] → W p l e (jm_rm 0 0 M M') s m args below meth c H locs cells slots (jm_MQ below g b (some (.int r)) M M' args s) (F0 m 41 ls []) := by
    intro v1 Mm1 hf H locs cells slots ls hst hl
    unfold jf_X0_others_k10_41 at hf
    refine lv_iload_n hx hb dX0_others_41 rfl (lv_at hl 0 rfl) ?_
    obtain ⟨rfl, rfl⟩ := jm_ret_some hf
    exact jw_iret C0 hst dX0_others_42
  have B10 : ∀ (v2 : Option Nat) (v3 : Int32) (v1 : Int32) (v4 : Int32) (Mm5 : Mem) (xe10 : ((Int32 × Int32) ⊕ Int32)) (Me10 : Mem), (jf_X0_others_L10 N v2 v3 v1 v4).1 Mm5 = some (xe10, Me10) → jm_le Me10 M' → (jm_or (fun (z : Int32 × Int32) => ∀ (H : Heap) (locs : List Loc) (cells slots : Nat) (ls : Array Slot), jm_St g b M M' Me10 s (jm_rm 0 0 M M') H locs cells slots → lv_has ls 6 [(1, .int z.1), (2, va_rf v2), (3, .int v3), (4, .int z.2)] → W p l e (jm_rm 0 0 M M') s m args below meth c H locs cells slots (jm_MQ below g b (some (.int r)) M M' args s) (F0 m 10 ls [])) (fun (y : Int32) => ∀ (H : Heap) (locs : List Loc) (cells slots : Nat) (ls : Array Slot), jm_St g b M M' Me10 s (jm_rm 0 0 M M') H locs cells slots → lv_has ls 6 [(1, .int y)] → W p l e (jm_rm 0 0 M M') s m args below meth c H locs cells slots (jm_MQ below g b (some (.int r)) M M' args s) (F0 m 41 ls [])) xe10) → ∀ (H : Heap) (locs : List Loc) (cells slots : Nat) (ls : Array Slot), jm_St g b M M' Mm5 s (jm_rm 0 0 M M') H locs cells slots → lv_has ls 6 [(1, .int v1), (2, va_rf v2), (3, .int v3), (4, .int v4)] → W p l e (jm_rm 0 0 M M') s m args below meth c H locs cells slots (jm_MQ below g b (some (.int r)) M M' args s) (F0 m 10 ls []) := by
    intro v2 v3 v1 v4 Mm5 xe10 Me10 hf hle10 hk10
    have J33 : ∀ (v4 : Int32) (t0 : Int32) (t1 : Int32) (Mm4 : Mem), (jf_X0_others_j33 N v2 v3 v4 t0 t1).1 Mm4 = some (xe10, Me10) → ∀ (H : Heap) (locs : List Loc) (cells slots : Nat) (ls : Array Slot), jm_St g b M M' Mm4 s (jm_rm 0 0 M M') H locs cells slots → lv_has ls 6 [(2, va_rf v2), (3, .int v3), (4, .int v4)] → W p l e (jm_rm 0 0 M M') s m args below meth c H locs cells slots (jm_MQ below g b (some (.int r)) M M' args s) (F0 m 33 ls [.int t1, .int t0]) := by
      intro v4 t0 t1 Mm4 hf H locs cells slots ls hst hl
      unfold jf_X0_others_j33 at hf
      refine lv_iadd hx hb dX0_others_33 ?_
      refine lv_istore_n (i := 1) (lv' := [(1, .int (t0 + t1)), (2, va_rf v2), (3, .int v3), (4, .int v4)]) hx hb dX0_others_34 rfl hl (by decide) rfl (fun ls hl => ?_)
      refine lv_iinc (i := 4) (v := (v4 + 1)) (lv' := [(4, .int (v4 + 1)), (1, .int (t0 + t1)), (2, va_rf v2), (3, .int v3)]) hx hb dX0_others_35 hl (k := 3) rfl (by rfl) (by decide) rfl (fun ls hl => ?_)
      refine lv_goto (tgt := 10) hx hb dX0_others_38 (by decide) ?_
      obtain ⟨rfl, rfl⟩ := jm_ret_some hf
      exact jm_or_l hk10 _ _ _ _ _ hst (lv_sub hl [1, 2, 3, 0] rfl)
    intro H locs cells slots ls hst hl
    unfold jf_X0_others_L10 at hf
    refine lv_iload hx hb dX0_others_10 (lv_at hl 3 rfl) ?_
    refine lv_iload_n hx hb dX0_others_12 rfl (lv_at hl 2 rfl) ?_
    refine lv_icmp_ge (tgt := 41) hx hb dX0_others_13 (by decide) (fun hc => ?_) (fun hc => ?_)
    · rw [if_pos hc] at hf
      obtain ⟨rfl, rfl⟩ := jm_ret_some hf
      exact jm_or_r hk10 _ _ _ _ _ hst (lv_sub hl [0] rfl)
    · rw [if_neg hc] at hf
      refine jw_aload_n (r := v2) hx hb dX0_others_16 rfl (lv_at hl 1 rfl) ?_
      refine lv_iload hx hb dX0_others_17 (lv_at hl 3 rfl) ?_
      obtain ⟨x6, h7, hf⟩ := jm_rd_some hf
      refine jw_iald hx hb hK hst h7 dX0_others_19 ?_
      refine lv_istore (i := 5) (lv' := [(5, .int x6), (1, .int v1), (2, va_rf v2), (3, .int v3), (4, .int v4)]) hx hb dX0_others_20 hl (by decide) rfl (fun ls hl => ?_)
      refine lv_iload_n hx hb dX0_others_22 rfl (lv_at hl 1 rfl) ?_
      refine lv_iload hx hb dX0_others_23 (lv_at hl 0 rfl) ?_
      refine lv_if_ne (tgt := 32) hx hb dX0_others_25 (by decide) (fun hc => ?_) (fun hc => ?_)
      · rw [if_neg hc] at hf
        refine lv_iconst (v := 1) hx hb dX0_others_32 (by decide) ?_
        exact J33 v4 v1 (1 : Int32) _ hf _ _ _ _ _ hst (lv_sub hl [2, 3, 4] rfl)
      · rw [if_pos hc] at hf
        refine lv_iconst (v := 0) hx hb dX0_others_28 (by decide) ?_
        refine lv_goto (tgt := 33) hx hb dX0_others_29 (by decide) ?_
        exact J33 v4 v1 (0 : Int32) _ hf _ _ _ _ _ hst (lv_sub hl [2, 3, 4] rfl)
  unfold jf_X0_others at hf
  refine lv_iconst (v := 0) hx hb dX0_others_0 (by decide) ?_
  refine lv_istore_n (i := 1) (lv' := [(1, .int (0 : Int32)), (0, va_rf v0)]) hx hb dX0_others_1 rfl hl (by decide) (by simp [va_rf_cat, cat_i, cat_j, cat_f]) (fun ls hl => ?_)
  refine jw_aload_n (r := v0) hx hb dX0_others_2 rfl (lv_at hl 1 rfl) ?_
  refine jw_astore_n (i := 2) (r := v0) (lv' := [(2, va_rf v0), (1, .int (0 : Int32)), (0, va_rf v0)]) hx hb dX0_others_3 rfl hl (by decide) rfl (fun ls hl => ?_)
  refine jw_aload_n (r := v0) hx hb dX0_others_4 rfl (lv_at hl 0 rfl) ?_
  obtain ⟨x2, h3, hf⟩ := jm_rd_some hf
  refine jw_alen hx hb hK hst (show jm_ty[0]? = some .int from rfl) h3 dX0_others_5 ?_
  refine lv_istore_n (i := 3) (lv' := [(3, .int x2), (2, va_rf v0), (1, .int (0 : Int32)), (0, va_rf v0)]) hx hb dX0_others_6 rfl hl (by decide) (by simp [va_rf_cat, cat_i, cat_j, cat_f]) (fun ls hl => ?_)
  refine lv_iconst (v := 0) hx hb dX0_others_7 (by decide) ?_
  refine lv_istore (i := 4) (lv' := [(4, .int (0 : Int32)), (3, .int x2), (2, va_rf v0), (1, .int (0 : Int32)), (0, va_rf v0)]) hx hb dX0_others_8 hl (by decide) rfl (fun ls hl => ?_)
  obtain ⟨xl10, Ml10, hit10, hf⟩ := jm_bd_some hf
  have hlf10 : jm_le Ml10 M' := jm_le_tr (jm_mono hf) jm_le_rf
  have hwe10 : (fun (y : Int32) (Mz : Mem) => ∀ (H : Heap) (locs : List Loc) (cells slots : Nat) (ls : Array Slot), jm_St g b M M' Mz s (jm_rm 0 0 M M') H locs cells slots → lv_has ls 6 [(1, .int y)] → W p l e (jm_rm 0 0 M M') s m args below meth c H locs cells slots (jm_MQ below g b (some (.int r)) M M' args s) (F0 m 41 ls [])) xl10 Ml10 := fun H locs cells slots ls hst hl => K10_41 xl10 _ hf H locs cells slots ls hst hl
  refine jm_it_walk (Mf := M') (Wh := fun (z : Int32 × Int32) (Mz : Mem) => ∀ (H : Heap) (locs : List Loc) (cells slots : Nat) (ls : Array Slot), jm_St g b M M' Mz s (jm_rm 0 0 M M') H locs cells slots → lv_has ls 6 [(1, .int z.1), (2, va_rf v0), (3, .int x2), (4, .int z.2)] → W p l e (jm_rm 0 0 M M') s m args below meth c H locs cells slots (jm_MQ below g b (some (.int r)) M M' args s) (F0 m 10 ls [])) (We := fun (y : Int32) (Mz : Mem) => ∀ (H : Heap) (locs : List Loc) (cells slots : Nat) (ls : Array Slot), jm_St g b M M' Mz s (jm_rm 0 0 M M') H locs cells slots → lv_has ls 6 [(1, .int y)] → W p l e (jm_rm 0 0 M M') s m args below meth c H locs cells slots (jm_MQ below g b (some (.int r)) M M' args s) (F0 m 41 ls [])) ?_ N ((0 : Int32), (0 : Int32)) M xl10 Ml10 hit10 hlf10 hwe10 _ _ _ _ _ hst (lv_sub hl [3, 2, 1, 0] rfl)
  intro z Mm8 xe10 Me10 hf hle10 hk10 H locs cells slots ls hst hl
  obtain ⟨v1, v4⟩ := z
  have hf : (jf_X0_others_L10 N v0 x2 v1 v4).1 Mm8 = some (xe10, Me10) := hf
  have hl : lv_has ls 6 [(1, .int v1), (2, va_rf v0), (3, .int x2), (4, .int v4)] := hl
  exact B10 v0 x2 v1 v4 _ _ _ hf hle10 hk10 _ _ _ _ _ hst (lv_sub hl [0, 1, 2, 3] rfl)
theorem hd_X0_others : yX0_others.cls = RX0 ∧ yX0_others.cls ≠ "java/lang/invoke/MethodHandle" ∧ yX0_others.cls ≠ "java/lang/invoke/VarHandle" ∧ (parseMethodDescriptor yX0_others.desc).map (fun d => d.parameters.length) = some 1 := by decide +kernel
def jf_X0_bound_k53_117 (N : Nat) (a0 : Nat) (v1 : Int32) (v4 : Option Nat) : jm_P Int32 :=
  jm_rd (jm_fR [0] 0 (some a0)) fun x2 =>
  jm_rd (jm_cl 9 x2) fun a7 =>
  jm_bd (jf_X9_withChain N a7 v1 v4) fun x4 =>
  jm_rd (jm_cl 0 (some a0)) fun a13 =>
  jm_bd (jf_X0_act N a13 x4) fun x10 =>
  jm_bd (jf_X0_others N v4) fun x16 =>
  jm_ret x16
def jf_X0_bound_k53_108 (N : Nat)  : jm_P Int32 :=
  jm_ret (-1000003 : Int32)
def jf_X0_bound_L53 (N : Nat) (a0 : Nat) (v1 : Int32) (v2 : Int32) (v3 : Int32) (v4 : Option Nat) (v5 : Int32) : jm_P (Int32 ⊕ (Unit ⊕ Unit)) :=
  jm_rd (jm_fR [0] 0 (some a0)) fun x45 =>
  jm_rd (jm_fR [9] 1 x45) fun x47 =>
  jm_rd (jm_len 4 x47) fun x49 =>
  if x49 ≤ v5 then (
    jm_ret (.inr (.inr ())))
  else
    jm_rd (jm_ldI 0 v4 v5) fun x51 =>
    jm_rd (jm_fR [0] 0 (some a0)) fun x53 =>
    jm_rd (jm_fR [9] 2 x53) fun x55 =>
    jm_rd (jm_ldR 5 x55 v2) fun x57 =>
    jm_bd (jf_D_X7_often N x57 v5) fun x59 =>
    jm_wr (jm_stI 0 v4 v5 (x51 + (v3 * x59))) <|
    jm_rd (jm_ldI 0 v4 v5) fun x65 =>
    jm_bd (jf_X0_isIn N (x65.toInt64) (-9 : Int64) (9 : Int64)) fun x67 =>
    if x67 = 0 then (
      jm_ret (.inr (.inl ())))
    else
      jm_ret (.inl (v5 + 1))
def jf_X0_bound (N : Nat) (a0 : Nat) (v1 : Int32) (v2 : Int32) (v3 : Int32) : jm_P Int32 :=
  jm_bd (jf_X0_isChain N v1) fun x20 =>
  if x20 = 0 then (
    jm_ret (-1000001 : Int32))
  else
    jm_rd (jm_cl 0 (some a0)) fun a26 =>
    jm_bd (jf_X0_isCell N a26 (2 : Int32) v2) fun x23 =>
    if x23 = 0 then (
      jm_ret (-1000001 : Int32))
    else
      jm_bd (jf_X0_isIn N (v3.toInt64) (-9 : Int64) (9 : Int64)) fun x29 =>
      if x29 = 0 then (
        jm_ret (-1000001 : Int32))
      else
        jm_rd (jm_fR [0] 0 (some a0)) fun x32 =>
        jm_rd (jm_fR [9] 3 x32) fun x34 =>
        jm_rd (jm_ldR 12 x34 v1) fun x36 =>
        jm_rd (jm_arI 0 x36) fun y38 =>
        jm_al (.inl (0, y38.1, .inl y38.2)) fun q39 =>
        jm_rd (jm_ar 0 (some q39)) fun _ =>
        jm_bd (jm_it (fun z => jf_X0_bound_L53 N a0 v1 v2 v3 (some q39) z) N (0 : Int32)) fun y =>
        match y with
        | .inl y => jf_X0_bound_k53_108 N 
        | .inr y => jf_X0_bound_k53_117 N a0 v1 (some q39)
set_option maxHeartbeats 4000000 in
set_option maxRecDepth 100000 in
theorem jt_X0_bound (l : Launch) (g : GD) (b N : Nat) (a0 : Nat) (v1 : Int32) (v2 : Int32) (v3 : Int32) (M M' : Mem) (r : Int32) (hf : (jf_X0_bound N a0 v1 v2 v3).1 M = some (r, M')) : jm_Met l g b yX0_bound (ws_ yX0_bound cX0_bound 6 (some .int)) 3 67 [va_rf (some a0), .int v1, .int v2, .int v3] M M' (some (.int r)) := by
  refine jm_start (by decide) (jm_mono hf) (by rw [lg_sl_r, lg_sl_i, lg_sl_i, lg_sl_i, lg_sl_n]; exact Nat.le_of_ble_eq_true rfl) ?_
  intro p e s m args below meth c ls C0 hin hK hst hl
  obtain ⟨hx, hb, hml, hown, hts, hr, hlk⟩ := id C0
  have hown : s.vm.findClass RX0 = some m.cls := hown
  have C0 : jm_Cx p s m args meth c cX0_bound 6 (some .int) RX0 := C0
  rw [lv_args_r, lv_args_i, lv_args_i, lv_args_i, lv_args_n] at hl
  have hl : lv_has ls 6 [(0, va_rf (some a0)), (1, .int v1), (2, .int v2), (3, .int v3)] := hl
  have K53_117 : ∀ (a0 : Nat) (v1 : Int32) (v4 : Option Nat) (Mm1 : Mem), (jf_X0_bound_k53_117 N a0 v1 v4).1 Mm1 = some (r, M') → ∀ (H : Heap) (locs : List Loc) (cells slots : Nat) (ls : Array Slot), jm_St g b M M' Mm1 s (jm_rm 3 67 M M') H locs cells slots → lv_has ls 6 [(0, va_rf (some a0)), (1, .int v1), (4, va_rf v4)] → W p l e (jm_rm 3 67 M M') s m args below meth c H locs cells slots (jm_MQ below g b (some (.int r)) M M' args s) (F0 m 117 ls []) := by
    intro a0 v1 v4 Mm1 hf H locs cells slots ls hst hl
    unfold jf_X0_bound_k53_117 at hf
    refine jw_aload_n (r := (some a0)) hx hb dX0_bound_117 rfl (lv_at hl 0 rfl) ?_
    refine jw_aload_n (r := (some a0)) hx hb dX0_bound_118 rfl (lv_at hl 0 rfl) ?_
    obtain ⟨x2, h3, hf⟩ := jm_rd_some hf
    refine jw_getR hx hb hts hown hK hst (fl_X0_75 hts hK) h3 dX0_bound_119 ?_
    refine lv_iload_n hx hb dX0_bound_122 rfl (lv_at hl 1 rfl) ?_
    refine jw_aload (r := v4) hx hb dX0_bound_123 (lv_at hl 2 rfl) ?_
    obtain ⟨a7, h8, hf⟩ := jm_rd_some hf
    obtain ⟨fsa7, hea7, hr9⟩ := jm_cl_some h8
    obtain ⟨x4, Mm5, h6, hf⟩ := jm_bd_some hf
    refine jw_V (As := [.int v1, va_rf v4]) (rest := [va_rf (some a0)]) (C := RX9) (T := TX9) (N := 4) (rv := x2) (jt_X9_withChain l g b N a7 v1 v4 Mm1 Mm5 x4 h6) C0 hK hst (jm_mono h6) (jm_le_tr (jm_mono hf) jm_le_rf) q515 q516 q517 q84 q518 hd_X9_withChain ⟨Nat.le_of_ble_eq_true rfl, Nat.le_of_ble_eq_true rfl⟩ hea7 hr9 rfl rfl hl.1 rfl (by rw [cs_r, cs_n]; exact Nat.le_of_ble_eq_true rfl) dX0_bound_125 (fun H locs cells slots hst => ?_)
    refine W.eq (g2 := F0 m 128 ls [va_rf x4, va_rf (some a0)]) rfl ?_
    obtain ⟨a13, h14, hf⟩ := jm_rd_some hf
    obtain ⟨fsa13, hea13, hr15⟩ := jm_cl_some h14
    obtain ⟨x10, Mm11, h12, hf⟩ := jm_bd_some hf
    refine jw_V (As := [va_rf x4]) (rest := []) (C := RX0) (T := TX0) (N := 7) (rv := (some a0)) (jt_X0_act l g b N a13 x4 Mm5 Mm11 x10 h12) C0 hK hst (jm_mono h12) (jm_le_tr (jm_mono hf) jm_le_rf) q447 q449 qs8 q72 q450 hd_X0_act ⟨Nat.le_of_ble_eq_true rfl, Nat.le_of_ble_eq_true rfl⟩ hea13 hr15 rfl rfl hl.1 rfl (by rw [cs_n]; exact Nat.le_of_ble_eq_true rfl) dX0_bound_128 (fun H locs cells slots hst => ?_)
    refine W.eq (g2 := F0 m 131 ls []) rfl ?_
    refine jw_aload (r := v4) hx hb dX0_bound_131 (lv_at hl 2 rfl) ?_
    obtain ⟨x16, Mm17, h18, hf⟩ := jm_bd_some hf
    refine jw_S (As := [va_rf v4]) (rest := []) (jt_X0_others l g b N v4 Mm11 Mm17 x16 h18) C0 hK hst (jm_mono h18) (jm_le_tr (jm_mono hf) jm_le_rf) q527 q528 q72 q529 hd_X0_others.2 ⟨Nat.le_of_ble_eq_true rfl, Nat.le_of_ble_eq_true rfl⟩ rfl hl.1 rfl (by rw [cs_n]; exact Nat.le_of_ble_eq_true rfl) dX0_bound_133 (fun H locs cells slots hst => ?_)
    refine W.eq (g2 := F0 m 136 ls [.int x16]) rfl ?_
    obtain ⟨rfl, rfl⟩ := jm_ret_some hf
    exact jw_iret C0 hst dX0_bound_136
  have K53_108 : ∀  (Mm19 : Mem), (jf_X0_bound_k53_108 N).1 Mm19 = some (r, M') → ∀ (H : Heap) (locs : List Loc) (cells slots : Nat) (ls : Array Slot), jm_St g b M M' Mm19 s (jm_rm 3 67 M M') H locs cells slots → lv_has ls 6 [] → W p l e (jm_rm 3 67 M M') s m args below meth c H locs cells slots (jm_MQ below g b (some (.int r)) M M' args s) (F0 m 108 ls []) := by
    intro  Mm19 hf H locs cells slots ls hst hl
    unfold jf_X0_bound_k53_108 at hf
    refine lv_ldc hx hb hown (hts _ q135) dX0_bound_108 ?_
    obtain ⟨rfl, rfl⟩ := jm_ret_some hf
    exact jw_iret C0 hst dX0_bound_110
  have B53 : ∀ (a0 : Nat) (v1 : Int32) (v2 : Int32) (v3 : Int32) (v4 : Option Nat) (v5 : Int32) (Mm44 : Mem) (xe53 : (Int32 ⊕ (Unit ⊕ Unit))) (Me53 : Mem), (jf_X0_bound_L53 N a0 v1 v2 v3 v4 v5).1 Mm44 = some (xe53, Me53) → jm_le Me53 M' → (jm_or (fun (z : Int32) => ∀ (H : Heap) (locs : List Loc) (cells slots : Nat) (ls : Array Slot), jm_St g b M M' Me53 s (jm_rm 3 67 M M') H locs cells slots → lv_has ls 6 [(0, va_rf (some a0)), (1, .int v1), (2, .int v2), (3, .int v3), (4, va_rf v4), (5, .int z)] → W p l e (jm_rm 3 67 M M') s m args below meth c H locs cells slots (jm_MQ below g b (some (.int r)) M M' args s) (F0 m 53 ls [])) (jm_or (fun (y : Unit) => ∀ (H : Heap) (locs : List Loc) (cells slots : Nat) (ls : Array Slot), jm_St g b M M' Me53 s (jm_rm 3 67 M M') H locs cells slots → lv_has ls 6 [] → W p l e (jm_rm 3 67 M M') s m args below meth c H locs cells slots (jm_MQ below g b (some (.int r)) M M' args s) (F0 m 108 ls [])) (fun (y : Unit) => ∀ (H : Heap) (locs : List Loc) (cells slots : Nat) (ls : Array Slot), jm_St g b M M' Me53 s (jm_rm 3 67 M M') H locs cells slots → lv_has ls 6 [(0, va_rf (some a0)), (1, .int v1), (4, va_rf v4)] → W p l e (jm_rm 3 67 M M') s m args below meth c H locs cells slots (jm_MQ below g b (some (.int r)) M M' args s) (F0 m 117 ls []))) xe53) → ∀ (H : Heap) (locs : List Loc) (cells slots : Nat) (ls : Array Slot), jm_St g b M M' Mm44 s (jm_rm 3 67 M M') H locs cells slots → lv_has ls 6 [(0, va_rf (some a0)), (1, .int v1), (2, .int v2), (3, .int v3), (4, va_rf v4), (5, .int v5)] → W p l e (jm_rm 3 67 M M') s m args below meth c H locs cells slots (jm_MQ below g b (some (.int r)) M M' args s) (F0 m 53 ls []) := by
    intro a0 v1 v2 v3 v4 v5 Mm44 xe53 Me53 hf hle53 hk53
    intro H locs cells slots ls hst hl
    unfold jf_X0_bound_L53 at hf
    refine lv_iload hx hb dX0_bound_53 (lv_at hl 5 rfl) ?_
    refine jw_aload_n (r := (some a0)) hx hb dX0_bound_55 rfl (lv_at hl 0 rfl) ?_
    obtain ⟨x45, h46, hf⟩ := jm_rd_some hf
    refine jw_getR hx hb hts hown hK hst (fl_X0_75 hts hK) h46 dX0_bound_56 ?_
    obtain ⟨x47, h48, hf⟩ := jm_rd_some hf
    refine jw_getR hx hb hts hown hK hst (fl_X0_97 hts hK) h48 dX0_bound_59 ?_
    obtain ⟨x49, h50, hf⟩ := jm_rd_some hf
    refine jw_alen hx hb hK hst (show jm_ty[4]? = some (.object "ChainParts$EdgeCell") from rfl) h50 dX0_bound_62 ?_
    refine lv_icmp_ge (tgt := 117) hx hb dX0_bound_63 (by decide) (fun hc => ?_) (fun hc => ?_)
    · rw [if_pos hc] at hf
      obtain ⟨rfl, rfl⟩ := jm_ret_some hf
      exact jm_or_r (jm_or_r hk53) _ _ _ _ _ hst (lv_sub hl [0, 1, 4] rfl)
    · rw [if_neg hc] at hf
      refine jw_aload (r := v4) hx hb dX0_bound_66 (lv_at hl 4 rfl) ?_
      refine lv_iload hx hb dX0_bound_68 (lv_at hl 5 rfl) ?_
      refine lv_dup2_11 hx hb dX0_bound_70 rfl (va_rf_cat _) ?_
      obtain ⟨x51, h52, hf⟩ := jm_rd_some hf
      refine jw_iald hx hb hK hst h52 dX0_bound_71 ?_
      refine lv_iload_n hx hb dX0_bound_72 rfl (lv_at hl 3 rfl) ?_
      refine jw_aload_n (r := (some a0)) hx hb dX0_bound_73 rfl (lv_at hl 0 rfl) ?_
      obtain ⟨x53, h54, hf⟩ := jm_rd_some hf
      refine jw_getR hx hb hts hown hK hst (fl_X0_75 hts hK) h54 dX0_bound_74 ?_
      obtain ⟨x55, h56, hf⟩ := jm_rd_some hf
      refine jw_getR hx hb hts hown hK hst (fl_X0_101 hts hK) h56 dX0_bound_77 ?_
      refine lv_iload_n hx hb dX0_bound_80 rfl (lv_at hl 2 rfl) ?_
      obtain ⟨x57, h58, hf⟩ := jm_rd_some hf
      refine jw_aald hx hb hK hst (show jm_ty[5]? = some (.object "ChainParts$FaceCell") from rfl) rfl h58 dX0_bound_81 ?_
      refine lv_iload hx hb dX0_bound_82 (lv_at hl 5 rfl) ?_
      obtain ⟨x59, Mm60, h61, hf⟩ := jm_bd_some hf
      have hKh61 : ∀ (H1 : Heap) (locs1 : List Loc) (cells1 slots1 : Nat), jm_St g b M M' Mm60 s (jm_rm 3 67 M M') H1 locs1 cells1 slots1 → W p l e (jm_rm 3 67 M M') s m args below meth c H1 locs1 cells1 slots1 (jm_MQ below g b (some (.int r)) M M' args s) (F0 m (84 + 3) ls (Option.toList (some (.int x59)) ++ [.int v3, .int x51, .int v5, va_rf v4])) := by
        intro H locs cells slots hst
        refine W.eq (g2 := F0 m 87 ls [.int x59, .int v3, .int x51, .int v5, va_rf v4]) rfl ?_
        refine lv_imul hx hb dX0_bound_87 ?_
        refine lv_iadd hx hb dX0_bound_88 ?_
        obtain ⟨F62, h63, hf⟩ := jm_wr_some hf
        refine jw_iast (r := v4) hx hb hK hst h63 dX0_bound_89 (fun H locs hst => ?_)
        generalize ((Mm60.1, Mm60.2.1, F62) : Mem) = Mm64 at hf hst
        refine jw_aload (r := v4) hx hb dX0_bound_90 (lv_at hl 4 rfl) ?_
        refine lv_iload hx hb dX0_bound_92 (lv_at hl 5 rfl) ?_
        obtain ⟨x65, h66, hf⟩ := jm_rd_some hf
        refine jw_iald hx hb hK hst h66 dX0_bound_94 ?_
        refine lv_i2l hx hb dX0_bound_95 rfl ?_
        refine lv_ldc2 hx hb hown (hts _ q511) dX0_bound_96 ?_
        refine lv_ldc2 hx hb hown (hts _ q512) dX0_bound_99 ?_
        obtain ⟨x67, Mm68, h69, hf⟩ := jm_bd_some hf
        refine jw_S (As := [.long (x65.toInt64), .long (-9 : Int64), .long (9 : Int64)]) (rest := []) (jt_X0_isIn l g b N (x65.toInt64) (-9 : Int64) (9 : Int64) Mm64 Mm68 x67 h69) C0 hK hst (jm_mono h69) (jm_le_tr (jm_mono hf) hle53) q131 q132 q72 q133 hd_X0_isIn.2 ⟨Nat.le_of_ble_eq_true rfl, Nat.le_of_ble_eq_true rfl⟩ rfl hl.1 rfl (by rw [cs_n]; exact Nat.le_of_ble_eq_true rfl) dX0_bound_102 (fun H locs cells slots hst => ?_)
        refine W.eq (g2 := F0 m 105 ls [.int x67]) rfl ?_
        refine lv_if_ne (tgt := 111) hx hb dX0_bound_105 (by decide) (fun hc => ?_) (fun hc => ?_)
        · rw [if_neg hc] at hf
          refine lv_iinc (i := 5) (v := (v5 + 1)) (lv' := [(5, .int (v5 + 1)), (0, va_rf (some a0)), (1, .int v1), (2, .int v2), (3, .int v3), (4, va_rf v4)]) hx hb dX0_bound_111 hl (k := 5) rfl (by rfl) (by decide) (by simp [va_rf_cat, cat_i, cat_j, cat_f]) (fun ls hl => ?_)
          refine lv_goto (tgt := 53) hx hb dX0_bound_114 (by decide) ?_
          obtain ⟨rfl, rfl⟩ := jm_ret_some hf
          exact jm_or_l hk53 _ _ _ _ _ hst (lv_sub hl [1, 2, 3, 4, 5, 0] rfl)
        · rw [if_pos hc] at hf
          obtain ⟨rfl, rfl⟩ := jm_ret_some hf
          exact jm_or_l (jm_or_r hk53) _ _ _ _ _ hst (lv_sub hl [] rfl)
      have hbh61 := jm_mono h61
      have hch61 := jm_le_tr (jm_mono hf) hle53
      unfold jf_D_X7_often at h61
      obtain ⟨z70, h71, h61⟩ := jm_rd_some h61
      obtain ⟨fs72, hv73, hr74⟩ := jm_kl_some h71
      by_cases hc : z70.2 = 7
      · rw [if_pos hc] at h61
        rw [hc] at hr74
        exact jw_V (As := [.int v5]) (rest := [.int v3, .int x51, .int v5, va_rf v4]) (C := RX7) (T := TX7) (N := 2) (rv := x57) (jt_X7_often l g b N z70.1 v5 Mm44 Mm60 x59 h61) C0 hK hst hbh61 hch61 q340 q341 q342 q82 q345 hd_X7_often ⟨Nat.le_of_ble_eq_true rfl, Nat.le_of_ble_eq_true rfl⟩ hv73 hr74 rfl rfl hl.1 rfl (by rw [cs_i, cs_i, cs_i, cs_r, cs_n]; exact Nat.le_of_ble_eq_true rfl) dX0_bound_84 hKh61
      rw [if_neg hc] at h61
      by_cases hc : z70.2 = 8
      · rw [if_pos hc] at h61
        rw [hc] at hr74
        exact jw_U (As := [.int v5]) (rest := [.int v3, .int x51, .int v5, va_rf v4]) (C := RX8) (T := TX8) (N := 2) (rv := x57) (owner := RX7) (x := yX7_often) (jt_X7_often l g b N z70.1 v5 Mm44 Mm60 x59 h61) C0 hK hst hbh61 hch61 (jm_cwU hts q340 q343 q344 q341 q82 q345 rfl hd_X7_often.2 ⟨Nat.le_of_ble_eq_true rfl, Nat.le_of_ble_eq_true rfl⟩) hv73 hr74 rfl rfl hl.1 rfl (by rw [cs_i, cs_i, cs_i, cs_r, cs_n]; exact Nat.le_of_ble_eq_true rfl) dX0_bound_84 hKh61
      rw [if_neg hc] at h61
      exact (jm_no_some h61).elim
  unfold jf_X0_bound at hf
  refine lv_iload_n hx hb dX0_bound_0 rfl (lv_at hl 1 rfl) ?_
  obtain ⟨x20, Mm21, h22, hf⟩ := jm_bd_some hf
  refine jw_S (As := [.int v1]) (rest := []) (jt_X0_isChain l g b N v1 M Mm21 x20 h22) C0 hK hst (jm_mono h22) (jm_le_tr (jm_mono hf) jm_le_rf) q508 q509 q72 q510 hd_X0_isChain.2 ⟨Nat.le_of_ble_eq_true rfl, Nat.le_of_ble_eq_true rfl⟩ rfl hl.1 rfl (by rw [cs_n]; exact Nat.le_of_ble_eq_true rfl) dX0_bound_1 (fun H locs cells slots hst => ?_)
  refine W.eq (g2 := F0 m 4 ls [.int x20]) rfl ?_
  refine lv_if_eq (tgt := 30) hx hb dX0_bound_4 (by decide) (fun hc => ?_) (fun hc => ?_)
  · rw [if_pos hc] at hf
    refine lv_ldc hx hb hown (hts _ q134) dX0_bound_30 ?_
    obtain ⟨rfl, rfl⟩ := jm_ret_some hf
    exact jw_iret C0 hst dX0_bound_32
  · rw [if_neg hc] at hf
    refine jw_aload_n (r := (some a0)) hx hb dX0_bound_7 rfl (lv_at hl 0 rfl) ?_
    refine lv_iconst (v := 2) hx hb dX0_bound_8 (by decide) ?_
    refine lv_iload_n hx hb dX0_bound_9 rfl (lv_at hl 2 rfl) ?_
    obtain ⟨a26, h27, hf⟩ := jm_rd_some hf
    obtain ⟨fsa26, hea26, hr28⟩ := jm_cl_some h27
    obtain ⟨x23, Mm24, h25, hf⟩ := jm_bd_some hf
    refine jw_V (As := [.int (2 : Int32), .int v2]) (rest := []) (C := RX0) (T := TX0) (N := 7) (rv := (some a0)) (jt_X0_isCell l g b N a26 (2 : Int32) v2 Mm21 Mm24 x23 h25) C0 hK hst (jm_mono h25) (jm_le_tr (jm_mono hf) jm_le_rf) q394 q396 qs7 q72 q397 hd_X0_isCell ⟨Nat.le_of_ble_eq_true rfl, Nat.le_of_ble_eq_true rfl⟩ hea26 hr28 rfl rfl hl.1 rfl (by rw [cs_n]; exact Nat.le_of_ble_eq_true rfl) dX0_bound_10 (fun H locs cells slots hst => ?_)
    refine W.eq (g2 := F0 m 13 ls [.int x23]) rfl ?_
    refine lv_if_eq (tgt := 30) hx hb dX0_bound_13 (by decide) (fun hc => ?_) (fun hc => ?_)
    · rw [if_pos hc] at hf
      refine lv_ldc hx hb hown (hts _ q134) dX0_bound_30 ?_
      obtain ⟨rfl, rfl⟩ := jm_ret_some hf
      exact jw_iret C0 hst dX0_bound_32
    · rw [if_neg hc] at hf
      refine lv_iload_n hx hb dX0_bound_16 rfl (lv_at hl 3 rfl) ?_
      refine lv_i2l hx hb dX0_bound_17 rfl ?_
      refine lv_ldc2 hx hb hown (hts _ q511) dX0_bound_18 ?_
      refine lv_ldc2 hx hb hown (hts _ q512) dX0_bound_21 ?_
      obtain ⟨x29, Mm30, h31, hf⟩ := jm_bd_some hf
      refine jw_S (As := [.long (v3.toInt64), .long (-9 : Int64), .long (9 : Int64)]) (rest := []) (jt_X0_isIn l g b N (v3.toInt64) (-9 : Int64) (9 : Int64) Mm24 Mm30 x29 h31) C0 hK hst (jm_mono h31) (jm_le_tr (jm_mono hf) jm_le_rf) q131 q132 q72 q133 hd_X0_isIn.2 ⟨Nat.le_of_ble_eq_true rfl, Nat.le_of_ble_eq_true rfl⟩ rfl hl.1 rfl (by rw [cs_n]; exact Nat.le_of_ble_eq_true rfl) dX0_bound_24 (fun H locs cells slots hst => ?_)
      refine W.eq (g2 := F0 m 27 ls [.int x29]) rfl ?_
      refine lv_if_ne (tgt := 33) hx hb dX0_bound_27 (by decide) (fun hc => ?_) (fun hc => ?_)
      · rw [if_neg hc] at hf
        refine jw_aload_n (r := (some a0)) hx hb dX0_bound_33 rfl (lv_at hl 0 rfl) ?_
        obtain ⟨x32, h33, hf⟩ := jm_rd_some hf
        refine jw_getR hx hb hts hown hK hst (fl_X0_75 hts hK) h33 dX0_bound_34 ?_
        obtain ⟨x34, h35, hf⟩ := jm_rd_some hf
        refine jw_getR hx hb hts hown hK hst (fl_X0_180 hts hK) h35 dX0_bound_37 ?_
        refine lv_iload_n hx hb dX0_bound_40 rfl (lv_at hl 1 rfl) ?_
        obtain ⟨x36, h37, hf⟩ := jm_rd_some hf
        refine jw_aald hx hb hK hst (show jm_ty[12]? = some (.array .int) from rfl) rfl h37 dX0_bound_41 ?_
        obtain ⟨y38, h40, hf⟩ := jm_rd_some hf
        obtain ⟨q39, hq39, hf⟩ := jm_al_some hf
        refine jw_clone (kd := 0) (t := .int) (x := (y38.1, .inl y38.2)) (ad := "[I") (r := x36) (rest := []) hx hb hml hl.1 hown (hts _ q513) (hts _ q492) (hts _ q493) (hts _ q494) (hts _ q495) nq496 hK hst rfl (jm_arI_some h40) jm_nmI jm_fitI (Nat.le_of_ble_eq_true rfl) (by rw [cs_n]; exact Nat.le_of_ble_eq_true rfl) (jm_le_tr (jm_mono hf) jm_le_rf) hq39 dX0_bound_42 (fun H cells slots hst => ?_)
        generalize jm_new (.inl (0, y38.1, .inl y38.2)) Mm30 = Mm41 at hf hst
        obtain ⟨y42, h43, hf⟩ := jm_rd_some hf
        refine jw_castA (kd := 0) (t := .int) (r := (some q39)) hx hb hown (hts _ q514) hK hst rfl h43 jm_nmI dX0_bound_45 ?_
        refine jw_astore (i := 4) (r := (some q39)) (lv' := [(4, va_rf (some q39)), (0, va_rf (some a0)), (1, .int v1), (2, .int v2), (3, .int v3)]) hx hb dX0_bound_48 hl (by decide) rfl (fun ls hl => ?_)
        refine lv_iconst (v := 0) hx hb dX0_bound_50 (by decide) ?_
        refine lv_istore (i := 5) (lv' := [(5, .int (0 : Int32)), (4, va_rf (some q39)), (0, va_rf (some a0)), (1, .int v1), (2, .int v2), (3, .int v3)]) hx hb dX0_bound_51 hl (by decide) (by simp [va_rf_cat, cat_i, cat_j, cat_f]) (fun ls hl => ?_)
        obtain ⟨xl53, Ml53, hit53, hf⟩ := jm_bd_some hf
        have hlf53 : jm_le Ml53 M' := jm_le_tr (jm_mono hf) jm_le_rf
        have hwe53 : (fun (y : (Unit ⊕ Unit)) (Mz : Mem) => jm_or (fun (y : Unit) => ∀ (H : Heap) (locs : List Loc) (cells slots : Nat) (ls : Array Slot), jm_St g b M M' Mz s (jm_rm 3 67 M M') H locs cells slots → lv_has ls 6 [] → W p l e (jm_rm 3 67 M M') s m args below meth c H locs cells slots (jm_MQ below g b (some (.int r)) M M' args s) (F0 m 108 ls [])) (fun (y : Unit) => ∀ (H : Heap) (locs : List Loc) (cells slots : Nat) (ls : Array Slot), jm_St g b M M' Mz s (jm_rm 3 67 M M') H locs cells slots → lv_has ls 6 [(0, va_rf (some a0)), (1, .int v1), (4, va_rf (some q39))] → W p l e (jm_rm 3 67 M M') s m args below meth c H locs cells slots (jm_MQ below g b (some (.int r)) M M' args s) (F0 m 117 ls [])) y) xl53 Ml53 := by
          cases xl53 with
          | inl y0 => exact fun H locs cells slots ls hst hl => K53_108  _ hf H locs cells slots ls hst hl
          | inr y0 =>
            exact fun H locs cells slots ls hst hl => K53_117 a0 v1 (some q39) _ hf H locs cells slots ls hst hl
        refine jm_it_walk (Mf := M') (Wh := fun (z : Int32) (Mz : Mem) => ∀ (H : Heap) (locs : List Loc) (cells slots : Nat) (ls : Array Slot), jm_St g b M M' Mz s (jm_rm 3 67 M M') H locs cells slots → lv_has ls 6 [(0, va_rf (some a0)), (1, .int v1), (2, .int v2), (3, .int v3), (4, va_rf (some q39)), (5, .int z)] → W p l e (jm_rm 3 67 M M') s m args below meth c H locs cells slots (jm_MQ below g b (some (.int r)) M M' args s) (F0 m 53 ls [])) (We := fun (y : (Unit ⊕ Unit)) (Mz : Mem) => jm_or (fun (y : Unit) => ∀ (H : Heap) (locs : List Loc) (cells slots : Nat) (ls : Array Slot), jm_St g b M M' Mz s (jm_rm 3 67 M M') H locs cells slots → lv_has ls 6 [] → W p l e (jm_rm 3 67 M M') s m args below meth c H locs cells slots (jm_MQ below g b (some (.int r)) M M' args s) (F0 m 108 ls [])) (fun (y : Unit) => ∀ (H : Heap) (locs : List Loc) (cells slots : Nat) (ls : Array Slot), jm_St g b M M' Mz s (jm_rm 3 67 M M') H locs cells slots → lv_has ls 6 [(0, va_rf (some a0)), (1, .int v1), (4, va_rf (some q39))] → W p l e (jm_rm 3 67 M M') s m args below meth c H locs cells slots (jm_MQ below g b (some (.int r)) M M' args s) (F0 m 117 ls [])) y) ?_ N (0 : Int32) Mm41 xl53 Ml53 hit53 hlf53 hwe53 _ _ _ _ _ hst (lv_sub hl [2, 3, 4, 5, 1, 0] rfl)
        intro v5 Mm75 xe53 Me53 hf hle53 hk53 H locs cells slots ls hst hl
        have hf : (jf_X0_bound_L53 N a0 v1 v2 v3 (some q39) v5).1 Mm75 = some (xe53, Me53) := hf
        have hl : lv_has ls 6 [(0, va_rf (some a0)), (1, .int v1), (2, .int v2), (3, .int v3), (4, va_rf (some q39)), (5, .int v5)] := hl
        exact B53 a0 v1 v2 v3 (some q39) v5 _ _ _ hf hle53 hk53 _ _ _ _ _ hst (lv_sub hl [0, 1, 2, 3, 4, 5] rfl)
      · rw [if_pos hc] at hf
        refine lv_ldc hx hb hown (hts _ q134) dX0_bound_30 ?_
        obtain ⟨rfl, rfl⟩ := jm_ret_some hf
        exact jw_iret C0 hst dX0_bound_32
def jf_X0_drawn_k44_89 (N : Nat) (a0 : Nat) (v1 : Int32) (v3 : Option Nat) : jm_P Int32 :=
  jm_rd (jm_fR [0] 0 (some a0)) fun x2 =>
  jm_rd (jm_cl 9 x2) fun a7 =>
  jm_bd (jf_X9_withChain N a7 v1 v3) fun x4 =>
  jm_rd (jm_cl 0 (some a0)) fun a13 =>
  jm_bd (jf_X0_act N a13 x4) fun x10 =>
  jm_bd (jf_X0_others N v3) fun x16 =>
  jm_ret x16
def jf_X0_drawn_L44 (N : Nat) (a0 : Nat) (v1 : Int32) (v3 : Option Nat) (v4 : Int64) (v6 : Int32) : jm_P ((Int64 × Int32) ⊕ Unit) :=
  jm_rd (jm_fR [0] 0 (some a0)) fun x31 =>
  jm_rd (jm_fR [9] 1 x31) fun x33 =>
  jm_rd (jm_len 4 x33) fun x35 =>
  if x35 ≤ v6 then (
    jm_ret (.inr ()))
  else
    jm_lt ((v4 * (16807 : Int64)) - (v4 * (16807 : Int64)) / (2147483647 : Int64) * (2147483647 : Int64)) fun x37 =>
    jm_wr (jm_stI 0 v3 v6 (((x37 - x37 / (19 : Int64) * (19 : Int64)).toInt32) - (9 : Int32))) <|
    jm_ret (.inl (x37, (v6 + 1)))
def jf_X0_drawn (N : Nat) (a0 : Nat) (v1 : Int32) (v2 : Int32) : jm_P Int32 :=
  jm_rd (jm_fR [0] 0 (some a0)) fun x19 =>
  if x19 = none then (
    jm_ret (-1000002 : Int32))
  else
    jm_bd (jf_X0_isChain N v1) fun x21 =>
    if x21 = 0 then (
      jm_ret (-1000001 : Int32))
    else
      jm_bd (jf_X0_isIn N (v2.toInt64) (1 : Int64) (999999 : Int64)) fun x24 =>
      if x24 = 0 then (
        jm_ret (-1000001 : Int32))
      else
        jm_rd (jm_ck (¬ (6 : Int32) < 0 ∧ (6 : Int32).toNatClampNeg ≤ 1000)) fun _ =>
        jm_al (.inl (0, (6 : Int32).toNatClampNeg, .inl (fun _ => 0))) fun q28 =>
        jm_bd (jm_it (fun z => jf_X0_drawn_L44 N a0 v1 (some q28) z.1 z.2) N ((v2.toInt64), (0 : Int32))) fun y =>
        jf_X0_drawn_k44_89 N a0 v1 (some q28)
set_option maxHeartbeats 4000000 in
set_option maxRecDepth 100000 in
theorem jt_X0_drawn (l : Launch) (g : GD) (b N : Nat) (a0 : Nat) (v1 : Int32) (v2 : Int32) (M M' : Mem) (r : Int32) (hf : (jf_X0_drawn N a0 v1 v2).1 M = some (r, M')) : jm_Met l g b yX0_drawn (ws_ yX0_drawn cX0_drawn 7 (some .int)) 3 67 [va_rf (some a0), .int v1, .int v2] M M' (some (.int r)) := by
  refine jm_start (by decide) (jm_mono hf) (by rw [lg_sl_r, lg_sl_i, lg_sl_i, lg_sl_n]; exact Nat.le_of_ble_eq_true rfl) ?_
  intro p e s m args below meth c ls C0 hin hK hst hl
  obtain ⟨hx, hb, hml, hown, hts, hr, hlk⟩ := id C0
  have hown : s.vm.findClass RX0 = some m.cls := hown
  have C0 : jm_Cx p s m args meth c cX0_drawn 7 (some .int) RX0 := C0
  rw [lv_args_r, lv_args_i, lv_args_i, lv_args_n] at hl
  have hl : lv_has ls 7 [(0, va_rf (some a0)), (1, .int v1), (2, .int v2)] := hl
  have K44_89 : ∀ (a0 : Nat) (v1 : Int32) (v3 : Option Nat) (Mm1 : Mem), (jf_X0_drawn_k44_89 N a0 v1 v3).1 Mm1 = some (r, M') → ∀ (H : Heap) (locs : List Loc) (cells slots : Nat) (ls : Array Slot), jm_St g b M M' Mm1 s (jm_rm 3 67 M M') H locs cells slots → lv_has ls 7 [(0, va_rf (some a0)), (1, .int v1), (3, va_rf v3)] → W p l e (jm_rm 3 67 M M') s m args below meth c H locs cells slots (jm_MQ below g b (some (.int r)) M M' args s) (F0 m 89 ls []) := by
    intro a0 v1 v3 Mm1 hf H locs cells slots ls hst hl
    unfold jf_X0_drawn_k44_89 at hf
    refine jw_aload_n (r := (some a0)) hx hb dX0_drawn_89 rfl (lv_at hl 0 rfl) ?_
    refine jw_aload_n (r := (some a0)) hx hb dX0_drawn_90 rfl (lv_at hl 0 rfl) ?_
    obtain ⟨x2, h3, hf⟩ := jm_rd_some hf
    refine jw_getR hx hb hts hown hK hst (fl_X0_75 hts hK) h3 dX0_drawn_91 ?_
    refine lv_iload_n hx hb dX0_drawn_94 rfl (lv_at hl 1 rfl) ?_
    refine jw_aload_n (r := v3) hx hb dX0_drawn_95 rfl (lv_at hl 2 rfl) ?_
    obtain ⟨a7, h8, hf⟩ := jm_rd_some hf
    obtain ⟨fsa7, hea7, hr9⟩ := jm_cl_some h8
    obtain ⟨x4, Mm5, h6, hf⟩ := jm_bd_some hf
    refine jw_V (As := [.int v1, va_rf v3]) (rest := [va_rf (some a0)]) (C := RX9) (T := TX9) (N := 4) (rv := x2) (jt_X9_withChain l g b N a7 v1 v3 Mm1 Mm5 x4 h6) C0 hK hst (jm_mono h6) (jm_le_tr (jm_mono hf) jm_le_rf) q515 q516 q517 q84 q518 hd_X9_withChain ⟨Nat.le_of_ble_eq_true rfl, Nat.le_of_ble_eq_true rfl⟩ hea7 hr9 rfl rfl hl.1 rfl (by rw [cs_r, cs_n]; exact Nat.le_of_ble_eq_true rfl) dX0_drawn_96 (fun H locs cells slots hst => ?_)
    refine W.eq (g2 := F0 m 99 ls [va_rf x4, va_rf (some a0)]) rfl ?_
    obtain ⟨a13, h14, hf⟩ := jm_rd_some hf
    obtain ⟨fsa13, hea13, hr15⟩ := jm_cl_some h14
    obtain ⟨x10, Mm11, h12, hf⟩ := jm_bd_some hf
    refine jw_V (As := [va_rf x4]) (rest := []) (C := RX0) (T := TX0) (N := 7) (rv := (some a0)) (jt_X0_act l g b N a13 x4 Mm5 Mm11 x10 h12) C0 hK hst (jm_mono h12) (jm_le_tr (jm_mono hf) jm_le_rf) q447 q449 qs8 q72 q450 hd_X0_act ⟨Nat.le_of_ble_eq_true rfl, Nat.le_of_ble_eq_true rfl⟩ hea13 hr15 rfl rfl hl.1 rfl (by rw [cs_n]; exact Nat.le_of_ble_eq_true rfl) dX0_drawn_99 (fun H locs cells slots hst => ?_)
    refine W.eq (g2 := F0 m 102 ls []) rfl ?_
    refine jw_aload_n (r := v3) hx hb dX0_drawn_102 rfl (lv_at hl 2 rfl) ?_
    obtain ⟨x16, Mm17, h18, hf⟩ := jm_bd_some hf
    refine jw_S (As := [va_rf v3]) (rest := []) (jt_X0_others l g b N v3 Mm11 Mm17 x16 h18) C0 hK hst (jm_mono h18) (jm_le_tr (jm_mono hf) jm_le_rf) q527 q528 q72 q529 hd_X0_others.2 ⟨Nat.le_of_ble_eq_true rfl, Nat.le_of_ble_eq_true rfl⟩ rfl hl.1 rfl (by rw [cs_n]; exact Nat.le_of_ble_eq_true rfl) dX0_drawn_103 (fun H locs cells slots hst => ?_)
    refine W.eq (g2 := F0 m 106 ls [.int x16]) rfl ?_
    obtain ⟨rfl, rfl⟩ := jm_ret_some hf
    exact jw_iret C0 hst dX0_drawn_106
  have B44 : ∀ (a0 : Nat) (v1 : Int32) (v3 : Option Nat) (v4 : Int64) (v6 : Int32) (Mm30 : Mem) (xe44 : ((Int64 × Int32) ⊕ Unit)) (Me44 : Mem), (jf_X0_drawn_L44 N a0 v1 v3 v4 v6).1 Mm30 = some (xe44, Me44) → jm_le Me44 M' → (jm_or (fun (z : Int64 × Int32) => ∀ (H : Heap) (locs : List Loc) (cells slots : Nat) (ls : Array Slot), jm_St g b M M' Me44 s (jm_rm 3 67 M M') H locs cells slots → lv_has ls 7 [(0, va_rf (some a0)), (1, .int v1), (3, va_rf v3), (4, .long z.1), (6, .int z.2)] → W p l e (jm_rm 3 67 M M') s m args below meth c H locs cells slots (jm_MQ below g b (some (.int r)) M M' args s) (F0 m 44 ls [])) (fun (y : Unit) => ∀ (H : Heap) (locs : List Loc) (cells slots : Nat) (ls : Array Slot), jm_St g b M M' Me44 s (jm_rm 3 67 M M') H locs cells slots → lv_has ls 7 [(0, va_rf (some a0)), (1, .int v1), (3, va_rf v3)] → W p l e (jm_rm 3 67 M M') s m args below meth c H locs cells slots (jm_MQ below g b (some (.int r)) M M' args s) (F0 m 89 ls [])) xe44) → ∀ (H : Heap) (locs : List Loc) (cells slots : Nat) (ls : Array Slot), jm_St g b M M' Mm30 s (jm_rm 3 67 M M') H locs cells slots → lv_has ls 7 [(0, va_rf (some a0)), (1, .int v1), (3, va_rf v3), (4, .long v4), (6, .int v6)] → W p l e (jm_rm 3 67 M M') s m args below meth c H locs cells slots (jm_MQ below g b (some (.int r)) M M' args s) (F0 m 44 ls []) := by
    intro a0 v1 v3 v4 v6 Mm30 xe44 Me44 hf hle44 hk44
    intro H locs cells slots ls hst hl
    unfold jf_X0_drawn_L44 at hf
    refine lv_iload hx hb dX0_drawn_44 (lv_at hl 4 rfl) ?_
    refine jw_aload_n (r := (some a0)) hx hb dX0_drawn_46 rfl (lv_at hl 0 rfl) ?_
    obtain ⟨x31, h32, hf⟩ := jm_rd_some hf
    refine jw_getR hx hb hts hown hK hst (fl_X0_75 hts hK) h32 dX0_drawn_47 ?_
    obtain ⟨x33, h34, hf⟩ := jm_rd_some hf
    refine jw_getR hx hb hts hown hK hst (fl_X0_97 hts hK) h34 dX0_drawn_50 ?_
    obtain ⟨x35, h36, hf⟩ := jm_rd_some hf
    refine jw_alen hx hb hK hst (show jm_ty[4]? = some (.object "ChainParts$EdgeCell") from rfl) h36 dX0_drawn_53 ?_
    refine lv_icmp_ge (tgt := 89) hx hb dX0_drawn_54 (by decide) (fun hc => ?_) (fun hc => ?_)
    · rw [if_pos hc] at hf
      obtain ⟨rfl, rfl⟩ := jm_ret_some hf
      exact jm_or_r hk44 _ _ _ _ _ hst (lv_sub hl [0, 1, 2] rfl)
    · rw [if_neg hc] at hf
      refine lv_lload hx hb dX0_drawn_57 (lv_at hl 3 rfl) ?_
      refine lv_ldc2 hx hb hown (hts _ q535) dX0_drawn_59 ?_
      refine lv_lmul hx hb dX0_drawn_62 ?_
      refine lv_ldc2 hx hb hown (hts _ q536) dX0_drawn_63 ?_
      refine lv_lrem hx hb dX0_drawn_66 (by decide) ?_
      obtain ⟨x37, ex37, hf⟩ := jm_lt_some hf
      rw [← ex37]
      refine lv_lstore (i := 4) (lv' := [(4, .long x37), (0, va_rf (some a0)), (1, .int v1), (3, va_rf v3), (6, .int v6)]) hx hb dX0_drawn_67 hl (by decide) (by simp [va_rf_cat, cat_i, cat_j, cat_f]) (fun ls hl => ?_)
      refine jw_aload_n (r := v3) hx hb dX0_drawn_69 rfl (lv_at hl 3 rfl) ?_
      refine lv_iload hx hb dX0_drawn_70 (lv_at hl 4 rfl) ?_
      refine lv_lload hx hb dX0_drawn_72 (lv_at hl 0 rfl) ?_
      refine lv_ldc2 hx hb hown (hts _ q537) dX0_drawn_74 ?_
      refine lv_lrem hx hb dX0_drawn_77 (by decide) ?_
      refine lv_l2i hx hb dX0_drawn_78 rfl ?_
      refine lv_bipush (v := 9) hx hb dX0_drawn_79 (by decide) ?_
      refine lv_isub hx hb dX0_drawn_81 ?_
      obtain ⟨F38, h39, hf⟩ := jm_wr_some hf
      refine jw_iast (r := v3) hx hb hK hst h39 dX0_drawn_82 (fun H locs hst => ?_)
      generalize ((Mm30.1, Mm30.2.1, F38) : Mem) = Mm40 at hf hst
      refine lv_iinc (i := 6) (v := (v6 + 1)) (lv' := [(6, .int (v6 + 1)), (4, .long x37), (0, va_rf (some a0)), (1, .int v1), (3, va_rf v3)]) hx hb dX0_drawn_83 hl (k := 4) rfl (by rfl) (by decide) rfl (fun ls hl => ?_)
      refine lv_goto (tgt := 44) hx hb dX0_drawn_86 (by decide) ?_
      obtain ⟨rfl, rfl⟩ := jm_ret_some hf
      exact jm_or_l hk44 _ _ _ _ _ hst (lv_sub hl [2, 3, 4, 1, 0] rfl)
  unfold jf_X0_drawn at hf
  refine jw_aload_n (r := (some a0)) hx hb dX0_drawn_0 rfl (lv_at hl 0 rfl) ?_
  obtain ⟨x19, h20, hf⟩ := jm_rd_some hf
  refine jw_getR hx hb hts hown hK hst (fl_X0_75 hts hK) h20 dX0_drawn_1 ?_
  refine jw_ifnonnull (tgt := 10) hx hb dX0_drawn_4 (by decide) (fun hc => ?_) (fun hc => ?_)
  · rw [if_neg hc] at hf
    refine lv_iload_n hx hb dX0_drawn_10 rfl (lv_at hl 1 rfl) ?_
    obtain ⟨x21, Mm22, h23, hf⟩ := jm_bd_some hf
    refine jw_S (As := [.int v1]) (rest := []) (jt_X0_isChain l g b N v1 M Mm22 x21 h23) C0 hK hst (jm_mono h23) (jm_le_tr (jm_mono hf) jm_le_rf) q508 q509 q72 q510 hd_X0_isChain.2 ⟨Nat.le_of_ble_eq_true rfl, Nat.le_of_ble_eq_true rfl⟩ rfl hl.1 rfl (by rw [cs_n]; exact Nat.le_of_ble_eq_true rfl) dX0_drawn_11 (fun H locs cells slots hst => ?_)
    refine W.eq (g2 := F0 m 14 ls [.int x21]) rfl ?_
    refine lv_if_eq (tgt := 29) hx hb dX0_drawn_14 (by decide) (fun hc => ?_) (fun hc => ?_)
    · rw [if_pos hc] at hf
      refine lv_ldc hx hb hown (hts _ q134) dX0_drawn_29 ?_
      obtain ⟨rfl, rfl⟩ := jm_ret_some hf
      exact jw_iret C0 hst dX0_drawn_31
    · rw [if_neg hc] at hf
      refine lv_iload_n hx hb dX0_drawn_17 rfl (lv_at hl 2 rfl) ?_
      refine lv_i2l hx hb dX0_drawn_18 rfl ?_
      refine lv_lconst (v := 1) hx hb dX0_drawn_19 (by decide) ?_
      refine lv_ldc2 hx hb hown (hts _ q534) dX0_drawn_20 ?_
      obtain ⟨x24, Mm25, h26, hf⟩ := jm_bd_some hf
      refine jw_S (As := [.long (v2.toInt64), .long (1 : Int64), .long (999999 : Int64)]) (rest := []) (jt_X0_isIn l g b N (v2.toInt64) (1 : Int64) (999999 : Int64) Mm22 Mm25 x24 h26) C0 hK hst (jm_mono h26) (jm_le_tr (jm_mono hf) jm_le_rf) q131 q132 q72 q133 hd_X0_isIn.2 ⟨Nat.le_of_ble_eq_true rfl, Nat.le_of_ble_eq_true rfl⟩ rfl hl.1 rfl (by rw [cs_n]; exact Nat.le_of_ble_eq_true rfl) dX0_drawn_23 (fun H locs cells slots hst => ?_)
      refine W.eq (g2 := F0 m 26 ls [.int x24]) rfl ?_
      refine lv_if_ne (tgt := 32) hx hb dX0_drawn_26 (by decide) (fun hc => ?_) (fun hc => ?_)
      · rw [if_neg hc] at hf
        refine lv_bipush (v := 6) hx hb dX0_drawn_32 (by decide) ?_
        obtain ⟨_, h27, hf⟩ := jm_rd_some hf
        have h27 := jm_ck_some h27
        obtain ⟨q28, hq28, hf⟩ := jm_al_some hf
        refine jw_newa (kd := 0) (ty := .int) (atype := .int) (a0 := ((6 : Int32).toNatClampNeg, .inl (fun _ => 0))) hx hb (hts _ q339) rfl hK hst rfl (fun _ => rfl) rfl (fun h => h) h27.1 rfl (Nat.le_trans (Nat.mul_le_mul_right _ h27.2) (by decide)) (jm_le_tr (jm_mono hf) jm_le_rf) hq28 dX0_drawn_34 (fun H cells slots hst => ?_)
        generalize jm_new (.inl (0, (6 : Int32).toNatClampNeg, .inl (fun _ => 0))) Mm25 = Mm29 at hf hst
        refine jw_astore_n (i := 3) (r := (some q28)) (lv' := [(3, va_rf (some q28)), (0, va_rf (some a0)), (1, .int v1), (2, .int v2)]) hx hb dX0_drawn_36 rfl hl (by decide) rfl (fun ls hl => ?_)
        refine lv_iload_n hx hb dX0_drawn_37 rfl (lv_at hl 3 rfl) ?_
        refine lv_i2l hx hb dX0_drawn_38 rfl ?_
        refine lv_lstore (i := 4) (lv' := [(4, .long (v2.toInt64)), (3, va_rf (some q28)), (0, va_rf (some a0)), (1, .int v1), (2, .int v2)]) hx hb dX0_drawn_39 hl (by decide) (by simp [va_rf_cat, cat_i, cat_j, cat_f]) (fun ls hl => ?_)
        refine lv_iconst (v := 0) hx hb dX0_drawn_41 (by decide) ?_
        refine lv_istore (i := 6) (lv' := [(6, .int (0 : Int32)), (4, .long (v2.toInt64)), (3, va_rf (some q28)), (0, va_rf (some a0)), (1, .int v1), (2, .int v2)]) hx hb dX0_drawn_42 hl (by decide) rfl (fun ls hl => ?_)
        obtain ⟨xl44, Ml44, hit44, hf⟩ := jm_bd_some hf
        have hlf44 : jm_le Ml44 M' := jm_le_tr (jm_mono hf) jm_le_rf
        have hwe44 : (fun (y : Unit) (Mz : Mem) => ∀ (H : Heap) (locs : List Loc) (cells slots : Nat) (ls : Array Slot), jm_St g b M M' Mz s (jm_rm 3 67 M M') H locs cells slots → lv_has ls 7 [(0, va_rf (some a0)), (1, .int v1), (3, va_rf (some q28))] → W p l e (jm_rm 3 67 M M') s m args below meth c H locs cells slots (jm_MQ below g b (some (.int r)) M M' args s) (F0 m 89 ls [])) xl44 Ml44 := fun H locs cells slots ls hst hl => K44_89 a0 v1 (some q28) _ hf H locs cells slots ls hst hl
        refine jm_it_walk (Mf := M') (Wh := fun (z : Int64 × Int32) (Mz : Mem) => ∀ (H : Heap) (locs : List Loc) (cells slots : Nat) (ls : Array Slot), jm_St g b M M' Mz s (jm_rm 3 67 M M') H locs cells slots → lv_has ls 7 [(0, va_rf (some a0)), (1, .int v1), (3, va_rf (some q28)), (4, .long z.1), (6, .int z.2)] → W p l e (jm_rm 3 67 M M') s m args below meth c H locs cells slots (jm_MQ below g b (some (.int r)) M M' args s) (F0 m 44 ls [])) (We := fun (y : Unit) (Mz : Mem) => ∀ (H : Heap) (locs : List Loc) (cells slots : Nat) (ls : Array Slot), jm_St g b M M' Mz s (jm_rm 3 67 M M') H locs cells slots → lv_has ls 7 [(0, va_rf (some a0)), (1, .int v1), (3, va_rf (some q28))] → W p l e (jm_rm 3 67 M M') s m args below meth c H locs cells slots (jm_MQ below g b (some (.int r)) M M' args s) (F0 m 89 ls [])) ?_ N ((v2.toInt64), (0 : Int32)) Mm29 xl44 Ml44 hit44 hlf44 hwe44 _ _ _ _ _ hst (lv_sub hl [3, 4, 2, 1, 0] rfl)
        intro z Mm41 xe44 Me44 hf hle44 hk44 H locs cells slots ls hst hl
        obtain ⟨v4, v6⟩ := z
        have hf : (jf_X0_drawn_L44 N a0 v1 (some q28) v4 v6).1 Mm41 = some (xe44, Me44) := hf
        have hl : lv_has ls 7 [(0, va_rf (some a0)), (1, .int v1), (3, va_rf (some q28)), (4, .long v4), (6, .int v6)] := hl
        exact B44 a0 v1 (some q28) v4 v6 _ _ _ hf hle44 hk44 _ _ _ _ _ hst (lv_sub hl [0, 1, 2, 3, 4] rfl)
      · rw [if_pos hc] at hf
        refine lv_ldc hx hb hown (hts _ q134) dX0_drawn_29 ?_
        obtain ⟨rfl, rfl⟩ := jm_ret_some hf
        exact jw_iret C0 hst dX0_drawn_31
  · rw [if_pos hc] at hf
    refine lv_ldc hx hb hown (hts _ q389) dX0_drawn_7 ?_
    obtain ⟨rfl, rfl⟩ := jm_ret_some hf
    exact jw_iret C0 hst dX0_drawn_9
def jf_D_X7_letter (N : Nat) (r : Option Nat) (v0 : Int32) : jm_P Int32 :=
  jm_rd (jm_kl r) fun x => if x.2 = 7 then jf_X7_letter N x.1 v0 else if x.2 = 8 then jf_X7_letter N x.1 v0 else jm_no
theorem hd_X7_letter : yX7_letter.cls = RX7 ∧ yX7_letter.cls ≠ "java/lang/invoke/MethodHandle" ∧ yX7_letter.cls ≠ "java/lang/invoke/VarHandle" ∧ (parseMethodDescriptor yX7_letter.desc).map (fun d => d.parameters.length) = some 1 := by decide +kernel
theorem fl_X0_206 {g : GD} {s : State} {args : Array Value} (hts : ∀ w ∈ lw_all, w.before args s = true) (hK : jm_KG g s) : ∀ q ∈ ([7, 8] : List Nat), jm_FL s args RX0 206 q 0 := by
  intro q hq
  simp only [List.mem_cons, List.not_mem_nil, or_false] at hq
  rcases hq with rfl | rfl
  · exact ⟨RX7, TX7, 2, rfl, in_X7, by decide, "ChainParts$FaceCell", Or.inl (hts _ q330), fun _ h => h⟩
  · exact ⟨RX8, TX8, 2, rfl, in_X8, by decide, "ChainParts$FaceCell", Or.inl (hts _ q330), fun _ h => h⟩
theorem fl_X0_211 {g : GD} {s : State} {args : Array Value} (hts : ∀ w ∈ lw_all, w.before args s = true) (hK : jm_KG g s) : ∀ q ∈ ([5, 6] : List Nat), jm_FL s args RX0 211 q 1 := by
  intro q hq
  simp only [List.mem_cons, List.not_mem_nil, or_false] at hq
  rcases hq with rfl | rfl
  · exact ⟨RX5, TX5, 3, rfl, in_X5, by decide, "ChainParts$EdgeCell", Or.inl (hts _ q288), fun _ h => h⟩
  · exact ⟨RX6, TX6, 3, rfl, in_X6, by decide, "ChainParts$EdgeCell", Or.inl (hts _ q288), fun _ h => h⟩
theorem fl_X0_208 {g : GD} {s : State} {args : Array Value} (hts : ∀ w ∈ lw_all, w.before args s = true) (hK : jm_KG g s) : ∀ q ∈ ([5, 6] : List Nat), jm_FL s args RX0 208 q 0 := by
  intro q hq
  simp only [List.mem_cons, List.not_mem_nil, or_false] at hq
  rcases hq with rfl | rfl
  · exact ⟨RX5, TX5, 3, rfl, in_X5, by decide, "ChainParts$EdgeCell", Or.inl (hts _ q284), fun _ h => h⟩
  · exact ⟨RX6, TX6, 3, rfl, in_X6, by decide, "ChainParts$EdgeCell", Or.inl (hts _ q284), fun _ h => h⟩
def jf_X0_ofFace (N : Nat) (a0 : Nat) (v1 : Option Nat) (v2 : Int32) : jm_P Int32 :=
  if v2 = 0 then (
    jm_rd (jm_fI [7, 8] 1 v1) fun x44 =>
    jm_ret x44)
  else
    if v2 = (1 : Int32) then (
      jm_rd (jm_fR [7, 8] 0 v1) fun x40 =>
      jm_rd (jm_len 0 x40) fun x42 =>
      jm_ret x42)
    else
      if v2 = (2 : Int32) then (
        jm_rd (jm_fR [7, 8] 0 v1) fun x12 =>
        jm_rd (jm_ldI 0 x12 (0 : Int32)) fun x14 =>
        if x14 < 0 then (
          jm_rd (jm_fR [0] 0 (some a0)) fun x16 =>
          jm_rd (jm_fR [9] 1 x16) fun x18 =>
          jm_rd (jm_fR [7, 8] 0 v1) fun x20 =>
          jm_rd (jm_ldI 0 x20 (0 : Int32)) fun x22 =>
          jm_rd (jm_ldR 4 x18 ((-1 : Int32) - x22)) fun x24 =>
          jm_rd (jm_fI [5, 6] 1 x24) fun x26 =>
          jm_ret x26)
        else
          jm_rd (jm_fR [0] 0 (some a0)) fun x28 =>
          jm_rd (jm_fR [9] 1 x28) fun x30 =>
          jm_rd (jm_fR [7, 8] 0 v1) fun x32 =>
          jm_rd (jm_ldI 0 x32 (0 : Int32)) fun x34 =>
          jm_rd (jm_ldR 4 x30 x34) fun x36 =>
          jm_rd (jm_fI [5, 6] 0 x36) fun x38 =>
          jm_ret x38)
      else
        jm_bd (jf_X0_isIn N (v2.toInt64) (10 : Int64) (13 : Int64)) fun x1 =>
        if x1 = 0 then (
          jm_ret (-1000001 : Int32))
        else
          jm_bd (jf_D_X7_letter N v1 (v2 - (10 : Int32))) fun x4 =>
          jm_ret x4
set_option maxHeartbeats 4000000 in
set_option maxRecDepth 100000 in
theorem jt_X0_ofFace (l : Launch) (g : GD) (b N : Nat) (a0 : Nat) (v1 : Option Nat) (v2 : Int32) (M M' : Mem) (r : Int32) (hf : (jf_X0_ofFace N a0 v1 v2).1 M = some (r, M')) : jm_Met l g b yX0_ofFace (ws_ yX0_ofFace cX0_ofFace 3 (some .int)) 1 25 [va_rf (some a0), va_rf v1, .int v2] M M' (some (.int r)) := by
  refine jm_start (by decide) (jm_mono hf) (by rw [lg_sl_r, lg_sl_r, lg_sl_i, lg_sl_n]; exact Nat.le_of_ble_eq_true rfl) ?_
  intro p e s m args below meth c ls C0 hin hK hst hl
  obtain ⟨hx, hb, hml, hown, hts, hr, hlk⟩ := id C0
  have hown : s.vm.findClass RX0 = some m.cls := hown
  have C0 : jm_Cx p s m args meth c cX0_ofFace 3 (some .int) RX0 := C0
  rw [lv_args_r, lv_args_r, lv_args_i, lv_args_n] at hl
  have hl : lv_has ls 3 [(0, va_rf (some a0)), (1, va_rf v1), (2, .int v2)] := hl
  unfold jf_X0_ofFace at hf
  refine lv_iload_n hx hb dX0_ofFace_0 rfl (lv_at hl 2 rfl) ?_
  refine lv_if_ne (tgt := 9) hx hb dX0_ofFace_1 (by decide) (fun hc => ?_) (fun hc => ?_)
  · rw [if_neg hc] at hf
    refine lv_iload_n hx hb dX0_ofFace_9 rfl (lv_at hl 2 rfl) ?_
    refine lv_iconst (v := 1) hx hb dX0_ofFace_10 (by decide) ?_
    refine lv_icmp_ne (tgt := 20) hx hb dX0_ofFace_11 (by decide) (fun hc => ?_) (fun hc => ?_)
    · rw [if_neg hc] at hf
      refine lv_iload_n hx hb dX0_ofFace_20 rfl (lv_at hl 2 rfl) ?_
      refine lv_iconst (v := 2) hx hb dX0_ofFace_21 (by decide) ?_
      refine lv_icmp_ne (tgt := 74) hx hb dX0_ofFace_22 (by decide) (fun hc => ?_) (fun hc => ?_)
      · rw [if_neg hc] at hf
        refine lv_iload_n hx hb dX0_ofFace_74 rfl (lv_at hl 2 rfl) ?_
        refine lv_i2l hx hb dX0_ofFace_75 rfl ?_
        refine lv_ldc2 hx hb hown (hts _ q553) dX0_ofFace_76 ?_
        refine lv_ldc2 hx hb hown (hts _ q554) dX0_ofFace_79 ?_
        obtain ⟨x1, Mm2, h3, hf⟩ := jm_bd_some hf
        refine jw_S (As := [.long (v2.toInt64), .long (10 : Int64), .long (13 : Int64)]) (rest := []) (jt_X0_isIn l g b N (v2.toInt64) (10 : Int64) (13 : Int64) M Mm2 x1 h3) C0 hK hst (jm_mono h3) (jm_le_tr (jm_mono hf) jm_le_rf) q131 q132 q72 q133 hd_X0_isIn.2 ⟨Nat.le_of_ble_eq_true rfl, Nat.le_of_ble_eq_true rfl⟩ rfl hl.1 rfl (by rw [cs_n]; exact Nat.le_of_ble_eq_true rfl) dX0_ofFace_82 (fun H locs cells slots hst => ?_)
        refine W.eq (g2 := F0 m 85 ls [.int x1]) rfl ?_
        refine lv_if_eq (tgt := 99) hx hb dX0_ofFace_85 (by decide) (fun hc => ?_) (fun hc => ?_)
        · rw [if_pos hc] at hf
          refine lv_ldc hx hb hown (hts _ q134) dX0_ofFace_99 ?_
          obtain ⟨rfl, rfl⟩ := jm_ret_some hf
          exact jw_iret C0 hst dX0_ofFace_101
        · rw [if_neg hc] at hf
          refine jw_aload_n (r := v1) hx hb dX0_ofFace_88 rfl (lv_at hl 1 rfl) ?_
          refine lv_iload_n hx hb dX0_ofFace_89 rfl (lv_at hl 2 rfl) ?_
          refine lv_bipush (v := 10) hx hb dX0_ofFace_90 (by decide) ?_
          refine lv_isub hx hb dX0_ofFace_92 ?_
          obtain ⟨x4, Mm5, h6, hf⟩ := jm_bd_some hf
          have hKh6 : ∀ (H1 : Heap) (locs1 : List Loc) (cells1 slots1 : Nat), jm_St g b M M' Mm5 s (jm_rm 1 25 M M') H1 locs1 cells1 slots1 → W p l e (jm_rm 1 25 M M') s m args below meth c H1 locs1 cells1 slots1 (jm_MQ below g b (some (.int r)) M M' args s) (F0 m (93 + 3) ls (Option.toList (some (.int x4)) ++ [])) := by
            intro H locs cells slots hst
            refine W.eq (g2 := F0 m 96 ls [.int x4]) rfl ?_
            refine lv_goto (tgt := 101) hx hb dX0_ofFace_96 (by decide) ?_
            obtain ⟨rfl, rfl⟩ := jm_ret_some hf
            exact jw_iret C0 hst dX0_ofFace_101
          have hbh6 := jm_mono h6
          have hch6 := jm_le_tr (jm_mono hf) jm_le_rf
          unfold jf_D_X7_letter at h6
          obtain ⟨z7, h8, h6⟩ := jm_rd_some h6
          obtain ⟨fs9, hv10, hr11⟩ := jm_kl_some h8
          by_cases hc : z7.2 = 7
          · rw [if_pos hc] at h6
            rw [hc] at hr11
            exact jw_V (As := [.int (v2 - (10 : Int32))]) (rest := []) (C := RX7) (T := TX7) (N := 2) (rv := v1) (jt_X7_letter l g b N z7.1 (v2 - (10 : Int32)) Mm2 Mm5 x4 h6) C0 hK hst hbh6 hch6 q555 q556 q557 q82 q560 hd_X7_letter ⟨Nat.le_of_ble_eq_true rfl, Nat.le_of_ble_eq_true rfl⟩ hv10 hr11 rfl rfl hl.1 rfl (by rw [cs_n]; exact Nat.le_of_ble_eq_true rfl) dX0_ofFace_93 hKh6
          rw [if_neg hc] at h6
          by_cases hc : z7.2 = 8
          · rw [if_pos hc] at h6
            rw [hc] at hr11
            exact jw_U (As := [.int (v2 - (10 : Int32))]) (rest := []) (C := RX8) (T := TX8) (N := 2) (rv := v1) (owner := RX7) (x := yX7_letter) (jt_X7_letter l g b N z7.1 (v2 - (10 : Int32)) Mm2 Mm5 x4 h6) C0 hK hst hbh6 hch6 (jm_cwU hts q555 q558 q559 q556 q82 q560 rfl hd_X7_letter.2 ⟨Nat.le_of_ble_eq_true rfl, Nat.le_of_ble_eq_true rfl⟩) hv10 hr11 rfl rfl hl.1 rfl (by rw [cs_n]; exact Nat.le_of_ble_eq_true rfl) dX0_ofFace_93 hKh6
          rw [if_neg hc] at h6
          exact (jm_no_some h6).elim
      · rw [if_pos hc] at hf
        refine jw_aload_n (r := v1) hx hb dX0_ofFace_25 rfl (lv_at hl 1 rfl) ?_
        obtain ⟨x12, h13, hf⟩ := jm_rd_some hf
        refine jw_getR hx hb hts hown hK hst (fl_X0_206 hts hK) h13 dX0_ofFace_26 ?_
        refine lv_iconst (v := 0) hx hb dX0_ofFace_29 (by decide) ?_
        obtain ⟨x14, h15, hf⟩ := jm_rd_some hf
        refine jw_iald hx hb hK hst h15 dX0_ofFace_30 ?_
        refine lv_if_lt (tgt := 54) hx hb dX0_ofFace_31 (by decide) (fun hc => ?_) (fun hc => ?_)
        · rw [if_pos hc] at hf
          refine jw_aload_n (r := (some a0)) hx hb dX0_ofFace_54 rfl (lv_at hl 0 rfl) ?_
          obtain ⟨x16, h17, hf⟩ := jm_rd_some hf
          refine jw_getR hx hb hts hown hK hst (fl_X0_75 hts hK) h17 dX0_ofFace_55 ?_
          obtain ⟨x18, h19, hf⟩ := jm_rd_some hf
          refine jw_getR hx hb hts hown hK hst (fl_X0_97 hts hK) h19 dX0_ofFace_58 ?_
          refine lv_iconst (v := -1) hx hb dX0_ofFace_61 (by decide) ?_
          refine jw_aload_n (r := v1) hx hb dX0_ofFace_62 rfl (lv_at hl 1 rfl) ?_
          obtain ⟨x20, h21, hf⟩ := jm_rd_some hf
          refine jw_getR hx hb hts hown hK hst (fl_X0_206 hts hK) h21 dX0_ofFace_63 ?_
          refine lv_iconst (v := 0) hx hb dX0_ofFace_66 (by decide) ?_
          obtain ⟨x22, h23, hf⟩ := jm_rd_some hf
          refine jw_iald hx hb hK hst h23 dX0_ofFace_67 ?_
          refine lv_isub hx hb dX0_ofFace_68 ?_
          obtain ⟨x24, h25, hf⟩ := jm_rd_some hf
          refine jw_aald hx hb hK hst (show jm_ty[4]? = some (.object "ChainParts$EdgeCell") from rfl) rfl h25 dX0_ofFace_69 ?_
          obtain ⟨x26, h27, hf⟩ := jm_rd_some hf
          refine jw_getI hx hb hts hown hK hst (fl_X0_211 hts hK) h27 dX0_ofFace_70 ?_
          obtain ⟨rfl, rfl⟩ := jm_ret_some hf
          exact jw_iret C0 hst dX0_ofFace_73
        · rw [if_neg hc] at hf
          refine jw_aload_n (r := (some a0)) hx hb dX0_ofFace_34 rfl (lv_at hl 0 rfl) ?_
          obtain ⟨x28, h29, hf⟩ := jm_rd_some hf
          refine jw_getR hx hb hts hown hK hst (fl_X0_75 hts hK) h29 dX0_ofFace_35 ?_
          obtain ⟨x30, h31, hf⟩ := jm_rd_some hf
          refine jw_getR hx hb hts hown hK hst (fl_X0_97 hts hK) h31 dX0_ofFace_38 ?_
          refine jw_aload_n (r := v1) hx hb dX0_ofFace_41 rfl (lv_at hl 1 rfl) ?_
          obtain ⟨x32, h33, hf⟩ := jm_rd_some hf
          refine jw_getR hx hb hts hown hK hst (fl_X0_206 hts hK) h33 dX0_ofFace_42 ?_
          refine lv_iconst (v := 0) hx hb dX0_ofFace_45 (by decide) ?_
          obtain ⟨x34, h35, hf⟩ := jm_rd_some hf
          refine jw_iald hx hb hK hst h35 dX0_ofFace_46 ?_
          obtain ⟨x36, h37, hf⟩ := jm_rd_some hf
          refine jw_aald hx hb hK hst (show jm_ty[4]? = some (.object "ChainParts$EdgeCell") from rfl) rfl h37 dX0_ofFace_47 ?_
          obtain ⟨x38, h39, hf⟩ := jm_rd_some hf
          refine jw_getI hx hb hts hown hK hst (fl_X0_208 hts hK) h39 dX0_ofFace_48 ?_
          refine lv_goto (tgt := 73) hx hb dX0_ofFace_51 (by decide) ?_
          obtain ⟨rfl, rfl⟩ := jm_ret_some hf
          exact jw_iret C0 hst dX0_ofFace_73
    · rw [if_pos hc] at hf
      refine jw_aload_n (r := v1) hx hb dX0_ofFace_14 rfl (lv_at hl 1 rfl) ?_
      obtain ⟨x40, h41, hf⟩ := jm_rd_some hf
      refine jw_getR hx hb hts hown hK hst (fl_X0_206 hts hK) h41 dX0_ofFace_15 ?_
      obtain ⟨x42, h43, hf⟩ := jm_rd_some hf
      refine jw_alen hx hb hK hst (show jm_ty[0]? = some .int from rfl) h43 dX0_ofFace_18 ?_
      obtain ⟨rfl, rfl⟩ := jm_ret_some hf
      exact jw_iret C0 hst dX0_ofFace_19
  · rw [if_pos hc] at hf
    refine jw_aload_n (r := v1) hx hb dX0_ofFace_4 rfl (lv_at hl 1 rfl) ?_
    obtain ⟨x44, h45, hf⟩ := jm_rd_some hf
    refine jw_getI hx hb hts hown hK hst (fl_X0_124 hts hK) h45 dX0_ofFace_5 ?_
    obtain ⟨rfl, rfl⟩ := jm_ret_some hf
    exact jw_iret C0 hst dX0_ofFace_8
theorem hd_X0_ofFace : yX0_ofFace.cls = RX0 ∧ yX0_ofFace.cls ≠ "java/lang/invoke/MethodHandle" ∧ yX0_ofFace.cls ≠ "java/lang/invoke/VarHandle" ∧ (parseMethodDescriptor yX0_ofFace.desc).map (fun d => d.parameters.length) = some 2 := by decide +kernel
def jf_D_X5_told (N : Nat) (r : Option Nat) (v0 : Int32) : jm_P Int32 :=
  jm_rd (jm_kl r) fun x => if x.2 = 5 then jf_X5_told N x.1 v0 else if x.2 = 6 then jf_X5_told N x.1 v0 else jm_no
theorem hd_X5_told : yX5_told.cls = RX5 ∧ yX5_told.cls ≠ "java/lang/invoke/MethodHandle" ∧ yX5_told.cls ≠ "java/lang/invoke/VarHandle" ∧ (parseMethodDescriptor yX5_told.desc).map (fun d => d.parameters.length) = some 1 := by decide +kernel
def jf_X0_cell (N : Nat) (a0 : Nat) (v1 : Int32) (v2 : Int32) (v3 : Int32) : jm_P Int32 :=
  if v1 = 0 then (
    jm_ret (-1000001 : Int32))
  else
    jm_rd (jm_cl 0 (some a0)) fun a4 =>
    jm_bd (jf_X0_isCell N a4 v1 v2) fun x1 =>
    if x1 = 0 then (
      jm_ret (-1000001 : Int32))
    else
      if v1 = (1 : Int32) then (
        jm_rd (jm_fR [0] 0 (some a0)) fun x19 =>
        jm_rd (jm_fR [9] 1 x19) fun x21 =>
        jm_rd (jm_ldR 4 x21 v2) fun x23 =>
        jm_bd (jf_D_X5_told N x23 v3) fun x25 =>
        jm_ret x25)
      else
        jm_rd (jm_fR [0] 0 (some a0)) fun x7 =>
        jm_rd (jm_fR [9] 2 x7) fun x9 =>
        jm_rd (jm_ldR 5 x9 v2) fun x11 =>
        jm_rd (jm_cl 0 (some a0)) fun a16 =>
        jm_bd (jf_X0_ofFace N a16 x11 v3) fun x13 =>
        jm_ret x13
set_option maxHeartbeats 4000000 in
set_option maxRecDepth 100000 in
theorem jt_X0_cell (l : Launch) (g : GD) (b N : Nat) (a0 : Nat) (v1 : Int32) (v2 : Int32) (v3 : Int32) (M M' : Mem) (r : Int32) (hf : (jf_X0_cell N a0 v1 v2 v3).1 M = some (r, M')) : jm_Met l g b yX0_cell (ws_ yX0_cell cX0_cell 4 (some .int)) 2 47 [va_rf (some a0), .int v1, .int v2, .int v3] M M' (some (.int r)) := by
  refine jm_start (by decide) (jm_mono hf) (by rw [lg_sl_r, lg_sl_i, lg_sl_i, lg_sl_i, lg_sl_n]; exact Nat.le_of_ble_eq_true rfl) ?_
  intro p e s m args below meth c ls C0 hin hK hst hl
  obtain ⟨hx, hb, hml, hown, hts, hr, hlk⟩ := id C0
  have hown : s.vm.findClass RX0 = some m.cls := hown
  have C0 : jm_Cx p s m args meth c cX0_cell 4 (some .int) RX0 := C0
  rw [lv_args_r, lv_args_i, lv_args_i, lv_args_i, lv_args_n] at hl
  have hl : lv_has ls 4 [(0, va_rf (some a0)), (1, .int v1), (2, .int v2), (3, .int v3)] := hl
  unfold jf_X0_cell at hf
  refine lv_iload_n hx hb dX0_cell_0 rfl (lv_at hl 1 rfl) ?_
  refine lv_if_eq (tgt := 13) hx hb dX0_cell_1 (by decide) (fun hc => ?_) (fun hc => ?_)
  · rw [if_pos hc] at hf
    refine lv_ldc hx hb hown (hts _ q134) dX0_cell_13 ?_
    obtain ⟨rfl, rfl⟩ := jm_ret_some hf
    exact jw_iret C0 hst dX0_cell_15
  · rw [if_neg hc] at hf
    refine jw_aload_n (r := (some a0)) hx hb dX0_cell_4 rfl (lv_at hl 0 rfl) ?_
    refine lv_iload_n hx hb dX0_cell_5 rfl (lv_at hl 1 rfl) ?_
    refine lv_iload_n hx hb dX0_cell_6 rfl (lv_at hl 2 rfl) ?_
    obtain ⟨a4, h5, hf⟩ := jm_rd_some hf
    obtain ⟨fsa4, hea4, hr6⟩ := jm_cl_some h5
    obtain ⟨x1, Mm2, h3, hf⟩ := jm_bd_some hf
    refine jw_V (As := [.int v1, .int v2]) (rest := []) (C := RX0) (T := TX0) (N := 7) (rv := (some a0)) (jt_X0_isCell l g b N a4 v1 v2 M Mm2 x1 h3) C0 hK hst (jm_mono h3) (jm_le_tr (jm_mono hf) jm_le_rf) q394 q396 qs7 q72 q397 hd_X0_isCell ⟨Nat.le_of_ble_eq_true rfl, Nat.le_of_ble_eq_true rfl⟩ hea4 hr6 rfl rfl hl.1 rfl (by rw [cs_n]; exact Nat.le_of_ble_eq_true rfl) dX0_cell_7 (fun H locs cells slots hst => ?_)
    refine W.eq (g2 := F0 m 10 ls [.int x1]) rfl ?_
    refine lv_if_ne (tgt := 16) hx hb dX0_cell_10 (by decide) (fun hc => ?_) (fun hc => ?_)
    · rw [if_neg hc] at hf
      refine lv_iload_n hx hb dX0_cell_16 rfl (lv_at hl 1 rfl) ?_
      refine lv_iconst (v := 1) hx hb dX0_cell_17 (by decide) ?_
      refine lv_icmp_ne (tgt := 37) hx hb dX0_cell_18 (by decide) (fun hc => ?_) (fun hc => ?_)
      · rw [if_neg hc] at hf
        refine jw_aload_n (r := (some a0)) hx hb dX0_cell_37 rfl (lv_at hl 0 rfl) ?_
        refine jw_aload_n (r := (some a0)) hx hb dX0_cell_38 rfl (lv_at hl 0 rfl) ?_
        obtain ⟨x7, h8, hf⟩ := jm_rd_some hf
        refine jw_getR hx hb hts hown hK hst (fl_X0_75 hts hK) h8 dX0_cell_39 ?_
        obtain ⟨x9, h10, hf⟩ := jm_rd_some hf
        refine jw_getR hx hb hts hown hK hst (fl_X0_101 hts hK) h10 dX0_cell_42 ?_
        refine lv_iload_n hx hb dX0_cell_45 rfl (lv_at hl 2 rfl) ?_
        obtain ⟨x11, h12, hf⟩ := jm_rd_some hf
        refine jw_aald hx hb hK hst (show jm_ty[5]? = some (.object "ChainParts$FaceCell") from rfl) rfl h12 dX0_cell_46 ?_
        refine lv_iload_n hx hb dX0_cell_47 rfl (lv_at hl 3 rfl) ?_
        obtain ⟨a16, h17, hf⟩ := jm_rd_some hf
        obtain ⟨fsa16, hea16, hr18⟩ := jm_cl_some h17
        obtain ⟨x13, Mm14, h15, hf⟩ := jm_bd_some hf
        refine jw_V (As := [va_rf x11, .int v3]) (rest := []) (C := RX0) (T := TX0) (N := 7) (rv := (some a0)) (jt_X0_ofFace l g b N a16 x11 v3 Mm2 Mm14 x13 h15) C0 hK hst (jm_mono h15) (jm_le_tr (jm_mono hf) jm_le_rf) q549 q551 qs10 q72 q552 hd_X0_ofFace ⟨Nat.le_of_ble_eq_true rfl, Nat.le_of_ble_eq_true rfl⟩ hea16 hr18 rfl rfl hl.1 rfl (by rw [cs_n]; exact Nat.le_of_ble_eq_true rfl) dX0_cell_48 (fun H locs cells slots hst => ?_)
        refine W.eq (g2 := F0 m 51 ls [.int x13]) rfl ?_
        obtain ⟨rfl, rfl⟩ := jm_ret_some hf
        exact jw_iret C0 hst dX0_cell_51
      · rw [if_pos hc] at hf
        refine jw_aload_n (r := (some a0)) hx hb dX0_cell_21 rfl (lv_at hl 0 rfl) ?_
        obtain ⟨x19, h20, hf⟩ := jm_rd_some hf
        refine jw_getR hx hb hts hown hK hst (fl_X0_75 hts hK) h20 dX0_cell_22 ?_
        obtain ⟨x21, h22, hf⟩ := jm_rd_some hf
        refine jw_getR hx hb hts hown hK hst (fl_X0_97 hts hK) h22 dX0_cell_25 ?_
        refine lv_iload_n hx hb dX0_cell_28 rfl (lv_at hl 2 rfl) ?_
        obtain ⟨x23, h24, hf⟩ := jm_rd_some hf
        refine jw_aald hx hb hK hst (show jm_ty[4]? = some (.object "ChainParts$EdgeCell") from rfl) rfl h24 dX0_cell_29 ?_
        refine lv_iload_n hx hb dX0_cell_30 rfl (lv_at hl 3 rfl) ?_
        obtain ⟨x25, Mm26, h27, hf⟩ := jm_bd_some hf
        have hKh27 : ∀ (H1 : Heap) (locs1 : List Loc) (cells1 slots1 : Nat), jm_St g b M M' Mm26 s (jm_rm 2 47 M M') H1 locs1 cells1 slots1 → W p l e (jm_rm 2 47 M M') s m args below meth c H1 locs1 cells1 slots1 (jm_MQ below g b (some (.int r)) M M' args s) (F0 m (31 + 3) ls (Option.toList (some (.int x25)) ++ [])) := by
          intro H locs cells slots hst
          refine W.eq (g2 := F0 m 34 ls [.int x25]) rfl ?_
          refine lv_goto (tgt := 51) hx hb dX0_cell_34 (by decide) ?_
          obtain ⟨rfl, rfl⟩ := jm_ret_some hf
          exact jw_iret C0 hst dX0_cell_51
        have hbh27 := jm_mono h27
        have hch27 := jm_le_tr (jm_mono hf) jm_le_rf
        unfold jf_D_X5_told at h27
        obtain ⟨z28, h29, h27⟩ := jm_rd_some h27
        obtain ⟨fs30, hv31, hr32⟩ := jm_kl_some h29
        by_cases hc : z28.2 = 5
        · rw [if_pos hc] at h27
          rw [hc] at hr32
          exact jw_V (As := [.int v3]) (rest := []) (C := RX5) (T := TX5) (N := 3) (rv := x23) (jt_X5_told l g b N z28.1 v3 Mm2 Mm26 x25 h27) C0 hK hst hbh27 hch27 q542 q543 q544 q79 q547 hd_X5_told ⟨Nat.le_of_ble_eq_true rfl, Nat.le_of_ble_eq_true rfl⟩ hv31 hr32 rfl rfl hl.1 rfl (by rw [cs_n]; exact Nat.le_of_ble_eq_true rfl) dX0_cell_31 hKh27
        rw [if_neg hc] at h27
        by_cases hc : z28.2 = 6
        · rw [if_pos hc] at h27
          rw [hc] at hr32
          exact jw_U (As := [.int v3]) (rest := []) (C := RX6) (T := TX6) (N := 3) (rv := x23) (owner := RX5) (x := yX5_told) (jt_X5_told l g b N z28.1 v3 Mm2 Mm26 x25 h27) C0 hK hst hbh27 hch27 (jm_cwU hts q542 q545 q546 q543 q79 q547 rfl hd_X5_told.2 ⟨Nat.le_of_ble_eq_true rfl, Nat.le_of_ble_eq_true rfl⟩) hv31 hr32 rfl rfl hl.1 rfl (by rw [cs_n]; exact Nat.le_of_ble_eq_true rfl) dX0_cell_31 hKh27
        rw [if_neg hc] at h27
        exact (jm_no_some h27).elim
    · rw [if_pos hc] at hf
      refine lv_ldc hx hb hown (hts _ q134) dX0_cell_13 ?_
      obtain ⟨rfl, rfl⟩ := jm_ret_some hf
      exact jw_iret C0 hst dX0_cell_15
theorem fl_X0_242 {g : GD} {s : State} {args : Array Value} (hts : ∀ w ∈ lw_all, w.before args s = true) (hK : jm_KG g s) : ∀ q ∈ ([11] : List Nat), jm_FL s args RX0 242 q 0 := by
  intro q hq
  simp only [List.mem_cons, List.not_mem_nil, or_false] at hq
  subst hq
  exact ⟨RX11, TX11, 3, rfl, in_X11, by decide, "ChainParts$Table", Or.inr ⟨"ChainParts", va_Nw.use rfl (hK.2.1 _ nq625)⟩, fun _ h => h⟩
def jf_X0_table (N : Nat) (a0 : Nat) (v1 : Int32) (v2 : Int32) (v3 : Int32) : jm_P Int32 :=
  if v1 = 0 then (
    jm_ret (-1000001 : Int32))
  else
    jm_rd (jm_cl 0 (some a0)) fun a4 =>
    jm_bd (jf_X0_isCell N a4 v1 v3) fun x1 =>
    if x1 = 0 then (
      jm_ret (-1000001 : Int32))
    else
      jm_rd (jm_cl 0 (some a0)) fun a10 =>
      jm_bd (jf_X0_isCell N a10 (v1 - (1 : Int32)) v2) fun x7 =>
      if x7 = 0 then (
        jm_ret (-1000001 : Int32))
      else
        jm_rd (jm_fR [0] 0 (some a0)) fun x13 =>
        jm_rd (jm_cl 9 x13) fun a18 =>
        jm_bd (jf_X9_table N a18 v1) fun x15 =>
        jm_rd (jm_fR [11] 0 x15) fun x21 =>
        jm_rd (jm_ldR 13 x21 v2) fun x23 =>
        jm_rd (jm_ldJ 2 x23 v3) fun x25 =>
        jm_ret (x25.toInt32)
set_option maxHeartbeats 4000000 in
set_option maxRecDepth 100000 in
theorem jt_X0_table (l : Launch) (g : GD) (b N : Nat) (a0 : Nat) (v1 : Int32) (v2 : Int32) (v3 : Int32) (M M' : Mem) (r : Int32) (hf : (jf_X0_table N a0 v1 v2 v3).1 M = some (r, M')) : jm_Met l g b yX0_table (ws_ yX0_table cX0_table 4 (some .int)) 3 66 [va_rf (some a0), .int v1, .int v2, .int v3] M M' (some (.int r)) := by
  refine jm_start (by decide) (jm_mono hf) (by rw [lg_sl_r, lg_sl_i, lg_sl_i, lg_sl_i, lg_sl_n]; exact Nat.le_of_ble_eq_true rfl) ?_
  intro p e s m args below meth c ls C0 hin hK hst hl
  obtain ⟨hx, hb, hml, hown, hts, hr, hlk⟩ := id C0
  have hown : s.vm.findClass RX0 = some m.cls := hown
  have C0 : jm_Cx p s m args meth c cX0_table 4 (some .int) RX0 := C0
  rw [lv_args_r, lv_args_i, lv_args_i, lv_args_i, lv_args_n] at hl
  have hl : lv_has ls 4 [(0, va_rf (some a0)), (1, .int v1), (2, .int v2), (3, .int v3)] := hl
  unfold jf_X0_table at hf
  refine lv_iload_n hx hb dX0_table_0 rfl (lv_at hl 1 rfl) ?_
  refine lv_if_eq (tgt := 43) hx hb dX0_table_1 (by decide) (fun hc => ?_) (fun hc => ?_)
  · rw [if_pos hc] at hf
    refine lv_ldc hx hb hown (hts _ q134) dX0_table_43 ?_
    obtain ⟨rfl, rfl⟩ := jm_ret_some hf
    exact jw_iret C0 hst dX0_table_45
  · rw [if_neg hc] at hf
    refine jw_aload_n (r := (some a0)) hx hb dX0_table_4 rfl (lv_at hl 0 rfl) ?_
    refine lv_iload_n hx hb dX0_table_5 rfl (lv_at hl 1 rfl) ?_
    refine lv_iload_n hx hb dX0_table_6 rfl (lv_at hl 3 rfl) ?_
    obtain ⟨a4, h5, hf⟩ := jm_rd_some hf
    obtain ⟨fsa4, hea4, hr6⟩ := jm_cl_some h5
    obtain ⟨x1, Mm2, h3, hf⟩ := jm_bd_some hf
    refine jw_V (As := [.int v1, .int v3]) (rest := []) (C := RX0) (T := TX0) (N := 7) (rv := (some a0)) (jt_X0_isCell l g b N a4 v1 v3 M Mm2 x1 h3) C0 hK hst (jm_mono h3) (jm_le_tr (jm_mono hf) jm_le_rf) q394 q396 qs7 q72 q397 hd_X0_isCell ⟨Nat.le_of_ble_eq_true rfl, Nat.le_of_ble_eq_true rfl⟩ hea4 hr6 rfl rfl hl.1 rfl (by rw [cs_n]; exact Nat.le_of_ble_eq_true rfl) dX0_table_7 (fun H locs cells slots hst => ?_)
    refine W.eq (g2 := F0 m 10 ls [.int x1]) rfl ?_
    refine lv_if_eq (tgt := 43) hx hb dX0_table_10 (by decide) (fun hc => ?_) (fun hc => ?_)
    · rw [if_pos hc] at hf
      refine lv_ldc hx hb hown (hts _ q134) dX0_table_43 ?_
      obtain ⟨rfl, rfl⟩ := jm_ret_some hf
      exact jw_iret C0 hst dX0_table_45
    · rw [if_neg hc] at hf
      refine jw_aload_n (r := (some a0)) hx hb dX0_table_13 rfl (lv_at hl 0 rfl) ?_
      refine lv_iload_n hx hb dX0_table_14 rfl (lv_at hl 1 rfl) ?_
      refine lv_iconst (v := 1) hx hb dX0_table_15 (by decide) ?_
      refine lv_isub hx hb dX0_table_16 ?_
      refine lv_iload_n hx hb dX0_table_17 rfl (lv_at hl 2 rfl) ?_
      obtain ⟨a10, h11, hf⟩ := jm_rd_some hf
      obtain ⟨fsa10, hea10, hr12⟩ := jm_cl_some h11
      obtain ⟨x7, Mm8, h9, hf⟩ := jm_bd_some hf
      refine jw_V (As := [.int (v1 - (1 : Int32)), .int v2]) (rest := []) (C := RX0) (T := TX0) (N := 7) (rv := (some a0)) (jt_X0_isCell l g b N a10 (v1 - (1 : Int32)) v2 Mm2 Mm8 x7 h9) C0 hK hst (jm_mono h9) (jm_le_tr (jm_mono hf) jm_le_rf) q394 q396 qs7 q72 q397 hd_X0_isCell ⟨Nat.le_of_ble_eq_true rfl, Nat.le_of_ble_eq_true rfl⟩ hea10 hr12 rfl rfl hl.1 rfl (by rw [cs_n]; exact Nat.le_of_ble_eq_true rfl) dX0_table_18 (fun H locs cells slots hst => ?_)
      refine W.eq (g2 := F0 m 21 ls [.int x7]) rfl ?_
      refine lv_if_eq (tgt := 43) hx hb dX0_table_21 (by decide) (fun hc => ?_) (fun hc => ?_)
      · rw [if_pos hc] at hf
        refine lv_ldc hx hb hown (hts _ q134) dX0_table_43 ?_
        obtain ⟨rfl, rfl⟩ := jm_ret_some hf
        exact jw_iret C0 hst dX0_table_45
      · rw [if_neg hc] at hf
        refine jw_aload_n (r := (some a0)) hx hb dX0_table_24 rfl (lv_at hl 0 rfl) ?_
        obtain ⟨x13, h14, hf⟩ := jm_rd_some hf
        refine jw_getR hx hb hts hown hK hst (fl_X0_75 hts hK) h14 dX0_table_25 ?_
        refine lv_iload_n hx hb dX0_table_28 rfl (lv_at hl 1 rfl) ?_
        obtain ⟨a18, h19, hf⟩ := jm_rd_some hf
        obtain ⟨fsa18, hea18, hr20⟩ := jm_cl_some h19
        obtain ⟨x15, Mm16, h17, hf⟩ := jm_bd_some hf
        refine jw_V (As := [.int v1]) (rest := []) (C := RX9) (T := TX9) (N := 4) (rv := x13) (jt_X9_table l g b N a18 v1 Mm8 Mm16 x15 h17) C0 hK hst (jm_mono h17) (jm_le_tr (jm_mono hf) jm_le_rf) q611 q612 q613 q84 q614 hd_X9_table ⟨Nat.le_of_ble_eq_true rfl, Nat.le_of_ble_eq_true rfl⟩ hea18 hr20 rfl rfl hl.1 rfl (by rw [cs_n]; exact Nat.le_of_ble_eq_true rfl) dX0_table_29 (fun H locs cells slots hst => ?_)
        refine W.eq (g2 := F0 m 32 ls [va_rf x15]) rfl ?_
        obtain ⟨x21, h22, hf⟩ := jm_rd_some hf
        refine jw_getR hx hb hts hown hK hst (fl_X0_242 hts hK) h22 dX0_table_32 ?_
        refine lv_iload_n hx hb dX0_table_35 rfl (lv_at hl 2 rfl) ?_
        obtain ⟨x23, h24, hf⟩ := jm_rd_some hf
        refine jw_aald hx hb hK hst (show jm_ty[13]? = some (.array .long) from rfl) rfl h24 dX0_table_36 ?_
        refine lv_iload_n hx hb dX0_table_37 rfl (lv_at hl 3 rfl) ?_
        obtain ⟨x25, h26, hf⟩ := jm_rd_some hf
        refine jw_lald hx hb hK hst h26 dX0_table_38 ?_
        refine lv_l2i hx hb dX0_table_39 rfl ?_
        refine lv_goto (tgt := 45) hx hb dX0_table_40 (by decide) ?_
        obtain ⟨rfl, rfl⟩ := jm_ret_some hf
        exact jw_iret C0 hst dX0_table_45
def jf_X0_near_j9 (N : Nat) (a0 : Nat) (v1 : Int32) (v2 : Int32) (v3 : Int32) (t0 : Int32) : jm_P Int32 :=
  jm_bd (jf_X0_isIn N (v1.toInt64) (0 : Int64) (2 : Int64)) fun x2 =>
  if x2 = 0 then (
    jm_ret (-1000001 : Int32))
  else
    jm_rd (jm_cl 0 (some a0)) fun a8 =>
    jm_bd (jf_X0_isCell N a8 t0 v2) fun x5 =>
    if x5 = 0 then (
      jm_ret (-1000001 : Int32))
    else
      jm_rd (jm_cl 0 (some a0)) fun a14 =>
      jm_bd (jf_X0_isCell N a14 t0 v3) fun x11 =>
      if x11 = 0 then (
        jm_ret (-1000001 : Int32))
      else
        jm_rd (jm_fR [0] 0 (some a0)) fun x17 =>
        jm_rd (jm_cl 9 x17) fun a22 =>
        jm_bd (jf_X9_near N a22 v1) fun x19 =>
        jm_rd (jm_fR [11] 0 x19) fun x25 =>
        jm_rd (jm_ldR 13 x25 v2) fun x27 =>
        jm_rd (jm_ldJ 2 x27 v3) fun x29 =>
        jm_ret (x29.toInt32)
def jf_X0_near (N : Nat) (a0 : Nat) (v1 : Int32) (v2 : Int32) (v3 : Int32) : jm_P Int32 :=
  if v1 = 0 then (
    jf_X0_near_j9 N a0 v1 v2 v3 (0 : Int32))
  else
    jf_X0_near_j9 N a0 v1 v2 v3 (1 : Int32)
set_option maxHeartbeats 4000000 in
set_option maxRecDepth 100000 in
theorem jt_X0_near (l : Launch) (g : GD) (b N : Nat) (a0 : Nat) (v1 : Int32) (v2 : Int32) (v3 : Int32) (M M' : Mem) (r : Int32) (hf : (jf_X0_near N a0 v1 v2 v3).1 M = some (r, M')) : jm_Met l g b yX0_near (ws_ yX0_near cX0_near 5 (some .int)) 5 110 [va_rf (some a0), .int v1, .int v2, .int v3] M M' (some (.int r)) := by
  refine jm_start (by decide) (jm_mono hf) (by rw [lg_sl_r, lg_sl_i, lg_sl_i, lg_sl_i, lg_sl_n]; exact Nat.le_of_ble_eq_true rfl) ?_
  intro p e s m args below meth c ls C0 hin hK hst hl
  obtain ⟨hx, hb, hml, hown, hts, hr, hlk⟩ := id C0
  have hown : s.vm.findClass RX0 = some m.cls := hown
  have C0 : jm_Cx p s m args meth c cX0_near 5 (some .int) RX0 := C0
  rw [lv_args_r, lv_args_i, lv_args_i, lv_args_i, lv_args_n] at hl
  have hl : lv_has ls 5 [(0, va_rf (some a0)), (1, .int v1), (2, .int v2), (3, .int v3)] := hl
  have J9 : ∀ (a0 : Nat) (v1 : Int32) (v2 : Int32) (v3 : Int32) (t0 : Int32) (Mm1 : Mem), (jf_X0_near_j9 N a0 v1 v2 v3 t0).1 Mm1 = some (r, M') → ∀ (H : Heap) (locs : List Loc) (cells slots : Nat) (ls : Array Slot), jm_St g b M M' Mm1 s (jm_rm 5 110 M M') H locs cells slots → lv_has ls 5 [(0, va_rf (some a0)), (1, .int v1), (2, .int v2), (3, .int v3)] → W p l e (jm_rm 5 110 M M') s m args below meth c H locs cells slots (jm_MQ below g b (some (.int r)) M M' args s) (F0 m 9 ls [.int t0]) := by
    intro a0 v1 v2 v3 t0 Mm1 hf H locs cells slots ls hst hl
    unfold jf_X0_near_j9 at hf
    refine lv_istore (i := 4) (lv' := [(4, .int t0), (0, va_rf (some a0)), (1, .int v1), (2, .int v2), (3, .int v3)]) hx hb dX0_near_9 hl (by decide) rfl (fun ls hl => ?_)
    refine lv_iload_n hx hb dX0_near_11 rfl (lv_at hl 2 rfl) ?_
    refine lv_i2l hx hb dX0_near_12 rfl ?_
    refine lv_lconst (v := 0) hx hb dX0_near_13 (by decide) ?_
    refine lv_ldc2 hx hb hown (hts _ q398) dX0_near_14 ?_
    obtain ⟨x2, Mm3, h4, hf⟩ := jm_bd_some hf
    refine jw_S (As := [.long (v1.toInt64), .long (0 : Int64), .long (2 : Int64)]) (rest := []) (jt_X0_isIn l g b N (v1.toInt64) (0 : Int64) (2 : Int64) Mm1 Mm3 x2 h4) C0 hK hst (jm_mono h4) (jm_le_tr (jm_mono hf) jm_le_rf) q131 q132 q72 q133 hd_X0_isIn.2 ⟨Nat.le_of_ble_eq_true rfl, Nat.le_of_ble_eq_true rfl⟩ rfl hl.1 rfl (by rw [cs_n]; exact Nat.le_of_ble_eq_true rfl) dX0_near_17 (fun H locs cells slots hst => ?_)
    refine W.eq (g2 := F0 m 20 ls [.int x2]) rfl ?_
    refine lv_if_eq (tgt := 62) hx hb dX0_near_20 (by decide) (fun hc => ?_) (fun hc => ?_)
    · rw [if_pos hc] at hf
      refine lv_ldc hx hb hown (hts _ q134) dX0_near_62 ?_
      obtain ⟨rfl, rfl⟩ := jm_ret_some hf
      exact jw_iret C0 hst dX0_near_64
    · rw [if_neg hc] at hf
      refine jw_aload_n (r := (some a0)) hx hb dX0_near_23 rfl (lv_at hl 1 rfl) ?_
      refine lv_iload hx hb dX0_near_24 (lv_at hl 0 rfl) ?_
      refine lv_iload_n hx hb dX0_near_26 rfl (lv_at hl 3 rfl) ?_
      obtain ⟨a8, h9, hf⟩ := jm_rd_some hf
      obtain ⟨fsa8, hea8, hr10⟩ := jm_cl_some h9
      obtain ⟨x5, Mm6, h7, hf⟩ := jm_bd_some hf
      refine jw_V (As := [.int t0, .int v2]) (rest := []) (C := RX0) (T := TX0) (N := 7) (rv := (some a0)) (jt_X0_isCell l g b N a8 t0 v2 Mm3 Mm6 x5 h7) C0 hK hst (jm_mono h7) (jm_le_tr (jm_mono hf) jm_le_rf) q394 q396 qs7 q72 q397 hd_X0_isCell ⟨Nat.le_of_ble_eq_true rfl, Nat.le_of_ble_eq_true rfl⟩ hea8 hr10 rfl rfl hl.1 rfl (by rw [cs_n]; exact Nat.le_of_ble_eq_true rfl) dX0_near_27 (fun H locs cells slots hst => ?_)
      refine W.eq (g2 := F0 m 30 ls [.int x5]) rfl ?_
      refine lv_if_eq (tgt := 62) hx hb dX0_near_30 (by decide) (fun hc => ?_) (fun hc => ?_)
      · rw [if_pos hc] at hf
        refine lv_ldc hx hb hown (hts _ q134) dX0_near_62 ?_
        obtain ⟨rfl, rfl⟩ := jm_ret_some hf
        exact jw_iret C0 hst dX0_near_64
      · rw [if_neg hc] at hf
        refine jw_aload_n (r := (some a0)) hx hb dX0_near_33 rfl (lv_at hl 1 rfl) ?_
        refine lv_iload hx hb dX0_near_34 (lv_at hl 0 rfl) ?_
        refine lv_iload_n hx hb dX0_near_36 rfl (lv_at hl 4 rfl) ?_
        obtain ⟨a14, h15, hf⟩ := jm_rd_some hf
        obtain ⟨fsa14, hea14, hr16⟩ := jm_cl_some h15
        obtain ⟨x11, Mm12, h13, hf⟩ := jm_bd_some hf
        refine jw_V (As := [.int t0, .int v3]) (rest := []) (C := RX0) (T := TX0) (N := 7) (rv := (some a0)) (jt_X0_isCell l g b N a14 t0 v3 Mm6 Mm12 x11 h13) C0 hK hst (jm_mono h13) (jm_le_tr (jm_mono hf) jm_le_rf) q394 q396 qs7 q72 q397 hd_X0_isCell ⟨Nat.le_of_ble_eq_true rfl, Nat.le_of_ble_eq_true rfl⟩ hea14 hr16 rfl rfl hl.1 rfl (by rw [cs_n]; exact Nat.le_of_ble_eq_true rfl) dX0_near_37 (fun H locs cells slots hst => ?_)
        refine W.eq (g2 := F0 m 40 ls [.int x11]) rfl ?_
        refine lv_if_eq (tgt := 62) hx hb dX0_near_40 (by decide) (fun hc => ?_) (fun hc => ?_)
        · rw [if_pos hc] at hf
          refine lv_ldc hx hb hown (hts _ q134) dX0_near_62 ?_
          obtain ⟨rfl, rfl⟩ := jm_ret_some hf
          exact jw_iret C0 hst dX0_near_64
        · rw [if_neg hc] at hf
          refine jw_aload_n (r := (some a0)) hx hb dX0_near_43 rfl (lv_at hl 1 rfl) ?_
          obtain ⟨x17, h18, hf⟩ := jm_rd_some hf
          refine jw_getR hx hb hts hown hK hst (fl_X0_75 hts hK) h18 dX0_near_44 ?_
          refine lv_iload_n hx hb dX0_near_47 rfl (lv_at hl 2 rfl) ?_
          obtain ⟨a22, h23, hf⟩ := jm_rd_some hf
          obtain ⟨fsa22, hea22, hr24⟩ := jm_cl_some h23
          obtain ⟨x19, Mm20, h21, hf⟩ := jm_bd_some hf
          refine jw_V (As := [.int v1]) (rest := []) (C := RX9) (T := TX9) (N := 4) (rv := x17) (jt_X9_near l g b N a22 v1 Mm12 Mm20 x19 h21) C0 hK hst (jm_mono h21) (jm_le_tr (jm_mono hf) jm_le_rf) q643 q644 q645 q84 q646 hd_X9_near ⟨Nat.le_of_ble_eq_true rfl, Nat.le_of_ble_eq_true rfl⟩ hea22 hr24 rfl rfl hl.1 rfl (by rw [cs_n]; exact Nat.le_of_ble_eq_true rfl) dX0_near_48 (fun H locs cells slots hst => ?_)
          refine W.eq (g2 := F0 m 51 ls [va_rf x19]) rfl ?_
          obtain ⟨x25, h26, hf⟩ := jm_rd_some hf
          refine jw_getR hx hb hts hown hK hst (fl_X0_242 hts hK) h26 dX0_near_51 ?_
          refine lv_iload_n hx hb dX0_near_54 rfl (lv_at hl 3 rfl) ?_
          obtain ⟨x27, h28, hf⟩ := jm_rd_some hf
          refine jw_aald hx hb hK hst (show jm_ty[13]? = some (.array .long) from rfl) rfl h28 dX0_near_55 ?_
          refine lv_iload_n hx hb dX0_near_56 rfl (lv_at hl 4 rfl) ?_
          obtain ⟨x29, h30, hf⟩ := jm_rd_some hf
          refine jw_lald hx hb hK hst h30 dX0_near_57 ?_
          refine lv_l2i hx hb dX0_near_58 rfl ?_
          refine lv_goto (tgt := 64) hx hb dX0_near_59 (by decide) ?_
          obtain ⟨rfl, rfl⟩ := jm_ret_some hf
          exact jw_iret C0 hst dX0_near_64
  unfold jf_X0_near at hf
  refine lv_iload_n hx hb dX0_near_0 rfl (lv_at hl 1 rfl) ?_
  refine lv_if_ne (tgt := 8) hx hb dX0_near_1 (by decide) (fun hc => ?_) (fun hc => ?_)
  · rw [if_neg hc] at hf
    refine lv_iconst (v := 1) hx hb dX0_near_8 (by decide) ?_
    exact J9 a0 v1 v2 v3 (1 : Int32) _ hf _ _ _ _ _ hst (lv_sub hl [0, 1, 2, 3] rfl)
  · rw [if_pos hc] at hf
    refine lv_iconst (v := 0) hx hb dX0_near_4 (by decide) ?_
    refine lv_goto (tgt := 9) hx hb dX0_near_5 (by decide) ?_
    exact J9 a0 v1 v2 v3 (0 : Int32) _ hf _ _ _ _ _ hst (lv_sub hl [0, 1, 2, 3] rfl)
def jf_X0_isPrime_j25 (N : Nat)  : jm_P Int32 :=
  jm_ret (1 : Int32)
def jf_X0_isPrime (N : Nat) (v0 : Int32) : jm_P Int32 :=
  if v0 = 0 then (
    jf_X0_isPrime_j25 N )
  else
    if v0 = (2 : Int32) then (
      jf_X0_isPrime_j25 N )
    else
      if v0 = (3 : Int32) then (
        jf_X0_isPrime_j25 N )
      else
        if v0 = (5 : Int32) then (
          jf_X0_isPrime_j25 N )
        else
          if v0 = (7 : Int32) then (
            jf_X0_isPrime_j25 N )
          else
            jm_ret (0 : Int32)
set_option maxHeartbeats 4000000 in
set_option maxRecDepth 100000 in
theorem jt_X0_isPrime (l : Launch) (g : GD) (b N : Nat) (v0 : Int32) (M M' : Mem) (r : Int32) (hf : (jf_X0_isPrime N v0).1 M = some (r, M')) : jm_Met l g b yX0_isPrime (ws_ yX0_isPrime cX0_isPrime 1 (some .boolean)) 0 0 [.int v0] M M' (some (.int r)) := by
  refine jm_start (by decide) (jm_mono hf) (by rw [lg_sl_i, lg_sl_n]; exact Nat.le_of_ble_eq_true rfl) ?_
  intro p e s m args below meth c ls C0 hin hK hst hl
  obtain ⟨hx, hb, hml, hown, hts, hr, hlk⟩ := id C0
  have hown : s.vm.findClass RX0 = some m.cls := hown
  have C0 : jm_Cx p s m args meth c cX0_isPrime 1 (some .boolean) RX0 := C0
  rw [lv_args_i, lv_args_n] at hl
  have hl : lv_has ls 1 [(0, .int v0)] := hl
  have J25 : ∀  (Mm1 : Mem), (jf_X0_isPrime_j25 N).1 Mm1 = some (r, M') → ∀ (H : Heap) (locs : List Loc) (cells slots : Nat) (ls : Array Slot), jm_St g b M M' Mm1 s (jm_rm 0 0 M M') H locs cells slots → lv_has ls 1 [] → W p l e (jm_rm 0 0 M M') s m args below meth c H locs cells slots (jm_MQ below g b (some (.int r)) M M' args s) (F0 m 25 ls []) := by
    intro  Mm1 hf H locs cells slots ls hst hl
    unfold jf_X0_isPrime_j25 at hf
    refine lv_iconst (v := 1) hx hb dX0_isPrime_25 (by decide) ?_
    refine lv_goto (tgt := 30) hx hb dX0_isPrime_26 (by decide) ?_
    obtain ⟨rfl, rfl⟩ := jm_ret_some hf
    exact jw_zret C0 (Or.inr rfl) hst dX0_isPrime_30
  unfold jf_X0_isPrime at hf
  refine lv_iload_n hx hb dX0_isPrime_0 rfl (lv_at hl 0 rfl) ?_
  refine lv_if_eq (tgt := 25) hx hb dX0_isPrime_1 (by decide) (fun hc => ?_) (fun hc => ?_)
  · rw [if_pos hc] at hf
    exact J25  _ hf _ _ _ _ _ hst (lv_sub hl [] rfl)
  · rw [if_neg hc] at hf
    refine lv_iload_n hx hb dX0_isPrime_4 rfl (lv_at hl 0 rfl) ?_
    refine lv_iconst (v := 2) hx hb dX0_isPrime_5 (by decide) ?_
    refine lv_icmp_eq (tgt := 25) hx hb dX0_isPrime_6 (by decide) (fun hc => ?_) (fun hc => ?_)
    · rw [if_pos hc] at hf
      exact J25  _ hf _ _ _ _ _ hst (lv_sub hl [] rfl)
    · rw [if_neg hc] at hf
      refine lv_iload_n hx hb dX0_isPrime_9 rfl (lv_at hl 0 rfl) ?_
      refine lv_iconst (v := 3) hx hb dX0_isPrime_10 (by decide) ?_
      refine lv_icmp_eq (tgt := 25) hx hb dX0_isPrime_11 (by decide) (fun hc => ?_) (fun hc => ?_)
      · rw [if_pos hc] at hf
        exact J25  _ hf _ _ _ _ _ hst (lv_sub hl [] rfl)
      · rw [if_neg hc] at hf
        refine lv_iload_n hx hb dX0_isPrime_14 rfl (lv_at hl 0 rfl) ?_
        refine lv_iconst (v := 5) hx hb dX0_isPrime_15 (by decide) ?_
        refine lv_icmp_eq (tgt := 25) hx hb dX0_isPrime_16 (by decide) (fun hc => ?_) (fun hc => ?_)
        · rw [if_pos hc] at hf
          exact J25  _ hf _ _ _ _ _ hst (lv_sub hl [] rfl)
        · rw [if_neg hc] at hf
          refine lv_iload_n hx hb dX0_isPrime_19 rfl (lv_at hl 0 rfl) ?_
          refine lv_bipush (v := 7) hx hb dX0_isPrime_20 (by decide) ?_
          refine lv_icmp_ne (tgt := 29) hx hb dX0_isPrime_22 (by decide) (fun hc => ?_) (fun hc => ?_)
          · rw [if_neg hc] at hf
            refine lv_iconst (v := 0) hx hb dX0_isPrime_29 (by decide) ?_
            obtain ⟨rfl, rfl⟩ := jm_ret_some hf
            exact jw_zret C0 (Or.inl rfl) hst dX0_isPrime_30
          · rw [if_pos hc] at hf
            exact J25  _ hf _ _ _ _ _ hst (lv_sub hl [] rfl)
theorem hd_X0_isPrime : yX0_isPrime.cls = RX0 ∧ yX0_isPrime.cls ≠ "java/lang/invoke/MethodHandle" ∧ yX0_isPrime.cls ≠ "java/lang/invoke/VarHandle" ∧ (parseMethodDescriptor yX0_isPrime.desc).map (fun d => d.parameters.length) = some 1 := by decide +kernel
def jf_X0_rank (N : Nat) (a0 : Nat) (v1 : Int32) (v2 : Int32) : jm_P Int32 :=
  jm_rd (jm_fR [0] 0 (some a0)) fun x1 =>
  if x1 = none then (
    jm_ret (-1000002 : Int32))
  else
    jm_bd (jf_X0_isIn N (v1.toInt64) (1 : Int64) (2 : Int64)) fun x3 =>
    if x3 = 0 then (
      jm_ret (-1000001 : Int32))
    else
      jm_bd (jf_X0_isPrime N v2) fun x6 =>
      if x6 = 0 then (
        jm_ret (-1000001 : Int32))
      else
        jm_rd (jm_fR [0] 0 (some a0)) fun x9 =>
        jm_rd (jm_cl 9 x9) fun a14 =>
        jm_bd (jf_X9_rank N a14 v1 v2) fun x11 =>
        jm_ret x11
set_option maxHeartbeats 4000000 in
set_option maxRecDepth 100000 in
theorem jt_X0_rank (l : Launch) (g : GD) (b N : Nat) (a0 : Nat) (v1 : Int32) (v2 : Int32) (M M' : Mem) (r : Int32) (hf : (jf_X0_rank N a0 v1 v2).1 M = some (r, M')) : jm_Met l g b yX0_rank (ws_ yX0_rank cX0_rank 3 (some .int)) 5 132 [va_rf (some a0), .int v1, .int v2] M M' (some (.int r)) := by
  refine jm_start (by decide) (jm_mono hf) (by rw [lg_sl_r, lg_sl_i, lg_sl_i, lg_sl_n]; exact Nat.le_of_ble_eq_true rfl) ?_
  intro p e s m args below meth c ls C0 hin hK hst hl
  obtain ⟨hx, hb, hml, hown, hts, hr, hlk⟩ := id C0
  have hown : s.vm.findClass RX0 = some m.cls := hown
  have C0 : jm_Cx p s m args meth c cX0_rank 3 (some .int) RX0 := C0
  rw [lv_args_r, lv_args_i, lv_args_i, lv_args_n] at hl
  have hl : lv_has ls 3 [(0, va_rf (some a0)), (1, .int v1), (2, .int v2)] := hl
  unfold jf_X0_rank at hf
  refine jw_aload_n (r := (some a0)) hx hb dX0_rank_0 rfl (lv_at hl 0 rfl) ?_
  obtain ⟨x1, h2, hf⟩ := jm_rd_some hf
  refine jw_getR hx hb hts hown hK hst (fl_X0_75 hts hK) h2 dX0_rank_1 ?_
  refine jw_ifnonnull (tgt := 10) hx hb dX0_rank_4 (by decide) (fun hc => ?_) (fun hc => ?_)
  · rw [if_neg hc] at hf
    refine lv_iload_n hx hb dX0_rank_10 rfl (lv_at hl 1 rfl) ?_
    refine lv_i2l hx hb dX0_rank_11 rfl ?_
    refine lv_lconst (v := 1) hx hb dX0_rank_12 (by decide) ?_
    refine lv_ldc2 hx hb hown (hts _ q398) dX0_rank_13 ?_
    obtain ⟨x3, Mm4, h5, hf⟩ := jm_bd_some hf
    refine jw_S (As := [.long (v1.toInt64), .long (1 : Int64), .long (2 : Int64)]) (rest := []) (jt_X0_isIn l g b N (v1.toInt64) (1 : Int64) (2 : Int64) M Mm4 x3 h5) C0 hK hst (jm_mono h5) (jm_le_tr (jm_mono hf) jm_le_rf) q131 q132 q72 q133 hd_X0_isIn.2 ⟨Nat.le_of_ble_eq_true rfl, Nat.le_of_ble_eq_true rfl⟩ rfl hl.1 rfl (by rw [cs_n]; exact Nat.le_of_ble_eq_true rfl) dX0_rank_16 (fun H locs cells slots hst => ?_)
    refine W.eq (g2 := F0 m 19 ls [.int x3]) rfl ?_
    refine lv_if_eq (tgt := 41) hx hb dX0_rank_19 (by decide) (fun hc => ?_) (fun hc => ?_)
    · rw [if_pos hc] at hf
      refine lv_ldc hx hb hown (hts _ q134) dX0_rank_41 ?_
      obtain ⟨rfl, rfl⟩ := jm_ret_some hf
      exact jw_iret C0 hst dX0_rank_43
    · rw [if_neg hc] at hf
      refine lv_iload_n hx hb dX0_rank_22 rfl (lv_at hl 2 rfl) ?_
      obtain ⟨x6, Mm7, h8, hf⟩ := jm_bd_some hf
      refine jw_S (As := [.int v2]) (rest := []) (jt_X0_isPrime l g b N v2 Mm4 Mm7 x6 h8) C0 hK hst (jm_mono h8) (jm_le_tr (jm_mono hf) jm_le_rf) q679 q680 q72 q681 hd_X0_isPrime.2 ⟨Nat.le_of_ble_eq_true rfl, Nat.le_of_ble_eq_true rfl⟩ rfl hl.1 rfl (by rw [cs_n]; exact Nat.le_of_ble_eq_true rfl) dX0_rank_23 (fun H locs cells slots hst => ?_)
      refine W.eq (g2 := F0 m 26 ls [.int x6]) rfl ?_
      refine lv_if_eq (tgt := 41) hx hb dX0_rank_26 (by decide) (fun hc => ?_) (fun hc => ?_)
      · rw [if_pos hc] at hf
        refine lv_ldc hx hb hown (hts _ q134) dX0_rank_41 ?_
        obtain ⟨rfl, rfl⟩ := jm_ret_some hf
        exact jw_iret C0 hst dX0_rank_43
      · rw [if_neg hc] at hf
        refine jw_aload_n (r := (some a0)) hx hb dX0_rank_29 rfl (lv_at hl 0 rfl) ?_
        obtain ⟨x9, h10, hf⟩ := jm_rd_some hf
        refine jw_getR hx hb hts hown hK hst (fl_X0_75 hts hK) h10 dX0_rank_30 ?_
        refine lv_iload_n hx hb dX0_rank_33 rfl (lv_at hl 1 rfl) ?_
        refine lv_iload_n hx hb dX0_rank_34 rfl (lv_at hl 2 rfl) ?_
        obtain ⟨a14, h15, hf⟩ := jm_rd_some hf
        obtain ⟨fsa14, hea14, hr16⟩ := jm_cl_some h15
        obtain ⟨x11, Mm12, h13, hf⟩ := jm_bd_some hf
        refine jw_V (As := [.int v1, .int v2]) (rest := []) (C := RX9) (T := TX9) (N := 4) (rv := x9) (jt_X9_rank l g b N a14 v1 v2 Mm7 Mm12 x11 h13) C0 hK hst (jm_mono h13) (jm_le_tr (jm_mono hf) jm_le_rf) q682 q683 q684 q84 q685 hd_X9_rank ⟨Nat.le_of_ble_eq_true rfl, Nat.le_of_ble_eq_true rfl⟩ hea14 hr16 rfl rfl hl.1 rfl (by rw [cs_n]; exact Nat.le_of_ble_eq_true rfl) dX0_rank_35 (fun H locs cells slots hst => ?_)
        refine W.eq (g2 := F0 m 38 ls [.int x11]) rfl ?_
        refine lv_goto (tgt := 43) hx hb dX0_rank_38 (by decide) ?_
        obtain ⟨rfl, rfl⟩ := jm_ret_some hf
        exact jw_iret C0 hst dX0_rank_43
  · rw [if_pos hc] at hf
    refine lv_ldc hx hb hown (hts _ q389) dX0_rank_7 ?_
    obtain ⟨rfl, rfl⟩ := jm_ret_some hf
    exact jw_iret C0 hst dX0_rank_9
theorem hd_X9_holes : yX9_holes.cls = RX9 ∧ yX9_holes.cls ≠ "java/lang/invoke/MethodHandle" ∧ yX9_holes.cls ≠ "java/lang/invoke/VarHandle" ∧ (parseMethodDescriptor yX9_holes.desc).map (fun d => d.parameters.length) = some 2 := by decide +kernel
def jf_X0_holes (N : Nat) (a0 : Nat) (v1 : Int32) (v2 : Int32) : jm_P Int32 :=
  jm_rd (jm_fR [0] 0 (some a0)) fun x1 =>
  if x1 = none then (
    jm_ret (-1000002 : Int32))
  else
    jm_bd (jf_X0_isIn N (v1.toInt64) (0 : Int64) (2 : Int64)) fun x3 =>
    if x3 = 0 then (
      jm_ret (-1000001 : Int32))
    else
      jm_bd (jf_X0_isPrime N v2) fun x6 =>
      if x6 = 0 then (
        jm_ret (-1000001 : Int32))
      else
        jm_rd (jm_fR [0] 0 (some a0)) fun x9 =>
        jm_rd (jm_cl 9 x9) fun a14 =>
        jm_bd (jf_X9_holes N a14 v1 v2) fun x11 =>
        jm_ret x11
set_option maxHeartbeats 4000000 in
set_option maxRecDepth 100000 in
theorem jt_X0_holes (l : Launch) (g : GD) (b N : Nat) (a0 : Nat) (v1 : Int32) (v2 : Int32) (M M' : Mem) (r : Int32) (hf : (jf_X0_holes N a0 v1 v2).1 M = some (r, M')) : jm_Met l g b yX0_holes (ws_ yX0_holes cX0_holes 3 (some .int)) 6 154 [va_rf (some a0), .int v1, .int v2] M M' (some (.int r)) := by
  refine jm_start (by decide) (jm_mono hf) (by rw [lg_sl_r, lg_sl_i, lg_sl_i, lg_sl_n]; exact Nat.le_of_ble_eq_true rfl) ?_
  intro p e s m args below meth c ls C0 hin hK hst hl
  obtain ⟨hx, hb, hml, hown, hts, hr, hlk⟩ := id C0
  have hown : s.vm.findClass RX0 = some m.cls := hown
  have C0 : jm_Cx p s m args meth c cX0_holes 3 (some .int) RX0 := C0
  rw [lv_args_r, lv_args_i, lv_args_i, lv_args_n] at hl
  have hl : lv_has ls 3 [(0, va_rf (some a0)), (1, .int v1), (2, .int v2)] := hl
  unfold jf_X0_holes at hf
  refine jw_aload_n (r := (some a0)) hx hb dX0_holes_0 rfl (lv_at hl 0 rfl) ?_
  obtain ⟨x1, h2, hf⟩ := jm_rd_some hf
  refine jw_getR hx hb hts hown hK hst (fl_X0_75 hts hK) h2 dX0_holes_1 ?_
  refine jw_ifnonnull (tgt := 10) hx hb dX0_holes_4 (by decide) (fun hc => ?_) (fun hc => ?_)
  · rw [if_neg hc] at hf
    refine lv_iload_n hx hb dX0_holes_10 rfl (lv_at hl 1 rfl) ?_
    refine lv_i2l hx hb dX0_holes_11 rfl ?_
    refine lv_lconst (v := 0) hx hb dX0_holes_12 (by decide) ?_
    refine lv_ldc2 hx hb hown (hts _ q398) dX0_holes_13 ?_
    obtain ⟨x3, Mm4, h5, hf⟩ := jm_bd_some hf
    refine jw_S (As := [.long (v1.toInt64), .long (0 : Int64), .long (2 : Int64)]) (rest := []) (jt_X0_isIn l g b N (v1.toInt64) (0 : Int64) (2 : Int64) M Mm4 x3 h5) C0 hK hst (jm_mono h5) (jm_le_tr (jm_mono hf) jm_le_rf) q131 q132 q72 q133 hd_X0_isIn.2 ⟨Nat.le_of_ble_eq_true rfl, Nat.le_of_ble_eq_true rfl⟩ rfl hl.1 rfl (by rw [cs_n]; exact Nat.le_of_ble_eq_true rfl) dX0_holes_16 (fun H locs cells slots hst => ?_)
    refine W.eq (g2 := F0 m 19 ls [.int x3]) rfl ?_
    refine lv_if_eq (tgt := 41) hx hb dX0_holes_19 (by decide) (fun hc => ?_) (fun hc => ?_)
    · rw [if_pos hc] at hf
      refine lv_ldc hx hb hown (hts _ q134) dX0_holes_41 ?_
      obtain ⟨rfl, rfl⟩ := jm_ret_some hf
      exact jw_iret C0 hst dX0_holes_43
    · rw [if_neg hc] at hf
      refine lv_iload_n hx hb dX0_holes_22 rfl (lv_at hl 2 rfl) ?_
      obtain ⟨x6, Mm7, h8, hf⟩ := jm_bd_some hf
      refine jw_S (As := [.int v2]) (rest := []) (jt_X0_isPrime l g b N v2 Mm4 Mm7 x6 h8) C0 hK hst (jm_mono h8) (jm_le_tr (jm_mono hf) jm_le_rf) q679 q680 q72 q681 hd_X0_isPrime.2 ⟨Nat.le_of_ble_eq_true rfl, Nat.le_of_ble_eq_true rfl⟩ rfl hl.1 rfl (by rw [cs_n]; exact Nat.le_of_ble_eq_true rfl) dX0_holes_23 (fun H locs cells slots hst => ?_)
      refine W.eq (g2 := F0 m 26 ls [.int x6]) rfl ?_
      refine lv_if_eq (tgt := 41) hx hb dX0_holes_26 (by decide) (fun hc => ?_) (fun hc => ?_)
      · rw [if_pos hc] at hf
        refine lv_ldc hx hb hown (hts _ q134) dX0_holes_41 ?_
        obtain ⟨rfl, rfl⟩ := jm_ret_some hf
        exact jw_iret C0 hst dX0_holes_43
      · rw [if_neg hc] at hf
        refine jw_aload_n (r := (some a0)) hx hb dX0_holes_29 rfl (lv_at hl 0 rfl) ?_
        obtain ⟨x9, h10, hf⟩ := jm_rd_some hf
        refine jw_getR hx hb hts hown hK hst (fl_X0_75 hts hK) h10 dX0_holes_30 ?_
        refine lv_iload_n hx hb dX0_holes_33 rfl (lv_at hl 1 rfl) ?_
        refine lv_iload_n hx hb dX0_holes_34 rfl (lv_at hl 2 rfl) ?_
        obtain ⟨a14, h15, hf⟩ := jm_rd_some hf
        obtain ⟨fsa14, hea14, hr16⟩ := jm_cl_some h15
        obtain ⟨x11, Mm12, h13, hf⟩ := jm_bd_some hf
        refine jw_V (As := [.int v1, .int v2]) (rest := []) (C := RX9) (T := TX9) (N := 4) (rv := x9) (jt_X9_holes l g b N a14 v1 v2 Mm7 Mm12 x11 h13) C0 hK hst (jm_mono h13) (jm_le_tr (jm_mono hf) jm_le_rf) q733 q734 q735 q84 q736 hd_X9_holes ⟨Nat.le_of_ble_eq_true rfl, Nat.le_of_ble_eq_true rfl⟩ hea14 hr16 rfl rfl hl.1 rfl (by rw [cs_n]; exact Nat.le_of_ble_eq_true rfl) dX0_holes_35 (fun H locs cells slots hst => ?_)
        refine W.eq (g2 := F0 m 38 ls [.int x11]) rfl ?_
        refine lv_goto (tgt := 43) hx hb dX0_holes_38 (by decide) ?_
        obtain ⟨rfl, rfl⟩ := jm_ret_some hf
        exact jw_iret C0 hst dX0_holes_43
  · rw [if_pos hc] at hf
    refine lv_ldc hx hb hown (hts _ q389) dX0_holes_7 ?_
    obtain ⟨rfl, rfl⟩ := jm_ret_some hf
    exact jw_iret C0 hst dX0_holes_9
def jf_X0_twist (N : Nat) (a0 : Nat) (v1 : Int32) (v2 : Int32) : jm_P Int32 :=
  jm_rd (jm_fR [0] 0 (some a0)) fun x1 =>
  if x1 = none then (
    jm_ret (-1000002 : Int32))
  else
    jm_rd (jm_fR [0] 0 (some a0)) fun x3 =>
    jm_rd (jm_fR [9] 2 x3) fun x5 =>
    jm_rd (jm_len 5 x5) fun x7 =>
    jm_bd (jf_X0_isIn N (v1.toInt64) (0 : Int64) ((((1 : Int32) <<< (x7 &&& 31)) - (1 : Int32)).toInt64)) fun x9 =>
    if x9 = 0 then (
      jm_ret (-1000001 : Int32))
    else
      if 0 ≤ v2 then (
        if v2 = 0 then (
          jm_rd (jm_fR [0] 0 (some a0)) fun x36 =>
          jm_rd (jm_cl 9 x36) fun a41 =>
          jm_bd (jf_X9_twisted N a41 v1) fun x38 =>
          jm_ret (x38.toInt32))
        else
          jm_rd (jm_fR [0] 0 (some a0)) fun x12 =>
          jm_rd (jm_cl 9 x12) fun a17 =>
          jm_bd (jf_X9_table N a17 (2 : Int32)) fun x14 =>
          jm_rd (jm_cl 11 x14) fun a23 =>
          jm_bd (jf_X11_some N a23 v1) fun x20 =>
          jm_rd (jm_cl 11 x20) fun a29 =>
          jm_bd (jf_X11_twists N a29 ) fun x26 =>
          jm_rd (jm_len 2 x26) fun x32 =>
          if x32 < v2 then (
            jm_ret (-1000000 : Int32))
          else
            jm_rd (jm_ldJ 2 x26 (v2 - (1 : Int32))) fun x34 =>
            jm_ret (x34.toInt32))
      else
        jm_ret (-1000001 : Int32)
set_option maxHeartbeats 4000000 in
set_option maxRecDepth 100000 in
theorem jt_X0_twist (l : Launch) (g : GD) (b N : Nat) (a0 : Nat) (v1 : Int32) (v2 : Int32) (M M' : Mem) (r : Int32) (hf : (jf_X0_twist N a0 v1 v2).1 M = some (r, M')) : jm_Met l g b yX0_twist (ws_ yX0_twist cX0_twist 4 (some .int)) 5 145 [va_rf (some a0), .int v1, .int v2] M M' (some (.int r)) := by
  refine jm_start (by decide) (jm_mono hf) (by rw [lg_sl_r, lg_sl_i, lg_sl_i, lg_sl_n]; exact Nat.le_of_ble_eq_true rfl) ?_
  intro p e s m args below meth c ls C0 hin hK hst hl
  obtain ⟨hx, hb, hml, hown, hts, hr, hlk⟩ := id C0
  have hown : s.vm.findClass RX0 = some m.cls := hown
  have C0 : jm_Cx p s m args meth c cX0_twist 4 (some .int) RX0 := C0
  rw [lv_args_r, lv_args_i, lv_args_i, lv_args_n] at hl
  have hl : lv_has ls 4 [(0, va_rf (some a0)), (1, .int v1), (2, .int v2)] := hl
  unfold jf_X0_twist at hf
  refine jw_aload_n (r := (some a0)) hx hb dX0_twist_0 rfl (lv_at hl 0 rfl) ?_
  obtain ⟨x1, h2, hf⟩ := jm_rd_some hf
  refine jw_getR hx hb hts hown hK hst (fl_X0_75 hts hK) h2 dX0_twist_1 ?_
  refine jw_ifnonnull (tgt := 10) hx hb dX0_twist_4 (by decide) (fun hc => ?_) (fun hc => ?_)
  · rw [if_neg hc] at hf
    refine lv_iload_n hx hb dX0_twist_10 rfl (lv_at hl 1 rfl) ?_
    refine lv_i2l hx hb dX0_twist_11 rfl ?_
    refine lv_lconst (v := 0) hx hb dX0_twist_12 (by decide) ?_
    refine lv_iconst (v := 1) hx hb dX0_twist_13 (by decide) ?_
    refine jw_aload_n (r := (some a0)) hx hb dX0_twist_14 rfl (lv_at hl 0 rfl) ?_
    obtain ⟨x3, h4, hf⟩ := jm_rd_some hf
    refine jw_getR hx hb hts hown hK hst (fl_X0_75 hts hK) h4 dX0_twist_15 ?_
    obtain ⟨x5, h6, hf⟩ := jm_rd_some hf
    refine jw_getR hx hb hts hown hK hst (fl_X0_101 hts hK) h6 dX0_twist_18 ?_
    obtain ⟨x7, h8, hf⟩ := jm_rd_some hf
    refine jw_alen hx hb hK hst (show jm_ty[5]? = some (.object "ChainParts$FaceCell") from rfl) h8 dX0_twist_21 ?_
    refine lv_ishl hx hb dX0_twist_22 ?_
    refine lv_iconst (v := 1) hx hb dX0_twist_23 (by decide) ?_
    refine lv_isub hx hb dX0_twist_24 ?_
    refine lv_i2l hx hb dX0_twist_25 rfl ?_
    obtain ⟨x9, Mm10, h11, hf⟩ := jm_bd_some hf
    refine jw_S (As := [.long (v1.toInt64), .long (0 : Int64), .long ((((1 : Int32) <<< (x7 &&& 31)) - (1 : Int32)).toInt64)]) (rest := []) (jt_X0_isIn l g b N (v1.toInt64) (0 : Int64) ((((1 : Int32) <<< (x7 &&& 31)) - (1 : Int32)).toInt64) M Mm10 x9 h11) C0 hK hst (jm_mono h11) (jm_le_tr (jm_mono hf) jm_le_rf) q131 q132 q72 q133 hd_X0_isIn.2 ⟨Nat.le_of_ble_eq_true rfl, Nat.le_of_ble_eq_true rfl⟩ rfl hl.1 rfl (by rw [cs_n]; exact Nat.le_of_ble_eq_true rfl) dX0_twist_26 (fun H locs cells slots hst => ?_)
    refine W.eq (g2 := F0 m 29 ls [.int x9]) rfl ?_
    refine lv_if_eq (tgt := 36) hx hb dX0_twist_29 (by decide) (fun hc => ?_) (fun hc => ?_)
    · rw [if_pos hc] at hf
      refine lv_ldc hx hb hown (hts _ q134) dX0_twist_36 ?_
      obtain ⟨rfl, rfl⟩ := jm_ret_some hf
      exact jw_iret C0 hst dX0_twist_38
    · rw [if_neg hc] at hf
      refine lv_iload_n hx hb dX0_twist_32 rfl (lv_at hl 2 rfl) ?_
      refine lv_if_ge (tgt := 39) hx hb dX0_twist_33 (by decide) (fun hc => ?_) (fun hc => ?_)
      · rw [if_pos hc] at hf
        refine lv_iload_n hx hb dX0_twist_39 rfl (lv_at hl 2 rfl) ?_
        refine lv_if_ne (tgt := 53) hx hb dX0_twist_40 (by decide) (fun hc => ?_) (fun hc => ?_)
        · rw [if_neg hc] at hf
          refine jw_aload_n (r := (some a0)) hx hb dX0_twist_53 rfl (lv_at hl 0 rfl) ?_
          obtain ⟨x12, h13, hf⟩ := jm_rd_some hf
          refine jw_getR hx hb hts hown hK hst (fl_X0_75 hts hK) h13 dX0_twist_54 ?_
          refine lv_iconst (v := 2) hx hb dX0_twist_57 (by decide) ?_
          obtain ⟨a17, h18, hf⟩ := jm_rd_some hf
          obtain ⟨fsa17, hea17, hr19⟩ := jm_cl_some h18
          obtain ⟨x14, Mm15, h16, hf⟩ := jm_bd_some hf
          refine jw_V (As := [.int (2 : Int32)]) (rest := []) (C := RX9) (T := TX9) (N := 4) (rv := x12) (jt_X9_table l g b N a17 (2 : Int32) Mm10 Mm15 x14 h16) C0 hK hst (jm_mono h16) (jm_le_tr (jm_mono hf) jm_le_rf) q611 q612 q613 q84 q614 hd_X9_table ⟨Nat.le_of_ble_eq_true rfl, Nat.le_of_ble_eq_true rfl⟩ hea17 hr19 rfl rfl hl.1 rfl (by rw [cs_n]; exact Nat.le_of_ble_eq_true rfl) dX0_twist_58 (fun H locs cells slots hst => ?_)
          refine W.eq (g2 := F0 m 61 ls [va_rf x14]) rfl ?_
          refine lv_iload_n hx hb dX0_twist_61 rfl (lv_at hl 1 rfl) ?_
          obtain ⟨a23, h24, hf⟩ := jm_rd_some hf
          obtain ⟨fsa23, hea23, hr25⟩ := jm_cl_some h24
          obtain ⟨x20, Mm21, h22, hf⟩ := jm_bd_some hf
          refine jw_V (As := [.int v1]) (rest := []) (C := RX11) (T := TX11) (N := 3) (rv := x14) (jt_X11_some l g b N a23 v1 Mm15 Mm21 x20 h22) C0 hK hst (jm_mono h22) (jm_le_tr (jm_mono hf) jm_le_rf) q768 q748 q749 q90 q750 hd_X11_some ⟨Nat.le_of_ble_eq_true rfl, Nat.le_of_ble_eq_true rfl⟩ hea23 hr25 rfl rfl hl.1 rfl (by rw [cs_n]; exact Nat.le_of_ble_eq_true rfl) dX0_twist_62 (fun H locs cells slots hst => ?_)
          refine W.eq (g2 := F0 m 65 ls [va_rf x20]) rfl ?_
          obtain ⟨a29, h30, hf⟩ := jm_rd_some hf
          obtain ⟨fsa29, hea29, hr31⟩ := jm_cl_some h30
          obtain ⟨x26, Mm27, h28, hf⟩ := jm_bd_some hf
          refine jw_V (As := []) (rest := []) (C := RX11) (T := TX11) (N := 3) (rv := x20) (jt_X11_twists l g b N a29  Mm21 Mm27 x26 h28) C0 hK hst (jm_mono h28) (jm_le_tr (jm_mono hf) jm_le_rf) q769 q761 q762 q90 q763 hd_X11_twists ⟨Nat.le_of_ble_eq_true rfl, Nat.le_of_ble_eq_true rfl⟩ hea29 hr31 rfl rfl hl.1 rfl (by rw [cs_n]; exact Nat.le_of_ble_eq_true rfl) dX0_twist_65 (fun H locs cells slots hst => ?_)
          refine W.eq (g2 := F0 m 68 ls [va_rf x26]) rfl ?_
          refine jw_astore_n (i := 3) (r := x26) (lv' := [(3, va_rf x26), (0, va_rf (some a0)), (1, .int v1), (2, .int v2)]) hx hb dX0_twist_68 rfl hl (by decide) rfl (fun ls hl => ?_)
          refine lv_iload_n hx hb dX0_twist_69 rfl (lv_at hl 3 rfl) ?_
          refine jw_aload_n (r := x26) hx hb dX0_twist_70 rfl (lv_at hl 0 rfl) ?_
          obtain ⟨x32, h33, hf⟩ := jm_rd_some hf
          refine jw_alen hx hb hK hst (show jm_ty[2]? = some .long from rfl) h33 dX0_twist_71 ?_
          refine lv_icmp_gt (tgt := 84) hx hb dX0_twist_72 (by decide) (fun hc => ?_) (fun hc => ?_)
          · rw [if_pos hc] at hf
            refine lv_ldc hx hb hown (hts _ q606) dX0_twist_84 ?_
            obtain ⟨rfl, rfl⟩ := jm_ret_some hf
            exact jw_iret C0 hst dX0_twist_86
          · rw [if_neg hc] at hf
            refine jw_aload_n (r := x26) hx hb dX0_twist_75 rfl (lv_at hl 0 rfl) ?_
            refine lv_iload_n hx hb dX0_twist_76 rfl (lv_at hl 3 rfl) ?_
            refine lv_iconst (v := 1) hx hb dX0_twist_77 (by decide) ?_
            refine lv_isub hx hb dX0_twist_78 ?_
            obtain ⟨x34, h35, hf⟩ := jm_rd_some hf
            refine jw_lald hx hb hK hst h35 dX0_twist_79 ?_
            refine lv_l2i hx hb dX0_twist_80 rfl ?_
            refine lv_goto (tgt := 86) hx hb dX0_twist_81 (by decide) ?_
            obtain ⟨rfl, rfl⟩ := jm_ret_some hf
            exact jw_iret C0 hst dX0_twist_86
        · rw [if_pos hc] at hf
          refine jw_aload_n (r := (some a0)) hx hb dX0_twist_43 rfl (lv_at hl 0 rfl) ?_
          obtain ⟨x36, h37, hf⟩ := jm_rd_some hf
          refine jw_getR hx hb hts hown hK hst (fl_X0_75 hts hK) h37 dX0_twist_44 ?_
          refine lv_iload_n hx hb dX0_twist_47 rfl (lv_at hl 1 rfl) ?_
          obtain ⟨a41, h42, hf⟩ := jm_rd_some hf
          obtain ⟨fsa41, hea41, hr43⟩ := jm_cl_some h42
          obtain ⟨x38, Mm39, h40, hf⟩ := jm_bd_some hf
          refine jw_V (As := [.int v1]) (rest := []) (C := RX9) (T := TX9) (N := 4) (rv := x36) (jt_X9_twisted l g b N a41 v1 Mm10 Mm39 x38 h40) C0 hK hst (jm_mono h40) (jm_le_tr (jm_mono hf) jm_le_rf) q743 q744 q745 q84 q746 hd_X9_twisted ⟨Nat.le_of_ble_eq_true rfl, Nat.le_of_ble_eq_true rfl⟩ hea41 hr43 rfl rfl hl.1 rfl (by rw [cs_n]; exact Nat.le_of_ble_eq_true rfl) dX0_twist_48 (fun H locs cells slots hst => ?_)
          refine W.eq (g2 := F0 m 51 ls [.long x38]) rfl ?_
          refine lv_l2i hx hb dX0_twist_51 rfl ?_
          obtain ⟨rfl, rfl⟩ := jm_ret_some hf
          exact jw_iret C0 hst dX0_twist_52
      · rw [if_neg hc] at hf
        refine lv_ldc hx hb hown (hts _ q134) dX0_twist_36 ?_
        obtain ⟨rfl, rfl⟩ := jm_ret_some hf
        exact jw_iret C0 hst dX0_twist_38
  · rw [if_pos hc] at hf
    refine lv_ldc hx hb hown (hts _ q389) dX0_twist_7 ?_
    obtain ⟨rfl, rfl⟩ := jm_ret_some hf
    exact jw_iret C0 hst dX0_twist_9
def jf_X0_chain (N : Nat) (a0 : Nat) (v1 : Int32) (v2 : Int32) : jm_P Int32 :=
  jm_bd (jf_X0_isChain N v1) fun x1 =>
  if x1 = 0 then (
    jm_ret (-1000001 : Int32))
  else
    jm_rd (jm_cl 0 (some a0)) fun a7 =>
    jm_bd (jf_X0_isCell N a7 (1 : Int32) v2) fun x4 =>
    if x4 = 0 then (
      jm_ret (-1000001 : Int32))
    else
      jm_rd (jm_fR [0] 0 (some a0)) fun x10 =>
      jm_rd (jm_fR [9] 3 x10) fun x12 =>
      jm_rd (jm_ldR 12 x12 v1) fun x14 =>
      jm_rd (jm_ldI 0 x14 v2) fun x16 =>
      jm_ret x16
set_option maxHeartbeats 4000000 in
set_option maxRecDepth 100000 in
theorem jt_X0_chain (l : Launch) (g : GD) (b N : Nat) (a0 : Nat) (v1 : Int32) (v2 : Int32) (M M' : Mem) (r : Int32) (hf : (jf_X0_chain N a0 v1 v2).1 M = some (r, M')) : jm_Met l g b yX0_chain (ws_ yX0_chain cX0_chain 3 (some .int)) 2 47 [va_rf (some a0), .int v1, .int v2] M M' (some (.int r)) := by
  refine jm_start (by decide) (jm_mono hf) (by rw [lg_sl_r, lg_sl_i, lg_sl_i, lg_sl_n]; exact Nat.le_of_ble_eq_true rfl) ?_
  intro p e s m args below meth c ls C0 hin hK hst hl
  obtain ⟨hx, hb, hml, hown, hts, hr, hlk⟩ := id C0
  have hown : s.vm.findClass RX0 = some m.cls := hown
  have C0 : jm_Cx p s m args meth c cX0_chain 3 (some .int) RX0 := C0
  rw [lv_args_r, lv_args_i, lv_args_i, lv_args_n] at hl
  have hl : lv_has ls 3 [(0, va_rf (some a0)), (1, .int v1), (2, .int v2)] := hl
  unfold jf_X0_chain at hf
  refine lv_iload_n hx hb dX0_chain_0 rfl (lv_at hl 1 rfl) ?_
  obtain ⟨x1, Mm2, h3, hf⟩ := jm_bd_some hf
  refine jw_S (As := [.int v1]) (rest := []) (jt_X0_isChain l g b N v1 M Mm2 x1 h3) C0 hK hst (jm_mono h3) (jm_le_tr (jm_mono hf) jm_le_rf) q508 q509 q72 q510 hd_X0_isChain.2 ⟨Nat.le_of_ble_eq_true rfl, Nat.le_of_ble_eq_true rfl⟩ rfl hl.1 rfl (by rw [cs_n]; exact Nat.le_of_ble_eq_true rfl) dX0_chain_1 (fun H locs cells slots hst => ?_)
  refine W.eq (g2 := F0 m 4 ls [.int x1]) rfl ?_
  refine lv_if_eq (tgt := 30) hx hb dX0_chain_4 (by decide) (fun hc => ?_) (fun hc => ?_)
  · rw [if_pos hc] at hf
    refine lv_ldc hx hb hown (hts _ q134) dX0_chain_30 ?_
    obtain ⟨rfl, rfl⟩ := jm_ret_some hf
    exact jw_iret C0 hst dX0_chain_32
  · rw [if_neg hc] at hf
    refine jw_aload_n (r := (some a0)) hx hb dX0_chain_7 rfl (lv_at hl 0 rfl) ?_
    refine lv_iconst (v := 1) hx hb dX0_chain_8 (by decide) ?_
    refine lv_iload_n hx hb dX0_chain_9 rfl (lv_at hl 2 rfl) ?_
    obtain ⟨a7, h8, hf⟩ := jm_rd_some hf
    obtain ⟨fsa7, hea7, hr9⟩ := jm_cl_some h8
    obtain ⟨x4, Mm5, h6, hf⟩ := jm_bd_some hf
    refine jw_V (As := [.int (1 : Int32), .int v2]) (rest := []) (C := RX0) (T := TX0) (N := 7) (rv := (some a0)) (jt_X0_isCell l g b N a7 (1 : Int32) v2 Mm2 Mm5 x4 h6) C0 hK hst (jm_mono h6) (jm_le_tr (jm_mono hf) jm_le_rf) q394 q396 qs7 q72 q397 hd_X0_isCell ⟨Nat.le_of_ble_eq_true rfl, Nat.le_of_ble_eq_true rfl⟩ hea7 hr9 rfl rfl hl.1 rfl (by rw [cs_n]; exact Nat.le_of_ble_eq_true rfl) dX0_chain_10 (fun H locs cells slots hst => ?_)
    refine W.eq (g2 := F0 m 13 ls [.int x4]) rfl ?_
    refine lv_if_eq (tgt := 30) hx hb dX0_chain_13 (by decide) (fun hc => ?_) (fun hc => ?_)
    · rw [if_pos hc] at hf
      refine lv_ldc hx hb hown (hts _ q134) dX0_chain_30 ?_
      obtain ⟨rfl, rfl⟩ := jm_ret_some hf
      exact jw_iret C0 hst dX0_chain_32
    · rw [if_neg hc] at hf
      refine jw_aload_n (r := (some a0)) hx hb dX0_chain_16 rfl (lv_at hl 0 rfl) ?_
      obtain ⟨x10, h11, hf⟩ := jm_rd_some hf
      refine jw_getR hx hb hts hown hK hst (fl_X0_75 hts hK) h11 dX0_chain_17 ?_
      obtain ⟨x12, h13, hf⟩ := jm_rd_some hf
      refine jw_getR hx hb hts hown hK hst (fl_X0_180 hts hK) h13 dX0_chain_20 ?_
      refine lv_iload_n hx hb dX0_chain_23 rfl (lv_at hl 1 rfl) ?_
      obtain ⟨x14, h15, hf⟩ := jm_rd_some hf
      refine jw_aald hx hb hK hst (show jm_ty[12]? = some (.array .int) from rfl) rfl h15 dX0_chain_24 ?_
      refine lv_iload_n hx hb dX0_chain_25 rfl (lv_at hl 2 rfl) ?_
      obtain ⟨x16, h17, hf⟩ := jm_rd_some hf
      refine jw_iald hx hb hK hst h17 dX0_chain_26 ?_
      refine lv_goto (tgt := 32) hx hb dX0_chain_27 (by decide) ?_
      obtain ⟨rfl, rfl⟩ := jm_ret_some hf
      exact jw_iret C0 hst dX0_chain_32
def jf_X0_ends (N : Nat) (a0 : Nat) (v1 : Int32) (v2 : Int32) : jm_P Int32 :=
  jm_bd (jf_X0_isChain N v1) fun x1 =>
  if x1 = 0 then (
    jm_ret (-1000001 : Int32))
  else
    jm_rd (jm_cl 0 (some a0)) fun a7 =>
    jm_bd (jf_X0_isCell N a7 (0 : Int32) v2) fun x4 =>
    if x4 = 0 then (
      jm_ret (-1000001 : Int32))
    else
      jm_rd (jm_fR [0] 0 (some a0)) fun x10 =>
      jm_rd (jm_cl 9 x10) fun a15 =>
      jm_bd (jf_X9_end N a15 v1 v2) fun x12 =>
      jm_ret x12
set_option maxHeartbeats 4000000 in
set_option maxRecDepth 100000 in
theorem jt_X0_ends (l : Launch) (g : GD) (b N : Nat) (a0 : Nat) (v1 : Int32) (v2 : Int32) (M M' : Mem) (r : Int32) (hf : (jf_X0_ends N a0 v1 v2).1 M = some (r, M')) : jm_Met l g b yX0_ends (ws_ yX0_ends cX0_ends 3 (some .int)) 2 47 [va_rf (some a0), .int v1, .int v2] M M' (some (.int r)) := by
  refine jm_start (by decide) (jm_mono hf) (by rw [lg_sl_r, lg_sl_i, lg_sl_i, lg_sl_n]; exact Nat.le_of_ble_eq_true rfl) ?_
  intro p e s m args below meth c ls C0 hin hK hst hl
  obtain ⟨hx, hb, hml, hown, hts, hr, hlk⟩ := id C0
  have hown : s.vm.findClass RX0 = some m.cls := hown
  have C0 : jm_Cx p s m args meth c cX0_ends 3 (some .int) RX0 := C0
  rw [lv_args_r, lv_args_i, lv_args_i, lv_args_n] at hl
  have hl : lv_has ls 3 [(0, va_rf (some a0)), (1, .int v1), (2, .int v2)] := hl
  unfold jf_X0_ends at hf
  refine lv_iload_n hx hb dX0_ends_0 rfl (lv_at hl 1 rfl) ?_
  obtain ⟨x1, Mm2, h3, hf⟩ := jm_bd_some hf
  refine jw_S (As := [.int v1]) (rest := []) (jt_X0_isChain l g b N v1 M Mm2 x1 h3) C0 hK hst (jm_mono h3) (jm_le_tr (jm_mono hf) jm_le_rf) q508 q509 q72 q510 hd_X0_isChain.2 ⟨Nat.le_of_ble_eq_true rfl, Nat.le_of_ble_eq_true rfl⟩ rfl hl.1 rfl (by rw [cs_n]; exact Nat.le_of_ble_eq_true rfl) dX0_ends_1 (fun H locs cells slots hst => ?_)
  refine W.eq (g2 := F0 m 4 ls [.int x1]) rfl ?_
  refine lv_if_eq (tgt := 28) hx hb dX0_ends_4 (by decide) (fun hc => ?_) (fun hc => ?_)
  · rw [if_pos hc] at hf
    refine lv_ldc hx hb hown (hts _ q134) dX0_ends_28 ?_
    obtain ⟨rfl, rfl⟩ := jm_ret_some hf
    exact jw_iret C0 hst dX0_ends_30
  · rw [if_neg hc] at hf
    refine jw_aload_n (r := (some a0)) hx hb dX0_ends_7 rfl (lv_at hl 0 rfl) ?_
    refine lv_iconst (v := 0) hx hb dX0_ends_8 (by decide) ?_
    refine lv_iload_n hx hb dX0_ends_9 rfl (lv_at hl 2 rfl) ?_
    obtain ⟨a7, h8, hf⟩ := jm_rd_some hf
    obtain ⟨fsa7, hea7, hr9⟩ := jm_cl_some h8
    obtain ⟨x4, Mm5, h6, hf⟩ := jm_bd_some hf
    refine jw_V (As := [.int (0 : Int32), .int v2]) (rest := []) (C := RX0) (T := TX0) (N := 7) (rv := (some a0)) (jt_X0_isCell l g b N a7 (0 : Int32) v2 Mm2 Mm5 x4 h6) C0 hK hst (jm_mono h6) (jm_le_tr (jm_mono hf) jm_le_rf) q394 q396 qs7 q72 q397 hd_X0_isCell ⟨Nat.le_of_ble_eq_true rfl, Nat.le_of_ble_eq_true rfl⟩ hea7 hr9 rfl rfl hl.1 rfl (by rw [cs_n]; exact Nat.le_of_ble_eq_true rfl) dX0_ends_10 (fun H locs cells slots hst => ?_)
    refine W.eq (g2 := F0 m 13 ls [.int x4]) rfl ?_
    refine lv_if_eq (tgt := 28) hx hb dX0_ends_13 (by decide) (fun hc => ?_) (fun hc => ?_)
    · rw [if_pos hc] at hf
      refine lv_ldc hx hb hown (hts _ q134) dX0_ends_28 ?_
      obtain ⟨rfl, rfl⟩ := jm_ret_some hf
      exact jw_iret C0 hst dX0_ends_30
    · rw [if_neg hc] at hf
      refine jw_aload_n (r := (some a0)) hx hb dX0_ends_16 rfl (lv_at hl 0 rfl) ?_
      obtain ⟨x10, h11, hf⟩ := jm_rd_some hf
      refine jw_getR hx hb hts hown hK hst (fl_X0_75 hts hK) h11 dX0_ends_17 ?_
      refine lv_iload_n hx hb dX0_ends_20 rfl (lv_at hl 1 rfl) ?_
      refine lv_iload_n hx hb dX0_ends_21 rfl (lv_at hl 2 rfl) ?_
      obtain ⟨a15, h16, hf⟩ := jm_rd_some hf
      obtain ⟨fsa15, hea15, hr17⟩ := jm_cl_some h16
      obtain ⟨x12, Mm13, h14, hf⟩ := jm_bd_some hf
      refine jw_V (As := [.int v1, .int v2]) (rest := []) (C := RX9) (T := TX9) (N := 4) (rv := x10) (jt_X9_end l g b N a15 v1 v2 Mm5 Mm13 x12 h14) C0 hK hst (jm_mono h14) (jm_le_tr (jm_mono hf) jm_le_rf) q778 q779 q780 q84 q781 hd_X9_end ⟨Nat.le_of_ble_eq_true rfl, Nat.le_of_ble_eq_true rfl⟩ hea15 hr17 rfl rfl hl.1 rfl (by rw [cs_n]; exact Nat.le_of_ble_eq_true rfl) dX0_ends_22 (fun H locs cells slots hst => ?_)
      refine W.eq (g2 := F0 m 25 ls [.int x12]) rfl ?_
      refine lv_goto (tgt := 30) hx hb dX0_ends_25 (by decide) ?_
      obtain ⟨rfl, rfl⟩ := jm_ret_some hf
      exact jw_iret C0 hst dX0_ends_30
theorem hd_X9_order : yX9_order.cls = RX9 ∧ yX9_order.cls ≠ "java/lang/invoke/MethodHandle" ∧ yX9_order.cls ≠ "java/lang/invoke/VarHandle" ∧ (parseMethodDescriptor yX9_order.desc).map (fun d => d.parameters.length) = some 1 := by decide +kernel
theorem hd_X9_isCycle : yX9_isCycle.cls = RX9 ∧ yX9_isCycle.cls ≠ "java/lang/invoke/MethodHandle" ∧ yX9_isCycle.cls ≠ "java/lang/invoke/VarHandle" ∧ (parseMethodDescriptor yX9_isCycle.desc).map (fun d => d.parameters.length) = some 1 := by decide +kernel
def jf_X0_whole (N : Nat) (a0 : Nat) (v1 : Int32) (v2 : Int32) : jm_P Int32 :=
  jm_rd (jm_fR [0] 0 (some a0)) fun x1 =>
  if x1 = none then (
    jm_ret (-1000002 : Int32))
  else
    jm_bd (jf_X0_isChain N v1) fun x3 =>
    if x3 = 0 then (
      jm_ret (-1000001 : Int32))
    else
      jm_bd (jf_X0_isIn N (v2.toInt64) (0 : Int64) (2 : Int64)) fun x6 =>
      if x6 = 0 then (
        jm_ret (-1000001 : Int32))
      else
        if v2 = 0 then (
          jm_rd (jm_fR [0] 0 (some a0)) fun x17 =>
          jm_rd (jm_cl 9 x17) fun a22 =>
          jm_bd (jf_X9_isCycle N a22 v1) fun x19 =>
          if x19 = 0 then (
            jm_ret (0 : Int32))
          else
            jm_ret (1 : Int32))
        else
          jm_rd (jm_fR [0] 0 (some a0)) fun x9 =>
          jm_rd (jm_cl 9 x9) fun a14 =>
          jm_bd (jf_X9_order N a14 v1) fun x11 =>
          if v2 = (2 : Int32) then (
            jm_ret x11)
          else
            if x11 = (1 : Int32) then (
              jm_ret (1 : Int32))
            else
              jm_ret (0 : Int32)
set_option maxHeartbeats 4000000 in
set_option maxRecDepth 100000 in
theorem jt_X0_whole (l : Launch) (g : GD) (b N : Nat) (a0 : Nat) (v1 : Int32) (v2 : Int32) (M M' : Mem) (r : Int32) (hf : (jf_X0_whole N a0 v1 v2).1 M = some (r, M')) : jm_Met l g b yX0_whole (ws_ yX0_whole cX0_whole 4 (some .int)) 4 120 [va_rf (some a0), .int v1, .int v2] M M' (some (.int r)) := by
  refine jm_start (by decide) (jm_mono hf) (by rw [lg_sl_r, lg_sl_i, lg_sl_i, lg_sl_n]; exact Nat.le_of_ble_eq_true rfl) ?_
  intro p e s m args below meth c ls C0 hin hK hst hl
  obtain ⟨hx, hb, hml, hown, hts, hr, hlk⟩ := id C0
  have hown : s.vm.findClass RX0 = some m.cls := hown
  have C0 : jm_Cx p s m args meth c cX0_whole 4 (some .int) RX0 := C0
  rw [lv_args_r, lv_args_i, lv_args_i, lv_args_n] at hl
  have hl : lv_has ls 4 [(0, va_rf (some a0)), (1, .int v1), (2, .int v2)] := hl
  unfold jf_X0_whole at hf
  refine jw_aload_n (r := (some a0)) hx hb dX0_whole_0 rfl (lv_at hl 0 rfl) ?_
  obtain ⟨x1, h2, hf⟩ := jm_rd_some hf
  refine jw_getR hx hb hts hown hK hst (fl_X0_75 hts hK) h2 dX0_whole_1 ?_
  refine jw_ifnonnull (tgt := 10) hx hb dX0_whole_4 (by decide) (fun hc => ?_) (fun hc => ?_)
  · rw [if_neg hc] at hf
    refine lv_iload_n hx hb dX0_whole_10 rfl (lv_at hl 1 rfl) ?_
    obtain ⟨x3, Mm4, h5, hf⟩ := jm_bd_some hf
    refine jw_S (As := [.int v1]) (rest := []) (jt_X0_isChain l g b N v1 M Mm4 x3 h5) C0 hK hst (jm_mono h5) (jm_le_tr (jm_mono hf) jm_le_rf) q508 q509 q72 q510 hd_X0_isChain.2 ⟨Nat.le_of_ble_eq_true rfl, Nat.le_of_ble_eq_true rfl⟩ rfl hl.1 rfl (by rw [cs_n]; exact Nat.le_of_ble_eq_true rfl) dX0_whole_11 (fun H locs cells slots hst => ?_)
    refine W.eq (g2 := F0 m 14 ls [.int x3]) rfl ?_
    refine lv_if_eq (tgt := 29) hx hb dX0_whole_14 (by decide) (fun hc => ?_) (fun hc => ?_)
    · rw [if_pos hc] at hf
      refine lv_ldc hx hb hown (hts _ q134) dX0_whole_29 ?_
      obtain ⟨rfl, rfl⟩ := jm_ret_some hf
      exact jw_iret C0 hst dX0_whole_31
    · rw [if_neg hc] at hf
      refine lv_iload_n hx hb dX0_whole_17 rfl (lv_at hl 2 rfl) ?_
      refine lv_i2l hx hb dX0_whole_18 rfl ?_
      refine lv_lconst (v := 0) hx hb dX0_whole_19 (by decide) ?_
      refine lv_ldc2 hx hb hown (hts _ q398) dX0_whole_20 ?_
      obtain ⟨x6, Mm7, h8, hf⟩ := jm_bd_some hf
      refine jw_S (As := [.long (v2.toInt64), .long (0 : Int64), .long (2 : Int64)]) (rest := []) (jt_X0_isIn l g b N (v2.toInt64) (0 : Int64) (2 : Int64) Mm4 Mm7 x6 h8) C0 hK hst (jm_mono h8) (jm_le_tr (jm_mono hf) jm_le_rf) q131 q132 q72 q133 hd_X0_isIn.2 ⟨Nat.le_of_ble_eq_true rfl, Nat.le_of_ble_eq_true rfl⟩ rfl hl.1 rfl (by rw [cs_n]; exact Nat.le_of_ble_eq_true rfl) dX0_whole_23 (fun H locs cells slots hst => ?_)
      refine W.eq (g2 := F0 m 26 ls [.int x6]) rfl ?_
      refine lv_if_ne (tgt := 32) hx hb dX0_whole_26 (by decide) (fun hc => ?_) (fun hc => ?_)
      · rw [if_neg hc] at hf
        refine lv_iload_n hx hb dX0_whole_32 rfl (lv_at hl 2 rfl) ?_
        refine lv_if_ne (tgt := 53) hx hb dX0_whole_33 (by decide) (fun hc => ?_) (fun hc => ?_)
        · rw [if_neg hc] at hf
          refine jw_aload_n (r := (some a0)) hx hb dX0_whole_53 rfl (lv_at hl 0 rfl) ?_
          obtain ⟨x9, h10, hf⟩ := jm_rd_some hf
          refine jw_getR hx hb hts hown hK hst (fl_X0_75 hts hK) h10 dX0_whole_54 ?_
          refine lv_iload_n hx hb dX0_whole_57 rfl (lv_at hl 1 rfl) ?_
          obtain ⟨a14, h15, hf⟩ := jm_rd_some hf
          obtain ⟨fsa14, hea14, hr16⟩ := jm_cl_some h15
          obtain ⟨x11, Mm12, h13, hf⟩ := jm_bd_some hf
          refine jw_V (As := [.int v1]) (rest := []) (C := RX9) (T := TX9) (N := 4) (rv := x9) (jt_X9_order l g b N a14 v1 Mm7 Mm12 x11 h13) C0 hK hst (jm_mono h13) (jm_le_tr (jm_mono hf) jm_le_rf) q791 q792 q793 q84 q794 hd_X9_order ⟨Nat.le_of_ble_eq_true rfl, Nat.le_of_ble_eq_true rfl⟩ hea14 hr16 rfl rfl hl.1 rfl (by rw [cs_n]; exact Nat.le_of_ble_eq_true rfl) dX0_whole_58 (fun H locs cells slots hst => ?_)
          refine W.eq (g2 := F0 m 61 ls [.int x11]) rfl ?_
          refine lv_istore_n (i := 3) (lv' := [(3, .int x11), (0, va_rf (some a0)), (1, .int v1), (2, .int v2)]) hx hb dX0_whole_61 rfl hl (by decide) rfl (fun ls hl => ?_)
          refine lv_iload_n hx hb dX0_whole_62 rfl (lv_at hl 3 rfl) ?_
          refine lv_iconst (v := 2) hx hb dX0_whole_63 (by decide) ?_
          refine lv_icmp_ne (tgt := 71) hx hb dX0_whole_64 (by decide) (fun hc => ?_) (fun hc => ?_)
          · rw [if_neg hc] at hf
            refine lv_iload_n hx hb dX0_whole_71 rfl (lv_at hl 0 rfl) ?_
            refine lv_iconst (v := 1) hx hb dX0_whole_72 (by decide) ?_
            refine lv_icmp_ne (tgt := 80) hx hb dX0_whole_73 (by decide) (fun hc => ?_) (fun hc => ?_)
            · rw [if_neg hc] at hf
              refine lv_iconst (v := 0) hx hb dX0_whole_80 (by decide) ?_
              obtain ⟨rfl, rfl⟩ := jm_ret_some hf
              exact jw_iret C0 hst dX0_whole_81
            · rw [if_pos hc] at hf
              refine lv_iconst (v := 1) hx hb dX0_whole_76 (by decide) ?_
              refine lv_goto (tgt := 81) hx hb dX0_whole_77 (by decide) ?_
              obtain ⟨rfl, rfl⟩ := jm_ret_some hf
              exact jw_iret C0 hst dX0_whole_81
          · rw [if_pos hc] at hf
            refine lv_iload_n hx hb dX0_whole_67 rfl (lv_at hl 0 rfl) ?_
            refine lv_goto (tgt := 81) hx hb dX0_whole_68 (by decide) ?_
            obtain ⟨rfl, rfl⟩ := jm_ret_some hf
            exact jw_iret C0 hst dX0_whole_81
        · rw [if_pos hc] at hf
          refine jw_aload_n (r := (some a0)) hx hb dX0_whole_36 rfl (lv_at hl 0 rfl) ?_
          obtain ⟨x17, h18, hf⟩ := jm_rd_some hf
          refine jw_getR hx hb hts hown hK hst (fl_X0_75 hts hK) h18 dX0_whole_37 ?_
          refine lv_iload_n hx hb dX0_whole_40 rfl (lv_at hl 1 rfl) ?_
          obtain ⟨a22, h23, hf⟩ := jm_rd_some hf
          obtain ⟨fsa22, hea22, hr24⟩ := jm_cl_some h23
          obtain ⟨x19, Mm20, h21, hf⟩ := jm_bd_some hf
          refine jw_V (As := [.int v1]) (rest := []) (C := RX9) (T := TX9) (N := 4) (rv := x17) (jt_X9_isCycle l g b N a22 v1 Mm7 Mm20 x19 h21) C0 hK hst (jm_mono h21) (jm_le_tr (jm_mono hf) jm_le_rf) q786 q787 q788 q84 q789 hd_X9_isCycle ⟨Nat.le_of_ble_eq_true rfl, Nat.le_of_ble_eq_true rfl⟩ hea22 hr24 rfl rfl hl.1 rfl (by rw [cs_n]; exact Nat.le_of_ble_eq_true rfl) dX0_whole_41 (fun H locs cells slots hst => ?_)
          refine W.eq (g2 := F0 m 44 ls [.int x19]) rfl ?_
          refine lv_if_eq (tgt := 51) hx hb dX0_whole_44 (by decide) (fun hc => ?_) (fun hc => ?_)
          · rw [if_pos hc] at hf
            refine lv_iconst (v := 0) hx hb dX0_whole_51 (by decide) ?_
            obtain ⟨rfl, rfl⟩ := jm_ret_some hf
            exact jw_iret C0 hst dX0_whole_52
          · rw [if_neg hc] at hf
            refine lv_iconst (v := 1) hx hb dX0_whole_47 (by decide) ?_
            refine lv_goto (tgt := 52) hx hb dX0_whole_48 (by decide) ?_
            obtain ⟨rfl, rfl⟩ := jm_ret_some hf
            exact jw_iret C0 hst dX0_whole_52
      · rw [if_pos hc] at hf
        refine lv_ldc hx hb hown (hts _ q134) dX0_whole_29 ?_
        obtain ⟨rfl, rfl⟩ := jm_ret_some hf
        exact jw_iret C0 hst dX0_whole_31
  · rw [if_pos hc] at hf
    refine lv_ldc hx hb hown (hts _ q389) dX0_whole_7 ?_
    obtain ⟨rfl, rfl⟩ := jm_ret_some hf
    exact jw_iret C0 hst dX0_whole_9
def jf_X0_isHalf (N : Nat) (v0 : Int32) : jm_P Int32 :=
  jm_bd (jf_X0_isIn N (v0.toInt64) (0 : Int64) (1 : Int64)) fun x1 =>
  jm_rd (jm_ck (x1 = 0 ∨ x1 = 1)) fun _ =>
  jm_ret x1
set_option maxHeartbeats 4000000 in
set_option maxRecDepth 100000 in
theorem jt_X0_isHalf (l : Launch) (g : GD) (b N : Nat) (v0 : Int32) (M M' : Mem) (r : Int32) (hf : (jf_X0_isHalf N v0).1 M = some (r, M')) : jm_Met l g b yX0_isHalf (ws_ yX0_isHalf cX0_isHalf 1 (some .boolean)) 1 25 [.int v0] M M' (some (.int r)) := by
  refine jm_start (by decide) (jm_mono hf) (by rw [lg_sl_i, lg_sl_n]; exact Nat.le_of_ble_eq_true rfl) ?_
  intro p e s m args below meth c ls C0 hin hK hst hl
  obtain ⟨hx, hb, hml, hown, hts, hr, hlk⟩ := id C0
  have hown : s.vm.findClass RX0 = some m.cls := hown
  have C0 : jm_Cx p s m args meth c cX0_isHalf 1 (some .boolean) RX0 := C0
  rw [lv_args_i, lv_args_n] at hl
  have hl : lv_has ls 1 [(0, .int v0)] := hl
  unfold jf_X0_isHalf at hf
  refine lv_iload_n hx hb dX0_isHalf_0 rfl (lv_at hl 0 rfl) ?_
  refine lv_i2l hx hb dX0_isHalf_1 rfl ?_
  refine lv_lconst (v := 0) hx hb dX0_isHalf_2 (by decide) ?_
  refine lv_lconst (v := 1) hx hb dX0_isHalf_3 (by decide) ?_
  obtain ⟨x1, Mm2, h3, hf⟩ := jm_bd_some hf
  refine jw_S (As := [.long (v0.toInt64), .long (0 : Int64), .long (1 : Int64)]) (rest := []) (jt_X0_isIn l g b N (v0.toInt64) (0 : Int64) (1 : Int64) M Mm2 x1 h3) C0 hK hst (jm_mono h3) (jm_le_tr (jm_mono hf) jm_le_rf) q131 q132 q72 q133 hd_X0_isIn.2 ⟨Nat.le_of_ble_eq_true rfl, Nat.le_of_ble_eq_true rfl⟩ rfl hl.1 rfl (by rw [cs_n]; exact Nat.le_of_ble_eq_true rfl) dX0_isHalf_4 (fun H locs cells slots hst => ?_)
  refine W.eq (g2 := F0 m 7 ls [.int x1]) rfl ?_
  obtain ⟨_, h4, hf⟩ := jm_rd_some hf
  obtain ⟨rfl, rfl⟩ := jm_ret_some hf
  exact jw_zret C0 (jm_ck_some h4) hst dX0_isHalf_7
theorem hd_X0_isHalf : yX0_isHalf.cls = RX0 ∧ yX0_isHalf.cls ≠ "java/lang/invoke/MethodHandle" ∧ yX0_isHalf.cls ≠ "java/lang/invoke/VarHandle" ∧ (parseMethodDescriptor yX0_isHalf.desc).map (fun d => d.parameters.length) = some 1 := by decide +kernel
theorem hd_X12_told : yX12_told.cls = RX12 ∧ yX12_told.cls ≠ "java/lang/invoke/MethodHandle" ∧ yX12_told.cls ≠ "java/lang/invoke/VarHandle" ∧ (parseMethodDescriptor yX12_told.desc).map (fun d => d.parameters.length) = some 1 := by decide +kernel
def jf_X0_part (N : Nat) (a0 : Nat) (v1 : Int32) (v2 : Int32) (v3 : Int32) (v4 : Int32) : jm_P Int64 :=
  jm_bd (jf_X0_isChain N v1) fun x1 =>
  if x1 = 0 then (
    jm_ret (-1000001 : Int64))
  else
    jm_bd (jf_X0_isIn N (v2.toInt64) (0 : Int64) (2 : Int64)) fun x4 =>
    if x4 = 0 then (
      jm_ret (-1000001 : Int64))
    else
      jm_rd (jm_cl 0 (some a0)) fun a10 =>
      jm_bd (jf_X0_isCell N a10 (1 : Int32) v3) fun x7 =>
      if x7 = 0 then (
        jm_ret (-1000001 : Int64))
      else
        jm_bd (jf_X0_isHalf N v4) fun x13 =>
        if x13 = 0 then (
          jm_ret (-1000001 : Int64))
        else
          jm_rd (jm_fR [0] 0 (some a0)) fun x16 =>
          jm_rd (jm_cl 9 x16) fun a21 =>
          jm_bd (jf_X9_part N a21 v1 v2) fun x18 =>
          jm_rd (jm_ldR 11 x18 v3) fun x24 =>
          jm_rd (jm_cl 12 x24) fun a29 =>
          jm_bd (jf_X12_told N a29 v4) fun x26 =>
          jm_ret x26
set_option maxHeartbeats 4000000 in
set_option maxRecDepth 100000 in
theorem jt_X0_part (l : Launch) (g : GD) (b N : Nat) (a0 : Nat) (v1 : Int32) (v2 : Int32) (v3 : Int32) (v4 : Int32) (M M' : Mem) (r : Int64) (hf : (jf_X0_part N a0 v1 v2 v3 v4).1 M = some (r, M')) : jm_Met l g b yX0_part (ws_ yX0_part cX0_part 5 (some .long)) 7 198 [va_rf (some a0), .int v1, .int v2, .int v3, .int v4] M M' (some (.long r)) := by
  refine jm_start (by decide) (jm_mono hf) (by rw [lg_sl_r, lg_sl_i, lg_sl_i, lg_sl_i, lg_sl_i, lg_sl_n]; exact Nat.le_of_ble_eq_true rfl) ?_
  intro p e s m args below meth c ls C0 hin hK hst hl
  obtain ⟨hx, hb, hml, hown, hts, hr, hlk⟩ := id C0
  have hown : s.vm.findClass RX0 = some m.cls := hown
  have C0 : jm_Cx p s m args meth c cX0_part 5 (some .long) RX0 := C0
  rw [lv_args_r, lv_args_i, lv_args_i, lv_args_i, lv_args_i, lv_args_n] at hl
  have hl : lv_has ls 5 [(0, va_rf (some a0)), (1, .int v1), (2, .int v2), (3, .int v3), (4, .int v4)] := hl
  unfold jf_X0_part at hf
  refine lv_iload_n hx hb dX0_part_0 rfl (lv_at hl 1 rfl) ?_
  obtain ⟨x1, Mm2, h3, hf⟩ := jm_bd_some hf
  refine jw_S (As := [.int v1]) (rest := []) (jt_X0_isChain l g b N v1 M Mm2 x1 h3) C0 hK hst (jm_mono h3) (jm_le_tr (jm_mono hf) jm_le_rf) q508 q509 q72 q510 hd_X0_isChain.2 ⟨Nat.le_of_ble_eq_true rfl, Nat.le_of_ble_eq_true rfl⟩ rfl hl.1 rfl (by rw [cs_n]; exact Nat.le_of_ble_eq_true rfl) dX0_part_1 (fun H locs cells slots hst => ?_)
  refine W.eq (g2 := F0 m 4 ls [.int x1]) rfl ?_
  refine lv_if_eq (tgt := 36) hx hb dX0_part_4 (by decide) (fun hc => ?_) (fun hc => ?_)
  · rw [if_pos hc] at hf
    refine lv_ldc2 hx hb hown (hts _ q811) dX0_part_36 ?_
    obtain ⟨rfl, rfl⟩ := jm_ret_some hf
    exact jw_lret C0 hst dX0_part_39
  · rw [if_neg hc] at hf
    refine lv_iload_n hx hb dX0_part_7 rfl (lv_at hl 2 rfl) ?_
    refine lv_i2l hx hb dX0_part_8 rfl ?_
    refine lv_lconst (v := 0) hx hb dX0_part_9 (by decide) ?_
    refine lv_ldc2 hx hb hown (hts _ q398) dX0_part_10 ?_
    obtain ⟨x4, Mm5, h6, hf⟩ := jm_bd_some hf
    refine jw_S (As := [.long (v2.toInt64), .long (0 : Int64), .long (2 : Int64)]) (rest := []) (jt_X0_isIn l g b N (v2.toInt64) (0 : Int64) (2 : Int64) Mm2 Mm5 x4 h6) C0 hK hst (jm_mono h6) (jm_le_tr (jm_mono hf) jm_le_rf) q131 q132 q72 q133 hd_X0_isIn.2 ⟨Nat.le_of_ble_eq_true rfl, Nat.le_of_ble_eq_true rfl⟩ rfl hl.1 rfl (by rw [cs_n]; exact Nat.le_of_ble_eq_true rfl) dX0_part_13 (fun H locs cells slots hst => ?_)
    refine W.eq (g2 := F0 m 16 ls [.int x4]) rfl ?_
    refine lv_if_eq (tgt := 36) hx hb dX0_part_16 (by decide) (fun hc => ?_) (fun hc => ?_)
    · rw [if_pos hc] at hf
      refine lv_ldc2 hx hb hown (hts _ q811) dX0_part_36 ?_
      obtain ⟨rfl, rfl⟩ := jm_ret_some hf
      exact jw_lret C0 hst dX0_part_39
    · rw [if_neg hc] at hf
      refine jw_aload_n (r := (some a0)) hx hb dX0_part_19 rfl (lv_at hl 0 rfl) ?_
      refine lv_iconst (v := 1) hx hb dX0_part_20 (by decide) ?_
      refine lv_iload_n hx hb dX0_part_21 rfl (lv_at hl 3 rfl) ?_
      obtain ⟨a10, h11, hf⟩ := jm_rd_some hf
      obtain ⟨fsa10, hea10, hr12⟩ := jm_cl_some h11
      obtain ⟨x7, Mm8, h9, hf⟩ := jm_bd_some hf
      refine jw_V (As := [.int (1 : Int32), .int v3]) (rest := []) (C := RX0) (T := TX0) (N := 7) (rv := (some a0)) (jt_X0_isCell l g b N a10 (1 : Int32) v3 Mm5 Mm8 x7 h9) C0 hK hst (jm_mono h9) (jm_le_tr (jm_mono hf) jm_le_rf) q394 q396 qs7 q72 q397 hd_X0_isCell ⟨Nat.le_of_ble_eq_true rfl, Nat.le_of_ble_eq_true rfl⟩ hea10 hr12 rfl rfl hl.1 rfl (by rw [cs_n]; exact Nat.le_of_ble_eq_true rfl) dX0_part_22 (fun H locs cells slots hst => ?_)
      refine W.eq (g2 := F0 m 25 ls [.int x7]) rfl ?_
      refine lv_if_eq (tgt := 36) hx hb dX0_part_25 (by decide) (fun hc => ?_) (fun hc => ?_)
      · rw [if_pos hc] at hf
        refine lv_ldc2 hx hb hown (hts _ q811) dX0_part_36 ?_
        obtain ⟨rfl, rfl⟩ := jm_ret_some hf
        exact jw_lret C0 hst dX0_part_39
      · rw [if_neg hc] at hf
        refine lv_iload hx hb dX0_part_28 (lv_at hl 4 rfl) ?_
        obtain ⟨x13, Mm14, h15, hf⟩ := jm_bd_some hf
        refine jw_S (As := [.int v4]) (rest := []) (jt_X0_isHalf l g b N v4 Mm8 Mm14 x13 h15) C0 hK hst (jm_mono h15) (jm_le_tr (jm_mono hf) jm_le_rf) q808 q809 q72 q810 hd_X0_isHalf.2 ⟨Nat.le_of_ble_eq_true rfl, Nat.le_of_ble_eq_true rfl⟩ rfl hl.1 rfl (by rw [cs_n]; exact Nat.le_of_ble_eq_true rfl) dX0_part_30 (fun H locs cells slots hst => ?_)
        refine W.eq (g2 := F0 m 33 ls [.int x13]) rfl ?_
        refine lv_if_ne (tgt := 40) hx hb dX0_part_33 (by decide) (fun hc => ?_) (fun hc => ?_)
        · rw [if_neg hc] at hf
          refine jw_aload_n (r := (some a0)) hx hb dX0_part_40 rfl (lv_at hl 0 rfl) ?_
          obtain ⟨x16, h17, hf⟩ := jm_rd_some hf
          refine jw_getR hx hb hts hown hK hst (fl_X0_75 hts hK) h17 dX0_part_41 ?_
          refine lv_iload_n hx hb dX0_part_44 rfl (lv_at hl 1 rfl) ?_
          refine lv_iload_n hx hb dX0_part_45 rfl (lv_at hl 2 rfl) ?_
          obtain ⟨a21, h22, hf⟩ := jm_rd_some hf
          obtain ⟨fsa21, hea21, hr23⟩ := jm_cl_some h22
          obtain ⟨x18, Mm19, h20, hf⟩ := jm_bd_some hf
          refine jw_V (As := [.int v1, .int v2]) (rest := []) (C := RX9) (T := TX9) (N := 4) (rv := x16) (jt_X9_part l g b N a21 v1 v2 Mm14 Mm19 x18 h20) C0 hK hst (jm_mono h20) (jm_le_tr (jm_mono hf) jm_le_rf) q812 q813 q814 q84 q815 hd_X9_part ⟨Nat.le_of_ble_eq_true rfl, Nat.le_of_ble_eq_true rfl⟩ hea21 hr23 rfl rfl hl.1 rfl (by rw [cs_n]; exact Nat.le_of_ble_eq_true rfl) dX0_part_46 (fun H locs cells slots hst => ?_)
          refine W.eq (g2 := F0 m 49 ls [va_rf x18]) rfl ?_
          refine lv_iload_n hx hb dX0_part_49 rfl (lv_at hl 3 rfl) ?_
          obtain ⟨x24, h25, hf⟩ := jm_rd_some hf
          refine jw_aald hx hb hK hst (show jm_ty[11]? = some (.object "ChainParts$Fraction") from rfl) rfl h25 dX0_part_50 ?_
          refine lv_iload hx hb dX0_part_51 (lv_at hl 4 rfl) ?_
          obtain ⟨a29, h30, hf⟩ := jm_rd_some hf
          obtain ⟨fsa29, hea29, hr31⟩ := jm_cl_some h30
          obtain ⟨x26, Mm27, h28, hf⟩ := jm_bd_some hf
          refine jw_V (As := [.int v4]) (rest := []) (C := RX12) (T := TX12) (N := 2) (rv := x24) (jt_X12_told l g b N a29 v4 Mm19 Mm27 x26 h28) C0 hK hst (jm_mono h28) (jm_le_tr (jm_mono hf) jm_le_rf) q863 q864 q865 q92 q866 hd_X12_told ⟨Nat.le_of_ble_eq_true rfl, Nat.le_of_ble_eq_true rfl⟩ hea29 hr31 rfl rfl hl.1 rfl (by rw [cs_n]; exact Nat.le_of_ble_eq_true rfl) dX0_part_53 (fun H locs cells slots hst => ?_)
          refine W.eq (g2 := F0 m 56 ls [.long x26]) rfl ?_
          obtain ⟨rfl, rfl⟩ := jm_ret_some hf
          exact jw_lret C0 hst dX0_part_56
        · rw [if_pos hc] at hf
          refine lv_ldc2 hx hb hown (hts _ q811) dX0_part_36 ?_
          obtain ⟨rfl, rfl⟩ := jm_ret_some hf
          exact jw_lret C0 hst dX0_part_39
theorem hd_X9_length : yX9_length.cls = RX9 ∧ yX9_length.cls ≠ "java/lang/invoke/MethodHandle" ∧ yX9_length.cls ≠ "java/lang/invoke/VarHandle" ∧ (parseMethodDescriptor yX9_length.desc).map (fun d => d.parameters.length) = some 2 := by decide +kernel
def jf_X0_length (N : Nat) (a0 : Nat) (v1 : Int32) (v2 : Int32) (v3 : Int32) : jm_P Int64 :=
  jm_rd (jm_fR [0] 0 (some a0)) fun x1 =>
  if x1 = none then (
    jm_ret (-1000002 : Int64))
  else
    jm_bd (jf_X0_isChain N v1) fun x3 =>
    if x3 = 0 then (
      jm_ret (-1000001 : Int64))
    else
      jm_bd (jf_X0_isIn N (v2.toInt64) (0 : Int64) (3 : Int64)) fun x6 =>
      if x6 = 0 then (
        jm_ret (-1000001 : Int64))
      else
        jm_bd (jf_X0_isHalf N v3) fun x9 =>
        if x9 = 0 then (
          jm_ret (-1000001 : Int64))
        else
          jm_rd (jm_fR [0] 0 (some a0)) fun x12 =>
          jm_rd (jm_cl 9 x12) fun a17 =>
          jm_bd (jf_X9_length N a17 v1 v2) fun x14 =>
          jm_rd (jm_cl 12 x14) fun a23 =>
          jm_bd (jf_X12_told N a23 v3) fun x20 =>
          jm_ret x20
set_option maxHeartbeats 4000000 in
set_option maxRecDepth 100000 in
theorem jt_X0_length (l : Launch) (g : GD) (b N : Nat) (a0 : Nat) (v1 : Int32) (v2 : Int32) (v3 : Int32) (M M' : Mem) (r : Int64) (hf : (jf_X0_length N a0 v1 v2 v3).1 M = some (r, M')) : jm_Met l g b yX0_length (ws_ yX0_length cX0_length 4 (some .long)) 8 223 [va_rf (some a0), .int v1, .int v2, .int v3] M M' (some (.long r)) := by
  refine jm_start (by decide) (jm_mono hf) (by rw [lg_sl_r, lg_sl_i, lg_sl_i, lg_sl_i, lg_sl_n]; exact Nat.le_of_ble_eq_true rfl) ?_
  intro p e s m args below meth c ls C0 hin hK hst hl
  obtain ⟨hx, hb, hml, hown, hts, hr, hlk⟩ := id C0
  have hown : s.vm.findClass RX0 = some m.cls := hown
  have C0 : jm_Cx p s m args meth c cX0_length 4 (some .long) RX0 := C0
  rw [lv_args_r, lv_args_i, lv_args_i, lv_args_i, lv_args_n] at hl
  have hl : lv_has ls 4 [(0, va_rf (some a0)), (1, .int v1), (2, .int v2), (3, .int v3)] := hl
  unfold jf_X0_length at hf
  refine jw_aload_n (r := (some a0)) hx hb dX0_length_0 rfl (lv_at hl 0 rfl) ?_
  obtain ⟨x1, h2, hf⟩ := jm_rd_some hf
  refine jw_getR hx hb hts hown hK hst (fl_X0_75 hts hK) h2 dX0_length_1 ?_
  refine jw_ifnonnull (tgt := 11) hx hb dX0_length_4 (by decide) (fun hc => ?_) (fun hc => ?_)
  · rw [if_neg hc] at hf
    refine lv_iload_n hx hb dX0_length_11 rfl (lv_at hl 1 rfl) ?_
    obtain ⟨x3, Mm4, h5, hf⟩ := jm_bd_some hf
    refine jw_S (As := [.int v1]) (rest := []) (jt_X0_isChain l g b N v1 M Mm4 x3 h5) C0 hK hst (jm_mono h5) (jm_le_tr (jm_mono hf) jm_le_rf) q508 q509 q72 q510 hd_X0_isChain.2 ⟨Nat.le_of_ble_eq_true rfl, Nat.le_of_ble_eq_true rfl⟩ rfl hl.1 rfl (by rw [cs_n]; exact Nat.le_of_ble_eq_true rfl) dX0_length_12 (fun H locs cells slots hst => ?_)
    refine W.eq (g2 := F0 m 15 ls [.int x3]) rfl ?_
    refine lv_if_eq (tgt := 37) hx hb dX0_length_15 (by decide) (fun hc => ?_) (fun hc => ?_)
    · rw [if_pos hc] at hf
      refine lv_ldc2 hx hb hown (hts _ q811) dX0_length_37 ?_
      obtain ⟨rfl, rfl⟩ := jm_ret_some hf
      exact jw_lret C0 hst dX0_length_40
    · rw [if_neg hc] at hf
      refine lv_iload_n hx hb dX0_length_18 rfl (lv_at hl 2 rfl) ?_
      refine lv_i2l hx hb dX0_length_19 rfl ?_
      refine lv_lconst (v := 0) hx hb dX0_length_20 (by decide) ?_
      refine lv_ldc2 hx hb hown (hts _ q406) dX0_length_21 ?_
      obtain ⟨x6, Mm7, h8, hf⟩ := jm_bd_some hf
      refine jw_S (As := [.long (v2.toInt64), .long (0 : Int64), .long (3 : Int64)]) (rest := []) (jt_X0_isIn l g b N (v2.toInt64) (0 : Int64) (3 : Int64) Mm4 Mm7 x6 h8) C0 hK hst (jm_mono h8) (jm_le_tr (jm_mono hf) jm_le_rf) q131 q132 q72 q133 hd_X0_isIn.2 ⟨Nat.le_of_ble_eq_true rfl, Nat.le_of_ble_eq_true rfl⟩ rfl hl.1 rfl (by rw [cs_n]; exact Nat.le_of_ble_eq_true rfl) dX0_length_24 (fun H locs cells slots hst => ?_)
      refine W.eq (g2 := F0 m 27 ls [.int x6]) rfl ?_
      refine lv_if_eq (tgt := 37) hx hb dX0_length_27 (by decide) (fun hc => ?_) (fun hc => ?_)
      · rw [if_pos hc] at hf
        refine lv_ldc2 hx hb hown (hts _ q811) dX0_length_37 ?_
        obtain ⟨rfl, rfl⟩ := jm_ret_some hf
        exact jw_lret C0 hst dX0_length_40
      · rw [if_neg hc] at hf
        refine lv_iload_n hx hb dX0_length_30 rfl (lv_at hl 3 rfl) ?_
        obtain ⟨x9, Mm10, h11, hf⟩ := jm_bd_some hf
        refine jw_S (As := [.int v3]) (rest := []) (jt_X0_isHalf l g b N v3 Mm7 Mm10 x9 h11) C0 hK hst (jm_mono h11) (jm_le_tr (jm_mono hf) jm_le_rf) q808 q809 q72 q810 hd_X0_isHalf.2 ⟨Nat.le_of_ble_eq_true rfl, Nat.le_of_ble_eq_true rfl⟩ rfl hl.1 rfl (by rw [cs_n]; exact Nat.le_of_ble_eq_true rfl) dX0_length_31 (fun H locs cells slots hst => ?_)
        refine W.eq (g2 := F0 m 34 ls [.int x9]) rfl ?_
        refine lv_if_ne (tgt := 41) hx hb dX0_length_34 (by decide) (fun hc => ?_) (fun hc => ?_)
        · rw [if_neg hc] at hf
          refine jw_aload_n (r := (some a0)) hx hb dX0_length_41 rfl (lv_at hl 0 rfl) ?_
          obtain ⟨x12, h13, hf⟩ := jm_rd_some hf
          refine jw_getR hx hb hts hown hK hst (fl_X0_75 hts hK) h13 dX0_length_42 ?_
          refine lv_iload_n hx hb dX0_length_45 rfl (lv_at hl 1 rfl) ?_
          refine lv_iload_n hx hb dX0_length_46 rfl (lv_at hl 2 rfl) ?_
          obtain ⟨a17, h18, hf⟩ := jm_rd_some hf
          obtain ⟨fsa17, hea17, hr19⟩ := jm_cl_some h18
          obtain ⟨x14, Mm15, h16, hf⟩ := jm_bd_some hf
          refine jw_V (As := [.int v1, .int v2]) (rest := []) (C := RX9) (T := TX9) (N := 4) (rv := x12) (jt_X9_length l g b N a17 v1 v2 Mm10 Mm15 x14 h16) C0 hK hst (jm_mono h16) (jm_le_tr (jm_mono hf) jm_le_rf) q872 q873 q874 q84 q875 hd_X9_length ⟨Nat.le_of_ble_eq_true rfl, Nat.le_of_ble_eq_true rfl⟩ hea17 hr19 rfl rfl hl.1 rfl (by rw [cs_n]; exact Nat.le_of_ble_eq_true rfl) dX0_length_47 (fun H locs cells slots hst => ?_)
          refine W.eq (g2 := F0 m 50 ls [va_rf x14]) rfl ?_
          refine lv_iload_n hx hb dX0_length_50 rfl (lv_at hl 3 rfl) ?_
          obtain ⟨a23, h24, hf⟩ := jm_rd_some hf
          obtain ⟨fsa23, hea23, hr25⟩ := jm_cl_some h24
          obtain ⟨x20, Mm21, h22, hf⟩ := jm_bd_some hf
          refine jw_V (As := [.int v3]) (rest := []) (C := RX12) (T := TX12) (N := 2) (rv := x14) (jt_X12_told l g b N a23 v3 Mm15 Mm21 x20 h22) C0 hK hst (jm_mono h22) (jm_le_tr (jm_mono hf) jm_le_rf) q863 q864 q865 q92 q866 hd_X12_told ⟨Nat.le_of_ble_eq_true rfl, Nat.le_of_ble_eq_true rfl⟩ hea23 hr25 rfl rfl hl.1 rfl (by rw [cs_n]; exact Nat.le_of_ble_eq_true rfl) dX0_length_51 (fun H locs cells slots hst => ?_)
          refine W.eq (g2 := F0 m 54 ls [.long x20]) rfl ?_
          obtain ⟨rfl, rfl⟩ := jm_ret_some hf
          exact jw_lret C0 hst dX0_length_54
        · rw [if_pos hc] at hf
          refine lv_ldc2 hx hb hown (hts _ q811) dX0_length_37 ?_
          obtain ⟨rfl, rfl⟩ := jm_ret_some hf
          exact jw_lret C0 hst dX0_length_40
  · rw [if_pos hc] at hf
    refine lv_ldc2 hx hb hown (hts _ q871) dX0_length_7 ?_
    obtain ⟨rfl, rfl⟩ := jm_ret_some hf
    exact jw_lret C0 hst dX0_length_10
theorem hd_X12_by : yX12_by.cls = RX12 ∧ yX12_by.cls ≠ "java/lang/invoke/MethodHandle" ∧ yX12_by.cls ≠ "java/lang/invoke/VarHandle" ∧ (parseMethodDescriptor yX12_by.desc).map (fun d => d.parameters.length) = some 1 := by decide +kernel
theorem hd_X12_thousandths : yX12_thousandths.cls = RX12 ∧ yX12_thousandths.cls ≠ "java/lang/invoke/MethodHandle" ∧ yX12_thousandths.cls ≠ "java/lang/invoke/VarHandle" ∧ (parseMethodDescriptor yX12_thousandths.desc).map (fun d => d.parameters.length) = some 0 := by decide +kernel
def jf_X0_share (N : Nat) (a0 : Nat) (v1 : Int32) (v2 : Int32) : jm_P Int32 :=
  jm_rd (jm_fR [0] 0 (some a0)) fun x1 =>
  if x1 = none then (
    jm_ret (-1000002 : Int32))
  else
    jm_bd (jf_X0_isChain N v1) fun x3 =>
    if x3 = 0 then (
      jm_ret (-1000001 : Int32))
    else
      jm_bd (jf_X0_isIn N (v2.toInt64) (0 : Int64) (2 : Int64)) fun x6 =>
      if x6 = 0 then (
        jm_ret (-1000001 : Int32))
      else
        jm_rd (jm_fR [0] 0 (some a0)) fun x9 =>
        jm_rd (jm_fR [9] 3 x9) fun x11 =>
        jm_rd (jm_ldR 12 x11 v1) fun x13 =>
        jm_bd (jf_X0_others N x13) fun x15 =>
        if x15 = 0 then (
          jm_ret (-1000002 : Int32))
        else
          jm_rd (jm_fR [0] 0 (some a0)) fun x18 =>
          jm_rd (jm_cl 9 x18) fun a23 =>
          jm_bd (jf_X9_length N a23 v1 v2) fun x20 =>
          jm_rd (jm_fR [0] 0 (some a0)) fun x26 =>
          jm_rd (jm_cl 9 x26) fun a31 =>
          jm_bd (jf_X9_length N a31 v1 (3 : Int32)) fun x28 =>
          jm_rd (jm_cl 12 x20) fun a37 =>
          jm_bd (jf_X12_by N a37 x28) fun x34 =>
          jm_rd (jm_cl 12 x34) fun a43 =>
          jm_bd (jf_X12_thousandths N a43 ) fun x40 =>
          jm_ret x40
set_option maxHeartbeats 4000000 in
set_option maxRecDepth 100000 in
theorem jt_X0_share (l : Launch) (g : GD) (b N : Nat) (a0 : Nat) (v1 : Int32) (v2 : Int32) (M M' : Mem) (r : Int32) (hf : (jf_X0_share N a0 v1 v2).1 M = some (r, M')) : jm_Met l g b yX0_share (ws_ yX0_share cX0_share 3 (some .int)) 8 223 [va_rf (some a0), .int v1, .int v2] M M' (some (.int r)) := by
  refine jm_start (by decide) (jm_mono hf) (by rw [lg_sl_r, lg_sl_i, lg_sl_i, lg_sl_n]; exact Nat.le_of_ble_eq_true rfl) ?_
  intro p e s m args below meth c ls C0 hin hK hst hl
  obtain ⟨hx, hb, hml, hown, hts, hr, hlk⟩ := id C0
  have hown : s.vm.findClass RX0 = some m.cls := hown
  have C0 : jm_Cx p s m args meth c cX0_share 3 (some .int) RX0 := C0
  rw [lv_args_r, lv_args_i, lv_args_i, lv_args_n] at hl
  have hl : lv_has ls 3 [(0, va_rf (some a0)), (1, .int v1), (2, .int v2)] := hl
  unfold jf_X0_share at hf
  refine jw_aload_n (r := (some a0)) hx hb dX0_share_0 rfl (lv_at hl 0 rfl) ?_
  obtain ⟨x1, h2, hf⟩ := jm_rd_some hf
  refine jw_getR hx hb hts hown hK hst (fl_X0_75 hts hK) h2 dX0_share_1 ?_
  refine jw_ifnonnull (tgt := 10) hx hb dX0_share_4 (by decide) (fun hc => ?_) (fun hc => ?_)
  · rw [if_neg hc] at hf
    refine lv_iload_n hx hb dX0_share_10 rfl (lv_at hl 1 rfl) ?_
    obtain ⟨x3, Mm4, h5, hf⟩ := jm_bd_some hf
    refine jw_S (As := [.int v1]) (rest := []) (jt_X0_isChain l g b N v1 M Mm4 x3 h5) C0 hK hst (jm_mono h5) (jm_le_tr (jm_mono hf) jm_le_rf) q508 q509 q72 q510 hd_X0_isChain.2 ⟨Nat.le_of_ble_eq_true rfl, Nat.le_of_ble_eq_true rfl⟩ rfl hl.1 rfl (by rw [cs_n]; exact Nat.le_of_ble_eq_true rfl) dX0_share_11 (fun H locs cells slots hst => ?_)
    refine W.eq (g2 := F0 m 14 ls [.int x3]) rfl ?_
    refine lv_if_eq (tgt := 29) hx hb dX0_share_14 (by decide) (fun hc => ?_) (fun hc => ?_)
    · rw [if_pos hc] at hf
      refine lv_ldc hx hb hown (hts _ q134) dX0_share_29 ?_
      obtain ⟨rfl, rfl⟩ := jm_ret_some hf
      exact jw_iret C0 hst dX0_share_31
    · rw [if_neg hc] at hf
      refine lv_iload_n hx hb dX0_share_17 rfl (lv_at hl 2 rfl) ?_
      refine lv_i2l hx hb dX0_share_18 rfl ?_
      refine lv_lconst (v := 0) hx hb dX0_share_19 (by decide) ?_
      refine lv_ldc2 hx hb hown (hts _ q398) dX0_share_20 ?_
      obtain ⟨x6, Mm7, h8, hf⟩ := jm_bd_some hf
      refine jw_S (As := [.long (v2.toInt64), .long (0 : Int64), .long (2 : Int64)]) (rest := []) (jt_X0_isIn l g b N (v2.toInt64) (0 : Int64) (2 : Int64) Mm4 Mm7 x6 h8) C0 hK hst (jm_mono h8) (jm_le_tr (jm_mono hf) jm_le_rf) q131 q132 q72 q133 hd_X0_isIn.2 ⟨Nat.le_of_ble_eq_true rfl, Nat.le_of_ble_eq_true rfl⟩ rfl hl.1 rfl (by rw [cs_n]; exact Nat.le_of_ble_eq_true rfl) dX0_share_23 (fun H locs cells slots hst => ?_)
      refine W.eq (g2 := F0 m 26 ls [.int x6]) rfl ?_
      refine lv_if_ne (tgt := 32) hx hb dX0_share_26 (by decide) (fun hc => ?_) (fun hc => ?_)
      · rw [if_neg hc] at hf
        refine jw_aload_n (r := (some a0)) hx hb dX0_share_32 rfl (lv_at hl 0 rfl) ?_
        obtain ⟨x9, h10, hf⟩ := jm_rd_some hf
        refine jw_getR hx hb hts hown hK hst (fl_X0_75 hts hK) h10 dX0_share_33 ?_
        obtain ⟨x11, h12, hf⟩ := jm_rd_some hf
        refine jw_getR hx hb hts hown hK hst (fl_X0_180 hts hK) h12 dX0_share_36 ?_
        refine lv_iload_n hx hb dX0_share_39 rfl (lv_at hl 1 rfl) ?_
        obtain ⟨x13, h14, hf⟩ := jm_rd_some hf
        refine jw_aald hx hb hK hst (show jm_ty[12]? = some (.array .int) from rfl) rfl h14 dX0_share_40 ?_
        obtain ⟨x15, Mm16, h17, hf⟩ := jm_bd_some hf
        refine jw_S (As := [va_rf x13]) (rest := []) (jt_X0_others l g b N x13 Mm7 Mm16 x15 h17) C0 hK hst (jm_mono h17) (jm_le_tr (jm_mono hf) jm_le_rf) q527 q528 q72 q529 hd_X0_others.2 ⟨Nat.le_of_ble_eq_true rfl, Nat.le_of_ble_eq_true rfl⟩ rfl hl.1 rfl (by rw [cs_n]; exact Nat.le_of_ble_eq_true rfl) dX0_share_41 (fun H locs cells slots hst => ?_)
        refine W.eq (g2 := F0 m 44 ls [.int x15]) rfl ?_
        refine lv_if_ne (tgt := 50) hx hb dX0_share_44 (by decide) (fun hc => ?_) (fun hc => ?_)
        · rw [if_neg hc] at hf
          refine jw_aload_n (r := (some a0)) hx hb dX0_share_50 rfl (lv_at hl 0 rfl) ?_
          obtain ⟨x18, h19, hf⟩ := jm_rd_some hf
          refine jw_getR hx hb hts hown hK hst (fl_X0_75 hts hK) h19 dX0_share_51 ?_
          refine lv_iload_n hx hb dX0_share_54 rfl (lv_at hl 1 rfl) ?_
          refine lv_iload_n hx hb dX0_share_55 rfl (lv_at hl 2 rfl) ?_
          obtain ⟨a23, h24, hf⟩ := jm_rd_some hf
          obtain ⟨fsa23, hea23, hr25⟩ := jm_cl_some h24
          obtain ⟨x20, Mm21, h22, hf⟩ := jm_bd_some hf
          refine jw_V (As := [.int v1, .int v2]) (rest := []) (C := RX9) (T := TX9) (N := 4) (rv := x18) (jt_X9_length l g b N a23 v1 v2 Mm16 Mm21 x20 h22) C0 hK hst (jm_mono h22) (jm_le_tr (jm_mono hf) jm_le_rf) q872 q873 q874 q84 q875 hd_X9_length ⟨Nat.le_of_ble_eq_true rfl, Nat.le_of_ble_eq_true rfl⟩ hea23 hr25 rfl rfl hl.1 rfl (by rw [cs_n]; exact Nat.le_of_ble_eq_true rfl) dX0_share_56 (fun H locs cells slots hst => ?_)
          refine W.eq (g2 := F0 m 59 ls [va_rf x20]) rfl ?_
          refine jw_aload_n (r := (some a0)) hx hb dX0_share_59 rfl (lv_at hl 0 rfl) ?_
          obtain ⟨x26, h27, hf⟩ := jm_rd_some hf
          refine jw_getR hx hb hts hown hK hst (fl_X0_75 hts hK) h27 dX0_share_60 ?_
          refine lv_iload_n hx hb dX0_share_63 rfl (lv_at hl 1 rfl) ?_
          refine lv_iconst (v := 3) hx hb dX0_share_64 (by decide) ?_
          obtain ⟨a31, h32, hf⟩ := jm_rd_some hf
          obtain ⟨fsa31, hea31, hr33⟩ := jm_cl_some h32
          obtain ⟨x28, Mm29, h30, hf⟩ := jm_bd_some hf
          refine jw_V (As := [.int v1, .int (3 : Int32)]) (rest := [va_rf x20]) (C := RX9) (T := TX9) (N := 4) (rv := x26) (jt_X9_length l g b N a31 v1 (3 : Int32) Mm21 Mm29 x28 h30) C0 hK hst (jm_mono h30) (jm_le_tr (jm_mono hf) jm_le_rf) q872 q873 q874 q84 q875 hd_X9_length ⟨Nat.le_of_ble_eq_true rfl, Nat.le_of_ble_eq_true rfl⟩ hea31 hr33 rfl rfl hl.1 rfl (by rw [cs_r, cs_n]; exact Nat.le_of_ble_eq_true rfl) dX0_share_65 (fun H locs cells slots hst => ?_)
          refine W.eq (g2 := F0 m 68 ls [va_rf x28, va_rf x20]) rfl ?_
          obtain ⟨a37, h38, hf⟩ := jm_rd_some hf
          obtain ⟨fsa37, hea37, hr39⟩ := jm_cl_some h38
          obtain ⟨x34, Mm35, h36, hf⟩ := jm_bd_some hf
          refine jw_V (As := [va_rf x28]) (rest := []) (C := RX12) (T := TX12) (N := 2) (rv := x20) (jt_X12_by l g b N a37 x28 Mm29 Mm35 x34 h36) C0 hK hst (jm_mono h36) (jm_le_tr (jm_mono hf) jm_le_rf) q881 q882 q883 q92 q884 hd_X12_by ⟨Nat.le_of_ble_eq_true rfl, Nat.le_of_ble_eq_true rfl⟩ hea37 hr39 rfl rfl hl.1 rfl (by rw [cs_n]; exact Nat.le_of_ble_eq_true rfl) dX0_share_68 (fun H locs cells slots hst => ?_)
          refine W.eq (g2 := F0 m 71 ls [va_rf x34]) rfl ?_
          obtain ⟨a43, h44, hf⟩ := jm_rd_some hf
          obtain ⟨fsa43, hea43, hr45⟩ := jm_cl_some h44
          obtain ⟨x40, Mm41, h42, hf⟩ := jm_bd_some hf
          refine jw_V (As := []) (rest := []) (C := RX12) (T := TX12) (N := 2) (rv := x34) (jt_X12_thousandths l g b N a43  Mm35 Mm41 x40 h42) C0 hK hst (jm_mono h42) (jm_le_tr (jm_mono hf) jm_le_rf) q885 q886 q887 q92 q888 hd_X12_thousandths ⟨Nat.le_of_ble_eq_true rfl, Nat.le_of_ble_eq_true rfl⟩ hea43 hr45 rfl rfl hl.1 rfl (by rw [cs_n]; exact Nat.le_of_ble_eq_true rfl) dX0_share_71 (fun H locs cells slots hst => ?_)
          refine W.eq (g2 := F0 m 74 ls [.int x40]) rfl ?_
          obtain ⟨rfl, rfl⟩ := jm_ret_some hf
          exact jw_iret C0 hst dX0_share_74
        · rw [if_pos hc] at hf
          refine lv_ldc hx hb hown (hts _ q389) dX0_share_47 ?_
          obtain ⟨rfl, rfl⟩ := jm_ret_some hf
          exact jw_iret C0 hst dX0_share_49
      · rw [if_pos hc] at hf
        refine lv_ldc hx hb hown (hts _ q134) dX0_share_29 ?_
        obtain ⟨rfl, rfl⟩ := jm_ret_some hf
        exact jw_iret C0 hst dX0_share_31
  · rw [if_pos hc] at hf
    refine lv_ldc hx hb hown (hts _ q389) dX0_share_7 ?_
    obtain ⟨rfl, rfl⟩ := jm_ret_some hf
    exact jw_iret C0 hst dX0_share_9
theorem hd_X9_trees : yX9_trees.cls = RX9 ∧ yX9_trees.cls ≠ "java/lang/invoke/MethodHandle" ∧ yX9_trees.cls ≠ "java/lang/invoke/VarHandle" ∧ (parseMethodDescriptor yX9_trees.desc).map (fun d => d.parameters.length) = some 2 := by decide +kernel
def jf_X0_trees (N : Nat) (a0 : Nat) (v1 : Int32) (v2 : Int32) : jm_P Int64 :=
  jm_rd (jm_fR [0] 0 (some a0)) fun x1 =>
  if x1 = none then (
    jm_ret (-1000002 : Int64))
  else
    jm_bd (jf_X0_isIn N (v1.toInt64) (1 : Int64) (2 : Int64)) fun x3 =>
    if x3 = 0 then (
      jm_ret (-1000001 : Int64))
    else
      jm_bd (jf_X0_isHalf N v2) fun x6 =>
      if x6 = 0 then (
        jm_ret (-1000001 : Int64))
      else
        jm_rd (jm_fR [0] 0 (some a0)) fun x9 =>
        jm_rd (jm_cl 9 x9) fun a14 =>
        jm_bd (jf_X9_trees N a14 v1 v2) fun x11 =>
        jm_ret x11
set_option maxHeartbeats 4000000 in
set_option maxRecDepth 100000 in
theorem jt_X0_trees (l : Launch) (g : GD) (b N : Nat) (a0 : Nat) (v1 : Int32) (v2 : Int32) (M M' : Mem) (r : Int64) (hf : (jf_X0_trees N a0 v1 v2).1 M = some (r, M')) : jm_Met l g b yX0_trees (ws_ yX0_trees cX0_trees 3 (some .long)) 6 177 [va_rf (some a0), .int v1, .int v2] M M' (some (.long r)) := by
  refine jm_start (by decide) (jm_mono hf) (by rw [lg_sl_r, lg_sl_i, lg_sl_i, lg_sl_n]; exact Nat.le_of_ble_eq_true rfl) ?_
  intro p e s m args below meth c ls C0 hin hK hst hl
  obtain ⟨hx, hb, hml, hown, hts, hr, hlk⟩ := id C0
  have hown : s.vm.findClass RX0 = some m.cls := hown
  have C0 : jm_Cx p s m args meth c cX0_trees 3 (some .long) RX0 := C0
  rw [lv_args_r, lv_args_i, lv_args_i, lv_args_n] at hl
  have hl : lv_has ls 3 [(0, va_rf (some a0)), (1, .int v1), (2, .int v2)] := hl
  unfold jf_X0_trees at hf
  refine jw_aload_n (r := (some a0)) hx hb dX0_trees_0 rfl (lv_at hl 0 rfl) ?_
  obtain ⟨x1, h2, hf⟩ := jm_rd_some hf
  refine jw_getR hx hb hts hown hK hst (fl_X0_75 hts hK) h2 dX0_trees_1 ?_
  refine jw_ifnonnull (tgt := 11) hx hb dX0_trees_4 (by decide) (fun hc => ?_) (fun hc => ?_)
  · rw [if_neg hc] at hf
    refine lv_iload_n hx hb dX0_trees_11 rfl (lv_at hl 1 rfl) ?_
    refine lv_i2l hx hb dX0_trees_12 rfl ?_
    refine lv_lconst (v := 1) hx hb dX0_trees_13 (by decide) ?_
    refine lv_ldc2 hx hb hown (hts _ q398) dX0_trees_14 ?_
    obtain ⟨x3, Mm4, h5, hf⟩ := jm_bd_some hf
    refine jw_S (As := [.long (v1.toInt64), .long (1 : Int64), .long (2 : Int64)]) (rest := []) (jt_X0_isIn l g b N (v1.toInt64) (1 : Int64) (2 : Int64) M Mm4 x3 h5) C0 hK hst (jm_mono h5) (jm_le_tr (jm_mono hf) jm_le_rf) q131 q132 q72 q133 hd_X0_isIn.2 ⟨Nat.le_of_ble_eq_true rfl, Nat.le_of_ble_eq_true rfl⟩ rfl hl.1 rfl (by rw [cs_n]; exact Nat.le_of_ble_eq_true rfl) dX0_trees_17 (fun H locs cells slots hst => ?_)
    refine W.eq (g2 := F0 m 20 ls [.int x3]) rfl ?_
    refine lv_if_eq (tgt := 42) hx hb dX0_trees_20 (by decide) (fun hc => ?_) (fun hc => ?_)
    · rw [if_pos hc] at hf
      refine lv_ldc2 hx hb hown (hts _ q811) dX0_trees_42 ?_
      obtain ⟨rfl, rfl⟩ := jm_ret_some hf
      exact jw_lret C0 hst dX0_trees_45
    · rw [if_neg hc] at hf
      refine lv_iload_n hx hb dX0_trees_23 rfl (lv_at hl 2 rfl) ?_
      obtain ⟨x6, Mm7, h8, hf⟩ := jm_bd_some hf
      refine jw_S (As := [.int v2]) (rest := []) (jt_X0_isHalf l g b N v2 Mm4 Mm7 x6 h8) C0 hK hst (jm_mono h8) (jm_le_tr (jm_mono hf) jm_le_rf) q808 q809 q72 q810 hd_X0_isHalf.2 ⟨Nat.le_of_ble_eq_true rfl, Nat.le_of_ble_eq_true rfl⟩ rfl hl.1 rfl (by rw [cs_n]; exact Nat.le_of_ble_eq_true rfl) dX0_trees_24 (fun H locs cells slots hst => ?_)
      refine W.eq (g2 := F0 m 27 ls [.int x6]) rfl ?_
      refine lv_if_eq (tgt := 42) hx hb dX0_trees_27 (by decide) (fun hc => ?_) (fun hc => ?_)
      · rw [if_pos hc] at hf
        refine lv_ldc2 hx hb hown (hts _ q811) dX0_trees_42 ?_
        obtain ⟨rfl, rfl⟩ := jm_ret_some hf
        exact jw_lret C0 hst dX0_trees_45
      · rw [if_neg hc] at hf
        refine jw_aload_n (r := (some a0)) hx hb dX0_trees_30 rfl (lv_at hl 0 rfl) ?_
        obtain ⟨x9, h10, hf⟩ := jm_rd_some hf
        refine jw_getR hx hb hts hown hK hst (fl_X0_75 hts hK) h10 dX0_trees_31 ?_
        refine lv_iload_n hx hb dX0_trees_34 rfl (lv_at hl 1 rfl) ?_
        refine lv_iload_n hx hb dX0_trees_35 rfl (lv_at hl 2 rfl) ?_
        obtain ⟨a14, h15, hf⟩ := jm_rd_some hf
        obtain ⟨fsa14, hea14, hr16⟩ := jm_cl_some h15
        obtain ⟨x11, Mm12, h13, hf⟩ := jm_bd_some hf
        refine jw_V (As := [.int v1, .int v2]) (rest := []) (C := RX9) (T := TX9) (N := 4) (rv := x9) (jt_X9_trees l g b N a14 v1 v2 Mm7 Mm12 x11 h13) C0 hK hst (jm_mono h13) (jm_le_tr (jm_mono hf) jm_le_rf) q894 q895 q896 q84 q897 hd_X9_trees ⟨Nat.le_of_ble_eq_true rfl, Nat.le_of_ble_eq_true rfl⟩ hea14 hr16 rfl rfl hl.1 rfl (by rw [cs_n]; exact Nat.le_of_ble_eq_true rfl) dX0_trees_36 (fun H locs cells slots hst => ?_)
        refine W.eq (g2 := F0 m 39 ls [.long x11]) rfl ?_
        refine lv_goto (tgt := 45) hx hb dX0_trees_39 (by decide) ?_
        obtain ⟨rfl, rfl⟩ := jm_ret_some hf
        exact jw_lret C0 hst dX0_trees_45
  · rw [if_pos hc] at hf
    refine lv_ldc2 hx hb hown (hts _ q871) dX0_trees_7 ?_
    obtain ⟨rfl, rfl⟩ := jm_ret_some hf
    exact jw_lret C0 hst dX0_trees_10
theorem hd_X9_minors : yX9_minors.cls = RX9 ∧ yX9_minors.cls ≠ "java/lang/invoke/MethodHandle" ∧ yX9_minors.cls ≠ "java/lang/invoke/VarHandle" ∧ (parseMethodDescriptor yX9_minors.desc).map (fun d => d.parameters.length) = some 1 := by decide +kernel
def jf_X0_minors (N : Nat) (a0 : Nat) (v1 : Int32) : jm_P Int64 :=
  jm_rd (jm_fR [0] 0 (some a0)) fun x1 =>
  if x1 = none then (
    jm_ret (-1000002 : Int64))
  else
    jm_bd (jf_X0_isIn N (v1.toInt64) (0 : Int64) (2 : Int64)) fun x3 =>
    if x3 = 0 then (
      jm_ret (-1000001 : Int64))
    else
      jm_rd (jm_fR [0] 0 (some a0)) fun x6 =>
      jm_rd (jm_cl 9 x6) fun a11 =>
      jm_bd (jf_X9_minors N a11 v1) fun x8 =>
      jm_ret x8
set_option maxHeartbeats 4000000 in
set_option maxRecDepth 100000 in
theorem jt_X0_minors (l : Launch) (g : GD) (b N : Nat) (a0 : Nat) (v1 : Int32) (M M' : Mem) (r : Int64) (hf : (jf_X0_minors N a0 v1).1 M = some (r, M')) : jm_Met l g b yX0_minors (ws_ yX0_minors cX0_minors 2 (some .long)) 6 136 [va_rf (some a0), .int v1] M M' (some (.long r)) := by
  refine jm_start (by decide) (jm_mono hf) (by rw [lg_sl_r, lg_sl_i, lg_sl_n]; exact Nat.le_of_ble_eq_true rfl) ?_
  intro p e s m args below meth c ls C0 hin hK hst hl
  obtain ⟨hx, hb, hml, hown, hts, hr, hlk⟩ := id C0
  have hown : s.vm.findClass RX0 = some m.cls := hown
  have C0 : jm_Cx p s m args meth c cX0_minors 2 (some .long) RX0 := C0
  rw [lv_args_r, lv_args_i, lv_args_n] at hl
  have hl : lv_has ls 2 [(0, va_rf (some a0)), (1, .int v1)] := hl
  unfold jf_X0_minors at hf
  refine jw_aload_n (r := (some a0)) hx hb dX0_minors_0 rfl (lv_at hl 0 rfl) ?_
  obtain ⟨x1, h2, hf⟩ := jm_rd_some hf
  refine jw_getR hx hb hts hown hK hst (fl_X0_75 hts hK) h2 dX0_minors_1 ?_
  refine jw_ifnonnull (tgt := 11) hx hb dX0_minors_4 (by decide) (fun hc => ?_) (fun hc => ?_)
  · rw [if_neg hc] at hf
    refine lv_iload_n hx hb dX0_minors_11 rfl (lv_at hl 1 rfl) ?_
    refine lv_i2l hx hb dX0_minors_12 rfl ?_
    refine lv_lconst (v := 0) hx hb dX0_minors_13 (by decide) ?_
    refine lv_ldc2 hx hb hown (hts _ q398) dX0_minors_14 ?_
    obtain ⟨x3, Mm4, h5, hf⟩ := jm_bd_some hf
    refine jw_S (As := [.long (v1.toInt64), .long (0 : Int64), .long (2 : Int64)]) (rest := []) (jt_X0_isIn l g b N (v1.toInt64) (0 : Int64) (2 : Int64) M Mm4 x3 h5) C0 hK hst (jm_mono h5) (jm_le_tr (jm_mono hf) jm_le_rf) q131 q132 q72 q133 hd_X0_isIn.2 ⟨Nat.le_of_ble_eq_true rfl, Nat.le_of_ble_eq_true rfl⟩ rfl hl.1 rfl (by rw [cs_n]; exact Nat.le_of_ble_eq_true rfl) dX0_minors_17 (fun H locs cells slots hst => ?_)
    refine W.eq (g2 := F0 m 20 ls [.int x3]) rfl ?_
    refine lv_if_eq (tgt := 34) hx hb dX0_minors_20 (by decide) (fun hc => ?_) (fun hc => ?_)
    · rw [if_pos hc] at hf
      refine lv_ldc2 hx hb hown (hts _ q811) dX0_minors_34 ?_
      obtain ⟨rfl, rfl⟩ := jm_ret_some hf
      exact jw_lret C0 hst dX0_minors_37
    · rw [if_neg hc] at hf
      refine jw_aload_n (r := (some a0)) hx hb dX0_minors_23 rfl (lv_at hl 0 rfl) ?_
      obtain ⟨x6, h7, hf⟩ := jm_rd_some hf
      refine jw_getR hx hb hts hown hK hst (fl_X0_75 hts hK) h7 dX0_minors_24 ?_
      refine lv_iload_n hx hb dX0_minors_27 rfl (lv_at hl 1 rfl) ?_
      obtain ⟨a11, h12, hf⟩ := jm_rd_some hf
      obtain ⟨fsa11, hea11, hr13⟩ := jm_cl_some h12
      obtain ⟨x8, Mm9, h10, hf⟩ := jm_bd_some hf
      refine jw_V (As := [.int v1]) (rest := []) (C := RX9) (T := TX9) (N := 4) (rv := x6) (jt_X9_minors l g b N a11 v1 Mm4 Mm9 x8 h10) C0 hK hst (jm_mono h10) (jm_le_tr (jm_mono hf) jm_le_rf) q904 q905 q906 q84 q907 hd_X9_minors ⟨Nat.le_of_ble_eq_true rfl, Nat.le_of_ble_eq_true rfl⟩ hea11 hr13 rfl rfl hl.1 rfl (by rw [cs_n]; exact Nat.le_of_ble_eq_true rfl) dX0_minors_28 (fun H locs cells slots hst => ?_)
      refine W.eq (g2 := F0 m 31 ls [.long x8]) rfl ?_
      refine lv_goto (tgt := 37) hx hb dX0_minors_31 (by decide) ?_
      obtain ⟨rfl, rfl⟩ := jm_ret_some hf
      exact jw_lret C0 hst dX0_minors_37
  · rw [if_pos hc] at hf
    refine lv_ldc2 hx hb hown (hts _ q871) dX0_minors_7 ?_
    obtain ⟨rfl, rfl⟩ := jm_ret_some hf
    exact jw_lret C0 hst dX0_minors_10
theorem fl_X0_51 {g : GD} {s : State} {args : Array Value} (hts : ∀ w ∈ lw_all, w.before args s = true) (hK : jm_KG g s) : ∀ q ∈ ([0] : List Nat), jm_FL s args RX0 51 q 6 := by
  intro q hq
  simp only [List.mem_cons, List.not_mem_nil, or_false] at hq
  subst hq
  exact ⟨RX0, TX0, 7, rfl, in_X0, by decide, "ChainParts", Or.inl (hts _ q109), fun _ h => h⟩
def jf_X0_image (N : Nat) (a0 : Nat) (v1 : Int32) : jm_P Int32 :=
  jm_bd (jf_X0_isIn N (v1.toInt64) (0 : Int64) (1 : Int64)) fun x1 =>
  if x1 = 0 then (
    jm_ret (-1000001 : Int32))
  else
    jm_rd (jm_fR [0] 0 (some a0)) fun x4 =>
    if x4 = none then (
      jm_ret (-1000002 : Int32))
    else
      jm_rd (jm_fR [0] 6 (some a0)) fun x6 =>
      jm_rd (jm_fR [0] 0 (some a0)) fun x8 =>
      jm_wr (jm_stR 6 [9] none x6 v1 x8) <|
      jm_ret (1 : Int32)
set_option maxHeartbeats 4000000 in
set_option maxRecDepth 100000 in
theorem jt_X0_image (l : Launch) (g : GD) (b N : Nat) (a0 : Nat) (v1 : Int32) (M M' : Mem) (r : Int32) (hf : (jf_X0_image N a0 v1).1 M = some (r, M')) : jm_Met l g b yX0_image (ws_ yX0_image cX0_image 2 (some .int)) 1 25 [va_rf (some a0), .int v1] M M' (some (.int r)) := by
  refine jm_start (by decide) (jm_mono hf) (by rw [lg_sl_r, lg_sl_i, lg_sl_n]; exact Nat.le_of_ble_eq_true rfl) ?_
  intro p e s m args below meth c ls C0 hin hK hst hl
  obtain ⟨hx, hb, hml, hown, hts, hr, hlk⟩ := id C0
  have hown : s.vm.findClass RX0 = some m.cls := hown
  have C0 : jm_Cx p s m args meth c cX0_image 2 (some .int) RX0 := C0
  rw [lv_args_r, lv_args_i, lv_args_n] at hl
  have hl : lv_has ls 2 [(0, va_rf (some a0)), (1, .int v1)] := hl
  unfold jf_X0_image at hf
  refine lv_iload_n hx hb dX0_image_0 rfl (lv_at hl 1 rfl) ?_
  refine lv_i2l hx hb dX0_image_1 rfl ?_
  refine lv_lconst (v := 0) hx hb dX0_image_2 (by decide) ?_
  refine lv_lconst (v := 1) hx hb dX0_image_3 (by decide) ?_
  obtain ⟨x1, Mm2, h3, hf⟩ := jm_bd_some hf
  refine jw_S (As := [.long (v1.toInt64), .long (0 : Int64), .long (1 : Int64)]) (rest := []) (jt_X0_isIn l g b N (v1.toInt64) (0 : Int64) (1 : Int64) M Mm2 x1 h3) C0 hK hst (jm_mono h3) (jm_le_tr (jm_mono hf) jm_le_rf) q131 q132 q72 q133 hd_X0_isIn.2 ⟨Nat.le_of_ble_eq_true rfl, Nat.le_of_ble_eq_true rfl⟩ rfl hl.1 rfl (by rw [cs_n]; exact Nat.le_of_ble_eq_true rfl) dX0_image_4 (fun H locs cells slots hst => ?_)
  refine W.eq (g2 := F0 m 7 ls [.int x1]) rfl ?_
  refine lv_if_ne (tgt := 13) hx hb dX0_image_7 (by decide) (fun hc => ?_) (fun hc => ?_)
  · rw [if_neg hc] at hf
    refine jw_aload_n (r := (some a0)) hx hb dX0_image_13 rfl (lv_at hl 0 rfl) ?_
    obtain ⟨x4, h5, hf⟩ := jm_rd_some hf
    refine jw_getR hx hb hts hown hK hst (fl_X0_75 hts hK) h5 dX0_image_14 ?_
    refine jw_ifnonnull (tgt := 23) hx hb dX0_image_17 (by decide) (fun hc => ?_) (fun hc => ?_)
    · rw [if_neg hc] at hf
      refine jw_aload_n (r := (some a0)) hx hb dX0_image_23 rfl (lv_at hl 0 rfl) ?_
      obtain ⟨x6, h7, hf⟩ := jm_rd_some hf
      refine jw_getR hx hb hts hown hK hst (fl_X0_51 hts hK) h7 dX0_image_24 ?_
      refine lv_iload_n hx hb dX0_image_27 rfl (lv_at hl 1 rfl) ?_
      refine jw_aload_n (r := (some a0)) hx hb dX0_image_28 rfl (lv_at hl 0 rfl) ?_
      obtain ⟨x8, h9, hf⟩ := jm_rd_some hf
      refine jw_getR hx hb hts hown hK hst (fl_X0_75 hts hK) h9 dX0_image_29 ?_
      obtain ⟨F10, h11, hf⟩ := jm_wr_some hf
      refine jw_astR (kd := 6) (r := x6) (v := x8) hx hb hK hst rfl (as_6 hK) h11 dX0_image_32 (fun H locs hst => ?_)
      generalize ((Mm2.1, Mm2.2.1, F10) : Mem) = Mm12 at hf hst
      refine lv_iconst (v := 1) hx hb dX0_image_33 (by decide) ?_
      obtain ⟨rfl, rfl⟩ := jm_ret_some hf
      exact jw_iret C0 hst dX0_image_34
    · rw [if_pos hc] at hf
      refine lv_ldc hx hb hown (hts _ q389) dX0_image_20 ?_
      obtain ⟨rfl, rfl⟩ := jm_ret_some hf
      exact jw_iret C0 hst dX0_image_22
  · rw [if_pos hc] at hf
    refine lv_ldc hx hb hown (hts _ q134) dX0_image_10 ?_
    obtain ⟨rfl, rfl⟩ := jm_ret_some hf
    exact jw_iret C0 hst dX0_image_12
def jf_X0_restore (N : Nat) (a0 : Nat) (v1 : Int32) : jm_P Int32 :=
  jm_bd (jf_X0_isIn N (v1.toInt64) (0 : Int64) (1 : Int64)) fun x1 =>
  if x1 = 0 then (
    jm_ret (-1000001 : Int32))
  else
    jm_rd (jm_fR [0] 6 (some a0)) fun x4 =>
    jm_rd (jm_ldR 6 x4 v1) fun x6 =>
    if x6 = none then (
      jm_ret (-1000002 : Int32))
    else
      jm_rd (jm_fR [0] 6 (some a0)) fun x8 =>
      jm_rd (jm_ldR 6 x8 v1) fun x10 =>
      jm_wr (jm_put [0] 0 (va_rf x10) (some a0)) <|
      jm_wr (jm_put [0] 5 (.int (0 : Int32)) (some a0)) <|
      jm_ret (1 : Int32)
set_option maxHeartbeats 4000000 in
set_option maxRecDepth 100000 in
theorem jt_X0_restore (l : Launch) (g : GD) (b N : Nat) (a0 : Nat) (v1 : Int32) (M M' : Mem) (r : Int32) (hf : (jf_X0_restore N a0 v1).1 M = some (r, M')) : jm_Met l g b yX0_restore (ws_ yX0_restore cX0_restore 2 (some .int)) 1 25 [va_rf (some a0), .int v1] M M' (some (.int r)) := by
  refine jm_start (by decide) (jm_mono hf) (by rw [lg_sl_r, lg_sl_i, lg_sl_n]; exact Nat.le_of_ble_eq_true rfl) ?_
  intro p e s m args below meth c ls C0 hin hK hst hl
  obtain ⟨hx, hb, hml, hown, hts, hr, hlk⟩ := id C0
  have hown : s.vm.findClass RX0 = some m.cls := hown
  have C0 : jm_Cx p s m args meth c cX0_restore 2 (some .int) RX0 := C0
  rw [lv_args_r, lv_args_i, lv_args_n] at hl
  have hl : lv_has ls 2 [(0, va_rf (some a0)), (1, .int v1)] := hl
  unfold jf_X0_restore at hf
  refine lv_iload_n hx hb dX0_restore_0 rfl (lv_at hl 1 rfl) ?_
  refine lv_i2l hx hb dX0_restore_1 rfl ?_
  refine lv_lconst (v := 0) hx hb dX0_restore_2 (by decide) ?_
  refine lv_lconst (v := 1) hx hb dX0_restore_3 (by decide) ?_
  obtain ⟨x1, Mm2, h3, hf⟩ := jm_bd_some hf
  refine jw_S (As := [.long (v1.toInt64), .long (0 : Int64), .long (1 : Int64)]) (rest := []) (jt_X0_isIn l g b N (v1.toInt64) (0 : Int64) (1 : Int64) M Mm2 x1 h3) C0 hK hst (jm_mono h3) (jm_le_tr (jm_mono hf) jm_le_rf) q131 q132 q72 q133 hd_X0_isIn.2 ⟨Nat.le_of_ble_eq_true rfl, Nat.le_of_ble_eq_true rfl⟩ rfl hl.1 rfl (by rw [cs_n]; exact Nat.le_of_ble_eq_true rfl) dX0_restore_4 (fun H locs cells slots hst => ?_)
  refine W.eq (g2 := F0 m 7 ls [.int x1]) rfl ?_
  refine lv_if_ne (tgt := 13) hx hb dX0_restore_7 (by decide) (fun hc => ?_) (fun hc => ?_)
  · rw [if_neg hc] at hf
    refine jw_aload_n (r := (some a0)) hx hb dX0_restore_13 rfl (lv_at hl 0 rfl) ?_
    obtain ⟨x4, h5, hf⟩ := jm_rd_some hf
    refine jw_getR hx hb hts hown hK hst (fl_X0_51 hts hK) h5 dX0_restore_14 ?_
    refine lv_iload_n hx hb dX0_restore_17 rfl (lv_at hl 1 rfl) ?_
    obtain ⟨x6, h7, hf⟩ := jm_rd_some hf
    refine jw_aald hx hb hK hst (show jm_ty[6]? = some (.object "ChainParts$Complex") from rfl) rfl h7 dX0_restore_18 ?_
    refine jw_ifnonnull (tgt := 25) hx hb dX0_restore_19 (by decide) (fun hc => ?_) (fun hc => ?_)
    · rw [if_neg hc] at hf
      refine jw_aload_n (r := (some a0)) hx hb dX0_restore_25 rfl (lv_at hl 0 rfl) ?_
      refine jw_aload_n (r := (some a0)) hx hb dX0_restore_26 rfl (lv_at hl 0 rfl) ?_
      obtain ⟨x8, h9, hf⟩ := jm_rd_some hf
      refine jw_getR hx hb hts hown hK hst (fl_X0_51 hts hK) h9 dX0_restore_27 ?_
      refine lv_iload_n hx hb dX0_restore_30 rfl (lv_at hl 1 rfl) ?_
      obtain ⟨x10, h11, hf⟩ := jm_rd_some hf
      refine jw_aald hx hb hK hst (show jm_ty[6]? = some (.object "ChainParts$Complex") from rfl) rfl h11 dX0_restore_31 ?_
      obtain ⟨F12, h13, hf⟩ := jm_wr_some hf
      refine jw_put (r := (some a0)) hx hb hts hown hK hst (fw_X0_75 hts) h13 (va_nar_o _) (va_fits_o _) dX0_restore_32 (fun H locs hst => ?_)
      generalize ((Mm2.1, Mm2.2.1, F12) : Mem) = Mm14 at hf hst
      refine jw_aload_n (r := (some a0)) hx hb dX0_restore_35 rfl (lv_at hl 0 rfl) ?_
      refine lv_iconst (v := 0) hx hb dX0_restore_36 (by decide) ?_
      obtain ⟨F15, h16, hf⟩ := jm_wr_some hf
      refine jw_put (r := (some a0)) hx hb hts hown hK hst (fw_X0_91 hts) h16 rfl rfl dX0_restore_37 (fun H locs hst => ?_)
      generalize ((Mm14.1, Mm14.2.1, F15) : Mem) = Mm17 at hf hst
      refine lv_iconst (v := 1) hx hb dX0_restore_40 (by decide) ?_
      obtain ⟨rfl, rfl⟩ := jm_ret_some hf
      exact jw_iret C0 hst dX0_restore_41
    · rw [if_pos hc] at hf
      refine lv_ldc hx hb hown (hts _ q389) dX0_restore_22 ?_
      obtain ⟨rfl, rfl⟩ := jm_ret_some hf
      exact jw_iret C0 hst dX0_restore_24
  · rw [if_pos hc] at hf
    refine lv_ldc hx hb hown (hts _ q134) dX0_restore_10 ?_
    obtain ⟨rfl, rfl⟩ := jm_ret_some hf
    exact jw_iret C0 hst dX0_restore_12
theorem fl_X0_94 {g : GD} {s : State} {args : Array Value} (hts : ∀ w ∈ lw_all, w.before args s = true) (hK : jm_KG g s) : ∀ q ∈ ([9] : List Nat), jm_FL s args RX0 94 q 0 := by
  intro q hq
  simp only [List.mem_cons, List.not_mem_nil, or_false] at hq
  subst hq
  exact ⟨RX9, TX9, 4, rfl, in_X9, by decide, "ChainParts$Complex", Or.inl (hts _ q364), fun _ h => h⟩
def jf_X0_count (N : Nat) (a0 : Nat) (v1 : Int32) : jm_P Int32 :=
  if v1 = (0 : Int32) then (
    jm_rd (jm_fR [0] 0 (some a0)) fun x1 =>
    if x1 = none then (
      jm_ret (0 : Int32))
    else
      jm_rd (jm_fR [0] 0 (some a0)) fun x3 =>
      jm_rd (jm_fI [9] 0 x3) fun x5 =>
      jm_ret x5)
  else
  if v1 = (1 : Int32) then (
    jm_rd (jm_fR [0] 0 (some a0)) fun x7 =>
    if x7 = none then (
      jm_ret (0 : Int32))
    else
      jm_rd (jm_fR [0] 0 (some a0)) fun x9 =>
      jm_rd (jm_fR [9] 1 x9) fun x11 =>
      jm_rd (jm_len 4 x11) fun x13 =>
      jm_ret x13)
  else
  if v1 = (2 : Int32) then (
    jm_rd (jm_fR [0] 0 (some a0)) fun x15 =>
    if x15 = none then (
      jm_ret (0 : Int32))
    else
      jm_rd (jm_fR [0] 0 (some a0)) fun x17 =>
      jm_rd (jm_fR [9] 2 x17) fun x19 =>
      jm_rd (jm_len 5 x19) fun x21 =>
      jm_ret x21)
  else
  if v1 = (3 : Int32) then (
    jm_rd (jm_fI [0] 5 (some a0)) fun x23 =>
    jm_ret x23)
  else
  if v1 = (4 : Int32) then (
    jm_rd (jm_fI [0] 2 (some a0)) fun x25 =>
    jm_ret x25)
  else
  jm_ret (-1000001 : Int32)
set_option maxHeartbeats 4000000 in
set_option maxRecDepth 100000 in
theorem jt_X0_count (l : Launch) (g : GD) (b N : Nat) (a0 : Nat) (v1 : Int32) (M M' : Mem) (r : Int32) (hf : (jf_X0_count N a0 v1).1 M = some (r, M')) : jm_Met l g b yX0_count (ws_ yX0_count cX0_count 2 (some .int)) 0 0 [va_rf (some a0), .int v1] M M' (some (.int r)) := by
  refine jm_start (by decide) (jm_mono hf) (by rw [lg_sl_r, lg_sl_i, lg_sl_n]; exact Nat.le_of_ble_eq_true rfl) ?_
  intro p e s m args below meth c ls C0 hin hK hst hl
  obtain ⟨hx, hb, hml, hown, hts, hr, hlk⟩ := id C0
  have hown : s.vm.findClass RX0 = some m.cls := hown
  have C0 : jm_Cx p s m args meth c cX0_count 2 (some .int) RX0 := C0
  rw [lv_args_r, lv_args_i, lv_args_n] at hl
  have hl : lv_has ls 2 [(0, va_rf (some a0)), (1, .int v1)] := hl
  unfold jf_X0_count at hf
  refine lv_iload_n hx hb dX0_count_0 rfl (lv_at hl 1 rfl) ?_
  by_cases hn0 : v1 = (0 : Int32)
  · rw [if_pos hn0] at hf
    refine lv_tableIn (tgt := 36) hx hb dX0_count_1 (by rw [hn0]; decide) (by rw [hn0]; decide) (off := 35) (by rw [hn0]; rfl) (by decide) ?_
    refine jw_aload_n (r := (some a0)) hx hb dX0_count_36 rfl (lv_at hl 0 rfl) ?_
    obtain ⟨x1, h2, hf⟩ := jm_rd_some hf
    refine jw_getR hx hb hts hown hK hst (fl_X0_75 hts hK) h2 dX0_count_37 ?_
    refine jw_ifnonnull (tgt := 47) hx hb dX0_count_40 (by decide) (fun hc => ?_) (fun hc => ?_)
    · rw [if_neg hc] at hf
      refine jw_aload_n (r := (some a0)) hx hb dX0_count_47 rfl (lv_at hl 0 rfl) ?_
      obtain ⟨x3, h4, hf⟩ := jm_rd_some hf
      refine jw_getR hx hb hts hown hK hst (fl_X0_75 hts hK) h4 dX0_count_48 ?_
      obtain ⟨x5, h6, hf⟩ := jm_rd_some hf
      refine jw_getI hx hb hts hown hK hst (fl_X0_94 hts hK) h6 dX0_count_51 ?_
      obtain ⟨rfl, rfl⟩ := jm_ret_some hf
      exact jw_iret C0 hst dX0_count_54
    · rw [if_pos hc] at hf
      refine lv_iconst (v := 0) hx hb dX0_count_43 (by decide) ?_
      refine lv_goto (tgt := 54) hx hb dX0_count_44 (by decide) ?_
      obtain ⟨rfl, rfl⟩ := jm_ret_some hf
      exact jw_iret C0 hst dX0_count_54
  rw [if_neg hn0] at hf
  by_cases hn1 : v1 = (1 : Int32)
  · rw [if_pos hn1] at hf
    refine lv_tableIn (tgt := 55) hx hb dX0_count_1 (by rw [hn1]; decide) (by rw [hn1]; decide) (off := 54) (by rw [hn1]; rfl) (by decide) ?_
    refine jw_aload_n (r := (some a0)) hx hb dX0_count_55 rfl (lv_at hl 0 rfl) ?_
    obtain ⟨x7, h8, hf⟩ := jm_rd_some hf
    refine jw_getR hx hb hts hown hK hst (fl_X0_75 hts hK) h8 dX0_count_56 ?_
    refine jw_ifnonnull (tgt := 66) hx hb dX0_count_59 (by decide) (fun hc => ?_) (fun hc => ?_)
    · rw [if_neg hc] at hf
      refine jw_aload_n (r := (some a0)) hx hb dX0_count_66 rfl (lv_at hl 0 rfl) ?_
      obtain ⟨x9, h10, hf⟩ := jm_rd_some hf
      refine jw_getR hx hb hts hown hK hst (fl_X0_75 hts hK) h10 dX0_count_67 ?_
      obtain ⟨x11, h12, hf⟩ := jm_rd_some hf
      refine jw_getR hx hb hts hown hK hst (fl_X0_97 hts hK) h12 dX0_count_70 ?_
      obtain ⟨x13, h14, hf⟩ := jm_rd_some hf
      refine jw_alen hx hb hK hst (show jm_ty[4]? = some (.object "ChainParts$EdgeCell") from rfl) h14 dX0_count_73 ?_
      obtain ⟨rfl, rfl⟩ := jm_ret_some hf
      exact jw_iret C0 hst dX0_count_74
    · rw [if_pos hc] at hf
      refine lv_iconst (v := 0) hx hb dX0_count_62 (by decide) ?_
      refine lv_goto (tgt := 74) hx hb dX0_count_63 (by decide) ?_
      obtain ⟨rfl, rfl⟩ := jm_ret_some hf
      exact jw_iret C0 hst dX0_count_74
  rw [if_neg hn1] at hf
  by_cases hn2 : v1 = (2 : Int32)
  · rw [if_pos hn2] at hf
    refine lv_tableIn (tgt := 75) hx hb dX0_count_1 (by rw [hn2]; decide) (by rw [hn2]; decide) (off := 74) (by rw [hn2]; rfl) (by decide) ?_
    refine jw_aload_n (r := (some a0)) hx hb dX0_count_75 rfl (lv_at hl 0 rfl) ?_
    obtain ⟨x15, h16, hf⟩ := jm_rd_some hf
    refine jw_getR hx hb hts hown hK hst (fl_X0_75 hts hK) h16 dX0_count_76 ?_
    refine jw_ifnonnull (tgt := 86) hx hb dX0_count_79 (by decide) (fun hc => ?_) (fun hc => ?_)
    · rw [if_neg hc] at hf
      refine jw_aload_n (r := (some a0)) hx hb dX0_count_86 rfl (lv_at hl 0 rfl) ?_
      obtain ⟨x17, h18, hf⟩ := jm_rd_some hf
      refine jw_getR hx hb hts hown hK hst (fl_X0_75 hts hK) h18 dX0_count_87 ?_
      obtain ⟨x19, h20, hf⟩ := jm_rd_some hf
      refine jw_getR hx hb hts hown hK hst (fl_X0_101 hts hK) h20 dX0_count_90 ?_
      obtain ⟨x21, h22, hf⟩ := jm_rd_some hf
      refine jw_alen hx hb hK hst (show jm_ty[5]? = some (.object "ChainParts$FaceCell") from rfl) h22 dX0_count_93 ?_
      obtain ⟨rfl, rfl⟩ := jm_ret_some hf
      exact jw_iret C0 hst dX0_count_94
    · rw [if_pos hc] at hf
      refine lv_iconst (v := 0) hx hb dX0_count_82 (by decide) ?_
      refine lv_goto (tgt := 94) hx hb dX0_count_83 (by decide) ?_
      obtain ⟨rfl, rfl⟩ := jm_ret_some hf
      exact jw_iret C0 hst dX0_count_94
  rw [if_neg hn2] at hf
  by_cases hn3 : v1 = (3 : Int32)
  · rw [if_pos hn3] at hf
    refine lv_tableIn (tgt := 95) hx hb dX0_count_1 (by rw [hn3]; decide) (by rw [hn3]; decide) (off := 94) (by rw [hn3]; rfl) (by decide) ?_
    refine jw_aload_n (r := (some a0)) hx hb dX0_count_95 rfl (lv_at hl 0 rfl) ?_
    obtain ⟨x23, h24, hf⟩ := jm_rd_some hf
    refine jw_getI hx hb hts hown hK hst (fl_X0_91 hts hK) h24 dX0_count_96 ?_
    obtain ⟨rfl, rfl⟩ := jm_ret_some hf
    exact jw_iret C0 hst dX0_count_99
  rw [if_neg hn3] at hf
  by_cases hn4 : v1 = (4 : Int32)
  · rw [if_pos hn4] at hf
    refine lv_tableIn (tgt := 100) hx hb dX0_count_1 (by rw [hn4]; decide) (by rw [hn4]; decide) (off := 99) (by rw [hn4]; rfl) (by decide) ?_
    refine jw_aload_n (r := (some a0)) hx hb dX0_count_100 rfl (lv_at hl 0 rfl) ?_
    obtain ⟨x25, h26, hf⟩ := jm_rd_some hf
    refine jw_getI hx hb hts hown hK hst (fl_X0_61 hts hK) h26 dX0_count_101 ?_
    obtain ⟨rfl, rfl⟩ := jm_ret_some hf
    exact jw_iret C0 hst dX0_count_104
  rw [if_neg hn4] at hf
  have hz0 : v1.toInt ≠ 0 := fun q => hn0 (Int32.toInt_inj.mp (q.trans (by decide)))
  have hz1 : v1.toInt ≠ 1 := fun q => hn1 (Int32.toInt_inj.mp (q.trans (by decide)))
  have hz2 : v1.toInt ≠ 2 := fun q => hn2 (Int32.toInt_inj.mp (q.trans (by decide)))
  have hz3 : v1.toInt ≠ 3 := fun q => hn3 (Int32.toInt_inj.mp (q.trans (by decide)))
  have hz4 : v1.toInt ≠ 4 := fun q => hn4 (Int32.toInt_inj.mp (q.trans (by decide)))
  refine lv_tableOut (tgt := 105) hx hb dX0_count_1 (by omega) (by decide) ?_
  refine lv_ldc hx hb hown (hts _ q134) dX0_count_105 ?_
  obtain ⟨rfl, rfl⟩ := jm_ret_some hf
  exact jw_iret C0 hst dX0_count_107
