/-! WALKS, printed by gen.py: 23.complex -/
theorem fl_X9_19 {g : GD} {s : State} {args : Array Value} (hts : ∀ w ∈ lw_all, w.before args s = true) (hK : jm_KG g s) : ∀ q ∈ ([9] : List Nat), jm_FL s args RX9 19 q 2 := by
  intro q hq
  simp only [List.mem_cons, List.not_mem_nil, or_false] at hq
  subst hq
  exact ⟨RX9, TX9, 4, rfl, in_X9, by decide, "ChainParts$Complex", Or.inl (hts _ q367), fun _ h => h⟩
theorem fl_X9_15 {g : GD} {s : State} {args : Array Value} (hts : ∀ w ∈ lw_all, w.before args s = true) (hK : jm_KG g s) : ∀ q ∈ ([9] : List Nat), jm_FL s args RX9 15 q 1 := by
  intro q hq
  simp only [List.mem_cons, List.not_mem_nil, or_false] at hq
  subst hq
  exact ⟨RX9, TX9, 4, rfl, in_X9, by decide, "ChainParts$Complex", Or.inl (hts _ q365), fun _ h => h⟩
theorem fl_X9_9 {g : GD} {s : State} {args : Array Value} (hts : ∀ w ∈ lw_all, w.before args s = true) (hK : jm_KG g s) : ∀ q ∈ ([9] : List Nat), jm_FL s args RX9 9 q 0 := by
  intro q hq
  simp only [List.mem_cons, List.not_mem_nil, or_false] at hq
  subst hq
  exact ⟨RX9, TX9, 4, rfl, in_X9, by decide, "ChainParts$Complex", Or.inl (hts _ q363), fun _ h => h⟩
def jf_X9_many (N : Nat) (a0 : Nat) (v1 : Int32) : jm_P Int32 :=
  if v1 = 0 then (
    jm_rd (jm_fI [9] 0 (some a0)) fun x9 =>
    jm_ret x9)
  else
    if v1 = (1 : Int32) then (
      jm_rd (jm_fR [9] 1 (some a0)) fun x5 =>
      jm_rd (jm_len 4 x5) fun x7 =>
      jm_ret x7)
    else
      jm_rd (jm_fR [9] 2 (some a0)) fun x1 =>
      jm_rd (jm_len 5 x1) fun x3 =>
      jm_ret x3
set_option maxHeartbeats 4000000 in
set_option maxRecDepth 100000 in
theorem jt_X9_many (l : Launch) (g : GD) (b N : Nat) (a0 : Nat) (v1 : Int32) (M M' : Mem) (r : Int32) (hf : (jf_X9_many N a0 v1).1 M = some (r, M')) : jm_Met l g b yX9_many (ws_ yX9_many cX9_many 2 (some .int)) 0 0 [va_rf (some a0), .int v1] M M' (some (.int r)) := by
  refine jm_start (by decide) (jm_mono hf) (by rw [lg_sl_r, lg_sl_i, lg_sl_n]; exact Nat.le_of_ble_eq_true rfl) ?_
  intro p e s m args below meth c ls C0 hin hK hst hl
  obtain ⟨hx, hb, hml, hown, hts, hr, hlk⟩ := id C0
  have hown : s.vm.findClass RX9 = some m.cls := hown
  have C0 : jm_Cx p s m args meth c cX9_many 2 (some .int) RX9 := C0
  rw [lv_args_r, lv_args_i, lv_args_n] at hl
  have hl : lv_has ls 2 [(0, va_rf (some a0)), (1, .int v1)] := hl
  unfold jf_X9_many at hf
  refine lv_iload_n hx hb dX9_many_0 rfl (lv_at hl 1 rfl) ?_
  refine lv_if_ne (tgt := 11) hx hb dX9_many_1 (by decide) (fun hc => ?_) (fun hc => ?_)
  · rw [if_neg hc] at hf
    refine lv_iload_n hx hb dX9_many_11 rfl (lv_at hl 1 rfl) ?_
    refine lv_iconst (v := 1) hx hb dX9_many_12 (by decide) ?_
    refine lv_icmp_ne (tgt := 24) hx hb dX9_many_13 (by decide) (fun hc => ?_) (fun hc => ?_)
    · rw [if_neg hc] at hf
      refine jw_aload_n (r := (some a0)) hx hb dX9_many_24 rfl (lv_at hl 0 rfl) ?_
      obtain ⟨x1, h2, hf⟩ := jm_rd_some hf
      refine jw_getR hx hb hts hown hK hst (fl_X9_19 hts hK) h2 dX9_many_25 ?_
      obtain ⟨x3, h4, hf⟩ := jm_rd_some hf
      refine jw_alen hx hb hK hst (show jm_ty[5]? = some (.object "ChainParts$FaceCell") from rfl) h4 dX9_many_28 ?_
      obtain ⟨rfl, rfl⟩ := jm_ret_some hf
      exact jw_iret C0 hst dX9_many_29
    · rw [if_pos hc] at hf
      refine jw_aload_n (r := (some a0)) hx hb dX9_many_16 rfl (lv_at hl 0 rfl) ?_
      obtain ⟨x5, h6, hf⟩ := jm_rd_some hf
      refine jw_getR hx hb hts hown hK hst (fl_X9_15 hts hK) h6 dX9_many_17 ?_
      obtain ⟨x7, h8, hf⟩ := jm_rd_some hf
      refine jw_alen hx hb hK hst (show jm_ty[4]? = some (.object "ChainParts$EdgeCell") from rfl) h8 dX9_many_20 ?_
      refine lv_goto (tgt := 29) hx hb dX9_many_21 (by decide) ?_
      obtain ⟨rfl, rfl⟩ := jm_ret_some hf
      exact jw_iret C0 hst dX9_many_29
  · rw [if_pos hc] at hf
    refine jw_aload_n (r := (some a0)) hx hb dX9_many_4 rfl (lv_at hl 0 rfl) ?_
    obtain ⟨x9, h10, hf⟩ := jm_rd_some hf
    refine jw_getI hx hb hts hown hK hst (fl_X9_9 hts hK) h10 dX9_many_5 ?_
    refine lv_goto (tgt := 29) hx hb dX9_many_8 (by decide) ?_
    obtain ⟨rfl, rfl⟩ := jm_ret_some hf
    exact jw_iret C0 hst dX9_many_29
theorem fw_X9_9 {s : State} {args : Array Value} {meth : Method} (hts : ∀ w ∈ lw_all, w.before args s = true) (hin : meth.name = "<init>") : ∀ q ∈ ([9] : List Nat), jm_FW s args meth RX9 9 q 0 .int := by
  intro q hq
  simp only [List.mem_cons, List.not_mem_nil, or_false] at hq
  subst hq
  exact ⟨RX9, TX9, 4, rfl, in_X9, by decide, ⟨tyX9, tyX9_ok⟩, nmX9, tyX9_ok 0 (by decide), "ChainParts$Complex", hts _ q363, fun _ h => h, Or.inr ⟨rfl, hin, rfl⟩⟩
theorem fw_X9_15 {s : State} {args : Array Value} {meth : Method} (hts : ∀ w ∈ lw_all, w.before args s = true) (hin : meth.name = "<init>") : ∀ q ∈ ([9] : List Nat), jm_FW s args meth RX9 15 q 1 (.array (.object "ChainParts$EdgeCell")) := by
  intro q hq
  simp only [List.mem_cons, List.not_mem_nil, or_false] at hq
  subst hq
  exact ⟨RX9, TX9, 4, rfl, in_X9, by decide, ⟨tyX9, tyX9_ok⟩, nmX9, tyX9_ok 1 (by decide), "ChainParts$Complex", hts _ q365, fun _ h => h, Or.inr ⟨rfl, hin, rfl⟩⟩
theorem fw_X9_19 {s : State} {args : Array Value} {meth : Method} (hts : ∀ w ∈ lw_all, w.before args s = true) (hin : meth.name = "<init>") : ∀ q ∈ ([9] : List Nat), jm_FW s args meth RX9 19 q 2 (.array (.object "ChainParts$FaceCell")) := by
  intro q hq
  simp only [List.mem_cons, List.not_mem_nil, or_false] at hq
  subst hq
  exact ⟨RX9, TX9, 4, rfl, in_X9, by decide, ⟨tyX9, tyX9_ok⟩, nmX9, tyX9_ok 2 (by decide), "ChainParts$Complex", hts _ q367, fun _ h => h, Or.inr ⟨rfl, hin, rfl⟩⟩
theorem fw_X9_23 {s : State} {args : Array Value} {meth : Method} (hts : ∀ w ∈ lw_all, w.before args s = true) (hin : meth.name = "<init>") : ∀ q ∈ ([9] : List Nat), jm_FW s args meth RX9 23 q 3 (.array (.array .int)) := by
  intro q hq
  simp only [List.mem_cons, List.not_mem_nil, or_false] at hq
  subst hq
  exact ⟨RX9, TX9, 4, rfl, in_X9, by decide, ⟨tyX9, tyX9_ok⟩, nmX9, tyX9_ok 3 (by decide), "ChainParts$Complex", hts _ q369, fun _ h => h, Or.inr ⟨rfl, hin, rfl⟩⟩
def jf_X9_init (N : Nat) (a0 : Nat) (v1 : Int32) (v2 : Option Nat) (v3 : Option Nat) (v4 : Option Nat) : jm_P Unit :=
  jm_wr (jm_put [9] 0 (.int v1) (some a0)) <|
  jm_wr (jm_put [9] 1 (va_rf v2) (some a0)) <|
  jm_wr (jm_put [9] 2 (va_rf v3) (some a0)) <|
  jm_wr (jm_put [9] 3 (va_rf v4) (some a0)) <|
  jm_ret ()
set_option maxHeartbeats 4000000 in
set_option maxRecDepth 100000 in
theorem jt_X9_init (l : Launch) (g : GD) (b N : Nat) (a0 : Nat) (v1 : Int32) (v2 : Option Nat) (v3 : Option Nat) (v4 : Option Nat) (M M' : Mem) (r : Unit) (hf : (jf_X9_init N a0 v1 v2 v3 v4).1 M = some (r, M')) : jm_Met l g b yX9_init (ws_ yX9_init cX9_init 5 none) 1 20 [va_rf (some a0), .int v1, va_rf v2, va_rf v3, va_rf v4] M M' none := by
  refine jm_start (by decide) (jm_mono hf) (by rw [lg_sl_r, lg_sl_i, lg_sl_r, lg_sl_r, lg_sl_r, lg_sl_n]; exact Nat.le_of_ble_eq_true rfl) ?_
  intro p e s m args below meth c ls C0 hin hK hst hl
  obtain ⟨hx, hb, hml, hown, hts, hr, hlk⟩ := id C0
  have hown : s.vm.findClass RX9 = some m.cls := hown
  have C0 : jm_Cx p s m args meth c cX9_init 5 none RX9 := C0
  rw [lv_args_r, lv_args_i, lv_args_r, lv_args_r, lv_args_r, lv_args_n] at hl
  have hl : lv_has ls 5 [(0, va_rf (some a0)), (1, .int v1), (2, va_rf v2), (3, va_rf v3), (4, va_rf v4)] := hl
  unfold jf_X9_init at hf
  refine jw_aload_n (r := (some a0)) hx hb dX9_init_0 rfl (lv_at hl 0 rfl) ?_
  refine W.objInit hx hb hown (hts _ q362) (hts _ q99) (hts _ q100) rfl (by rw [hml]; exact hl.1) rfl dX9_init_1 (Nat.le_of_ble_eq_true rfl) (by rw [cs_n]; exact Nat.le_of_ble_eq_true rfl) ?_
  refine W.eq (g2 := F0 m 4 ls []) rfl ?_
  refine jw_aload_n (r := (some a0)) hx hb dX9_init_4 rfl (lv_at hl 0 rfl) ?_
  refine lv_iload_n hx hb dX9_init_5 rfl (lv_at hl 1 rfl) ?_
  obtain ⟨F1, h2, hf⟩ := jm_wr_some hf
  refine jw_put (r := (some a0)) hx hb hts hown hK hst (fw_X9_9 hts hin) h2 rfl rfl dX9_init_6 (fun H locs hst => ?_)
  generalize ((M.1, M.2.1, F1) : Mem) = Mm3 at hf hst
  refine jw_aload_n (r := (some a0)) hx hb dX9_init_9 rfl (lv_at hl 0 rfl) ?_
  refine jw_aload_n (r := v2) hx hb dX9_init_10 rfl (lv_at hl 2 rfl) ?_
  obtain ⟨F4, h5, hf⟩ := jm_wr_some hf
  refine jw_put (r := (some a0)) hx hb hts hown hK hst (fw_X9_15 hts hin) h5 (va_nar_a _) (va_fits_a _) dX9_init_11 (fun H locs hst => ?_)
  generalize ((Mm3.1, Mm3.2.1, F4) : Mem) = Mm6 at hf hst
  refine jw_aload_n (r := (some a0)) hx hb dX9_init_14 rfl (lv_at hl 0 rfl) ?_
  refine jw_aload_n (r := v3) hx hb dX9_init_15 rfl (lv_at hl 3 rfl) ?_
  obtain ⟨F7, h8, hf⟩ := jm_wr_some hf
  refine jw_put (r := (some a0)) hx hb hts hown hK hst (fw_X9_19 hts hin) h8 (va_nar_a _) (va_fits_a _) dX9_init_16 (fun H locs hst => ?_)
  generalize ((Mm6.1, Mm6.2.1, F7) : Mem) = Mm9 at hf hst
  refine jw_aload_n (r := (some a0)) hx hb dX9_init_19 rfl (lv_at hl 0 rfl) ?_
  refine jw_aload (r := v4) hx hb dX9_init_20 (lv_at hl 4 rfl) ?_
  obtain ⟨F10, h11, hf⟩ := jm_wr_some hf
  refine jw_put (r := (some a0)) hx hb hts hown hK hst (fw_X9_23 hts hin) h11 (va_nar_a _) (va_fits_a _) dX9_init_22 (fun H locs hst => ?_)
  generalize ((Mm9.1, Mm9.2.1, F10) : Mem) = Mm12 at hf hst
  obtain ⟨-, rfl⟩ := jm_ret_some hf
  exact jw_vret C0 hst dX9_init_25
theorem fl_X9_23 {g : GD} {s : State} {args : Array Value} (hts : ∀ w ∈ lw_all, w.before args s = true) (hK : jm_KG g s) : ∀ q ∈ ([9] : List Nat), jm_FL s args RX9 23 q 3 := by
  intro q hq
  simp only [List.mem_cons, List.not_mem_nil, or_false] at hq
  subst hq
  exact ⟨RX9, TX9, 4, rfl, in_X9, by decide, "ChainParts$Complex", Or.inl (hts _ q369), fun _ h => h⟩
theorem hd_X9_init : yX9_init.cls = RX9 ∧ yX9_init.cls ≠ "java/lang/invoke/MethodHandle" ∧ yX9_init.cls ≠ "java/lang/invoke/VarHandle" ∧ (parseMethodDescriptor yX9_init.desc).map (fun d => d.parameters.length) = some 4 := by decide +kernel
def jf_X9_withEdge (N : Nat) (a0 : Nat) (v1 : Int32) (v2 : Option Nat) : jm_P (Option Nat) :=
  jm_rd (jm_fR [9] 1 (some a0)) fun x1 =>
  jm_rd (jm_len 4 x1) fun x3 =>
  jm_lt (if (v1 + (1 : Int32)) < x3 then x3 else (v1 + (1 : Int32))) fun x5 =>
  jm_rd (jm_ck (¬ x5 < 0 ∧ x5.toNatClampNeg ≤ 1000)) fun _ =>
  jm_al (.inl (4, x5.toNatClampNeg, .inr (.inr (.inr (.inr (fun _ => none)))))) fun q7 =>
  jm_rd (jm_fR [9] 1 (some a0)) fun x9 =>
  jm_rd (jm_fR [9] 1 (some a0)) fun x11 =>
  jm_rd (jm_len 4 x11) fun x13 =>
  jm_wr (jm_cpR 4 [5, 6] x9 (0 : Int32) (some q7) (0 : Int32) x13) <|
  jm_wr (jm_stR 4 [5, 6] none (some q7) v1 v2) <|
  jm_al (.inr (9, [.int 0, .null, .null, .null])) fun q21 =>
  jm_rd (jm_fI [9] 0 (some a0)) fun x23 =>
  jm_rd (jm_fR [9] 2 (some a0)) fun x25 =>
  jm_rd (jm_fR [9] 3 (some a0)) fun x27 =>
  jm_bd (jf_X9_init N q21 x23 (some q7) x25 x27) fun x29 =>
  jm_ret (some q21)
set_option maxHeartbeats 4000000 in
set_option maxRecDepth 100000 in
theorem jt_X9_withEdge (l : Launch) (g : GD) (b N : Nat) (a0 : Nat) (v1 : Int32) (v2 : Option Nat) (M M' : Mem) (r : (Option Nat)) (hf : (jf_X9_withEdge N a0 v1 v2).1 M = some (r, M')) : jm_Met l g b yX9_withEdge (ws_ yX9_withEdge cX9_withEdge 4 (some (.object "ChainParts$Complex"))) 2 44 [va_rf (some a0), .int v1, va_rf v2] M M' (some (va_rf r)) := by
  refine jm_start (by decide) (jm_mono hf) (by rw [lg_sl_r, lg_sl_i, lg_sl_r, lg_sl_n]; exact Nat.le_of_ble_eq_true rfl) ?_
  intro p e s m args below meth c ls C0 hin hK hst hl
  obtain ⟨hx, hb, hml, hown, hts, hr, hlk⟩ := id C0
  have hown : s.vm.findClass RX9 = some m.cls := hown
  have C0 : jm_Cx p s m args meth c cX9_withEdge 4 (some (.object "ChainParts$Complex")) RX9 := C0
  rw [lv_args_r, lv_args_i, lv_args_r, lv_args_n] at hl
  have hl : lv_has ls 4 [(0, va_rf (some a0)), (1, .int v1), (2, va_rf v2)] := hl
  unfold jf_X9_withEdge at hf
  refine lv_iload_n hx hb dX9_withEdge_0 rfl (lv_at hl 1 rfl) ?_
  refine lv_iconst (v := 1) hx hb dX9_withEdge_1 (by decide) ?_
  refine lv_iadd hx hb dX9_withEdge_2 ?_
  refine jw_aload_n (r := (some a0)) hx hb dX9_withEdge_3 rfl (lv_at hl 0 rfl) ?_
  obtain ⟨x1, h2, hf⟩ := jm_rd_some hf
  refine jw_getR hx hb hts hown hK hst (fl_X9_15 hts hK) h2 dX9_withEdge_4 ?_
  obtain ⟨x3, h4, hf⟩ := jm_rd_some hf
  refine jw_alen hx hb hK hst (show jm_ty[4]? = some (.object "ChainParts$EdgeCell") from rfl) h4 dX9_withEdge_7 ?_
  refine jw_max (rest := []) hx hb hml hl.1 hown hts q423 hst (jm_le_tr (jm_mono hf) jm_le_rf) (Nat.le_of_ble_eq_true rfl) (by rw [cs_n]; exact Nat.le_of_ble_eq_true rfl) dX9_withEdge_8 ?_
  obtain ⟨x5, ex5, hf⟩ := jm_lt_some hf
  rw [← ex5]
  obtain ⟨_, h6, hf⟩ := jm_rd_some hf
  have h6 := jm_ck_some h6
  obtain ⟨q7, hq7, hf⟩ := jm_al_some hf
  refine jw_anew (kd := 4) (C := "ChainParts$EdgeCell") hx hb hown (hts _ q426) (by simp [jm_aoC]) hK hst rfl h6.1 h6.2 (jm_le_tr (jm_mono hf) jm_le_rf) hq7 dX9_withEdge_11 (fun H cells slots hst => ?_)
  generalize jm_new (.inl (4, x5.toNatClampNeg, .inr (.inr (.inr (.inr (fun _ => none)))))) M = Mm8 at hf hst
  refine jw_astore_n (i := 3) (r := (some q7)) (lv' := [(3, va_rf (some q7)), (0, va_rf (some a0)), (1, .int v1), (2, va_rf v2)]) hx hb dX9_withEdge_14 rfl hl (by decide) (by simp [va_rf_cat, cat_i, cat_j, cat_f]) (fun ls hl => ?_)
  refine jw_aload_n (r := (some a0)) hx hb dX9_withEdge_15 rfl (lv_at hl 1 rfl) ?_
  obtain ⟨x9, h10, hf⟩ := jm_rd_some hf
  refine jw_getR hx hb hts hown hK hst (fl_X9_15 hts hK) h10 dX9_withEdge_16 ?_
  refine lv_iconst (v := 0) hx hb dX9_withEdge_19 (by decide) ?_
  refine jw_aload_n (r := (some q7)) hx hb dX9_withEdge_20 rfl (lv_at hl 0 rfl) ?_
  refine lv_iconst (v := 0) hx hb dX9_withEdge_21 (by decide) ?_
  refine jw_aload_n (r := (some a0)) hx hb dX9_withEdge_22 rfl (lv_at hl 1 rfl) ?_
  obtain ⟨x11, h12, hf⟩ := jm_rd_some hf
  refine jw_getR hx hb hts hown hK hst (fl_X9_15 hts hK) h12 dX9_withEdge_23 ?_
  obtain ⟨x13, h14, hf⟩ := jm_rd_some hf
  refine jw_alen hx hb hK hst (show jm_ty[4]? = some (.object "ChainParts$EdgeCell") from rfl) h14 dX9_withEdge_26 ?_
  obtain ⟨F15, h16, hf⟩ := jm_wr_some hf
  refine jw_copyR (src := x9) (dst := (some q7)) (rest := []) hx hb hml hl.1 hown (hts _ q427) (hts _ q317) (hts _ q316) (hts _ q81) hK hst rfl (as_4 hK) h16 (Nat.le_of_ble_eq_true rfl) (by rw [cs_n]; exact Nat.le_of_ble_eq_true rfl) dX9_withEdge_27 (fun H locs hst => ?_)
  generalize ((Mm8.1, Mm8.2.1, F15) : Mem) = Mm17 at hf hst
  refine jw_aload_n (r := (some q7)) hx hb dX9_withEdge_30 rfl (lv_at hl 0 rfl) ?_
  refine lv_iload_n hx hb dX9_withEdge_31 rfl (lv_at hl 2 rfl) ?_
  refine jw_aload_n (r := v2) hx hb dX9_withEdge_32 rfl (lv_at hl 3 rfl) ?_
  obtain ⟨F18, h19, hf⟩ := jm_wr_some hf
  refine jw_astR (kd := 4) (r := (some q7)) (v := v2) hx hb hK hst rfl (as_4 hK) h19 dX9_withEdge_33 (fun H locs hst => ?_)
  generalize ((Mm17.1, Mm17.2.1, F18) : Mem) = Mm20 at hf hst
  obtain ⟨q21, hq21, hf⟩ := jm_al_some hf
  refine jw_new (ci := 9) (C := RX9) (T := TX9) (N := 4) (fs := [.int 0, .null, .null, .null]) hx hb hts in_X9 tyX9 tyX9_ok hown (hts _ q428) (hts _ q356) (hts _ q84) hK hst rfl (fun j hj => by match j, hj with | 0, _ => rfl | 1, _ => rfl | 2, _ => rfl | 3, _ => rfl | k + 4, hj => omega) rfl (jm_le_tr (jm_mono hf) jm_le_rf) hq21 dX9_withEdge_34 (fun H cells slots hst => ?_)
  generalize jm_new (.inr (9, [.int 0, .null, .null, .null])) Mm20 = Mm22 at hf hst
  refine lv_dup hx hb dX9_withEdge_37 (va_rf_cat _) ?_
  refine jw_aload_n (r := (some a0)) hx hb dX9_withEdge_38 rfl (lv_at hl 1 rfl) ?_
  obtain ⟨x23, h24, hf⟩ := jm_rd_some hf
  refine jw_getI hx hb hts hown hK hst (fl_X9_9 hts hK) h24 dX9_withEdge_39 ?_
  refine jw_aload_n (r := (some q7)) hx hb dX9_withEdge_42 rfl (lv_at hl 0 rfl) ?_
  refine jw_aload_n (r := (some a0)) hx hb dX9_withEdge_43 rfl (lv_at hl 1 rfl) ?_
  obtain ⟨x25, h26, hf⟩ := jm_rd_some hf
  refine jw_getR hx hb hts hown hK hst (fl_X9_19 hts hK) h26 dX9_withEdge_44 ?_
  refine jw_aload_n (r := (some a0)) hx hb dX9_withEdge_47 rfl (lv_at hl 1 rfl) ?_
  obtain ⟨x27, h28, hf⟩ := jm_rd_some hf
  refine jw_getR hx hb hts hown hK hst (fl_X9_23 hts hK) h28 dX9_withEdge_48 ?_
  obtain ⟨x29, Mm30, h31, hf⟩ := jm_bd_some hf
  refine jw_I (As := [.int x23, va_rf (some q7), va_rf x25, va_rf x27]) (rest := [va_rf (some q21)]) (rv := (some q21)) (jt_X9_init l g b N q21 x23 (some q7) x25 x27 Mm22 Mm30 x29 h31) C0 hK hst (jm_mono h31) (jm_le_tr (jm_mono hf) jm_le_rf) q429 q360 q84 q361 rfl hd_X9_init.2 ⟨Nat.le_of_ble_eq_true rfl, Nat.le_of_ble_eq_true rfl⟩ rfl rfl hl.1 rfl (by rw [cs_r, cs_n]; exact Nat.le_of_ble_eq_true rfl) dX9_withEdge_51 (fun H locs cells slots hst => ?_)
  refine W.eq (g2 := F0 m 54 ls [va_rf (some q21)]) rfl ?_
  obtain ⟨rfl, rfl⟩ := jm_ret_some hf
  exact jw_aret C0 (Or.inl ⟨_, rfl⟩) hst dX9_withEdge_54
def jf_X9_withFace (N : Nat) (a0 : Nat) (v1 : Int32) (v2 : Option Nat) : jm_P (Option Nat) :=
  jm_rd (jm_fR [9] 2 (some a0)) fun x1 =>
  jm_rd (jm_len 5 x1) fun x3 =>
  jm_lt (if (v1 + (1 : Int32)) < x3 then x3 else (v1 + (1 : Int32))) fun x5 =>
  jm_rd (jm_ck (¬ x5 < 0 ∧ x5.toNatClampNeg ≤ 1000)) fun _ =>
  jm_al (.inl (5, x5.toNatClampNeg, .inr (.inr (.inr (.inr (fun _ => none)))))) fun q7 =>
  jm_rd (jm_fR [9] 2 (some a0)) fun x9 =>
  jm_rd (jm_fR [9] 2 (some a0)) fun x11 =>
  jm_rd (jm_len 5 x11) fun x13 =>
  jm_wr (jm_cpR 5 [7, 8] x9 (0 : Int32) (some q7) (0 : Int32) x13) <|
  jm_wr (jm_stR 5 [7, 8] none (some q7) v1 v2) <|
  jm_al (.inr (9, [.int 0, .null, .null, .null])) fun q21 =>
  jm_rd (jm_fI [9] 0 (some a0)) fun x23 =>
  jm_rd (jm_fR [9] 1 (some a0)) fun x25 =>
  jm_rd (jm_fR [9] 3 (some a0)) fun x27 =>
  jm_bd (jf_X9_init N q21 x23 x25 (some q7) x27) fun x29 =>
  jm_ret (some q21)
set_option maxHeartbeats 4000000 in
set_option maxRecDepth 100000 in
theorem jt_X9_withFace (l : Launch) (g : GD) (b N : Nat) (a0 : Nat) (v1 : Int32) (v2 : Option Nat) (M M' : Mem) (r : (Option Nat)) (hf : (jf_X9_withFace N a0 v1 v2).1 M = some (r, M')) : jm_Met l g b yX9_withFace (ws_ yX9_withFace cX9_withFace 4 (some (.object "ChainParts$Complex"))) 2 44 [va_rf (some a0), .int v1, va_rf v2] M M' (some (va_rf r)) := by
  refine jm_start (by decide) (jm_mono hf) (by rw [lg_sl_r, lg_sl_i, lg_sl_r, lg_sl_n]; exact Nat.le_of_ble_eq_true rfl) ?_
  intro p e s m args below meth c ls C0 hin hK hst hl
  obtain ⟨hx, hb, hml, hown, hts, hr, hlk⟩ := id C0
  have hown : s.vm.findClass RX9 = some m.cls := hown
  have C0 : jm_Cx p s m args meth c cX9_withFace 4 (some (.object "ChainParts$Complex")) RX9 := C0
  rw [lv_args_r, lv_args_i, lv_args_r, lv_args_n] at hl
  have hl : lv_has ls 4 [(0, va_rf (some a0)), (1, .int v1), (2, va_rf v2)] := hl
  unfold jf_X9_withFace at hf
  refine lv_iload_n hx hb dX9_withFace_0 rfl (lv_at hl 1 rfl) ?_
  refine lv_iconst (v := 1) hx hb dX9_withFace_1 (by decide) ?_
  refine lv_iadd hx hb dX9_withFace_2 ?_
  refine jw_aload_n (r := (some a0)) hx hb dX9_withFace_3 rfl (lv_at hl 0 rfl) ?_
  obtain ⟨x1, h2, hf⟩ := jm_rd_some hf
  refine jw_getR hx hb hts hown hK hst (fl_X9_19 hts hK) h2 dX9_withFace_4 ?_
  obtain ⟨x3, h4, hf⟩ := jm_rd_some hf
  refine jw_alen hx hb hK hst (show jm_ty[5]? = some (.object "ChainParts$FaceCell") from rfl) h4 dX9_withFace_7 ?_
  refine jw_max (rest := []) hx hb hml hl.1 hown hts q423 hst (jm_le_tr (jm_mono hf) jm_le_rf) (Nat.le_of_ble_eq_true rfl) (by rw [cs_n]; exact Nat.le_of_ble_eq_true rfl) dX9_withFace_8 ?_
  obtain ⟨x5, ex5, hf⟩ := jm_lt_some hf
  rw [← ex5]
  obtain ⟨_, h6, hf⟩ := jm_rd_some hf
  have h6 := jm_ck_some h6
  obtain ⟨q7, hq7, hf⟩ := jm_al_some hf
  refine jw_anew (kd := 5) (C := "ChainParts$FaceCell") hx hb hown (hts _ q446) (by simp [jm_aoC]) hK hst rfl h6.1 h6.2 (jm_le_tr (jm_mono hf) jm_le_rf) hq7 dX9_withFace_11 (fun H cells slots hst => ?_)
  generalize jm_new (.inl (5, x5.toNatClampNeg, .inr (.inr (.inr (.inr (fun _ => none)))))) M = Mm8 at hf hst
  refine jw_astore_n (i := 3) (r := (some q7)) (lv' := [(3, va_rf (some q7)), (0, va_rf (some a0)), (1, .int v1), (2, va_rf v2)]) hx hb dX9_withFace_14 rfl hl (by decide) (by simp [va_rf_cat, cat_i, cat_j, cat_f]) (fun ls hl => ?_)
  refine jw_aload_n (r := (some a0)) hx hb dX9_withFace_15 rfl (lv_at hl 1 rfl) ?_
  obtain ⟨x9, h10, hf⟩ := jm_rd_some hf
  refine jw_getR hx hb hts hown hK hst (fl_X9_19 hts hK) h10 dX9_withFace_16 ?_
  refine lv_iconst (v := 0) hx hb dX9_withFace_19 (by decide) ?_
  refine jw_aload_n (r := (some q7)) hx hb dX9_withFace_20 rfl (lv_at hl 0 rfl) ?_
  refine lv_iconst (v := 0) hx hb dX9_withFace_21 (by decide) ?_
  refine jw_aload_n (r := (some a0)) hx hb dX9_withFace_22 rfl (lv_at hl 1 rfl) ?_
  obtain ⟨x11, h12, hf⟩ := jm_rd_some hf
  refine jw_getR hx hb hts hown hK hst (fl_X9_19 hts hK) h12 dX9_withFace_23 ?_
  obtain ⟨x13, h14, hf⟩ := jm_rd_some hf
  refine jw_alen hx hb hK hst (show jm_ty[5]? = some (.object "ChainParts$FaceCell") from rfl) h14 dX9_withFace_26 ?_
  obtain ⟨F15, h16, hf⟩ := jm_wr_some hf
  refine jw_copyR (src := x9) (dst := (some q7)) (rest := []) hx hb hml hl.1 hown (hts _ q427) (hts _ q317) (hts _ q316) (hts _ q81) hK hst rfl (as_5 hK) h16 (Nat.le_of_ble_eq_true rfl) (by rw [cs_n]; exact Nat.le_of_ble_eq_true rfl) dX9_withFace_27 (fun H locs hst => ?_)
  generalize ((Mm8.1, Mm8.2.1, F15) : Mem) = Mm17 at hf hst
  refine jw_aload_n (r := (some q7)) hx hb dX9_withFace_30 rfl (lv_at hl 0 rfl) ?_
  refine lv_iload_n hx hb dX9_withFace_31 rfl (lv_at hl 2 rfl) ?_
  refine jw_aload_n (r := v2) hx hb dX9_withFace_32 rfl (lv_at hl 3 rfl) ?_
  obtain ⟨F18, h19, hf⟩ := jm_wr_some hf
  refine jw_astR (kd := 5) (r := (some q7)) (v := v2) hx hb hK hst rfl (as_5 hK) h19 dX9_withFace_33 (fun H locs hst => ?_)
  generalize ((Mm17.1, Mm17.2.1, F18) : Mem) = Mm20 at hf hst
  obtain ⟨q21, hq21, hf⟩ := jm_al_some hf
  refine jw_new (ci := 9) (C := RX9) (T := TX9) (N := 4) (fs := [.int 0, .null, .null, .null]) hx hb hts in_X9 tyX9 tyX9_ok hown (hts _ q428) (hts _ q356) (hts _ q84) hK hst rfl (fun j hj => by match j, hj with | 0, _ => rfl | 1, _ => rfl | 2, _ => rfl | 3, _ => rfl | k + 4, hj => omega) rfl (jm_le_tr (jm_mono hf) jm_le_rf) hq21 dX9_withFace_34 (fun H cells slots hst => ?_)
  generalize jm_new (.inr (9, [.int 0, .null, .null, .null])) Mm20 = Mm22 at hf hst
  refine lv_dup hx hb dX9_withFace_37 (va_rf_cat _) ?_
  refine jw_aload_n (r := (some a0)) hx hb dX9_withFace_38 rfl (lv_at hl 1 rfl) ?_
  obtain ⟨x23, h24, hf⟩ := jm_rd_some hf
  refine jw_getI hx hb hts hown hK hst (fl_X9_9 hts hK) h24 dX9_withFace_39 ?_
  refine jw_aload_n (r := (some a0)) hx hb dX9_withFace_42 rfl (lv_at hl 1 rfl) ?_
  obtain ⟨x25, h26, hf⟩ := jm_rd_some hf
  refine jw_getR hx hb hts hown hK hst (fl_X9_15 hts hK) h26 dX9_withFace_43 ?_
  refine jw_aload_n (r := (some q7)) hx hb dX9_withFace_46 rfl (lv_at hl 0 rfl) ?_
  refine jw_aload_n (r := (some a0)) hx hb dX9_withFace_47 rfl (lv_at hl 1 rfl) ?_
  obtain ⟨x27, h28, hf⟩ := jm_rd_some hf
  refine jw_getR hx hb hts hown hK hst (fl_X9_23 hts hK) h28 dX9_withFace_48 ?_
  obtain ⟨x29, Mm30, h31, hf⟩ := jm_bd_some hf
  refine jw_I (As := [.int x23, va_rf x25, va_rf (some q7), va_rf x27]) (rest := [va_rf (some q21)]) (rv := (some q21)) (jt_X9_init l g b N q21 x23 x25 (some q7) x27 Mm22 Mm30 x29 h31) C0 hK hst (jm_mono h31) (jm_le_tr (jm_mono hf) jm_le_rf) q429 q360 q84 q361 rfl hd_X9_init.2 ⟨Nat.le_of_ble_eq_true rfl, Nat.le_of_ble_eq_true rfl⟩ rfl rfl hl.1 rfl (by rw [cs_r, cs_n]; exact Nat.le_of_ble_eq_true rfl) dX9_withFace_51 (fun H locs cells slots hst => ?_)
  refine W.eq (g2 := F0 m 54 ls [va_rf (some q21)]) rfl ?_
  obtain ⟨rfl, rfl⟩ := jm_ret_some hf
  exact jw_aret C0 (Or.inl ⟨_, rfl⟩) hst dX9_withFace_54
def jf_D_X7_has (N : Nat) (r : Option Nat) (v0 : Int32) : jm_P Int32 :=
  jm_rd (jm_kl r) fun x => if x.2 = 7 then jf_X7_has N x.1 v0 else if x.2 = 8 then jf_X7_has N x.1 v0 else jm_no
theorem hd_X7_has : yX7_has.cls = RX7 ∧ yX7_has.cls ≠ "java/lang/invoke/MethodHandle" ∧ yX7_has.cls ≠ "java/lang/invoke/VarHandle" ∧ (parseMethodDescriptor yX7_has.desc).map (fun d => d.parameters.length) = some 1 := by decide +kernel
def jf_X9_isUsed_k14_42 (N : Nat) (v2 : Int32) : jm_P Int32 :=
  jm_rd (jm_ck (v2 = 0 ∨ v2 = 1)) fun _ =>
  jm_ret v2
def jf_X9_isUsed_L14 (N : Nat) (v1 : Int32) (v3 : Option Nat) (v4 : Int32) (v2 : Int32) (v5 : Int32) : jm_P ((Int32 × Int32) ⊕ Int32) :=
  if v4 ≤ v5 then (
    jm_ret (.inr v2))
  else
    jm_rd (jm_ldR 5 v3 v5) fun x8 =>
    jm_bd (jf_D_X7_has N x8 v1) fun x10 =>
    jm_ret (.inl ((v2 ||| x10), (v5 + 1)))
def jf_X9_isUsed (N : Nat) (a0 : Nat) (v1 : Int32) : jm_P Int32 :=
  jm_rd (jm_fR [9] 2 (some a0)) fun x3 =>
  jm_rd (jm_len 5 x3) fun x5 =>
  jm_bd (jm_it (fun z => jf_X9_isUsed_L14 N v1 x3 x5 z.1 z.2) N ((0 : Int32), (0 : Int32))) fun y =>
  jf_X9_isUsed_k14_42 N y
set_option maxHeartbeats 4000000 in
set_option maxRecDepth 100000 in
theorem jt_X9_isUsed (l : Launch) (g : GD) (b N : Nat) (a0 : Nat) (v1 : Int32) (M M' : Mem) (r : Int32) (hf : (jf_X9_isUsed N a0 v1).1 M = some (r, M')) : jm_Met l g b yX9_isUsed (ws_ yX9_isUsed cX9_isUsed 7 (some .boolean)) 1 26 [va_rf (some a0), .int v1] M M' (some (.int r)) := by
  refine jm_start (by decide) (jm_mono hf) (by rw [lg_sl_r, lg_sl_i, lg_sl_n]; exact Nat.le_of_ble_eq_true rfl) ?_
  intro p e s m args below meth c ls C0 hin hK hst hl
  obtain ⟨hx, hb, hml, hown, hts, hr, hlk⟩ := id C0
  have hown : s.vm.findClass RX9 = some m.cls := hown
  have C0 : jm_Cx p s m args meth c cX9_isUsed 7 (some .boolean) RX9 := C0
  rw [lv_args_r, lv_args_i, lv_args_n] at hl
  have hl : lv_has ls 7 [(0, va_rf (some a0)), (1, .int v1)] := hl
  have K14_42 : ∀ (v2 : Int32) (Mm1 : Mem), (jf_X9_isUsed_k14_42 N v2).1 Mm1 = some (r, M') → ∀ (H : Heap) (locs : List Loc) (cells slots : Nat) (ls : Array Slot), jm_St g b M M' Mm1 s (jm_rm 1 26 M M') H locs cells slots → lv_has ls 7 [(2, .int v2)] → W p l e (jm_rm 1 26 M M') s m args below meth c H locs cells slots (jm_MQ below g b (some (.int r)) M M' args s) (F0 m 42 ls []) := by
    intro v2 Mm1 hf H locs cells slots ls hst hl
    unfold jf_X9_isUsed_k14_42 at hf
    refine lv_iload_n hx hb dX9_isUsed_42 rfl (lv_at hl 0 rfl) ?_
    obtain ⟨_, h2, hf⟩ := jm_rd_some hf
    obtain ⟨rfl, rfl⟩ := jm_ret_some hf
    exact jw_zret C0 (jm_ck_some h2) hst dX9_isUsed_43
  have B14 : ∀ (v1 : Int32) (v3 : Option Nat) (v4 : Int32) (v2 : Int32) (v5 : Int32) (Mm7 : Mem) (xe14 : ((Int32 × Int32) ⊕ Int32)) (Me14 : Mem), (jf_X9_isUsed_L14 N v1 v3 v4 v2 v5).1 Mm7 = some (xe14, Me14) → jm_le Me14 M' → (jm_or (fun (z : Int32 × Int32) => ∀ (H : Heap) (locs : List Loc) (cells slots : Nat) (ls : Array Slot), jm_St g b M M' Me14 s (jm_rm 1 26 M M') H locs cells slots → lv_has ls 7 [(1, .int v1), (2, .int z.1), (3, va_rf v3), (4, .int v4), (5, .int z.2)] → W p l e (jm_rm 1 26 M M') s m args below meth c H locs cells slots (jm_MQ below g b (some (.int r)) M M' args s) (F0 m 14 ls [])) (fun (y : Int32) => ∀ (H : Heap) (locs : List Loc) (cells slots : Nat) (ls : Array Slot), jm_St g b M M' Me14 s (jm_rm 1 26 M M') H locs cells slots → lv_has ls 7 [(2, .int y)] → W p l e (jm_rm 1 26 M M') s m args below meth c H locs cells slots (jm_MQ below g b (some (.int r)) M M' args s) (F0 m 42 ls [])) xe14) → ∀ (H : Heap) (locs : List Loc) (cells slots : Nat) (ls : Array Slot), jm_St g b M M' Mm7 s (jm_rm 1 26 M M') H locs cells slots → lv_has ls 7 [(1, .int v1), (2, .int v2), (3, va_rf v3), (4, .int v4), (5, .int v5)] → W p l e (jm_rm 1 26 M M') s m args below meth c H locs cells slots (jm_MQ below g b (some (.int r)) M M' args s) (F0 m 14 ls []) := by
    intro v1 v3 v4 v2 v5 Mm7 xe14 Me14 hf hle14 hk14
    intro H locs cells slots ls hst hl
    unfold jf_X9_isUsed_L14 at hf
    refine lv_iload hx hb dX9_isUsed_14 (lv_at hl 4 rfl) ?_
    refine lv_iload hx hb dX9_isUsed_16 (lv_at hl 3 rfl) ?_
    refine lv_icmp_ge (tgt := 42) hx hb dX9_isUsed_18 (by decide) (fun hc => ?_) (fun hc => ?_)
    · rw [if_pos hc] at hf
      obtain ⟨rfl, rfl⟩ := jm_ret_some hf
      exact jm_or_r hk14 _ _ _ _ _ hst (lv_sub hl [1] rfl)
    · rw [if_neg hc] at hf
      refine jw_aload_n (r := v3) hx hb dX9_isUsed_21 rfl (lv_at hl 2 rfl) ?_
      refine lv_iload hx hb dX9_isUsed_22 (lv_at hl 4 rfl) ?_
      obtain ⟨x8, h9, hf⟩ := jm_rd_some hf
      refine jw_aald hx hb hK hst (show jm_ty[5]? = some (.object "ChainParts$FaceCell") from rfl) rfl h9 dX9_isUsed_24 ?_
      refine jw_astore (i := 6) (r := x8) (lv' := [(6, va_rf x8), (1, .int v1), (2, .int v2), (3, va_rf v3), (4, .int v4), (5, .int v5)]) hx hb dX9_isUsed_25 hl (by decide) rfl (fun ls hl => ?_)
      refine lv_iload_n hx hb dX9_isUsed_27 rfl (lv_at hl 2 rfl) ?_
      refine jw_aload (r := x8) hx hb dX9_isUsed_28 (lv_at hl 0 rfl) ?_
      refine lv_iload_n hx hb dX9_isUsed_30 rfl (lv_at hl 1 rfl) ?_
      obtain ⟨x10, Mm11, h12, hf⟩ := jm_bd_some hf
      have hKh12 : ∀ (H1 : Heap) (locs1 : List Loc) (cells1 slots1 : Nat), jm_St g b M M' Mm11 s (jm_rm 1 26 M M') H1 locs1 cells1 slots1 → W p l e (jm_rm 1 26 M M') s m args below meth c H1 locs1 cells1 slots1 (jm_MQ below g b (some (.int r)) M M' args s) (F0 m (31 + 3) ls (Option.toList (some (.int x10)) ++ [.int v2])) := by
        intro H locs cells slots hst
        refine W.eq (g2 := F0 m 34 ls [.int x10, .int v2]) rfl ?_
        refine lv_ior hx hb dX9_isUsed_34 ?_
        refine lv_istore_n (i := 2) (lv' := [(2, .int (v2 ||| x10)), (6, va_rf x8), (1, .int v1), (3, va_rf v3), (4, .int v4), (5, .int v5)]) hx hb dX9_isUsed_35 rfl hl (by decide) rfl (fun ls hl => ?_)
        refine lv_iinc (i := 5) (v := (v5 + 1)) (lv' := [(5, .int (v5 + 1)), (2, .int (v2 ||| x10)), (6, va_rf x8), (1, .int v1), (3, va_rf v3), (4, .int v4)]) hx hb dX9_isUsed_36 hl (k := 5) rfl (by rfl) (by decide) rfl (fun ls hl => ?_)
        refine lv_goto (tgt := 14) hx hb dX9_isUsed_39 (by decide) ?_
        obtain ⟨rfl, rfl⟩ := jm_ret_some hf
        exact jm_or_l hk14 _ _ _ _ _ hst (lv_sub hl [3, 1, 4, 5, 0] rfl)
      have hbh12 := jm_mono h12
      have hch12 := jm_le_tr (jm_mono hf) hle14
      unfold jf_D_X7_has at h12
      obtain ⟨z13, h14, h12⟩ := jm_rd_some h12
      obtain ⟨fs15, hv16, hr17⟩ := jm_kl_some h14
      by_cases hc : z13.2 = 7
      · rw [if_pos hc] at h12
        rw [hc] at hr17
        exact jw_V (As := [.int v1]) (rest := [.int v2]) (C := RX7) (T := TX7) (N := 2) (rv := x8) (jt_X7_has l g b N z13.1 v1 Mm7 Mm11 x10 h12) C0 hK hst hbh12 hch12 q475 q476 q477 q82 q480 hd_X7_has ⟨Nat.le_of_ble_eq_true rfl, Nat.le_of_ble_eq_true rfl⟩ hv16 hr17 rfl rfl hl.1 rfl (by rw [cs_i, cs_n]; exact Nat.le_of_ble_eq_true rfl) dX9_isUsed_31 hKh12
      rw [if_neg hc] at h12
      by_cases hc : z13.2 = 8
      · rw [if_pos hc] at h12
        rw [hc] at hr17
        exact jw_U (As := [.int v1]) (rest := [.int v2]) (C := RX8) (T := TX8) (N := 2) (rv := x8) (owner := RX7) (x := yX7_has) (jt_X7_has l g b N z13.1 v1 Mm7 Mm11 x10 h12) C0 hK hst hbh12 hch12 (jm_cwU hts q475 q478 q479 q476 q82 q480 rfl hd_X7_has.2 ⟨Nat.le_of_ble_eq_true rfl, Nat.le_of_ble_eq_true rfl⟩) hv16 hr17 rfl rfl hl.1 rfl (by rw [cs_i, cs_n]; exact Nat.le_of_ble_eq_true rfl) dX9_isUsed_31 hKh12
      rw [if_neg hc] at h12
      exact (jm_no_some h12).elim
  unfold jf_X9_isUsed at hf
  refine lv_iconst (v := 0) hx hb dX9_isUsed_0 (by decide) ?_
  refine lv_istore_n (i := 2) (lv' := [(2, .int (0 : Int32)), (0, va_rf (some a0)), (1, .int v1)]) hx hb dX9_isUsed_1 rfl hl (by decide) rfl (fun ls hl => ?_)
  refine jw_aload_n (r := (some a0)) hx hb dX9_isUsed_2 rfl (lv_at hl 1 rfl) ?_
  obtain ⟨x3, h4, hf⟩ := jm_rd_some hf
  refine jw_getR hx hb hts hown hK hst (fl_X9_19 hts hK) h4 dX9_isUsed_3 ?_
  refine jw_astore_n (i := 3) (r := x3) (lv' := [(3, va_rf x3), (2, .int (0 : Int32)), (0, va_rf (some a0)), (1, .int v1)]) hx hb dX9_isUsed_6 rfl hl (by decide) rfl (fun ls hl => ?_)
  refine jw_aload_n (r := x3) hx hb dX9_isUsed_7 rfl (lv_at hl 0 rfl) ?_
  obtain ⟨x5, h6, hf⟩ := jm_rd_some hf
  refine jw_alen hx hb hK hst (show jm_ty[5]? = some (.object "ChainParts$FaceCell") from rfl) h6 dX9_isUsed_8 ?_
  refine lv_istore (i := 4) (lv' := [(4, .int x5), (3, va_rf x3), (2, .int (0 : Int32)), (0, va_rf (some a0)), (1, .int v1)]) hx hb dX9_isUsed_9 hl (by decide) (by simp [va_rf_cat, cat_i, cat_j, cat_f]) (fun ls hl => ?_)
  refine lv_iconst (v := 0) hx hb dX9_isUsed_11 (by decide) ?_
  refine lv_istore (i := 5) (lv' := [(5, .int (0 : Int32)), (4, .int x5), (3, va_rf x3), (2, .int (0 : Int32)), (0, va_rf (some a0)), (1, .int v1)]) hx hb dX9_isUsed_12 hl (by decide) rfl (fun ls hl => ?_)
  obtain ⟨xl14, Ml14, hit14, hf⟩ := jm_bd_some hf
  have hlf14 : jm_le Ml14 M' := jm_le_tr (jm_mono hf) jm_le_rf
  have hwe14 : (fun (y : Int32) (Mz : Mem) => ∀ (H : Heap) (locs : List Loc) (cells slots : Nat) (ls : Array Slot), jm_St g b M M' Mz s (jm_rm 1 26 M M') H locs cells slots → lv_has ls 7 [(2, .int y)] → W p l e (jm_rm 1 26 M M') s m args below meth c H locs cells slots (jm_MQ below g b (some (.int r)) M M' args s) (F0 m 42 ls [])) xl14 Ml14 := fun H locs cells slots ls hst hl => K14_42 xl14 _ hf H locs cells slots ls hst hl
  refine jm_it_walk (Mf := M') (Wh := fun (z : Int32 × Int32) (Mz : Mem) => ∀ (H : Heap) (locs : List Loc) (cells slots : Nat) (ls : Array Slot), jm_St g b M M' Mz s (jm_rm 1 26 M M') H locs cells slots → lv_has ls 7 [(1, .int v1), (2, .int z.1), (3, va_rf x3), (4, .int x5), (5, .int z.2)] → W p l e (jm_rm 1 26 M M') s m args below meth c H locs cells slots (jm_MQ below g b (some (.int r)) M M' args s) (F0 m 14 ls [])) (We := fun (y : Int32) (Mz : Mem) => ∀ (H : Heap) (locs : List Loc) (cells slots : Nat) (ls : Array Slot), jm_St g b M M' Mz s (jm_rm 1 26 M M') H locs cells slots → lv_has ls 7 [(2, .int y)] → W p l e (jm_rm 1 26 M M') s m args below meth c H locs cells slots (jm_MQ below g b (some (.int r)) M M' args s) (F0 m 42 ls [])) ?_ N ((0 : Int32), (0 : Int32)) M xl14 Ml14 hit14 hlf14 hwe14 _ _ _ _ _ hst (lv_sub hl [5, 3, 2, 1, 0] rfl)
  intro z Mm18 xe14 Me14 hf hle14 hk14 H locs cells slots ls hst hl
  obtain ⟨v2, v5⟩ := z
  have hf : (jf_X9_isUsed_L14 N v1 x3 x5 v2 v5).1 Mm18 = some (xe14, Me14) := hf
  have hl : lv_has ls 7 [(1, .int v1), (2, .int v2), (3, va_rf x3), (4, .int x5), (5, .int v5)] := hl
  exact B14 v1 x3 x5 v2 v5 _ _ _ hf hle14 hk14 _ _ _ _ _ hst (lv_sub hl [0, 1, 2, 3, 4] rfl)
def jf_D_X7_without (N : Nat) (r : Option Nat) (v0 : Int32) : jm_P (Option Nat) :=
  jm_rd (jm_kl r) fun x => if x.2 = 7 then jf_X7_without N x.1 v0 else if x.2 = 8 then jf_X7_without N x.1 v0 else jm_no
theorem hd_X7_without : yX7_without.cls = RX7 ∧ yX7_without.cls ≠ "java/lang/invoke/MethodHandle" ∧ yX7_without.cls ≠ "java/lang/invoke/VarHandle" ∧ (parseMethodDescriptor yX7_without.desc).map (fun d => d.parameters.length) = some 1 := by decide +kernel
def jf_X9_withoutEdge_k100_159 (N : Nat) (a0 : Nat) (v2 : Option Nat) (v3 : Option Nat) (v4 : Option Nat) : jm_P (Option Nat) :=
  jm_al (.inr (9, [.int 0, .null, .null, .null])) fun q2 =>
  jm_rd (jm_fI [9] 0 (some a0)) fun x4 =>
  jm_bd (jf_X9_init N q2 x4 v2 v3 v4) fun x6 =>
  jm_ret (some q2)
def jf_X9_withoutEdge_k109_153 (N : Nat) (a0 : Nat) (v1 : Int32) (v2 : Option Nat) (v3 : Option Nat) (v4 : Option Nat) (v5 : Int32) : jm_P (Int32 ⊕ Unit) :=
  jm_ret (.inl (v5 + 1))
def jf_X9_withoutEdge_j145 (N : Nat) (a0 : Nat) (v1 : Int32) (v2 : Option Nat) (v3 : Option Nat) (v4 : Option Nat) (v5 : Int32) (v6 : Int32) (t0 : Option Nat) (t1 : Int32) (t2 : Option Nat) (t3 : Int32) : jm_P (Int32 ⊕ Unit) :=
  jm_rd (jm_ldI 0 t2 t3) fun x16 =>
  jm_wr (jm_stI 0 t0 t1 x16) <|
  jm_ret (.inl (v6 + 1))
def jf_X9_withoutEdge_L109 (N : Nat) (a0 : Nat) (v1 : Int32) (v2 : Option Nat) (v3 : Option Nat) (v4 : Option Nat) (v5 : Int32) (v6 : Int32) : jm_P (Int32 ⊕ Unit) :=
  jm_rd (jm_len 4 v2) fun x22 =>
  if x22 ≤ v6 then (
    jm_ret (.inr ()))
  else
    jm_rd (jm_ldR 12 v4 v5) fun x24 =>
    jm_rd (jm_fR [9] 3 (some a0)) fun x26 =>
    jm_rd (jm_ldR 12 x26 v5) fun x28 =>
    if v1 ≤ v6 then (
      jf_X9_withoutEdge_j145 N a0 v1 v2 v3 v4 v5 v6 x24 v6 x28 (v6 + (1 : Int32)))
    else
      jf_X9_withoutEdge_j145 N a0 v1 v2 v3 v4 v5 v6 x24 v6 x28 v6
def jf_X9_withoutEdge_L100 (N : Nat) (a0 : Nat) (v1 : Int32) (v2 : Option Nat) (v3 : Option Nat) (v4 : Option Nat) (v5 : Int32) : jm_P (Int32 ⊕ Unit) :=
  if (3 : Int32) ≤ v5 then (
    jm_ret (.inr ()))
  else
    jm_bd (jm_it (fun z => jf_X9_withoutEdge_L109 N a0 v1 v2 v3 v4 v5 z) N (0 : Int32)) fun y =>
    jf_X9_withoutEdge_k109_153 N a0 v1 v2 v3 v4 v5
def jf_X9_withoutEdge_k57_88 (N : Nat) (a0 : Nat) (v1 : Int32) (v2 : Option Nat) (v3 : Option Nat) : jm_P (Option Nat) :=
  jm_rd (jm_ck ((¬ (3 : Int32) < 0 ∧ ¬ (6 : Int32) < 0) ∧ ((3 : Int32).toNatClampNeg ≤ 1000 ∧ (6 : Int32).toNatClampNeg ≤ 1000))) fun _ =>
  jm_ml 12 0 (3 : Int32).toNatClampNeg (6 : Int32).toNatClampNeg (.inl (fun _ => 0)) fun q11 =>
  jm_bd (jm_it (fun z => jf_X9_withoutEdge_L100 N a0 v1 v2 v3 (some q11) z) N (0 : Int32)) fun y =>
  jf_X9_withoutEdge_k100_159 N a0 v2 v3 (some q11)
def jf_X9_withoutEdge_L57 (N : Nat) (a0 : Nat) (v1 : Int32) (v2 : Option Nat) (v3 : Option Nat) (v4 : Int32) : jm_P (Int32 ⊕ Unit) :=
  jm_rd (jm_fR [9] 2 (some a0)) fun x41 =>
  jm_rd (jm_len 5 x41) fun x43 =>
  if x43 ≤ v4 then (
    jm_ret (.inr ()))
  else
    jm_rd (jm_fR [9] 2 (some a0)) fun x45 =>
    jm_rd (jm_ldR 5 x45 v4) fun x47 =>
    jm_bd (jf_D_X7_without N x47 v1) fun x49 =>
    jm_wr (jm_stR 5 [7, 8] none v3 v4 x49) <|
    jm_ret (.inl (v4 + 1))
def jf_X9_withoutEdge_k13_45 (N : Nat) (a0 : Nat) (v1 : Int32) (v2 : Option Nat) : jm_P (Option Nat) :=
  jm_rd (jm_fR [9] 2 (some a0)) fun x33 =>
  jm_rd (jm_len 5 x33) fun x35 =>
  jm_rd (jm_ck (¬ x35 < 0 ∧ x35.toNatClampNeg ≤ 1000)) fun _ =>
  jm_al (.inl (5, x35.toNatClampNeg, .inr (.inr (.inr (.inr (fun _ => none)))))) fun q38 =>
  jm_bd (jm_it (fun z => jf_X9_withoutEdge_L57 N a0 v1 v2 (some q38) z) N (0 : Int32)) fun y =>
  jf_X9_withoutEdge_k57_88 N a0 v1 v2 (some q38)
def jf_X9_withoutEdge_j37 (N : Nat) (a0 : Nat) (v1 : Int32) (v2 : Option Nat) (v3 : Int32) (t0 : Option Nat) (t1 : Int32) (t2 : Option Nat) (t3 : Int32) : jm_P (Int32 ⊕ Unit) :=
  jm_rd (jm_ldR 4 t2 t3) fun x69 =>
  jm_wr (jm_stR 4 [5, 6] none t0 t1 x69) <|
  jm_ret (.inl (v3 + 1))
def jf_X9_withoutEdge_L13 (N : Nat) (a0 : Nat) (v1 : Int32) (v2 : Option Nat) (v3 : Int32) : jm_P (Int32 ⊕ Unit) :=
  jm_rd (jm_len 4 v2) fun x75 =>
  if x75 ≤ v3 then (
    jm_ret (.inr ()))
  else
    jm_rd (jm_fR [9] 1 (some a0)) fun x77 =>
    if v1 ≤ v3 then (
      jf_X9_withoutEdge_j37 N a0 v1 v2 v3 v2 v3 x77 (v3 + (1 : Int32)))
    else
      jf_X9_withoutEdge_j37 N a0 v1 v2 v3 v2 v3 x77 v3
def jf_X9_withoutEdge (N : Nat) (a0 : Nat) (v1 : Int32) : jm_P (Option Nat) :=
  jm_rd (jm_fR [9] 1 (some a0)) fun x61 =>
  jm_rd (jm_len 4 x61) fun x63 =>
  jm_rd (jm_ck (¬ (x63 - (1 : Int32)) < 0 ∧ (x63 - (1 : Int32)).toNatClampNeg ≤ 1000)) fun _ =>
  jm_al (.inl (4, (x63 - (1 : Int32)).toNatClampNeg, .inr (.inr (.inr (.inr (fun _ => none)))))) fun q66 =>
  jm_bd (jm_it (fun z => jf_X9_withoutEdge_L13 N a0 v1 (some q66) z) N (0 : Int32)) fun y =>
  jf_X9_withoutEdge_k13_45 N a0 v1 (some q66)
set_option maxHeartbeats 4000000 in
set_option maxRecDepth 100000 in
theorem jt_X9_withoutEdge (l : Launch) (g : GD) (b N : Nat) (a0 : Nat) (v1 : Int32) (M M' : Mem) (r : (Option Nat)) (hf : (jf_X9_withoutEdge N a0 v1).1 M = some (r, M')) : jm_Met l g b yX9_withoutEdge (ws_ yX9_withoutEdge cX9_withoutEdge 7 (some (.object "ChainParts$Complex"))) 6 131 [va_rf (some a0), .int v1] M M' (some (va_rf r)) := by
  refine jm_start (by decide) (jm_mono hf) (by rw [lg_sl_r, lg_sl_i, lg_sl_n]; exact Nat.le_of_ble_eq_true rfl) ?_
  intro p e s m args below meth c ls C0 hin hK hst hl
  obtain ⟨hx, hb, hml, hown, hts, hr, hlk⟩ := id C0
  have hown : s.vm.findClass RX9 = some m.cls := hown
  have C0 : jm_Cx p s m args meth c cX9_withoutEdge 7 (some (.object "ChainParts$Complex")) RX9 := C0
  rw [lv_args_r, lv_args_i, lv_args_n] at hl
  have hl : lv_has ls 7 [(0, va_rf (some a0)), (1, .int v1)] := hl
  have K100_159 : ∀ (a0 : Nat) (v2 : Option Nat) (v3 : Option Nat) (v4 : Option Nat) (Mm1 : Mem), (jf_X9_withoutEdge_k100_159 N a0 v2 v3 v4).1 Mm1 = some (r, M') → ∀ (H : Heap) (locs : List Loc) (cells slots : Nat) (ls : Array Slot), jm_St g b M M' Mm1 s (jm_rm 6 131 M M') H locs cells slots → lv_has ls 7 [(0, va_rf (some a0)), (2, va_rf v2), (3, va_rf v3), (4, va_rf v4)] → W p l e (jm_rm 6 131 M M') s m args below meth c H locs cells slots (jm_MQ below g b (some (va_rf r)) M M' args s) (F0 m 159 ls []) := by
    intro a0 v2 v3 v4 Mm1 hf H locs cells slots ls hst hl
    unfold jf_X9_withoutEdge_k100_159 at hf
    obtain ⟨q2, hq2, hf⟩ := jm_al_some hf
    refine jw_new (ci := 9) (C := RX9) (T := TX9) (N := 4) (fs := [.int 0, .null, .null, .null]) hx hb hts in_X9 tyX9 tyX9_ok hown (hts _ q428) (hts _ q356) (hts _ q84) hK hst rfl (fun j hj => by match j, hj with | 0, _ => rfl | 1, _ => rfl | 2, _ => rfl | 3, _ => rfl | k + 4, hj => omega) rfl (jm_le_tr (jm_mono hf) jm_le_rf) hq2 dX9_withoutEdge_159 (fun H cells slots hst => ?_)
    generalize jm_new (.inr (9, [.int 0, .null, .null, .null])) Mm1 = Mm3 at hf hst
    refine lv_dup hx hb dX9_withoutEdge_162 (va_rf_cat _) ?_
    refine jw_aload_n (r := (some a0)) hx hb dX9_withoutEdge_163 rfl (lv_at hl 0 rfl) ?_
    obtain ⟨x4, h5, hf⟩ := jm_rd_some hf
    refine jw_getI hx hb hts hown hK hst (fl_X9_9 hts hK) h5 dX9_withoutEdge_164 ?_
    refine jw_aload_n (r := v2) hx hb dX9_withoutEdge_167 rfl (lv_at hl 1 rfl) ?_
    refine jw_aload_n (r := v3) hx hb dX9_withoutEdge_168 rfl (lv_at hl 2 rfl) ?_
    refine jw_aload (r := v4) hx hb dX9_withoutEdge_169 (lv_at hl 3 rfl) ?_
    obtain ⟨x6, Mm7, h8, hf⟩ := jm_bd_some hf
    refine jw_I (As := [.int x4, va_rf v2, va_rf v3, va_rf v4]) (rest := [va_rf (some q2)]) (rv := (some q2)) (jt_X9_init l g b N q2 x4 v2 v3 v4 Mm3 Mm7 x6 h8) C0 hK hst (jm_mono h8) (jm_le_tr (jm_mono hf) jm_le_rf) q429 q360 q84 q361 rfl hd_X9_init.2 ⟨Nat.le_of_ble_eq_true rfl, Nat.le_of_ble_eq_true rfl⟩ rfl rfl hl.1 rfl (by rw [cs_r, cs_n]; exact Nat.le_of_ble_eq_true rfl) dX9_withoutEdge_171 (fun H locs cells slots hst => ?_)
    refine W.eq (g2 := F0 m 174 ls [va_rf (some q2)]) rfl ?_
    obtain ⟨rfl, rfl⟩ := jm_ret_some hf
    exact jw_aret C0 (Or.inl ⟨_, rfl⟩) hst dX9_withoutEdge_174
  have B100 : ∀ (a0 : Nat) (v1 : Int32) (v2 : Option Nat) (v3 : Option Nat) (v4 : Option Nat) (v5 : Int32) (Mm14 : Mem) (xe100 : (Int32 ⊕ Unit)) (Me100 : Mem), (jf_X9_withoutEdge_L100 N a0 v1 v2 v3 v4 v5).1 Mm14 = some (xe100, Me100) → jm_le Me100 M' → (jm_or (fun (z : Int32) => ∀ (H : Heap) (locs : List Loc) (cells slots : Nat) (ls : Array Slot), jm_St g b M M' Me100 s (jm_rm 6 131 M M') H locs cells slots → lv_has ls 7 [(0, va_rf (some a0)), (1, .int v1), (2, va_rf v2), (3, va_rf v3), (4, va_rf v4), (5, .int z)] → W p l e (jm_rm 6 131 M M') s m args below meth c H locs cells slots (jm_MQ below g b (some (va_rf r)) M M' args s) (F0 m 100 ls [])) (fun (y : Unit) => ∀ (H : Heap) (locs : List Loc) (cells slots : Nat) (ls : Array Slot), jm_St g b M M' Me100 s (jm_rm 6 131 M M') H locs cells slots → lv_has ls 7 [(0, va_rf (some a0)), (2, va_rf v2), (3, va_rf v3), (4, va_rf v4)] → W p l e (jm_rm 6 131 M M') s m args below meth c H locs cells slots (jm_MQ below g b (some (va_rf r)) M M' args s) (F0 m 159 ls [])) xe100) → ∀ (H : Heap) (locs : List Loc) (cells slots : Nat) (ls : Array Slot), jm_St g b M M' Mm14 s (jm_rm 6 131 M M') H locs cells slots → lv_has ls 7 [(0, va_rf (some a0)), (1, .int v1), (2, va_rf v2), (3, va_rf v3), (4, va_rf v4), (5, .int v5)] → W p l e (jm_rm 6 131 M M') s m args below meth c H locs cells slots (jm_MQ below g b (some (va_rf r)) M M' args s) (F0 m 100 ls []) := by
    intro a0 v1 v2 v3 v4 v5 Mm14 xe100 Me100 hf hle100 hk100
    have K109_153 : ∀ (v5 : Int32) (Mm13 : Mem), (jf_X9_withoutEdge_k109_153 N a0 v1 v2 v3 v4 v5).1 Mm13 = some (xe100, Me100) → ∀ (H : Heap) (locs : List Loc) (cells slots : Nat) (ls : Array Slot), jm_St g b M M' Mm13 s (jm_rm 6 131 M M') H locs cells slots → lv_has ls 7 [(0, va_rf (some a0)), (1, .int v1), (2, va_rf v2), (3, va_rf v3), (4, va_rf v4), (5, .int v5)] → W p l e (jm_rm 6 131 M M') s m args below meth c H locs cells slots (jm_MQ below g b (some (va_rf r)) M M' args s) (F0 m 153 ls []) := by
      intro v5 Mm13 hf H locs cells slots ls hst hl
      unfold jf_X9_withoutEdge_k109_153 at hf
      refine lv_iinc (i := 5) (v := (v5 + 1)) (lv' := [(5, .int (v5 + 1)), (0, va_rf (some a0)), (1, .int v1), (2, va_rf v2), (3, va_rf v3), (4, va_rf v4)]) hx hb dX9_withoutEdge_153 hl (k := 5) rfl (by rfl) (by decide) (by simp [va_rf_cat, cat_i, cat_j, cat_f]) (fun ls hl => ?_)
      refine lv_goto (tgt := 100) hx hb dX9_withoutEdge_156 (by decide) ?_
      obtain ⟨rfl, rfl⟩ := jm_ret_some hf
      exact jm_or_l hk100 _ _ _ _ _ hst (lv_sub hl [1, 2, 3, 4, 5, 0] rfl)
    have B109 : ∀ (a0 : Nat) (v1 : Int32) (v2 : Option Nat) (v3 : Option Nat) (v4 : Option Nat) (v5 : Int32) (v6 : Int32) (Mm21 : Mem) (xe109 : (Int32 ⊕ Unit)) (Me109 : Mem), (jf_X9_withoutEdge_L109 N a0 v1 v2 v3 v4 v5 v6).1 Mm21 = some (xe109, Me109) → jm_le Me109 M' → (jm_or (fun (z : Int32) => ∀ (H : Heap) (locs : List Loc) (cells slots : Nat) (ls : Array Slot), jm_St g b M M' Me109 s (jm_rm 6 131 M M') H locs cells slots → lv_has ls 7 [(0, va_rf (some a0)), (1, .int v1), (2, va_rf v2), (3, va_rf v3), (4, va_rf v4), (5, .int v5), (6, .int z)] → W p l e (jm_rm 6 131 M M') s m args below meth c H locs cells slots (jm_MQ below g b (some (va_rf r)) M M' args s) (F0 m 109 ls [])) (fun (y : Unit) => ∀ (H : Heap) (locs : List Loc) (cells slots : Nat) (ls : Array Slot), jm_St g b M M' Me109 s (jm_rm 6 131 M M') H locs cells slots → lv_has ls 7 [(0, va_rf (some a0)), (1, .int v1), (2, va_rf v2), (3, va_rf v3), (4, va_rf v4), (5, .int v5)] → W p l e (jm_rm 6 131 M M') s m args below meth c H locs cells slots (jm_MQ below g b (some (va_rf r)) M M' args s) (F0 m 153 ls [])) xe109) → ∀ (H : Heap) (locs : List Loc) (cells slots : Nat) (ls : Array Slot), jm_St g b M M' Mm21 s (jm_rm 6 131 M M') H locs cells slots → lv_has ls 7 [(0, va_rf (some a0)), (1, .int v1), (2, va_rf v2), (3, va_rf v3), (4, va_rf v4), (5, .int v5), (6, .int v6)] → W p l e (jm_rm 6 131 M M') s m args below meth c H locs cells slots (jm_MQ below g b (some (va_rf r)) M M' args s) (F0 m 109 ls []) := by
      intro a0 v1 v2 v3 v4 v5 v6 Mm21 xe109 Me109 hf hle109 hk109
      have J145 : ∀ (v6 : Int32) (t0 : Option Nat) (t1 : Int32) (t2 : Option Nat) (t3 : Int32) (Mm15 : Mem), (jf_X9_withoutEdge_j145 N a0 v1 v2 v3 v4 v5 v6 t0 t1 t2 t3).1 Mm15 = some (xe109, Me109) → ∀ (H : Heap) (locs : List Loc) (cells slots : Nat) (ls : Array Slot), jm_St g b M M' Mm15 s (jm_rm 6 131 M M') H locs cells slots → lv_has ls 7 [(0, va_rf (some a0)), (1, .int v1), (2, va_rf v2), (3, va_rf v3), (4, va_rf v4), (5, .int v5), (6, .int v6)] → W p l e (jm_rm 6 131 M M') s m args below meth c H locs cells slots (jm_MQ below g b (some (va_rf r)) M M' args s) (F0 m 145 ls [.int t3, va_rf t2, .int t1, va_rf t0]) := by
        intro v6 t0 t1 t2 t3 Mm15 hf H locs cells slots ls hst hl
        unfold jf_X9_withoutEdge_j145 at hf
        obtain ⟨x16, h17, hf⟩ := jm_rd_some hf
        refine jw_iald hx hb hK hst h17 dX9_withoutEdge_145 ?_
        obtain ⟨F18, h19, hf⟩ := jm_wr_some hf
        refine jw_iast (r := t0) hx hb hK hst h19 dX9_withoutEdge_146 (fun H locs hst => ?_)
        generalize ((Mm15.1, Mm15.2.1, F18) : Mem) = Mm20 at hf hst
        refine lv_iinc (i := 6) (v := (v6 + 1)) (lv' := [(6, .int (v6 + 1)), (0, va_rf (some a0)), (1, .int v1), (2, va_rf v2), (3, va_rf v3), (4, va_rf v4), (5, .int v5)]) hx hb dX9_withoutEdge_147 hl (k := 6) rfl (by rfl) (by decide) rfl (fun ls hl => ?_)
        refine lv_goto (tgt := 109) hx hb dX9_withoutEdge_150 (by decide) ?_
        obtain ⟨rfl, rfl⟩ := jm_ret_some hf
        exact jm_or_l hk109 _ _ _ _ _ hst (lv_sub hl [1, 2, 3, 4, 5, 6, 0] rfl)
      intro H locs cells slots ls hst hl
      unfold jf_X9_withoutEdge_L109 at hf
      refine lv_iload hx hb dX9_withoutEdge_109 (lv_at hl 6 rfl) ?_
      refine jw_aload_n (r := v2) hx hb dX9_withoutEdge_111 rfl (lv_at hl 2 rfl) ?_
      obtain ⟨x22, h23, hf⟩ := jm_rd_some hf
      refine jw_alen hx hb hK hst (show jm_ty[4]? = some (.object "ChainParts$EdgeCell") from rfl) h23 dX9_withoutEdge_112 ?_
      refine lv_icmp_ge (tgt := 153) hx hb dX9_withoutEdge_113 (by decide) (fun hc => ?_) (fun hc => ?_)
      · rw [if_pos hc] at hf
        obtain ⟨rfl, rfl⟩ := jm_ret_some hf
        exact jm_or_r hk109 _ _ _ _ _ hst (lv_sub hl [0, 1, 2, 3, 4, 5] rfl)
      · rw [if_neg hc] at hf
        refine jw_aload (r := v4) hx hb dX9_withoutEdge_116 (lv_at hl 4 rfl) ?_
        refine lv_iload hx hb dX9_withoutEdge_118 (lv_at hl 5 rfl) ?_
        obtain ⟨x24, h25, hf⟩ := jm_rd_some hf
        refine jw_aald hx hb hK hst (show jm_ty[12]? = some (.array .int) from rfl) rfl h25 dX9_withoutEdge_120 ?_
        refine lv_iload hx hb dX9_withoutEdge_121 (lv_at hl 6 rfl) ?_
        refine jw_aload_n (r := (some a0)) hx hb dX9_withoutEdge_123 rfl (lv_at hl 0 rfl) ?_
        obtain ⟨x26, h27, hf⟩ := jm_rd_some hf
        refine jw_getR hx hb hts hown hK hst (fl_X9_23 hts hK) h27 dX9_withoutEdge_124 ?_
        refine lv_iload hx hb dX9_withoutEdge_127 (lv_at hl 5 rfl) ?_
        obtain ⟨x28, h29, hf⟩ := jm_rd_some hf
        refine jw_aald hx hb hK hst (show jm_ty[12]? = some (.array .int) from rfl) rfl h29 dX9_withoutEdge_129 ?_
        refine lv_iload hx hb dX9_withoutEdge_130 (lv_at hl 6 rfl) ?_
        refine lv_iload_n hx hb dX9_withoutEdge_132 rfl (lv_at hl 1 rfl) ?_
        refine lv_icmp_ge (tgt := 141) hx hb dX9_withoutEdge_133 (by decide) (fun hc => ?_) (fun hc => ?_)
        · rw [if_pos hc] at hf
          refine lv_iload hx hb dX9_withoutEdge_141 (lv_at hl 6 rfl) ?_
          refine lv_iconst (v := 1) hx hb dX9_withoutEdge_143 (by decide) ?_
          refine lv_iadd hx hb dX9_withoutEdge_144 ?_
          exact J145 v6 x24 v6 x28 (v6 + (1 : Int32)) _ hf _ _ _ _ _ hst (lv_sub hl [0, 1, 2, 3, 4, 5, 6] rfl)
        · rw [if_neg hc] at hf
          refine lv_iload hx hb dX9_withoutEdge_136 (lv_at hl 6 rfl) ?_
          refine lv_goto (tgt := 145) hx hb dX9_withoutEdge_138 (by decide) ?_
          exact J145 v6 x24 v6 x28 v6 _ hf _ _ _ _ _ hst (lv_sub hl [0, 1, 2, 3, 4, 5, 6] rfl)
    intro H locs cells slots ls hst hl
    unfold jf_X9_withoutEdge_L100 at hf
    refine lv_iload hx hb dX9_withoutEdge_100 (lv_at hl 5 rfl) ?_
    refine lv_iconst (v := 3) hx hb dX9_withoutEdge_102 (by decide) ?_
    refine lv_icmp_ge (tgt := 159) hx hb dX9_withoutEdge_103 (by decide) (fun hc => ?_) (fun hc => ?_)
    · rw [if_pos hc] at hf
      obtain ⟨rfl, rfl⟩ := jm_ret_some hf
      exact jm_or_r hk100 _ _ _ _ _ hst (lv_sub hl [0, 2, 3, 4] rfl)
    · rw [if_neg hc] at hf
      refine lv_iconst (v := 0) hx hb dX9_withoutEdge_106 (by decide) ?_
      refine lv_istore (i := 6) (lv' := [(6, .int (0 : Int32)), (0, va_rf (some a0)), (1, .int v1), (2, va_rf v2), (3, va_rf v3), (4, va_rf v4), (5, .int v5)]) hx hb dX9_withoutEdge_107 hl (by decide) rfl (fun ls hl => ?_)
      obtain ⟨xl109, Ml109, hit109, hf⟩ := jm_bd_some hf
      have hlf109 : jm_le Ml109 M' := jm_le_tr (jm_mono hf) hle100
      have hwe109 : (fun (y : Unit) (Mz : Mem) => ∀ (H : Heap) (locs : List Loc) (cells slots : Nat) (ls : Array Slot), jm_St g b M M' Mz s (jm_rm 6 131 M M') H locs cells slots → lv_has ls 7 [(0, va_rf (some a0)), (1, .int v1), (2, va_rf v2), (3, va_rf v3), (4, va_rf v4), (5, .int v5)] → W p l e (jm_rm 6 131 M M') s m args below meth c H locs cells slots (jm_MQ below g b (some (va_rf r)) M M' args s) (F0 m 153 ls [])) xl109 Ml109 := fun H locs cells slots ls hst hl => K109_153 v5 _ hf H locs cells slots ls hst hl
      refine jm_it_walk (Mf := M') (Wh := fun (z : Int32) (Mz : Mem) => ∀ (H : Heap) (locs : List Loc) (cells slots : Nat) (ls : Array Slot), jm_St g b M M' Mz s (jm_rm 6 131 M M') H locs cells slots → lv_has ls 7 [(0, va_rf (some a0)), (1, .int v1), (2, va_rf v2), (3, va_rf v3), (4, va_rf v4), (5, .int v5), (6, .int z)] → W p l e (jm_rm 6 131 M M') s m args below meth c H locs cells slots (jm_MQ below g b (some (va_rf r)) M M' args s) (F0 m 109 ls [])) (We := fun (y : Unit) (Mz : Mem) => ∀ (H : Heap) (locs : List Loc) (cells slots : Nat) (ls : Array Slot), jm_St g b M M' Mz s (jm_rm 6 131 M M') H locs cells slots → lv_has ls 7 [(0, va_rf (some a0)), (1, .int v1), (2, va_rf v2), (3, va_rf v3), (4, va_rf v4), (5, .int v5)] → W p l e (jm_rm 6 131 M M') s m args below meth c H locs cells slots (jm_MQ below g b (some (va_rf r)) M M' args s) (F0 m 153 ls [])) ?_ N (0 : Int32) Mm14 xl109 Ml109 hit109 hlf109 hwe109 _ _ _ _ _ hst (lv_sub hl [1, 2, 3, 4, 5, 6, 0] rfl)
      intro v6 Mm30 xe109 Me109 hf hle109 hk109 H locs cells slots ls hst hl
      have hf : (jf_X9_withoutEdge_L109 N a0 v1 v2 v3 v4 v5 v6).1 Mm30 = some (xe109, Me109) := hf
      have hl : lv_has ls 7 [(0, va_rf (some a0)), (1, .int v1), (2, va_rf v2), (3, va_rf v3), (4, va_rf v4), (5, .int v5), (6, .int v6)] := hl
      exact B109 a0 v1 v2 v3 v4 v5 v6 _ _ _ hf hle109 hk109 _ _ _ _ _ hst (lv_sub hl [0, 1, 2, 3, 4, 5, 6] rfl)
  have K57_88 : ∀ (a0 : Nat) (v1 : Int32) (v2 : Option Nat) (v3 : Option Nat) (Mm9 : Mem), (jf_X9_withoutEdge_k57_88 N a0 v1 v2 v3).1 Mm9 = some (r, M') → ∀ (H : Heap) (locs : List Loc) (cells slots : Nat) (ls : Array Slot), jm_St g b M M' Mm9 s (jm_rm 6 131 M M') H locs cells slots → lv_has ls 7 [(0, va_rf (some a0)), (1, .int v1), (2, va_rf v2), (3, va_rf v3)] → W p l e (jm_rm 6 131 M M') s m args below meth c H locs cells slots (jm_MQ below g b (some (va_rf r)) M M' args s) (F0 m 88 ls []) := by
    intro a0 v1 v2 v3 Mm9 hf H locs cells slots ls hst hl
    unfold jf_X9_withoutEdge_k57_88 at hf
    refine lv_iconst (v := 3) hx hb dX9_withoutEdge_88 (by decide) ?_
    refine lv_bipush (v := 6) hx hb dX9_withoutEdge_89 (by decide) ?_
    obtain ⟨_, h10, hf⟩ := jm_rd_some hf
    have h10 := jm_ck_some h10
    obtain ⟨q11, hq11, hf⟩ := jm_ml_some hf
    refine jw_multi (kO := 12) (kI := 0) (ty := .int) (body := (.inl (fun _ => 0))) hx hb hown (by rw [jm_str_II]; exact hts _ q499) (jm_ao_args hK.2.2.2.2.2.2.1) (hts _ q339) hK hst rfl rfl (fun h => h) jm_nmI2 (fun _ _ => rfl) h10.1.1 h10.1.2 h10.2.1 h10.2.2 (Nat.le_of_ble_eq_true rfl) rfl rfl (jm_le_tr (jm_mono hf) jm_le_rf) hq11 dX9_withoutEdge_91 (fun H cells slots hst => ?_)
    generalize jm_mul 12 0 (3 : Int32).toNatClampNeg (6 : Int32).toNatClampNeg (.inl (fun _ => 0)) Mm9 = Mm12 at hf hst
    refine jw_astore (i := 4) (r := (some q11)) (lv' := [(4, va_rf (some q11)), (0, va_rf (some a0)), (1, .int v1), (2, va_rf v2), (3, va_rf v3)]) hx hb dX9_withoutEdge_95 hl (by decide) (by simp [va_rf_cat, cat_i, cat_j, cat_f]) (fun ls hl => ?_)
    refine lv_iconst (v := 0) hx hb dX9_withoutEdge_97 (by decide) ?_
    refine lv_istore (i := 5) (lv' := [(5, .int (0 : Int32)), (4, va_rf (some q11)), (0, va_rf (some a0)), (1, .int v1), (2, va_rf v2), (3, va_rf v3)]) hx hb dX9_withoutEdge_98 hl (by decide) (by simp [va_rf_cat, cat_i, cat_j, cat_f]) (fun ls hl => ?_)
    obtain ⟨xl100, Ml100, hit100, hf⟩ := jm_bd_some hf
    have hlf100 : jm_le Ml100 M' := jm_le_tr (jm_mono hf) jm_le_rf
    have hwe100 : (fun (y : Unit) (Mz : Mem) => ∀ (H : Heap) (locs : List Loc) (cells slots : Nat) (ls : Array Slot), jm_St g b M M' Mz s (jm_rm 6 131 M M') H locs cells slots → lv_has ls 7 [(0, va_rf (some a0)), (2, va_rf v2), (3, va_rf v3), (4, va_rf (some q11))] → W p l e (jm_rm 6 131 M M') s m args below meth c H locs cells slots (jm_MQ below g b (some (va_rf r)) M M' args s) (F0 m 159 ls [])) xl100 Ml100 := fun H locs cells slots ls hst hl => K100_159 a0 v2 v3 (some q11) _ hf H locs cells slots ls hst hl
    refine jm_it_walk (Mf := M') (Wh := fun (z : Int32) (Mz : Mem) => ∀ (H : Heap) (locs : List Loc) (cells slots : Nat) (ls : Array Slot), jm_St g b M M' Mz s (jm_rm 6 131 M M') H locs cells slots → lv_has ls 7 [(0, va_rf (some a0)), (1, .int v1), (2, va_rf v2), (3, va_rf v3), (4, va_rf (some q11)), (5, .int z)] → W p l e (jm_rm 6 131 M M') s m args below meth c H locs cells slots (jm_MQ below g b (some (va_rf r)) M M' args s) (F0 m 100 ls [])) (We := fun (y : Unit) (Mz : Mem) => ∀ (H : Heap) (locs : List Loc) (cells slots : Nat) (ls : Array Slot), jm_St g b M M' Mz s (jm_rm 6 131 M M') H locs cells slots → lv_has ls 7 [(0, va_rf (some a0)), (2, va_rf v2), (3, va_rf v3), (4, va_rf (some q11))] → W p l e (jm_rm 6 131 M M') s m args below meth c H locs cells slots (jm_MQ below g b (some (va_rf r)) M M' args s) (F0 m 159 ls [])) ?_ N (0 : Int32) Mm12 xl100 Ml100 hit100 hlf100 hwe100 _ _ _ _ _ hst (lv_sub hl [2, 3, 4, 5, 1, 0] rfl)
    intro v5 Mm31 xe100 Me100 hf hle100 hk100 H locs cells slots ls hst hl
    have hf : (jf_X9_withoutEdge_L100 N a0 v1 v2 v3 (some q11) v5).1 Mm31 = some (xe100, Me100) := hf
    have hl : lv_has ls 7 [(0, va_rf (some a0)), (1, .int v1), (2, va_rf v2), (3, va_rf v3), (4, va_rf (some q11)), (5, .int v5)] := hl
    exact B100 a0 v1 v2 v3 (some q11) v5 _ _ _ hf hle100 hk100 _ _ _ _ _ hst (lv_sub hl [0, 1, 2, 3, 4, 5] rfl)
  have B57 : ∀ (a0 : Nat) (v1 : Int32) (v2 : Option Nat) (v3 : Option Nat) (v4 : Int32) (Mm40 : Mem) (xe57 : (Int32 ⊕ Unit)) (Me57 : Mem), (jf_X9_withoutEdge_L57 N a0 v1 v2 v3 v4).1 Mm40 = some (xe57, Me57) → jm_le Me57 M' → (jm_or (fun (z : Int32) => ∀ (H : Heap) (locs : List Loc) (cells slots : Nat) (ls : Array Slot), jm_St g b M M' Me57 s (jm_rm 6 131 M M') H locs cells slots → lv_has ls 7 [(0, va_rf (some a0)), (1, .int v1), (2, va_rf v2), (3, va_rf v3), (4, .int z)] → W p l e (jm_rm 6 131 M M') s m args below meth c H locs cells slots (jm_MQ below g b (some (va_rf r)) M M' args s) (F0 m 57 ls [])) (fun (y : Unit) => ∀ (H : Heap) (locs : List Loc) (cells slots : Nat) (ls : Array Slot), jm_St g b M M' Me57 s (jm_rm 6 131 M M') H locs cells slots → lv_has ls 7 [(0, va_rf (some a0)), (1, .int v1), (2, va_rf v2), (3, va_rf v3)] → W p l e (jm_rm 6 131 M M') s m args below meth c H locs cells slots (jm_MQ below g b (some (va_rf r)) M M' args s) (F0 m 88 ls [])) xe57) → ∀ (H : Heap) (locs : List Loc) (cells slots : Nat) (ls : Array Slot), jm_St g b M M' Mm40 s (jm_rm 6 131 M M') H locs cells slots → lv_has ls 7 [(0, va_rf (some a0)), (1, .int v1), (2, va_rf v2), (3, va_rf v3), (4, .int v4)] → W p l e (jm_rm 6 131 M M') s m args below meth c H locs cells slots (jm_MQ below g b (some (va_rf r)) M M' args s) (F0 m 57 ls []) := by
    intro a0 v1 v2 v3 v4 Mm40 xe57 Me57 hf hle57 hk57
    intro H locs cells slots ls hst hl
    unfold jf_X9_withoutEdge_L57 at hf
    refine lv_iload hx hb dX9_withoutEdge_57 (lv_at hl 4 rfl) ?_
    refine jw_aload_n (r := (some a0)) hx hb dX9_withoutEdge_59 rfl (lv_at hl 0 rfl) ?_
    obtain ⟨x41, h42, hf⟩ := jm_rd_some hf
    refine jw_getR hx hb hts hown hK hst (fl_X9_19 hts hK) h42 dX9_withoutEdge_60 ?_
    obtain ⟨x43, h44, hf⟩ := jm_rd_some hf
    refine jw_alen hx hb hK hst (show jm_ty[5]? = some (.object "ChainParts$FaceCell") from rfl) h44 dX9_withoutEdge_63 ?_
    refine lv_icmp_ge (tgt := 88) hx hb dX9_withoutEdge_64 (by decide) (fun hc => ?_) (fun hc => ?_)
    · rw [if_pos hc] at hf
      obtain ⟨rfl, rfl⟩ := jm_ret_some hf
      exact jm_or_r hk57 _ _ _ _ _ hst (lv_sub hl [0, 1, 2, 3] rfl)
    · rw [if_neg hc] at hf
      refine jw_aload_n (r := v3) hx hb dX9_withoutEdge_67 rfl (lv_at hl 3 rfl) ?_
      refine lv_iload hx hb dX9_withoutEdge_68 (lv_at hl 4 rfl) ?_
      refine jw_aload_n (r := (some a0)) hx hb dX9_withoutEdge_70 rfl (lv_at hl 0 rfl) ?_
      obtain ⟨x45, h46, hf⟩ := jm_rd_some hf
      refine jw_getR hx hb hts hown hK hst (fl_X9_19 hts hK) h46 dX9_withoutEdge_71 ?_
      refine lv_iload hx hb dX9_withoutEdge_74 (lv_at hl 4 rfl) ?_
      obtain ⟨x47, h48, hf⟩ := jm_rd_some hf
      refine jw_aald hx hb hK hst (show jm_ty[5]? = some (.object "ChainParts$FaceCell") from rfl) rfl h48 dX9_withoutEdge_76 ?_
      refine lv_iload_n hx hb dX9_withoutEdge_77 rfl (lv_at hl 1 rfl) ?_
      obtain ⟨x49, Mm50, h51, hf⟩ := jm_bd_some hf
      have hKh51 : ∀ (H1 : Heap) (locs1 : List Loc) (cells1 slots1 : Nat), jm_St g b M M' Mm50 s (jm_rm 6 131 M M') H1 locs1 cells1 slots1 → W p l e (jm_rm 6 131 M M') s m args below meth c H1 locs1 cells1 slots1 (jm_MQ below g b (some (va_rf r)) M M' args s) (F0 m (78 + 3) ls (Option.toList (some (va_rf x49)) ++ [.int v4, va_rf v3])) := by
        intro H locs cells slots hst
        refine W.eq (g2 := F0 m 81 ls [va_rf x49, .int v4, va_rf v3]) rfl ?_
        obtain ⟨F52, h53, hf⟩ := jm_wr_some hf
        refine jw_astR (kd := 5) (r := v3) (v := x49) hx hb hK hst rfl (as_5 hK) h53 dX9_withoutEdge_81 (fun H locs hst => ?_)
        generalize ((Mm50.1, Mm50.2.1, F52) : Mem) = Mm54 at hf hst
        refine lv_iinc (i := 4) (v := (v4 + 1)) (lv' := [(4, .int (v4 + 1)), (0, va_rf (some a0)), (1, .int v1), (2, va_rf v2), (3, va_rf v3)]) hx hb dX9_withoutEdge_82 hl (k := 4) rfl (by rfl) (by decide) (by simp [va_rf_cat, cat_i, cat_j, cat_f]) (fun ls hl => ?_)
        refine lv_goto (tgt := 57) hx hb dX9_withoutEdge_85 (by decide) ?_
        obtain ⟨rfl, rfl⟩ := jm_ret_some hf
        exact jm_or_l hk57 _ _ _ _ _ hst (lv_sub hl [1, 2, 3, 4, 0] rfl)
      have hbh51 := jm_mono h51
      have hch51 := jm_le_tr (jm_mono hf) hle57
      unfold jf_D_X7_without at h51
      obtain ⟨z55, h56, h51⟩ := jm_rd_some h51
      obtain ⟨fs57, hv58, hr59⟩ := jm_kl_some h56
      by_cases hc : z55.2 = 7
      · rw [if_pos hc] at h51
        rw [hc] at hr59
        exact jw_V (As := [.int v1]) (rest := [.int v4, va_rf v3]) (C := RX7) (T := TX7) (N := 2) (rv := x47) (jt_X7_without l g b N z55.1 v1 Mm40 Mm50 x49 h51) C0 hK hst hbh51 hch51 q485 q486 q487 q82 q490 hd_X7_without ⟨Nat.le_of_ble_eq_true rfl, Nat.le_of_ble_eq_true rfl⟩ hv58 hr59 rfl rfl hl.1 rfl (by rw [cs_i, cs_r, cs_n]; exact Nat.le_of_ble_eq_true rfl) dX9_withoutEdge_78 hKh51
      rw [if_neg hc] at h51
      by_cases hc : z55.2 = 8
      · rw [if_pos hc] at h51
        rw [hc] at hr59
        exact jw_U (As := [.int v1]) (rest := [.int v4, va_rf v3]) (C := RX8) (T := TX8) (N := 2) (rv := x47) (owner := RX7) (x := yX7_without) (jt_X7_without l g b N z55.1 v1 Mm40 Mm50 x49 h51) C0 hK hst hbh51 hch51 (jm_cwU hts q485 q488 q489 q486 q82 q490 rfl hd_X7_without.2 ⟨Nat.le_of_ble_eq_true rfl, Nat.le_of_ble_eq_true rfl⟩) hv58 hr59 rfl rfl hl.1 rfl (by rw [cs_i, cs_r, cs_n]; exact Nat.le_of_ble_eq_true rfl) dX9_withoutEdge_78 hKh51
      rw [if_neg hc] at h51
      exact (jm_no_some h51).elim
  have K13_45 : ∀ (a0 : Nat) (v1 : Int32) (v2 : Option Nat) (Mm32 : Mem), (jf_X9_withoutEdge_k13_45 N a0 v1 v2).1 Mm32 = some (r, M') → ∀ (H : Heap) (locs : List Loc) (cells slots : Nat) (ls : Array Slot), jm_St g b M M' Mm32 s (jm_rm 6 131 M M') H locs cells slots → lv_has ls 7 [(0, va_rf (some a0)), (1, .int v1), (2, va_rf v2)] → W p l e (jm_rm 6 131 M M') s m args below meth c H locs cells slots (jm_MQ below g b (some (va_rf r)) M M' args s) (F0 m 45 ls []) := by
    intro a0 v1 v2 Mm32 hf H locs cells slots ls hst hl
    unfold jf_X9_withoutEdge_k13_45 at hf
    refine jw_aload_n (r := (some a0)) hx hb dX9_withoutEdge_45 rfl (lv_at hl 0 rfl) ?_
    obtain ⟨x33, h34, hf⟩ := jm_rd_some hf
    refine jw_getR hx hb hts hown hK hst (fl_X9_19 hts hK) h34 dX9_withoutEdge_46 ?_
    obtain ⟨x35, h36, hf⟩ := jm_rd_some hf
    refine jw_alen hx hb hK hst (show jm_ty[5]? = some (.object "ChainParts$FaceCell") from rfl) h36 dX9_withoutEdge_49 ?_
    obtain ⟨_, h37, hf⟩ := jm_rd_some hf
    have h37 := jm_ck_some h37
    obtain ⟨q38, hq38, hf⟩ := jm_al_some hf
    refine jw_anew (kd := 5) (C := "ChainParts$FaceCell") hx hb hown (hts _ q446) (by simp [jm_aoC]) hK hst rfl h37.1 h37.2 (jm_le_tr (jm_mono hf) jm_le_rf) hq38 dX9_withoutEdge_50 (fun H cells slots hst => ?_)
    generalize jm_new (.inl (5, x35.toNatClampNeg, .inr (.inr (.inr (.inr (fun _ => none)))))) Mm32 = Mm39 at hf hst
    refine jw_astore_n (i := 3) (r := (some q38)) (lv' := [(3, va_rf (some q38)), (0, va_rf (some a0)), (1, .int v1), (2, va_rf v2)]) hx hb dX9_withoutEdge_53 rfl hl (by decide) (by simp [va_rf_cat, cat_i, cat_j, cat_f]) (fun ls hl => ?_)
    refine lv_iconst (v := 0) hx hb dX9_withoutEdge_54 (by decide) ?_
    refine lv_istore (i := 4) (lv' := [(4, .int (0 : Int32)), (3, va_rf (some q38)), (0, va_rf (some a0)), (1, .int v1), (2, va_rf v2)]) hx hb dX9_withoutEdge_55 hl (by decide) (by simp [va_rf_cat, cat_i, cat_j, cat_f]) (fun ls hl => ?_)
    obtain ⟨xl57, Ml57, hit57, hf⟩ := jm_bd_some hf
    have hlf57 : jm_le Ml57 M' := jm_le_tr (jm_mono hf) jm_le_rf
    have hwe57 : (fun (y : Unit) (Mz : Mem) => ∀ (H : Heap) (locs : List Loc) (cells slots : Nat) (ls : Array Slot), jm_St g b M M' Mz s (jm_rm 6 131 M M') H locs cells slots → lv_has ls 7 [(0, va_rf (some a0)), (1, .int v1), (2, va_rf v2), (3, va_rf (some q38))] → W p l e (jm_rm 6 131 M M') s m args below meth c H locs cells slots (jm_MQ below g b (some (va_rf r)) M M' args s) (F0 m 88 ls [])) xl57 Ml57 := fun H locs cells slots ls hst hl => K57_88 a0 v1 v2 (some q38) _ hf H locs cells slots ls hst hl
    refine jm_it_walk (Mf := M') (Wh := fun (z : Int32) (Mz : Mem) => ∀ (H : Heap) (locs : List Loc) (cells slots : Nat) (ls : Array Slot), jm_St g b M M' Mz s (jm_rm 6 131 M M') H locs cells slots → lv_has ls 7 [(0, va_rf (some a0)), (1, .int v1), (2, va_rf v2), (3, va_rf (some q38)), (4, .int z)] → W p l e (jm_rm 6 131 M M') s m args below meth c H locs cells slots (jm_MQ below g b (some (va_rf r)) M M' args s) (F0 m 57 ls [])) (We := fun (y : Unit) (Mz : Mem) => ∀ (H : Heap) (locs : List Loc) (cells slots : Nat) (ls : Array Slot), jm_St g b M M' Mz s (jm_rm 6 131 M M') H locs cells slots → lv_has ls 7 [(0, va_rf (some a0)), (1, .int v1), (2, va_rf v2), (3, va_rf (some q38))] → W p l e (jm_rm 6 131 M M') s m args below meth c H locs cells slots (jm_MQ below g b (some (va_rf r)) M M' args s) (F0 m 88 ls [])) ?_ N (0 : Int32) Mm39 xl57 Ml57 hit57 hlf57 hwe57 _ _ _ _ _ hst (lv_sub hl [2, 3, 4, 1, 0] rfl)
    intro v4 Mm60 xe57 Me57 hf hle57 hk57 H locs cells slots ls hst hl
    have hf : (jf_X9_withoutEdge_L57 N a0 v1 v2 (some q38) v4).1 Mm60 = some (xe57, Me57) := hf
    have hl : lv_has ls 7 [(0, va_rf (some a0)), (1, .int v1), (2, va_rf v2), (3, va_rf (some q38)), (4, .int v4)] := hl
    exact B57 a0 v1 v2 (some q38) v4 _ _ _ hf hle57 hk57 _ _ _ _ _ hst (lv_sub hl [0, 1, 2, 3, 4] rfl)
  have B13 : ∀ (a0 : Nat) (v1 : Int32) (v2 : Option Nat) (v3 : Int32) (Mm74 : Mem) (xe13 : (Int32 ⊕ Unit)) (Me13 : Mem), (jf_X9_withoutEdge_L13 N a0 v1 v2 v3).1 Mm74 = some (xe13, Me13) → jm_le Me13 M' → (jm_or (fun (z : Int32) => ∀ (H : Heap) (locs : List Loc) (cells slots : Nat) (ls : Array Slot), jm_St g b M M' Me13 s (jm_rm 6 131 M M') H locs cells slots → lv_has ls 7 [(0, va_rf (some a0)), (1, .int v1), (2, va_rf v2), (3, .int z)] → W p l e (jm_rm 6 131 M M') s m args below meth c H locs cells slots (jm_MQ below g b (some (va_rf r)) M M' args s) (F0 m 13 ls [])) (fun (y : Unit) => ∀ (H : Heap) (locs : List Loc) (cells slots : Nat) (ls : Array Slot), jm_St g b M M' Me13 s (jm_rm 6 131 M M') H locs cells slots → lv_has ls 7 [(0, va_rf (some a0)), (1, .int v1), (2, va_rf v2)] → W p l e (jm_rm 6 131 M M') s m args below meth c H locs cells slots (jm_MQ below g b (some (va_rf r)) M M' args s) (F0 m 45 ls [])) xe13) → ∀ (H : Heap) (locs : List Loc) (cells slots : Nat) (ls : Array Slot), jm_St g b M M' Mm74 s (jm_rm 6 131 M M') H locs cells slots → lv_has ls 7 [(0, va_rf (some a0)), (1, .int v1), (2, va_rf v2), (3, .int v3)] → W p l e (jm_rm 6 131 M M') s m args below meth c H locs cells slots (jm_MQ below g b (some (va_rf r)) M M' args s) (F0 m 13 ls []) := by
    intro a0 v1 v2 v3 Mm74 xe13 Me13 hf hle13 hk13
    have J37 : ∀ (v3 : Int32) (t0 : Option Nat) (t1 : Int32) (t2 : Option Nat) (t3 : Int32) (Mm68 : Mem), (jf_X9_withoutEdge_j37 N a0 v1 v2 v3 t0 t1 t2 t3).1 Mm68 = some (xe13, Me13) → ∀ (H : Heap) (locs : List Loc) (cells slots : Nat) (ls : Array Slot), jm_St g b M M' Mm68 s (jm_rm 6 131 M M') H locs cells slots → lv_has ls 7 [(0, va_rf (some a0)), (1, .int v1), (2, va_rf v2), (3, .int v3)] → W p l e (jm_rm 6 131 M M') s m args below meth c H locs cells slots (jm_MQ below g b (some (va_rf r)) M M' args s) (F0 m 37 ls [.int t3, va_rf t2, .int t1, va_rf t0]) := by
      intro v3 t0 t1 t2 t3 Mm68 hf H locs cells slots ls hst hl
      unfold jf_X9_withoutEdge_j37 at hf
      obtain ⟨x69, h70, hf⟩ := jm_rd_some hf
      refine jw_aald hx hb hK hst (show jm_ty[4]? = some (.object "ChainParts$EdgeCell") from rfl) rfl h70 dX9_withoutEdge_37 ?_
      obtain ⟨F71, h72, hf⟩ := jm_wr_some hf
      refine jw_astR (kd := 4) (r := t0) (v := x69) hx hb hK hst rfl (as_4 hK) h72 dX9_withoutEdge_38 (fun H locs hst => ?_)
      generalize ((Mm68.1, Mm68.2.1, F71) : Mem) = Mm73 at hf hst
      refine lv_iinc (i := 3) (v := (v3 + 1)) (lv' := [(3, .int (v3 + 1)), (0, va_rf (some a0)), (1, .int v1), (2, va_rf v2)]) hx hb dX9_withoutEdge_39 hl (k := 3) rfl (by rfl) (by decide) (by simp [va_rf_cat, cat_i, cat_j, cat_f]) (fun ls hl => ?_)
      refine lv_goto (tgt := 13) hx hb dX9_withoutEdge_42 (by decide) ?_
      obtain ⟨rfl, rfl⟩ := jm_ret_some hf
      exact jm_or_l hk13 _ _ _ _ _ hst (lv_sub hl [1, 2, 3, 0] rfl)
    intro H locs cells slots ls hst hl
    unfold jf_X9_withoutEdge_L13 at hf
    refine lv_iload_n hx hb dX9_withoutEdge_13 rfl (lv_at hl 3 rfl) ?_
    refine jw_aload_n (r := v2) hx hb dX9_withoutEdge_14 rfl (lv_at hl 2 rfl) ?_
    obtain ⟨x75, h76, hf⟩ := jm_rd_some hf
    refine jw_alen hx hb hK hst (show jm_ty[4]? = some (.object "ChainParts$EdgeCell") from rfl) h76 dX9_withoutEdge_15 ?_
    refine lv_icmp_ge (tgt := 45) hx hb dX9_withoutEdge_16 (by decide) (fun hc => ?_) (fun hc => ?_)
    · rw [if_pos hc] at hf
      obtain ⟨rfl, rfl⟩ := jm_ret_some hf
      exact jm_or_r hk13 _ _ _ _ _ hst (lv_sub hl [0, 1, 2] rfl)
    · rw [if_neg hc] at hf
      refine jw_aload_n (r := v2) hx hb dX9_withoutEdge_19 rfl (lv_at hl 2 rfl) ?_
      refine lv_iload_n hx hb dX9_withoutEdge_20 rfl (lv_at hl 3 rfl) ?_
      refine jw_aload_n (r := (some a0)) hx hb dX9_withoutEdge_21 rfl (lv_at hl 0 rfl) ?_
      obtain ⟨x77, h78, hf⟩ := jm_rd_some hf
      refine jw_getR hx hb hts hown hK hst (fl_X9_15 hts hK) h78 dX9_withoutEdge_22 ?_
      refine lv_iload_n hx hb dX9_withoutEdge_25 rfl (lv_at hl 3 rfl) ?_
      refine lv_iload_n hx hb dX9_withoutEdge_26 rfl (lv_at hl 1 rfl) ?_
      refine lv_icmp_ge (tgt := 34) hx hb dX9_withoutEdge_27 (by decide) (fun hc => ?_) (fun hc => ?_)
      · rw [if_pos hc] at hf
        refine lv_iload_n hx hb dX9_withoutEdge_34 rfl (lv_at hl 3 rfl) ?_
        refine lv_iconst (v := 1) hx hb dX9_withoutEdge_35 (by decide) ?_
        refine lv_iadd hx hb dX9_withoutEdge_36 ?_
        exact J37 v3 v2 v3 x77 (v3 + (1 : Int32)) _ hf _ _ _ _ _ hst (lv_sub hl [0, 1, 2, 3] rfl)
      · rw [if_neg hc] at hf
        refine lv_iload_n hx hb dX9_withoutEdge_30 rfl (lv_at hl 3 rfl) ?_
        refine lv_goto (tgt := 37) hx hb dX9_withoutEdge_31 (by decide) ?_
        exact J37 v3 v2 v3 x77 v3 _ hf _ _ _ _ _ hst (lv_sub hl [0, 1, 2, 3] rfl)
  unfold jf_X9_withoutEdge at hf
  refine jw_aload_n (r := (some a0)) hx hb dX9_withoutEdge_0 rfl (lv_at hl 0 rfl) ?_
  obtain ⟨x61, h62, hf⟩ := jm_rd_some hf
  refine jw_getR hx hb hts hown hK hst (fl_X9_15 hts hK) h62 dX9_withoutEdge_1 ?_
  obtain ⟨x63, h64, hf⟩ := jm_rd_some hf
  refine jw_alen hx hb hK hst (show jm_ty[4]? = some (.object "ChainParts$EdgeCell") from rfl) h64 dX9_withoutEdge_4 ?_
  refine lv_iconst (v := 1) hx hb dX9_withoutEdge_5 (by decide) ?_
  refine lv_isub hx hb dX9_withoutEdge_6 ?_
  obtain ⟨_, h65, hf⟩ := jm_rd_some hf
  have h65 := jm_ck_some h65
  obtain ⟨q66, hq66, hf⟩ := jm_al_some hf
  refine jw_anew (kd := 4) (C := "ChainParts$EdgeCell") hx hb hown (hts _ q426) (by simp [jm_aoC]) hK hst rfl h65.1 h65.2 (jm_le_tr (jm_mono hf) jm_le_rf) hq66 dX9_withoutEdge_7 (fun H cells slots hst => ?_)
  generalize jm_new (.inl (4, (x63 - (1 : Int32)).toNatClampNeg, .inr (.inr (.inr (.inr (fun _ => none)))))) M = Mm67 at hf hst
  refine jw_astore_n (i := 2) (r := (some q66)) (lv' := [(2, va_rf (some q66)), (0, va_rf (some a0)), (1, .int v1)]) hx hb dX9_withoutEdge_10 rfl hl (by decide) rfl (fun ls hl => ?_)
  refine lv_iconst (v := 0) hx hb dX9_withoutEdge_11 (by decide) ?_
  refine lv_istore_n (i := 3) (lv' := [(3, .int (0 : Int32)), (2, va_rf (some q66)), (0, va_rf (some a0)), (1, .int v1)]) hx hb dX9_withoutEdge_12 rfl hl (by decide) (by simp [va_rf_cat, cat_i, cat_j, cat_f]) (fun ls hl => ?_)
  obtain ⟨xl13, Ml13, hit13, hf⟩ := jm_bd_some hf
  have hlf13 : jm_le Ml13 M' := jm_le_tr (jm_mono hf) jm_le_rf
  have hwe13 : (fun (y : Unit) (Mz : Mem) => ∀ (H : Heap) (locs : List Loc) (cells slots : Nat) (ls : Array Slot), jm_St g b M M' Mz s (jm_rm 6 131 M M') H locs cells slots → lv_has ls 7 [(0, va_rf (some a0)), (1, .int v1), (2, va_rf (some q66))] → W p l e (jm_rm 6 131 M M') s m args below meth c H locs cells slots (jm_MQ below g b (some (va_rf r)) M M' args s) (F0 m 45 ls [])) xl13 Ml13 := fun H locs cells slots ls hst hl => K13_45 a0 v1 (some q66) _ hf H locs cells slots ls hst hl
  refine jm_it_walk (Mf := M') (Wh := fun (z : Int32) (Mz : Mem) => ∀ (H : Heap) (locs : List Loc) (cells slots : Nat) (ls : Array Slot), jm_St g b M M' Mz s (jm_rm 6 131 M M') H locs cells slots → lv_has ls 7 [(0, va_rf (some a0)), (1, .int v1), (2, va_rf (some q66)), (3, .int z)] → W p l e (jm_rm 6 131 M M') s m args below meth c H locs cells slots (jm_MQ below g b (some (va_rf r)) M M' args s) (F0 m 13 ls [])) (We := fun (y : Unit) (Mz : Mem) => ∀ (H : Heap) (locs : List Loc) (cells slots : Nat) (ls : Array Slot), jm_St g b M M' Mz s (jm_rm 6 131 M M') H locs cells slots → lv_has ls 7 [(0, va_rf (some a0)), (1, .int v1), (2, va_rf (some q66))] → W p l e (jm_rm 6 131 M M') s m args below meth c H locs cells slots (jm_MQ below g b (some (va_rf r)) M M' args s) (F0 m 45 ls [])) ?_ N (0 : Int32) Mm67 xl13 Ml13 hit13 hlf13 hwe13 _ _ _ _ _ hst (lv_sub hl [2, 3, 1, 0] rfl)
  intro v3 Mm79 xe13 Me13 hf hle13 hk13 H locs cells slots ls hst hl
  have hf : (jf_X9_withoutEdge_L13 N a0 v1 (some q66) v3).1 Mm79 = some (xe13, Me13) := hf
  have hl : lv_has ls 7 [(0, va_rf (some a0)), (1, .int v1), (2, va_rf (some q66)), (3, .int v3)] := hl
  exact B13 a0 v1 (some q66) v3 _ _ _ hf hle13 hk13 _ _ _ _ _ hst (lv_sub hl [0, 1, 2, 3] rfl)
def jf_X9_withoutFace_k13_45 (N : Nat) (a0 : Nat) (v2 : Option Nat) : jm_P (Option Nat) :=
  jm_al (.inr (9, [.int 0, .null, .null, .null])) fun q2 =>
  jm_rd (jm_fI [9] 0 (some a0)) fun x4 =>
  jm_rd (jm_fR [9] 1 (some a0)) fun x6 =>
  jm_rd (jm_fR [9] 3 (some a0)) fun x8 =>
  jm_bd (jf_X9_init N q2 x4 x6 v2 x8) fun x10 =>
  jm_ret (some q2)
def jf_X9_withoutFace_j37 (N : Nat) (a0 : Nat) (v1 : Int32) (v2 : Option Nat) (v3 : Int32) (t0 : Option Nat) (t1 : Int32) (t2 : Option Nat) (t3 : Int32) : jm_P (Int32 ⊕ Unit) :=
  jm_rd (jm_ldR 5 t2 t3) fun x21 =>
  jm_wr (jm_stR 5 [7, 8] none t0 t1 x21) <|
  jm_ret (.inl (v3 + 1))
def jf_X9_withoutFace_L13 (N : Nat) (a0 : Nat) (v1 : Int32) (v2 : Option Nat) (v3 : Int32) : jm_P (Int32 ⊕ Unit) :=
  jm_rd (jm_len 5 v2) fun x27 =>
  if x27 ≤ v3 then (
    jm_ret (.inr ()))
  else
    jm_rd (jm_fR [9] 2 (some a0)) fun x29 =>
    if v1 ≤ v3 then (
      jf_X9_withoutFace_j37 N a0 v1 v2 v3 v2 v3 x29 (v3 + (1 : Int32)))
    else
      jf_X9_withoutFace_j37 N a0 v1 v2 v3 v2 v3 x29 v3
def jf_X9_withoutFace (N : Nat) (a0 : Nat) (v1 : Int32) : jm_P (Option Nat) :=
  jm_rd (jm_fR [9] 2 (some a0)) fun x13 =>
  jm_rd (jm_len 5 x13) fun x15 =>
  jm_rd (jm_ck (¬ (x15 - (1 : Int32)) < 0 ∧ (x15 - (1 : Int32)).toNatClampNeg ≤ 1000)) fun _ =>
  jm_al (.inl (5, (x15 - (1 : Int32)).toNatClampNeg, .inr (.inr (.inr (.inr (fun _ => none)))))) fun q18 =>
  jm_bd (jm_it (fun z => jf_X9_withoutFace_L13 N a0 v1 (some q18) z) N (0 : Int32)) fun y =>
  jf_X9_withoutFace_k13_45 N a0 (some q18)
set_option maxHeartbeats 4000000 in
set_option maxRecDepth 100000 in
theorem jt_X9_withoutFace (l : Launch) (g : GD) (b N : Nat) (a0 : Nat) (v1 : Int32) (M M' : Mem) (r : (Option Nat)) (hf : (jf_X9_withoutFace N a0 v1).1 M = some (r, M')) : jm_Met l g b yX9_withoutFace (ws_ yX9_withoutFace cX9_withoutFace 4 (some (.object "ChainParts$Complex"))) 2 44 [va_rf (some a0), .int v1] M M' (some (va_rf r)) := by
  refine jm_start (by decide) (jm_mono hf) (by rw [lg_sl_r, lg_sl_i, lg_sl_n]; exact Nat.le_of_ble_eq_true rfl) ?_
  intro p e s m args below meth c ls C0 hin hK hst hl
  obtain ⟨hx, hb, hml, hown, hts, hr, hlk⟩ := id C0
  have hown : s.vm.findClass RX9 = some m.cls := hown
  have C0 : jm_Cx p s m args meth c cX9_withoutFace 4 (some (.object "ChainParts$Complex")) RX9 := C0
  rw [lv_args_r, lv_args_i, lv_args_n] at hl
  have hl : lv_has ls 4 [(0, va_rf (some a0)), (1, .int v1)] := hl
  have K13_45 : ∀ (a0 : Nat) (v2 : Option Nat) (Mm1 : Mem), (jf_X9_withoutFace_k13_45 N a0 v2).1 Mm1 = some (r, M') → ∀ (H : Heap) (locs : List Loc) (cells slots : Nat) (ls : Array Slot), jm_St g b M M' Mm1 s (jm_rm 2 44 M M') H locs cells slots → lv_has ls 4 [(0, va_rf (some a0)), (2, va_rf v2)] → W p l e (jm_rm 2 44 M M') s m args below meth c H locs cells slots (jm_MQ below g b (some (va_rf r)) M M' args s) (F0 m 45 ls []) := by
    intro a0 v2 Mm1 hf H locs cells slots ls hst hl
    unfold jf_X9_withoutFace_k13_45 at hf
    obtain ⟨q2, hq2, hf⟩ := jm_al_some hf
    refine jw_new (ci := 9) (C := RX9) (T := TX9) (N := 4) (fs := [.int 0, .null, .null, .null]) hx hb hts in_X9 tyX9 tyX9_ok hown (hts _ q428) (hts _ q356) (hts _ q84) hK hst rfl (fun j hj => by match j, hj with | 0, _ => rfl | 1, _ => rfl | 2, _ => rfl | 3, _ => rfl | k + 4, hj => omega) rfl (jm_le_tr (jm_mono hf) jm_le_rf) hq2 dX9_withoutFace_45 (fun H cells slots hst => ?_)
    generalize jm_new (.inr (9, [.int 0, .null, .null, .null])) Mm1 = Mm3 at hf hst
    refine lv_dup hx hb dX9_withoutFace_48 (va_rf_cat _) ?_
    refine jw_aload_n (r := (some a0)) hx hb dX9_withoutFace_49 rfl (lv_at hl 0 rfl) ?_
    obtain ⟨x4, h5, hf⟩ := jm_rd_some hf
    refine jw_getI hx hb hts hown hK hst (fl_X9_9 hts hK) h5 dX9_withoutFace_50 ?_
    refine jw_aload_n (r := (some a0)) hx hb dX9_withoutFace_53 rfl (lv_at hl 0 rfl) ?_
    obtain ⟨x6, h7, hf⟩ := jm_rd_some hf
    refine jw_getR hx hb hts hown hK hst (fl_X9_15 hts hK) h7 dX9_withoutFace_54 ?_
    refine jw_aload_n (r := v2) hx hb dX9_withoutFace_57 rfl (lv_at hl 1 rfl) ?_
    refine jw_aload_n (r := (some a0)) hx hb dX9_withoutFace_58 rfl (lv_at hl 0 rfl) ?_
    obtain ⟨x8, h9, hf⟩ := jm_rd_some hf
    refine jw_getR hx hb hts hown hK hst (fl_X9_23 hts hK) h9 dX9_withoutFace_59 ?_
    obtain ⟨x10, Mm11, h12, hf⟩ := jm_bd_some hf
    refine jw_I (As := [.int x4, va_rf x6, va_rf v2, va_rf x8]) (rest := [va_rf (some q2)]) (rv := (some q2)) (jt_X9_init l g b N q2 x4 x6 v2 x8 Mm3 Mm11 x10 h12) C0 hK hst (jm_mono h12) (jm_le_tr (jm_mono hf) jm_le_rf) q429 q360 q84 q361 rfl hd_X9_init.2 ⟨Nat.le_of_ble_eq_true rfl, Nat.le_of_ble_eq_true rfl⟩ rfl rfl hl.1 rfl (by rw [cs_r, cs_n]; exact Nat.le_of_ble_eq_true rfl) dX9_withoutFace_62 (fun H locs cells slots hst => ?_)
    refine W.eq (g2 := F0 m 65 ls [va_rf (some q2)]) rfl ?_
    obtain ⟨rfl, rfl⟩ := jm_ret_some hf
    exact jw_aret C0 (Or.inl ⟨_, rfl⟩) hst dX9_withoutFace_65
  have B13 : ∀ (a0 : Nat) (v1 : Int32) (v2 : Option Nat) (v3 : Int32) (Mm26 : Mem) (xe13 : (Int32 ⊕ Unit)) (Me13 : Mem), (jf_X9_withoutFace_L13 N a0 v1 v2 v3).1 Mm26 = some (xe13, Me13) → jm_le Me13 M' → (jm_or (fun (z : Int32) => ∀ (H : Heap) (locs : List Loc) (cells slots : Nat) (ls : Array Slot), jm_St g b M M' Me13 s (jm_rm 2 44 M M') H locs cells slots → lv_has ls 4 [(0, va_rf (some a0)), (1, .int v1), (2, va_rf v2), (3, .int z)] → W p l e (jm_rm 2 44 M M') s m args below meth c H locs cells slots (jm_MQ below g b (some (va_rf r)) M M' args s) (F0 m 13 ls [])) (fun (y : Unit) => ∀ (H : Heap) (locs : List Loc) (cells slots : Nat) (ls : Array Slot), jm_St g b M M' Me13 s (jm_rm 2 44 M M') H locs cells slots → lv_has ls 4 [(0, va_rf (some a0)), (2, va_rf v2)] → W p l e (jm_rm 2 44 M M') s m args below meth c H locs cells slots (jm_MQ below g b (some (va_rf r)) M M' args s) (F0 m 45 ls [])) xe13) → ∀ (H : Heap) (locs : List Loc) (cells slots : Nat) (ls : Array Slot), jm_St g b M M' Mm26 s (jm_rm 2 44 M M') H locs cells slots → lv_has ls 4 [(0, va_rf (some a0)), (1, .int v1), (2, va_rf v2), (3, .int v3)] → W p l e (jm_rm 2 44 M M') s m args below meth c H locs cells slots (jm_MQ below g b (some (va_rf r)) M M' args s) (F0 m 13 ls []) := by
    intro a0 v1 v2 v3 Mm26 xe13 Me13 hf hle13 hk13
    have J37 : ∀ (v3 : Int32) (t0 : Option Nat) (t1 : Int32) (t2 : Option Nat) (t3 : Int32) (Mm20 : Mem), (jf_X9_withoutFace_j37 N a0 v1 v2 v3 t0 t1 t2 t3).1 Mm20 = some (xe13, Me13) → ∀ (H : Heap) (locs : List Loc) (cells slots : Nat) (ls : Array Slot), jm_St g b M M' Mm20 s (jm_rm 2 44 M M') H locs cells slots → lv_has ls 4 [(0, va_rf (some a0)), (1, .int v1), (2, va_rf v2), (3, .int v3)] → W p l e (jm_rm 2 44 M M') s m args below meth c H locs cells slots (jm_MQ below g b (some (va_rf r)) M M' args s) (F0 m 37 ls [.int t3, va_rf t2, .int t1, va_rf t0]) := by
      intro v3 t0 t1 t2 t3 Mm20 hf H locs cells slots ls hst hl
      unfold jf_X9_withoutFace_j37 at hf
      obtain ⟨x21, h22, hf⟩ := jm_rd_some hf
      refine jw_aald hx hb hK hst (show jm_ty[5]? = some (.object "ChainParts$FaceCell") from rfl) rfl h22 dX9_withoutFace_37 ?_
      obtain ⟨F23, h24, hf⟩ := jm_wr_some hf
      refine jw_astR (kd := 5) (r := t0) (v := x21) hx hb hK hst rfl (as_5 hK) h24 dX9_withoutFace_38 (fun H locs hst => ?_)
      generalize ((Mm20.1, Mm20.2.1, F23) : Mem) = Mm25 at hf hst
      refine lv_iinc (i := 3) (v := (v3 + 1)) (lv' := [(3, .int (v3 + 1)), (0, va_rf (some a0)), (1, .int v1), (2, va_rf v2)]) hx hb dX9_withoutFace_39 hl (k := 3) rfl (by rfl) (by decide) (by simp [va_rf_cat, cat_i, cat_j, cat_f]) (fun ls hl => ?_)
      refine lv_goto (tgt := 13) hx hb dX9_withoutFace_42 (by decide) ?_
      obtain ⟨rfl, rfl⟩ := jm_ret_some hf
      exact jm_or_l hk13 _ _ _ _ _ hst (lv_sub hl [1, 2, 3, 0] rfl)
    intro H locs cells slots ls hst hl
    unfold jf_X9_withoutFace_L13 at hf
    refine lv_iload_n hx hb dX9_withoutFace_13 rfl (lv_at hl 3 rfl) ?_
    refine jw_aload_n (r := v2) hx hb dX9_withoutFace_14 rfl (lv_at hl 2 rfl) ?_
    obtain ⟨x27, h28, hf⟩ := jm_rd_some hf
    refine jw_alen hx hb hK hst (show jm_ty[5]? = some (.object "ChainParts$FaceCell") from rfl) h28 dX9_withoutFace_15 ?_
    refine lv_icmp_ge (tgt := 45) hx hb dX9_withoutFace_16 (by decide) (fun hc => ?_) (fun hc => ?_)
    · rw [if_pos hc] at hf
      obtain ⟨rfl, rfl⟩ := jm_ret_some hf
      exact jm_or_r hk13 _ _ _ _ _ hst (lv_sub hl [0, 2] rfl)
    · rw [if_neg hc] at hf
      refine jw_aload_n (r := v2) hx hb dX9_withoutFace_19 rfl (lv_at hl 2 rfl) ?_
      refine lv_iload_n hx hb dX9_withoutFace_20 rfl (lv_at hl 3 rfl) ?_
      refine jw_aload_n (r := (some a0)) hx hb dX9_withoutFace_21 rfl (lv_at hl 0 rfl) ?_
      obtain ⟨x29, h30, hf⟩ := jm_rd_some hf
      refine jw_getR hx hb hts hown hK hst (fl_X9_19 hts hK) h30 dX9_withoutFace_22 ?_
      refine lv_iload_n hx hb dX9_withoutFace_25 rfl (lv_at hl 3 rfl) ?_
      refine lv_iload_n hx hb dX9_withoutFace_26 rfl (lv_at hl 1 rfl) ?_
      refine lv_icmp_ge (tgt := 34) hx hb dX9_withoutFace_27 (by decide) (fun hc => ?_) (fun hc => ?_)
      · rw [if_pos hc] at hf
        refine lv_iload_n hx hb dX9_withoutFace_34 rfl (lv_at hl 3 rfl) ?_
        refine lv_iconst (v := 1) hx hb dX9_withoutFace_35 (by decide) ?_
        refine lv_iadd hx hb dX9_withoutFace_36 ?_
        exact J37 v3 v2 v3 x29 (v3 + (1 : Int32)) _ hf _ _ _ _ _ hst (lv_sub hl [0, 1, 2, 3] rfl)
      · rw [if_neg hc] at hf
        refine lv_iload_n hx hb dX9_withoutFace_30 rfl (lv_at hl 3 rfl) ?_
        refine lv_goto (tgt := 37) hx hb dX9_withoutFace_31 (by decide) ?_
        exact J37 v3 v2 v3 x29 v3 _ hf _ _ _ _ _ hst (lv_sub hl [0, 1, 2, 3] rfl)
  unfold jf_X9_withoutFace at hf
  refine jw_aload_n (r := (some a0)) hx hb dX9_withoutFace_0 rfl (lv_at hl 0 rfl) ?_
  obtain ⟨x13, h14, hf⟩ := jm_rd_some hf
  refine jw_getR hx hb hts hown hK hst (fl_X9_19 hts hK) h14 dX9_withoutFace_1 ?_
  obtain ⟨x15, h16, hf⟩ := jm_rd_some hf
  refine jw_alen hx hb hK hst (show jm_ty[5]? = some (.object "ChainParts$FaceCell") from rfl) h16 dX9_withoutFace_4 ?_
  refine lv_iconst (v := 1) hx hb dX9_withoutFace_5 (by decide) ?_
  refine lv_isub hx hb dX9_withoutFace_6 ?_
  obtain ⟨_, h17, hf⟩ := jm_rd_some hf
  have h17 := jm_ck_some h17
  obtain ⟨q18, hq18, hf⟩ := jm_al_some hf
  refine jw_anew (kd := 5) (C := "ChainParts$FaceCell") hx hb hown (hts _ q446) (by simp [jm_aoC]) hK hst rfl h17.1 h17.2 (jm_le_tr (jm_mono hf) jm_le_rf) hq18 dX9_withoutFace_7 (fun H cells slots hst => ?_)
  generalize jm_new (.inl (5, (x15 - (1 : Int32)).toNatClampNeg, .inr (.inr (.inr (.inr (fun _ => none)))))) M = Mm19 at hf hst
  refine jw_astore_n (i := 2) (r := (some q18)) (lv' := [(2, va_rf (some q18)), (0, va_rf (some a0)), (1, .int v1)]) hx hb dX9_withoutFace_10 rfl hl (by decide) rfl (fun ls hl => ?_)
  refine lv_iconst (v := 0) hx hb dX9_withoutFace_11 (by decide) ?_
  refine lv_istore_n (i := 3) (lv' := [(3, .int (0 : Int32)), (2, va_rf (some q18)), (0, va_rf (some a0)), (1, .int v1)]) hx hb dX9_withoutFace_12 rfl hl (by decide) (by simp [va_rf_cat, cat_i, cat_j, cat_f]) (fun ls hl => ?_)
  obtain ⟨xl13, Ml13, hit13, hf⟩ := jm_bd_some hf
  have hlf13 : jm_le Ml13 M' := jm_le_tr (jm_mono hf) jm_le_rf
  have hwe13 : (fun (y : Unit) (Mz : Mem) => ∀ (H : Heap) (locs : List Loc) (cells slots : Nat) (ls : Array Slot), jm_St g b M M' Mz s (jm_rm 2 44 M M') H locs cells slots → lv_has ls 4 [(0, va_rf (some a0)), (2, va_rf (some q18))] → W p l e (jm_rm 2 44 M M') s m args below meth c H locs cells slots (jm_MQ below g b (some (va_rf r)) M M' args s) (F0 m 45 ls [])) xl13 Ml13 := fun H locs cells slots ls hst hl => K13_45 a0 (some q18) _ hf H locs cells slots ls hst hl
  refine jm_it_walk (Mf := M') (Wh := fun (z : Int32) (Mz : Mem) => ∀ (H : Heap) (locs : List Loc) (cells slots : Nat) (ls : Array Slot), jm_St g b M M' Mz s (jm_rm 2 44 M M') H locs cells slots → lv_has ls 4 [(0, va_rf (some a0)), (1, .int v1), (2, va_rf (some q18)), (3, .int z)] → W p l e (jm_rm 2 44 M M') s m args below meth c H locs cells slots (jm_MQ below g b (some (va_rf r)) M M' args s) (F0 m 13 ls [])) (We := fun (y : Unit) (Mz : Mem) => ∀ (H : Heap) (locs : List Loc) (cells slots : Nat) (ls : Array Slot), jm_St g b M M' Mz s (jm_rm 2 44 M M') H locs cells slots → lv_has ls 4 [(0, va_rf (some a0)), (2, va_rf (some q18))] → W p l e (jm_rm 2 44 M M') s m args below meth c H locs cells slots (jm_MQ below g b (some (va_rf r)) M M' args s) (F0 m 45 ls [])) ?_ N (0 : Int32) Mm19 xl13 Ml13 hit13 hlf13 hwe13 _ _ _ _ _ hst (lv_sub hl [2, 3, 1, 0] rfl)
  intro v3 Mm31 xe13 Me13 hf hle13 hk13 H locs cells slots ls hst hl
  have hf : (jf_X9_withoutFace_L13 N a0 v1 (some q18) v3).1 Mm31 = some (xe13, Me13) := hf
  have hl : lv_has ls 4 [(0, va_rf (some a0)), (1, .int v1), (2, va_rf (some q18)), (3, .int v3)] := hl
  exact B13 a0 v1 (some q18) v3 _ _ _ hf hle13 hk13 _ _ _ _ _ hst (lv_sub hl [0, 1, 2, 3] rfl)
def jf_X9_withChain (N : Nat) (a0 : Nat) (v1 : Int32) (v2 : Option Nat) : jm_P (Option Nat) :=
  jm_rd (jm_fR [9] 3 (some a0)) fun x1 =>
  jm_rd (jm_arR 12 x1) fun y3 =>
  jm_al (.inl (12, y3.1, .inr (.inr (.inr (.inr y3.2))))) fun q4 =>
  jm_rd (jm_ar 12 (some q4)) fun _ =>
  jm_rd (jm_ck (¬ v2 = none)) fun _ =>
  jm_wr (jm_stR 12 [] (some 0) (some q4) v1 v2) <|
  jm_al (.inr (9, [.int 0, .null, .null, .null])) fun q13 =>
  jm_rd (jm_fI [9] 0 (some a0)) fun x15 =>
  jm_rd (jm_fR [9] 1 (some a0)) fun x17 =>
  jm_rd (jm_fR [9] 2 (some a0)) fun x19 =>
  jm_bd (jf_X9_init N q13 x15 x17 x19 (some q4)) fun x21 =>
  jm_ret (some q13)
set_option maxHeartbeats 4000000 in
set_option maxRecDepth 100000 in
theorem jt_X9_withChain (l : Launch) (g : GD) (b N : Nat) (a0 : Nat) (v1 : Int32) (v2 : Option Nat) (M M' : Mem) (r : (Option Nat)) (hf : (jf_X9_withChain N a0 v1 v2).1 M = some (r, M')) : jm_Met l g b yX9_withChain (ws_ yX9_withChain cX9_withChain 4 (some (.object "ChainParts$Complex"))) 2 44 [va_rf (some a0), .int v1, va_rf v2] M M' (some (va_rf r)) := by
  refine jm_start (by decide) (jm_mono hf) (by rw [lg_sl_r, lg_sl_i, lg_sl_r, lg_sl_n]; exact Nat.le_of_ble_eq_true rfl) ?_
  intro p e s m args below meth c ls C0 hin hK hst hl
  obtain ⟨hx, hb, hml, hown, hts, hr, hlk⟩ := id C0
  have hown : s.vm.findClass RX9 = some m.cls := hown
  have C0 : jm_Cx p s m args meth c cX9_withChain 4 (some (.object "ChainParts$Complex")) RX9 := C0
  rw [lv_args_r, lv_args_i, lv_args_r, lv_args_n] at hl
  have hl : lv_has ls 4 [(0, va_rf (some a0)), (1, .int v1), (2, va_rf v2)] := hl
  unfold jf_X9_withChain at hf
  refine jw_aload_n (r := (some a0)) hx hb dX9_withChain_0 rfl (lv_at hl 0 rfl) ?_
  obtain ⟨x1, h2, hf⟩ := jm_rd_some hf
  refine jw_getR hx hb hts hown hK hst (fl_X9_23 hts hK) h2 dX9_withChain_1 ?_
  obtain ⟨y3, h5, hf⟩ := jm_rd_some hf
  obtain ⟨q4, hq4, hf⟩ := jm_al_some hf
  refine jw_clone (kd := 12) (t := (.array .int)) (x := (y3.1, .inr (.inr (.inr (.inr y3.2))))) (ad := "[[I") (r := x1) (rest := []) hx hb hml hl.1 hown (hts _ q519) (hts _ q520) (hts _ q493) (hts _ q494) (hts _ q521) nq522 hK hst rfl (jm_arR_some h5) jm_nmII jm_fitA (Nat.le_of_ble_eq_true rfl) (by rw [cs_n]; exact Nat.le_of_ble_eq_true rfl) (jm_le_tr (jm_mono hf) jm_le_rf) hq4 dX9_withChain_4 (fun H cells slots hst => ?_)
  generalize jm_new (.inl (12, y3.1, .inr (.inr (.inr (.inr y3.2))))) M = Mm6 at hf hst
  obtain ⟨y7, h8, hf⟩ := jm_rd_some hf
  refine jw_castA (kd := 12) (t := (.array .int)) (r := (some q4)) hx hb hown (hts _ q499) hK hst rfl h8 jm_nmII dX9_withChain_7 ?_
  refine jw_astore_n (i := 3) (r := (some q4)) (lv' := [(3, va_rf (some q4)), (0, va_rf (some a0)), (1, .int v1), (2, va_rf v2)]) hx hb dX9_withChain_10 rfl hl (by decide) (by simp [va_rf_cat, cat_i, cat_j, cat_f]) (fun ls hl => ?_)
  refine jw_aload_n (r := (some q4)) hx hb dX9_withChain_11 rfl (lv_at hl 0 rfl) ?_
  refine lv_iload_n hx hb dX9_withChain_12 rfl (lv_at hl 2 rfl) ?_
  refine jw_aload_n (r := v2) hx hb dX9_withChain_13 rfl (lv_at hl 3 rfl) ?_
  obtain ⟨_, h12, hf⟩ := jm_rd_some hf
  obtain ⟨F9, h10, hf⟩ := jm_wr_some hf
  refine jw_astA (kd := 12) (ke := 0) (r := (some q4)) (v := v2) hx hb hK hst rfl rfl hK.2.2.2.2.1 h10 dX9_withChain_14 (jm_some_of (jm_ck_some h12)) (fun H locs hst => ?_)
  generalize ((Mm6.1, Mm6.2.1, F9) : Mem) = Mm11 at hf hst
  obtain ⟨q13, hq13, hf⟩ := jm_al_some hf
  refine jw_new (ci := 9) (C := RX9) (T := TX9) (N := 4) (fs := [.int 0, .null, .null, .null]) hx hb hts in_X9 tyX9 tyX9_ok hown (hts _ q428) (hts _ q356) (hts _ q84) hK hst rfl (fun j hj => by match j, hj with | 0, _ => rfl | 1, _ => rfl | 2, _ => rfl | 3, _ => rfl | k + 4, hj => omega) rfl (jm_le_tr (jm_mono hf) jm_le_rf) hq13 dX9_withChain_15 (fun H cells slots hst => ?_)
  generalize jm_new (.inr (9, [.int 0, .null, .null, .null])) Mm11 = Mm14 at hf hst
  refine lv_dup hx hb dX9_withChain_18 (va_rf_cat _) ?_
  refine jw_aload_n (r := (some a0)) hx hb dX9_withChain_19 rfl (lv_at hl 1 rfl) ?_
  obtain ⟨x15, h16, hf⟩ := jm_rd_some hf
  refine jw_getI hx hb hts hown hK hst (fl_X9_9 hts hK) h16 dX9_withChain_20 ?_
  refine jw_aload_n (r := (some a0)) hx hb dX9_withChain_23 rfl (lv_at hl 1 rfl) ?_
  obtain ⟨x17, h18, hf⟩ := jm_rd_some hf
  refine jw_getR hx hb hts hown hK hst (fl_X9_15 hts hK) h18 dX9_withChain_24 ?_
  refine jw_aload_n (r := (some a0)) hx hb dX9_withChain_27 rfl (lv_at hl 1 rfl) ?_
  obtain ⟨x19, h20, hf⟩ := jm_rd_some hf
  refine jw_getR hx hb hts hown hK hst (fl_X9_19 hts hK) h20 dX9_withChain_28 ?_
  refine jw_aload_n (r := (some q4)) hx hb dX9_withChain_31 rfl (lv_at hl 0 rfl) ?_
  obtain ⟨x21, Mm22, h23, hf⟩ := jm_bd_some hf
  refine jw_I (As := [.int x15, va_rf x17, va_rf x19, va_rf (some q4)]) (rest := [va_rf (some q13)]) (rv := (some q13)) (jt_X9_init l g b N q13 x15 x17 x19 (some q4) Mm14 Mm22 x21 h23) C0 hK hst (jm_mono h23) (jm_le_tr (jm_mono hf) jm_le_rf) q429 q360 q84 q361 rfl hd_X9_init.2 ⟨Nat.le_of_ble_eq_true rfl, Nat.le_of_ble_eq_true rfl⟩ rfl rfl hl.1 rfl (by rw [cs_r, cs_n]; exact Nat.le_of_ble_eq_true rfl) dX9_withChain_32 (fun H locs cells slots hst => ?_)
  refine W.eq (g2 := F0 m 35 ls [va_rf (some q13)]) rfl ?_
  obtain ⟨rfl, rfl⟩ := jm_ret_some hf
  exact jw_aret C0 (Or.inl ⟨_, rfl⟩) hst dX9_withChain_35
theorem fl_X9_77 {g : GD} {s : State} {args : Array Value} (hts : ∀ w ∈ lw_all, w.before args s = true) (hK : jm_KG g s) : ∀ q ∈ ([11] : List Nat), jm_FL s args RX9 77 q 1 := by
  intro q hq
  simp only [List.mem_cons, List.not_mem_nil, or_false] at hq
  subst hq
  exact ⟨RX11, TX11, 3, rfl, in_X11, by decide, "ChainParts$Table", Or.inr ⟨"ChainParts", va_Nw.use rfl (hK.2.1 _ nq627)⟩, fun _ h => h⟩
theorem fl_X9_67 {g : GD} {s : State} {args : Array Value} (hts : ∀ w ∈ lw_all, w.before args s = true) (hK : jm_KG g s) : ∀ q ∈ ([11] : List Nat), jm_FL s args RX9 67 q 0 := by
  intro q hq
  simp only [List.mem_cons, List.not_mem_nil, or_false] at hq
  subst hq
  exact ⟨RX11, TX11, 3, rfl, in_X11, by decide, "ChainParts$Table", Or.inr ⟨"ChainParts", va_Nw.use rfl (hK.2.1 _ nq624)⟩, fun _ h => h⟩
theorem fl_X9_64 {g : GD} {s : State} {args : Array Value} (hts : ∀ w ∈ lw_all, w.before args s = true) (hK : jm_KG g s) : ∀ q ∈ ([11] : List Nat), jm_FL s args RX9 64 q 2 := by
  intro q hq
  simp only [List.mem_cons, List.not_mem_nil, or_false] at hq
  subst hq
  exact ⟨RX11, TX11, 3, rfl, in_X11, by decide, "ChainParts$Table", Or.inr ⟨"ChainParts", va_Nw.use rfl (hK.2.1 _ nq629)⟩, fun _ h => h⟩
theorem fl_X9_71 {g : GD} {s : State} {args : Array Value} (hts : ∀ w ∈ lw_all, w.before args s = true) (hK : jm_KG g s) : ∀ q ∈ ([5, 6] : List Nat), jm_FL s args RX9 71 q 1 := by
  intro q hq
  simp only [List.mem_cons, List.not_mem_nil, or_false] at hq
  rcases hq with rfl | rfl
  · exact ⟨RX5, TX5, 3, rfl, in_X5, by decide, "ChainParts$EdgeCell", Or.inl (hts _ q286), fun _ h => h⟩
  · exact ⟨RX6, TX6, 3, rfl, in_X6, by decide, "ChainParts$EdgeCell", Or.inl (hts _ q286), fun _ h => h⟩
theorem fl_X9_74 {g : GD} {s : State} {args : Array Value} (hts : ∀ w ∈ lw_all, w.before args s = true) (hK : jm_KG g s) : ∀ q ∈ ([5, 6] : List Nat), jm_FL s args RX9 74 q 0 := by
  intro q hq
  simp only [List.mem_cons, List.not_mem_nil, or_false] at hq
  rcases hq with rfl | rfl
  · exact ⟨RX5, TX5, 3, rfl, in_X5, by decide, "ChainParts$EdgeCell", Or.inl (hts _ q282), fun _ h => h⟩
  · exact ⟨RX6, TX6, 3, rfl, in_X6, by decide, "ChainParts$EdgeCell", Or.inl (hts _ q282), fun _ h => h⟩
def jf_X9_table_k45_148 (N : Nat) (v2 : Option Nat) : jm_P (Option Nat) :=
  jm_ret v2
def jf_X9_table_k101_142 (N : Nat) (a0 : Nat) (v1 : Int32) (v2 : Option Nat) (v3 : Int32) : jm_P (Int32 ⊕ Unit) :=
  jm_ret (.inl (v3 + 1))
def jf_X9_table_L101 (N : Nat) (a0 : Nat) (v1 : Int32) (v2 : Option Nat) (v3 : Int32) (v4 : Int32) : jm_P (Int32 ⊕ Unit) :=
  jm_rd (jm_fI [11] 1 v2) fun x11 =>
  if x11 ≤ v4 then (
    jm_ret (.inr ()))
  else
    if v1 = (2 : Int32) then (
      jm_rd (jm_fR [11] 0 v2) fun x13 =>
      jm_rd (jm_ldR 13 x13 v4) fun x15 =>
      jm_rd (jm_fR [9] 2 (some a0)) fun x17 =>
      jm_rd (jm_ldR 5 x17 v3) fun x19 =>
      jm_bd (jf_D_X7_often N x19 v4) fun x21 =>
      jm_wr (jm_stJ 2 x15 v3 (x21.toInt64)) <|
      jm_ret (.inl (v4 + 1)))
    else
      jm_ret (.inr ())
def jf_X9_table_j98 (N : Nat) (a0 : Nat) (v1 : Int32) (v2 : Option Nat) (v3 : Int32) : jm_P (Int32 ⊕ Unit) :=
  jm_bd (jm_it (fun z => jf_X9_table_L101 N a0 v1 v2 v3 z) N (0 : Int32)) fun y =>
  jf_X9_table_k101_142 N a0 v1 v2 v3
def jf_X9_table_L45 (N : Nat) (a0 : Nat) (v1 : Int32) (v2 : Option Nat) (v3 : Int32) : jm_P (Int32 ⊕ Unit) :=
  jm_rd (jm_fI [11] 2 v2) fun x34 =>
  if x34 ≤ v3 then (
    jm_ret (.inr ()))
  else
    if v1 = (1 : Int32) then (
      jm_rd (jm_fR [11] 0 v2) fun x36 =>
      jm_rd (jm_fR [9] 1 (some a0)) fun x38 =>
      jm_rd (jm_ldR 4 x38 v3) fun x40 =>
      jm_rd (jm_fI [5, 6] 1 x40) fun x42 =>
      jm_rd (jm_ldR 13 x36 x42) fun x44 =>
      jm_rd (jm_ldJ 2 x44 v3) fun x46 =>
      jm_wr (jm_stJ 2 x44 v3 (x46 + (1 : Int64))) <|
      jm_rd (jm_fR [11] 0 v2) fun x51 =>
      jm_rd (jm_fR [9] 1 (some a0)) fun x53 =>
      jm_rd (jm_ldR 4 x53 v3) fun x55 =>
      jm_rd (jm_fI [5, 6] 0 x55) fun x57 =>
      jm_rd (jm_ldR 13 x51 x57) fun x59 =>
      jm_rd (jm_ldJ 2 x59 v3) fun x61 =>
      jm_wr (jm_stJ 2 x59 v3 (x61 - (1 : Int64))) <|
      jf_X9_table_j98 N a0 v1 v2 v3)
    else
      jf_X9_table_j98 N a0 v1 v2 v3
def jf_X9_table_j39 (N : Nat) (a0 : Nat) (v1 : Int32) (t0 : Option Nat) (t1 : Option Nat) (t2 : Int32) (t3 : Int32) : jm_P (Option Nat) :=
  jm_rd (jm_nz t1) fun a6 =>
  jm_bd (jf_X11_init N a6 t2 t3) fun x3 =>
  jm_bd (jm_it (fun z => jf_X9_table_L45 N a0 v1 t0 z) N (0 : Int32)) fun y =>
  jf_X9_table_k45_148 N t0
def jf_X9_table_j21 (N : Nat) (a0 : Nat) (v1 : Int32) (t0 : Option Nat) (t1 : Option Nat) (t2 : Int32) : jm_P (Option Nat) :=
  if v1 = (1 : Int32) then (
    jm_rd (jm_fR [9] 1 (some a0)) fun x72 =>
    jm_rd (jm_len 4 x72) fun x74 =>
    jf_X9_table_j39 N a0 v1 t0 t1 t2 x74)
  else
    jm_rd (jm_fR [9] 2 (some a0)) fun x68 =>
    jm_rd (jm_len 5 x68) fun x70 =>
    jf_X9_table_j39 N a0 v1 t0 t1 t2 x70
def jf_X9_table (N : Nat) (a0 : Nat) (v1 : Int32) : jm_P (Option Nat) :=
  jm_al (.inr (11, [.null, .int 0, .int 0])) fun q76 =>
  if v1 = (1 : Int32) then (
    jm_rd (jm_fI [9] 0 (some a0)) fun x82 =>
    jf_X9_table_j21 N a0 v1 (some q76) (some q76) x82)
  else
    jm_rd (jm_fR [9] 1 (some a0)) fun x78 =>
    jm_rd (jm_len 4 x78) fun x80 =>
    jf_X9_table_j21 N a0 v1 (some q76) (some q76) x80
set_option maxHeartbeats 4000000 in
set_option maxRecDepth 100000 in
theorem jt_X9_table (l : Launch) (g : GD) (b N : Nat) (a0 : Nat) (v1 : Int32) (M M' : Mem) (r : (Option Nat)) (hf : (jf_X9_table N a0 v1).1 M = some (r, M')) : jm_Met l g b yX9_table (ws_ yX9_table cX9_table 5 (some (.object "ChainParts$Table"))) 2 42 [va_rf (some a0), .int v1] M M' (some (va_rf r)) := by
  refine jm_start (by decide) (jm_mono hf) (by rw [lg_sl_r, lg_sl_i, lg_sl_n]; exact Nat.le_of_ble_eq_true rfl) ?_
  intro p e s m args below meth c ls C0 hin hK hst hl
  obtain ⟨hx, hb, hml, hown, hts, hr, hlk⟩ := id C0
  have hown : s.vm.findClass RX9 = some m.cls := hown
  have C0 : jm_Cx p s m args meth c cX9_table 5 (some (.object "ChainParts$Table")) RX9 := C0
  rw [lv_args_r, lv_args_i, lv_args_n] at hl
  have hl : lv_has ls 5 [(0, va_rf (some a0)), (1, .int v1)] := hl
  have K45_148 : ∀ (v2 : Option Nat) (Mm1 : Mem), (jf_X9_table_k45_148 N v2).1 Mm1 = some (r, M') → ∀ (H : Heap) (locs : List Loc) (cells slots : Nat) (ls : Array Slot), jm_St g b M M' Mm1 s (jm_rm 2 42 M M') H locs cells slots → lv_has ls 5 [(2, va_rf v2)] → W p l e (jm_rm 2 42 M M') s m args below meth c H locs cells slots (jm_MQ below g b (some (va_rf r)) M M' args s) (F0 m 148 ls []) := by
    intro v2 Mm1 hf H locs cells slots ls hst hl
    unfold jf_X9_table_k45_148 at hf
    refine jw_aload_n (r := v2) hx hb dX9_table_148 rfl (lv_at hl 0 rfl) ?_
    obtain ⟨rfl, rfl⟩ := jm_ret_some hf
    exact jw_aret C0 (Or.inl ⟨_, rfl⟩) hst dX9_table_149
  have B45 : ∀ (a0 : Nat) (v1 : Int32) (v2 : Option Nat) (v3 : Int32) (Mm33 : Mem) (xe45 : (Int32 ⊕ Unit)) (Me45 : Mem), (jf_X9_table_L45 N a0 v1 v2 v3).1 Mm33 = some (xe45, Me45) → jm_le Me45 M' → (jm_or (fun (z : Int32) => ∀ (H : Heap) (locs : List Loc) (cells slots : Nat) (ls : Array Slot), jm_St g b M M' Me45 s (jm_rm 2 42 M M') H locs cells slots → lv_has ls 5 [(0, va_rf (some a0)), (1, .int v1), (2, va_rf v2), (3, .int z)] → W p l e (jm_rm 2 42 M M') s m args below meth c H locs cells slots (jm_MQ below g b (some (va_rf r)) M M' args s) (F0 m 45 ls [])) (fun (y : Unit) => ∀ (H : Heap) (locs : List Loc) (cells slots : Nat) (ls : Array Slot), jm_St g b M M' Me45 s (jm_rm 2 42 M M') H locs cells slots → lv_has ls 5 [(2, va_rf v2)] → W p l e (jm_rm 2 42 M M') s m args below meth c H locs cells slots (jm_MQ below g b (some (va_rf r)) M M' args s) (F0 m 148 ls [])) xe45) → ∀ (H : Heap) (locs : List Loc) (cells slots : Nat) (ls : Array Slot), jm_St g b M M' Mm33 s (jm_rm 2 42 M M') H locs cells slots → lv_has ls 5 [(0, va_rf (some a0)), (1, .int v1), (2, va_rf v2), (3, .int v3)] → W p l e (jm_rm 2 42 M M') s m args below meth c H locs cells slots (jm_MQ below g b (some (va_rf r)) M M' args s) (F0 m 45 ls []) := by
    intro a0 v1 v2 v3 Mm33 xe45 Me45 hf hle45 hk45
    have K101_142 : ∀ (v3 : Int32) (Mm8 : Mem), (jf_X9_table_k101_142 N a0 v1 v2 v3).1 Mm8 = some (xe45, Me45) → ∀ (H : Heap) (locs : List Loc) (cells slots : Nat) (ls : Array Slot), jm_St g b M M' Mm8 s (jm_rm 2 42 M M') H locs cells slots → lv_has ls 5 [(0, va_rf (some a0)), (1, .int v1), (2, va_rf v2), (3, .int v3)] → W p l e (jm_rm 2 42 M M') s m args below meth c H locs cells slots (jm_MQ below g b (some (va_rf r)) M M' args s) (F0 m 142 ls []) := by
      intro v3 Mm8 hf H locs cells slots ls hst hl
      unfold jf_X9_table_k101_142 at hf
      refine lv_iinc (i := 3) (v := (v3 + 1)) (lv' := [(3, .int (v3 + 1)), (0, va_rf (some a0)), (1, .int v1), (2, va_rf v2)]) hx hb dX9_table_142 hl (k := 3) rfl (by rfl) (by decide) (by simp [va_rf_cat, cat_i, cat_j, cat_f]) (fun ls hl => ?_)
      refine lv_goto (tgt := 45) hx hb dX9_table_145 (by decide) ?_
      obtain ⟨rfl, rfl⟩ := jm_ret_some hf
      exact jm_or_l hk45 _ _ _ _ _ hst (lv_sub hl [1, 2, 3, 0] rfl)
    have B101 : ∀ (a0 : Nat) (v1 : Int32) (v2 : Option Nat) (v3 : Int32) (v4 : Int32) (Mm10 : Mem) (xe101 : (Int32 ⊕ Unit)) (Me101 : Mem), (jf_X9_table_L101 N a0 v1 v2 v3 v4).1 Mm10 = some (xe101, Me101) → jm_le Me101 M' → (jm_or (fun (z : Int32) => ∀ (H : Heap) (locs : List Loc) (cells slots : Nat) (ls : Array Slot), jm_St g b M M' Me101 s (jm_rm 2 42 M M') H locs cells slots → lv_has ls 5 [(0, va_rf (some a0)), (1, .int v1), (2, va_rf v2), (3, .int v3), (4, .int z)] → W p l e (jm_rm 2 42 M M') s m args below meth c H locs cells slots (jm_MQ below g b (some (va_rf r)) M M' args s) (F0 m 101 ls [])) (fun (y : Unit) => ∀ (H : Heap) (locs : List Loc) (cells slots : Nat) (ls : Array Slot), jm_St g b M M' Me101 s (jm_rm 2 42 M M') H locs cells slots → lv_has ls 5 [(0, va_rf (some a0)), (1, .int v1), (2, va_rf v2), (3, .int v3)] → W p l e (jm_rm 2 42 M M') s m args below meth c H locs cells slots (jm_MQ below g b (some (va_rf r)) M M' args s) (F0 m 142 ls [])) xe101) → ∀ (H : Heap) (locs : List Loc) (cells slots : Nat) (ls : Array Slot), jm_St g b M M' Mm10 s (jm_rm 2 42 M M') H locs cells slots → lv_has ls 5 [(0, va_rf (some a0)), (1, .int v1), (2, va_rf v2), (3, .int v3), (4, .int v4)] → W p l e (jm_rm 2 42 M M') s m args below meth c H locs cells slots (jm_MQ below g b (some (va_rf r)) M M' args s) (F0 m 101 ls []) := by
      intro a0 v1 v2 v3 v4 Mm10 xe101 Me101 hf hle101 hk101
      intro H locs cells slots ls hst hl
      unfold jf_X9_table_L101 at hf
      refine lv_iload hx hb dX9_table_101 (lv_at hl 4 rfl) ?_
      refine jw_aload_n (r := v2) hx hb dX9_table_103 rfl (lv_at hl 2 rfl) ?_
      obtain ⟨x11, h12, hf⟩ := jm_rd_some hf
      refine jw_getI hx hb hts hown hK hst (fl_X9_77 hts hK) h12 dX9_table_104 ?_
      refine lv_icmp_ge (tgt := 142) hx hb dX9_table_107 (by decide) (fun hc => ?_) (fun hc => ?_)
      · rw [if_pos hc] at hf
        obtain ⟨rfl, rfl⟩ := jm_ret_some hf
        exact jm_or_r hk101 _ _ _ _ _ hst (lv_sub hl [0, 1, 2, 3] rfl)
      · rw [if_neg hc] at hf
        refine lv_iload_n hx hb dX9_table_110 rfl (lv_at hl 1 rfl) ?_
        refine lv_iconst (v := 2) hx hb dX9_table_111 (by decide) ?_
        refine lv_icmp_ne (tgt := 142) hx hb dX9_table_112 (by decide) (fun hc => ?_) (fun hc => ?_)
        · rw [if_neg hc] at hf
          obtain ⟨rfl, rfl⟩ := jm_ret_some hf
          exact jm_or_r hk101 _ _ _ _ _ hst (lv_sub hl [0, 1, 2, 3] rfl)
        · rw [if_pos hc] at hf
          refine jw_aload_n (r := v2) hx hb dX9_table_115 rfl (lv_at hl 2 rfl) ?_
          obtain ⟨x13, h14, hf⟩ := jm_rd_some hf
          refine jw_getR hx hb hts hown hK hst (fl_X9_67 hts hK) h14 dX9_table_116 ?_
          refine lv_iload hx hb dX9_table_119 (lv_at hl 4 rfl) ?_
          obtain ⟨x15, h16, hf⟩ := jm_rd_some hf
          refine jw_aald hx hb hK hst (show jm_ty[13]? = some (.array .long) from rfl) rfl h16 dX9_table_121 ?_
          refine lv_iload_n hx hb dX9_table_122 rfl (lv_at hl 3 rfl) ?_
          refine jw_aload_n (r := (some a0)) hx hb dX9_table_123 rfl (lv_at hl 0 rfl) ?_
          obtain ⟨x17, h18, hf⟩ := jm_rd_some hf
          refine jw_getR hx hb hts hown hK hst (fl_X9_19 hts hK) h18 dX9_table_124 ?_
          refine lv_iload_n hx hb dX9_table_127 rfl (lv_at hl 3 rfl) ?_
          obtain ⟨x19, h20, hf⟩ := jm_rd_some hf
          refine jw_aald hx hb hK hst (show jm_ty[5]? = some (.object "ChainParts$FaceCell") from rfl) rfl h20 dX9_table_128 ?_
          refine lv_iload hx hb dX9_table_129 (lv_at hl 4 rfl) ?_
          obtain ⟨x21, Mm22, h23, hf⟩ := jm_bd_some hf
          have hKh23 : ∀ (H1 : Heap) (locs1 : List Loc) (cells1 slots1 : Nat), jm_St g b M M' Mm22 s (jm_rm 2 42 M M') H1 locs1 cells1 slots1 → W p l e (jm_rm 2 42 M M') s m args below meth c H1 locs1 cells1 slots1 (jm_MQ below g b (some (va_rf r)) M M' args s) (F0 m (131 + 3) ls (Option.toList (some (.int x21)) ++ [.int v3, va_rf x15])) := by
            intro H locs cells slots hst
            refine W.eq (g2 := F0 m 134 ls [.int x21, .int v3, va_rf x15]) rfl ?_
            refine lv_i2l hx hb dX9_table_134 rfl ?_
            obtain ⟨F24, h25, hf⟩ := jm_wr_some hf
            refine jw_last (r := x15) hx hb hK hst h25 dX9_table_135 (fun H locs hst => ?_)
            generalize ((Mm22.1, Mm22.2.1, F24) : Mem) = Mm26 at hf hst
            refine lv_iinc (i := 4) (v := (v4 + 1)) (lv' := [(4, .int (v4 + 1)), (0, va_rf (some a0)), (1, .int v1), (2, va_rf v2), (3, .int v3)]) hx hb dX9_table_136 hl (k := 4) rfl (by rfl) (by decide) rfl (fun ls hl => ?_)
            refine lv_goto (tgt := 101) hx hb dX9_table_139 (by decide) ?_
            obtain ⟨rfl, rfl⟩ := jm_ret_some hf
            exact jm_or_l hk101 _ _ _ _ _ hst (lv_sub hl [1, 2, 3, 4, 0] rfl)
          have hbh23 := jm_mono h23
          have hch23 := jm_le_tr (jm_mono hf) hle101
          unfold jf_D_X7_often at h23
          obtain ⟨z27, h28, h23⟩ := jm_rd_some h23
          obtain ⟨fs29, hv30, hr31⟩ := jm_kl_some h28
          by_cases hc : z27.2 = 7
          · rw [if_pos hc] at h23
            rw [hc] at hr31
            exact jw_V (As := [.int v4]) (rest := [.int v3, va_rf x15]) (C := RX7) (T := TX7) (N := 2) (rv := x19) (jt_X7_often l g b N z27.1 v4 Mm10 Mm22 x21 h23) C0 hK hst hbh23 hch23 q638 q341 q342 q82 q345 hd_X7_often ⟨Nat.le_of_ble_eq_true rfl, Nat.le_of_ble_eq_true rfl⟩ hv30 hr31 rfl rfl hl.1 rfl (by rw [cs_i, cs_r, cs_n]; exact Nat.le_of_ble_eq_true rfl) dX9_table_131 hKh23
          rw [if_neg hc] at h23
          by_cases hc : z27.2 = 8
          · rw [if_pos hc] at h23
            rw [hc] at hr31
            exact jw_U (As := [.int v4]) (rest := [.int v3, va_rf x15]) (C := RX8) (T := TX8) (N := 2) (rv := x19) (owner := RX7) (x := yX7_often) (jt_X7_often l g b N z27.1 v4 Mm10 Mm22 x21 h23) C0 hK hst hbh23 hch23 (jm_cwU hts q638 q343 q344 q341 q82 q345 rfl hd_X7_often.2 ⟨Nat.le_of_ble_eq_true rfl, Nat.le_of_ble_eq_true rfl⟩) hv30 hr31 rfl rfl hl.1 rfl (by rw [cs_i, cs_r, cs_n]; exact Nat.le_of_ble_eq_true rfl) dX9_table_131 hKh23
          rw [if_neg hc] at h23
          exact (jm_no_some h23).elim
    have J98 : ∀ (v3 : Int32) (Mm9 : Mem), (jf_X9_table_j98 N a0 v1 v2 v3).1 Mm9 = some (xe45, Me45) → ∀ (H : Heap) (locs : List Loc) (cells slots : Nat) (ls : Array Slot), jm_St g b M M' Mm9 s (jm_rm 2 42 M M') H locs cells slots → lv_has ls 5 [(0, va_rf (some a0)), (1, .int v1), (2, va_rf v2), (3, .int v3)] → W p l e (jm_rm 2 42 M M') s m args below meth c H locs cells slots (jm_MQ below g b (some (va_rf r)) M M' args s) (F0 m 98 ls []) := by
      intro v3 Mm9 hf H locs cells slots ls hst hl
      unfold jf_X9_table_j98 at hf
      refine lv_iconst (v := 0) hx hb dX9_table_98 (by decide) ?_
      refine lv_istore (i := 4) (lv' := [(4, .int (0 : Int32)), (0, va_rf (some a0)), (1, .int v1), (2, va_rf v2), (3, .int v3)]) hx hb dX9_table_99 hl (by decide) rfl (fun ls hl => ?_)
      obtain ⟨xl101, Ml101, hit101, hf⟩ := jm_bd_some hf
      have hlf101 : jm_le Ml101 M' := jm_le_tr (jm_mono hf) hle45
      have hwe101 : (fun (y : Unit) (Mz : Mem) => ∀ (H : Heap) (locs : List Loc) (cells slots : Nat) (ls : Array Slot), jm_St g b M M' Mz s (jm_rm 2 42 M M') H locs cells slots → lv_has ls 5 [(0, va_rf (some a0)), (1, .int v1), (2, va_rf v2), (3, .int v3)] → W p l e (jm_rm 2 42 M M') s m args below meth c H locs cells slots (jm_MQ below g b (some (va_rf r)) M M' args s) (F0 m 142 ls [])) xl101 Ml101 := fun H locs cells slots ls hst hl => K101_142 v3 _ hf H locs cells slots ls hst hl
      refine jm_it_walk (Mf := M') (Wh := fun (z : Int32) (Mz : Mem) => ∀ (H : Heap) (locs : List Loc) (cells slots : Nat) (ls : Array Slot), jm_St g b M M' Mz s (jm_rm 2 42 M M') H locs cells slots → lv_has ls 5 [(0, va_rf (some a0)), (1, .int v1), (2, va_rf v2), (3, .int v3), (4, .int z)] → W p l e (jm_rm 2 42 M M') s m args below meth c H locs cells slots (jm_MQ below g b (some (va_rf r)) M M' args s) (F0 m 101 ls [])) (We := fun (y : Unit) (Mz : Mem) => ∀ (H : Heap) (locs : List Loc) (cells slots : Nat) (ls : Array Slot), jm_St g b M M' Mz s (jm_rm 2 42 M M') H locs cells slots → lv_has ls 5 [(0, va_rf (some a0)), (1, .int v1), (2, va_rf v2), (3, .int v3)] → W p l e (jm_rm 2 42 M M') s m args below meth c H locs cells slots (jm_MQ below g b (some (va_rf r)) M M' args s) (F0 m 142 ls [])) ?_ N (0 : Int32) Mm9 xl101 Ml101 hit101 hlf101 hwe101 _ _ _ _ _ hst (lv_sub hl [1, 2, 3, 4, 0] rfl)
      intro v4 Mm32 xe101 Me101 hf hle101 hk101 H locs cells slots ls hst hl
      have hf : (jf_X9_table_L101 N a0 v1 v2 v3 v4).1 Mm32 = some (xe101, Me101) := hf
      have hl : lv_has ls 5 [(0, va_rf (some a0)), (1, .int v1), (2, va_rf v2), (3, .int v3), (4, .int v4)] := hl
      exact B101 a0 v1 v2 v3 v4 _ _ _ hf hle101 hk101 _ _ _ _ _ hst (lv_sub hl [0, 1, 2, 3, 4] rfl)
    intro H locs cells slots ls hst hl
    unfold jf_X9_table_L45 at hf
    refine lv_iload_n hx hb dX9_table_45 rfl (lv_at hl 3 rfl) ?_
    refine jw_aload_n (r := v2) hx hb dX9_table_46 rfl (lv_at hl 2 rfl) ?_
    obtain ⟨x34, h35, hf⟩ := jm_rd_some hf
    refine jw_getI hx hb hts hown hK hst (fl_X9_64 hts hK) h35 dX9_table_47 ?_
    refine lv_icmp_ge (tgt := 148) hx hb dX9_table_50 (by decide) (fun hc => ?_) (fun hc => ?_)
    · rw [if_pos hc] at hf
      obtain ⟨rfl, rfl⟩ := jm_ret_some hf
      exact jm_or_r hk45 _ _ _ _ _ hst (lv_sub hl [2] rfl)
    · rw [if_neg hc] at hf
      refine lv_iload_n hx hb dX9_table_53 rfl (lv_at hl 1 rfl) ?_
      refine lv_iconst (v := 1) hx hb dX9_table_54 (by decide) ?_
      refine lv_icmp_ne (tgt := 98) hx hb dX9_table_55 (by decide) (fun hc => ?_) (fun hc => ?_)
      · rw [if_neg hc] at hf
        exact J98 v3 _ hf _ _ _ _ _ hst (lv_sub hl [0, 1, 2, 3] rfl)
      · rw [if_pos hc] at hf
        refine jw_aload_n (r := v2) hx hb dX9_table_58 rfl (lv_at hl 2 rfl) ?_
        obtain ⟨x36, h37, hf⟩ := jm_rd_some hf
        refine jw_getR hx hb hts hown hK hst (fl_X9_67 hts hK) h37 dX9_table_59 ?_
        refine jw_aload_n (r := (some a0)) hx hb dX9_table_62 rfl (lv_at hl 0 rfl) ?_
        obtain ⟨x38, h39, hf⟩ := jm_rd_some hf
        refine jw_getR hx hb hts hown hK hst (fl_X9_15 hts hK) h39 dX9_table_63 ?_
        refine lv_iload_n hx hb dX9_table_66 rfl (lv_at hl 3 rfl) ?_
        obtain ⟨x40, h41, hf⟩ := jm_rd_some hf
        refine jw_aald hx hb hK hst (show jm_ty[4]? = some (.object "ChainParts$EdgeCell") from rfl) rfl h41 dX9_table_67 ?_
        obtain ⟨x42, h43, hf⟩ := jm_rd_some hf
        refine jw_getI hx hb hts hown hK hst (fl_X9_71 hts hK) h43 dX9_table_68 ?_
        obtain ⟨x44, h45, hf⟩ := jm_rd_some hf
        refine jw_aald hx hb hK hst (show jm_ty[13]? = some (.array .long) from rfl) rfl h45 dX9_table_71 ?_
        refine lv_iload_n hx hb dX9_table_72 rfl (lv_at hl 3 rfl) ?_
        refine lv_dup2_11 hx hb dX9_table_73 rfl (va_rf_cat _) ?_
        obtain ⟨x46, h47, hf⟩ := jm_rd_some hf
        refine jw_lald hx hb hK hst h47 dX9_table_74 ?_
        refine lv_lconst (v := 1) hx hb dX9_table_75 (by decide) ?_
        refine lv_ladd hx hb dX9_table_76 ?_
        obtain ⟨F48, h49, hf⟩ := jm_wr_some hf
        refine jw_last (r := x44) hx hb hK hst h49 dX9_table_77 (fun H locs hst => ?_)
        generalize ((Mm33.1, Mm33.2.1, F48) : Mem) = Mm50 at hf hst
        refine jw_aload_n (r := v2) hx hb dX9_table_78 rfl (lv_at hl 2 rfl) ?_
        obtain ⟨x51, h52, hf⟩ := jm_rd_some hf
        refine jw_getR hx hb hts hown hK hst (fl_X9_67 hts hK) h52 dX9_table_79 ?_
        refine jw_aload_n (r := (some a0)) hx hb dX9_table_82 rfl (lv_at hl 0 rfl) ?_
        obtain ⟨x53, h54, hf⟩ := jm_rd_some hf
        refine jw_getR hx hb hts hown hK hst (fl_X9_15 hts hK) h54 dX9_table_83 ?_
        refine lv_iload_n hx hb dX9_table_86 rfl (lv_at hl 3 rfl) ?_
        obtain ⟨x55, h56, hf⟩ := jm_rd_some hf
        refine jw_aald hx hb hK hst (show jm_ty[4]? = some (.object "ChainParts$EdgeCell") from rfl) rfl h56 dX9_table_87 ?_
        obtain ⟨x57, h58, hf⟩ := jm_rd_some hf
        refine jw_getI hx hb hts hown hK hst (fl_X9_74 hts hK) h58 dX9_table_88 ?_
        obtain ⟨x59, h60, hf⟩ := jm_rd_some hf
        refine jw_aald hx hb hK hst (show jm_ty[13]? = some (.array .long) from rfl) rfl h60 dX9_table_91 ?_
        refine lv_iload_n hx hb dX9_table_92 rfl (lv_at hl 3 rfl) ?_
        refine lv_dup2_11 hx hb dX9_table_93 rfl (va_rf_cat _) ?_
        obtain ⟨x61, h62, hf⟩ := jm_rd_some hf
        refine jw_lald hx hb hK hst h62 dX9_table_94 ?_
        refine lv_lconst (v := 1) hx hb dX9_table_95 (by decide) ?_
        refine lv_lsub hx hb dX9_table_96 ?_
        obtain ⟨F63, h64, hf⟩ := jm_wr_some hf
        refine jw_last (r := x59) hx hb hK hst h64 dX9_table_97 (fun H locs hst => ?_)
        generalize ((Mm50.1, Mm50.2.1, F63) : Mem) = Mm65 at hf hst
        exact J98 v3 _ hf _ _ _ _ _ hst (lv_sub hl [0, 1, 2, 3] rfl)
  have J39 : ∀ (a0 : Nat) (v1 : Int32) (t0 : Option Nat) (t1 : Option Nat) (t2 : Int32) (t3 : Int32) (Mm2 : Mem), (jf_X9_table_j39 N a0 v1 t0 t1 t2 t3).1 Mm2 = some (r, M') → ∀ (H : Heap) (locs : List Loc) (cells slots : Nat) (ls : Array Slot), jm_St g b M M' Mm2 s (jm_rm 2 42 M M') H locs cells slots → lv_has ls 5 [(0, va_rf (some a0)), (1, .int v1)] → W p l e (jm_rm 2 42 M M') s m args below meth c H locs cells slots (jm_MQ below g b (some (va_rf r)) M M' args s) (F0 m 39 ls [.int t3, .int t2, va_rf t1, va_rf t0]) := by
    intro a0 v1 t0 t1 t2 t3 Mm2 hf H locs cells slots ls hst hl
    unfold jf_X9_table_j39 at hf
    obtain ⟨a6, h7, hf⟩ := jm_rd_some hf
    obtain ⟨x3, Mm4, h5, hf⟩ := jm_bd_some hf
    refine jw_I (As := [.int t2, .int t3]) (rest := [va_rf t0]) (rv := t1) (jt_X11_init l g b N a6 t2 t3 Mm2 Mm4 x3 h5) C0 hK hst (jm_mono h5) (jm_le_tr (jm_mono hf) jm_le_rf) q617 q618 q90 q619 rfl hd_X11_init.2 ⟨Nat.le_of_ble_eq_true rfl, Nat.le_of_ble_eq_true rfl⟩ h7 rfl hl.1 rfl (by rw [cs_r, cs_n]; exact Nat.le_of_ble_eq_true rfl) dX9_table_39 (fun H locs cells slots hst => ?_)
    refine W.eq (g2 := F0 m 42 ls [va_rf t0]) rfl ?_
    refine jw_astore_n (i := 2) (r := t0) (lv' := [(2, va_rf t0), (0, va_rf (some a0)), (1, .int v1)]) hx hb dX9_table_42 rfl hl (by decide) rfl (fun ls hl => ?_)
    refine lv_iconst (v := 0) hx hb dX9_table_43 (by decide) ?_
    refine lv_istore_n (i := 3) (lv' := [(3, .int (0 : Int32)), (2, va_rf t0), (0, va_rf (some a0)), (1, .int v1)]) hx hb dX9_table_44 rfl hl (by decide) (by simp [va_rf_cat, cat_i, cat_j, cat_f]) (fun ls hl => ?_)
    obtain ⟨xl45, Ml45, hit45, hf⟩ := jm_bd_some hf
    have hlf45 : jm_le Ml45 M' := jm_le_tr (jm_mono hf) jm_le_rf
    have hwe45 : (fun (y : Unit) (Mz : Mem) => ∀ (H : Heap) (locs : List Loc) (cells slots : Nat) (ls : Array Slot), jm_St g b M M' Mz s (jm_rm 2 42 M M') H locs cells slots → lv_has ls 5 [(2, va_rf t0)] → W p l e (jm_rm 2 42 M M') s m args below meth c H locs cells slots (jm_MQ below g b (some (va_rf r)) M M' args s) (F0 m 148 ls [])) xl45 Ml45 := fun H locs cells slots ls hst hl => K45_148 t0 _ hf H locs cells slots ls hst hl
    refine jm_it_walk (Mf := M') (Wh := fun (z : Int32) (Mz : Mem) => ∀ (H : Heap) (locs : List Loc) (cells slots : Nat) (ls : Array Slot), jm_St g b M M' Mz s (jm_rm 2 42 M M') H locs cells slots → lv_has ls 5 [(0, va_rf (some a0)), (1, .int v1), (2, va_rf t0), (3, .int z)] → W p l e (jm_rm 2 42 M M') s m args below meth c H locs cells slots (jm_MQ below g b (some (va_rf r)) M M' args s) (F0 m 45 ls [])) (We := fun (y : Unit) (Mz : Mem) => ∀ (H : Heap) (locs : List Loc) (cells slots : Nat) (ls : Array Slot), jm_St g b M M' Mz s (jm_rm 2 42 M M') H locs cells slots → lv_has ls 5 [(2, va_rf t0)] → W p l e (jm_rm 2 42 M M') s m args below meth c H locs cells slots (jm_MQ below g b (some (va_rf r)) M M' args s) (F0 m 148 ls [])) ?_ N (0 : Int32) Mm4 xl45 Ml45 hit45 hlf45 hwe45 _ _ _ _ _ hst (lv_sub hl [2, 3, 1, 0] rfl)
    intro v3 Mm66 xe45 Me45 hf hle45 hk45 H locs cells slots ls hst hl
    have hf : (jf_X9_table_L45 N a0 v1 t0 v3).1 Mm66 = some (xe45, Me45) := hf
    have hl : lv_has ls 5 [(0, va_rf (some a0)), (1, .int v1), (2, va_rf t0), (3, .int v3)] := hl
    exact B45 a0 v1 t0 v3 _ _ _ hf hle45 hk45 _ _ _ _ _ hst (lv_sub hl [0, 1, 2, 3] rfl)
  have J21 : ∀ (a0 : Nat) (v1 : Int32) (t0 : Option Nat) (t1 : Option Nat) (t2 : Int32) (Mm67 : Mem), (jf_X9_table_j21 N a0 v1 t0 t1 t2).1 Mm67 = some (r, M') → ∀ (H : Heap) (locs : List Loc) (cells slots : Nat) (ls : Array Slot), jm_St g b M M' Mm67 s (jm_rm 2 42 M M') H locs cells slots → lv_has ls 5 [(0, va_rf (some a0)), (1, .int v1)] → W p l e (jm_rm 2 42 M M') s m args below meth c H locs cells slots (jm_MQ below g b (some (va_rf r)) M M' args s) (F0 m 21 ls [.int t2, va_rf t1, va_rf t0]) := by
    intro a0 v1 t0 t1 t2 Mm67 hf H locs cells slots ls hst hl
    unfold jf_X9_table_j21 at hf
    refine lv_iload_n hx hb dX9_table_21 rfl (lv_at hl 1 rfl) ?_
    refine lv_iconst (v := 1) hx hb dX9_table_22 (by decide) ?_
    refine lv_icmp_ne (tgt := 34) hx hb dX9_table_23 (by decide) (fun hc => ?_) (fun hc => ?_)
    · rw [if_neg hc] at hf
      refine jw_aload_n (r := (some a0)) hx hb dX9_table_34 rfl (lv_at hl 0 rfl) ?_
      obtain ⟨x68, h69, hf⟩ := jm_rd_some hf
      refine jw_getR hx hb hts hown hK hst (fl_X9_19 hts hK) h69 dX9_table_35 ?_
      obtain ⟨x70, h71, hf⟩ := jm_rd_some hf
      refine jw_alen hx hb hK hst (show jm_ty[5]? = some (.object "ChainParts$FaceCell") from rfl) h71 dX9_table_38 ?_
      exact J39 a0 v1 t0 t1 t2 x70 _ hf _ _ _ _ _ hst (lv_sub hl [0, 1] rfl)
    · rw [if_pos hc] at hf
      refine jw_aload_n (r := (some a0)) hx hb dX9_table_26 rfl (lv_at hl 0 rfl) ?_
      obtain ⟨x72, h73, hf⟩ := jm_rd_some hf
      refine jw_getR hx hb hts hown hK hst (fl_X9_15 hts hK) h73 dX9_table_27 ?_
      obtain ⟨x74, h75, hf⟩ := jm_rd_some hf
      refine jw_alen hx hb hK hst (show jm_ty[4]? = some (.object "ChainParts$EdgeCell") from rfl) h75 dX9_table_30 ?_
      refine lv_goto (tgt := 39) hx hb dX9_table_31 (by decide) ?_
      exact J39 a0 v1 t0 t1 t2 x74 _ hf _ _ _ _ _ hst (lv_sub hl [0, 1] rfl)
  unfold jf_X9_table at hf
  obtain ⟨q76, hq76, hf⟩ := jm_al_some hf
  refine jw_new (ci := 11) (C := RX11) (T := TX11) (N := 3) (fs := [.null, .int 0, .int 0]) hx hb hts in_X11 tyX11 tyX11_ok hown (hts _ q615) (hts _ q616) (hts _ q90) hK hst rfl (fun j hj => by match j, hj with | 0, _ => rfl | 1, _ => rfl | 2, _ => rfl | k + 3, hj => omega) rfl (jm_le_tr (jm_mono hf) jm_le_rf) hq76 dX9_table_0 (fun H cells slots hst => ?_)
  generalize jm_new (.inr (11, [.null, .int 0, .int 0])) M = Mm77 at hf hst
  refine lv_dup hx hb dX9_table_3 (va_rf_cat _) ?_
  refine lv_iload_n hx hb dX9_table_4 rfl (lv_at hl 1 rfl) ?_
  refine lv_iconst (v := 1) hx hb dX9_table_5 (by decide) ?_
  refine lv_icmp_ne (tgt := 16) hx hb dX9_table_6 (by decide) (fun hc => ?_) (fun hc => ?_)
  · rw [if_neg hc] at hf
    refine jw_aload_n (r := (some a0)) hx hb dX9_table_16 rfl (lv_at hl 0 rfl) ?_
    obtain ⟨x78, h79, hf⟩ := jm_rd_some hf
    refine jw_getR hx hb hts hown hK hst (fl_X9_15 hts hK) h79 dX9_table_17 ?_
    obtain ⟨x80, h81, hf⟩ := jm_rd_some hf
    refine jw_alen hx hb hK hst (show jm_ty[4]? = some (.object "ChainParts$EdgeCell") from rfl) h81 dX9_table_20 ?_
    exact J21 a0 v1 (some q76) (some q76) x80 _ hf _ _ _ _ _ hst (lv_sub hl [0, 1] rfl)
  · rw [if_pos hc] at hf
    refine jw_aload_n (r := (some a0)) hx hb dX9_table_9 rfl (lv_at hl 0 rfl) ?_
    obtain ⟨x82, h83, hf⟩ := jm_rd_some hf
    refine jw_getI hx hb hts hown hK hst (fl_X9_9 hts hK) h83 dX9_table_10 ?_
    refine lv_goto (tgt := 21) hx hb dX9_table_13 (by decide) ?_
    exact J21 a0 v1 (some q76) (some q76) x82 _ hf _ _ _ _ _ hst (lv_sub hl [0, 1] rfl)
theorem fl_X9_87 {g : GD} {s : State} {args : Array Value} (hts : ∀ w ∈ lw_all, w.before args s = true) (hK : jm_KG g s) : ∀ q ∈ ([7, 8] : List Nat), jm_FL s args RX9 87 q 1 := by
  intro q hq
  simp only [List.mem_cons, List.not_mem_nil, or_false] at hq
  rcases hq with rfl | rfl
  · exact ⟨RX7, TX7, 2, rfl, in_X7, by decide, "ChainParts$FaceCell", Or.inl (hts _ q332), fun _ h => h⟩
  · exact ⟨RX8, TX8, 2, rfl, in_X8, by decide, "ChainParts$FaceCell", Or.inl (hts _ q332), fun _ h => h⟩
theorem fl_X9_84 {g : GD} {s : State} {args : Array Value} (hts : ∀ w ∈ lw_all, w.before args s = true) (hK : jm_KG g s) : ∀ q ∈ ([5, 6] : List Nat), jm_FL s args RX9 84 q 2 := by
  intro q hq
  simp only [List.mem_cons, List.not_mem_nil, or_false] at hq
  rcases hq with rfl | rfl
  · exact ⟨RX5, TX5, 3, rfl, in_X5, by decide, "ChainParts$EdgeCell", Or.inl (hts _ q290), fun _ h => h⟩
  · exact ⟨RX6, TX6, 3, rfl, in_X6, by decide, "ChainParts$EdgeCell", Or.inl (hts _ q290), fun _ h => h⟩
def jf_X9_weights_k23_64 (N : Nat) (v2 : Option Nat) : jm_P (Option Nat) :=
  jm_ret v2
def jf_X9_weights_j57 (N : Nat) (a0 : Nat) (v1 : Int32) (v2 : Option Nat) (v3 : Int32) (t0 : Option Nat) (t1 : Int32) (t2 : Int32) : jm_P (Int32 ⊕ Unit) :=
  jm_wr (jm_stI 0 t0 t1 t2) <|
  jm_ret (.inl (v3 + 1))
def jf_X9_weights_L23 (N : Nat) (a0 : Nat) (v1 : Int32) (v2 : Option Nat) (v3 : Int32) : jm_P (Int32 ⊕ Unit) :=
  jm_rd (jm_len 0 v2) fun x11 =>
  if x11 ≤ v3 then (
    jm_ret (.inr ()))
  else
    if v1 = (1 : Int32) then (
      jm_rd (jm_fR [9] 1 (some a0)) fun x19 =>
      jm_rd (jm_ldR 4 x19 v3) fun x21 =>
      jm_rd (jm_fI [5, 6] 2 x21) fun x23 =>
      jf_X9_weights_j57 N a0 v1 v2 v3 v2 v3 x23)
    else
      jm_rd (jm_fR [9] 2 (some a0)) fun x13 =>
      jm_rd (jm_ldR 5 x13 v3) fun x15 =>
      jm_rd (jm_fI [7, 8] 1 x15) fun x17 =>
      jf_X9_weights_j57 N a0 v1 v2 v3 v2 v3 x17
def jf_X9_weights_j18 (N : Nat) (a0 : Nat) (v1 : Int32) (t0 : Int32) : jm_P (Option Nat) :=
  jm_rd (jm_ck (¬ t0 < 0 ∧ t0.toNatClampNeg ≤ 1000)) fun _ =>
  jm_al (.inl (0, t0.toNatClampNeg, .inl (fun _ => 0))) fun q4 =>
  jm_bd (jm_it (fun z => jf_X9_weights_L23 N a0 v1 (some q4) z) N (0 : Int32)) fun y =>
  jf_X9_weights_k23_64 N (some q4)
def jf_X9_weights (N : Nat) (a0 : Nat) (v1 : Int32) : jm_P (Option Nat) :=
  if v1 = (1 : Int32) then (
    jm_rd (jm_fR [9] 1 (some a0)) fun x30 =>
    jm_rd (jm_len 4 x30) fun x32 =>
    jf_X9_weights_j18 N a0 v1 x32)
  else
    jm_rd (jm_fR [9] 2 (some a0)) fun x26 =>
    jm_rd (jm_len 5 x26) fun x28 =>
    jf_X9_weights_j18 N a0 v1 x28
set_option maxHeartbeats 4000000 in
set_option maxRecDepth 100000 in
theorem jt_X9_weights (l : Launch) (g : GD) (b N : Nat) (a0 : Nat) (v1 : Int32) (M M' : Mem) (r : (Option Nat)) (hf : (jf_X9_weights N a0 v1).1 M = some (r, M')) : jm_Met l g b yX9_weights (ws_ yX9_weights cX9_weights 4 (some (.array .int))) 0 0 [va_rf (some a0), .int v1] M M' (some (va_rf r)) := by
  refine jm_start (by decide) (jm_mono hf) (by rw [lg_sl_r, lg_sl_i, lg_sl_n]; exact Nat.le_of_ble_eq_true rfl) ?_
  intro p e s m args below meth c ls C0 hin hK hst hl
  obtain ⟨hx, hb, hml, hown, hts, hr, hlk⟩ := id C0
  have hown : s.vm.findClass RX9 = some m.cls := hown
  have C0 : jm_Cx p s m args meth c cX9_weights 4 (some (.array .int)) RX9 := C0
  rw [lv_args_r, lv_args_i, lv_args_n] at hl
  have hl : lv_has ls 4 [(0, va_rf (some a0)), (1, .int v1)] := hl
  have K23_64 : ∀ (v2 : Option Nat) (Mm1 : Mem), (jf_X9_weights_k23_64 N v2).1 Mm1 = some (r, M') → ∀ (H : Heap) (locs : List Loc) (cells slots : Nat) (ls : Array Slot), jm_St g b M M' Mm1 s (jm_rm 0 0 M M') H locs cells slots → lv_has ls 4 [(2, va_rf v2)] → W p l e (jm_rm 0 0 M M') s m args below meth c H locs cells slots (jm_MQ below g b (some (va_rf r)) M M' args s) (F0 m 64 ls []) := by
    intro v2 Mm1 hf H locs cells slots ls hst hl
    unfold jf_X9_weights_k23_64 at hf
    refine jw_aload_n (r := v2) hx hb dX9_weights_64 rfl (lv_at hl 0 rfl) ?_
    obtain ⟨rfl, rfl⟩ := jm_ret_some hf
    exact jw_aret C0 (Or.inr ⟨_, rfl⟩) hst dX9_weights_65
  have B23 : ∀ (a0 : Nat) (v1 : Int32) (v2 : Option Nat) (v3 : Int32) (Mm10 : Mem) (xe23 : (Int32 ⊕ Unit)) (Me23 : Mem), (jf_X9_weights_L23 N a0 v1 v2 v3).1 Mm10 = some (xe23, Me23) → jm_le Me23 M' → (jm_or (fun (z : Int32) => ∀ (H : Heap) (locs : List Loc) (cells slots : Nat) (ls : Array Slot), jm_St g b M M' Me23 s (jm_rm 0 0 M M') H locs cells slots → lv_has ls 4 [(0, va_rf (some a0)), (1, .int v1), (2, va_rf v2), (3, .int z)] → W p l e (jm_rm 0 0 M M') s m args below meth c H locs cells slots (jm_MQ below g b (some (va_rf r)) M M' args s) (F0 m 23 ls [])) (fun (y : Unit) => ∀ (H : Heap) (locs : List Loc) (cells slots : Nat) (ls : Array Slot), jm_St g b M M' Me23 s (jm_rm 0 0 M M') H locs cells slots → lv_has ls 4 [(2, va_rf v2)] → W p l e (jm_rm 0 0 M M') s m args below meth c H locs cells slots (jm_MQ below g b (some (va_rf r)) M M' args s) (F0 m 64 ls [])) xe23) → ∀ (H : Heap) (locs : List Loc) (cells slots : Nat) (ls : Array Slot), jm_St g b M M' Mm10 s (jm_rm 0 0 M M') H locs cells slots → lv_has ls 4 [(0, va_rf (some a0)), (1, .int v1), (2, va_rf v2), (3, .int v3)] → W p l e (jm_rm 0 0 M M') s m args below meth c H locs cells slots (jm_MQ below g b (some (va_rf r)) M M' args s) (F0 m 23 ls []) := by
    intro a0 v1 v2 v3 Mm10 xe23 Me23 hf hle23 hk23
    have J57 : ∀ (v3 : Int32) (t0 : Option Nat) (t1 : Int32) (t2 : Int32) (Mm6 : Mem), (jf_X9_weights_j57 N a0 v1 v2 v3 t0 t1 t2).1 Mm6 = some (xe23, Me23) → ∀ (H : Heap) (locs : List Loc) (cells slots : Nat) (ls : Array Slot), jm_St g b M M' Mm6 s (jm_rm 0 0 M M') H locs cells slots → lv_has ls 4 [(0, va_rf (some a0)), (1, .int v1), (2, va_rf v2), (3, .int v3)] → W p l e (jm_rm 0 0 M M') s m args below meth c H locs cells slots (jm_MQ below g b (some (va_rf r)) M M' args s) (F0 m 57 ls [.int t2, .int t1, va_rf t0]) := by
      intro v3 t0 t1 t2 Mm6 hf H locs cells slots ls hst hl
      unfold jf_X9_weights_j57 at hf
      obtain ⟨F7, h8, hf⟩ := jm_wr_some hf
      refine jw_iast (r := t0) hx hb hK hst h8 dX9_weights_57 (fun H locs hst => ?_)
      generalize ((Mm6.1, Mm6.2.1, F7) : Mem) = Mm9 at hf hst
      refine lv_iinc (i := 3) (v := (v3 + 1)) (lv' := [(3, .int (v3 + 1)), (0, va_rf (some a0)), (1, .int v1), (2, va_rf v2)]) hx hb dX9_weights_58 hl (k := 3) rfl (by rfl) (by decide) (by simp [va_rf_cat, cat_i, cat_j, cat_f]) (fun ls hl => ?_)
      refine lv_goto (tgt := 23) hx hb dX9_weights_61 (by decide) ?_
      obtain ⟨rfl, rfl⟩ := jm_ret_some hf
      exact jm_or_l hk23 _ _ _ _ _ hst (lv_sub hl [1, 2, 3, 0] rfl)
    intro H locs cells slots ls hst hl
    unfold jf_X9_weights_L23 at hf
    refine lv_iload_n hx hb dX9_weights_23 rfl (lv_at hl 3 rfl) ?_
    refine jw_aload_n (r := v2) hx hb dX9_weights_24 rfl (lv_at hl 2 rfl) ?_
    obtain ⟨x11, h12, hf⟩ := jm_rd_some hf
    refine jw_alen hx hb hK hst (show jm_ty[0]? = some .int from rfl) h12 dX9_weights_25 ?_
    refine lv_icmp_ge (tgt := 64) hx hb dX9_weights_26 (by decide) (fun hc => ?_) (fun hc => ?_)
    · rw [if_pos hc] at hf
      obtain ⟨rfl, rfl⟩ := jm_ret_some hf
      exact jm_or_r hk23 _ _ _ _ _ hst (lv_sub hl [2] rfl)
    · rw [if_neg hc] at hf
      refine jw_aload_n (r := v2) hx hb dX9_weights_29 rfl (lv_at hl 2 rfl) ?_
      refine lv_iload_n hx hb dX9_weights_30 rfl (lv_at hl 3 rfl) ?_
      refine lv_iload_n hx hb dX9_weights_31 rfl (lv_at hl 1 rfl) ?_
      refine lv_iconst (v := 1) hx hb dX9_weights_32 (by decide) ?_
      refine lv_icmp_ne (tgt := 48) hx hb dX9_weights_33 (by decide) (fun hc => ?_) (fun hc => ?_)
      · rw [if_neg hc] at hf
        refine jw_aload_n (r := (some a0)) hx hb dX9_weights_48 rfl (lv_at hl 0 rfl) ?_
        obtain ⟨x13, h14, hf⟩ := jm_rd_some hf
        refine jw_getR hx hb hts hown hK hst (fl_X9_19 hts hK) h14 dX9_weights_49 ?_
        refine lv_iload_n hx hb dX9_weights_52 rfl (lv_at hl 3 rfl) ?_
        obtain ⟨x15, h16, hf⟩ := jm_rd_some hf
        refine jw_aald hx hb hK hst (show jm_ty[5]? = some (.object "ChainParts$FaceCell") from rfl) rfl h16 dX9_weights_53 ?_
        obtain ⟨x17, h18, hf⟩ := jm_rd_some hf
        refine jw_getI hx hb hts hown hK hst (fl_X9_87 hts hK) h18 dX9_weights_54 ?_
        exact J57 v3 v2 v3 x17 _ hf _ _ _ _ _ hst (lv_sub hl [0, 1, 2, 3] rfl)
      · rw [if_pos hc] at hf
        refine jw_aload_n (r := (some a0)) hx hb dX9_weights_36 rfl (lv_at hl 0 rfl) ?_
        obtain ⟨x19, h20, hf⟩ := jm_rd_some hf
        refine jw_getR hx hb hts hown hK hst (fl_X9_15 hts hK) h20 dX9_weights_37 ?_
        refine lv_iload_n hx hb dX9_weights_40 rfl (lv_at hl 3 rfl) ?_
        obtain ⟨x21, h22, hf⟩ := jm_rd_some hf
        refine jw_aald hx hb hK hst (show jm_ty[4]? = some (.object "ChainParts$EdgeCell") from rfl) rfl h22 dX9_weights_41 ?_
        obtain ⟨x23, h24, hf⟩ := jm_rd_some hf
        refine jw_getI hx hb hts hown hK hst (fl_X9_84 hts hK) h24 dX9_weights_42 ?_
        refine lv_goto (tgt := 57) hx hb dX9_weights_45 (by decide) ?_
        exact J57 v3 v2 v3 x23 _ hf _ _ _ _ _ hst (lv_sub hl [0, 1, 2, 3] rfl)
  have J18 : ∀ (a0 : Nat) (v1 : Int32) (t0 : Int32) (Mm2 : Mem), (jf_X9_weights_j18 N a0 v1 t0).1 Mm2 = some (r, M') → ∀ (H : Heap) (locs : List Loc) (cells slots : Nat) (ls : Array Slot), jm_St g b M M' Mm2 s (jm_rm 0 0 M M') H locs cells slots → lv_has ls 4 [(0, va_rf (some a0)), (1, .int v1)] → W p l e (jm_rm 0 0 M M') s m args below meth c H locs cells slots (jm_MQ below g b (some (va_rf r)) M M' args s) (F0 m 18 ls [.int t0]) := by
    intro a0 v1 t0 Mm2 hf H locs cells slots ls hst hl
    unfold jf_X9_weights_j18 at hf
    obtain ⟨_, h3, hf⟩ := jm_rd_some hf
    have h3 := jm_ck_some h3
    obtain ⟨q4, hq4, hf⟩ := jm_al_some hf
    refine jw_newa (kd := 0) (ty := .int) (atype := .int) (a0 := (t0.toNatClampNeg, .inl (fun _ => 0))) hx hb (hts _ q339) rfl hK hst rfl (fun _ => rfl) rfl (fun h => h) h3.1 rfl (Nat.le_trans (Nat.mul_le_mul_right _ h3.2) (by decide)) (jm_le_tr (jm_mono hf) jm_le_rf) hq4 dX9_weights_18 (fun H cells slots hst => ?_)
    generalize jm_new (.inl (0, t0.toNatClampNeg, .inl (fun _ => 0))) Mm2 = Mm5 at hf hst
    refine jw_astore_n (i := 2) (r := (some q4)) (lv' := [(2, va_rf (some q4)), (0, va_rf (some a0)), (1, .int v1)]) hx hb dX9_weights_20 rfl hl (by decide) rfl (fun ls hl => ?_)
    refine lv_iconst (v := 0) hx hb dX9_weights_21 (by decide) ?_
    refine lv_istore_n (i := 3) (lv' := [(3, .int (0 : Int32)), (2, va_rf (some q4)), (0, va_rf (some a0)), (1, .int v1)]) hx hb dX9_weights_22 rfl hl (by decide) (by simp [va_rf_cat, cat_i, cat_j, cat_f]) (fun ls hl => ?_)
    obtain ⟨xl23, Ml23, hit23, hf⟩ := jm_bd_some hf
    have hlf23 : jm_le Ml23 M' := jm_le_tr (jm_mono hf) jm_le_rf
    have hwe23 : (fun (y : Unit) (Mz : Mem) => ∀ (H : Heap) (locs : List Loc) (cells slots : Nat) (ls : Array Slot), jm_St g b M M' Mz s (jm_rm 0 0 M M') H locs cells slots → lv_has ls 4 [(2, va_rf (some q4))] → W p l e (jm_rm 0 0 M M') s m args below meth c H locs cells slots (jm_MQ below g b (some (va_rf r)) M M' args s) (F0 m 64 ls [])) xl23 Ml23 := fun H locs cells slots ls hst hl => K23_64 (some q4) _ hf H locs cells slots ls hst hl
    refine jm_it_walk (Mf := M') (Wh := fun (z : Int32) (Mz : Mem) => ∀ (H : Heap) (locs : List Loc) (cells slots : Nat) (ls : Array Slot), jm_St g b M M' Mz s (jm_rm 0 0 M M') H locs cells slots → lv_has ls 4 [(0, va_rf (some a0)), (1, .int v1), (2, va_rf (some q4)), (3, .int z)] → W p l e (jm_rm 0 0 M M') s m args below meth c H locs cells slots (jm_MQ below g b (some (va_rf r)) M M' args s) (F0 m 23 ls [])) (We := fun (y : Unit) (Mz : Mem) => ∀ (H : Heap) (locs : List Loc) (cells slots : Nat) (ls : Array Slot), jm_St g b M M' Mz s (jm_rm 0 0 M M') H locs cells slots → lv_has ls 4 [(2, va_rf (some q4))] → W p l e (jm_rm 0 0 M M') s m args below meth c H locs cells slots (jm_MQ below g b (some (va_rf r)) M M' args s) (F0 m 64 ls [])) ?_ N (0 : Int32) Mm5 xl23 Ml23 hit23 hlf23 hwe23 _ _ _ _ _ hst (lv_sub hl [2, 3, 1, 0] rfl)
    intro v3 Mm25 xe23 Me23 hf hle23 hk23 H locs cells slots ls hst hl
    have hf : (jf_X9_weights_L23 N a0 v1 (some q4) v3).1 Mm25 = some (xe23, Me23) := hf
    have hl : lv_has ls 4 [(0, va_rf (some a0)), (1, .int v1), (2, va_rf (some q4)), (3, .int v3)] := hl
    exact B23 a0 v1 (some q4) v3 _ _ _ hf hle23 hk23 _ _ _ _ _ hst (lv_sub hl [0, 1, 2, 3] rfl)
  unfold jf_X9_weights at hf
  refine lv_iload_n hx hb dX9_weights_0 rfl (lv_at hl 1 rfl) ?_
  refine lv_iconst (v := 1) hx hb dX9_weights_1 (by decide) ?_
  refine lv_icmp_ne (tgt := 13) hx hb dX9_weights_2 (by decide) (fun hc => ?_) (fun hc => ?_)
  · rw [if_neg hc] at hf
    refine jw_aload_n (r := (some a0)) hx hb dX9_weights_13 rfl (lv_at hl 0 rfl) ?_
    obtain ⟨x26, h27, hf⟩ := jm_rd_some hf
    refine jw_getR hx hb hts hown hK hst (fl_X9_19 hts hK) h27 dX9_weights_14 ?_
    obtain ⟨x28, h29, hf⟩ := jm_rd_some hf
    refine jw_alen hx hb hK hst (show jm_ty[5]? = some (.object "ChainParts$FaceCell") from rfl) h29 dX9_weights_17 ?_
    exact J18 a0 v1 x28 _ hf _ _ _ _ _ hst (lv_sub hl [0, 1] rfl)
  · rw [if_pos hc] at hf
    refine jw_aload_n (r := (some a0)) hx hb dX9_weights_5 rfl (lv_at hl 0 rfl) ?_
    obtain ⟨x30, h31, hf⟩ := jm_rd_some hf
    refine jw_getR hx hb hts hown hK hst (fl_X9_15 hts hK) h31 dX9_weights_6 ?_
    obtain ⟨x32, h33, hf⟩ := jm_rd_some hf
    refine jw_alen hx hb hK hst (show jm_ty[4]? = some (.object "ChainParts$EdgeCell") from rfl) h33 dX9_weights_9 ?_
    refine lv_goto (tgt := 18) hx hb dX9_weights_10 (by decide) ?_
    exact J18 a0 v1 x32 _ hf _ _ _ _ _ hst (lv_sub hl [0, 1] rfl)
theorem hd_X9_table : yX9_table.cls = RX9 ∧ yX9_table.cls ≠ "java/lang/invoke/MethodHandle" ∧ yX9_table.cls ≠ "java/lang/invoke/VarHandle" ∧ (parseMethodDescriptor yX9_table.desc).map (fun d => d.parameters.length) = some 1 := by decide +kernel
theorem hd_X9_weights : yX9_weights.cls = RX9 ∧ yX9_weights.cls ≠ "java/lang/invoke/MethodHandle" ∧ yX9_weights.cls ≠ "java/lang/invoke/VarHandle" ∧ (parseMethodDescriptor yX9_weights.desc).map (fun d => d.parameters.length) = some 1 := by decide +kernel
theorem hd_X11_weighed : yX11_weighed.cls = RX11 ∧ yX11_weighed.cls ≠ "java/lang/invoke/MethodHandle" ∧ yX11_weighed.cls ≠ "java/lang/invoke/VarHandle" ∧ (parseMethodDescriptor yX11_weighed.desc).map (fun d => d.parameters.length) = some 1 := by decide +kernel
theorem hd_X11_times : yX11_times.cls = RX11 ∧ yX11_times.cls ≠ "java/lang/invoke/MethodHandle" ∧ yX11_times.cls ≠ "java/lang/invoke/VarHandle" ∧ (parseMethodDescriptor yX11_times.desc).map (fun d => d.parameters.length) = some 1 := by decide +kernel
def jf_X9_near_j31 (N : Nat) (a0 : Nat) (t0 : Int32) : jm_P (Option Nat) :=
  jm_rd (jm_cl 9 (some a0)) fun a5 =>
  jm_bd (jf_X9_table N a5 t0) fun x2 =>
  jm_rd (jm_cl 9 (some a0)) fun a11 =>
  jm_bd (jf_X9_weights N a11 t0) fun x8 =>
  jm_rd (jm_cl 11 x2) fun a17 =>
  jm_bd (jf_X11_weighed N a17 x8) fun x14 =>
  jm_rd (jm_cl 9 (some a0)) fun a23 =>
  jm_bd (jf_X9_table N a23 t0) fun x20 =>
  jm_rd (jm_cl 11 x20) fun a29 =>
  jm_bd (jf_X11_turned N a29 ) fun x26 =>
  jm_rd (jm_cl 11 x14) fun a35 =>
  jm_bd (jf_X11_times N a35 x26) fun x32 =>
  jm_ret x32
def jf_X9_near (N : Nat) (a0 : Nat) (v1 : Int32) : jm_P (Option Nat) :=
  if v1 = (1 : Int32) then (
    jm_rd (jm_cl 9 (some a0)) fun a41 =>
    jm_bd (jf_X9_table N a41 (1 : Int32)) fun x38 =>
    jm_rd (jm_cl 11 x38) fun a47 =>
    jm_bd (jf_X11_turned N a47 ) fun x44 =>
    jm_rd (jm_cl 9 (some a0)) fun a53 =>
    jm_bd (jf_X9_table N a53 (1 : Int32)) fun x50 =>
    jm_rd (jm_cl 11 x44) fun a59 =>
    jm_bd (jf_X11_times N a59 x50) fun x56 =>
    jm_ret x56)
  else
    if v1 = 0 then (
      jf_X9_near_j31 N a0 (1 : Int32))
    else
      jf_X9_near_j31 N a0 (2 : Int32)
set_option maxHeartbeats 4000000 in
set_option maxRecDepth 100000 in
theorem jt_X9_near (l : Launch) (g : GD) (b N : Nat) (a0 : Nat) (v1 : Int32) (M M' : Mem) (r : (Option Nat)) (hf : (jf_X9_near N a0 v1).1 M = some (r, M')) : jm_Met l g b yX9_near (ws_ yX9_near cX9_near 3 (some (.object "ChainParts$Table"))) 4 88 [va_rf (some a0), .int v1] M M' (some (va_rf r)) := by
  refine jm_start (by decide) (jm_mono hf) (by rw [lg_sl_r, lg_sl_i, lg_sl_n]; exact Nat.le_of_ble_eq_true rfl) ?_
  intro p e s m args below meth c ls C0 hin hK hst hl
  obtain ⟨hx, hb, hml, hown, hts, hr, hlk⟩ := id C0
  have hown : s.vm.findClass RX9 = some m.cls := hown
  have C0 : jm_Cx p s m args meth c cX9_near 3 (some (.object "ChainParts$Table")) RX9 := C0
  rw [lv_args_r, lv_args_i, lv_args_n] at hl
  have hl : lv_has ls 3 [(0, va_rf (some a0)), (1, .int v1)] := hl
  have J31 : ∀ (a0 : Nat) (t0 : Int32) (Mm1 : Mem), (jf_X9_near_j31 N a0 t0).1 Mm1 = some (r, M') → ∀ (H : Heap) (locs : List Loc) (cells slots : Nat) (ls : Array Slot), jm_St g b M M' Mm1 s (jm_rm 4 88 M M') H locs cells slots → lv_has ls 3 [(0, va_rf (some a0))] → W p l e (jm_rm 4 88 M M') s m args below meth c H locs cells slots (jm_MQ below g b (some (va_rf r)) M M' args s) (F0 m 31 ls [.int t0]) := by
    intro a0 t0 Mm1 hf H locs cells slots ls hst hl
    unfold jf_X9_near_j31 at hf
    refine lv_istore_n (i := 2) (lv' := [(2, .int t0), (0, va_rf (some a0))]) hx hb dX9_near_31 rfl hl (by decide) rfl (fun ls hl => ?_)
    refine jw_aload_n (r := (some a0)) hx hb dX9_near_32 rfl (lv_at hl 1 rfl) ?_
    refine lv_iload_n hx hb dX9_near_33 rfl (lv_at hl 0 rfl) ?_
    obtain ⟨a5, h6, hf⟩ := jm_rd_some hf
    obtain ⟨fsa5, hea5, hr7⟩ := jm_cl_some h6
    obtain ⟨x2, Mm3, h4, hf⟩ := jm_bd_some hf
    refine jw_V (As := [.int t0]) (rest := []) (C := RX9) (T := TX9) (N := 4) (rv := (some a0)) (jt_X9_table l g b N a5 t0 Mm1 Mm3 x2 h4) C0 hK hst (jm_mono h4) (jm_le_tr (jm_mono hf) jm_le_rf) q647 q612 q613 q84 q614 hd_X9_table ⟨Nat.le_of_ble_eq_true rfl, Nat.le_of_ble_eq_true rfl⟩ hea5 hr7 rfl rfl hl.1 rfl (by rw [cs_n]; exact Nat.le_of_ble_eq_true rfl) dX9_near_34 (fun H locs cells slots hst => ?_)
    refine W.eq (g2 := F0 m 37 ls [va_rf x2]) rfl ?_
    refine jw_aload_n (r := (some a0)) hx hb dX9_near_37 rfl (lv_at hl 1 rfl) ?_
    refine lv_iload_n hx hb dX9_near_38 rfl (lv_at hl 0 rfl) ?_
    obtain ⟨a11, h12, hf⟩ := jm_rd_some hf
    obtain ⟨fsa11, hea11, hr13⟩ := jm_cl_some h12
    obtain ⟨x8, Mm9, h10, hf⟩ := jm_bd_some hf
    refine jw_V (As := [.int t0]) (rest := [va_rf x2]) (C := RX9) (T := TX9) (N := 4) (rv := (some a0)) (jt_X9_weights l g b N a11 t0 Mm3 Mm9 x8 h10) C0 hK hst (jm_mono h10) (jm_le_tr (jm_mono hf) jm_le_rf) q658 q659 q660 q84 q661 hd_X9_weights ⟨Nat.le_of_ble_eq_true rfl, Nat.le_of_ble_eq_true rfl⟩ hea11 hr13 rfl rfl hl.1 rfl (by rw [cs_r, cs_n]; exact Nat.le_of_ble_eq_true rfl) dX9_near_39 (fun H locs cells slots hst => ?_)
    refine W.eq (g2 := F0 m 42 ls [va_rf x8, va_rf x2]) rfl ?_
    obtain ⟨a17, h18, hf⟩ := jm_rd_some hf
    obtain ⟨fsa17, hea17, hr19⟩ := jm_cl_some h18
    obtain ⟨x14, Mm15, h16, hf⟩ := jm_bd_some hf
    refine jw_V (As := [va_rf x8]) (rest := []) (C := RX11) (T := TX11) (N := 3) (rv := x2) (jt_X11_weighed l g b N a17 x8 Mm9 Mm15 x14 h16) C0 hK hst (jm_mono h16) (jm_le_tr (jm_mono hf) jm_le_rf) q662 q663 q664 q90 q665 hd_X11_weighed ⟨Nat.le_of_ble_eq_true rfl, Nat.le_of_ble_eq_true rfl⟩ hea17 hr19 rfl rfl hl.1 rfl (by rw [cs_n]; exact Nat.le_of_ble_eq_true rfl) dX9_near_42 (fun H locs cells slots hst => ?_)
    refine W.eq (g2 := F0 m 45 ls [va_rf x14]) rfl ?_
    refine jw_aload_n (r := (some a0)) hx hb dX9_near_45 rfl (lv_at hl 1 rfl) ?_
    refine lv_iload_n hx hb dX9_near_46 rfl (lv_at hl 0 rfl) ?_
    obtain ⟨a23, h24, hf⟩ := jm_rd_some hf
    obtain ⟨fsa23, hea23, hr25⟩ := jm_cl_some h24
    obtain ⟨x20, Mm21, h22, hf⟩ := jm_bd_some hf
    refine jw_V (As := [.int t0]) (rest := [va_rf x14]) (C := RX9) (T := TX9) (N := 4) (rv := (some a0)) (jt_X9_table l g b N a23 t0 Mm15 Mm21 x20 h22) C0 hK hst (jm_mono h22) (jm_le_tr (jm_mono hf) jm_le_rf) q647 q612 q613 q84 q614 hd_X9_table ⟨Nat.le_of_ble_eq_true rfl, Nat.le_of_ble_eq_true rfl⟩ hea23 hr25 rfl rfl hl.1 rfl (by rw [cs_r, cs_n]; exact Nat.le_of_ble_eq_true rfl) dX9_near_47 (fun H locs cells slots hst => ?_)
    refine W.eq (g2 := F0 m 50 ls [va_rf x20, va_rf x14]) rfl ?_
    obtain ⟨a29, h30, hf⟩ := jm_rd_some hf
    obtain ⟨fsa29, hea29, hr31⟩ := jm_cl_some h30
    obtain ⟨x26, Mm27, h28, hf⟩ := jm_bd_some hf
    refine jw_V (As := []) (rest := [va_rf x14]) (C := RX11) (T := TX11) (N := 3) (rv := x20) (jt_X11_turned l g b N a29  Mm21 Mm27 x26 h28) C0 hK hst (jm_mono h28) (jm_le_tr (jm_mono hf) jm_le_rf) q648 q649 q650 q90 q651 hd_X11_turned ⟨Nat.le_of_ble_eq_true rfl, Nat.le_of_ble_eq_true rfl⟩ hea29 hr31 rfl rfl hl.1 rfl (by rw [cs_r, cs_n]; exact Nat.le_of_ble_eq_true rfl) dX9_near_50 (fun H locs cells slots hst => ?_)
    refine W.eq (g2 := F0 m 53 ls [va_rf x26, va_rf x14]) rfl ?_
    obtain ⟨a35, h36, hf⟩ := jm_rd_some hf
    obtain ⟨fsa35, hea35, hr37⟩ := jm_cl_some h36
    obtain ⟨x32, Mm33, h34, hf⟩ := jm_bd_some hf
    refine jw_V (As := [va_rf x26]) (rest := []) (C := RX11) (T := TX11) (N := 3) (rv := x14) (jt_X11_times l g b N a35 x26 Mm27 Mm33 x32 h34) C0 hK hst (jm_mono h34) (jm_le_tr (jm_mono hf) jm_le_rf) q654 q655 q656 q90 q657 hd_X11_times ⟨Nat.le_of_ble_eq_true rfl, Nat.le_of_ble_eq_true rfl⟩ hea35 hr37 rfl rfl hl.1 rfl (by rw [cs_n]; exact Nat.le_of_ble_eq_true rfl) dX9_near_53 (fun H locs cells slots hst => ?_)
    refine W.eq (g2 := F0 m 56 ls [va_rf x32]) rfl ?_
    obtain ⟨rfl, rfl⟩ := jm_ret_some hf
    exact jw_aret C0 (Or.inl ⟨_, rfl⟩) hst dX9_near_56
  unfold jf_X9_near at hf
  refine lv_iload_n hx hb dX9_near_0 rfl (lv_at hl 1 rfl) ?_
  refine lv_iconst (v := 1) hx hb dX9_near_1 (by decide) ?_
  refine lv_icmp_ne (tgt := 22) hx hb dX9_near_2 (by decide) (fun hc => ?_) (fun hc => ?_)
  · rw [if_neg hc] at hf
    refine lv_iload_n hx hb dX9_near_22 rfl (lv_at hl 1 rfl) ?_
    refine lv_if_ne (tgt := 30) hx hb dX9_near_23 (by decide) (fun hc => ?_) (fun hc => ?_)
    · rw [if_neg hc] at hf
      refine lv_iconst (v := 2) hx hb dX9_near_30 (by decide) ?_
      exact J31 a0 (2 : Int32) _ hf _ _ _ _ _ hst (lv_sub hl [0] rfl)
    · rw [if_pos hc] at hf
      refine lv_iconst (v := 1) hx hb dX9_near_26 (by decide) ?_
      refine lv_goto (tgt := 31) hx hb dX9_near_27 (by decide) ?_
      exact J31 a0 (1 : Int32) _ hf _ _ _ _ _ hst (lv_sub hl [0] rfl)
  · rw [if_pos hc] at hf
    refine jw_aload_n (r := (some a0)) hx hb dX9_near_5 rfl (lv_at hl 0 rfl) ?_
    refine lv_iconst (v := 1) hx hb dX9_near_6 (by decide) ?_
    obtain ⟨a41, h42, hf⟩ := jm_rd_some hf
    obtain ⟨fsa41, hea41, hr43⟩ := jm_cl_some h42
    obtain ⟨x38, Mm39, h40, hf⟩ := jm_bd_some hf
    refine jw_V (As := [.int (1 : Int32)]) (rest := []) (C := RX9) (T := TX9) (N := 4) (rv := (some a0)) (jt_X9_table l g b N a41 (1 : Int32) M Mm39 x38 h40) C0 hK hst (jm_mono h40) (jm_le_tr (jm_mono hf) jm_le_rf) q647 q612 q613 q84 q614 hd_X9_table ⟨Nat.le_of_ble_eq_true rfl, Nat.le_of_ble_eq_true rfl⟩ hea41 hr43 rfl rfl hl.1 rfl (by rw [cs_n]; exact Nat.le_of_ble_eq_true rfl) dX9_near_7 (fun H locs cells slots hst => ?_)
    refine W.eq (g2 := F0 m 10 ls [va_rf x38]) rfl ?_
    obtain ⟨a47, h48, hf⟩ := jm_rd_some hf
    obtain ⟨fsa47, hea47, hr49⟩ := jm_cl_some h48
    obtain ⟨x44, Mm45, h46, hf⟩ := jm_bd_some hf
    refine jw_V (As := []) (rest := []) (C := RX11) (T := TX11) (N := 3) (rv := x38) (jt_X11_turned l g b N a47  Mm39 Mm45 x44 h46) C0 hK hst (jm_mono h46) (jm_le_tr (jm_mono hf) jm_le_rf) q648 q649 q650 q90 q651 hd_X11_turned ⟨Nat.le_of_ble_eq_true rfl, Nat.le_of_ble_eq_true rfl⟩ hea47 hr49 rfl rfl hl.1 rfl (by rw [cs_n]; exact Nat.le_of_ble_eq_true rfl) dX9_near_10 (fun H locs cells slots hst => ?_)
    refine W.eq (g2 := F0 m 13 ls [va_rf x44]) rfl ?_
    refine jw_aload_n (r := (some a0)) hx hb dX9_near_13 rfl (lv_at hl 0 rfl) ?_
    refine lv_iconst (v := 1) hx hb dX9_near_14 (by decide) ?_
    obtain ⟨a53, h54, hf⟩ := jm_rd_some hf
    obtain ⟨fsa53, hea53, hr55⟩ := jm_cl_some h54
    obtain ⟨x50, Mm51, h52, hf⟩ := jm_bd_some hf
    refine jw_V (As := [.int (1 : Int32)]) (rest := [va_rf x44]) (C := RX9) (T := TX9) (N := 4) (rv := (some a0)) (jt_X9_table l g b N a53 (1 : Int32) Mm45 Mm51 x50 h52) C0 hK hst (jm_mono h52) (jm_le_tr (jm_mono hf) jm_le_rf) q647 q612 q613 q84 q614 hd_X9_table ⟨Nat.le_of_ble_eq_true rfl, Nat.le_of_ble_eq_true rfl⟩ hea53 hr55 rfl rfl hl.1 rfl (by rw [cs_r, cs_n]; exact Nat.le_of_ble_eq_true rfl) dX9_near_15 (fun H locs cells slots hst => ?_)
    refine W.eq (g2 := F0 m 18 ls [va_rf x50, va_rf x44]) rfl ?_
    obtain ⟨a59, h60, hf⟩ := jm_rd_some hf
    obtain ⟨fsa59, hea59, hr61⟩ := jm_cl_some h60
    obtain ⟨x56, Mm57, h58, hf⟩ := jm_bd_some hf
    refine jw_V (As := [va_rf x50]) (rest := []) (C := RX11) (T := TX11) (N := 3) (rv := x44) (jt_X11_times l g b N a59 x50 Mm51 Mm57 x56 h58) C0 hK hst (jm_mono h58) (jm_le_tr (jm_mono hf) jm_le_rf) q654 q655 q656 q90 q657 hd_X11_times ⟨Nat.le_of_ble_eq_true rfl, Nat.le_of_ble_eq_true rfl⟩ hea59 hr61 rfl rfl hl.1 rfl (by rw [cs_n]; exact Nat.le_of_ble_eq_true rfl) dX9_near_18 (fun H locs cells slots hst => ?_)
    refine W.eq (g2 := F0 m 21 ls [va_rf x56]) rfl ?_
    obtain ⟨rfl, rfl⟩ := jm_ret_some hf
    exact jw_aret C0 (Or.inl ⟨_, rfl⟩) hst dX9_near_21
theorem hd_X11_rankBy : yX11_rankBy.cls = RX11 ∧ yX11_rankBy.cls ≠ "java/lang/invoke/MethodHandle" ∧ yX11_rankBy.cls ≠ "java/lang/invoke/VarHandle" ∧ (parseMethodDescriptor yX11_rankBy.desc).map (fun d => d.parameters.length) = some 1 := by decide +kernel
theorem hd_X11_rank : yX11_rank.cls = RX11 ∧ yX11_rank.cls ≠ "java/lang/invoke/MethodHandle" ∧ yX11_rank.cls ≠ "java/lang/invoke/VarHandle" ∧ (parseMethodDescriptor yX11_rank.desc).map (fun d => d.parameters.length) = some 0 := by decide +kernel
def jf_X9_rank (N : Nat) (a0 : Nat) (v1 : Int32) (v2 : Int32) : jm_P Int32 :=
  if v2 = 0 then (
    jm_rd (jm_cl 9 (some a0)) fun a16 =>
    jm_bd (jf_X9_table N a16 v1) fun x13 =>
    jm_rd (jm_cl 11 x13) fun a22 =>
    jm_bd (jf_X11_rank N a22 ) fun x19 =>
    jm_ret x19)
  else
    jm_rd (jm_cl 9 (some a0)) fun a4 =>
    jm_bd (jf_X9_table N a4 v1) fun x1 =>
    jm_rd (jm_cl 11 x1) fun a10 =>
    jm_bd (jf_X11_rankBy N a10 v2) fun x7 =>
    jm_ret x7
set_option maxHeartbeats 4000000 in
set_option maxRecDepth 100000 in
theorem jt_X9_rank (l : Launch) (g : GD) (b N : Nat) (a0 : Nat) (v1 : Int32) (v2 : Int32) (M M' : Mem) (r : Int32) (hf : (jf_X9_rank N a0 v1 v2).1 M = some (r, M')) : jm_Met l g b yX9_rank (ws_ yX9_rank cX9_rank 3 (some .int)) 4 110 [va_rf (some a0), .int v1, .int v2] M M' (some (.int r)) := by
  refine jm_start (by decide) (jm_mono hf) (by rw [lg_sl_r, lg_sl_i, lg_sl_i, lg_sl_n]; exact Nat.le_of_ble_eq_true rfl) ?_
  intro p e s m args below meth c ls C0 hin hK hst hl
  obtain ⟨hx, hb, hml, hown, hts, hr, hlk⟩ := id C0
  have hown : s.vm.findClass RX9 = some m.cls := hown
  have C0 : jm_Cx p s m args meth c cX9_rank 3 (some .int) RX9 := C0
  rw [lv_args_r, lv_args_i, lv_args_i, lv_args_n] at hl
  have hl : lv_has ls 3 [(0, va_rf (some a0)), (1, .int v1), (2, .int v2)] := hl
  unfold jf_X9_rank at hf
  refine lv_iload_n hx hb dX9_rank_0 rfl (lv_at hl 2 rfl) ?_
  refine lv_if_ne (tgt := 15) hx hb dX9_rank_1 (by decide) (fun hc => ?_) (fun hc => ?_)
  · rw [if_neg hc] at hf
    refine jw_aload_n (r := (some a0)) hx hb dX9_rank_15 rfl (lv_at hl 0 rfl) ?_
    refine lv_iload_n hx hb dX9_rank_16 rfl (lv_at hl 1 rfl) ?_
    obtain ⟨a4, h5, hf⟩ := jm_rd_some hf
    obtain ⟨fsa4, hea4, hr6⟩ := jm_cl_some h5
    obtain ⟨x1, Mm2, h3, hf⟩ := jm_bd_some hf
    refine jw_V (As := [.int v1]) (rest := []) (C := RX9) (T := TX9) (N := 4) (rv := (some a0)) (jt_X9_table l g b N a4 v1 M Mm2 x1 h3) C0 hK hst (jm_mono h3) (jm_le_tr (jm_mono hf) jm_le_rf) q647 q612 q613 q84 q614 hd_X9_table ⟨Nat.le_of_ble_eq_true rfl, Nat.le_of_ble_eq_true rfl⟩ hea4 hr6 rfl rfl hl.1 rfl (by rw [cs_n]; exact Nat.le_of_ble_eq_true rfl) dX9_rank_17 (fun H locs cells slots hst => ?_)
    refine W.eq (g2 := F0 m 20 ls [va_rf x1]) rfl ?_
    refine lv_iload_n hx hb dX9_rank_20 rfl (lv_at hl 2 rfl) ?_
    obtain ⟨a10, h11, hf⟩ := jm_rd_some hf
    obtain ⟨fsa10, hea10, hr12⟩ := jm_cl_some h11
    obtain ⟨x7, Mm8, h9, hf⟩ := jm_bd_some hf
    refine jw_V (As := [.int v2]) (rest := []) (C := RX11) (T := TX11) (N := 3) (rv := x1) (jt_X11_rankBy l g b N a10 v2 Mm2 Mm8 x7 h9) C0 hK hst (jm_mono h9) (jm_le_tr (jm_mono hf) jm_le_rf) q719 q720 q721 q90 q722 hd_X11_rankBy ⟨Nat.le_of_ble_eq_true rfl, Nat.le_of_ble_eq_true rfl⟩ hea10 hr12 rfl rfl hl.1 rfl (by rw [cs_n]; exact Nat.le_of_ble_eq_true rfl) dX9_rank_21 (fun H locs cells slots hst => ?_)
    refine W.eq (g2 := F0 m 24 ls [.int x7]) rfl ?_
    obtain ⟨rfl, rfl⟩ := jm_ret_some hf
    exact jw_iret C0 hst dX9_rank_24
  · rw [if_pos hc] at hf
    refine jw_aload_n (r := (some a0)) hx hb dX9_rank_4 rfl (lv_at hl 0 rfl) ?_
    refine lv_iload_n hx hb dX9_rank_5 rfl (lv_at hl 1 rfl) ?_
    obtain ⟨a16, h17, hf⟩ := jm_rd_some hf
    obtain ⟨fsa16, hea16, hr18⟩ := jm_cl_some h17
    obtain ⟨x13, Mm14, h15, hf⟩ := jm_bd_some hf
    refine jw_V (As := [.int v1]) (rest := []) (C := RX9) (T := TX9) (N := 4) (rv := (some a0)) (jt_X9_table l g b N a16 v1 M Mm14 x13 h15) C0 hK hst (jm_mono h15) (jm_le_tr (jm_mono hf) jm_le_rf) q647 q612 q613 q84 q614 hd_X9_table ⟨Nat.le_of_ble_eq_true rfl, Nat.le_of_ble_eq_true rfl⟩ hea16 hr18 rfl rfl hl.1 rfl (by rw [cs_n]; exact Nat.le_of_ble_eq_true rfl) dX9_rank_6 (fun H locs cells slots hst => ?_)
    refine W.eq (g2 := F0 m 9 ls [va_rf x13]) rfl ?_
    obtain ⟨a22, h23, hf⟩ := jm_rd_some hf
    obtain ⟨fsa22, hea22, hr24⟩ := jm_cl_some h23
    obtain ⟨x19, Mm20, h21, hf⟩ := jm_bd_some hf
    refine jw_V (As := []) (rest := []) (C := RX11) (T := TX11) (N := 3) (rv := x13) (jt_X11_rank l g b N a22  Mm14 Mm20 x19 h21) C0 hK hst (jm_mono h21) (jm_le_tr (jm_mono hf) jm_le_rf) q686 q687 q688 q90 q689 hd_X11_rank ⟨Nat.le_of_ble_eq_true rfl, Nat.le_of_ble_eq_true rfl⟩ hea22 hr24 rfl rfl hl.1 rfl (by rw [cs_n]; exact Nat.le_of_ble_eq_true rfl) dX9_rank_9 (fun H locs cells slots hst => ?_)
    refine W.eq (g2 := F0 m 12 ls [.int x19]) rfl ?_
    refine lv_goto (tgt := 24) hx hb dX9_rank_12 (by decide) ?_
    obtain ⟨rfl, rfl⟩ := jm_ret_some hf
    exact jw_iret C0 hst dX9_rank_24
theorem hd_X9_rank : yX9_rank.cls = RX9 ∧ yX9_rank.cls ≠ "java/lang/invoke/MethodHandle" ∧ yX9_rank.cls ≠ "java/lang/invoke/VarHandle" ∧ (parseMethodDescriptor yX9_rank.desc).map (fun d => d.parameters.length) = some 2 := by decide +kernel
theorem hd_X9_many : yX9_many.cls = RX9 ∧ yX9_many.cls ≠ "java/lang/invoke/MethodHandle" ∧ yX9_many.cls ≠ "java/lang/invoke/VarHandle" ∧ (parseMethodDescriptor yX9_many.desc).map (fun d => d.parameters.length) = some 1 := by decide +kernel
def jf_X9_holes_j37 (N : Nat) (t0 : Int32) (t1 : Int32) : jm_P Int32 :=
  jm_ret (t0 - t1)
def jf_X9_holes_j19 (N : Nat) (a0 : Nat) (v1 : Int32) (v2 : Int32) (t0 : Int32) (t1 : Int32) : jm_P Int32 :=
  if (2 : Int32) ≤ v1 then (
    jf_X9_holes_j37 N (t0 - t1) (0 : Int32))
  else
    jm_rd (jm_cl 9 (some a0)) fun a6 =>
    jm_bd (jf_X9_rank N a6 (v1 + (1 : Int32)) v2) fun x3 =>
    jf_X9_holes_j37 N (t0 - t1) x3
def jf_X9_holes (N : Nat) (a0 : Nat) (v1 : Int32) (v2 : Int32) : jm_P Int32 :=
  jm_rd (jm_cl 9 (some a0)) fun a12 =>
  jm_bd (jf_X9_many N a12 v1) fun x9 =>
  if v1 ≤ 0 then (
    jf_X9_holes_j19 N a0 v1 v2 x9 (0 : Int32))
  else
    jm_rd (jm_cl 9 (some a0)) fun a18 =>
    jm_bd (jf_X9_rank N a18 v1 v2) fun x15 =>
    jf_X9_holes_j19 N a0 v1 v2 x9 x15
set_option maxHeartbeats 4000000 in
set_option maxRecDepth 100000 in
theorem jt_X9_holes (l : Launch) (g : GD) (b N : Nat) (a0 : Nat) (v1 : Int32) (v2 : Int32) (M M' : Mem) (r : Int32) (hf : (jf_X9_holes N a0 v1 v2).1 M = some (r, M')) : jm_Met l g b yX9_holes (ws_ yX9_holes cX9_holes 3 (some .int)) 5 132 [va_rf (some a0), .int v1, .int v2] M M' (some (.int r)) := by
  refine jm_start (by decide) (jm_mono hf) (by rw [lg_sl_r, lg_sl_i, lg_sl_i, lg_sl_n]; exact Nat.le_of_ble_eq_true rfl) ?_
  intro p e s m args below meth c ls C0 hin hK hst hl
  obtain ⟨hx, hb, hml, hown, hts, hr, hlk⟩ := id C0
  have hown : s.vm.findClass RX9 = some m.cls := hown
  have C0 : jm_Cx p s m args meth c cX9_holes 3 (some .int) RX9 := C0
  rw [lv_args_r, lv_args_i, lv_args_i, lv_args_n] at hl
  have hl : lv_has ls 3 [(0, va_rf (some a0)), (1, .int v1), (2, .int v2)] := hl
  have J37 : ∀ (t0 : Int32) (t1 : Int32) (Mm1 : Mem), (jf_X9_holes_j37 N t0 t1).1 Mm1 = some (r, M') → ∀ (H : Heap) (locs : List Loc) (cells slots : Nat) (ls : Array Slot), jm_St g b M M' Mm1 s (jm_rm 5 132 M M') H locs cells slots → lv_has ls 3 [] → W p l e (jm_rm 5 132 M M') s m args below meth c H locs cells slots (jm_MQ below g b (some (.int r)) M M' args s) (F0 m 37 ls [.int t1, .int t0]) := by
    intro t0 t1 Mm1 hf H locs cells slots ls hst hl
    unfold jf_X9_holes_j37 at hf
    refine lv_isub hx hb dX9_holes_37 ?_
    obtain ⟨rfl, rfl⟩ := jm_ret_some hf
    exact jw_iret C0 hst dX9_holes_38
  have J19 : ∀ (a0 : Nat) (v1 : Int32) (v2 : Int32) (t0 : Int32) (t1 : Int32) (Mm2 : Mem), (jf_X9_holes_j19 N a0 v1 v2 t0 t1).1 Mm2 = some (r, M') → ∀ (H : Heap) (locs : List Loc) (cells slots : Nat) (ls : Array Slot), jm_St g b M M' Mm2 s (jm_rm 5 132 M M') H locs cells slots → lv_has ls 3 [(0, va_rf (some a0)), (1, .int v1), (2, .int v2)] → W p l e (jm_rm 5 132 M M') s m args below meth c H locs cells slots (jm_MQ below g b (some (.int r)) M M' args s) (F0 m 19 ls [.int t1, .int t0]) := by
    intro a0 v1 v2 t0 t1 Mm2 hf H locs cells slots ls hst hl
    unfold jf_X9_holes_j19 at hf
    refine lv_isub hx hb dX9_holes_19 ?_
    refine lv_iload_n hx hb dX9_holes_20 rfl (lv_at hl 1 rfl) ?_
    refine lv_iconst (v := 2) hx hb dX9_holes_21 (by decide) ?_
    refine lv_icmp_ge (tgt := 36) hx hb dX9_holes_22 (by decide) (fun hc => ?_) (fun hc => ?_)
    · rw [if_pos hc] at hf
      refine lv_iconst (v := 0) hx hb dX9_holes_36 (by decide) ?_
      exact J37 (t0 - t1) (0 : Int32) _ hf _ _ _ _ _ hst (lv_sub hl [] rfl)
    · rw [if_neg hc] at hf
      refine jw_aload_n (r := (some a0)) hx hb dX9_holes_25 rfl (lv_at hl 0 rfl) ?_
      refine lv_iload_n hx hb dX9_holes_26 rfl (lv_at hl 1 rfl) ?_
      refine lv_iconst (v := 1) hx hb dX9_holes_27 (by decide) ?_
      refine lv_iadd hx hb dX9_holes_28 ?_
      refine lv_iload_n hx hb dX9_holes_29 rfl (lv_at hl 2 rfl) ?_
      obtain ⟨a6, h7, hf⟩ := jm_rd_some hf
      obtain ⟨fsa6, hea6, hr8⟩ := jm_cl_some h7
      obtain ⟨x3, Mm4, h5, hf⟩ := jm_bd_some hf
      refine jw_V (As := [.int (v1 + (1 : Int32)), .int v2]) (rest := [.int (t0 - t1)]) (C := RX9) (T := TX9) (N := 4) (rv := (some a0)) (jt_X9_rank l g b N a6 (v1 + (1 : Int32)) v2 Mm2 Mm4 x3 h5) C0 hK hst (jm_mono h5) (jm_le_tr (jm_mono hf) jm_le_rf) q738 q683 q684 q84 q685 hd_X9_rank ⟨Nat.le_of_ble_eq_true rfl, Nat.le_of_ble_eq_true rfl⟩ hea6 hr8 rfl rfl hl.1 rfl (by rw [cs_i, cs_n]; exact Nat.le_of_ble_eq_true rfl) dX9_holes_30 (fun H locs cells slots hst => ?_)
      refine W.eq (g2 := F0 m 33 ls [.int x3, .int (t0 - t1)]) rfl ?_
      refine lv_goto (tgt := 37) hx hb dX9_holes_33 (by decide) ?_
      exact J37 (t0 - t1) x3 _ hf _ _ _ _ _ hst (lv_sub hl [] rfl)
  unfold jf_X9_holes at hf
  refine jw_aload_n (r := (some a0)) hx hb dX9_holes_0 rfl (lv_at hl 0 rfl) ?_
  refine lv_iload_n hx hb dX9_holes_1 rfl (lv_at hl 1 rfl) ?_
  obtain ⟨a12, h13, hf⟩ := jm_rd_some hf
  obtain ⟨fsa12, hea12, hr14⟩ := jm_cl_some h13
  obtain ⟨x9, Mm10, h11, hf⟩ := jm_bd_some hf
  refine jw_V (As := [.int v1]) (rest := []) (C := RX9) (T := TX9) (N := 4) (rv := (some a0)) (jt_X9_many l g b N a12 v1 M Mm10 x9 h11) C0 hK hst (jm_mono h11) (jm_le_tr (jm_mono hf) jm_le_rf) q737 q400 q401 q84 q402 hd_X9_many ⟨Nat.le_of_ble_eq_true rfl, Nat.le_of_ble_eq_true rfl⟩ hea12 hr14 rfl rfl hl.1 rfl (by rw [cs_n]; exact Nat.le_of_ble_eq_true rfl) dX9_holes_2 (fun H locs cells slots hst => ?_)
  refine W.eq (g2 := F0 m 5 ls [.int x9]) rfl ?_
  refine lv_iload_n hx hb dX9_holes_5 rfl (lv_at hl 1 rfl) ?_
  refine lv_if_le (tgt := 18) hx hb dX9_holes_6 (by decide) (fun hc => ?_) (fun hc => ?_)
  · rw [if_pos hc] at hf
    refine lv_iconst (v := 0) hx hb dX9_holes_18 (by decide) ?_
    exact J19 a0 v1 v2 x9 (0 : Int32) _ hf _ _ _ _ _ hst (lv_sub hl [0, 1, 2] rfl)
  · rw [if_neg hc] at hf
    refine jw_aload_n (r := (some a0)) hx hb dX9_holes_9 rfl (lv_at hl 0 rfl) ?_
    refine lv_iload_n hx hb dX9_holes_10 rfl (lv_at hl 1 rfl) ?_
    refine lv_iload_n hx hb dX9_holes_11 rfl (lv_at hl 2 rfl) ?_
    obtain ⟨a18, h19, hf⟩ := jm_rd_some hf
    obtain ⟨fsa18, hea18, hr20⟩ := jm_cl_some h19
    obtain ⟨x15, Mm16, h17, hf⟩ := jm_bd_some hf
    refine jw_V (As := [.int v1, .int v2]) (rest := [.int x9]) (C := RX9) (T := TX9) (N := 4) (rv := (some a0)) (jt_X9_rank l g b N a18 v1 v2 Mm10 Mm16 x15 h17) C0 hK hst (jm_mono h17) (jm_le_tr (jm_mono hf) jm_le_rf) q738 q683 q684 q84 q685 hd_X9_rank ⟨Nat.le_of_ble_eq_true rfl, Nat.le_of_ble_eq_true rfl⟩ hea18 hr20 rfl rfl hl.1 rfl (by rw [cs_i, cs_n]; exact Nat.le_of_ble_eq_true rfl) dX9_holes_12 (fun H locs cells slots hst => ?_)
    refine W.eq (g2 := F0 m 15 ls [.int x15, .int x9]) rfl ?_
    refine lv_goto (tgt := 19) hx hb dX9_holes_15 (by decide) ?_
    exact J19 a0 v1 v2 x9 x15 _ hf _ _ _ _ _ hst (lv_sub hl [0, 1, 2] rfl)
theorem hd_X11_twists : yX11_twists.cls = RX11 ∧ yX11_twists.cls ≠ "java/lang/invoke/MethodHandle" ∧ yX11_twists.cls ≠ "java/lang/invoke/VarHandle" ∧ (parseMethodDescriptor yX11_twists.desc).map (fun d => d.parameters.length) = some 0 := by decide +kernel
def jf_X9_twisted_k24_49 (N : Nat) (v2 : Int64) : jm_P Int64 :=
  jm_ret v2
def jf_X9_twisted_L24 (N : Nat) (v4 : Option Nat) (v5 : Int32) (v2 : Int64) (v6 : Int32) : jm_P ((Int64 × Int32) ⊕ Int64) :=
  if v5 ≤ v6 then (
    jm_ret (.inr v2))
  else
    jm_rd (jm_ldJ 2 v4 v6) fun x23 =>
    jm_ret (.inl ((v2 * x23), (v6 + 1)))
def jf_X9_twisted (N : Nat) (a0 : Nat) (v1 : Int32) : jm_P Int64 :=
  jm_rd (jm_cl 9 (some a0)) fun a5 =>
  jm_bd (jf_X9_table N a5 (2 : Int32)) fun x2 =>
  jm_rd (jm_cl 11 x2) fun a11 =>
  jm_bd (jf_X11_some N a11 v1) fun x8 =>
  jm_rd (jm_cl 11 x8) fun a17 =>
  jm_bd (jf_X11_twists N a17 ) fun x14 =>
  jm_rd (jm_len 2 x14) fun x20 =>
  jm_bd (jm_it (fun z => jf_X9_twisted_L24 N x14 x20 z.1 z.2) N ((1 : Int64), (0 : Int32))) fun y =>
  jf_X9_twisted_k24_49 N y
set_option maxHeartbeats 4000000 in
set_option maxRecDepth 100000 in
theorem jt_X9_twisted (l : Launch) (g : GD) (b N : Nat) (a0 : Nat) (v1 : Int32) (M M' : Mem) (r : Int64) (hf : (jf_X9_twisted N a0 v1).1 M = some (r, M')) : jm_Met l g b yX9_twisted (ws_ yX9_twisted cX9_twisted 9 (some .long)) 4 117 [va_rf (some a0), .int v1] M M' (some (.long r)) := by
  refine jm_start (by decide) (jm_mono hf) (by rw [lg_sl_r, lg_sl_i, lg_sl_n]; exact Nat.le_of_ble_eq_true rfl) ?_
  intro p e s m args below meth c ls C0 hin hK hst hl
  obtain ⟨hx, hb, hml, hown, hts, hr, hlk⟩ := id C0
  have hown : s.vm.findClass RX9 = some m.cls := hown
  have C0 : jm_Cx p s m args meth c cX9_twisted 9 (some .long) RX9 := C0
  rw [lv_args_r, lv_args_i, lv_args_n] at hl
  have hl : lv_has ls 9 [(0, va_rf (some a0)), (1, .int v1)] := hl
  have K24_49 : ∀ (v2 : Int64) (Mm1 : Mem), (jf_X9_twisted_k24_49 N v2).1 Mm1 = some (r, M') → ∀ (H : Heap) (locs : List Loc) (cells slots : Nat) (ls : Array Slot), jm_St g b M M' Mm1 s (jm_rm 4 117 M M') H locs cells slots → lv_has ls 9 [(2, .long v2)] → W p l e (jm_rm 4 117 M M') s m args below meth c H locs cells slots (jm_MQ below g b (some (.long r)) M M' args s) (F0 m 49 ls []) := by
    intro v2 Mm1 hf H locs cells slots ls hst hl
    unfold jf_X9_twisted_k24_49 at hf
    refine lv_lload_n hx hb dX9_twisted_49 rfl (lv_at hl 0 rfl) ?_
    obtain ⟨rfl, rfl⟩ := jm_ret_some hf
    exact jw_lret C0 hst dX9_twisted_50
  have B24 : ∀ (v4 : Option Nat) (v5 : Int32) (v2 : Int64) (v6 : Int32) (Mm22 : Mem) (xe24 : ((Int64 × Int32) ⊕ Int64)) (Me24 : Mem), (jf_X9_twisted_L24 N v4 v5 v2 v6).1 Mm22 = some (xe24, Me24) → jm_le Me24 M' → (jm_or (fun (z : Int64 × Int32) => ∀ (H : Heap) (locs : List Loc) (cells slots : Nat) (ls : Array Slot), jm_St g b M M' Me24 s (jm_rm 4 117 M M') H locs cells slots → lv_has ls 9 [(2, .long z.1), (4, va_rf v4), (5, .int v5), (6, .int z.2)] → W p l e (jm_rm 4 117 M M') s m args below meth c H locs cells slots (jm_MQ below g b (some (.long r)) M M' args s) (F0 m 24 ls [])) (fun (y : Int64) => ∀ (H : Heap) (locs : List Loc) (cells slots : Nat) (ls : Array Slot), jm_St g b M M' Me24 s (jm_rm 4 117 M M') H locs cells slots → lv_has ls 9 [(2, .long y)] → W p l e (jm_rm 4 117 M M') s m args below meth c H locs cells slots (jm_MQ below g b (some (.long r)) M M' args s) (F0 m 49 ls [])) xe24) → ∀ (H : Heap) (locs : List Loc) (cells slots : Nat) (ls : Array Slot), jm_St g b M M' Mm22 s (jm_rm 4 117 M M') H locs cells slots → lv_has ls 9 [(2, .long v2), (4, va_rf v4), (5, .int v5), (6, .int v6)] → W p l e (jm_rm 4 117 M M') s m args below meth c H locs cells slots (jm_MQ below g b (some (.long r)) M M' args s) (F0 m 24 ls []) := by
    intro v4 v5 v2 v6 Mm22 xe24 Me24 hf hle24 hk24
    intro H locs cells slots ls hst hl
    unfold jf_X9_twisted_L24 at hf
    refine lv_iload hx hb dX9_twisted_24 (lv_at hl 3 rfl) ?_
    refine lv_iload hx hb dX9_twisted_26 (lv_at hl 2 rfl) ?_
    refine lv_icmp_ge (tgt := 49) hx hb dX9_twisted_28 (by decide) (fun hc => ?_) (fun hc => ?_)
    · rw [if_pos hc] at hf
      obtain ⟨rfl, rfl⟩ := jm_ret_some hf
      exact jm_or_r hk24 _ _ _ _ _ hst (lv_sub hl [0] rfl)
    · rw [if_neg hc] at hf
      refine jw_aload (r := v4) hx hb dX9_twisted_31 (lv_at hl 1 rfl) ?_
      refine lv_iload hx hb dX9_twisted_33 (lv_at hl 3 rfl) ?_
      obtain ⟨x23, h24, hf⟩ := jm_rd_some hf
      refine jw_lald hx hb hK hst h24 dX9_twisted_35 ?_
      refine lv_lstore (i := 7) (lv' := [(7, .long x23), (2, .long v2), (4, va_rf v4), (5, .int v5), (6, .int v6)]) hx hb dX9_twisted_36 hl (by decide) rfl (fun ls hl => ?_)
      refine lv_lload_n hx hb dX9_twisted_38 rfl (lv_at hl 1 rfl) ?_
      refine lv_lload hx hb dX9_twisted_39 (lv_at hl 0 rfl) ?_
      refine lv_lmul hx hb dX9_twisted_41 ?_
      refine lv_lstore_n (i := 2) (lv' := [(2, .long (v2 * x23)), (7, .long x23), (4, va_rf v4), (5, .int v5), (6, .int v6)]) hx hb dX9_twisted_42 rfl hl (by decide) rfl (fun ls hl => ?_)
      refine lv_iinc (i := 6) (v := (v6 + 1)) (lv' := [(6, .int (v6 + 1)), (2, .long (v2 * x23)), (7, .long x23), (4, va_rf v4), (5, .int v5)]) hx hb dX9_twisted_43 hl (k := 4) rfl (by rfl) (by decide) rfl (fun ls hl => ?_)
      refine lv_goto (tgt := 24) hx hb dX9_twisted_46 (by decide) ?_
      obtain ⟨rfl, rfl⟩ := jm_ret_some hf
      exact jm_or_l hk24 _ _ _ _ _ hst (lv_sub hl [1, 3, 4, 0] rfl)
  unfold jf_X9_twisted at hf
  refine lv_lconst (v := 1) hx hb dX9_twisted_0 (by decide) ?_
  refine lv_lstore_n (i := 2) (lv' := [(2, .long (1 : Int64)), (0, va_rf (some a0)), (1, .int v1)]) hx hb dX9_twisted_1 rfl hl (by decide) rfl (fun ls hl => ?_)
  refine jw_aload_n (r := (some a0)) hx hb dX9_twisted_2 rfl (lv_at hl 1 rfl) ?_
  refine lv_iconst (v := 2) hx hb dX9_twisted_3 (by decide) ?_
  obtain ⟨a5, h6, hf⟩ := jm_rd_some hf
  obtain ⟨fsa5, hea5, hr7⟩ := jm_cl_some h6
  obtain ⟨x2, Mm3, h4, hf⟩ := jm_bd_some hf
  refine jw_V (As := [.int (2 : Int32)]) (rest := []) (C := RX9) (T := TX9) (N := 4) (rv := (some a0)) (jt_X9_table l g b N a5 (2 : Int32) M Mm3 x2 h4) C0 hK hst (jm_mono h4) (jm_le_tr (jm_mono hf) jm_le_rf) q647 q612 q613 q84 q614 hd_X9_table ⟨Nat.le_of_ble_eq_true rfl, Nat.le_of_ble_eq_true rfl⟩ hea5 hr7 rfl rfl hl.1 rfl (by rw [cs_n]; exact Nat.le_of_ble_eq_true rfl) dX9_twisted_4 (fun H locs cells slots hst => ?_)
  refine W.eq (g2 := F0 m 7 ls [va_rf x2]) rfl ?_
  refine lv_iload_n hx hb dX9_twisted_7 rfl (lv_at hl 2 rfl) ?_
  obtain ⟨a11, h12, hf⟩ := jm_rd_some hf
  obtain ⟨fsa11, hea11, hr13⟩ := jm_cl_some h12
  obtain ⟨x8, Mm9, h10, hf⟩ := jm_bd_some hf
  refine jw_V (As := [.int v1]) (rest := []) (C := RX11) (T := TX11) (N := 3) (rv := x2) (jt_X11_some l g b N a11 v1 Mm3 Mm9 x8 h10) C0 hK hst (jm_mono h10) (jm_le_tr (jm_mono hf) jm_le_rf) q747 q748 q749 q90 q750 hd_X11_some ⟨Nat.le_of_ble_eq_true rfl, Nat.le_of_ble_eq_true rfl⟩ hea11 hr13 rfl rfl hl.1 rfl (by rw [cs_n]; exact Nat.le_of_ble_eq_true rfl) dX9_twisted_8 (fun H locs cells slots hst => ?_)
  refine W.eq (g2 := F0 m 11 ls [va_rf x8]) rfl ?_
  obtain ⟨a17, h18, hf⟩ := jm_rd_some hf
  obtain ⟨fsa17, hea17, hr19⟩ := jm_cl_some h18
  obtain ⟨x14, Mm15, h16, hf⟩ := jm_bd_some hf
  refine jw_V (As := []) (rest := []) (C := RX11) (T := TX11) (N := 3) (rv := x8) (jt_X11_twists l g b N a17  Mm9 Mm15 x14 h16) C0 hK hst (jm_mono h16) (jm_le_tr (jm_mono hf) jm_le_rf) q760 q761 q762 q90 q763 hd_X11_twists ⟨Nat.le_of_ble_eq_true rfl, Nat.le_of_ble_eq_true rfl⟩ hea17 hr19 rfl rfl hl.1 rfl (by rw [cs_n]; exact Nat.le_of_ble_eq_true rfl) dX9_twisted_11 (fun H locs cells slots hst => ?_)
  refine W.eq (g2 := F0 m 14 ls [va_rf x14]) rfl ?_
  refine jw_astore (i := 4) (r := x14) (lv' := [(4, va_rf x14), (2, .long (1 : Int64)), (0, va_rf (some a0)), (1, .int v1)]) hx hb dX9_twisted_14 hl (by decide) rfl (fun ls hl => ?_)
  refine jw_aload (r := x14) hx hb dX9_twisted_16 (lv_at hl 0 rfl) ?_
  obtain ⟨x20, h21, hf⟩ := jm_rd_some hf
  refine jw_alen hx hb hK hst (show jm_ty[2]? = some .long from rfl) h21 dX9_twisted_18 ?_
  refine lv_istore (i := 5) (lv' := [(5, .int x20), (4, va_rf x14), (2, .long (1 : Int64)), (0, va_rf (some a0)), (1, .int v1)]) hx hb dX9_twisted_19 hl (by decide) (by simp [va_rf_cat, cat_i, cat_j, cat_f]) (fun ls hl => ?_)
  refine lv_iconst (v := 0) hx hb dX9_twisted_21 (by decide) ?_
  refine lv_istore (i := 6) (lv' := [(6, .int (0 : Int32)), (5, .int x20), (4, va_rf x14), (2, .long (1 : Int64)), (0, va_rf (some a0)), (1, .int v1)]) hx hb dX9_twisted_22 hl (by decide) rfl (fun ls hl => ?_)
  obtain ⟨xl24, Ml24, hit24, hf⟩ := jm_bd_some hf
  have hlf24 : jm_le Ml24 M' := jm_le_tr (jm_mono hf) jm_le_rf
  have hwe24 : (fun (y : Int64) (Mz : Mem) => ∀ (H : Heap) (locs : List Loc) (cells slots : Nat) (ls : Array Slot), jm_St g b M M' Mz s (jm_rm 4 117 M M') H locs cells slots → lv_has ls 9 [(2, .long y)] → W p l e (jm_rm 4 117 M M') s m args below meth c H locs cells slots (jm_MQ below g b (some (.long r)) M M' args s) (F0 m 49 ls [])) xl24 Ml24 := fun H locs cells slots ls hst hl => K24_49 xl24 _ hf H locs cells slots ls hst hl
  refine jm_it_walk (Mf := M') (Wh := fun (z : Int64 × Int32) (Mz : Mem) => ∀ (H : Heap) (locs : List Loc) (cells slots : Nat) (ls : Array Slot), jm_St g b M M' Mz s (jm_rm 4 117 M M') H locs cells slots → lv_has ls 9 [(2, .long z.1), (4, va_rf x14), (5, .int x20), (6, .int z.2)] → W p l e (jm_rm 4 117 M M') s m args below meth c H locs cells slots (jm_MQ below g b (some (.long r)) M M' args s) (F0 m 24 ls [])) (We := fun (y : Int64) (Mz : Mem) => ∀ (H : Heap) (locs : List Loc) (cells slots : Nat) (ls : Array Slot), jm_St g b M M' Mz s (jm_rm 4 117 M M') H locs cells slots → lv_has ls 9 [(2, .long y)] → W p l e (jm_rm 4 117 M M') s m args below meth c H locs cells slots (jm_MQ below g b (some (.long r)) M M' args s) (F0 m 49 ls [])) ?_ N ((1 : Int64), (0 : Int32)) Mm15 xl24 Ml24 hit24 hlf24 hwe24 _ _ _ _ _ hst (lv_sub hl [3, 2, 1, 0] rfl)
  intro z Mm25 xe24 Me24 hf hle24 hk24 H locs cells slots ls hst hl
  obtain ⟨v2, v6⟩ := z
  have hf : (jf_X9_twisted_L24 N x14 x20 v2 v6).1 Mm25 = some (xe24, Me24) := hf
  have hl : lv_has ls 9 [(2, .long v2), (4, va_rf x14), (5, .int x20), (6, .int v6)] := hl
  exact B24 x14 x20 v2 v6 _ _ _ hf hle24 hk24 _ _ _ _ _ hst (lv_sub hl [0, 1, 2, 3] rfl)
def jf_X9_end_k5_73 (N : Nat) (v3 : Int32) : jm_P Int32 :=
  jm_ret v3
def jf_X9_end_j63 (N : Nat) (a0 : Nat) (v1 : Int32) (v2 : Int32) (v4 : Int32) (t0 : Int32) (t1 : Int32) (t2 : Int32) (t3 : Int32) : jm_P ((Int32 × Int32) ⊕ Int32) :=
  jm_ret (.inl ((t0 + (t1 * (t2 - t3))), (v4 + 1)))
def jf_X9_end_j44 (N : Nat) (a0 : Nat) (v1 : Int32) (v2 : Int32) (v4 : Int32) (t0 : Int32) (t1 : Int32) (t2 : Int32) : jm_P ((Int32 × Int32) ⊕ Int32) :=
  jm_rd (jm_fR [9] 1 (some a0)) fun x4 =>
  jm_rd (jm_ldR 4 x4 v4) fun x6 =>
  jm_rd (jm_fI [5, 6] 0 x6) fun x8 =>
  if x8 = v2 then (
    jf_X9_end_j63 N a0 v1 v2 v4 t0 t1 t2 (1 : Int32))
  else
    jf_X9_end_j63 N a0 v1 v2 v4 t0 t1 t2 (0 : Int32)
def jf_X9_end_L5 (N : Nat) (a0 : Nat) (v1 : Int32) (v2 : Int32) (v3 : Int32) (v4 : Int32) : jm_P ((Int32 × Int32) ⊕ Int32) :=
  jm_rd (jm_fR [9] 1 (some a0)) fun x11 =>
  jm_rd (jm_len 4 x11) fun x13 =>
  if x13 ≤ v4 then (
    jm_ret (.inr v3))
  else
    jm_rd (jm_fR [9] 3 (some a0)) fun x15 =>
    jm_rd (jm_ldR 12 x15 v1) fun x17 =>
    jm_rd (jm_ldI 0 x17 v4) fun x19 =>
    jm_rd (jm_fR [9] 1 (some a0)) fun x21 =>
    jm_rd (jm_ldR 4 x21 v4) fun x23 =>
    jm_rd (jm_fI [5, 6] 1 x23) fun x25 =>
    if x25 = v2 then (
      jf_X9_end_j44 N a0 v1 v2 v4 v3 x19 (1 : Int32))
    else
      jf_X9_end_j44 N a0 v1 v2 v4 v3 x19 (0 : Int32)
def jf_X9_end (N : Nat) (a0 : Nat) (v1 : Int32) (v2 : Int32) : jm_P Int32 :=
  jm_bd (jm_it (fun z => jf_X9_end_L5 N a0 v1 v2 z.1 z.2) N ((0 : Int32), (0 : Int32))) fun y =>
  jf_X9_end_k5_73 N y
set_option maxHeartbeats 4000000 in
set_option maxRecDepth 100000 in
theorem jt_X9_end (l : Launch) (g : GD) (b N : Nat) (a0 : Nat) (v1 : Int32) (v2 : Int32) (M M' : Mem) (r : Int32) (hf : (jf_X9_end N a0 v1 v2).1 M = some (r, M')) : jm_Met l g b yX9_end (ws_ yX9_end cX9_end 5 (some .int)) 0 0 [va_rf (some a0), .int v1, .int v2] M M' (some (.int r)) := by
  refine jm_start (by decide) (jm_mono hf) (by rw [lg_sl_r, lg_sl_i, lg_sl_i, lg_sl_n]; exact Nat.le_of_ble_eq_true rfl) ?_
  intro p e s m args below meth c ls C0 hin hK hst hl
  obtain ⟨hx, hb, hml, hown, hts, hr, hlk⟩ := id C0
  have hown : s.vm.findClass RX9 = some m.cls := hown
  have C0 : jm_Cx p s m args meth c cX9_end 5 (some .int) RX9 := C0
  rw [lv_args_r, lv_args_i, lv_args_i, lv_args_n] at hl
  have hl : lv_has ls 5 [(0, va_rf (some a0)), (1, .int v1), (2, .int v2)] := hl
  have K5_73 : ∀ (v3 : Int32) (Mm1 : Mem), (jf_X9_end_k5_73 N v3).1 Mm1 = some (r, M') → ∀ (H : Heap) (locs : List Loc) (cells slots : Nat) (ls : Array Slot), jm_St g b M M' Mm1 s (jm_rm 0 0 M M') H locs cells slots → lv_has ls 5 [(3, .int v3)] → W p l e (jm_rm 0 0 M M') s m args below meth c H locs cells slots (jm_MQ below g b (some (.int r)) M M' args s) (F0 m 73 ls []) := by
    intro v3 Mm1 hf H locs cells slots ls hst hl
    unfold jf_X9_end_k5_73 at hf
    refine lv_iload_n hx hb dX9_end_73 rfl (lv_at hl 0 rfl) ?_
    obtain ⟨rfl, rfl⟩ := jm_ret_some hf
    exact jw_iret C0 hst dX9_end_74
  have B5 : ∀ (a0 : Nat) (v1 : Int32) (v2 : Int32) (v3 : Int32) (v4 : Int32) (Mm10 : Mem) (xe5 : ((Int32 × Int32) ⊕ Int32)) (Me5 : Mem), (jf_X9_end_L5 N a0 v1 v2 v3 v4).1 Mm10 = some (xe5, Me5) → jm_le Me5 M' → (jm_or (fun (z : Int32 × Int32) => ∀ (H : Heap) (locs : List Loc) (cells slots : Nat) (ls : Array Slot), jm_St g b M M' Me5 s (jm_rm 0 0 M M') H locs cells slots → lv_has ls 5 [(0, va_rf (some a0)), (1, .int v1), (2, .int v2), (3, .int z.1), (4, .int z.2)] → W p l e (jm_rm 0 0 M M') s m args below meth c H locs cells slots (jm_MQ below g b (some (.int r)) M M' args s) (F0 m 5 ls [])) (fun (y : Int32) => ∀ (H : Heap) (locs : List Loc) (cells slots : Nat) (ls : Array Slot), jm_St g b M M' Me5 s (jm_rm 0 0 M M') H locs cells slots → lv_has ls 5 [(3, .int y)] → W p l e (jm_rm 0 0 M M') s m args below meth c H locs cells slots (jm_MQ below g b (some (.int r)) M M' args s) (F0 m 73 ls [])) xe5) → ∀ (H : Heap) (locs : List Loc) (cells slots : Nat) (ls : Array Slot), jm_St g b M M' Mm10 s (jm_rm 0 0 M M') H locs cells slots → lv_has ls 5 [(0, va_rf (some a0)), (1, .int v1), (2, .int v2), (3, .int v3), (4, .int v4)] → W p l e (jm_rm 0 0 M M') s m args below meth c H locs cells slots (jm_MQ below g b (some (.int r)) M M' args s) (F0 m 5 ls []) := by
    intro a0 v1 v2 v3 v4 Mm10 xe5 Me5 hf hle5 hk5
    have J63 : ∀ (v4 : Int32) (t0 : Int32) (t1 : Int32) (t2 : Int32) (t3 : Int32) (Mm2 : Mem), (jf_X9_end_j63 N a0 v1 v2 v4 t0 t1 t2 t3).1 Mm2 = some (xe5, Me5) → ∀ (H : Heap) (locs : List Loc) (cells slots : Nat) (ls : Array Slot), jm_St g b M M' Mm2 s (jm_rm 0 0 M M') H locs cells slots → lv_has ls 5 [(0, va_rf (some a0)), (1, .int v1), (2, .int v2), (4, .int v4)] → W p l e (jm_rm 0 0 M M') s m args below meth c H locs cells slots (jm_MQ below g b (some (.int r)) M M' args s) (F0 m 63 ls [.int t3, .int t2, .int t1, .int t0]) := by
      intro v4 t0 t1 t2 t3 Mm2 hf H locs cells slots ls hst hl
      unfold jf_X9_end_j63 at hf
      refine lv_isub hx hb dX9_end_63 ?_
      refine lv_imul hx hb dX9_end_64 ?_
      refine lv_iadd hx hb dX9_end_65 ?_
      refine lv_istore_n (i := 3) (lv' := [(3, .int (t0 + (t1 * (t2 - t3)))), (0, va_rf (some a0)), (1, .int v1), (2, .int v2), (4, .int v4)]) hx hb dX9_end_66 rfl hl (by decide) rfl (fun ls hl => ?_)
      refine lv_iinc (i := 4) (v := (v4 + 1)) (lv' := [(4, .int (v4 + 1)), (3, .int (t0 + (t1 * (t2 - t3)))), (0, va_rf (some a0)), (1, .int v1), (2, .int v2)]) hx hb dX9_end_67 hl (k := 4) rfl (by rfl) (by decide) rfl (fun ls hl => ?_)
      refine lv_goto (tgt := 5) hx hb dX9_end_70 (by decide) ?_
      obtain ⟨rfl, rfl⟩ := jm_ret_some hf
      exact jm_or_l hk5 _ _ _ _ _ hst (lv_sub hl [2, 3, 4, 1, 0] rfl)
    have J44 : ∀ (v4 : Int32) (t0 : Int32) (t1 : Int32) (t2 : Int32) (Mm3 : Mem), (jf_X9_end_j44 N a0 v1 v2 v4 t0 t1 t2).1 Mm3 = some (xe5, Me5) → ∀ (H : Heap) (locs : List Loc) (cells slots : Nat) (ls : Array Slot), jm_St g b M M' Mm3 s (jm_rm 0 0 M M') H locs cells slots → lv_has ls 5 [(0, va_rf (some a0)), (1, .int v1), (2, .int v2), (4, .int v4)] → W p l e (jm_rm 0 0 M M') s m args below meth c H locs cells slots (jm_MQ below g b (some (.int r)) M M' args s) (F0 m 44 ls [.int t2, .int t1, .int t0]) := by
      intro v4 t0 t1 t2 Mm3 hf H locs cells slots ls hst hl
      unfold jf_X9_end_j44 at hf
      refine jw_aload_n (r := (some a0)) hx hb dX9_end_44 rfl (lv_at hl 0 rfl) ?_
      obtain ⟨x4, h5, hf⟩ := jm_rd_some hf
      refine jw_getR hx hb hts hown hK hst (fl_X9_15 hts hK) h5 dX9_end_45 ?_
      refine lv_iload hx hb dX9_end_48 (lv_at hl 3 rfl) ?_
      obtain ⟨x6, h7, hf⟩ := jm_rd_some hf
      refine jw_aald hx hb hK hst (show jm_ty[4]? = some (.object "ChainParts$EdgeCell") from rfl) rfl h7 dX9_end_50 ?_
      obtain ⟨x8, h9, hf⟩ := jm_rd_some hf
      refine jw_getI hx hb hts hown hK hst (fl_X9_74 hts hK) h9 dX9_end_51 ?_
      refine lv_iload_n hx hb dX9_end_54 rfl (lv_at hl 2 rfl) ?_
      refine lv_icmp_ne (tgt := 62) hx hb dX9_end_55 (by decide) (fun hc => ?_) (fun hc => ?_)
      · rw [if_neg hc] at hf
        refine lv_iconst (v := 0) hx hb dX9_end_62 (by decide) ?_
        exact J63 v4 t0 t1 t2 (0 : Int32) _ hf _ _ _ _ _ hst (lv_sub hl [0, 1, 2, 3] rfl)
      · rw [if_pos hc] at hf
        refine lv_iconst (v := 1) hx hb dX9_end_58 (by decide) ?_
        refine lv_goto (tgt := 63) hx hb dX9_end_59 (by decide) ?_
        exact J63 v4 t0 t1 t2 (1 : Int32) _ hf _ _ _ _ _ hst (lv_sub hl [0, 1, 2, 3] rfl)
    intro H locs cells slots ls hst hl
    unfold jf_X9_end_L5 at hf
    refine lv_iload hx hb dX9_end_5 (lv_at hl 4 rfl) ?_
    refine jw_aload_n (r := (some a0)) hx hb dX9_end_7 rfl (lv_at hl 0 rfl) ?_
    obtain ⟨x11, h12, hf⟩ := jm_rd_some hf
    refine jw_getR hx hb hts hown hK hst (fl_X9_15 hts hK) h12 dX9_end_8 ?_
    obtain ⟨x13, h14, hf⟩ := jm_rd_some hf
    refine jw_alen hx hb hK hst (show jm_ty[4]? = some (.object "ChainParts$EdgeCell") from rfl) h14 dX9_end_11 ?_
    refine lv_icmp_ge (tgt := 73) hx hb dX9_end_12 (by decide) (fun hc => ?_) (fun hc => ?_)
    · rw [if_pos hc] at hf
      obtain ⟨rfl, rfl⟩ := jm_ret_some hf
      exact jm_or_r hk5 _ _ _ _ _ hst (lv_sub hl [3] rfl)
    · rw [if_neg hc] at hf
      refine lv_iload_n hx hb dX9_end_15 rfl (lv_at hl 3 rfl) ?_
      refine jw_aload_n (r := (some a0)) hx hb dX9_end_16 rfl (lv_at hl 0 rfl) ?_
      obtain ⟨x15, h16, hf⟩ := jm_rd_some hf
      refine jw_getR hx hb hts hown hK hst (fl_X9_23 hts hK) h16 dX9_end_17 ?_
      refine lv_iload_n hx hb dX9_end_20 rfl (lv_at hl 1 rfl) ?_
      obtain ⟨x17, h18, hf⟩ := jm_rd_some hf
      refine jw_aald hx hb hK hst (show jm_ty[12]? = some (.array .int) from rfl) rfl h18 dX9_end_21 ?_
      refine lv_iload hx hb dX9_end_22 (lv_at hl 4 rfl) ?_
      obtain ⟨x19, h20, hf⟩ := jm_rd_some hf
      refine jw_iald hx hb hK hst h20 dX9_end_24 ?_
      refine jw_aload_n (r := (some a0)) hx hb dX9_end_25 rfl (lv_at hl 0 rfl) ?_
      obtain ⟨x21, h22, hf⟩ := jm_rd_some hf
      refine jw_getR hx hb hts hown hK hst (fl_X9_15 hts hK) h22 dX9_end_26 ?_
      refine lv_iload hx hb dX9_end_29 (lv_at hl 4 rfl) ?_
      obtain ⟨x23, h24, hf⟩ := jm_rd_some hf
      refine jw_aald hx hb hK hst (show jm_ty[4]? = some (.object "ChainParts$EdgeCell") from rfl) rfl h24 dX9_end_31 ?_
      obtain ⟨x25, h26, hf⟩ := jm_rd_some hf
      refine jw_getI hx hb hts hown hK hst (fl_X9_71 hts hK) h26 dX9_end_32 ?_
      refine lv_iload_n hx hb dX9_end_35 rfl (lv_at hl 2 rfl) ?_
      refine lv_icmp_ne (tgt := 43) hx hb dX9_end_36 (by decide) (fun hc => ?_) (fun hc => ?_)
      · rw [if_neg hc] at hf
        refine lv_iconst (v := 0) hx hb dX9_end_43 (by decide) ?_
        exact J44 v4 v3 x19 (0 : Int32) _ hf _ _ _ _ _ hst (lv_sub hl [0, 1, 2, 4] rfl)
      · rw [if_pos hc] at hf
        refine lv_iconst (v := 1) hx hb dX9_end_39 (by decide) ?_
        refine lv_goto (tgt := 44) hx hb dX9_end_40 (by decide) ?_
        exact J44 v4 v3 x19 (1 : Int32) _ hf _ _ _ _ _ hst (lv_sub hl [0, 1, 2, 4] rfl)
  unfold jf_X9_end at hf
  refine lv_iconst (v := 0) hx hb dX9_end_0 (by decide) ?_
  refine lv_istore_n (i := 3) (lv' := [(3, .int (0 : Int32)), (0, va_rf (some a0)), (1, .int v1), (2, .int v2)]) hx hb dX9_end_1 rfl hl (by decide) rfl (fun ls hl => ?_)
  refine lv_iconst (v := 0) hx hb dX9_end_2 (by decide) ?_
  refine lv_istore (i := 4) (lv' := [(4, .int (0 : Int32)), (3, .int (0 : Int32)), (0, va_rf (some a0)), (1, .int v1), (2, .int v2)]) hx hb dX9_end_3 hl (by decide) rfl (fun ls hl => ?_)
  obtain ⟨xl5, Ml5, hit5, hf⟩ := jm_bd_some hf
  have hlf5 : jm_le Ml5 M' := jm_le_tr (jm_mono hf) jm_le_rf
  have hwe5 : (fun (y : Int32) (Mz : Mem) => ∀ (H : Heap) (locs : List Loc) (cells slots : Nat) (ls : Array Slot), jm_St g b M M' Mz s (jm_rm 0 0 M M') H locs cells slots → lv_has ls 5 [(3, .int y)] → W p l e (jm_rm 0 0 M M') s m args below meth c H locs cells slots (jm_MQ below g b (some (.int r)) M M' args s) (F0 m 73 ls [])) xl5 Ml5 := fun H locs cells slots ls hst hl => K5_73 xl5 _ hf H locs cells slots ls hst hl
  refine jm_it_walk (Mf := M') (Wh := fun (z : Int32 × Int32) (Mz : Mem) => ∀ (H : Heap) (locs : List Loc) (cells slots : Nat) (ls : Array Slot), jm_St g b M M' Mz s (jm_rm 0 0 M M') H locs cells slots → lv_has ls 5 [(0, va_rf (some a0)), (1, .int v1), (2, .int v2), (3, .int z.1), (4, .int z.2)] → W p l e (jm_rm 0 0 M M') s m args below meth c H locs cells slots (jm_MQ below g b (some (.int r)) M M' args s) (F0 m 5 ls [])) (We := fun (y : Int32) (Mz : Mem) => ∀ (H : Heap) (locs : List Loc) (cells slots : Nat) (ls : Array Slot), jm_St g b M M' Mz s (jm_rm 0 0 M M') H locs cells slots → lv_has ls 5 [(3, .int y)] → W p l e (jm_rm 0 0 M M') s m args below meth c H locs cells slots (jm_MQ below g b (some (.int r)) M M' args s) (F0 m 73 ls [])) ?_ N ((0 : Int32), (0 : Int32)) M xl5 Ml5 hit5 hlf5 hwe5 _ _ _ _ _ hst (lv_sub hl [2, 3, 4, 1, 0] rfl)
  intro z Mm27 xe5 Me5 hf hle5 hk5 H locs cells slots ls hst hl
  obtain ⟨v3, v4⟩ := z
  have hf : (jf_X9_end_L5 N a0 v1 v2 v3 v4).1 Mm27 = some (xe5, Me5) := hf
  have hl : lv_has ls 5 [(0, va_rf (some a0)), (1, .int v1), (2, .int v2), (3, .int v3), (4, .int v4)] := hl
  exact B5 a0 v1 v2 v3 v4 _ _ _ hf hle5 hk5 _ _ _ _ _ hst (lv_sub hl [0, 1, 2, 3, 4] rfl)
theorem hd_X9_end : yX9_end.cls = RX9 ∧ yX9_end.cls ≠ "java/lang/invoke/MethodHandle" ∧ yX9_end.cls ≠ "java/lang/invoke/VarHandle" ∧ (parseMethodDescriptor yX9_end.desc).map (fun d => d.parameters.length) = some 2 := by decide +kernel
def jf_X9_isCycle_k4_35 (N : Nat) (v2 : Int32) : jm_P Int32 :=
  jm_rd (jm_ck (v2 = 0 ∨ v2 = 1)) fun _ =>
  jm_ret v2
def jf_X9_isCycle_j27 (N : Nat) (a0 : Nat) (v1 : Int32) (v3 : Int32) (t0 : Int32) (t1 : Int32) : jm_P ((Int32 × Int32) ⊕ Int32) :=
  jm_ret (.inl ((t0 &&& t1), (v3 + 1)))
def jf_X9_isCycle_L4 (N : Nat) (a0 : Nat) (v1 : Int32) (v2 : Int32) (v3 : Int32) : jm_P ((Int32 × Int32) ⊕ Int32) :=
  jm_rd (jm_fI [9] 0 (some a0)) fun x5 =>
  if x5 ≤ v3 then (
    jm_ret (.inr v2))
  else
    jm_rd (jm_cl 9 (some a0)) fun a10 =>
    jm_bd (jf_X9_end N a10 v1 v3) fun x7 =>
    if x7 = 0 then (
      jf_X9_isCycle_j27 N a0 v1 v3 v2 (1 : Int32))
    else
      jf_X9_isCycle_j27 N a0 v1 v3 v2 (0 : Int32)
def jf_X9_isCycle (N : Nat) (a0 : Nat) (v1 : Int32) : jm_P Int32 :=
  jm_bd (jm_it (fun z => jf_X9_isCycle_L4 N a0 v1 z.1 z.2) N ((1 : Int32), (0 : Int32))) fun y =>
  jf_X9_isCycle_k4_35 N y
set_option maxHeartbeats 4000000 in
set_option maxRecDepth 100000 in
theorem jt_X9_isCycle (l : Launch) (g : GD) (b N : Nat) (a0 : Nat) (v1 : Int32) (M M' : Mem) (r : Int32) (hf : (jf_X9_isCycle N a0 v1).1 M = some (r, M')) : jm_Met l g b yX9_isCycle (ws_ yX9_isCycle cX9_isCycle 4 (some .boolean)) 1 24 [va_rf (some a0), .int v1] M M' (some (.int r)) := by
  refine jm_start (by decide) (jm_mono hf) (by rw [lg_sl_r, lg_sl_i, lg_sl_n]; exact Nat.le_of_ble_eq_true rfl) ?_
  intro p e s m args below meth c ls C0 hin hK hst hl
  obtain ⟨hx, hb, hml, hown, hts, hr, hlk⟩ := id C0
  have hown : s.vm.findClass RX9 = some m.cls := hown
  have C0 : jm_Cx p s m args meth c cX9_isCycle 4 (some .boolean) RX9 := C0
  rw [lv_args_r, lv_args_i, lv_args_n] at hl
  have hl : lv_has ls 4 [(0, va_rf (some a0)), (1, .int v1)] := hl
  have K4_35 : ∀ (v2 : Int32) (Mm1 : Mem), (jf_X9_isCycle_k4_35 N v2).1 Mm1 = some (r, M') → ∀ (H : Heap) (locs : List Loc) (cells slots : Nat) (ls : Array Slot), jm_St g b M M' Mm1 s (jm_rm 1 24 M M') H locs cells slots → lv_has ls 4 [(2, .int v2)] → W p l e (jm_rm 1 24 M M') s m args below meth c H locs cells slots (jm_MQ below g b (some (.int r)) M M' args s) (F0 m 35 ls []) := by
    intro v2 Mm1 hf H locs cells slots ls hst hl
    unfold jf_X9_isCycle_k4_35 at hf
    refine lv_iload_n hx hb dX9_isCycle_35 rfl (lv_at hl 0 rfl) ?_
    obtain ⟨_, h2, hf⟩ := jm_rd_some hf
    obtain ⟨rfl, rfl⟩ := jm_ret_some hf
    exact jw_zret C0 (jm_ck_some h2) hst dX9_isCycle_36
  have B4 : ∀ (a0 : Nat) (v1 : Int32) (v2 : Int32) (v3 : Int32) (Mm4 : Mem) (xe4 : ((Int32 × Int32) ⊕ Int32)) (Me4 : Mem), (jf_X9_isCycle_L4 N a0 v1 v2 v3).1 Mm4 = some (xe4, Me4) → jm_le Me4 M' → (jm_or (fun (z : Int32 × Int32) => ∀ (H : Heap) (locs : List Loc) (cells slots : Nat) (ls : Array Slot), jm_St g b M M' Me4 s (jm_rm 1 24 M M') H locs cells slots → lv_has ls 4 [(0, va_rf (some a0)), (1, .int v1), (2, .int z.1), (3, .int z.2)] → W p l e (jm_rm 1 24 M M') s m args below meth c H locs cells slots (jm_MQ below g b (some (.int r)) M M' args s) (F0 m 4 ls [])) (fun (y : Int32) => ∀ (H : Heap) (locs : List Loc) (cells slots : Nat) (ls : Array Slot), jm_St g b M M' Me4 s (jm_rm 1 24 M M') H locs cells slots → lv_has ls 4 [(2, .int y)] → W p l e (jm_rm 1 24 M M') s m args below meth c H locs cells slots (jm_MQ below g b (some (.int r)) M M' args s) (F0 m 35 ls [])) xe4) → ∀ (H : Heap) (locs : List Loc) (cells slots : Nat) (ls : Array Slot), jm_St g b M M' Mm4 s (jm_rm 1 24 M M') H locs cells slots → lv_has ls 4 [(0, va_rf (some a0)), (1, .int v1), (2, .int v2), (3, .int v3)] → W p l e (jm_rm 1 24 M M') s m args below meth c H locs cells slots (jm_MQ below g b (some (.int r)) M M' args s) (F0 m 4 ls []) := by
    intro a0 v1 v2 v3 Mm4 xe4 Me4 hf hle4 hk4
    have J27 : ∀ (v3 : Int32) (t0 : Int32) (t1 : Int32) (Mm3 : Mem), (jf_X9_isCycle_j27 N a0 v1 v3 t0 t1).1 Mm3 = some (xe4, Me4) → ∀ (H : Heap) (locs : List Loc) (cells slots : Nat) (ls : Array Slot), jm_St g b M M' Mm3 s (jm_rm 1 24 M M') H locs cells slots → lv_has ls 4 [(0, va_rf (some a0)), (1, .int v1), (3, .int v3)] → W p l e (jm_rm 1 24 M M') s m args below meth c H locs cells slots (jm_MQ below g b (some (.int r)) M M' args s) (F0 m 27 ls [.int t1, .int t0]) := by
      intro v3 t0 t1 Mm3 hf H locs cells slots ls hst hl
      unfold jf_X9_isCycle_j27 at hf
      refine lv_iand hx hb dX9_isCycle_27 ?_
      refine lv_istore_n (i := 2) (lv' := [(2, .int (t0 &&& t1)), (0, va_rf (some a0)), (1, .int v1), (3, .int v3)]) hx hb dX9_isCycle_28 rfl hl (by decide) rfl (fun ls hl => ?_)
      refine lv_iinc (i := 3) (v := (v3 + 1)) (lv' := [(3, .int (v3 + 1)), (2, .int (t0 &&& t1)), (0, va_rf (some a0)), (1, .int v1)]) hx hb dX9_isCycle_29 hl (k := 3) rfl (by rfl) (by decide) rfl (fun ls hl => ?_)
      refine lv_goto (tgt := 4) hx hb dX9_isCycle_32 (by decide) ?_
      obtain ⟨rfl, rfl⟩ := jm_ret_some hf
      exact jm_or_l hk4 _ _ _ _ _ hst (lv_sub hl [2, 3, 1, 0] rfl)
    intro H locs cells slots ls hst hl
    unfold jf_X9_isCycle_L4 at hf
    refine lv_iload_n hx hb dX9_isCycle_4 rfl (lv_at hl 3 rfl) ?_
    refine jw_aload_n (r := (some a0)) hx hb dX9_isCycle_5 rfl (lv_at hl 0 rfl) ?_
    obtain ⟨x5, h6, hf⟩ := jm_rd_some hf
    refine jw_getI hx hb hts hown hK hst (fl_X9_9 hts hK) h6 dX9_isCycle_6 ?_
    refine lv_icmp_ge (tgt := 35) hx hb dX9_isCycle_9 (by decide) (fun hc => ?_) (fun hc => ?_)
    · rw [if_pos hc] at hf
      obtain ⟨rfl, rfl⟩ := jm_ret_some hf
      exact jm_or_r hk4 _ _ _ _ _ hst (lv_sub hl [2] rfl)
    · rw [if_neg hc] at hf
      refine lv_iload_n hx hb dX9_isCycle_12 rfl (lv_at hl 2 rfl) ?_
      refine jw_aload_n (r := (some a0)) hx hb dX9_isCycle_13 rfl (lv_at hl 0 rfl) ?_
      refine lv_iload_n hx hb dX9_isCycle_14 rfl (lv_at hl 1 rfl) ?_
      refine lv_iload_n hx hb dX9_isCycle_15 rfl (lv_at hl 3 rfl) ?_
      obtain ⟨a10, h11, hf⟩ := jm_rd_some hf
      obtain ⟨fsa10, hea10, hr12⟩ := jm_cl_some h11
      obtain ⟨x7, Mm8, h9, hf⟩ := jm_bd_some hf
      refine jw_V (As := [.int v1, .int v3]) (rest := [.int v2]) (C := RX9) (T := TX9) (N := 4) (rv := (some a0)) (jt_X9_end l g b N a10 v1 v3 Mm4 Mm8 x7 h9) C0 hK hst (jm_mono h9) (jm_le_tr (jm_mono hf) hle4) q790 q779 q780 q84 q781 hd_X9_end ⟨Nat.le_of_ble_eq_true rfl, Nat.le_of_ble_eq_true rfl⟩ hea10 hr12 rfl rfl hl.1 rfl (by rw [cs_i, cs_n]; exact Nat.le_of_ble_eq_true rfl) dX9_isCycle_16 (fun H locs cells slots hst => ?_)
      refine W.eq (g2 := F0 m 19 ls [.int x7, .int v2]) rfl ?_
      refine lv_if_ne (tgt := 26) hx hb dX9_isCycle_19 (by decide) (fun hc => ?_) (fun hc => ?_)
      · rw [if_neg hc] at hf
        refine lv_iconst (v := 0) hx hb dX9_isCycle_26 (by decide) ?_
        exact J27 v3 v2 (0 : Int32) _ hf _ _ _ _ _ hst (lv_sub hl [0, 1, 3] rfl)
      · rw [if_pos hc] at hf
        refine lv_iconst (v := 1) hx hb dX9_isCycle_22 (by decide) ?_
        refine lv_goto (tgt := 27) hx hb dX9_isCycle_23 (by decide) ?_
        exact J27 v3 v2 (1 : Int32) _ hf _ _ _ _ _ hst (lv_sub hl [0, 1, 3] rfl)
  unfold jf_X9_isCycle at hf
  refine lv_iconst (v := 1) hx hb dX9_isCycle_0 (by decide) ?_
  refine lv_istore_n (i := 2) (lv' := [(2, .int (1 : Int32)), (0, va_rf (some a0)), (1, .int v1)]) hx hb dX9_isCycle_1 rfl hl (by decide) rfl (fun ls hl => ?_)
  refine lv_iconst (v := 0) hx hb dX9_isCycle_2 (by decide) ?_
  refine lv_istore_n (i := 3) (lv' := [(3, .int (0 : Int32)), (2, .int (1 : Int32)), (0, va_rf (some a0)), (1, .int v1)]) hx hb dX9_isCycle_3 rfl hl (by decide) rfl (fun ls hl => ?_)
  obtain ⟨xl4, Ml4, hit4, hf⟩ := jm_bd_some hf
  have hlf4 : jm_le Ml4 M' := jm_le_tr (jm_mono hf) jm_le_rf
  have hwe4 : (fun (y : Int32) (Mz : Mem) => ∀ (H : Heap) (locs : List Loc) (cells slots : Nat) (ls : Array Slot), jm_St g b M M' Mz s (jm_rm 1 24 M M') H locs cells slots → lv_has ls 4 [(2, .int y)] → W p l e (jm_rm 1 24 M M') s m args below meth c H locs cells slots (jm_MQ below g b (some (.int r)) M M' args s) (F0 m 35 ls [])) xl4 Ml4 := fun H locs cells slots ls hst hl => K4_35 xl4 _ hf H locs cells slots ls hst hl
  refine jm_it_walk (Mf := M') (Wh := fun (z : Int32 × Int32) (Mz : Mem) => ∀ (H : Heap) (locs : List Loc) (cells slots : Nat) (ls : Array Slot), jm_St g b M M' Mz s (jm_rm 1 24 M M') H locs cells slots → lv_has ls 4 [(0, va_rf (some a0)), (1, .int v1), (2, .int z.1), (3, .int z.2)] → W p l e (jm_rm 1 24 M M') s m args below meth c H locs cells slots (jm_MQ below g b (some (.int r)) M M' args s) (F0 m 4 ls [])) (We := fun (y : Int32) (Mz : Mem) => ∀ (H : Heap) (locs : List Loc) (cells slots : Nat) (ls : Array Slot), jm_St g b M M' Mz s (jm_rm 1 24 M M') H locs cells slots → lv_has ls 4 [(2, .int y)] → W p l e (jm_rm 1 24 M M') s m args below meth c H locs cells slots (jm_MQ below g b (some (.int r)) M M' args s) (F0 m 35 ls [])) ?_ N ((1 : Int32), (0 : Int32)) M xl4 Ml4 hit4 hlf4 hwe4 _ _ _ _ _ hst (lv_sub hl [2, 3, 1, 0] rfl)
  intro z Mm13 xe4 Me4 hf hle4 hk4 H locs cells slots ls hst hl
  obtain ⟨v2, v3⟩ := z
  have hf : (jf_X9_isCycle_L4 N a0 v1 v2 v3).1 Mm13 = some (xe4, Me4) := hf
  have hl : lv_has ls 4 [(0, va_rf (some a0)), (1, .int v1), (2, .int v2), (3, .int v3)] := hl
  exact B4 a0 v1 v2 v3 _ _ _ hf hle4 hk4 _ _ _ _ _ hst (lv_sub hl [0, 1, 2, 3] rfl)
def jf_X9_column_k10_34 (N : Nat) (v2 : Option Nat) : jm_P (Option Nat) :=
  jm_ret v2
def jf_X9_column_L10 (N : Nat) (a0 : Nat) (v1 : Int32) (v2 : Option Nat) (v3 : Int32) : jm_P (Int32 ⊕ Unit) :=
  jm_rd (jm_len 2 v2) fun x10 =>
  if x10 ≤ v3 then (
    jm_ret (.inr ()))
  else
    jm_rd (jm_fR [9] 3 (some a0)) fun x12 =>
    jm_rd (jm_ldR 12 x12 v1) fun x14 =>
    jm_rd (jm_ldI 0 x14 v3) fun x16 =>
    jm_wr (jm_stJ 2 v2 v3 (x16.toInt64)) <|
    jm_ret (.inl (v3 + 1))
def jf_X9_column (N : Nat) (a0 : Nat) (v1 : Int32) : jm_P (Option Nat) :=
  jm_rd (jm_fR [9] 1 (some a0)) fun x2 =>
  jm_rd (jm_len 4 x2) fun x4 =>
  jm_rd (jm_ck (¬ x4 < 0 ∧ x4.toNatClampNeg ≤ 1000)) fun _ =>
  jm_al (.inl (2, x4.toNatClampNeg, .inr (.inl (fun _ => 0)))) fun q7 =>
  jm_bd (jm_it (fun z => jf_X9_column_L10 N a0 v1 (some q7) z) N (0 : Int32)) fun y =>
  jf_X9_column_k10_34 N (some q7)
set_option maxHeartbeats 4000000 in
set_option maxRecDepth 100000 in
theorem jt_X9_column (l : Launch) (g : GD) (b N : Nat) (a0 : Nat) (v1 : Int32) (M M' : Mem) (r : (Option Nat)) (hf : (jf_X9_column N a0 v1).1 M = some (r, M')) : jm_Met l g b yX9_column (ws_ yX9_column cX9_column 4 (some (.array .long))) 0 0 [va_rf (some a0), .int v1] M M' (some (va_rf r)) := by
  refine jm_start (by decide) (jm_mono hf) (by rw [lg_sl_r, lg_sl_i, lg_sl_n]; exact Nat.le_of_ble_eq_true rfl) ?_
  intro p e s m args below meth c ls C0 hin hK hst hl
  obtain ⟨hx, hb, hml, hown, hts, hr, hlk⟩ := id C0
  have hown : s.vm.findClass RX9 = some m.cls := hown
  have C0 : jm_Cx p s m args meth c cX9_column 4 (some (.array .long)) RX9 := C0
  rw [lv_args_r, lv_args_i, lv_args_n] at hl
  have hl : lv_has ls 4 [(0, va_rf (some a0)), (1, .int v1)] := hl
  have K10_34 : ∀ (v2 : Option Nat) (Mm1 : Mem), (jf_X9_column_k10_34 N v2).1 Mm1 = some (r, M') → ∀ (H : Heap) (locs : List Loc) (cells slots : Nat) (ls : Array Slot), jm_St g b M M' Mm1 s (jm_rm 0 0 M M') H locs cells slots → lv_has ls 4 [(2, va_rf v2)] → W p l e (jm_rm 0 0 M M') s m args below meth c H locs cells slots (jm_MQ below g b (some (va_rf r)) M M' args s) (F0 m 34 ls []) := by
    intro v2 Mm1 hf H locs cells slots ls hst hl
    unfold jf_X9_column_k10_34 at hf
    refine jw_aload_n (r := v2) hx hb dX9_column_34 rfl (lv_at hl 0 rfl) ?_
    obtain ⟨rfl, rfl⟩ := jm_ret_some hf
    exact jw_aret C0 (Or.inr ⟨_, rfl⟩) hst dX9_column_35
  have B10 : ∀ (a0 : Nat) (v1 : Int32) (v2 : Option Nat) (v3 : Int32) (Mm9 : Mem) (xe10 : (Int32 ⊕ Unit)) (Me10 : Mem), (jf_X9_column_L10 N a0 v1 v2 v3).1 Mm9 = some (xe10, Me10) → jm_le Me10 M' → (jm_or (fun (z : Int32) => ∀ (H : Heap) (locs : List Loc) (cells slots : Nat) (ls : Array Slot), jm_St g b M M' Me10 s (jm_rm 0 0 M M') H locs cells slots → lv_has ls 4 [(0, va_rf (some a0)), (1, .int v1), (2, va_rf v2), (3, .int z)] → W p l e (jm_rm 0 0 M M') s m args below meth c H locs cells slots (jm_MQ below g b (some (va_rf r)) M M' args s) (F0 m 10 ls [])) (fun (y : Unit) => ∀ (H : Heap) (locs : List Loc) (cells slots : Nat) (ls : Array Slot), jm_St g b M M' Me10 s (jm_rm 0 0 M M') H locs cells slots → lv_has ls 4 [(2, va_rf v2)] → W p l e (jm_rm 0 0 M M') s m args below meth c H locs cells slots (jm_MQ below g b (some (va_rf r)) M M' args s) (F0 m 34 ls [])) xe10) → ∀ (H : Heap) (locs : List Loc) (cells slots : Nat) (ls : Array Slot), jm_St g b M M' Mm9 s (jm_rm 0 0 M M') H locs cells slots → lv_has ls 4 [(0, va_rf (some a0)), (1, .int v1), (2, va_rf v2), (3, .int v3)] → W p l e (jm_rm 0 0 M M') s m args below meth c H locs cells slots (jm_MQ below g b (some (va_rf r)) M M' args s) (F0 m 10 ls []) := by
    intro a0 v1 v2 v3 Mm9 xe10 Me10 hf hle10 hk10
    intro H locs cells slots ls hst hl
    unfold jf_X9_column_L10 at hf
    refine lv_iload_n hx hb dX9_column_10 rfl (lv_at hl 3 rfl) ?_
    refine jw_aload_n (r := v2) hx hb dX9_column_11 rfl (lv_at hl 2 rfl) ?_
    obtain ⟨x10, h11, hf⟩ := jm_rd_some hf
    refine jw_alen hx hb hK hst (show jm_ty[2]? = some .long from rfl) h11 dX9_column_12 ?_
    refine lv_icmp_ge (tgt := 34) hx hb dX9_column_13 (by decide) (fun hc => ?_) (fun hc => ?_)
    · rw [if_pos hc] at hf
      obtain ⟨rfl, rfl⟩ := jm_ret_some hf
      exact jm_or_r hk10 _ _ _ _ _ hst (lv_sub hl [2] rfl)
    · rw [if_neg hc] at hf
      refine jw_aload_n (r := v2) hx hb dX9_column_16 rfl (lv_at hl 2 rfl) ?_
      refine lv_iload_n hx hb dX9_column_17 rfl (lv_at hl 3 rfl) ?_
      refine jw_aload_n (r := (some a0)) hx hb dX9_column_18 rfl (lv_at hl 0 rfl) ?_
      obtain ⟨x12, h13, hf⟩ := jm_rd_some hf
      refine jw_getR hx hb hts hown hK hst (fl_X9_23 hts hK) h13 dX9_column_19 ?_
      refine lv_iload_n hx hb dX9_column_22 rfl (lv_at hl 1 rfl) ?_
      obtain ⟨x14, h15, hf⟩ := jm_rd_some hf
      refine jw_aald hx hb hK hst (show jm_ty[12]? = some (.array .int) from rfl) rfl h15 dX9_column_23 ?_
      refine lv_iload_n hx hb dX9_column_24 rfl (lv_at hl 3 rfl) ?_
      obtain ⟨x16, h17, hf⟩ := jm_rd_some hf
      refine jw_iald hx hb hK hst h17 dX9_column_25 ?_
      refine lv_i2l hx hb dX9_column_26 rfl ?_
      obtain ⟨F18, h19, hf⟩ := jm_wr_some hf
      refine jw_last (r := v2) hx hb hK hst h19 dX9_column_27 (fun H locs hst => ?_)
      generalize ((Mm9.1, Mm9.2.1, F18) : Mem) = Mm20 at hf hst
      refine lv_iinc (i := 3) (v := (v3 + 1)) (lv' := [(3, .int (v3 + 1)), (0, va_rf (some a0)), (1, .int v1), (2, va_rf v2)]) hx hb dX9_column_28 hl (k := 3) rfl (by rfl) (by decide) (by simp [va_rf_cat, cat_i, cat_j, cat_f]) (fun ls hl => ?_)
      refine lv_goto (tgt := 10) hx hb dX9_column_31 (by decide) ?_
      obtain ⟨rfl, rfl⟩ := jm_ret_some hf
      exact jm_or_l hk10 _ _ _ _ _ hst (lv_sub hl [1, 2, 3, 0] rfl)
  unfold jf_X9_column at hf
  refine jw_aload_n (r := (some a0)) hx hb dX9_column_0 rfl (lv_at hl 0 rfl) ?_
  obtain ⟨x2, h3, hf⟩ := jm_rd_some hf
  refine jw_getR hx hb hts hown hK hst (fl_X9_15 hts hK) h3 dX9_column_1 ?_
  obtain ⟨x4, h5, hf⟩ := jm_rd_some hf
  refine jw_alen hx hb hK hst (show jm_ty[4]? = some (.object "ChainParts$EdgeCell") from rfl) h5 dX9_column_4 ?_
  obtain ⟨_, h6, hf⟩ := jm_rd_some hf
  have h6 := jm_ck_some h6
  obtain ⟨q7, hq7, hf⟩ := jm_al_some hf
  refine jw_newa (kd := 2) (ty := .long) (atype := .long) (a0 := (x4.toNatClampNeg, .inr (.inl (fun _ => 0)))) hx hb (hts _ q637) rfl hK hst rfl (fun _ => rfl) rfl (fun h => h) h6.1 rfl (Nat.le_trans (Nat.mul_le_mul_right _ h6.2) (by decide)) (jm_le_tr (jm_mono hf) jm_le_rf) hq7 dX9_column_5 (fun H cells slots hst => ?_)
  generalize jm_new (.inl (2, x4.toNatClampNeg, .inr (.inl (fun _ => 0)))) M = Mm8 at hf hst
  refine jw_astore_n (i := 2) (r := (some q7)) (lv' := [(2, va_rf (some q7)), (0, va_rf (some a0)), (1, .int v1)]) hx hb dX9_column_7 rfl hl (by decide) rfl (fun ls hl => ?_)
  refine lv_iconst (v := 0) hx hb dX9_column_8 (by decide) ?_
  refine lv_istore_n (i := 3) (lv' := [(3, .int (0 : Int32)), (2, va_rf (some q7)), (0, va_rf (some a0)), (1, .int v1)]) hx hb dX9_column_9 rfl hl (by decide) (by simp [va_rf_cat, cat_i, cat_j, cat_f]) (fun ls hl => ?_)
  obtain ⟨xl10, Ml10, hit10, hf⟩ := jm_bd_some hf
  have hlf10 : jm_le Ml10 M' := jm_le_tr (jm_mono hf) jm_le_rf
  have hwe10 : (fun (y : Unit) (Mz : Mem) => ∀ (H : Heap) (locs : List Loc) (cells slots : Nat) (ls : Array Slot), jm_St g b M M' Mz s (jm_rm 0 0 M M') H locs cells slots → lv_has ls 4 [(2, va_rf (some q7))] → W p l e (jm_rm 0 0 M M') s m args below meth c H locs cells slots (jm_MQ below g b (some (va_rf r)) M M' args s) (F0 m 34 ls [])) xl10 Ml10 := fun H locs cells slots ls hst hl => K10_34 (some q7) _ hf H locs cells slots ls hst hl
  refine jm_it_walk (Mf := M') (Wh := fun (z : Int32) (Mz : Mem) => ∀ (H : Heap) (locs : List Loc) (cells slots : Nat) (ls : Array Slot), jm_St g b M M' Mz s (jm_rm 0 0 M M') H locs cells slots → lv_has ls 4 [(0, va_rf (some a0)), (1, .int v1), (2, va_rf (some q7)), (3, .int z)] → W p l e (jm_rm 0 0 M M') s m args below meth c H locs cells slots (jm_MQ below g b (some (va_rf r)) M M' args s) (F0 m 10 ls [])) (We := fun (y : Unit) (Mz : Mem) => ∀ (H : Heap) (locs : List Loc) (cells slots : Nat) (ls : Array Slot), jm_St g b M M' Mz s (jm_rm 0 0 M M') H locs cells slots → lv_has ls 4 [(2, va_rf (some q7))] → W p l e (jm_rm 0 0 M M') s m args below meth c H locs cells slots (jm_MQ below g b (some (va_rf r)) M M' args s) (F0 m 34 ls [])) ?_ N (0 : Int32) Mm8 xl10 Ml10 hit10 hlf10 hwe10 _ _ _ _ _ hst (lv_sub hl [2, 3, 1, 0] rfl)
  intro v3 Mm21 xe10 Me10 hf hle10 hk10 H locs cells slots ls hst hl
  have hf : (jf_X9_column_L10 N a0 v1 (some q7) v3).1 Mm21 = some (xe10, Me10) := hf
  have hl : lv_has ls 4 [(0, va_rf (some a0)), (1, .int v1), (2, va_rf (some q7)), (3, .int v3)] := hl
  exact B10 a0 v1 (some q7) v3 _ _ _ hf hle10 hk10 _ _ _ _ _ hst (lv_sub hl [0, 1, 2, 3] rfl)
theorem hd_X9_column : yX9_column.cls = RX9 ∧ yX9_column.cls ≠ "java/lang/invoke/MethodHandle" ∧ yX9_column.cls ≠ "java/lang/invoke/VarHandle" ∧ (parseMethodDescriptor yX9_column.desc).map (fun d => d.parameters.length) = some 1 := by decide +kernel
def jf_X9_order_k25_123 (N : Nat) (v4 : Int64) : jm_P Int32 :=
  jm_ret (v4.toInt32)
def jf_X9_order_j117 (N : Nat) (v2 : Option Nat) (v3 : Int32) (v4 : Int64) (v6 : Int32) : jm_P ((Int64 × Int32) ⊕ (Unit ⊕ Int64)) :=
  jm_ret (.inl (v4, (v6 + 1)))
def jf_X9_order_j66 (N : Nat) (v2 : Option Nat) (v3 : Int32) (v4 : Int64) (v6 : Int32) (v7 : Int64) : jm_P ((Int64 × Int32) ⊕ (Unit ⊕ Int64)) :=
  if v6 < v3 then (
    jm_rd (jm_fR [11] 0 v2) fun x29 =>
    jm_rd (jm_ldR 13 x29 v6) fun x31 =>
    jm_rd (jm_ldJ 2 x31 v6) fun x33 =>
    jm_lt (if 0 < x33 then x33 else -x33) fun x35 =>
    jm_bd (jf_X0_common N x35 v7) fun x36 =>
    jm_rd (jm_ck (¬ x36 = 0)) fun _ =>
    jm_bd (jf_X0_common N v4 (x35 / x36)) fun x40 =>
    jm_rd (jm_ck (¬ x40 = 0)) fun _ =>
    jf_X9_order_j117 N v2 v3 ((v4 / x40) * (x35 / x36)) v6)
  else
    jf_X9_order_j117 N v2 v3 v4 v6
def jf_X9_order_k25_63 (N : Nat)  : jm_P Int32 :=
  jm_ret (-1000000 : Int32)
def jf_X9_order_L25 (N : Nat) (v2 : Option Nat) (v3 : Int32) (v4 : Int64) (v6 : Int32) : jm_P ((Int64 × Int32) ⊕ (Unit ⊕ Int64)) :=
  jm_rd (jm_fI [11] 1 v2) fun x45 =>
  if x45 ≤ v6 then (
    jm_ret (.inr (.inr v4)))
  else
    jm_rd (jm_fR [11] 0 v2) fun x47 =>
    jm_rd (jm_ldR 13 x47 v6) fun x49 =>
    jm_rd (jm_fI [11] 2 v2) fun x51 =>
    jm_rd (jm_ldJ 2 x49 (x51 - (1 : Int32))) fun x53 =>
    if v6 < v3 then (
      jf_X9_order_j66 N v2 v3 v4 v6 x53)
    else
      if x53 = (0 : Int64) then (
        jf_X9_order_j66 N v2 v3 v4 v6 x53)
      else
        jm_ret (.inr (.inl ()))
def jf_X9_order (N : Nat) (a0 : Nat) (v1 : Int32) : jm_P Int32 :=
  jm_rd (jm_cl 9 (some a0)) fun a6 =>
  jm_bd (jf_X9_table N a6 (2 : Int32)) fun x3 =>
  jm_rd (jm_cl 9 (some a0)) fun a12 =>
  jm_bd (jf_X9_column N a12 v1) fun x9 =>
  jm_rd (jm_cl 11 x3) fun a18 =>
  jm_bd (jf_X11_and N a18 x9) fun x15 =>
  jm_rd (jm_cl 11 x15) fun a24 =>
  jm_bd (jf_X11_diagonal N a24 ) fun x21 =>
  jm_bd (jm_it (fun z => jf_X9_order_L25 N x15 x21 z.1 z.2) N ((1 : Int64), (0 : Int32))) fun y =>
  match y with
  | .inl y => jf_X9_order_k25_63 N 
  | .inr y => jf_X9_order_k25_123 N y
set_option maxHeartbeats 4000000 in
set_option maxRecDepth 100000 in
theorem jt_X9_order (l : Launch) (g : GD) (b N : Nat) (a0 : Nat) (v1 : Int32) (M M' : Mem) (r : Int32) (hf : (jf_X9_order N a0 v1).1 M = some (r, M')) : jm_Met l g b yX9_order (ws_ yX9_order cX9_order 11 (some .int)) 3 90 [va_rf (some a0), .int v1] M M' (some (.int r)) := by
  refine jm_start (by decide) (jm_mono hf) (by rw [lg_sl_r, lg_sl_i, lg_sl_n]; exact Nat.le_of_ble_eq_true rfl) ?_
  intro p e s m args below meth c ls C0 hin hK hst hl
  obtain ⟨hx, hb, hml, hown, hts, hr, hlk⟩ := id C0
  have hown : s.vm.findClass RX9 = some m.cls := hown
  have C0 : jm_Cx p s m args meth c cX9_order 11 (some .int) RX9 := C0
  rw [lv_args_r, lv_args_i, lv_args_n] at hl
  have hl : lv_has ls 11 [(0, va_rf (some a0)), (1, .int v1)] := hl
  have K25_123 : ∀ (v4 : Int64) (Mm1 : Mem), (jf_X9_order_k25_123 N v4).1 Mm1 = some (r, M') → ∀ (H : Heap) (locs : List Loc) (cells slots : Nat) (ls : Array Slot), jm_St g b M M' Mm1 s (jm_rm 3 90 M M') H locs cells slots → lv_has ls 11 [(4, .long v4)] → W p l e (jm_rm 3 90 M M') s m args below meth c H locs cells slots (jm_MQ below g b (some (.int r)) M M' args s) (F0 m 123 ls []) := by
    intro v4 Mm1 hf H locs cells slots ls hst hl
    unfold jf_X9_order_k25_123 at hf
    refine lv_lload hx hb dX9_order_123 (lv_at hl 0 rfl) ?_
    refine lv_l2i hx hb dX9_order_125 rfl ?_
    obtain ⟨rfl, rfl⟩ := jm_ret_some hf
    exact jw_iret C0 hst dX9_order_126
  have K25_63 : ∀  (Mm2 : Mem), (jf_X9_order_k25_63 N).1 Mm2 = some (r, M') → ∀ (H : Heap) (locs : List Loc) (cells slots : Nat) (ls : Array Slot), jm_St g b M M' Mm2 s (jm_rm 3 90 M M') H locs cells slots → lv_has ls 11 [] → W p l e (jm_rm 3 90 M M') s m args below meth c H locs cells slots (jm_MQ below g b (some (.int r)) M M' args s) (F0 m 63 ls []) := by
    intro  Mm2 hf H locs cells slots ls hst hl
    unfold jf_X9_order_k25_63 at hf
    refine lv_ldc hx hb hown (hts _ q801) dX9_order_63 ?_
    obtain ⟨rfl, rfl⟩ := jm_ret_some hf
    exact jw_iret C0 hst dX9_order_65
  have B25 : ∀ (v2 : Option Nat) (v3 : Int32) (v4 : Int64) (v6 : Int32) (Mm44 : Mem) (xe25 : ((Int64 × Int32) ⊕ (Unit ⊕ Int64))) (Me25 : Mem), (jf_X9_order_L25 N v2 v3 v4 v6).1 Mm44 = some (xe25, Me25) → jm_le Me25 M' → (jm_or (fun (z : Int64 × Int32) => ∀ (H : Heap) (locs : List Loc) (cells slots : Nat) (ls : Array Slot), jm_St g b M M' Me25 s (jm_rm 3 90 M M') H locs cells slots → lv_has ls 11 [(2, va_rf v2), (3, .int v3), (4, .long z.1), (6, .int z.2)] → W p l e (jm_rm 3 90 M M') s m args below meth c H locs cells slots (jm_MQ below g b (some (.int r)) M M' args s) (F0 m 25 ls [])) (jm_or (fun (y : Unit) => ∀ (H : Heap) (locs : List Loc) (cells slots : Nat) (ls : Array Slot), jm_St g b M M' Me25 s (jm_rm 3 90 M M') H locs cells slots → lv_has ls 11 [] → W p l e (jm_rm 3 90 M M') s m args below meth c H locs cells slots (jm_MQ below g b (some (.int r)) M M' args s) (F0 m 63 ls [])) (fun (y : Int64) => ∀ (H : Heap) (locs : List Loc) (cells slots : Nat) (ls : Array Slot), jm_St g b M M' Me25 s (jm_rm 3 90 M M') H locs cells slots → lv_has ls 11 [(4, .long y)] → W p l e (jm_rm 3 90 M M') s m args below meth c H locs cells slots (jm_MQ below g b (some (.int r)) M M' args s) (F0 m 123 ls []))) xe25) → ∀ (H : Heap) (locs : List Loc) (cells slots : Nat) (ls : Array Slot), jm_St g b M M' Mm44 s (jm_rm 3 90 M M') H locs cells slots → lv_has ls 11 [(2, va_rf v2), (3, .int v3), (4, .long v4), (6, .int v6)] → W p l e (jm_rm 3 90 M M') s m args below meth c H locs cells slots (jm_MQ below g b (some (.int r)) M M' args s) (F0 m 25 ls []) := by
    intro v2 v3 v4 v6 Mm44 xe25 Me25 hf hle25 hk25
    have J117 : ∀ (v4 : Int64) (v6 : Int32) (Mm27 : Mem), (jf_X9_order_j117 N v2 v3 v4 v6).1 Mm27 = some (xe25, Me25) → ∀ (H : Heap) (locs : List Loc) (cells slots : Nat) (ls : Array Slot), jm_St g b M M' Mm27 s (jm_rm 3 90 M M') H locs cells slots → lv_has ls 11 [(2, va_rf v2), (3, .int v3), (4, .long v4), (6, .int v6)] → W p l e (jm_rm 3 90 M M') s m args below meth c H locs cells slots (jm_MQ below g b (some (.int r)) M M' args s) (F0 m 117 ls []) := by
      intro v4 v6 Mm27 hf H locs cells slots ls hst hl
      unfold jf_X9_order_j117 at hf
      refine lv_iinc (i := 6) (v := (v6 + 1)) (lv' := [(6, .int (v6 + 1)), (2, va_rf v2), (3, .int v3), (4, .long v4)]) hx hb dX9_order_117 hl (k := 3) rfl (by rfl) (by decide) rfl (fun ls hl => ?_)
      refine lv_goto (tgt := 25) hx hb dX9_order_120 (by decide) ?_
      obtain ⟨rfl, rfl⟩ := jm_ret_some hf
      exact jm_or_l hk25 _ _ _ _ _ hst (lv_sub hl [1, 2, 3, 0] rfl)
    have J66 : ∀ (v4 : Int64) (v6 : Int32) (v7 : Int64) (Mm28 : Mem), (jf_X9_order_j66 N v2 v3 v4 v6 v7).1 Mm28 = some (xe25, Me25) → ∀ (H : Heap) (locs : List Loc) (cells slots : Nat) (ls : Array Slot), jm_St g b M M' Mm28 s (jm_rm 3 90 M M') H locs cells slots → lv_has ls 11 [(2, va_rf v2), (3, .int v3), (4, .long v4), (6, .int v6), (7, .long v7)] → W p l e (jm_rm 3 90 M M') s m args below meth c H locs cells slots (jm_MQ below g b (some (.int r)) M M' args s) (F0 m 66 ls []) := by
      intro v4 v6 v7 Mm28 hf H locs cells slots ls hst hl
      unfold jf_X9_order_j66 at hf
      refine lv_iload hx hb dX9_order_66 (lv_at hl 3 rfl) ?_
      refine lv_iload_n hx hb dX9_order_68 rfl (lv_at hl 1 rfl) ?_
      refine lv_icmp_lt (tgt := 75) hx hb dX9_order_69 (by decide) (fun hc => ?_) (fun hc => ?_)
      · rw [if_pos hc] at hf
        refine jw_aload_n (r := v2) hx hb dX9_order_75 rfl (lv_at hl 0 rfl) ?_
        obtain ⟨x29, h30, hf⟩ := jm_rd_some hf
        refine jw_getR hx hb hts hown hK hst (fl_X9_67 hts hK) h30 dX9_order_76 ?_
        refine lv_iload hx hb dX9_order_79 (lv_at hl 3 rfl) ?_
        obtain ⟨x31, h32, hf⟩ := jm_rd_some hf
        refine jw_aald hx hb hK hst (show jm_ty[13]? = some (.array .long) from rfl) rfl h32 dX9_order_81 ?_
        refine lv_iload hx hb dX9_order_82 (lv_at hl 3 rfl) ?_
        obtain ⟨x33, h34, hf⟩ := jm_rd_some hf
        refine jw_lald hx hb hK hst h34 dX9_order_84 ?_
        refine jw_abs (rest := []) hx hb hml hl.1 hown hts q802 hst (jm_le_tr (jm_mono hf) hle25) (Nat.le_of_ble_eq_true rfl) (by rw [cs_n]; exact Nat.le_of_ble_eq_true rfl) dX9_order_85 ?_
        obtain ⟨x35, ex35, hf⟩ := jm_lt_some hf
        rw [← ex35]
        refine lv_lstore (i := 9) (lv' := [(9, .long x35), (2, va_rf v2), (3, .int v3), (4, .long v4), (6, .int v6), (7, .long v7)]) hx hb dX9_order_88 hl (by decide) rfl (fun ls hl => ?_)
        refine lv_lload hx hb dX9_order_90 (lv_at hl 0 rfl) ?_
        refine lv_lload hx hb dX9_order_92 (lv_at hl 0 rfl) ?_
        refine lv_lload hx hb dX9_order_94 (lv_at hl 5 rfl) ?_
        obtain ⟨x36, Mm37, h38, hf⟩ := jm_bd_some hf
        refine jw_SN (As := [.long x35, .long v7]) (rest := [.long x35]) (jt_X0_common l g b N x35 v7 Mm28 Mm37 x36 h38) C0 hK hst (jm_mono h38) (jm_le_tr (jm_mono hf) hle25) nq803 q765 q72 q766 hd_X0_common.2 ⟨Nat.le_of_ble_eq_true rfl, Nat.le_of_ble_eq_true rfl⟩ rfl hl.1 rfl (by rw [cs_j, cs_n]; exact Nat.le_of_ble_eq_true rfl) dX9_order_96 (fun H locs cells slots hst => ?_)
        refine W.eq (g2 := F0 m 99 ls [.long x36, .long x35]) rfl ?_
        obtain ⟨_, h39, hf⟩ := jm_rd_some hf
        refine lv_ldiv hx hb dX9_order_99 (jm_ck_some h39) ?_
        refine lv_lstore (i := 9) (lv' := [(9, .long (x35 / x36)), (2, va_rf v2), (3, .int v3), (4, .long v4), (6, .int v6), (7, .long v7)]) hx hb dX9_order_100 hl (by decide) rfl (fun ls hl => ?_)
        refine lv_lload hx hb dX9_order_102 (lv_at hl 3 rfl) ?_
        refine lv_lload hx hb dX9_order_104 (lv_at hl 3 rfl) ?_
        refine lv_lload hx hb dX9_order_106 (lv_at hl 0 rfl) ?_
        obtain ⟨x40, Mm41, h42, hf⟩ := jm_bd_some hf
        refine jw_SN (As := [.long v4, .long (x35 / x36)]) (rest := [.long v4]) (jt_X0_common l g b N v4 (x35 / x36) Mm37 Mm41 x40 h42) C0 hK hst (jm_mono h42) (jm_le_tr (jm_mono hf) hle25) nq803 q765 q72 q766 hd_X0_common.2 ⟨Nat.le_of_ble_eq_true rfl, Nat.le_of_ble_eq_true rfl⟩ rfl hl.1 rfl (by rw [cs_j, cs_n]; exact Nat.le_of_ble_eq_true rfl) dX9_order_108 (fun H locs cells slots hst => ?_)
        refine W.eq (g2 := F0 m 111 ls [.long x40, .long v4]) rfl ?_
        obtain ⟨_, h43, hf⟩ := jm_rd_some hf
        refine lv_ldiv hx hb dX9_order_111 (jm_ck_some h43) ?_
        refine lv_lload hx hb dX9_order_112 (lv_at hl 0 rfl) ?_
        refine lv_lmul hx hb dX9_order_114 ?_
        refine lv_lstore (i := 4) (lv' := [(4, .long ((v4 / x40) * (x35 / x36))), (9, .long (x35 / x36)), (2, va_rf v2), (3, .int v3), (6, .int v6), (7, .long v7)]) hx hb dX9_order_115 hl (by decide) rfl (fun ls hl => ?_)
        exact J117 ((v4 / x40) * (x35 / x36)) v6 _ hf _ _ _ _ _ hst (lv_sub hl [2, 3, 0, 4] rfl)
      · rw [if_neg hc] at hf
        refine lv_goto (tgt := 117) hx hb dX9_order_72 (by decide) ?_
        exact J117 v4 v6 _ hf _ _ _ _ _ hst (lv_sub hl [0, 1, 2, 3] rfl)
    intro H locs cells slots ls hst hl
    unfold jf_X9_order_L25 at hf
    refine lv_iload hx hb dX9_order_25 (lv_at hl 3 rfl) ?_
    refine jw_aload_n (r := v2) hx hb dX9_order_27 rfl (lv_at hl 0 rfl) ?_
    obtain ⟨x45, h46, hf⟩ := jm_rd_some hf
    refine jw_getI hx hb hts hown hK hst (fl_X9_77 hts hK) h46 dX9_order_28 ?_
    refine lv_icmp_ge (tgt := 123) hx hb dX9_order_31 (by decide) (fun hc => ?_) (fun hc => ?_)
    · rw [if_pos hc] at hf
      obtain ⟨rfl, rfl⟩ := jm_ret_some hf
      exact jm_or_r (jm_or_r hk25) _ _ _ _ _ hst (lv_sub hl [2] rfl)
    · rw [if_neg hc] at hf
      refine jw_aload_n (r := v2) hx hb dX9_order_34 rfl (lv_at hl 0 rfl) ?_
      obtain ⟨x47, h48, hf⟩ := jm_rd_some hf
      refine jw_getR hx hb hts hown hK hst (fl_X9_67 hts hK) h48 dX9_order_35 ?_
      refine lv_iload hx hb dX9_order_38 (lv_at hl 3 rfl) ?_
      obtain ⟨x49, h50, hf⟩ := jm_rd_some hf
      refine jw_aald hx hb hK hst (show jm_ty[13]? = some (.array .long) from rfl) rfl h50 dX9_order_40 ?_
      refine jw_aload_n (r := v2) hx hb dX9_order_41 rfl (lv_at hl 0 rfl) ?_
      obtain ⟨x51, h52, hf⟩ := jm_rd_some hf
      refine jw_getI hx hb hts hown hK hst (fl_X9_64 hts hK) h52 dX9_order_42 ?_
      refine lv_iconst (v := 1) hx hb dX9_order_45 (by decide) ?_
      refine lv_isub hx hb dX9_order_46 ?_
      obtain ⟨x53, h54, hf⟩ := jm_rd_some hf
      refine jw_lald hx hb hK hst h54 dX9_order_47 ?_
      refine lv_lstore (i := 7) (lv' := [(7, .long x53), (2, va_rf v2), (3, .int v3), (4, .long v4), (6, .int v6)]) hx hb dX9_order_48 hl (by decide) rfl (fun ls hl => ?_)
      refine lv_iload hx hb dX9_order_50 (lv_at hl 4 rfl) ?_
      refine lv_iload_n hx hb dX9_order_52 rfl (lv_at hl 2 rfl) ?_
      refine lv_icmp_lt (tgt := 66) hx hb dX9_order_53 (by decide) (fun hc => ?_) (fun hc => ?_)
      · rw [if_pos hc] at hf
        exact J66 v4 v6 x53 _ hf _ _ _ _ _ hst (lv_sub hl [1, 2, 3, 4, 0] rfl)
      · rw [if_neg hc] at hf
        refine lv_lload hx hb dX9_order_56 (lv_at hl 0 rfl) ?_
        refine lv_lconst (v := 0) hx hb dX9_order_58 (by decide) ?_
        refine W.lcmp hx hb dX9_order_59 ?_
        refine lv_if_eq (tgt := 66) hx hb dX9_order_60 (by decide) (fun hc => ?_) (fun hc => ?_)
        · replace hc := (lg_cmp_eq _ _).mp hc
          rw [if_pos hc] at hf
          exact J66 v4 v6 x53 _ hf _ _ _ _ _ hst (lv_sub hl [1, 2, 3, 4, 0] rfl)
        · replace hc := fun q => hc ((lg_cmp_eq _ _).mpr q)
          rw [if_neg hc] at hf
          obtain ⟨rfl, rfl⟩ := jm_ret_some hf
          exact jm_or_l (jm_or_r hk25) _ _ _ _ _ hst (lv_sub hl [] rfl)
  unfold jf_X9_order at hf
  refine jw_aload_n (r := (some a0)) hx hb dX9_order_0 rfl (lv_at hl 0 rfl) ?_
  refine lv_iconst (v := 2) hx hb dX9_order_1 (by decide) ?_
  obtain ⟨a6, h7, hf⟩ := jm_rd_some hf
  obtain ⟨fsa6, hea6, hr8⟩ := jm_cl_some h7
  obtain ⟨x3, Mm4, h5, hf⟩ := jm_bd_some hf
  refine jw_V (As := [.int (2 : Int32)]) (rest := []) (C := RX9) (T := TX9) (N := 4) (rv := (some a0)) (jt_X9_table l g b N a6 (2 : Int32) M Mm4 x3 h5) C0 hK hst (jm_mono h5) (jm_le_tr (jm_mono hf) jm_le_rf) q647 q612 q613 q84 q614 hd_X9_table ⟨Nat.le_of_ble_eq_true rfl, Nat.le_of_ble_eq_true rfl⟩ hea6 hr8 rfl rfl hl.1 rfl (by rw [cs_n]; exact Nat.le_of_ble_eq_true rfl) dX9_order_2 (fun H locs cells slots hst => ?_)
  refine W.eq (g2 := F0 m 5 ls [va_rf x3]) rfl ?_
  refine jw_aload_n (r := (some a0)) hx hb dX9_order_5 rfl (lv_at hl 0 rfl) ?_
  refine lv_iload_n hx hb dX9_order_6 rfl (lv_at hl 1 rfl) ?_
  obtain ⟨a12, h13, hf⟩ := jm_rd_some hf
  obtain ⟨fsa12, hea12, hr14⟩ := jm_cl_some h13
  obtain ⟨x9, Mm10, h11, hf⟩ := jm_bd_some hf
  refine jw_V (As := [.int v1]) (rest := [va_rf x3]) (C := RX9) (T := TX9) (N := 4) (rv := (some a0)) (jt_X9_column l g b N a12 v1 Mm4 Mm10 x9 h11) C0 hK hst (jm_mono h11) (jm_le_tr (jm_mono hf) jm_le_rf) q795 q796 q797 q84 q798 hd_X9_column ⟨Nat.le_of_ble_eq_true rfl, Nat.le_of_ble_eq_true rfl⟩ hea12 hr14 rfl rfl hl.1 rfl (by rw [cs_r, cs_n]; exact Nat.le_of_ble_eq_true rfl) dX9_order_7 (fun H locs cells slots hst => ?_)
  refine W.eq (g2 := F0 m 10 ls [va_rf x9, va_rf x3]) rfl ?_
  obtain ⟨a18, h19, hf⟩ := jm_rd_some hf
  obtain ⟨fsa18, hea18, hr20⟩ := jm_cl_some h19
  obtain ⟨x15, Mm16, h17, hf⟩ := jm_bd_some hf
  refine jw_V (As := [va_rf x9]) (rest := []) (C := RX11) (T := TX11) (N := 3) (rv := x3) (jt_X11_and l g b N a18 x9 Mm10 Mm16 x15 h17) C0 hK hst (jm_mono h17) (jm_le_tr (jm_mono hf) jm_le_rf) q799 q691 q692 q90 q693 hd_X11_and ⟨Nat.le_of_ble_eq_true rfl, Nat.le_of_ble_eq_true rfl⟩ hea18 hr20 rfl rfl hl.1 rfl (by rw [cs_n]; exact Nat.le_of_ble_eq_true rfl) dX9_order_10 (fun H locs cells slots hst => ?_)
  refine W.eq (g2 := F0 m 13 ls [va_rf x15]) rfl ?_
  refine jw_astore_n (i := 2) (r := x15) (lv' := [(2, va_rf x15), (0, va_rf (some a0)), (1, .int v1)]) hx hb dX9_order_13 rfl hl (by decide) rfl (fun ls hl => ?_)
  refine jw_aload_n (r := x15) hx hb dX9_order_14 rfl (lv_at hl 0 rfl) ?_
  obtain ⟨a24, h25, hf⟩ := jm_rd_some hf
  obtain ⟨fsa24, hea24, hr26⟩ := jm_cl_some h25
  obtain ⟨x21, Mm22, h23, hf⟩ := jm_bd_some hf
  refine jw_V (As := []) (rest := []) (C := RX11) (T := TX11) (N := 3) (rv := x15) (jt_X11_diagonal l g b N a24  Mm16 Mm22 x21 h23) C0 hK hst (jm_mono h23) (jm_le_tr (jm_mono hf) jm_le_rf) q800 q696 q697 q90 q698 hd_X11_diagonal ⟨Nat.le_of_ble_eq_true rfl, Nat.le_of_ble_eq_true rfl⟩ hea24 hr26 rfl rfl hl.1 rfl (by rw [cs_n]; exact Nat.le_of_ble_eq_true rfl) dX9_order_15 (fun H locs cells slots hst => ?_)
  refine W.eq (g2 := F0 m 18 ls [.int x21]) rfl ?_
  refine lv_istore_n (i := 3) (lv' := [(3, .int x21), (2, va_rf x15), (0, va_rf (some a0)), (1, .int v1)]) hx hb dX9_order_18 rfl hl (by decide) (by simp [va_rf_cat, cat_i, cat_j, cat_f]) (fun ls hl => ?_)
  refine lv_lconst (v := 1) hx hb dX9_order_19 (by decide) ?_
  refine lv_lstore (i := 4) (lv' := [(4, .long (1 : Int64)), (3, .int x21), (2, va_rf x15), (0, va_rf (some a0)), (1, .int v1)]) hx hb dX9_order_20 hl (by decide) rfl (fun ls hl => ?_)
  refine lv_iconst (v := 0) hx hb dX9_order_22 (by decide) ?_
  refine lv_istore (i := 6) (lv' := [(6, .int (0 : Int32)), (4, .long (1 : Int64)), (3, .int x21), (2, va_rf x15), (0, va_rf (some a0)), (1, .int v1)]) hx hb dX9_order_23 hl (by decide) rfl (fun ls hl => ?_)
  obtain ⟨xl25, Ml25, hit25, hf⟩ := jm_bd_some hf
  have hlf25 : jm_le Ml25 M' := jm_le_tr (jm_mono hf) jm_le_rf
  have hwe25 : (fun (y : (Unit ⊕ Int64)) (Mz : Mem) => jm_or (fun (y : Unit) => ∀ (H : Heap) (locs : List Loc) (cells slots : Nat) (ls : Array Slot), jm_St g b M M' Mz s (jm_rm 3 90 M M') H locs cells slots → lv_has ls 11 [] → W p l e (jm_rm 3 90 M M') s m args below meth c H locs cells slots (jm_MQ below g b (some (.int r)) M M' args s) (F0 m 63 ls [])) (fun (y : Int64) => ∀ (H : Heap) (locs : List Loc) (cells slots : Nat) (ls : Array Slot), jm_St g b M M' Mz s (jm_rm 3 90 M M') H locs cells slots → lv_has ls 11 [(4, .long y)] → W p l e (jm_rm 3 90 M M') s m args below meth c H locs cells slots (jm_MQ below g b (some (.int r)) M M' args s) (F0 m 123 ls [])) y) xl25 Ml25 := by
    cases xl25 with
    | inl y0 => exact fun H locs cells slots ls hst hl => K25_63  _ hf H locs cells slots ls hst hl
    | inr y0 =>
      exact fun H locs cells slots ls hst hl => K25_123 y0 _ hf H locs cells slots ls hst hl
  refine jm_it_walk (Mf := M') (Wh := fun (z : Int64 × Int32) (Mz : Mem) => ∀ (H : Heap) (locs : List Loc) (cells slots : Nat) (ls : Array Slot), jm_St g b M M' Mz s (jm_rm 3 90 M M') H locs cells slots → lv_has ls 11 [(2, va_rf x15), (3, .int x21), (4, .long z.1), (6, .int z.2)] → W p l e (jm_rm 3 90 M M') s m args below meth c H locs cells slots (jm_MQ below g b (some (.int r)) M M' args s) (F0 m 25 ls [])) (We := fun (y : (Unit ⊕ Int64)) (Mz : Mem) => jm_or (fun (y : Unit) => ∀ (H : Heap) (locs : List Loc) (cells slots : Nat) (ls : Array Slot), jm_St g b M M' Mz s (jm_rm 3 90 M M') H locs cells slots → lv_has ls 11 [] → W p l e (jm_rm 3 90 M M') s m args below meth c H locs cells slots (jm_MQ below g b (some (.int r)) M M' args s) (F0 m 63 ls [])) (fun (y : Int64) => ∀ (H : Heap) (locs : List Loc) (cells slots : Nat) (ls : Array Slot), jm_St g b M M' Mz s (jm_rm 3 90 M M') H locs cells slots → lv_has ls 11 [(4, .long y)] → W p l e (jm_rm 3 90 M M') s m args below meth c H locs cells slots (jm_MQ below g b (some (.int r)) M M' args s) (F0 m 123 ls [])) y) ?_ N ((1 : Int64), (0 : Int32)) Mm22 xl25 Ml25 hit25 hlf25 hwe25 _ _ _ _ _ hst (lv_sub hl [3, 2, 1, 0] rfl)
  intro z Mm55 xe25 Me25 hf hle25 hk25 H locs cells slots ls hst hl
  obtain ⟨v4, v6⟩ := z
  have hf : (jf_X9_order_L25 N x15 x21 v4 v6).1 Mm55 = some (xe25, Me25) := hf
  have hl : lv_has ls 11 [(2, va_rf x15), (3, .int x21), (4, .long v4), (6, .int v6)] := hl
  exact B25 x15 x21 v4 v6 _ _ _ hf hle25 hk25 _ _ _ _ _ hst (lv_sub hl [0, 1, 2, 3] rfl)
def jf_X9_product_k6_62 (N : Nat) (v5 : Int64) : jm_P Int64 :=
  jm_ret v5
def jf_X9_product_L6 (N : Nat) (a0 : Nat) (v1 : Option Nat) (v2 : Int32) (v3 : Option Nat) (v4 : Int32) (v5 : Int64) (v7 : Int32) : jm_P ((Int64 × Int32) ⊕ Int64) :=
  jm_rd (jm_fR [9] 1 (some a0)) fun x3 =>
  jm_rd (jm_len 4 x3) fun x5 =>
  if x5 ≤ v7 then (
    jm_ret (.inr v5))
  else
    jm_rd (jm_fR [11] 0 v1) fun x7 =>
    jm_rd (jm_ldR 13 x7 v7) fun x9 =>
    jm_rd (jm_ldJ 2 x9 v2) fun x11 =>
    jm_rd (jm_fR [11] 0 v3) fun x13 =>
    jm_rd (jm_ldR 13 x13 v7) fun x15 =>
    jm_rd (jm_ldJ 2 x15 v4) fun x17 =>
    jm_rd (jm_fR [9] 1 (some a0)) fun x19 =>
    jm_rd (jm_ldR 4 x19 v7) fun x21 =>
    jm_rd (jm_fI [5, 6] 2 x21) fun x23 =>
    jm_rd (jm_ck (¬ x23 = 0)) fun _ =>
    jm_ret (.inl ((v5 + ((x11 * x17) * (((6 : Int32) / x23).toInt64))), (v7 + 1)))
def jf_X9_product (N : Nat) (a0 : Nat) (v1 : Option Nat) (v2 : Int32) (v3 : Option Nat) (v4 : Int32) : jm_P Int64 :=
  jm_bd (jm_it (fun z => jf_X9_product_L6 N a0 v1 v2 v3 v4 z.1 z.2) N ((0 : Int64), (0 : Int32))) fun y =>
  jf_X9_product_k6_62 N y
set_option maxHeartbeats 4000000 in
set_option maxRecDepth 100000 in
theorem jt_X9_product (l : Launch) (g : GD) (b N : Nat) (a0 : Nat) (v1 : Option Nat) (v2 : Int32) (v3 : Option Nat) (v4 : Int32) (M M' : Mem) (r : Int64) (hf : (jf_X9_product N a0 v1 v2 v3 v4).1 M = some (r, M')) : jm_Met l g b yX9_product (ws_ yX9_product cX9_product 8 (some .long)) 0 0 [va_rf (some a0), va_rf v1, .int v2, va_rf v3, .int v4] M M' (some (.long r)) := by
  refine jm_start (by decide) (jm_mono hf) (by rw [lg_sl_r, lg_sl_r, lg_sl_i, lg_sl_r, lg_sl_i, lg_sl_n]; exact Nat.le_of_ble_eq_true rfl) ?_
  intro p e s m args below meth c ls C0 hin hK hst hl
  obtain ⟨hx, hb, hml, hown, hts, hr, hlk⟩ := id C0
  have hown : s.vm.findClass RX9 = some m.cls := hown
  have C0 : jm_Cx p s m args meth c cX9_product 8 (some .long) RX9 := C0
  rw [lv_args_r, lv_args_r, lv_args_i, lv_args_r, lv_args_i, lv_args_n] at hl
  have hl : lv_has ls 8 [(0, va_rf (some a0)), (1, va_rf v1), (2, .int v2), (3, va_rf v3), (4, .int v4)] := hl
  have K6_62 : ∀ (v5 : Int64) (Mm1 : Mem), (jf_X9_product_k6_62 N v5).1 Mm1 = some (r, M') → ∀ (H : Heap) (locs : List Loc) (cells slots : Nat) (ls : Array Slot), jm_St g b M M' Mm1 s (jm_rm 0 0 M M') H locs cells slots → lv_has ls 8 [(5, .long v5)] → W p l e (jm_rm 0 0 M M') s m args below meth c H locs cells slots (jm_MQ below g b (some (.long r)) M M' args s) (F0 m 62 ls []) := by
    intro v5 Mm1 hf H locs cells slots ls hst hl
    unfold jf_X9_product_k6_62 at hf
    refine lv_lload hx hb dX9_product_62 (lv_at hl 0 rfl) ?_
    obtain ⟨rfl, rfl⟩ := jm_ret_some hf
    exact jw_lret C0 hst dX9_product_64
  have B6 : ∀ (a0 : Nat) (v1 : Option Nat) (v2 : Int32) (v3 : Option Nat) (v4 : Int32) (v5 : Int64) (v7 : Int32) (Mm2 : Mem) (xe6 : ((Int64 × Int32) ⊕ Int64)) (Me6 : Mem), (jf_X9_product_L6 N a0 v1 v2 v3 v4 v5 v7).1 Mm2 = some (xe6, Me6) → jm_le Me6 M' → (jm_or (fun (z : Int64 × Int32) => ∀ (H : Heap) (locs : List Loc) (cells slots : Nat) (ls : Array Slot), jm_St g b M M' Me6 s (jm_rm 0 0 M M') H locs cells slots → lv_has ls 8 [(0, va_rf (some a0)), (1, va_rf v1), (2, .int v2), (3, va_rf v3), (4, .int v4), (5, .long z.1), (7, .int z.2)] → W p l e (jm_rm 0 0 M M') s m args below meth c H locs cells slots (jm_MQ below g b (some (.long r)) M M' args s) (F0 m 6 ls [])) (fun (y : Int64) => ∀ (H : Heap) (locs : List Loc) (cells slots : Nat) (ls : Array Slot), jm_St g b M M' Me6 s (jm_rm 0 0 M M') H locs cells slots → lv_has ls 8 [(5, .long y)] → W p l e (jm_rm 0 0 M M') s m args below meth c H locs cells slots (jm_MQ below g b (some (.long r)) M M' args s) (F0 m 62 ls [])) xe6) → ∀ (H : Heap) (locs : List Loc) (cells slots : Nat) (ls : Array Slot), jm_St g b M M' Mm2 s (jm_rm 0 0 M M') H locs cells slots → lv_has ls 8 [(0, va_rf (some a0)), (1, va_rf v1), (2, .int v2), (3, va_rf v3), (4, .int v4), (5, .long v5), (7, .int v7)] → W p l e (jm_rm 0 0 M M') s m args below meth c H locs cells slots (jm_MQ below g b (some (.long r)) M M' args s) (F0 m 6 ls []) := by
    intro a0 v1 v2 v3 v4 v5 v7 Mm2 xe6 Me6 hf hle6 hk6
    intro H locs cells slots ls hst hl
    unfold jf_X9_product_L6 at hf
    refine lv_iload hx hb dX9_product_6 (lv_at hl 6 rfl) ?_
    refine jw_aload_n (r := (some a0)) hx hb dX9_product_8 rfl (lv_at hl 0 rfl) ?_
    obtain ⟨x3, h4, hf⟩ := jm_rd_some hf
    refine jw_getR hx hb hts hown hK hst (fl_X9_15 hts hK) h4 dX9_product_9 ?_
    obtain ⟨x5, h6, hf⟩ := jm_rd_some hf
    refine jw_alen hx hb hK hst (show jm_ty[4]? = some (.object "ChainParts$EdgeCell") from rfl) h6 dX9_product_12 ?_
    refine lv_icmp_ge (tgt := 62) hx hb dX9_product_13 (by decide) (fun hc => ?_) (fun hc => ?_)
    · rw [if_pos hc] at hf
      obtain ⟨rfl, rfl⟩ := jm_ret_some hf
      exact jm_or_r hk6 _ _ _ _ _ hst (lv_sub hl [5] rfl)
    · rw [if_neg hc] at hf
      refine lv_lload hx hb dX9_product_16 (lv_at hl 5 rfl) ?_
      refine jw_aload_n (r := v1) hx hb dX9_product_18 rfl (lv_at hl 1 rfl) ?_
      obtain ⟨x7, h8, hf⟩ := jm_rd_some hf
      refine jw_getR hx hb hts hown hK hst (fl_X9_67 hts hK) h8 dX9_product_19 ?_
      refine lv_iload hx hb dX9_product_22 (lv_at hl 6 rfl) ?_
      obtain ⟨x9, h10, hf⟩ := jm_rd_some hf
      refine jw_aald hx hb hK hst (show jm_ty[13]? = some (.array .long) from rfl) rfl h10 dX9_product_24 ?_
      refine lv_iload_n hx hb dX9_product_25 rfl (lv_at hl 2 rfl) ?_
      obtain ⟨x11, h12, hf⟩ := jm_rd_some hf
      refine jw_lald hx hb hK hst h12 dX9_product_26 ?_
      refine jw_aload_n (r := v3) hx hb dX9_product_27 rfl (lv_at hl 3 rfl) ?_
      obtain ⟨x13, h14, hf⟩ := jm_rd_some hf
      refine jw_getR hx hb hts hown hK hst (fl_X9_67 hts hK) h14 dX9_product_28 ?_
      refine lv_iload hx hb dX9_product_31 (lv_at hl 6 rfl) ?_
      obtain ⟨x15, h16, hf⟩ := jm_rd_some hf
      refine jw_aald hx hb hK hst (show jm_ty[13]? = some (.array .long) from rfl) rfl h16 dX9_product_33 ?_
      refine lv_iload hx hb dX9_product_34 (lv_at hl 4 rfl) ?_
      obtain ⟨x17, h18, hf⟩ := jm_rd_some hf
      refine jw_lald hx hb hK hst h18 dX9_product_36 ?_
      refine lv_lmul hx hb dX9_product_37 ?_
      refine lv_bipush (v := 6) hx hb dX9_product_38 (by decide) ?_
      refine jw_aload_n (r := (some a0)) hx hb dX9_product_40 rfl (lv_at hl 0 rfl) ?_
      obtain ⟨x19, h20, hf⟩ := jm_rd_some hf
      refine jw_getR hx hb hts hown hK hst (fl_X9_15 hts hK) h20 dX9_product_41 ?_
      refine lv_iload hx hb dX9_product_44 (lv_at hl 6 rfl) ?_
      obtain ⟨x21, h22, hf⟩ := jm_rd_some hf
      refine jw_aald hx hb hK hst (show jm_ty[4]? = some (.object "ChainParts$EdgeCell") from rfl) rfl h22 dX9_product_46 ?_
      obtain ⟨x23, h24, hf⟩ := jm_rd_some hf
      refine jw_getI hx hb hts hown hK hst (fl_X9_84 hts hK) h24 dX9_product_47 ?_
      obtain ⟨_, h25, hf⟩ := jm_rd_some hf
      refine lv_idiv hx hb dX9_product_50 (jm_ck_some h25) ?_
      refine lv_i2l hx hb dX9_product_51 rfl ?_
      refine lv_lmul hx hb dX9_product_52 ?_
      refine lv_ladd hx hb dX9_product_53 ?_
      refine lv_lstore (i := 5) (lv' := [(5, .long (v5 + ((x11 * x17) * (((6 : Int32) / x23).toInt64)))), (0, va_rf (some a0)), (1, va_rf v1), (2, .int v2), (3, va_rf v3), (4, .int v4), (7, .int v7)]) hx hb dX9_product_54 hl (by decide) rfl (fun ls hl => ?_)
      refine lv_iinc (i := 7) (v := (v7 + 1)) (lv' := [(7, .int (v7 + 1)), (5, .long (v5 + ((x11 * x17) * (((6 : Int32) / x23).toInt64)))), (0, va_rf (some a0)), (1, va_rf v1), (2, .int v2), (3, va_rf v3), (4, .int v4)]) hx hb dX9_product_56 hl (k := 6) rfl (by rfl) (by decide) rfl (fun ls hl => ?_)
      refine lv_goto (tgt := 6) hx hb dX9_product_59 (by decide) ?_
      obtain ⟨rfl, rfl⟩ := jm_ret_some hf
      exact jm_or_l hk6 _ _ _ _ _ hst (lv_sub hl [2, 3, 4, 5, 6, 1, 0] rfl)
  unfold jf_X9_product at hf
  refine lv_lconst (v := 0) hx hb dX9_product_0 (by decide) ?_
  refine lv_lstore (i := 5) (lv' := [(5, .long (0 : Int64)), (0, va_rf (some a0)), (1, va_rf v1), (2, .int v2), (3, va_rf v3), (4, .int v4)]) hx hb dX9_product_1 hl (by decide) rfl (fun ls hl => ?_)
  refine lv_iconst (v := 0) hx hb dX9_product_3 (by decide) ?_
  refine lv_istore (i := 7) (lv' := [(7, .int (0 : Int32)), (5, .long (0 : Int64)), (0, va_rf (some a0)), (1, va_rf v1), (2, .int v2), (3, va_rf v3), (4, .int v4)]) hx hb dX9_product_4 hl (by decide) rfl (fun ls hl => ?_)
  obtain ⟨xl6, Ml6, hit6, hf⟩ := jm_bd_some hf
  have hlf6 : jm_le Ml6 M' := jm_le_tr (jm_mono hf) jm_le_rf
  have hwe6 : (fun (y : Int64) (Mz : Mem) => ∀ (H : Heap) (locs : List Loc) (cells slots : Nat) (ls : Array Slot), jm_St g b M M' Mz s (jm_rm 0 0 M M') H locs cells slots → lv_has ls 8 [(5, .long y)] → W p l e (jm_rm 0 0 M M') s m args below meth c H locs cells slots (jm_MQ below g b (some (.long r)) M M' args s) (F0 m 62 ls [])) xl6 Ml6 := fun H locs cells slots ls hst hl => K6_62 xl6 _ hf H locs cells slots ls hst hl
  refine jm_it_walk (Mf := M') (Wh := fun (z : Int64 × Int32) (Mz : Mem) => ∀ (H : Heap) (locs : List Loc) (cells slots : Nat) (ls : Array Slot), jm_St g b M M' Mz s (jm_rm 0 0 M M') H locs cells slots → lv_has ls 8 [(0, va_rf (some a0)), (1, va_rf v1), (2, .int v2), (3, va_rf v3), (4, .int v4), (5, .long z.1), (7, .int z.2)] → W p l e (jm_rm 0 0 M M') s m args below meth c H locs cells slots (jm_MQ below g b (some (.long r)) M M' args s) (F0 m 6 ls [])) (We := fun (y : Int64) (Mz : Mem) => ∀ (H : Heap) (locs : List Loc) (cells slots : Nat) (ls : Array Slot), jm_St g b M M' Mz s (jm_rm 0 0 M M') H locs cells slots → lv_has ls 8 [(5, .long y)] → W p l e (jm_rm 0 0 M M') s m args below meth c H locs cells slots (jm_MQ below g b (some (.long r)) M M' args s) (F0 m 62 ls [])) ?_ N ((0 : Int64), (0 : Int32)) M xl6 Ml6 hit6 hlf6 hwe6 _ _ _ _ _ hst (lv_sub hl [2, 3, 4, 5, 6, 1, 0] rfl)
  intro z Mm26 xe6 Me6 hf hle6 hk6 H locs cells slots ls hst hl
  obtain ⟨v5, v7⟩ := z
  have hf : (jf_X9_product_L6 N a0 v1 v2 v3 v4 v5 v7).1 Mm26 = some (xe6, Me6) := hf
  have hl : lv_has ls 8 [(0, va_rf (some a0)), (1, va_rf v1), (2, .int v2), (3, va_rf v3), (4, .int v4), (5, .long v5), (7, .int v7)] := hl
  exact B6 a0 v1 v2 v3 v4 v5 v7 _ _ _ hf hle6 hk6 _ _ _ _ _ hst (lv_sub hl [0, 1, 2, 3, 4, 5, 6] rfl)
theorem hd_X11_determinant : yX11_determinant.cls = RX11 ∧ yX11_determinant.cls ≠ "java/lang/invoke/MethodHandle" ∧ yX11_determinant.cls ≠ "java/lang/invoke/VarHandle" ∧ (parseMethodDescriptor yX11_determinant.desc).map (fun d => d.parameters.length) = some 0 := by decide +kernel
theorem hd_X9_product : yX9_product.cls = RX9 ∧ yX9_product.cls ≠ "java/lang/invoke/MethodHandle" ∧ yX9_product.cls ≠ "java/lang/invoke/VarHandle" ∧ (parseMethodDescriptor yX9_product.desc).map (fun d => d.parameters.length) = some 4 := by decide +kernel
def jf_X9_along_k305_340 (N : Nat) (v10 : Option Nat) : jm_P (Option Nat) :=
  jm_ret v10
def jf_X9_along_L305 (N : Nat) (a0 : Nat) (v7 : Int64) (v9 : Option Nat) (v10 : Option Nat) (v11 : Int32) : jm_P (Int32 ⊕ Unit) :=
  jm_rd (jm_fR [9] 1 (some a0)) fun x11 =>
  jm_rd (jm_len 4 x11) fun x13 =>
  if x13 ≤ v11 then (
    jm_ret (.inr ()))
  else
    jm_al (.inr (12, [.long 0, .long 0])) fun q15 =>
    jm_rd (jm_ldJ 2 v9 v11) fun x17 =>
    jm_bd (jf_X12_init N q15 x17 v7) fun x19 =>
    jm_wr (jm_stR 11 [12] none v10 v11 (some q15)) <|
    jm_ret (.inl (v11 + 1))
def jf_X9_along_k180_292 (N : Nat) (a0 : Nat) (v7 : Int64) (v9 : Option Nat) : jm_P (Option Nat) :=
  jm_rd (jm_fR [9] 1 (some a0)) fun x3 =>
  jm_rd (jm_len 4 x3) fun x5 =>
  jm_rd (jm_ck (¬ x5 < 0 ∧ x5.toNatClampNeg ≤ 1000)) fun _ =>
  jm_al (.inl (11, x5.toNatClampNeg, .inr (.inr (.inr (.inr (fun _ => none)))))) fun q8 =>
  jm_bd (jm_it (fun z => jf_X9_along_L305 N a0 v7 v9 (some q8) z) N (0 : Int32)) fun y =>
  jf_X9_along_k305_340 N (some q8)
def jf_X9_along_k248_286 (N : Nat) (a0 : Nat) (v4 : Option Nat) (v5 : Option Nat) (v6 : Option Nat) (v7 : Int64) (v9 : Option Nat) (v10 : Int32) : jm_P (Int32 ⊕ Unit) :=
  jm_ret (.inl (v10 + 1))
def jf_X9_along_L248 (N : Nat) (a0 : Nat) (v4 : Option Nat) (v5 : Option Nat) (v6 : Option Nat) (v7 : Int64) (v9 : Option Nat) (v10 : Int32) (v12 : Int64) (v14 : Int32) : jm_P (Int32 ⊕ Unit) :=
  jm_rd (jm_fR [9] 1 (some a0)) fun x49 =>
  jm_rd (jm_len 4 x49) fun x51 =>
  if x51 ≤ v14 then (
    jm_ret (.inr ()))
  else
    jm_rd (jm_ldJ 2 v9 v14) fun x53 =>
    jm_rd (jm_fR [11] 0 v4) fun x55 =>
    jm_rd (jm_ldR 13 x55 v14) fun x57 =>
    jm_rd (jm_ldJ 2 x57 v10) fun x59 =>
    jm_wr (jm_stJ 2 v9 v14 (x53 + (x59 * v12))) <|
    jm_ret (.inl (v14 + 1))
def jf_X9_along_k200_238 (N : Nat) (a0 : Nat) (v4 : Option Nat) (v5 : Option Nat) (v6 : Option Nat) (v7 : Int64) (v9 : Option Nat) (v10 : Int32) (v11 : Option Nat) : jm_P (Int32 ⊕ Unit) :=
  jm_rd (jm_cl 11 v11) fun a45 =>
  jm_bd (jf_X11_determinant N a45 ) fun x42 =>
  jm_bd (jm_it (fun z => jf_X9_along_L248 N a0 v4 v5 v6 v7 v9 v10 x42 z) N (0 : Int32)) fun y =>
  jf_X9_along_k248_286 N a0 v4 v5 v6 v7 v9 v10
def jf_X9_along_L200 (N : Nat) (a0 : Nat) (v4 : Option Nat) (v5 : Option Nat) (v6 : Option Nat) (v7 : Int64) (v9 : Option Nat) (v10 : Int32) (v11 : Option Nat) (v12 : Int32) : jm_P (Int32 ⊕ Unit) :=
  jm_rd (jm_fI [11] 2 v4) fun x75 =>
  if x75 ≤ v12 then (
    jm_ret (.inr ()))
  else
    jm_rd (jm_fR [11] 0 v11) fun x77 =>
    jm_rd (jm_ldR 13 x77 v12) fun x79 =>
    jm_rd (jm_cl 9 (some a0)) fun a84 =>
    jm_bd (jf_X9_product N a84 v4 v12 v5 (0 : Int32)) fun x81 =>
    jm_wr (jm_stJ 2 x79 v10 x81) <|
    jm_ret (.inl (v12 + 1))
def jf_X9_along_L180 (N : Nat) (a0 : Nat) (v4 : Option Nat) (v5 : Option Nat) (v6 : Option Nat) (v7 : Int64) (v9 : Option Nat) (v10 : Int32) : jm_P (Int32 ⊕ Unit) :=
  jm_rd (jm_fI [11] 2 v4) fun x66 =>
  if x66 ≤ v10 then (
    jm_ret (.inr ()))
  else
    jm_rd (jm_cl 11 v6) fun a71 =>
    jm_bd (jf_X11_like N a71 ) fun x68 =>
    jm_bd (jm_it (fun z => jf_X9_along_L200 N a0 v4 v5 v6 v7 v9 v10 x68 z) N (0 : Int32)) fun y =>
    jf_X9_along_k200_238 N a0 v4 v5 v6 v7 v9 v10 x68
def jf_X9_along_k103_161 (N : Nat) (a0 : Nat) (v4 : Option Nat) (v5 : Option Nat) (v6 : Option Nat) : jm_P (Option Nat) :=
  jm_rd (jm_cl 11 v6) fun a30 =>
  jm_bd (jf_X11_determinant N a30 ) fun x27 =>
  jm_rd (jm_fR [9] 1 (some a0)) fun x33 =>
  jm_rd (jm_len 4 x33) fun x35 =>
  jm_rd (jm_ck (¬ x35 < 0 ∧ x35.toNatClampNeg ≤ 1000)) fun _ =>
  jm_al (.inl (2, x35.toNatClampNeg, .inr (.inl (fun _ => 0)))) fun q38 =>
  jm_bd (jm_it (fun z => jf_X9_along_L180 N a0 v4 v5 v6 x27 (some q38) z) N (0 : Int32)) fun y =>
  jf_X9_along_k180_292 N a0 x27 (some q38)
def jf_X9_along_k116_155 (N : Nat) (a0 : Nat) (v4 : Option Nat) (v5 : Option Nat) (v6 : Option Nat) (v7 : Int32) : jm_P (Int32 ⊕ Unit) :=
  jm_ret (.inl (v7 + 1))
def jf_X9_along_L116 (N : Nat) (a0 : Nat) (v4 : Option Nat) (v5 : Option Nat) (v6 : Option Nat) (v7 : Int32) (v8 : Int32) : jm_P (Int32 ⊕ Unit) :=
  jm_rd (jm_fI [11] 2 v4) fun x134 =>
  if x134 ≤ v8 then (
    jm_ret (.inr ()))
  else
    jm_rd (jm_fR [11] 0 v6) fun x136 =>
    jm_rd (jm_ldR 13 x136 v7) fun x138 =>
    jm_rd (jm_cl 9 (some a0)) fun a143 =>
    jm_bd (jf_X9_product N a143 v4 v7 v4 v8) fun x140 =>
    jm_wr (jm_stJ 2 x138 v8 x140) <|
    jm_ret (.inl (v8 + 1))
def jf_X9_along_L103 (N : Nat) (a0 : Nat) (v4 : Option Nat) (v5 : Option Nat) (v6 : Option Nat) (v7 : Int32) : jm_P (Int32 ⊕ Unit) :=
  jm_rd (jm_fI [11] 2 v4) fun x131 =>
  if x131 ≤ v7 then (
    jm_ret (.inr ()))
  else
    jm_bd (jm_it (fun z => jf_X9_along_L116 N a0 v4 v5 v6 v7 z) N (0 : Int32)) fun y =>
    jf_X9_along_k116_155 N a0 v4 v5 v6 v7
def jf_X9_along_k5_51 (N : Nat) (a0 : Nat) (v1 : Option Nat) (v2 : Int32) (v3 : Int32) : jm_P (Option Nat) :=
  jm_rd (jm_cl 11 v1) fun a96 =>
  jm_bd (jf_X11_some N a96 v3) fun x93 =>
  jm_al (.inr (11, [.null, .int 0, .int 0])) fun q99 =>
  jm_rd (jm_fR [9] 1 (some a0)) fun x101 =>
  jm_rd (jm_len 4 x101) fun x103 =>
  jm_bd (jf_X11_init N q99 x103 (0 : Int32)) fun x105 =>
  jm_rd (jm_cl 9 (some a0)) fun a111 =>
  jm_bd (jf_X9_column N a111 v2) fun x108 =>
  jm_rd (jm_cl 11 (some q99)) fun a117 =>
  jm_bd (jf_X11_and N a117 x108) fun x114 =>
  jm_al (.inr (11, [.null, .int 0, .int 0])) fun q120 =>
  jm_rd (jm_fI [11] 2 x93) fun x122 =>
  jm_rd (jm_fI [11] 2 x93) fun x124 =>
  jm_bd (jf_X11_init N q120 x122 x124) fun x126 =>
  jm_bd (jm_it (fun z => jf_X9_along_L103 N a0 x93 x114 (some q120) z) N (0 : Int32)) fun y =>
  jf_X9_along_k103_161 N a0 x93 x114 (some q120)
def jf_X9_along_j43 (N : Nat) (a0 : Nat) (v1 : Option Nat) (v2 : Int32) (v4 : Int32) (t0 : Int32) (t1 : Int32) : jm_P ((Int32 × Int32) ⊕ Int32) :=
  jm_ret (.inl ((t0 ||| t1), (v4 + 1)))
def jf_X9_along_L5 (N : Nat) (a0 : Nat) (v1 : Option Nat) (v2 : Int32) (v3 : Int32) (v4 : Int32) : jm_P ((Int32 × Int32) ⊕ Int32) :=
  jm_rd (jm_fI [11] 2 v1) fun x153 =>
  if x153 ≤ v4 then (
    jm_ret (.inr v3))
  else
    jm_rd (jm_cl 11 v1) fun a158 =>
    jm_bd (jf_X11_some N a158 (v3 ||| ((1 : Int32) <<< (v4 &&& 31)))) fun x155 =>
    jm_rd (jm_cl 11 x155) fun a164 =>
    jm_bd (jf_X11_rank N a164 ) fun x161 =>
    jm_bd (jf_J6_bitCount N v3) fun x167 =>
    if x161 ≤ x167 then (
      jf_X9_along_j43 N a0 v1 v2 v4 v3 (0 : Int32))
    else
      jf_X9_along_j43 N a0 v1 v2 v4 v3 ((1 : Int32) <<< (v4 &&& 31))
def jf_X9_along (N : Nat) (a0 : Nat) (v1 : Option Nat) (v2 : Int32) : jm_P (Option Nat) :=
  jm_bd (jm_it (fun z => jf_X9_along_L5 N a0 v1 v2 z.1 z.2) N ((0 : Int32), (0 : Int32))) fun y =>
  jf_X9_along_k5_51 N a0 v1 v2 y
set_option maxHeartbeats 4000000 in
set_option maxRecDepth 100000 in
theorem jt_X9_along (l : Launch) (g : GD) (b N : Nat) (a0 : Nat) (v1 : Option Nat) (v2 : Int32) (M M' : Mem) (r : (Option Nat)) (hf : (jf_X9_along N a0 v1 v2).1 M = some (r, M')) : jm_Met l g b yX9_along (ws_ yX9_along cX9_along 15 (some (.array (.object "ChainParts$Fraction")))) 4 110 [va_rf (some a0), va_rf v1, .int v2] M M' (some (va_rf r)) := by
  refine jm_start (by decide) (jm_mono hf) (by rw [lg_sl_r, lg_sl_r, lg_sl_i, lg_sl_n]; exact Nat.le_of_ble_eq_true rfl) ?_
  intro p e s m args below meth c ls C0 hin hK hst hl
  obtain ⟨hx, hb, hml, hown, hts, hr, hlk⟩ := id C0
  have hown : s.vm.findClass RX9 = some m.cls := hown
  have C0 : jm_Cx p s m args meth c cX9_along 15 (some (.array (.object "ChainParts$Fraction"))) RX9 := C0
  rw [lv_args_r, lv_args_r, lv_args_i, lv_args_n] at hl
  have hl : lv_has ls 15 [(0, va_rf (some a0)), (1, va_rf v1), (2, .int v2)] := hl
  have K305_340 : ∀ (v10 : Option Nat) (Mm1 : Mem), (jf_X9_along_k305_340 N v10).1 Mm1 = some (r, M') → ∀ (H : Heap) (locs : List Loc) (cells slots : Nat) (ls : Array Slot), jm_St g b M M' Mm1 s (jm_rm 4 110 M M') H locs cells slots → lv_has ls 15 [(10, va_rf v10)] → W p l e (jm_rm 4 110 M M') s m args below meth c H locs cells slots (jm_MQ below g b (some (va_rf r)) M M' args s) (F0 m 340 ls []) := by
    intro v10 Mm1 hf H locs cells slots ls hst hl
    unfold jf_X9_along_k305_340 at hf
    refine jw_aload (r := v10) hx hb dX9_along_340 (lv_at hl 0 rfl) ?_
    obtain ⟨rfl, rfl⟩ := jm_ret_some hf
    exact jw_aret C0 (Or.inr ⟨_, rfl⟩) hst dX9_along_342
  have B305 : ∀ (a0 : Nat) (v7 : Int64) (v9 : Option Nat) (v10 : Option Nat) (v11 : Int32) (Mm10 : Mem) (xe305 : (Int32 ⊕ Unit)) (Me305 : Mem), (jf_X9_along_L305 N a0 v7 v9 v10 v11).1 Mm10 = some (xe305, Me305) → jm_le Me305 M' → (jm_or (fun (z : Int32) => ∀ (H : Heap) (locs : List Loc) (cells slots : Nat) (ls : Array Slot), jm_St g b M M' Me305 s (jm_rm 4 110 M M') H locs cells slots → lv_has ls 15 [(0, va_rf (some a0)), (7, .long v7), (9, va_rf v9), (10, va_rf v10), (11, .int z)] → W p l e (jm_rm 4 110 M M') s m args below meth c H locs cells slots (jm_MQ below g b (some (va_rf r)) M M' args s) (F0 m 305 ls [])) (fun (y : Unit) => ∀ (H : Heap) (locs : List Loc) (cells slots : Nat) (ls : Array Slot), jm_St g b M M' Me305 s (jm_rm 4 110 M M') H locs cells slots → lv_has ls 15 [(10, va_rf v10)] → W p l e (jm_rm 4 110 M M') s m args below meth c H locs cells slots (jm_MQ below g b (some (va_rf r)) M M' args s) (F0 m 340 ls [])) xe305) → ∀ (H : Heap) (locs : List Loc) (cells slots : Nat) (ls : Array Slot), jm_St g b M M' Mm10 s (jm_rm 4 110 M M') H locs cells slots → lv_has ls 15 [(0, va_rf (some a0)), (7, .long v7), (9, va_rf v9), (10, va_rf v10), (11, .int v11)] → W p l e (jm_rm 4 110 M M') s m args below meth c H locs cells slots (jm_MQ below g b (some (va_rf r)) M M' args s) (F0 m 305 ls []) := by
    intro a0 v7 v9 v10 v11 Mm10 xe305 Me305 hf hle305 hk305
    intro H locs cells slots ls hst hl
    unfold jf_X9_along_L305 at hf
    refine lv_iload hx hb dX9_along_305 (lv_at hl 4 rfl) ?_
    refine jw_aload_n (r := (some a0)) hx hb dX9_along_307 rfl (lv_at hl 0 rfl) ?_
    obtain ⟨x11, h12, hf⟩ := jm_rd_some hf
    refine jw_getR hx hb hts hown hK hst (fl_X9_15 hts hK) h12 dX9_along_308 ?_
    obtain ⟨x13, h14, hf⟩ := jm_rd_some hf
    refine jw_alen hx hb hK hst (show jm_ty[4]? = some (.object "ChainParts$EdgeCell") from rfl) h14 dX9_along_311 ?_
    refine lv_icmp_ge (tgt := 340) hx hb dX9_along_312 (by decide) (fun hc => ?_) (fun hc => ?_)
    · rw [if_pos hc] at hf
      obtain ⟨rfl, rfl⟩ := jm_ret_some hf
      exact jm_or_r hk305 _ _ _ _ _ hst (lv_sub hl [3] rfl)
    · rw [if_neg hc] at hf
      refine jw_aload (r := v10) hx hb dX9_along_315 (lv_at hl 3 rfl) ?_
      refine lv_iload hx hb dX9_along_317 (lv_at hl 4 rfl) ?_
      obtain ⟨q15, hq15, hf⟩ := jm_al_some hf
      refine jw_new (ci := 12) (C := RX12) (T := TX12) (N := 2) (fs := [.long 0, .long 0]) hx hb hts in_X12 tyX12 tyX12_ok hown (hts _ q830) (hts _ q832) (hts _ q92) hK hst rfl (fun j hj => by match j, hj with | 0, _ => rfl | 1, _ => rfl | k + 2, hj => omega) rfl (jm_le_tr (jm_mono hf) hle305) hq15 dX9_along_319 (fun H cells slots hst => ?_)
      generalize jm_new (.inr (12, [.long 0, .long 0])) Mm10 = Mm16 at hf hst
      refine lv_dup hx hb dX9_along_322 (va_rf_cat _) ?_
      refine jw_aload (r := v9) hx hb dX9_along_323 (lv_at hl 2 rfl) ?_
      refine lv_iload hx hb dX9_along_325 (lv_at hl 4 rfl) ?_
      obtain ⟨x17, h18, hf⟩ := jm_rd_some hf
      refine jw_lald hx hb hK hst h18 dX9_along_327 ?_
      refine lv_lload hx hb dX9_along_328 (lv_at hl 1 rfl) ?_
      obtain ⟨x19, Mm20, h21, hf⟩ := jm_bd_some hf
      refine jw_I (As := [.long x17, .long v7]) (rest := [va_rf (some q15), .int v11, va_rf v10]) (rv := (some q15)) (jt_X12_init l g b N q15 x17 v7 Mm16 Mm20 x19 h21) C0 hK hst (jm_mono h21) (jm_le_tr (jm_mono hf) hle305) q833 q834 q92 q835 rfl hd_X12_init.2 ⟨Nat.le_of_ble_eq_true rfl, Nat.le_of_ble_eq_true rfl⟩ rfl rfl hl.1 rfl (by rw [cs_r, cs_i, cs_r, cs_n]; exact Nat.le_of_ble_eq_true rfl) dX9_along_330 (fun H locs cells slots hst => ?_)
      refine W.eq (g2 := F0 m 333 ls [va_rf (some q15), .int v11, va_rf v10]) rfl ?_
      obtain ⟨F22, h23, hf⟩ := jm_wr_some hf
      refine jw_astR (kd := 11) (r := v10) (v := (some q15)) hx hb hK hst rfl (as_11 hK) h23 dX9_along_333 (fun H locs hst => ?_)
      generalize ((Mm20.1, Mm20.2.1, F22) : Mem) = Mm24 at hf hst
      refine lv_iinc (i := 11) (v := (v11 + 1)) (lv' := [(11, .int (v11 + 1)), (0, va_rf (some a0)), (7, .long v7), (9, va_rf v9), (10, va_rf v10)]) hx hb dX9_along_334 hl (k := 4) rfl (by rfl) (by decide) (by simp [va_rf_cat, cat_i, cat_j, cat_f]) (fun ls hl => ?_)
      refine lv_goto (tgt := 305) hx hb dX9_along_337 (by decide) ?_
      obtain ⟨rfl, rfl⟩ := jm_ret_some hf
      exact jm_or_l hk305 _ _ _ _ _ hst (lv_sub hl [1, 2, 3, 4, 0] rfl)
  have K180_292 : ∀ (a0 : Nat) (v7 : Int64) (v9 : Option Nat) (Mm2 : Mem), (jf_X9_along_k180_292 N a0 v7 v9).1 Mm2 = some (r, M') → ∀ (H : Heap) (locs : List Loc) (cells slots : Nat) (ls : Array Slot), jm_St g b M M' Mm2 s (jm_rm 4 110 M M') H locs cells slots → lv_has ls 15 [(0, va_rf (some a0)), (7, .long v7), (9, va_rf v9)] → W p l e (jm_rm 4 110 M M') s m args below meth c H locs cells slots (jm_MQ below g b (some (va_rf r)) M M' args s) (F0 m 292 ls []) := by
    intro a0 v7 v9 Mm2 hf H locs cells slots ls hst hl
    unfold jf_X9_along_k180_292 at hf
    refine jw_aload_n (r := (some a0)) hx hb dX9_along_292 rfl (lv_at hl 0 rfl) ?_
    obtain ⟨x3, h4, hf⟩ := jm_rd_some hf
    refine jw_getR hx hb hts hown hK hst (fl_X9_15 hts hK) h4 dX9_along_293 ?_
    obtain ⟨x5, h6, hf⟩ := jm_rd_some hf
    refine jw_alen hx hb hK hst (show jm_ty[4]? = some (.object "ChainParts$EdgeCell") from rfl) h6 dX9_along_296 ?_
    obtain ⟨_, h7, hf⟩ := jm_rd_some hf
    have h7 := jm_ck_some h7
    obtain ⟨q8, hq8, hf⟩ := jm_al_some hf
    refine jw_anew (kd := 11) (C := "ChainParts$Fraction") hx hb hown (hts _ q830) (by simp [jm_aoC]) hK hst rfl h7.1 h7.2 (jm_le_tr (jm_mono hf) jm_le_rf) hq8 dX9_along_297 (fun H cells slots hst => ?_)
    generalize jm_new (.inl (11, x5.toNatClampNeg, .inr (.inr (.inr (.inr (fun _ => none)))))) Mm2 = Mm9 at hf hst
    refine jw_astore (i := 10) (r := (some q8)) (lv' := [(10, va_rf (some q8)), (0, va_rf (some a0)), (7, .long v7), (9, va_rf v9)]) hx hb dX9_along_300 hl (by decide) (by simp [va_rf_cat, cat_i, cat_j, cat_f]) (fun ls hl => ?_)
    refine lv_iconst (v := 0) hx hb dX9_along_302 (by decide) ?_
    refine lv_istore (i := 11) (lv' := [(11, .int (0 : Int32)), (10, va_rf (some q8)), (0, va_rf (some a0)), (7, .long v7), (9, va_rf v9)]) hx hb dX9_along_303 hl (by decide) (by simp [va_rf_cat, cat_i, cat_j, cat_f]) (fun ls hl => ?_)
    obtain ⟨xl305, Ml305, hit305, hf⟩ := jm_bd_some hf
    have hlf305 : jm_le Ml305 M' := jm_le_tr (jm_mono hf) jm_le_rf
    have hwe305 : (fun (y : Unit) (Mz : Mem) => ∀ (H : Heap) (locs : List Loc) (cells slots : Nat) (ls : Array Slot), jm_St g b M M' Mz s (jm_rm 4 110 M M') H locs cells slots → lv_has ls 15 [(10, va_rf (some q8))] → W p l e (jm_rm 4 110 M M') s m args below meth c H locs cells slots (jm_MQ below g b (some (va_rf r)) M M' args s) (F0 m 340 ls [])) xl305 Ml305 := fun H locs cells slots ls hst hl => K305_340 (some q8) _ hf H locs cells slots ls hst hl
    refine jm_it_walk (Mf := M') (Wh := fun (z : Int32) (Mz : Mem) => ∀ (H : Heap) (locs : List Loc) (cells slots : Nat) (ls : Array Slot), jm_St g b M M' Mz s (jm_rm 4 110 M M') H locs cells slots → lv_has ls 15 [(0, va_rf (some a0)), (7, .long v7), (9, va_rf v9), (10, va_rf (some q8)), (11, .int z)] → W p l e (jm_rm 4 110 M M') s m args below meth c H locs cells slots (jm_MQ below g b (some (va_rf r)) M M' args s) (F0 m 305 ls [])) (We := fun (y : Unit) (Mz : Mem) => ∀ (H : Heap) (locs : List Loc) (cells slots : Nat) (ls : Array Slot), jm_St g b M M' Mz s (jm_rm 4 110 M M') H locs cells slots → lv_has ls 15 [(10, va_rf (some q8))] → W p l e (jm_rm 4 110 M M') s m args below meth c H locs cells slots (jm_MQ below g b (some (va_rf r)) M M' args s) (F0 m 340 ls [])) ?_ N (0 : Int32) Mm9 xl305 Ml305 hit305 hlf305 hwe305 _ _ _ _ _ hst (lv_sub hl [2, 3, 4, 1, 0] rfl)
    intro v11 Mm25 xe305 Me305 hf hle305 hk305 H locs cells slots ls hst hl
    have hf : (jf_X9_along_L305 N a0 v7 v9 (some q8) v11).1 Mm25 = some (xe305, Me305) := hf
    have hl : lv_has ls 15 [(0, va_rf (some a0)), (7, .long v7), (9, va_rf v9), (10, va_rf (some q8)), (11, .int v11)] := hl
    exact B305 a0 v7 v9 (some q8) v11 _ _ _ hf hle305 hk305 _ _ _ _ _ hst (lv_sub hl [0, 1, 2, 3, 4] rfl)
  have B180 : ∀ (a0 : Nat) (v4 : Option Nat) (v5 : Option Nat) (v6 : Option Nat) (v7 : Int64) (v9 : Option Nat) (v10 : Int32) (Mm65 : Mem) (xe180 : (Int32 ⊕ Unit)) (Me180 : Mem), (jf_X9_along_L180 N a0 v4 v5 v6 v7 v9 v10).1 Mm65 = some (xe180, Me180) → jm_le Me180 M' → (jm_or (fun (z : Int32) => ∀ (H : Heap) (locs : List Loc) (cells slots : Nat) (ls : Array Slot), jm_St g b M M' Me180 s (jm_rm 4 110 M M') H locs cells slots → lv_has ls 15 [(0, va_rf (some a0)), (4, va_rf v4), (5, va_rf v5), (6, va_rf v6), (7, .long v7), (9, va_rf v9), (10, .int z)] → W p l e (jm_rm 4 110 M M') s m args below meth c H locs cells slots (jm_MQ below g b (some (va_rf r)) M M' args s) (F0 m 180 ls [])) (fun (y : Unit) => ∀ (H : Heap) (locs : List Loc) (cells slots : Nat) (ls : Array Slot), jm_St g b M M' Me180 s (jm_rm 4 110 M M') H locs cells slots → lv_has ls 15 [(0, va_rf (some a0)), (7, .long v7), (9, va_rf v9)] → W p l e (jm_rm 4 110 M M') s m args below meth c H locs cells slots (jm_MQ below g b (some (va_rf r)) M M' args s) (F0 m 292 ls [])) xe180) → ∀ (H : Heap) (locs : List Loc) (cells slots : Nat) (ls : Array Slot), jm_St g b M M' Mm65 s (jm_rm 4 110 M M') H locs cells slots → lv_has ls 15 [(0, va_rf (some a0)), (4, va_rf v4), (5, va_rf v5), (6, va_rf v6), (7, .long v7), (9, va_rf v9), (10, .int v10)] → W p l e (jm_rm 4 110 M M') s m args below meth c H locs cells slots (jm_MQ below g b (some (va_rf r)) M M' args s) (F0 m 180 ls []) := by
    intro a0 v4 v5 v6 v7 v9 v10 Mm65 xe180 Me180 hf hle180 hk180
    have K248_286 : ∀ (v10 : Int32) (Mm40 : Mem), (jf_X9_along_k248_286 N a0 v4 v5 v6 v7 v9 v10).1 Mm40 = some (xe180, Me180) → ∀ (H : Heap) (locs : List Loc) (cells slots : Nat) (ls : Array Slot), jm_St g b M M' Mm40 s (jm_rm 4 110 M M') H locs cells slots → lv_has ls 15 [(0, va_rf (some a0)), (4, va_rf v4), (5, va_rf v5), (6, va_rf v6), (7, .long v7), (9, va_rf v9), (10, .int v10)] → W p l e (jm_rm 4 110 M M') s m args below meth c H locs cells slots (jm_MQ below g b (some (va_rf r)) M M' args s) (F0 m 286 ls []) := by
      intro v10 Mm40 hf H locs cells slots ls hst hl
      unfold jf_X9_along_k248_286 at hf
      refine lv_iinc (i := 10) (v := (v10 + 1)) (lv' := [(10, .int (v10 + 1)), (0, va_rf (some a0)), (4, va_rf v4), (5, va_rf v5), (6, va_rf v6), (7, .long v7), (9, va_rf v9)]) hx hb dX9_along_286 hl (k := 6) rfl (by rfl) (by decide) (by simp [va_rf_cat, cat_i, cat_j, cat_f]) (fun ls hl => ?_)
      refine lv_goto (tgt := 180) hx hb dX9_along_289 (by decide) ?_
      obtain ⟨rfl, rfl⟩ := jm_ret_some hf
      exact jm_or_l hk180 _ _ _ _ _ hst (lv_sub hl [1, 2, 3, 4, 5, 6, 0] rfl)
    have B248 : ∀ (a0 : Nat) (v4 : Option Nat) (v5 : Option Nat) (v6 : Option Nat) (v7 : Int64) (v9 : Option Nat) (v10 : Int32) (v12 : Int64) (v14 : Int32) (Mm48 : Mem) (xe248 : (Int32 ⊕ Unit)) (Me248 : Mem), (jf_X9_along_L248 N a0 v4 v5 v6 v7 v9 v10 v12 v14).1 Mm48 = some (xe248, Me248) → jm_le Me248 M' → (jm_or (fun (z : Int32) => ∀ (H : Heap) (locs : List Loc) (cells slots : Nat) (ls : Array Slot), jm_St g b M M' Me248 s (jm_rm 4 110 M M') H locs cells slots → lv_has ls 15 [(0, va_rf (some a0)), (4, va_rf v4), (5, va_rf v5), (6, va_rf v6), (7, .long v7), (9, va_rf v9), (10, .int v10), (12, .long v12), (14, .int z)] → W p l e (jm_rm 4 110 M M') s m args below meth c H locs cells slots (jm_MQ below g b (some (va_rf r)) M M' args s) (F0 m 248 ls [])) (fun (y : Unit) => ∀ (H : Heap) (locs : List Loc) (cells slots : Nat) (ls : Array Slot), jm_St g b M M' Me248 s (jm_rm 4 110 M M') H locs cells slots → lv_has ls 15 [(0, va_rf (some a0)), (4, va_rf v4), (5, va_rf v5), (6, va_rf v6), (7, .long v7), (9, va_rf v9), (10, .int v10)] → W p l e (jm_rm 4 110 M M') s m args below meth c H locs cells slots (jm_MQ below g b (some (va_rf r)) M M' args s) (F0 m 286 ls [])) xe248) → ∀ (H : Heap) (locs : List Loc) (cells slots : Nat) (ls : Array Slot), jm_St g b M M' Mm48 s (jm_rm 4 110 M M') H locs cells slots → lv_has ls 15 [(0, va_rf (some a0)), (4, va_rf v4), (5, va_rf v5), (6, va_rf v6), (7, .long v7), (9, va_rf v9), (10, .int v10), (12, .long v12), (14, .int v14)] → W p l e (jm_rm 4 110 M M') s m args below meth c H locs cells slots (jm_MQ below g b (some (va_rf r)) M M' args s) (F0 m 248 ls []) := by
      intro a0 v4 v5 v6 v7 v9 v10 v12 v14 Mm48 xe248 Me248 hf hle248 hk248
      intro H locs cells slots ls hst hl
      unfold jf_X9_along_L248 at hf
      refine lv_iload hx hb dX9_along_248 (lv_at hl 8 rfl) ?_
      refine jw_aload_n (r := (some a0)) hx hb dX9_along_250 rfl (lv_at hl 0 rfl) ?_
      obtain ⟨x49, h50, hf⟩ := jm_rd_some hf
      refine jw_getR hx hb hts hown hK hst (fl_X9_15 hts hK) h50 dX9_along_251 ?_
      obtain ⟨x51, h52, hf⟩ := jm_rd_some hf
      refine jw_alen hx hb hK hst (show jm_ty[4]? = some (.object "ChainParts$EdgeCell") from rfl) h52 dX9_along_254 ?_
      refine lv_icmp_ge (tgt := 286) hx hb dX9_along_255 (by decide) (fun hc => ?_) (fun hc => ?_)
      · rw [if_pos hc] at hf
        obtain ⟨rfl, rfl⟩ := jm_ret_some hf
        exact jm_or_r hk248 _ _ _ _ _ hst (lv_sub hl [0, 1, 2, 3, 4, 5, 6] rfl)
      · rw [if_neg hc] at hf
        refine jw_aload (r := v9) hx hb dX9_along_258 (lv_at hl 5 rfl) ?_
        refine lv_iload hx hb dX9_along_260 (lv_at hl 8 rfl) ?_
        refine lv_dup2_11 hx hb dX9_along_262 rfl (va_rf_cat _) ?_
        obtain ⟨x53, h54, hf⟩ := jm_rd_some hf
        refine jw_lald hx hb hK hst h54 dX9_along_263 ?_
        refine jw_aload (r := v4) hx hb dX9_along_264 (lv_at hl 1 rfl) ?_
        obtain ⟨x55, h56, hf⟩ := jm_rd_some hf
        refine jw_getR hx hb hts hown hK hst (fl_X9_67 hts hK) h56 dX9_along_266 ?_
        refine lv_iload hx hb dX9_along_269 (lv_at hl 8 rfl) ?_
        obtain ⟨x57, h58, hf⟩ := jm_rd_some hf
        refine jw_aald hx hb hK hst (show jm_ty[13]? = some (.array .long) from rfl) rfl h58 dX9_along_271 ?_
        refine lv_iload hx hb dX9_along_272 (lv_at hl 6 rfl) ?_
        obtain ⟨x59, h60, hf⟩ := jm_rd_some hf
        refine jw_lald hx hb hK hst h60 dX9_along_274 ?_
        refine lv_lload hx hb dX9_along_275 (lv_at hl 7 rfl) ?_
        refine lv_lmul hx hb dX9_along_277 ?_
        refine lv_ladd hx hb dX9_along_278 ?_
        obtain ⟨F61, h62, hf⟩ := jm_wr_some hf
        refine jw_last (r := v9) hx hb hK hst h62 dX9_along_279 (fun H locs hst => ?_)
        generalize ((Mm48.1, Mm48.2.1, F61) : Mem) = Mm63 at hf hst
        refine lv_iinc (i := 14) (v := (v14 + 1)) (lv' := [(14, .int (v14 + 1)), (0, va_rf (some a0)), (4, va_rf v4), (5, va_rf v5), (6, va_rf v6), (7, .long v7), (9, va_rf v9), (10, .int v10), (12, .long v12)]) hx hb dX9_along_280 hl (k := 8) rfl (by rfl) (by decide) rfl (fun ls hl => ?_)
        refine lv_goto (tgt := 248) hx hb dX9_along_283 (by decide) ?_
        obtain ⟨rfl, rfl⟩ := jm_ret_some hf
        exact jm_or_l hk248 _ _ _ _ _ hst (lv_sub hl [1, 2, 3, 4, 5, 6, 7, 8, 0] rfl)
    have K200_238 : ∀ (v10 : Int32) (v11 : Option Nat) (Mm41 : Mem), (jf_X9_along_k200_238 N a0 v4 v5 v6 v7 v9 v10 v11).1 Mm41 = some (xe180, Me180) → ∀ (H : Heap) (locs : List Loc) (cells slots : Nat) (ls : Array Slot), jm_St g b M M' Mm41 s (jm_rm 4 110 M M') H locs cells slots → lv_has ls 15 [(0, va_rf (some a0)), (4, va_rf v4), (5, va_rf v5), (6, va_rf v6), (7, .long v7), (9, va_rf v9), (10, .int v10), (11, va_rf v11)] → W p l e (jm_rm 4 110 M M') s m args below meth c H locs cells slots (jm_MQ below g b (some (va_rf r)) M M' args s) (F0 m 238 ls []) := by
      intro v10 v11 Mm41 hf H locs cells slots ls hst hl
      unfold jf_X9_along_k200_238 at hf
      refine jw_aload (r := v11) hx hb dX9_along_238 (lv_at hl 7 rfl) ?_
      obtain ⟨a45, h46, hf⟩ := jm_rd_some hf
      obtain ⟨fsa45, hea45, hr47⟩ := jm_cl_some h46
      obtain ⟨x42, Mm43, h44, hf⟩ := jm_bd_some hf
      refine jw_V (As := []) (rest := []) (C := RX11) (T := TX11) (N := 3) (rv := v11) (jt_X11_determinant l g b N a45  Mm41 Mm43 x42 h44) C0 hK hst (jm_mono h44) (jm_le_tr (jm_mono hf) hle180) q825 q826 q827 q90 q828 hd_X11_determinant ⟨Nat.le_of_ble_eq_true rfl, Nat.le_of_ble_eq_true rfl⟩ hea45 hr47 rfl rfl hl.1 rfl (by rw [cs_n]; exact Nat.le_of_ble_eq_true rfl) dX9_along_240 (fun H locs cells slots hst => ?_)
      refine W.eq (g2 := F0 m 243 ls [.long x42]) rfl ?_
      refine lv_lstore (i := 12) (lv' := [(12, .long x42), (0, va_rf (some a0)), (4, va_rf v4), (5, va_rf v5), (6, va_rf v6), (7, .long v7), (9, va_rf v9), (10, .int v10), (11, va_rf v11)]) hx hb dX9_along_243 hl (by decide) (by simp [va_rf_cat, cat_i, cat_j, cat_f]) (fun ls hl => ?_)
      refine lv_iconst (v := 0) hx hb dX9_along_245 (by decide) ?_
      refine lv_istore (i := 14) (lv' := [(14, .int (0 : Int32)), (12, .long x42), (0, va_rf (some a0)), (4, va_rf v4), (5, va_rf v5), (6, va_rf v6), (7, .long v7), (9, va_rf v9), (10, .int v10), (11, va_rf v11)]) hx hb dX9_along_246 hl (by decide) rfl (fun ls hl => ?_)
      obtain ⟨xl248, Ml248, hit248, hf⟩ := jm_bd_some hf
      have hlf248 : jm_le Ml248 M' := jm_le_tr (jm_mono hf) hle180
      have hwe248 : (fun (y : Unit) (Mz : Mem) => ∀ (H : Heap) (locs : List Loc) (cells slots : Nat) (ls : Array Slot), jm_St g b M M' Mz s (jm_rm 4 110 M M') H locs cells slots → lv_has ls 15 [(0, va_rf (some a0)), (4, va_rf v4), (5, va_rf v5), (6, va_rf v6), (7, .long v7), (9, va_rf v9), (10, .int v10)] → W p l e (jm_rm 4 110 M M') s m args below meth c H locs cells slots (jm_MQ below g b (some (va_rf r)) M M' args s) (F0 m 286 ls [])) xl248 Ml248 := fun H locs cells slots ls hst hl => K248_286 v10 _ hf H locs cells slots ls hst hl
      refine jm_it_walk (Mf := M') (Wh := fun (z : Int32) (Mz : Mem) => ∀ (H : Heap) (locs : List Loc) (cells slots : Nat) (ls : Array Slot), jm_St g b M M' Mz s (jm_rm 4 110 M M') H locs cells slots → lv_has ls 15 [(0, va_rf (some a0)), (4, va_rf v4), (5, va_rf v5), (6, va_rf v6), (7, .long v7), (9, va_rf v9), (10, .int v10), (12, .long x42), (14, .int z)] → W p l e (jm_rm 4 110 M M') s m args below meth c H locs cells slots (jm_MQ below g b (some (va_rf r)) M M' args s) (F0 m 248 ls [])) (We := fun (y : Unit) (Mz : Mem) => ∀ (H : Heap) (locs : List Loc) (cells slots : Nat) (ls : Array Slot), jm_St g b M M' Mz s (jm_rm 4 110 M M') H locs cells slots → lv_has ls 15 [(0, va_rf (some a0)), (4, va_rf v4), (5, va_rf v5), (6, va_rf v6), (7, .long v7), (9, va_rf v9), (10, .int v10)] → W p l e (jm_rm 4 110 M M') s m args below meth c H locs cells slots (jm_MQ below g b (some (va_rf r)) M M' args s) (F0 m 286 ls [])) ?_ N (0 : Int32) Mm43 xl248 Ml248 hit248 hlf248 hwe248 _ _ _ _ _ hst (lv_sub hl [2, 3, 4, 5, 6, 7, 8, 1, 0] rfl)
      intro v14 Mm64 xe248 Me248 hf hle248 hk248 H locs cells slots ls hst hl
      have hf : (jf_X9_along_L248 N a0 v4 v5 v6 v7 v9 v10 x42 v14).1 Mm64 = some (xe248, Me248) := hf
      have hl : lv_has ls 15 [(0, va_rf (some a0)), (4, va_rf v4), (5, va_rf v5), (6, va_rf v6), (7, .long v7), (9, va_rf v9), (10, .int v10), (12, .long x42), (14, .int v14)] := hl
      exact B248 a0 v4 v5 v6 v7 v9 v10 x42 v14 _ _ _ hf hle248 hk248 _ _ _ _ _ hst (lv_sub hl [0, 1, 2, 3, 4, 5, 6, 7, 8] rfl)
    have B200 : ∀ (a0 : Nat) (v4 : Option Nat) (v5 : Option Nat) (v6 : Option Nat) (v7 : Int64) (v9 : Option Nat) (v10 : Int32) (v11 : Option Nat) (v12 : Int32) (Mm74 : Mem) (xe200 : (Int32 ⊕ Unit)) (Me200 : Mem), (jf_X9_along_L200 N a0 v4 v5 v6 v7 v9 v10 v11 v12).1 Mm74 = some (xe200, Me200) → jm_le Me200 M' → (jm_or (fun (z : Int32) => ∀ (H : Heap) (locs : List Loc) (cells slots : Nat) (ls : Array Slot), jm_St g b M M' Me200 s (jm_rm 4 110 M M') H locs cells slots → lv_has ls 15 [(0, va_rf (some a0)), (4, va_rf v4), (5, va_rf v5), (6, va_rf v6), (7, .long v7), (9, va_rf v9), (10, .int v10), (11, va_rf v11), (12, .int z)] → W p l e (jm_rm 4 110 M M') s m args below meth c H locs cells slots (jm_MQ below g b (some (va_rf r)) M M' args s) (F0 m 200 ls [])) (fun (y : Unit) => ∀ (H : Heap) (locs : List Loc) (cells slots : Nat) (ls : Array Slot), jm_St g b M M' Me200 s (jm_rm 4 110 M M') H locs cells slots → lv_has ls 15 [(0, va_rf (some a0)), (4, va_rf v4), (5, va_rf v5), (6, va_rf v6), (7, .long v7), (9, va_rf v9), (10, .int v10), (11, va_rf v11)] → W p l e (jm_rm 4 110 M M') s m args below meth c H locs cells slots (jm_MQ below g b (some (va_rf r)) M M' args s) (F0 m 238 ls [])) xe200) → ∀ (H : Heap) (locs : List Loc) (cells slots : Nat) (ls : Array Slot), jm_St g b M M' Mm74 s (jm_rm 4 110 M M') H locs cells slots → lv_has ls 15 [(0, va_rf (some a0)), (4, va_rf v4), (5, va_rf v5), (6, va_rf v6), (7, .long v7), (9, va_rf v9), (10, .int v10), (11, va_rf v11), (12, .int v12)] → W p l e (jm_rm 4 110 M M') s m args below meth c H locs cells slots (jm_MQ below g b (some (va_rf r)) M M' args s) (F0 m 200 ls []) := by
      intro a0 v4 v5 v6 v7 v9 v10 v11 v12 Mm74 xe200 Me200 hf hle200 hk200
      intro H locs cells slots ls hst hl
      unfold jf_X9_along_L200 at hf
      refine lv_iload hx hb dX9_along_200 (lv_at hl 8 rfl) ?_
      refine jw_aload (r := v4) hx hb dX9_along_202 (lv_at hl 1 rfl) ?_
      obtain ⟨x75, h76, hf⟩ := jm_rd_some hf
      refine jw_getI hx hb hts hown hK hst (fl_X9_64 hts hK) h76 dX9_along_204 ?_
      refine lv_icmp_ge (tgt := 238) hx hb dX9_along_207 (by decide) (fun hc => ?_) (fun hc => ?_)
      · rw [if_pos hc] at hf
        obtain ⟨rfl, rfl⟩ := jm_ret_some hf
        exact jm_or_r hk200 _ _ _ _ _ hst (lv_sub hl [0, 1, 2, 3, 4, 5, 6, 7] rfl)
      · rw [if_neg hc] at hf
        refine jw_aload (r := v11) hx hb dX9_along_210 (lv_at hl 7 rfl) ?_
        obtain ⟨x77, h78, hf⟩ := jm_rd_some hf
        refine jw_getR hx hb hts hown hK hst (fl_X9_67 hts hK) h78 dX9_along_212 ?_
        refine lv_iload hx hb dX9_along_215 (lv_at hl 8 rfl) ?_
        obtain ⟨x79, h80, hf⟩ := jm_rd_some hf
        refine jw_aald hx hb hK hst (show jm_ty[13]? = some (.array .long) from rfl) rfl h80 dX9_along_217 ?_
        refine lv_iload hx hb dX9_along_218 (lv_at hl 6 rfl) ?_
        refine jw_aload_n (r := (some a0)) hx hb dX9_along_220 rfl (lv_at hl 0 rfl) ?_
        refine jw_aload (r := v4) hx hb dX9_along_221 (lv_at hl 1 rfl) ?_
        refine lv_iload hx hb dX9_along_223 (lv_at hl 8 rfl) ?_
        refine jw_aload (r := v5) hx hb dX9_along_225 (lv_at hl 2 rfl) ?_
        refine lv_iconst (v := 0) hx hb dX9_along_227 (by decide) ?_
        obtain ⟨a84, h85, hf⟩ := jm_rd_some hf
        obtain ⟨fsa84, hea84, hr86⟩ := jm_cl_some h85
        obtain ⟨x81, Mm82, h83, hf⟩ := jm_bd_some hf
        refine jw_V (As := [va_rf v4, .int v12, va_rf v5, .int (0 : Int32)]) (rest := [.int v10, va_rf x79]) (C := RX9) (T := TX9) (N := 4) (rv := (some a0)) (jt_X9_product l g b N a84 v4 v12 v5 (0 : Int32) Mm74 Mm82 x81 h83) C0 hK hst (jm_mono h83) (jm_le_tr (jm_mono hf) hle200) q821 q823 qs16 q84 q824 hd_X9_product ⟨Nat.le_of_ble_eq_true rfl, Nat.le_of_ble_eq_true rfl⟩ hea84 hr86 rfl rfl hl.1 rfl (by rw [cs_i, cs_r, cs_n]; exact Nat.le_of_ble_eq_true rfl) dX9_along_228 (fun H locs cells slots hst => ?_)
        refine W.eq (g2 := F0 m 231 ls [.long x81, .int v10, va_rf x79]) rfl ?_
        obtain ⟨F87, h88, hf⟩ := jm_wr_some hf
        refine jw_last (r := x79) hx hb hK hst h88 dX9_along_231 (fun H locs hst => ?_)
        generalize ((Mm82.1, Mm82.2.1, F87) : Mem) = Mm89 at hf hst
        refine lv_iinc (i := 12) (v := (v12 + 1)) (lv' := [(12, .int (v12 + 1)), (0, va_rf (some a0)), (4, va_rf v4), (5, va_rf v5), (6, va_rf v6), (7, .long v7), (9, va_rf v9), (10, .int v10), (11, va_rf v11)]) hx hb dX9_along_232 hl (k := 8) rfl (by rfl) (by decide) (by simp [va_rf_cat, cat_i, cat_j, cat_f]) (fun ls hl => ?_)
        refine lv_goto (tgt := 200) hx hb dX9_along_235 (by decide) ?_
        obtain ⟨rfl, rfl⟩ := jm_ret_some hf
        exact jm_or_l hk200 _ _ _ _ _ hst (lv_sub hl [1, 2, 3, 4, 5, 6, 7, 8, 0] rfl)
    intro H locs cells slots ls hst hl
    unfold jf_X9_along_L180 at hf
    refine lv_iload hx hb dX9_along_180 (lv_at hl 6 rfl) ?_
    refine jw_aload (r := v4) hx hb dX9_along_182 (lv_at hl 1 rfl) ?_
    obtain ⟨x66, h67, hf⟩ := jm_rd_some hf
    refine jw_getI hx hb hts hown hK hst (fl_X9_64 hts hK) h67 dX9_along_184 ?_
    refine lv_icmp_ge (tgt := 292) hx hb dX9_along_187 (by decide) (fun hc => ?_) (fun hc => ?_)
    · rw [if_pos hc] at hf
      obtain ⟨rfl, rfl⟩ := jm_ret_some hf
      exact jm_or_r hk180 _ _ _ _ _ hst (lv_sub hl [0, 4, 5] rfl)
    · rw [if_neg hc] at hf
      refine jw_aload (r := v6) hx hb dX9_along_190 (lv_at hl 3 rfl) ?_
      obtain ⟨a71, h72, hf⟩ := jm_rd_some hf
      obtain ⟨fsa71, hea71, hr73⟩ := jm_cl_some h72
      obtain ⟨x68, Mm69, h70, hf⟩ := jm_bd_some hf
      refine jw_V (As := []) (rest := []) (C := RX11) (T := TX11) (N := 3) (rv := v6) (jt_X11_like l g b N a71  Mm65 Mm69 x68 h70) C0 hK hst (jm_mono h70) (jm_le_tr (jm_mono hf) hle180) q829 q667 q668 q90 q669 hd_X11_like ⟨Nat.le_of_ble_eq_true rfl, Nat.le_of_ble_eq_true rfl⟩ hea71 hr73 rfl rfl hl.1 rfl (by rw [cs_n]; exact Nat.le_of_ble_eq_true rfl) dX9_along_192 (fun H locs cells slots hst => ?_)
      refine W.eq (g2 := F0 m 195 ls [va_rf x68]) rfl ?_
      refine jw_astore (i := 11) (r := x68) (lv' := [(11, va_rf x68), (0, va_rf (some a0)), (4, va_rf v4), (5, va_rf v5), (6, va_rf v6), (7, .long v7), (9, va_rf v9), (10, .int v10)]) hx hb dX9_along_195 hl (by decide) rfl (fun ls hl => ?_)
      refine lv_iconst (v := 0) hx hb dX9_along_197 (by decide) ?_
      refine lv_istore (i := 12) (lv' := [(12, .int (0 : Int32)), (11, va_rf x68), (0, va_rf (some a0)), (4, va_rf v4), (5, va_rf v5), (6, va_rf v6), (7, .long v7), (9, va_rf v9), (10, .int v10)]) hx hb dX9_along_198 hl (by decide) (by simp [va_rf_cat, cat_i, cat_j, cat_f]) (fun ls hl => ?_)
      obtain ⟨xl200, Ml200, hit200, hf⟩ := jm_bd_some hf
      have hlf200 : jm_le Ml200 M' := jm_le_tr (jm_mono hf) hle180
      have hwe200 : (fun (y : Unit) (Mz : Mem) => ∀ (H : Heap) (locs : List Loc) (cells slots : Nat) (ls : Array Slot), jm_St g b M M' Mz s (jm_rm 4 110 M M') H locs cells slots → lv_has ls 15 [(0, va_rf (some a0)), (4, va_rf v4), (5, va_rf v5), (6, va_rf v6), (7, .long v7), (9, va_rf v9), (10, .int v10), (11, va_rf x68)] → W p l e (jm_rm 4 110 M M') s m args below meth c H locs cells slots (jm_MQ below g b (some (va_rf r)) M M' args s) (F0 m 238 ls [])) xl200 Ml200 := fun H locs cells slots ls hst hl => K200_238 v10 x68 _ hf H locs cells slots ls hst hl
      refine jm_it_walk (Mf := M') (Wh := fun (z : Int32) (Mz : Mem) => ∀ (H : Heap) (locs : List Loc) (cells slots : Nat) (ls : Array Slot), jm_St g b M M' Mz s (jm_rm 4 110 M M') H locs cells slots → lv_has ls 15 [(0, va_rf (some a0)), (4, va_rf v4), (5, va_rf v5), (6, va_rf v6), (7, .long v7), (9, va_rf v9), (10, .int v10), (11, va_rf x68), (12, .int z)] → W p l e (jm_rm 4 110 M M') s m args below meth c H locs cells slots (jm_MQ below g b (some (va_rf r)) M M' args s) (F0 m 200 ls [])) (We := fun (y : Unit) (Mz : Mem) => ∀ (H : Heap) (locs : List Loc) (cells slots : Nat) (ls : Array Slot), jm_St g b M M' Mz s (jm_rm 4 110 M M') H locs cells slots → lv_has ls 15 [(0, va_rf (some a0)), (4, va_rf v4), (5, va_rf v5), (6, va_rf v6), (7, .long v7), (9, va_rf v9), (10, .int v10), (11, va_rf x68)] → W p l e (jm_rm 4 110 M M') s m args below meth c H locs cells slots (jm_MQ below g b (some (va_rf r)) M M' args s) (F0 m 238 ls [])) ?_ N (0 : Int32) Mm69 xl200 Ml200 hit200 hlf200 hwe200 _ _ _ _ _ hst (lv_sub hl [2, 3, 4, 5, 6, 7, 8, 1, 0] rfl)
      intro v12 Mm90 xe200 Me200 hf hle200 hk200 H locs cells slots ls hst hl
      have hf : (jf_X9_along_L200 N a0 v4 v5 v6 v7 v9 v10 x68 v12).1 Mm90 = some (xe200, Me200) := hf
      have hl : lv_has ls 15 [(0, va_rf (some a0)), (4, va_rf v4), (5, va_rf v5), (6, va_rf v6), (7, .long v7), (9, va_rf v9), (10, .int v10), (11, va_rf x68), (12, .int v12)] := hl
      exact B200 a0 v4 v5 v6 v7 v9 v10 x68 v12 _ _ _ hf hle200 hk200 _ _ _ _ _ hst (lv_sub hl [0, 1, 2, 3, 4, 5, 6, 7, 8] rfl)
  have K103_161 : ∀ (a0 : Nat) (v4 : Option Nat) (v5 : Option Nat) (v6 : Option Nat) (Mm26 : Mem), (jf_X9_along_k103_161 N a0 v4 v5 v6).1 Mm26 = some (r, M') → ∀ (H : Heap) (locs : List Loc) (cells slots : Nat) (ls : Array Slot), jm_St g b M M' Mm26 s (jm_rm 4 110 M M') H locs cells slots → lv_has ls 15 [(0, va_rf (some a0)), (4, va_rf v4), (5, va_rf v5), (6, va_rf v6)] → W p l e (jm_rm 4 110 M M') s m args below meth c H locs cells slots (jm_MQ below g b (some (va_rf r)) M M' args s) (F0 m 161 ls []) := by
    intro a0 v4 v5 v6 Mm26 hf H locs cells slots ls hst hl
    unfold jf_X9_along_k103_161 at hf
    refine jw_aload (r := v6) hx hb dX9_along_161 (lv_at hl 3 rfl) ?_
    obtain ⟨a30, h31, hf⟩ := jm_rd_some hf
    obtain ⟨fsa30, hea30, hr32⟩ := jm_cl_some h31
    obtain ⟨x27, Mm28, h29, hf⟩ := jm_bd_some hf
    refine jw_V (As := []) (rest := []) (C := RX11) (T := TX11) (N := 3) (rv := v6) (jt_X11_determinant l g b N a30  Mm26 Mm28 x27 h29) C0 hK hst (jm_mono h29) (jm_le_tr (jm_mono hf) jm_le_rf) q825 q826 q827 q90 q828 hd_X11_determinant ⟨Nat.le_of_ble_eq_true rfl, Nat.le_of_ble_eq_true rfl⟩ hea30 hr32 rfl rfl hl.1 rfl (by rw [cs_n]; exact Nat.le_of_ble_eq_true rfl) dX9_along_163 (fun H locs cells slots hst => ?_)
    refine W.eq (g2 := F0 m 166 ls [.long x27]) rfl ?_
    refine lv_lstore (i := 7) (lv' := [(7, .long x27), (0, va_rf (some a0)), (4, va_rf v4), (5, va_rf v5), (6, va_rf v6)]) hx hb dX9_along_166 hl (by decide) (by simp [va_rf_cat, cat_i, cat_j, cat_f]) (fun ls hl => ?_)
    refine jw_aload_n (r := (some a0)) hx hb dX9_along_168 rfl (lv_at hl 1 rfl) ?_
    obtain ⟨x33, h34, hf⟩ := jm_rd_some hf
    refine jw_getR hx hb hts hown hK hst (fl_X9_15 hts hK) h34 dX9_along_169 ?_
    obtain ⟨x35, h36, hf⟩ := jm_rd_some hf
    refine jw_alen hx hb hK hst (show jm_ty[4]? = some (.object "ChainParts$EdgeCell") from rfl) h36 dX9_along_172 ?_
    obtain ⟨_, h37, hf⟩ := jm_rd_some hf
    have h37 := jm_ck_some h37
    obtain ⟨q38, hq38, hf⟩ := jm_al_some hf
    refine jw_newa (kd := 2) (ty := .long) (atype := .long) (a0 := (x35.toNatClampNeg, .inr (.inl (fun _ => 0)))) hx hb (hts _ q637) rfl hK hst rfl (fun _ => rfl) rfl (fun h => h) h37.1 rfl (Nat.le_trans (Nat.mul_le_mul_right _ h37.2) (by decide)) (jm_le_tr (jm_mono hf) jm_le_rf) hq38 dX9_along_173 (fun H cells slots hst => ?_)
    generalize jm_new (.inl (2, x35.toNatClampNeg, .inr (.inl (fun _ => 0)))) Mm28 = Mm39 at hf hst
    refine jw_astore (i := 9) (r := (some q38)) (lv' := [(9, va_rf (some q38)), (7, .long x27), (0, va_rf (some a0)), (4, va_rf v4), (5, va_rf v5), (6, va_rf v6)]) hx hb dX9_along_175 hl (by decide) rfl (fun ls hl => ?_)
    refine lv_iconst (v := 0) hx hb dX9_along_177 (by decide) ?_
    refine lv_istore (i := 10) (lv' := [(10, .int (0 : Int32)), (9, va_rf (some q38)), (7, .long x27), (0, va_rf (some a0)), (4, va_rf v4), (5, va_rf v5), (6, va_rf v6)]) hx hb dX9_along_178 hl (by decide) (by simp [va_rf_cat, cat_i, cat_j, cat_f]) (fun ls hl => ?_)
    obtain ⟨xl180, Ml180, hit180, hf⟩ := jm_bd_some hf
    have hlf180 : jm_le Ml180 M' := jm_le_tr (jm_mono hf) jm_le_rf
    have hwe180 : (fun (y : Unit) (Mz : Mem) => ∀ (H : Heap) (locs : List Loc) (cells slots : Nat) (ls : Array Slot), jm_St g b M M' Mz s (jm_rm 4 110 M M') H locs cells slots → lv_has ls 15 [(0, va_rf (some a0)), (7, .long x27), (9, va_rf (some q38))] → W p l e (jm_rm 4 110 M M') s m args below meth c H locs cells slots (jm_MQ below g b (some (va_rf r)) M M' args s) (F0 m 292 ls [])) xl180 Ml180 := fun H locs cells slots ls hst hl => K180_292 a0 x27 (some q38) _ hf H locs cells slots ls hst hl
    refine jm_it_walk (Mf := M') (Wh := fun (z : Int32) (Mz : Mem) => ∀ (H : Heap) (locs : List Loc) (cells slots : Nat) (ls : Array Slot), jm_St g b M M' Mz s (jm_rm 4 110 M M') H locs cells slots → lv_has ls 15 [(0, va_rf (some a0)), (4, va_rf v4), (5, va_rf v5), (6, va_rf v6), (7, .long x27), (9, va_rf (some q38)), (10, .int z)] → W p l e (jm_rm 4 110 M M') s m args below meth c H locs cells slots (jm_MQ below g b (some (va_rf r)) M M' args s) (F0 m 180 ls [])) (We := fun (y : Unit) (Mz : Mem) => ∀ (H : Heap) (locs : List Loc) (cells slots : Nat) (ls : Array Slot), jm_St g b M M' Mz s (jm_rm 4 110 M M') H locs cells slots → lv_has ls 15 [(0, va_rf (some a0)), (7, .long x27), (9, va_rf (some q38))] → W p l e (jm_rm 4 110 M M') s m args below meth c H locs cells slots (jm_MQ below g b (some (va_rf r)) M M' args s) (F0 m 292 ls [])) ?_ N (0 : Int32) Mm39 xl180 Ml180 hit180 hlf180 hwe180 _ _ _ _ _ hst (lv_sub hl [3, 4, 5, 6, 2, 1, 0] rfl)
    intro v10 Mm91 xe180 Me180 hf hle180 hk180 H locs cells slots ls hst hl
    have hf : (jf_X9_along_L180 N a0 v4 v5 v6 x27 (some q38) v10).1 Mm91 = some (xe180, Me180) := hf
    have hl : lv_has ls 15 [(0, va_rf (some a0)), (4, va_rf v4), (5, va_rf v5), (6, va_rf v6), (7, .long x27), (9, va_rf (some q38)), (10, .int v10)] := hl
    exact B180 a0 v4 v5 v6 x27 (some q38) v10 _ _ _ hf hle180 hk180 _ _ _ _ _ hst (lv_sub hl [0, 1, 2, 3, 4, 5, 6] rfl)
  have B103 : ∀ (a0 : Nat) (v4 : Option Nat) (v5 : Option Nat) (v6 : Option Nat) (v7 : Int32) (Mm130 : Mem) (xe103 : (Int32 ⊕ Unit)) (Me103 : Mem), (jf_X9_along_L103 N a0 v4 v5 v6 v7).1 Mm130 = some (xe103, Me103) → jm_le Me103 M' → (jm_or (fun (z : Int32) => ∀ (H : Heap) (locs : List Loc) (cells slots : Nat) (ls : Array Slot), jm_St g b M M' Me103 s (jm_rm 4 110 M M') H locs cells slots → lv_has ls 15 [(0, va_rf (some a0)), (4, va_rf v4), (5, va_rf v5), (6, va_rf v6), (7, .int z)] → W p l e (jm_rm 4 110 M M') s m args below meth c H locs cells slots (jm_MQ below g b (some (va_rf r)) M M' args s) (F0 m 103 ls [])) (fun (y : Unit) => ∀ (H : Heap) (locs : List Loc) (cells slots : Nat) (ls : Array Slot), jm_St g b M M' Me103 s (jm_rm 4 110 M M') H locs cells slots → lv_has ls 15 [(0, va_rf (some a0)), (4, va_rf v4), (5, va_rf v5), (6, va_rf v6)] → W p l e (jm_rm 4 110 M M') s m args below meth c H locs cells slots (jm_MQ below g b (some (va_rf r)) M M' args s) (F0 m 161 ls [])) xe103) → ∀ (H : Heap) (locs : List Loc) (cells slots : Nat) (ls : Array Slot), jm_St g b M M' Mm130 s (jm_rm 4 110 M M') H locs cells slots → lv_has ls 15 [(0, va_rf (some a0)), (4, va_rf v4), (5, va_rf v5), (6, va_rf v6), (7, .int v7)] → W p l e (jm_rm 4 110 M M') s m args below meth c H locs cells slots (jm_MQ below g b (some (va_rf r)) M M' args s) (F0 m 103 ls []) := by
    intro a0 v4 v5 v6 v7 Mm130 xe103 Me103 hf hle103 hk103
    have K116_155 : ∀ (v7 : Int32) (Mm129 : Mem), (jf_X9_along_k116_155 N a0 v4 v5 v6 v7).1 Mm129 = some (xe103, Me103) → ∀ (H : Heap) (locs : List Loc) (cells slots : Nat) (ls : Array Slot), jm_St g b M M' Mm129 s (jm_rm 4 110 M M') H locs cells slots → lv_has ls 15 [(0, va_rf (some a0)), (4, va_rf v4), (5, va_rf v5), (6, va_rf v6), (7, .int v7)] → W p l e (jm_rm 4 110 M M') s m args below meth c H locs cells slots (jm_MQ below g b (some (va_rf r)) M M' args s) (F0 m 155 ls []) := by
      intro v7 Mm129 hf H locs cells slots ls hst hl
      unfold jf_X9_along_k116_155 at hf
      refine lv_iinc (i := 7) (v := (v7 + 1)) (lv' := [(7, .int (v7 + 1)), (0, va_rf (some a0)), (4, va_rf v4), (5, va_rf v5), (6, va_rf v6)]) hx hb dX9_along_155 hl (k := 4) rfl (by rfl) (by decide) (by simp [va_rf_cat, cat_i, cat_j, cat_f]) (fun ls hl => ?_)
      refine lv_goto (tgt := 103) hx hb dX9_along_158 (by decide) ?_
      obtain ⟨rfl, rfl⟩ := jm_ret_some hf
      exact jm_or_l hk103 _ _ _ _ _ hst (lv_sub hl [1, 2, 3, 4, 0] rfl)
    have B116 : ∀ (a0 : Nat) (v4 : Option Nat) (v5 : Option Nat) (v6 : Option Nat) (v7 : Int32) (v8 : Int32) (Mm133 : Mem) (xe116 : (Int32 ⊕ Unit)) (Me116 : Mem), (jf_X9_along_L116 N a0 v4 v5 v6 v7 v8).1 Mm133 = some (xe116, Me116) → jm_le Me116 M' → (jm_or (fun (z : Int32) => ∀ (H : Heap) (locs : List Loc) (cells slots : Nat) (ls : Array Slot), jm_St g b M M' Me116 s (jm_rm 4 110 M M') H locs cells slots → lv_has ls 15 [(0, va_rf (some a0)), (4, va_rf v4), (5, va_rf v5), (6, va_rf v6), (7, .int v7), (8, .int z)] → W p l e (jm_rm 4 110 M M') s m args below meth c H locs cells slots (jm_MQ below g b (some (va_rf r)) M M' args s) (F0 m 116 ls [])) (fun (y : Unit) => ∀ (H : Heap) (locs : List Loc) (cells slots : Nat) (ls : Array Slot), jm_St g b M M' Me116 s (jm_rm 4 110 M M') H locs cells slots → lv_has ls 15 [(0, va_rf (some a0)), (4, va_rf v4), (5, va_rf v5), (6, va_rf v6), (7, .int v7)] → W p l e (jm_rm 4 110 M M') s m args below meth c H locs cells slots (jm_MQ below g b (some (va_rf r)) M M' args s) (F0 m 155 ls [])) xe116) → ∀ (H : Heap) (locs : List Loc) (cells slots : Nat) (ls : Array Slot), jm_St g b M M' Mm133 s (jm_rm 4 110 M M') H locs cells slots → lv_has ls 15 [(0, va_rf (some a0)), (4, va_rf v4), (5, va_rf v5), (6, va_rf v6), (7, .int v7), (8, .int v8)] → W p l e (jm_rm 4 110 M M') s m args below meth c H locs cells slots (jm_MQ below g b (some (va_rf r)) M M' args s) (F0 m 116 ls []) := by
      intro a0 v4 v5 v6 v7 v8 Mm133 xe116 Me116 hf hle116 hk116
      intro H locs cells slots ls hst hl
      unfold jf_X9_along_L116 at hf
      refine lv_iload hx hb dX9_along_116 (lv_at hl 5 rfl) ?_
      refine jw_aload (r := v4) hx hb dX9_along_118 (lv_at hl 1 rfl) ?_
      obtain ⟨x134, h135, hf⟩ := jm_rd_some hf
      refine jw_getI hx hb hts hown hK hst (fl_X9_64 hts hK) h135 dX9_along_120 ?_
      refine lv_icmp_ge (tgt := 155) hx hb dX9_along_123 (by decide) (fun hc => ?_) (fun hc => ?_)
      · rw [if_pos hc] at hf
        obtain ⟨rfl, rfl⟩ := jm_ret_some hf
        exact jm_or_r hk116 _ _ _ _ _ hst (lv_sub hl [0, 1, 2, 3, 4] rfl)
      · rw [if_neg hc] at hf
        refine jw_aload (r := v6) hx hb dX9_along_126 (lv_at hl 3 rfl) ?_
        obtain ⟨x136, h137, hf⟩ := jm_rd_some hf
        refine jw_getR hx hb hts hown hK hst (fl_X9_67 hts hK) h137 dX9_along_128 ?_
        refine lv_iload hx hb dX9_along_131 (lv_at hl 4 rfl) ?_
        obtain ⟨x138, h139, hf⟩ := jm_rd_some hf
        refine jw_aald hx hb hK hst (show jm_ty[13]? = some (.array .long) from rfl) rfl h139 dX9_along_133 ?_
        refine lv_iload hx hb dX9_along_134 (lv_at hl 5 rfl) ?_
        refine jw_aload_n (r := (some a0)) hx hb dX9_along_136 rfl (lv_at hl 0 rfl) ?_
        refine jw_aload (r := v4) hx hb dX9_along_137 (lv_at hl 1 rfl) ?_
        refine lv_iload hx hb dX9_along_139 (lv_at hl 4 rfl) ?_
        refine jw_aload (r := v4) hx hb dX9_along_141 (lv_at hl 1 rfl) ?_
        refine lv_iload hx hb dX9_along_143 (lv_at hl 5 rfl) ?_
        obtain ⟨a143, h144, hf⟩ := jm_rd_some hf
        obtain ⟨fsa143, hea143, hr145⟩ := jm_cl_some h144
        obtain ⟨x140, Mm141, h142, hf⟩ := jm_bd_some hf
        refine jw_V (As := [va_rf v4, .int v7, va_rf v4, .int v8]) (rest := [.int v8, va_rf x138]) (C := RX9) (T := TX9) (N := 4) (rv := (some a0)) (jt_X9_product l g b N a143 v4 v7 v4 v8 Mm133 Mm141 x140 h142) C0 hK hst (jm_mono h142) (jm_le_tr (jm_mono hf) hle116) q821 q823 qs16 q84 q824 hd_X9_product ⟨Nat.le_of_ble_eq_true rfl, Nat.le_of_ble_eq_true rfl⟩ hea143 hr145 rfl rfl hl.1 rfl (by rw [cs_i, cs_r, cs_n]; exact Nat.le_of_ble_eq_true rfl) dX9_along_145 (fun H locs cells slots hst => ?_)
        refine W.eq (g2 := F0 m 148 ls [.long x140, .int v8, va_rf x138]) rfl ?_
        obtain ⟨F146, h147, hf⟩ := jm_wr_some hf
        refine jw_last (r := x138) hx hb hK hst h147 dX9_along_148 (fun H locs hst => ?_)
        generalize ((Mm141.1, Mm141.2.1, F146) : Mem) = Mm148 at hf hst
        refine lv_iinc (i := 8) (v := (v8 + 1)) (lv' := [(8, .int (v8 + 1)), (0, va_rf (some a0)), (4, va_rf v4), (5, va_rf v5), (6, va_rf v6), (7, .int v7)]) hx hb dX9_along_149 hl (k := 5) rfl (by rfl) (by decide) rfl (fun ls hl => ?_)
        refine lv_goto (tgt := 116) hx hb dX9_along_152 (by decide) ?_
        obtain ⟨rfl, rfl⟩ := jm_ret_some hf
        exact jm_or_l hk116 _ _ _ _ _ hst (lv_sub hl [1, 2, 3, 4, 5, 0] rfl)
    intro H locs cells slots ls hst hl
    unfold jf_X9_along_L103 at hf
    refine lv_iload hx hb dX9_along_103 (lv_at hl 4 rfl) ?_
    refine jw_aload (r := v4) hx hb dX9_along_105 (lv_at hl 1 rfl) ?_
    obtain ⟨x131, h132, hf⟩ := jm_rd_some hf
    refine jw_getI hx hb hts hown hK hst (fl_X9_64 hts hK) h132 dX9_along_107 ?_
    refine lv_icmp_ge (tgt := 161) hx hb dX9_along_110 (by decide) (fun hc => ?_) (fun hc => ?_)
    · rw [if_pos hc] at hf
      obtain ⟨rfl, rfl⟩ := jm_ret_some hf
      exact jm_or_r hk103 _ _ _ _ _ hst (lv_sub hl [0, 1, 2, 3] rfl)
    · rw [if_neg hc] at hf
      refine lv_iconst (v := 0) hx hb dX9_along_113 (by decide) ?_
      refine lv_istore (i := 8) (lv' := [(8, .int (0 : Int32)), (0, va_rf (some a0)), (4, va_rf v4), (5, va_rf v5), (6, va_rf v6), (7, .int v7)]) hx hb dX9_along_114 hl (by decide) rfl (fun ls hl => ?_)
      obtain ⟨xl116, Ml116, hit116, hf⟩ := jm_bd_some hf
      have hlf116 : jm_le Ml116 M' := jm_le_tr (jm_mono hf) hle103
      have hwe116 : (fun (y : Unit) (Mz : Mem) => ∀ (H : Heap) (locs : List Loc) (cells slots : Nat) (ls : Array Slot), jm_St g b M M' Mz s (jm_rm 4 110 M M') H locs cells slots → lv_has ls 15 [(0, va_rf (some a0)), (4, va_rf v4), (5, va_rf v5), (6, va_rf v6), (7, .int v7)] → W p l e (jm_rm 4 110 M M') s m args below meth c H locs cells slots (jm_MQ below g b (some (va_rf r)) M M' args s) (F0 m 155 ls [])) xl116 Ml116 := fun H locs cells slots ls hst hl => K116_155 v7 _ hf H locs cells slots ls hst hl
      refine jm_it_walk (Mf := M') (Wh := fun (z : Int32) (Mz : Mem) => ∀ (H : Heap) (locs : List Loc) (cells slots : Nat) (ls : Array Slot), jm_St g b M M' Mz s (jm_rm 4 110 M M') H locs cells slots → lv_has ls 15 [(0, va_rf (some a0)), (4, va_rf v4), (5, va_rf v5), (6, va_rf v6), (7, .int v7), (8, .int z)] → W p l e (jm_rm 4 110 M M') s m args below meth c H locs cells slots (jm_MQ below g b (some (va_rf r)) M M' args s) (F0 m 116 ls [])) (We := fun (y : Unit) (Mz : Mem) => ∀ (H : Heap) (locs : List Loc) (cells slots : Nat) (ls : Array Slot), jm_St g b M M' Mz s (jm_rm 4 110 M M') H locs cells slots → lv_has ls 15 [(0, va_rf (some a0)), (4, va_rf v4), (5, va_rf v5), (6, va_rf v6), (7, .int v7)] → W p l e (jm_rm 4 110 M M') s m args below meth c H locs cells slots (jm_MQ below g b (some (va_rf r)) M M' args s) (F0 m 155 ls [])) ?_ N (0 : Int32) Mm130 xl116 Ml116 hit116 hlf116 hwe116 _ _ _ _ _ hst (lv_sub hl [1, 2, 3, 4, 5, 0] rfl)
      intro v8 Mm149 xe116 Me116 hf hle116 hk116 H locs cells slots ls hst hl
      have hf : (jf_X9_along_L116 N a0 v4 v5 v6 v7 v8).1 Mm149 = some (xe116, Me116) := hf
      have hl : lv_has ls 15 [(0, va_rf (some a0)), (4, va_rf v4), (5, va_rf v5), (6, va_rf v6), (7, .int v7), (8, .int v8)] := hl
      exact B116 a0 v4 v5 v6 v7 v8 _ _ _ hf hle116 hk116 _ _ _ _ _ hst (lv_sub hl [0, 1, 2, 3, 4, 5] rfl)
  have K5_51 : ∀ (a0 : Nat) (v1 : Option Nat) (v2 : Int32) (v3 : Int32) (Mm92 : Mem), (jf_X9_along_k5_51 N a0 v1 v2 v3).1 Mm92 = some (r, M') → ∀ (H : Heap) (locs : List Loc) (cells slots : Nat) (ls : Array Slot), jm_St g b M M' Mm92 s (jm_rm 4 110 M M') H locs cells slots → lv_has ls 15 [(0, va_rf (some a0)), (1, va_rf v1), (2, .int v2), (3, .int v3)] → W p l e (jm_rm 4 110 M M') s m args below meth c H locs cells slots (jm_MQ below g b (some (va_rf r)) M M' args s) (F0 m 51 ls []) := by
    intro a0 v1 v2 v3 Mm92 hf H locs cells slots ls hst hl
    unfold jf_X9_along_k5_51 at hf
    refine jw_aload_n (r := v1) hx hb dX9_along_51 rfl (lv_at hl 1 rfl) ?_
    refine lv_iload_n hx hb dX9_along_52 rfl (lv_at hl 3 rfl) ?_
    obtain ⟨a96, h97, hf⟩ := jm_rd_some hf
    obtain ⟨fsa96, hea96, hr98⟩ := jm_cl_some h97
    obtain ⟨x93, Mm94, h95, hf⟩ := jm_bd_some hf
    refine jw_V (As := [.int v3]) (rest := []) (C := RX11) (T := TX11) (N := 3) (rv := v1) (jt_X11_some l g b N a96 v3 Mm92 Mm94 x93 h95) C0 hK hst (jm_mono h95) (jm_le_tr (jm_mono hf) jm_le_rf) q747 q748 q749 q90 q750 hd_X11_some ⟨Nat.le_of_ble_eq_true rfl, Nat.le_of_ble_eq_true rfl⟩ hea96 hr98 rfl rfl hl.1 rfl (by rw [cs_n]; exact Nat.le_of_ble_eq_true rfl) dX9_along_53 (fun H locs cells slots hst => ?_)
    refine W.eq (g2 := F0 m 56 ls [va_rf x93]) rfl ?_
    refine jw_astore (i := 4) (r := x93) (lv' := [(4, va_rf x93), (0, va_rf (some a0)), (1, va_rf v1), (2, .int v2), (3, .int v3)]) hx hb dX9_along_56 hl (by decide) rfl (fun ls hl => ?_)
    obtain ⟨q99, hq99, hf⟩ := jm_al_some hf
    refine jw_new (ci := 11) (C := RX11) (T := TX11) (N := 3) (fs := [.null, .int 0, .int 0]) hx hb hts in_X11 tyX11 tyX11_ok hown (hts _ q615) (hts _ q616) (hts _ q90) hK hst rfl (fun j hj => by match j, hj with | 0, _ => rfl | 1, _ => rfl | 2, _ => rfl | k + 3, hj => omega) rfl (jm_le_tr (jm_mono hf) jm_le_rf) hq99 dX9_along_58 (fun H cells slots hst => ?_)
    generalize jm_new (.inr (11, [.null, .int 0, .int 0])) Mm94 = Mm100 at hf hst
    refine lv_dup hx hb dX9_along_61 (va_rf_cat _) ?_
    refine jw_aload_n (r := (some a0)) hx hb dX9_along_62 rfl (lv_at hl 1 rfl) ?_
    obtain ⟨x101, h102, hf⟩ := jm_rd_some hf
    refine jw_getR hx hb hts hown hK hst (fl_X9_15 hts hK) h102 dX9_along_63 ?_
    obtain ⟨x103, h104, hf⟩ := jm_rd_some hf
    refine jw_alen hx hb hK hst (show jm_ty[4]? = some (.object "ChainParts$EdgeCell") from rfl) h104 dX9_along_66 ?_
    refine lv_iconst (v := 0) hx hb dX9_along_67 (by decide) ?_
    obtain ⟨x105, Mm106, h107, hf⟩ := jm_bd_some hf
    refine jw_I (As := [.int x103, .int (0 : Int32)]) (rest := [va_rf (some q99)]) (rv := (some q99)) (jt_X11_init l g b N q99 x103 (0 : Int32) Mm100 Mm106 x105 h107) C0 hK hst (jm_mono h107) (jm_le_tr (jm_mono hf) jm_le_rf) q617 q618 q90 q619 rfl hd_X11_init.2 ⟨Nat.le_of_ble_eq_true rfl, Nat.le_of_ble_eq_true rfl⟩ rfl rfl hl.1 rfl (by rw [cs_r, cs_n]; exact Nat.le_of_ble_eq_true rfl) dX9_along_68 (fun H locs cells slots hst => ?_)
    refine W.eq (g2 := F0 m 71 ls [va_rf (some q99)]) rfl ?_
    refine jw_aload_n (r := (some a0)) hx hb dX9_along_71 rfl (lv_at hl 1 rfl) ?_
    refine lv_iload_n hx hb dX9_along_72 rfl (lv_at hl 3 rfl) ?_
    obtain ⟨a111, h112, hf⟩ := jm_rd_some hf
    obtain ⟨fsa111, hea111, hr113⟩ := jm_cl_some h112
    obtain ⟨x108, Mm109, h110, hf⟩ := jm_bd_some hf
    refine jw_V (As := [.int v2]) (rest := [va_rf (some q99)]) (C := RX9) (T := TX9) (N := 4) (rv := (some a0)) (jt_X9_column l g b N a111 v2 Mm106 Mm109 x108 h110) C0 hK hst (jm_mono h110) (jm_le_tr (jm_mono hf) jm_le_rf) q795 q796 q797 q84 q798 hd_X9_column ⟨Nat.le_of_ble_eq_true rfl, Nat.le_of_ble_eq_true rfl⟩ hea111 hr113 rfl rfl hl.1 rfl (by rw [cs_r, cs_n]; exact Nat.le_of_ble_eq_true rfl) dX9_along_73 (fun H locs cells slots hst => ?_)
    refine W.eq (g2 := F0 m 76 ls [va_rf x108, va_rf (some q99)]) rfl ?_
    obtain ⟨a117, h118, hf⟩ := jm_rd_some hf
    obtain ⟨fsa117, hea117, hr119⟩ := jm_cl_some h118
    obtain ⟨x114, Mm115, h116, hf⟩ := jm_bd_some hf
    refine jw_V (As := [va_rf x108]) (rest := []) (C := RX11) (T := TX11) (N := 3) (rv := (some q99)) (jt_X11_and l g b N a117 x108 Mm109 Mm115 x114 h116) C0 hK hst (jm_mono h116) (jm_le_tr (jm_mono hf) jm_le_rf) q799 q691 q692 q90 q693 hd_X11_and ⟨Nat.le_of_ble_eq_true rfl, Nat.le_of_ble_eq_true rfl⟩ hea117 hr119 rfl rfl hl.1 rfl (by rw [cs_n]; exact Nat.le_of_ble_eq_true rfl) dX9_along_76 (fun H locs cells slots hst => ?_)
    refine W.eq (g2 := F0 m 79 ls [va_rf x114]) rfl ?_
    refine jw_astore (i := 5) (r := x114) (lv' := [(5, va_rf x114), (4, va_rf x93), (0, va_rf (some a0)), (1, va_rf v1), (2, .int v2), (3, .int v3)]) hx hb dX9_along_79 hl (by decide) (by simp [va_rf_cat, cat_i, cat_j, cat_f]) (fun ls hl => ?_)
    obtain ⟨q120, hq120, hf⟩ := jm_al_some hf
    refine jw_new (ci := 11) (C := RX11) (T := TX11) (N := 3) (fs := [.null, .int 0, .int 0]) hx hb hts in_X11 tyX11 tyX11_ok hown (hts _ q615) (hts _ q616) (hts _ q90) hK hst rfl (fun j hj => by match j, hj with | 0, _ => rfl | 1, _ => rfl | 2, _ => rfl | k + 3, hj => omega) rfl (jm_le_tr (jm_mono hf) jm_le_rf) hq120 dX9_along_81 (fun H cells slots hst => ?_)
    generalize jm_new (.inr (11, [.null, .int 0, .int 0])) Mm115 = Mm121 at hf hst
    refine lv_dup hx hb dX9_along_84 (va_rf_cat _) ?_
    refine jw_aload (r := x93) hx hb dX9_along_85 (lv_at hl 1 rfl) ?_
    obtain ⟨x122, h123, hf⟩ := jm_rd_some hf
    refine jw_getI hx hb hts hown hK hst (fl_X9_64 hts hK) h123 dX9_along_87 ?_
    refine jw_aload (r := x93) hx hb dX9_along_90 (lv_at hl 1 rfl) ?_
    obtain ⟨x124, h125, hf⟩ := jm_rd_some hf
    refine jw_getI hx hb hts hown hK hst (fl_X9_64 hts hK) h125 dX9_along_92 ?_
    obtain ⟨x126, Mm127, h128, hf⟩ := jm_bd_some hf
    refine jw_I (As := [.int x122, .int x124]) (rest := [va_rf (some q120)]) (rv := (some q120)) (jt_X11_init l g b N q120 x122 x124 Mm121 Mm127 x126 h128) C0 hK hst (jm_mono h128) (jm_le_tr (jm_mono hf) jm_le_rf) q617 q618 q90 q619 rfl hd_X11_init.2 ⟨Nat.le_of_ble_eq_true rfl, Nat.le_of_ble_eq_true rfl⟩ rfl rfl hl.1 rfl (by rw [cs_r, cs_n]; exact Nat.le_of_ble_eq_true rfl) dX9_along_95 (fun H locs cells slots hst => ?_)
    refine W.eq (g2 := F0 m 98 ls [va_rf (some q120)]) rfl ?_
    refine jw_astore (i := 6) (r := (some q120)) (lv' := [(6, va_rf (some q120)), (5, va_rf x114), (4, va_rf x93), (0, va_rf (some a0)), (1, va_rf v1), (2, .int v2), (3, .int v3)]) hx hb dX9_along_98 hl (by decide) (by simp [va_rf_cat, cat_i, cat_j, cat_f]) (fun ls hl => ?_)
    refine lv_iconst (v := 0) hx hb dX9_along_100 (by decide) ?_
    refine lv_istore (i := 7) (lv' := [(7, .int (0 : Int32)), (6, va_rf (some q120)), (5, va_rf x114), (4, va_rf x93), (0, va_rf (some a0)), (1, va_rf v1), (2, .int v2), (3, .int v3)]) hx hb dX9_along_101 hl (by decide) (by simp [va_rf_cat, cat_i, cat_j, cat_f]) (fun ls hl => ?_)
    obtain ⟨xl103, Ml103, hit103, hf⟩ := jm_bd_some hf
    have hlf103 : jm_le Ml103 M' := jm_le_tr (jm_mono hf) jm_le_rf
    have hwe103 : (fun (y : Unit) (Mz : Mem) => ∀ (H : Heap) (locs : List Loc) (cells slots : Nat) (ls : Array Slot), jm_St g b M M' Mz s (jm_rm 4 110 M M') H locs cells slots → lv_has ls 15 [(0, va_rf (some a0)), (4, va_rf x93), (5, va_rf x114), (6, va_rf (some q120))] → W p l e (jm_rm 4 110 M M') s m args below meth c H locs cells slots (jm_MQ below g b (some (va_rf r)) M M' args s) (F0 m 161 ls [])) xl103 Ml103 := fun H locs cells slots ls hst hl => K103_161 a0 x93 x114 (some q120) _ hf H locs cells slots ls hst hl
    refine jm_it_walk (Mf := M') (Wh := fun (z : Int32) (Mz : Mem) => ∀ (H : Heap) (locs : List Loc) (cells slots : Nat) (ls : Array Slot), jm_St g b M M' Mz s (jm_rm 4 110 M M') H locs cells slots → lv_has ls 15 [(0, va_rf (some a0)), (4, va_rf x93), (5, va_rf x114), (6, va_rf (some q120)), (7, .int z)] → W p l e (jm_rm 4 110 M M') s m args below meth c H locs cells slots (jm_MQ below g b (some (va_rf r)) M M' args s) (F0 m 103 ls [])) (We := fun (y : Unit) (Mz : Mem) => ∀ (H : Heap) (locs : List Loc) (cells slots : Nat) (ls : Array Slot), jm_St g b M M' Mz s (jm_rm 4 110 M M') H locs cells slots → lv_has ls 15 [(0, va_rf (some a0)), (4, va_rf x93), (5, va_rf x114), (6, va_rf (some q120))] → W p l e (jm_rm 4 110 M M') s m args below meth c H locs cells slots (jm_MQ below g b (some (va_rf r)) M M' args s) (F0 m 161 ls [])) ?_ N (0 : Int32) Mm127 xl103 Ml103 hit103 hlf103 hwe103 _ _ _ _ _ hst (lv_sub hl [4, 3, 2, 1, 0] rfl)
    intro v7 Mm150 xe103 Me103 hf hle103 hk103 H locs cells slots ls hst hl
    have hf : (jf_X9_along_L103 N a0 x93 x114 (some q120) v7).1 Mm150 = some (xe103, Me103) := hf
    have hl : lv_has ls 15 [(0, va_rf (some a0)), (4, va_rf x93), (5, va_rf x114), (6, va_rf (some q120)), (7, .int v7)] := hl
    exact B103 a0 x93 x114 (some q120) v7 _ _ _ hf hle103 hk103 _ _ _ _ _ hst (lv_sub hl [0, 1, 2, 3, 4] rfl)
  have B5 : ∀ (a0 : Nat) (v1 : Option Nat) (v2 : Int32) (v3 : Int32) (v4 : Int32) (Mm152 : Mem) (xe5 : ((Int32 × Int32) ⊕ Int32)) (Me5 : Mem), (jf_X9_along_L5 N a0 v1 v2 v3 v4).1 Mm152 = some (xe5, Me5) → jm_le Me5 M' → (jm_or (fun (z : Int32 × Int32) => ∀ (H : Heap) (locs : List Loc) (cells slots : Nat) (ls : Array Slot), jm_St g b M M' Me5 s (jm_rm 4 110 M M') H locs cells slots → lv_has ls 15 [(0, va_rf (some a0)), (1, va_rf v1), (2, .int v2), (3, .int z.1), (4, .int z.2)] → W p l e (jm_rm 4 110 M M') s m args below meth c H locs cells slots (jm_MQ below g b (some (va_rf r)) M M' args s) (F0 m 5 ls [])) (fun (y : Int32) => ∀ (H : Heap) (locs : List Loc) (cells slots : Nat) (ls : Array Slot), jm_St g b M M' Me5 s (jm_rm 4 110 M M') H locs cells slots → lv_has ls 15 [(0, va_rf (some a0)), (1, va_rf v1), (2, .int v2), (3, .int y)] → W p l e (jm_rm 4 110 M M') s m args below meth c H locs cells slots (jm_MQ below g b (some (va_rf r)) M M' args s) (F0 m 51 ls [])) xe5) → ∀ (H : Heap) (locs : List Loc) (cells slots : Nat) (ls : Array Slot), jm_St g b M M' Mm152 s (jm_rm 4 110 M M') H locs cells slots → lv_has ls 15 [(0, va_rf (some a0)), (1, va_rf v1), (2, .int v2), (3, .int v3), (4, .int v4)] → W p l e (jm_rm 4 110 M M') s m args below meth c H locs cells slots (jm_MQ below g b (some (va_rf r)) M M' args s) (F0 m 5 ls []) := by
    intro a0 v1 v2 v3 v4 Mm152 xe5 Me5 hf hle5 hk5
    have J43 : ∀ (v4 : Int32) (t0 : Int32) (t1 : Int32) (Mm151 : Mem), (jf_X9_along_j43 N a0 v1 v2 v4 t0 t1).1 Mm151 = some (xe5, Me5) → ∀ (H : Heap) (locs : List Loc) (cells slots : Nat) (ls : Array Slot), jm_St g b M M' Mm151 s (jm_rm 4 110 M M') H locs cells slots → lv_has ls 15 [(0, va_rf (some a0)), (1, va_rf v1), (2, .int v2), (4, .int v4)] → W p l e (jm_rm 4 110 M M') s m args below meth c H locs cells slots (jm_MQ below g b (some (va_rf r)) M M' args s) (F0 m 43 ls [.int t1, .int t0]) := by
      intro v4 t0 t1 Mm151 hf H locs cells slots ls hst hl
      unfold jf_X9_along_j43 at hf
      refine lv_ior hx hb dX9_along_43 ?_
      refine lv_istore_n (i := 3) (lv' := [(3, .int (t0 ||| t1)), (0, va_rf (some a0)), (1, va_rf v1), (2, .int v2), (4, .int v4)]) hx hb dX9_along_44 rfl hl (by decide) rfl (fun ls hl => ?_)
      refine lv_iinc (i := 4) (v := (v4 + 1)) (lv' := [(4, .int (v4 + 1)), (3, .int (t0 ||| t1)), (0, va_rf (some a0)), (1, va_rf v1), (2, .int v2)]) hx hb dX9_along_45 hl (k := 4) rfl (by rfl) (by decide) rfl (fun ls hl => ?_)
      refine lv_goto (tgt := 5) hx hb dX9_along_48 (by decide) ?_
      obtain ⟨rfl, rfl⟩ := jm_ret_some hf
      exact jm_or_l hk5 _ _ _ _ _ hst (lv_sub hl [2, 3, 4, 1, 0] rfl)
    intro H locs cells slots ls hst hl
    unfold jf_X9_along_L5 at hf
    refine lv_iload hx hb dX9_along_5 (lv_at hl 4 rfl) ?_
    refine jw_aload_n (r := v1) hx hb dX9_along_7 rfl (lv_at hl 1 rfl) ?_
    obtain ⟨x153, h154, hf⟩ := jm_rd_some hf
    refine jw_getI hx hb hts hown hK hst (fl_X9_64 hts hK) h154 dX9_along_8 ?_
    refine lv_icmp_ge (tgt := 51) hx hb dX9_along_11 (by decide) (fun hc => ?_) (fun hc => ?_)
    · rw [if_pos hc] at hf
      obtain ⟨rfl, rfl⟩ := jm_ret_some hf
      exact jm_or_r hk5 _ _ _ _ _ hst (lv_sub hl [0, 1, 2, 3] rfl)
    · rw [if_neg hc] at hf
      refine lv_iload_n hx hb dX9_along_14 rfl (lv_at hl 3 rfl) ?_
      refine jw_aload_n (r := v1) hx hb dX9_along_15 rfl (lv_at hl 1 rfl) ?_
      refine lv_iload_n hx hb dX9_along_16 rfl (lv_at hl 3 rfl) ?_
      refine lv_iconst (v := 1) hx hb dX9_along_17 (by decide) ?_
      refine lv_iload hx hb dX9_along_18 (lv_at hl 4 rfl) ?_
      refine lv_ishl hx hb dX9_along_20 ?_
      refine lv_ior hx hb dX9_along_21 ?_
      obtain ⟨a158, h159, hf⟩ := jm_rd_some hf
      obtain ⟨fsa158, hea158, hr160⟩ := jm_cl_some h159
      obtain ⟨x155, Mm156, h157, hf⟩ := jm_bd_some hf
      refine jw_V (As := [.int (v3 ||| ((1 : Int32) <<< (v4 &&& 31)))]) (rest := [.int v3]) (C := RX11) (T := TX11) (N := 3) (rv := v1) (jt_X11_some l g b N a158 (v3 ||| ((1 : Int32) <<< (v4 &&& 31))) Mm152 Mm156 x155 h157) C0 hK hst (jm_mono h157) (jm_le_tr (jm_mono hf) hle5) q747 q748 q749 q90 q750 hd_X11_some ⟨Nat.le_of_ble_eq_true rfl, Nat.le_of_ble_eq_true rfl⟩ hea158 hr160 rfl rfl hl.1 rfl (by rw [cs_i, cs_n]; exact Nat.le_of_ble_eq_true rfl) dX9_along_22 (fun H locs cells slots hst => ?_)
      refine W.eq (g2 := F0 m 25 ls [va_rf x155, .int v3]) rfl ?_
      obtain ⟨a164, h165, hf⟩ := jm_rd_some hf
      obtain ⟨fsa164, hea164, hr166⟩ := jm_cl_some h165
      obtain ⟨x161, Mm162, h163, hf⟩ := jm_bd_some hf
      refine jw_V (As := []) (rest := [.int v3]) (C := RX11) (T := TX11) (N := 3) (rv := x155) (jt_X11_rank l g b N a164  Mm156 Mm162 x161 h163) C0 hK hst (jm_mono h163) (jm_le_tr (jm_mono hf) hle5) q686 q687 q688 q90 q689 hd_X11_rank ⟨Nat.le_of_ble_eq_true rfl, Nat.le_of_ble_eq_true rfl⟩ hea164 hr166 rfl rfl hl.1 rfl (by rw [cs_i, cs_n]; exact Nat.le_of_ble_eq_true rfl) dX9_along_25 (fun H locs cells slots hst => ?_)
      refine W.eq (g2 := F0 m 28 ls [.int x161, .int v3]) rfl ?_
      refine lv_iload_n hx hb dX9_along_28 rfl (lv_at hl 3 rfl) ?_
      obtain ⟨x167, Mm168, h169, hf⟩ := jm_bd_some hf
      refine jw_S (As := [.int v3]) (rest := [.int x161, .int v3]) (jt_J6_bitCount l g b N v3 Mm162 Mm168 x167 h169) C0 hK hst (jm_mono h169) (jm_le_tr (jm_mono hf) hle5) q820 q752 q91 q753 hd_J6_bitCount.2 ⟨Nat.le_of_ble_eq_true rfl, Nat.le_of_ble_eq_true rfl⟩ rfl hl.1 rfl (by rw [cs_i, cs_i, cs_n]; exact Nat.le_of_ble_eq_true rfl) dX9_along_29 (fun H locs cells slots hst => ?_)
      refine W.eq (g2 := F0 m 32 ls [.int x167, .int x161, .int v3]) rfl ?_
      refine lv_icmp_le (tgt := 42) hx hb dX9_along_32 (by decide) (fun hc => ?_) (fun hc => ?_)
      · rw [if_pos hc] at hf
        refine lv_iconst (v := 0) hx hb dX9_along_42 (by decide) ?_
        exact J43 v4 v3 (0 : Int32) _ hf _ _ _ _ _ hst (lv_sub hl [0, 1, 2, 4] rfl)
      · rw [if_neg hc] at hf
        refine lv_iconst (v := 1) hx hb dX9_along_35 (by decide) ?_
        refine lv_iload hx hb dX9_along_36 (lv_at hl 4 rfl) ?_
        refine lv_ishl hx hb dX9_along_38 ?_
        refine lv_goto (tgt := 43) hx hb dX9_along_39 (by decide) ?_
        exact J43 v4 v3 ((1 : Int32) <<< (v4 &&& 31)) _ hf _ _ _ _ _ hst (lv_sub hl [0, 1, 2, 4] rfl)
  unfold jf_X9_along at hf
  refine lv_iconst (v := 0) hx hb dX9_along_0 (by decide) ?_
  refine lv_istore_n (i := 3) (lv' := [(3, .int (0 : Int32)), (0, va_rf (some a0)), (1, va_rf v1), (2, .int v2)]) hx hb dX9_along_1 rfl hl (by decide) rfl (fun ls hl => ?_)
  refine lv_iconst (v := 0) hx hb dX9_along_2 (by decide) ?_
  refine lv_istore (i := 4) (lv' := [(4, .int (0 : Int32)), (3, .int (0 : Int32)), (0, va_rf (some a0)), (1, va_rf v1), (2, .int v2)]) hx hb dX9_along_3 hl (by decide) rfl (fun ls hl => ?_)
  obtain ⟨xl5, Ml5, hit5, hf⟩ := jm_bd_some hf
  have hlf5 : jm_le Ml5 M' := jm_le_tr (jm_mono hf) jm_le_rf
  have hwe5 : (fun (y : Int32) (Mz : Mem) => ∀ (H : Heap) (locs : List Loc) (cells slots : Nat) (ls : Array Slot), jm_St g b M M' Mz s (jm_rm 4 110 M M') H locs cells slots → lv_has ls 15 [(0, va_rf (some a0)), (1, va_rf v1), (2, .int v2), (3, .int y)] → W p l e (jm_rm 4 110 M M') s m args below meth c H locs cells slots (jm_MQ below g b (some (va_rf r)) M M' args s) (F0 m 51 ls [])) xl5 Ml5 := fun H locs cells slots ls hst hl => K5_51 a0 v1 v2 xl5 _ hf H locs cells slots ls hst hl
  refine jm_it_walk (Mf := M') (Wh := fun (z : Int32 × Int32) (Mz : Mem) => ∀ (H : Heap) (locs : List Loc) (cells slots : Nat) (ls : Array Slot), jm_St g b M M' Mz s (jm_rm 4 110 M M') H locs cells slots → lv_has ls 15 [(0, va_rf (some a0)), (1, va_rf v1), (2, .int v2), (3, .int z.1), (4, .int z.2)] → W p l e (jm_rm 4 110 M M') s m args below meth c H locs cells slots (jm_MQ below g b (some (va_rf r)) M M' args s) (F0 m 5 ls [])) (We := fun (y : Int32) (Mz : Mem) => ∀ (H : Heap) (locs : List Loc) (cells slots : Nat) (ls : Array Slot), jm_St g b M M' Mz s (jm_rm 4 110 M M') H locs cells slots → lv_has ls 15 [(0, va_rf (some a0)), (1, va_rf v1), (2, .int v2), (3, .int y)] → W p l e (jm_rm 4 110 M M') s m args below meth c H locs cells slots (jm_MQ below g b (some (va_rf r)) M M' args s) (F0 m 51 ls [])) ?_ N ((0 : Int32), (0 : Int32)) M xl5 Ml5 hit5 hlf5 hwe5 _ _ _ _ _ hst (lv_sub hl [2, 3, 4, 1, 0] rfl)
  intro z Mm170 xe5 Me5 hf hle5 hk5 H locs cells slots ls hst hl
  obtain ⟨v3, v4⟩ := z
  have hf : (jf_X9_along_L5 N a0 v1 v2 v3 v4).1 Mm170 = some (xe5, Me5) := hf
  have hl : lv_has ls 15 [(0, va_rf (some a0)), (1, va_rf v1), (2, .int v2), (3, .int v3), (4, .int v4)] := hl
  exact B5 a0 v1 v2 v3 v4 _ _ _ hf hle5 hk5 _ _ _ _ _ hst (lv_sub hl [0, 1, 2, 3, 4] rfl)
def jf_X9_driven (N : Nat) (a0 : Nat) : jm_P (Option Nat) :=
  jm_rd (jm_cl 9 (some a0)) fun a4 =>
  jm_bd (jf_X9_table N a4 (1 : Int32)) fun x1 =>
  jm_rd (jm_cl 9 (some a0)) fun a10 =>
  jm_bd (jf_X9_weights N a10 (1 : Int32)) fun x7 =>
  jm_rd (jm_cl 11 x1) fun a16 =>
  jm_bd (jf_X11_weighed N a16 x7) fun x13 =>
  jm_rd (jm_cl 11 x13) fun a22 =>
  jm_bd (jf_X11_turned N a22 ) fun x19 =>
  jm_ret x19
set_option maxHeartbeats 4000000 in
set_option maxRecDepth 100000 in
theorem jt_X9_driven (l : Launch) (g : GD) (b N : Nat) (a0 : Nat) (M M' : Mem) (r : (Option Nat)) (hf : (jf_X9_driven N a0).1 M = some (r, M')) : jm_Met l g b yX9_driven (ws_ yX9_driven cX9_driven 1 (some (.object "ChainParts$Table"))) 4 88 [va_rf (some a0)] M M' (some (va_rf r)) := by
  refine jm_start (by decide) (jm_mono hf) (by rw [lg_sl_r, lg_sl_n]; exact Nat.le_of_ble_eq_true rfl) ?_
  intro p e s m args below meth c ls C0 hin hK hst hl
  obtain ⟨hx, hb, hml, hown, hts, hr, hlk⟩ := id C0
  have hown : s.vm.findClass RX9 = some m.cls := hown
  have C0 : jm_Cx p s m args meth c cX9_driven 1 (some (.object "ChainParts$Table")) RX9 := C0
  rw [lv_args_r, lv_args_n] at hl
  have hl : lv_has ls 1 [(0, va_rf (some a0))] := hl
  unfold jf_X9_driven at hf
  refine jw_aload_n (r := (some a0)) hx hb dX9_driven_0 rfl (lv_at hl 0 rfl) ?_
  refine lv_iconst (v := 1) hx hb dX9_driven_1 (by decide) ?_
  obtain ⟨a4, h5, hf⟩ := jm_rd_some hf
  obtain ⟨fsa4, hea4, hr6⟩ := jm_cl_some h5
  obtain ⟨x1, Mm2, h3, hf⟩ := jm_bd_some hf
  refine jw_V (As := [.int (1 : Int32)]) (rest := []) (C := RX9) (T := TX9) (N := 4) (rv := (some a0)) (jt_X9_table l g b N a4 (1 : Int32) M Mm2 x1 h3) C0 hK hst (jm_mono h3) (jm_le_tr (jm_mono hf) jm_le_rf) q647 q612 q613 q84 q614 hd_X9_table ⟨Nat.le_of_ble_eq_true rfl, Nat.le_of_ble_eq_true rfl⟩ hea4 hr6 rfl rfl hl.1 rfl (by rw [cs_n]; exact Nat.le_of_ble_eq_true rfl) dX9_driven_2 (fun H locs cells slots hst => ?_)
  refine W.eq (g2 := F0 m 5 ls [va_rf x1]) rfl ?_
  refine jw_aload_n (r := (some a0)) hx hb dX9_driven_5 rfl (lv_at hl 0 rfl) ?_
  refine lv_iconst (v := 1) hx hb dX9_driven_6 (by decide) ?_
  obtain ⟨a10, h11, hf⟩ := jm_rd_some hf
  obtain ⟨fsa10, hea10, hr12⟩ := jm_cl_some h11
  obtain ⟨x7, Mm8, h9, hf⟩ := jm_bd_some hf
  refine jw_V (As := [.int (1 : Int32)]) (rest := [va_rf x1]) (C := RX9) (T := TX9) (N := 4) (rv := (some a0)) (jt_X9_weights l g b N a10 (1 : Int32) Mm2 Mm8 x7 h9) C0 hK hst (jm_mono h9) (jm_le_tr (jm_mono hf) jm_le_rf) q658 q659 q660 q84 q661 hd_X9_weights ⟨Nat.le_of_ble_eq_true rfl, Nat.le_of_ble_eq_true rfl⟩ hea10 hr12 rfl rfl hl.1 rfl (by rw [cs_r, cs_n]; exact Nat.le_of_ble_eq_true rfl) dX9_driven_7 (fun H locs cells slots hst => ?_)
  refine W.eq (g2 := F0 m 10 ls [va_rf x7, va_rf x1]) rfl ?_
  obtain ⟨a16, h17, hf⟩ := jm_rd_some hf
  obtain ⟨fsa16, hea16, hr18⟩ := jm_cl_some h17
  obtain ⟨x13, Mm14, h15, hf⟩ := jm_bd_some hf
  refine jw_V (As := [va_rf x7]) (rest := []) (C := RX11) (T := TX11) (N := 3) (rv := x1) (jt_X11_weighed l g b N a16 x7 Mm8 Mm14 x13 h15) C0 hK hst (jm_mono h15) (jm_le_tr (jm_mono hf) jm_le_rf) q662 q663 q664 q90 q665 hd_X11_weighed ⟨Nat.le_of_ble_eq_true rfl, Nat.le_of_ble_eq_true rfl⟩ hea16 hr18 rfl rfl hl.1 rfl (by rw [cs_n]; exact Nat.le_of_ble_eq_true rfl) dX9_driven_10 (fun H locs cells slots hst => ?_)
  refine W.eq (g2 := F0 m 13 ls [va_rf x13]) rfl ?_
  obtain ⟨a22, h23, hf⟩ := jm_rd_some hf
  obtain ⟨fsa22, hea22, hr24⟩ := jm_cl_some h23
  obtain ⟨x19, Mm20, h21, hf⟩ := jm_bd_some hf
  refine jw_V (As := []) (rest := []) (C := RX11) (T := TX11) (N := 3) (rv := x13) (jt_X11_turned l g b N a22  Mm14 Mm20 x19 h21) C0 hK hst (jm_mono h21) (jm_le_tr (jm_mono hf) jm_le_rf) q648 q649 q650 q90 q651 hd_X11_turned ⟨Nat.le_of_ble_eq_true rfl, Nat.le_of_ble_eq_true rfl⟩ hea22 hr24 rfl rfl hl.1 rfl (by rw [cs_n]; exact Nat.le_of_ble_eq_true rfl) dX9_driven_13 (fun H locs cells slots hst => ?_)
  refine W.eq (g2 := F0 m 16 ls [va_rf x19]) rfl ?_
  obtain ⟨rfl, rfl⟩ := jm_ret_some hf
  exact jw_aret C0 (Or.inl ⟨_, rfl⟩) hst dX9_driven_16
theorem hd_X9_part : yX9_part.cls = RX9 ∧ yX9_part.cls ≠ "java/lang/invoke/MethodHandle" ∧ yX9_part.cls ≠ "java/lang/invoke/VarHandle" ∧ (parseMethodDescriptor yX9_part.desc).map (fun d => d.parameters.length) = some 2 := by decide +kernel
theorem hd_X9_driven : yX9_driven.cls = RX9 ∧ yX9_driven.cls ≠ "java/lang/invoke/MethodHandle" ∧ yX9_driven.cls ≠ "java/lang/invoke/VarHandle" ∧ (parseMethodDescriptor yX9_driven.desc).map (fun d => d.parameters.length) = some 0 := by decide +kernel
theorem hd_X9_along : yX9_along.cls = RX9 ∧ yX9_along.cls ≠ "java/lang/invoke/MethodHandle" ∧ yX9_along.cls ≠ "java/lang/invoke/VarHandle" ∧ (parseMethodDescriptor yX9_along.desc).map (fun d => d.parameters.length) = some 2 := by decide +kernel
theorem hd_X12_minus : yX12_minus.cls = RX12 ∧ yX12_minus.cls ≠ "java/lang/invoke/MethodHandle" ∧ yX12_minus.cls ≠ "java/lang/invoke/VarHandle" ∧ (parseMethodDescriptor yX12_minus.desc).map (fun d => d.parameters.length) = some 1 := by decide +kernel
def jf_X9_part1_k58_126 (N : Nat) (v5 : Option Nat) : jm_P (Option Nat) :=
  jm_ret v5
def jf_X9_part1 (N : Nat) (a0 : Nat) (v1 : Int32) (v2 : Int32) : jm_P (Option Nat) :=
  if v2 = 0 then (
    jm_rd (jm_cl 9 (some a0)) fun a20 =>
    jm_bd (jf_X9_table N a20 (2 : Int32)) fun x17 =>
    jm_rd (jm_cl 9 (some a0)) fun a26 =>
    jm_bd (jf_X9_along N a26 x17 v1) fun x23 =>
    jm_ret x23)
  else
    if v2 = (1 : Int32) then (
      jm_rd (jm_cl 9 (some a0)) fun a8 =>
      jm_bd (jf_X9_driven N a8 ) fun x5 =>
      jm_rd (jm_cl 9 (some a0)) fun a14 =>
      jm_bd (jf_X9_along N a14 x5 v1) fun x11 =>
      jm_ret x11)
    else
      jm_no
set_option maxHeartbeats 4000000 in
set_option maxRecDepth 100000 in
theorem jt_X9_part1 (l : Launch) (g : GD) (b N : Nat) (a0 : Nat) (v1 : Int32) (v2 : Int32) (M M' : Mem) (r : (Option Nat)) (hf : (jf_X9_part1 N a0 v1 v2).1 M = some (r, M')) : jm_Met l g b yX9_part (ws_ yX9_part cX9_part 8 (some (.array (.object "ChainParts$Fraction")))) 5 144 [va_rf (some a0), .int v1, .int v2] M M' (some (va_rf r)) := by
  refine jm_start (by decide) (jm_mono hf) (by rw [lg_sl_r, lg_sl_i, lg_sl_i, lg_sl_n]; exact Nat.le_of_ble_eq_true rfl) ?_
  intro p e s m args below meth c ls C0 hin hK hst hl
  obtain ⟨hx, hb, hml, hown, hts, hr, hlk⟩ := id C0
  have hown : s.vm.findClass RX9 = some m.cls := hown
  have C0 : jm_Cx p s m args meth c cX9_part 8 (some (.array (.object "ChainParts$Fraction"))) RX9 := C0
  rw [lv_args_r, lv_args_i, lv_args_i, lv_args_n] at hl
  have hl : lv_has ls 8 [(0, va_rf (some a0)), (1, .int v1), (2, .int v2)] := hl
  have K58_126 : ∀ (v5 : Option Nat) (Mm1 : Mem), (jf_X9_part1_k58_126 N v5).1 Mm1 = some (r, M') → ∀ (H : Heap) (locs : List Loc) (cells slots : Nat) (ls : Array Slot), jm_St g b M M' Mm1 s (jm_rm 5 144 M M') H locs cells slots → lv_has ls 8 [(5, va_rf v5)] → W p l e (jm_rm 5 144 M M') s m args below meth c H locs cells slots (jm_MQ below g b (some (va_rf r)) M M' args s) (F0 m 126 ls []) := by
    intro v5 Mm1 hf H locs cells slots ls hst hl
    unfold jf_X9_part1_k58_126 at hf
    refine jw_aload (r := v5) hx hb dX9_part_126 (lv_at hl 0 rfl) ?_
    obtain ⟨rfl, rfl⟩ := jm_ret_some hf
    exact jw_aret C0 (Or.inr ⟨_, rfl⟩) hst dX9_part_128
  unfold jf_X9_part1 at hf
  refine lv_iload_n hx hb dX9_part_0 rfl (lv_at hl 2 rfl) ?_
  refine lv_if_ne (tgt := 15) hx hb dX9_part_1 (by decide) (fun hc => ?_) (fun hc => ?_)
  · rw [if_neg hc] at hf
    refine lv_iload_n hx hb dX9_part_15 rfl (lv_at hl 2 rfl) ?_
    refine lv_iconst (v := 1) hx hb dX9_part_16 (by decide) ?_
    refine lv_icmp_ne (tgt := 30) hx hb dX9_part_17 (by decide) (fun hc => ?_) (fun hc => ?_)
    · rw [if_neg hc] at hf
      refine jw_aload_n (r := (some a0)) hx hb dX9_part_30 rfl (lv_at hl 0 rfl) ?_
      refine lv_iload_n hx hb dX9_part_31 rfl (lv_at hl 1 rfl) ?_
      refine lv_iconst (v := 0) hx hb dX9_part_32 (by decide) ?_
      exact absurd hf (fun q => jm_no_some q)
    · rw [if_pos hc] at hf
      refine jw_aload_n (r := (some a0)) hx hb dX9_part_20 rfl (lv_at hl 0 rfl) ?_
      refine jw_aload_n (r := (some a0)) hx hb dX9_part_21 rfl (lv_at hl 0 rfl) ?_
      obtain ⟨a8, h9, hf⟩ := jm_rd_some hf
      obtain ⟨fsa8, hea8, hr10⟩ := jm_cl_some h9
      obtain ⟨x5, Mm6, h7, hf⟩ := jm_bd_some hf
      refine jw_V (As := []) (rest := [va_rf (some a0)]) (C := RX9) (T := TX9) (N := 4) (rv := (some a0)) (jt_X9_driven l g b N a8  M Mm6 x5 h7) C0 hK hst (jm_mono h7) (jm_le_tr (jm_mono hf) jm_le_rf) q848 q850 qs17 q84 q851 hd_X9_driven ⟨Nat.le_of_ble_eq_true rfl, Nat.le_of_ble_eq_true rfl⟩ hea8 hr10 rfl rfl hl.1 rfl (by rw [cs_r, cs_n]; exact Nat.le_of_ble_eq_true rfl) dX9_part_22 (fun H locs cells slots hst => ?_)
      refine W.eq (g2 := F0 m 25 ls [va_rf x5, va_rf (some a0)]) rfl ?_
      refine lv_iload_n hx hb dX9_part_25 rfl (lv_at hl 1 rfl) ?_
      obtain ⟨a14, h15, hf⟩ := jm_rd_some hf
      obtain ⟨fsa14, hea14, hr16⟩ := jm_cl_some h15
      obtain ⟨x11, Mm12, h13, hf⟩ := jm_bd_some hf
      refine jw_V (As := [va_rf x5, .int v1]) (rest := []) (C := RX9) (T := TX9) (N := 4) (rv := (some a0)) (jt_X9_along l g b N a14 x5 v1 Mm6 Mm12 x11 h13) C0 hK hst (jm_mono h13) (jm_le_tr (jm_mono hf) jm_le_rf) q816 q818 qs15 q84 q819 hd_X9_along ⟨Nat.le_of_ble_eq_true rfl, Nat.le_of_ble_eq_true rfl⟩ hea14 hr16 rfl rfl hl.1 rfl (by rw [cs_n]; exact Nat.le_of_ble_eq_true rfl) dX9_part_26 (fun H locs cells slots hst => ?_)
      refine W.eq (g2 := F0 m 29 ls [va_rf x11]) rfl ?_
      obtain ⟨rfl, rfl⟩ := jm_ret_some hf
      exact jw_aret C0 (Or.inr ⟨_, rfl⟩) hst dX9_part_29
  · rw [if_pos hc] at hf
    refine jw_aload_n (r := (some a0)) hx hb dX9_part_4 rfl (lv_at hl 0 rfl) ?_
    refine jw_aload_n (r := (some a0)) hx hb dX9_part_5 rfl (lv_at hl 0 rfl) ?_
    refine lv_iconst (v := 2) hx hb dX9_part_6 (by decide) ?_
    obtain ⟨a20, h21, hf⟩ := jm_rd_some hf
    obtain ⟨fsa20, hea20, hr22⟩ := jm_cl_some h21
    obtain ⟨x17, Mm18, h19, hf⟩ := jm_bd_some hf
    refine jw_V (As := [.int (2 : Int32)]) (rest := [va_rf (some a0)]) (C := RX9) (T := TX9) (N := 4) (rv := (some a0)) (jt_X9_table l g b N a20 (2 : Int32) M Mm18 x17 h19) C0 hK hst (jm_mono h19) (jm_le_tr (jm_mono hf) jm_le_rf) q647 q612 q613 q84 q614 hd_X9_table ⟨Nat.le_of_ble_eq_true rfl, Nat.le_of_ble_eq_true rfl⟩ hea20 hr22 rfl rfl hl.1 rfl (by rw [cs_r, cs_n]; exact Nat.le_of_ble_eq_true rfl) dX9_part_7 (fun H locs cells slots hst => ?_)
    refine W.eq (g2 := F0 m 10 ls [va_rf x17, va_rf (some a0)]) rfl ?_
    refine lv_iload_n hx hb dX9_part_10 rfl (lv_at hl 1 rfl) ?_
    obtain ⟨a26, h27, hf⟩ := jm_rd_some hf
    obtain ⟨fsa26, hea26, hr28⟩ := jm_cl_some h27
    obtain ⟨x23, Mm24, h25, hf⟩ := jm_bd_some hf
    refine jw_V (As := [va_rf x17, .int v1]) (rest := []) (C := RX9) (T := TX9) (N := 4) (rv := (some a0)) (jt_X9_along l g b N a26 x17 v1 Mm18 Mm24 x23 h25) C0 hK hst (jm_mono h25) (jm_le_tr (jm_mono hf) jm_le_rf) q816 q818 qs15 q84 q819 hd_X9_along ⟨Nat.le_of_ble_eq_true rfl, Nat.le_of_ble_eq_true rfl⟩ hea26 hr28 rfl rfl hl.1 rfl (by rw [cs_n]; exact Nat.le_of_ble_eq_true rfl) dX9_part_11 (fun H locs cells slots hst => ?_)
    refine W.eq (g2 := F0 m 14 ls [va_rf x23]) rfl ?_
    obtain ⟨rfl, rfl⟩ := jm_ret_some hf
    exact jw_aret C0 (Or.inr ⟨_, rfl⟩) hst dX9_part_14
def jf_X9_part_k58_126 (N : Nat) (v5 : Option Nat) : jm_P (Option Nat) :=
  jm_ret v5
def jf_X9_part_j119 (N : Nat) (a0 : Nat) (v1 : Int32) (v2 : Int32) (v3 : Option Nat) (v4 : Option Nat) (v5 : Option Nat) (v6 : Int32) (t0 : Option Nat) (t1 : Int32) (t2 : Option Nat) : jm_P (Int32 ⊕ Unit) :=
  jm_wr (jm_stR 11 [12] none t0 t1 t2) <|
  jm_ret (.inl (v6 + 1))
def jf_X9_part_L58 (N : Nat) (a0 : Nat) (v1 : Int32) (v2 : Int32) (v3 : Option Nat) (v4 : Option Nat) (v5 : Option Nat) (v6 : Int32) : jm_P (Int32 ⊕ Unit) :=
  jm_rd (jm_fR [9] 1 (some a0)) fun x26 =>
  jm_rd (jm_len 4 x26) fun x28 =>
  if x28 ≤ v6 then (
    jm_ret (.inr ()))
  else
    jm_al (.inr (12, [.long 0, .long 0])) fun q30 =>
    jm_rd (jm_fR [9] 3 (some a0)) fun x32 =>
    jm_rd (jm_ldR 12 x32 v1) fun x34 =>
    jm_rd (jm_ldI 0 x34 v6) fun x36 =>
    jm_bd (jf_X12_init N q30 (x36.toInt64) (1 : Int64)) fun x38 =>
    if v2 = (3 : Int32) then (
      jf_X9_part_j119 N a0 v1 v2 v3 v4 v5 v6 v5 v6 (some q30))
    else
      jm_rd (jm_ldR 11 v3 v6) fun x41 =>
      jm_rd (jm_cl 12 (some q30)) fun a46 =>
      jm_bd (jf_X12_minus N a46 x41) fun x43 =>
      jm_rd (jm_ldR 11 v4 v6) fun x49 =>
      jm_rd (jm_cl 12 x43) fun a54 =>
      jm_bd (jf_X12_minus N a54 x49) fun x51 =>
      jf_X9_part_j119 N a0 v1 v2 v3 v4 v5 v6 v5 v6 x51
def jf_X9_part (N : Nat) (a0 : Nat) (v1 : Int32) (v2 : Int32) : jm_P (Option Nat) :=
  if v2 = 0 then (
    jm_rd (jm_cl 9 (some a0)) fun a73 =>
    jm_bd (jf_X9_table N a73 (2 : Int32)) fun x70 =>
    jm_rd (jm_cl 9 (some a0)) fun a79 =>
    jm_bd (jf_X9_along N a79 x70 v1) fun x76 =>
    jm_ret x76)
  else
    if v2 = (1 : Int32) then (
      jm_rd (jm_cl 9 (some a0)) fun a61 =>
      jm_bd (jf_X9_driven N a61 ) fun x58 =>
      jm_rd (jm_cl 9 (some a0)) fun a67 =>
      jm_bd (jf_X9_along N a67 x58 v1) fun x64 =>
      jm_ret x64)
    else
      jm_rd (jm_cl 9 (some a0)) fun a5 =>
      jm_bd (jf_X9_part1 N a5 v1 (0 : Int32)) fun x2 =>
      jm_rd (jm_cl 9 (some a0)) fun a11 =>
      jm_bd (jf_X9_part1 N a11 v1 (1 : Int32)) fun x8 =>
      jm_rd (jm_fR [9] 1 (some a0)) fun x14 =>
      jm_rd (jm_len 4 x14) fun x16 =>
      jm_rd (jm_ck (¬ x16 < 0 ∧ x16.toNatClampNeg ≤ 1000)) fun _ =>
      jm_al (.inl (11, x16.toNatClampNeg, .inr (.inr (.inr (.inr (fun _ => none)))))) fun q19 =>
      jm_bd (jm_it (fun z => jf_X9_part_L58 N a0 v1 v2 x2 x8 (some q19) z) N (0 : Int32)) fun y =>
      jf_X9_part_k58_126 N (some q19)
set_option maxHeartbeats 4000000 in
set_option maxRecDepth 100000 in
theorem jt_X9_part (l : Launch) (g : GD) (b N : Nat) (a0 : Nat) (v1 : Int32) (v2 : Int32) (M M' : Mem) (r : (Option Nat)) (hf : (jf_X9_part N a0 v1 v2).1 M = some (r, M')) : jm_Met l g b yX9_part (ws_ yX9_part cX9_part 8 (some (.array (.object "ChainParts$Fraction")))) 6 171 [va_rf (some a0), .int v1, .int v2] M M' (some (va_rf r)) := by
  refine jm_start (by decide) (jm_mono hf) (by rw [lg_sl_r, lg_sl_i, lg_sl_i, lg_sl_n]; exact Nat.le_of_ble_eq_true rfl) ?_
  intro p e s m args below meth c ls C0 hin hK hst hl
  obtain ⟨hx, hb, hml, hown, hts, hr, hlk⟩ := id C0
  have hown : s.vm.findClass RX9 = some m.cls := hown
  have C0 : jm_Cx p s m args meth c cX9_part 8 (some (.array (.object "ChainParts$Fraction"))) RX9 := C0
  rw [lv_args_r, lv_args_i, lv_args_i, lv_args_n] at hl
  have hl : lv_has ls 8 [(0, va_rf (some a0)), (1, .int v1), (2, .int v2)] := hl
  have K58_126 : ∀ (v5 : Option Nat) (Mm1 : Mem), (jf_X9_part_k58_126 N v5).1 Mm1 = some (r, M') → ∀ (H : Heap) (locs : List Loc) (cells slots : Nat) (ls : Array Slot), jm_St g b M M' Mm1 s (jm_rm 6 171 M M') H locs cells slots → lv_has ls 8 [(5, va_rf v5)] → W p l e (jm_rm 6 171 M M') s m args below meth c H locs cells slots (jm_MQ below g b (some (va_rf r)) M M' args s) (F0 m 126 ls []) := by
    intro v5 Mm1 hf H locs cells slots ls hst hl
    unfold jf_X9_part_k58_126 at hf
    refine jw_aload (r := v5) hx hb dX9_part_126 (lv_at hl 0 rfl) ?_
    obtain ⟨rfl, rfl⟩ := jm_ret_some hf
    exact jw_aret C0 (Or.inr ⟨_, rfl⟩) hst dX9_part_128
  have B58 : ∀ (a0 : Nat) (v1 : Int32) (v2 : Int32) (v3 : Option Nat) (v4 : Option Nat) (v5 : Option Nat) (v6 : Int32) (Mm25 : Mem) (xe58 : (Int32 ⊕ Unit)) (Me58 : Mem), (jf_X9_part_L58 N a0 v1 v2 v3 v4 v5 v6).1 Mm25 = some (xe58, Me58) → jm_le Me58 M' → (jm_or (fun (z : Int32) => ∀ (H : Heap) (locs : List Loc) (cells slots : Nat) (ls : Array Slot), jm_St g b M M' Me58 s (jm_rm 6 171 M M') H locs cells slots → lv_has ls 8 [(0, va_rf (some a0)), (1, .int v1), (2, .int v2), (3, va_rf v3), (4, va_rf v4), (5, va_rf v5), (6, .int z)] → W p l e (jm_rm 6 171 M M') s m args below meth c H locs cells slots (jm_MQ below g b (some (va_rf r)) M M' args s) (F0 m 58 ls [])) (fun (y : Unit) => ∀ (H : Heap) (locs : List Loc) (cells slots : Nat) (ls : Array Slot), jm_St g b M M' Me58 s (jm_rm 6 171 M M') H locs cells slots → lv_has ls 8 [(5, va_rf v5)] → W p l e (jm_rm 6 171 M M') s m args below meth c H locs cells slots (jm_MQ below g b (some (va_rf r)) M M' args s) (F0 m 126 ls [])) xe58) → ∀ (H : Heap) (locs : List Loc) (cells slots : Nat) (ls : Array Slot), jm_St g b M M' Mm25 s (jm_rm 6 171 M M') H locs cells slots → lv_has ls 8 [(0, va_rf (some a0)), (1, .int v1), (2, .int v2), (3, va_rf v3), (4, va_rf v4), (5, va_rf v5), (6, .int v6)] → W p l e (jm_rm 6 171 M M') s m args below meth c H locs cells slots (jm_MQ below g b (some (va_rf r)) M M' args s) (F0 m 58 ls []) := by
    intro a0 v1 v2 v3 v4 v5 v6 Mm25 xe58 Me58 hf hle58 hk58
    have J119 : ∀ (v6 : Int32) (t0 : Option Nat) (t1 : Int32) (t2 : Option Nat) (Mm21 : Mem), (jf_X9_part_j119 N a0 v1 v2 v3 v4 v5 v6 t0 t1 t2).1 Mm21 = some (xe58, Me58) → ∀ (H : Heap) (locs : List Loc) (cells slots : Nat) (ls : Array Slot), jm_St g b M M' Mm21 s (jm_rm 6 171 M M') H locs cells slots → lv_has ls 8 [(0, va_rf (some a0)), (1, .int v1), (2, .int v2), (3, va_rf v3), (4, va_rf v4), (5, va_rf v5), (6, .int v6)] → W p l e (jm_rm 6 171 M M') s m args below meth c H locs cells slots (jm_MQ below g b (some (va_rf r)) M M' args s) (F0 m 119 ls [va_rf t2, .int t1, va_rf t0]) := by
      intro v6 t0 t1 t2 Mm21 hf H locs cells slots ls hst hl
      unfold jf_X9_part_j119 at hf
      obtain ⟨F22, h23, hf⟩ := jm_wr_some hf
      refine jw_astR (kd := 11) (r := t0) (v := t2) hx hb hK hst rfl (as_11 hK) h23 dX9_part_119 (fun H locs hst => ?_)
      generalize ((Mm21.1, Mm21.2.1, F22) : Mem) = Mm24 at hf hst
      refine lv_iinc (i := 6) (v := (v6 + 1)) (lv' := [(6, .int (v6 + 1)), (0, va_rf (some a0)), (1, .int v1), (2, .int v2), (3, va_rf v3), (4, va_rf v4), (5, va_rf v5)]) hx hb dX9_part_120 hl (k := 6) rfl (by rfl) (by decide) (by simp [va_rf_cat, cat_i, cat_j, cat_f]) (fun ls hl => ?_)
      refine lv_goto (tgt := 58) hx hb dX9_part_123 (by decide) ?_
      obtain ⟨rfl, rfl⟩ := jm_ret_some hf
      exact jm_or_l hk58 _ _ _ _ _ hst (lv_sub hl [1, 2, 3, 4, 5, 6, 0] rfl)
    intro H locs cells slots ls hst hl
    unfold jf_X9_part_L58 at hf
    refine lv_iload hx hb dX9_part_58 (lv_at hl 6 rfl) ?_
    refine jw_aload_n (r := (some a0)) hx hb dX9_part_60 rfl (lv_at hl 0 rfl) ?_
    obtain ⟨x26, h27, hf⟩ := jm_rd_some hf
    refine jw_getR hx hb hts hown hK hst (fl_X9_15 hts hK) h27 dX9_part_61 ?_
    obtain ⟨x28, h29, hf⟩ := jm_rd_some hf
    refine jw_alen hx hb hK hst (show jm_ty[4]? = some (.object "ChainParts$EdgeCell") from rfl) h29 dX9_part_64 ?_
    refine lv_icmp_ge (tgt := 126) hx hb dX9_part_65 (by decide) (fun hc => ?_) (fun hc => ?_)
    · rw [if_pos hc] at hf
      obtain ⟨rfl, rfl⟩ := jm_ret_some hf
      exact jm_or_r hk58 _ _ _ _ _ hst (lv_sub hl [5] rfl)
    · rw [if_neg hc] at hf
      obtain ⟨q30, hq30, hf⟩ := jm_al_some hf
      refine jw_new (ci := 12) (C := RX12) (T := TX12) (N := 2) (fs := [.long 0, .long 0]) hx hb hts in_X12 tyX12 tyX12_ok hown (hts _ q830) (hts _ q832) (hts _ q92) hK hst rfl (fun j hj => by match j, hj with | 0, _ => rfl | 1, _ => rfl | k + 2, hj => omega) rfl (jm_le_tr (jm_mono hf) hle58) hq30 dX9_part_68 (fun H cells slots hst => ?_)
      generalize jm_new (.inr (12, [.long 0, .long 0])) Mm25 = Mm31 at hf hst
      refine lv_dup hx hb dX9_part_71 (va_rf_cat _) ?_
      refine jw_aload_n (r := (some a0)) hx hb dX9_part_72 rfl (lv_at hl 0 rfl) ?_
      obtain ⟨x32, h33, hf⟩ := jm_rd_some hf
      refine jw_getR hx hb hts hown hK hst (fl_X9_23 hts hK) h33 dX9_part_73 ?_
      refine lv_iload_n hx hb dX9_part_76 rfl (lv_at hl 1 rfl) ?_
      obtain ⟨x34, h35, hf⟩ := jm_rd_some hf
      refine jw_aald hx hb hK hst (show jm_ty[12]? = some (.array .int) from rfl) rfl h35 dX9_part_77 ?_
      refine lv_iload hx hb dX9_part_78 (lv_at hl 6 rfl) ?_
      obtain ⟨x36, h37, hf⟩ := jm_rd_some hf
      refine jw_iald hx hb hK hst h37 dX9_part_80 ?_
      refine lv_i2l hx hb dX9_part_81 rfl ?_
      refine lv_lconst (v := 1) hx hb dX9_part_82 (by decide) ?_
      obtain ⟨x38, Mm39, h40, hf⟩ := jm_bd_some hf
      refine jw_I (As := [.long (x36.toInt64), .long (1 : Int64)]) (rest := [va_rf (some q30)]) (rv := (some q30)) (jt_X12_init l g b N q30 (x36.toInt64) (1 : Int64) Mm31 Mm39 x38 h40) C0 hK hst (jm_mono h40) (jm_le_tr (jm_mono hf) hle58) q833 q834 q92 q835 rfl hd_X12_init.2 ⟨Nat.le_of_ble_eq_true rfl, Nat.le_of_ble_eq_true rfl⟩ rfl rfl hl.1 rfl (by rw [cs_r, cs_n]; exact Nat.le_of_ble_eq_true rfl) dX9_part_83 (fun H locs cells slots hst => ?_)
      refine W.eq (g2 := F0 m 86 ls [va_rf (some q30)]) rfl ?_
      refine jw_astore (i := 7) (r := (some q30)) (lv' := [(7, va_rf (some q30)), (0, va_rf (some a0)), (1, .int v1), (2, .int v2), (3, va_rf v3), (4, va_rf v4), (5, va_rf v5), (6, .int v6)]) hx hb dX9_part_86 hl (by decide) rfl (fun ls hl => ?_)
      refine jw_aload (r := v5) hx hb dX9_part_88 (lv_at hl 6 rfl) ?_
      refine lv_iload hx hb dX9_part_90 (lv_at hl 7 rfl) ?_
      refine lv_iload_n hx hb dX9_part_92 rfl (lv_at hl 3 rfl) ?_
      refine lv_iconst (v := 3) hx hb dX9_part_93 (by decide) ?_
      refine lv_icmp_ne (tgt := 102) hx hb dX9_part_94 (by decide) (fun hc => ?_) (fun hc => ?_)
      · rw [if_neg hc] at hf
        refine jw_aload (r := (some q30)) hx hb dX9_part_102 (lv_at hl 0 rfl) ?_
        refine jw_aload_n (r := v3) hx hb dX9_part_104 rfl (lv_at hl 4 rfl) ?_
        refine lv_iload hx hb dX9_part_105 (lv_at hl 7 rfl) ?_
        obtain ⟨x41, h42, hf⟩ := jm_rd_some hf
        refine jw_aald hx hb hK hst (show jm_ty[11]? = some (.object "ChainParts$Fraction") from rfl) rfl h42 dX9_part_107 ?_
        obtain ⟨a46, h47, hf⟩ := jm_rd_some hf
        obtain ⟨fsa46, hea46, hr48⟩ := jm_cl_some h47
        obtain ⟨x43, Mm44, h45, hf⟩ := jm_bd_some hf
        refine jw_V (As := [va_rf x41]) (rest := [.int v6, va_rf v5]) (C := RX12) (T := TX12) (N := 2) (rv := (some q30)) (jt_X12_minus l g b N a46 x41 Mm39 Mm44 x43 h45) C0 hK hst (jm_mono h45) (jm_le_tr (jm_mono hf) hle58) q853 q854 q855 q92 q856 hd_X12_minus ⟨Nat.le_of_ble_eq_true rfl, Nat.le_of_ble_eq_true rfl⟩ hea46 hr48 rfl rfl hl.1 rfl (by rw [cs_i, cs_r, cs_n]; exact Nat.le_of_ble_eq_true rfl) dX9_part_108 (fun H locs cells slots hst => ?_)
        refine W.eq (g2 := F0 m 111 ls [va_rf x43, .int v6, va_rf v5]) rfl ?_
        refine jw_aload (r := v4) hx hb dX9_part_111 (lv_at hl 5 rfl) ?_
        refine lv_iload hx hb dX9_part_113 (lv_at hl 7 rfl) ?_
        obtain ⟨x49, h50, hf⟩ := jm_rd_some hf
        refine jw_aald hx hb hK hst (show jm_ty[11]? = some (.object "ChainParts$Fraction") from rfl) rfl h50 dX9_part_115 ?_
        obtain ⟨a54, h55, hf⟩ := jm_rd_some hf
        obtain ⟨fsa54, hea54, hr56⟩ := jm_cl_some h55
        obtain ⟨x51, Mm52, h53, hf⟩ := jm_bd_some hf
        refine jw_V (As := [va_rf x49]) (rest := [.int v6, va_rf v5]) (C := RX12) (T := TX12) (N := 2) (rv := x43) (jt_X12_minus l g b N a54 x49 Mm44 Mm52 x51 h53) C0 hK hst (jm_mono h53) (jm_le_tr (jm_mono hf) hle58) q853 q854 q855 q92 q856 hd_X12_minus ⟨Nat.le_of_ble_eq_true rfl, Nat.le_of_ble_eq_true rfl⟩ hea54 hr56 rfl rfl hl.1 rfl (by rw [cs_i, cs_r, cs_n]; exact Nat.le_of_ble_eq_true rfl) dX9_part_116 (fun H locs cells slots hst => ?_)
        refine W.eq (g2 := F0 m 119 ls [va_rf x51, .int v6, va_rf v5]) rfl ?_
        exact J119 v6 v5 v6 x51 _ hf _ _ _ _ _ hst (lv_sub hl [1, 2, 3, 4, 5, 6, 7] rfl)
      · rw [if_pos hc] at hf
        refine jw_aload (r := (some q30)) hx hb dX9_part_97 (lv_at hl 0 rfl) ?_
        refine lv_goto (tgt := 119) hx hb dX9_part_99 (by decide) ?_
        exact J119 v6 v5 v6 (some q30) _ hf _ _ _ _ _ hst (lv_sub hl [1, 2, 3, 4, 5, 6, 7] rfl)
  unfold jf_X9_part at hf
  refine lv_iload_n hx hb dX9_part_0 rfl (lv_at hl 2 rfl) ?_
  refine lv_if_ne (tgt := 15) hx hb dX9_part_1 (by decide) (fun hc => ?_) (fun hc => ?_)
  · rw [if_neg hc] at hf
    refine lv_iload_n hx hb dX9_part_15 rfl (lv_at hl 2 rfl) ?_
    refine lv_iconst (v := 1) hx hb dX9_part_16 (by decide) ?_
    refine lv_icmp_ne (tgt := 30) hx hb dX9_part_17 (by decide) (fun hc => ?_) (fun hc => ?_)
    · rw [if_neg hc] at hf
      refine jw_aload_n (r := (some a0)) hx hb dX9_part_30 rfl (lv_at hl 0 rfl) ?_
      refine lv_iload_n hx hb dX9_part_31 rfl (lv_at hl 1 rfl) ?_
      refine lv_iconst (v := 0) hx hb dX9_part_32 (by decide) ?_
      obtain ⟨a5, h6, hf⟩ := jm_rd_some hf
      obtain ⟨fsa5, hea5, hr7⟩ := jm_cl_some h6
      obtain ⟨x2, Mm3, h4, hf⟩ := jm_bd_some hf
      refine jw_V (As := [.int v1, .int (0 : Int32)]) (rest := []) (C := RX9) (T := TX9) (N := 4) (rv := (some a0)) (jt_X9_part1 l g b N a5 v1 (0 : Int32) M Mm3 x2 h4) C0 hK hst (jm_mono h4) (jm_le_tr (jm_mono hf) jm_le_rf) q852 q813 q814 q84 q815 hd_X9_part ⟨Nat.le_of_ble_eq_true rfl, Nat.le_of_ble_eq_true rfl⟩ hea5 hr7 rfl rfl hl.1 rfl (by rw [cs_n]; exact Nat.le_of_ble_eq_true rfl) dX9_part_33 (fun H locs cells slots hst => ?_)
      refine W.eq (g2 := F0 m 36 ls [va_rf x2]) rfl ?_
      refine jw_astore_n (i := 3) (r := x2) (lv' := [(3, va_rf x2), (0, va_rf (some a0)), (1, .int v1), (2, .int v2)]) hx hb dX9_part_36 rfl hl (by decide) rfl (fun ls hl => ?_)
      refine jw_aload_n (r := (some a0)) hx hb dX9_part_37 rfl (lv_at hl 1 rfl) ?_
      refine lv_iload_n hx hb dX9_part_38 rfl (lv_at hl 2 rfl) ?_
      refine lv_iconst (v := 1) hx hb dX9_part_39 (by decide) ?_
      obtain ⟨a11, h12, hf⟩ := jm_rd_some hf
      obtain ⟨fsa11, hea11, hr13⟩ := jm_cl_some h12
      obtain ⟨x8, Mm9, h10, hf⟩ := jm_bd_some hf
      refine jw_V (As := [.int v1, .int (1 : Int32)]) (rest := []) (C := RX9) (T := TX9) (N := 4) (rv := (some a0)) (jt_X9_part1 l g b N a11 v1 (1 : Int32) Mm3 Mm9 x8 h10) C0 hK hst (jm_mono h10) (jm_le_tr (jm_mono hf) jm_le_rf) q852 q813 q814 q84 q815 hd_X9_part ⟨Nat.le_of_ble_eq_true rfl, Nat.le_of_ble_eq_true rfl⟩ hea11 hr13 rfl rfl hl.1 rfl (by rw [cs_n]; exact Nat.le_of_ble_eq_true rfl) dX9_part_40 (fun H locs cells slots hst => ?_)
      refine W.eq (g2 := F0 m 43 ls [va_rf x8]) rfl ?_
      refine jw_astore (i := 4) (r := x8) (lv' := [(4, va_rf x8), (3, va_rf x2), (0, va_rf (some a0)), (1, .int v1), (2, .int v2)]) hx hb dX9_part_43 hl (by decide) (by simp [va_rf_cat, cat_i, cat_j, cat_f]) (fun ls hl => ?_)
      refine jw_aload_n (r := (some a0)) hx hb dX9_part_45 rfl (lv_at hl 2 rfl) ?_
      obtain ⟨x14, h15, hf⟩ := jm_rd_some hf
      refine jw_getR hx hb hts hown hK hst (fl_X9_15 hts hK) h15 dX9_part_46 ?_
      obtain ⟨x16, h17, hf⟩ := jm_rd_some hf
      refine jw_alen hx hb hK hst (show jm_ty[4]? = some (.object "ChainParts$EdgeCell") from rfl) h17 dX9_part_49 ?_
      obtain ⟨_, h18, hf⟩ := jm_rd_some hf
      have h18 := jm_ck_some h18
      obtain ⟨q19, hq19, hf⟩ := jm_al_some hf
      refine jw_anew (kd := 11) (C := "ChainParts$Fraction") hx hb hown (hts _ q830) (by simp [jm_aoC]) hK hst rfl h18.1 h18.2 (jm_le_tr (jm_mono hf) jm_le_rf) hq19 dX9_part_50 (fun H cells slots hst => ?_)
      generalize jm_new (.inl (11, x16.toNatClampNeg, .inr (.inr (.inr (.inr (fun _ => none)))))) Mm9 = Mm20 at hf hst
      refine jw_astore (i := 5) (r := (some q19)) (lv' := [(5, va_rf (some q19)), (4, va_rf x8), (3, va_rf x2), (0, va_rf (some a0)), (1, .int v1), (2, .int v2)]) hx hb dX9_part_53 hl (by decide) (by simp [va_rf_cat, cat_i, cat_j, cat_f]) (fun ls hl => ?_)
      refine lv_iconst (v := 0) hx hb dX9_part_55 (by decide) ?_
      refine lv_istore (i := 6) (lv' := [(6, .int (0 : Int32)), (5, va_rf (some q19)), (4, va_rf x8), (3, va_rf x2), (0, va_rf (some a0)), (1, .int v1), (2, .int v2)]) hx hb dX9_part_56 hl (by decide) (by simp [va_rf_cat, cat_i, cat_j, cat_f]) (fun ls hl => ?_)
      obtain ⟨xl58, Ml58, hit58, hf⟩ := jm_bd_some hf
      have hlf58 : jm_le Ml58 M' := jm_le_tr (jm_mono hf) jm_le_rf
      have hwe58 : (fun (y : Unit) (Mz : Mem) => ∀ (H : Heap) (locs : List Loc) (cells slots : Nat) (ls : Array Slot), jm_St g b M M' Mz s (jm_rm 6 171 M M') H locs cells slots → lv_has ls 8 [(5, va_rf (some q19))] → W p l e (jm_rm 6 171 M M') s m args below meth c H locs cells slots (jm_MQ below g b (some (va_rf r)) M M' args s) (F0 m 126 ls [])) xl58 Ml58 := fun H locs cells slots ls hst hl => K58_126 (some q19) _ hf H locs cells slots ls hst hl
      refine jm_it_walk (Mf := M') (Wh := fun (z : Int32) (Mz : Mem) => ∀ (H : Heap) (locs : List Loc) (cells slots : Nat) (ls : Array Slot), jm_St g b M M' Mz s (jm_rm 6 171 M M') H locs cells slots → lv_has ls 8 [(0, va_rf (some a0)), (1, .int v1), (2, .int v2), (3, va_rf x2), (4, va_rf x8), (5, va_rf (some q19)), (6, .int z)] → W p l e (jm_rm 6 171 M M') s m args below meth c H locs cells slots (jm_MQ below g b (some (va_rf r)) M M' args s) (F0 m 58 ls [])) (We := fun (y : Unit) (Mz : Mem) => ∀ (H : Heap) (locs : List Loc) (cells slots : Nat) (ls : Array Slot), jm_St g b M M' Mz s (jm_rm 6 171 M M') H locs cells slots → lv_has ls 8 [(5, va_rf (some q19))] → W p l e (jm_rm 6 171 M M') s m args below meth c H locs cells slots (jm_MQ below g b (some (va_rf r)) M M' args s) (F0 m 126 ls [])) ?_ N (0 : Int32) Mm20 xl58 Ml58 hit58 hlf58 hwe58 _ _ _ _ _ hst (lv_sub hl [4, 5, 6, 3, 2, 1, 0] rfl)
      intro v6 Mm57 xe58 Me58 hf hle58 hk58 H locs cells slots ls hst hl
      have hf : (jf_X9_part_L58 N a0 v1 v2 x2 x8 (some q19) v6).1 Mm57 = some (xe58, Me58) := hf
      have hl : lv_has ls 8 [(0, va_rf (some a0)), (1, .int v1), (2, .int v2), (3, va_rf x2), (4, va_rf x8), (5, va_rf (some q19)), (6, .int v6)] := hl
      exact B58 a0 v1 v2 x2 x8 (some q19) v6 _ _ _ hf hle58 hk58 _ _ _ _ _ hst (lv_sub hl [0, 1, 2, 3, 4, 5, 6] rfl)
    · rw [if_pos hc] at hf
      refine jw_aload_n (r := (some a0)) hx hb dX9_part_20 rfl (lv_at hl 0 rfl) ?_
      refine jw_aload_n (r := (some a0)) hx hb dX9_part_21 rfl (lv_at hl 0 rfl) ?_
      obtain ⟨a61, h62, hf⟩ := jm_rd_some hf
      obtain ⟨fsa61, hea61, hr63⟩ := jm_cl_some h62
      obtain ⟨x58, Mm59, h60, hf⟩ := jm_bd_some hf
      refine jw_V (As := []) (rest := [va_rf (some a0)]) (C := RX9) (T := TX9) (N := 4) (rv := (some a0)) (jt_X9_driven l g b N a61  M Mm59 x58 h60) C0 hK hst (jm_mono h60) (jm_le_tr (jm_mono hf) jm_le_rf) q848 q850 qs17 q84 q851 hd_X9_driven ⟨Nat.le_of_ble_eq_true rfl, Nat.le_of_ble_eq_true rfl⟩ hea61 hr63 rfl rfl hl.1 rfl (by rw [cs_r, cs_n]; exact Nat.le_of_ble_eq_true rfl) dX9_part_22 (fun H locs cells slots hst => ?_)
      refine W.eq (g2 := F0 m 25 ls [va_rf x58, va_rf (some a0)]) rfl ?_
      refine lv_iload_n hx hb dX9_part_25 rfl (lv_at hl 1 rfl) ?_
      obtain ⟨a67, h68, hf⟩ := jm_rd_some hf
      obtain ⟨fsa67, hea67, hr69⟩ := jm_cl_some h68
      obtain ⟨x64, Mm65, h66, hf⟩ := jm_bd_some hf
      refine jw_V (As := [va_rf x58, .int v1]) (rest := []) (C := RX9) (T := TX9) (N := 4) (rv := (some a0)) (jt_X9_along l g b N a67 x58 v1 Mm59 Mm65 x64 h66) C0 hK hst (jm_mono h66) (jm_le_tr (jm_mono hf) jm_le_rf) q816 q818 qs15 q84 q819 hd_X9_along ⟨Nat.le_of_ble_eq_true rfl, Nat.le_of_ble_eq_true rfl⟩ hea67 hr69 rfl rfl hl.1 rfl (by rw [cs_n]; exact Nat.le_of_ble_eq_true rfl) dX9_part_26 (fun H locs cells slots hst => ?_)
      refine W.eq (g2 := F0 m 29 ls [va_rf x64]) rfl ?_
      obtain ⟨rfl, rfl⟩ := jm_ret_some hf
      exact jw_aret C0 (Or.inr ⟨_, rfl⟩) hst dX9_part_29
  · rw [if_pos hc] at hf
    refine jw_aload_n (r := (some a0)) hx hb dX9_part_4 rfl (lv_at hl 0 rfl) ?_
    refine jw_aload_n (r := (some a0)) hx hb dX9_part_5 rfl (lv_at hl 0 rfl) ?_
    refine lv_iconst (v := 2) hx hb dX9_part_6 (by decide) ?_
    obtain ⟨a73, h74, hf⟩ := jm_rd_some hf
    obtain ⟨fsa73, hea73, hr75⟩ := jm_cl_some h74
    obtain ⟨x70, Mm71, h72, hf⟩ := jm_bd_some hf
    refine jw_V (As := [.int (2 : Int32)]) (rest := [va_rf (some a0)]) (C := RX9) (T := TX9) (N := 4) (rv := (some a0)) (jt_X9_table l g b N a73 (2 : Int32) M Mm71 x70 h72) C0 hK hst (jm_mono h72) (jm_le_tr (jm_mono hf) jm_le_rf) q647 q612 q613 q84 q614 hd_X9_table ⟨Nat.le_of_ble_eq_true rfl, Nat.le_of_ble_eq_true rfl⟩ hea73 hr75 rfl rfl hl.1 rfl (by rw [cs_r, cs_n]; exact Nat.le_of_ble_eq_true rfl) dX9_part_7 (fun H locs cells slots hst => ?_)
    refine W.eq (g2 := F0 m 10 ls [va_rf x70, va_rf (some a0)]) rfl ?_
    refine lv_iload_n hx hb dX9_part_10 rfl (lv_at hl 1 rfl) ?_
    obtain ⟨a79, h80, hf⟩ := jm_rd_some hf
    obtain ⟨fsa79, hea79, hr81⟩ := jm_cl_some h80
    obtain ⟨x76, Mm77, h78, hf⟩ := jm_bd_some hf
    refine jw_V (As := [va_rf x70, .int v1]) (rest := []) (C := RX9) (T := TX9) (N := 4) (rv := (some a0)) (jt_X9_along l g b N a79 x70 v1 Mm71 Mm77 x76 h78) C0 hK hst (jm_mono h78) (jm_le_tr (jm_mono hf) jm_le_rf) q816 q818 qs15 q84 q819 hd_X9_along ⟨Nat.le_of_ble_eq_true rfl, Nat.le_of_ble_eq_true rfl⟩ hea79 hr81 rfl rfl hl.1 rfl (by rw [cs_n]; exact Nat.le_of_ble_eq_true rfl) dX9_part_11 (fun H locs cells slots hst => ?_)
    refine W.eq (g2 := F0 m 14 ls [va_rf x76]) rfl ?_
    obtain ⟨rfl, rfl⟩ := jm_ret_some hf
    exact jw_aret C0 (Or.inr ⟨_, rfl⟩) hst dX9_part_14
theorem fl_X9_159 {g : GD} {s : State} {args : Array Value} (hts : ∀ w ∈ lw_all, w.before args s = true) (hK : jm_KG g s) : ∀ q ∈ ([12] : List Nat), jm_FL s args RX9 159 q 0 := by
  intro q hq
  simp only [List.mem_cons, List.not_mem_nil, or_false] at hq
  subst hq
  exact ⟨RX12, TX12, 2, rfl, in_X12, by decide, "ChainParts$Fraction", Or.inl (hts _ q840), fun _ h => h⟩
theorem fl_X9_163 {g : GD} {s : State} {args : Array Value} (hts : ∀ w ∈ lw_all, w.before args s = true) (hK : jm_KG g s) : ∀ q ∈ ([12] : List Nat), jm_FL s args RX9 163 q 1 := by
  intro q hq
  simp only [List.mem_cons, List.not_mem_nil, or_false] at hq
  subst hq
  exact ⟨RX12, TX12, 2, rfl, in_X12, by decide, "ChainParts$Fraction", Or.inl (hts _ q842), fun _ h => h⟩
def jf_X9_length_k21_85 (N : Nat) (v4 : Option Nat) : jm_P (Option Nat) :=
  jm_ret v4
def jf_X9_length_L21 (N : Nat) (a0 : Nat) (v1 : Int32) (v3 : Option Nat) (v4 : Option Nat) (v5 : Int32) : jm_P ((Option Nat × Int32) ⊕ Option Nat) :=
  jm_rd (jm_len 11 v3) fun x14 =>
  if x14 ≤ v5 then (
    jm_ret (.inr v4))
  else
    jm_al (.inr (12, [.long 0, .long 0])) fun q16 =>
    jm_rd (jm_ldR 11 v3 v5) fun x18 =>
    jm_rd (jm_fJ [12] 0 x18) fun x20 =>
    jm_rd (jm_fR [9] 3 (some a0)) fun x22 =>
    jm_rd (jm_ldR 12 x22 v1) fun x24 =>
    jm_rd (jm_ldI 0 x24 v5) fun x26 =>
    jm_rd (jm_ldR 11 v3 v5) fun x28 =>
    jm_rd (jm_fJ [12] 1 x28) fun x30 =>
    jm_rd (jm_fR [9] 1 (some a0)) fun x32 =>
    jm_rd (jm_ldR 4 x32 v5) fun x34 =>
    jm_rd (jm_fI [5, 6] 2 x34) fun x36 =>
    jm_bd (jf_X12_init N q16 (x20 * (x26.toInt64)) (x30 * (x36.toInt64))) fun x38 =>
    jm_rd (jm_cl 12 v4) fun a44 =>
    jm_bd (jf_X12_plus N a44 (some q16)) fun x41 =>
    jm_ret (.inl (x41, (v5 + 1)))
def jf_X9_length (N : Nat) (a0 : Nat) (v1 : Int32) (v2 : Int32) : jm_P (Option Nat) :=
  jm_rd (jm_cl 9 (some a0)) fun a5 =>
  jm_bd (jf_X9_part N a5 v1 v2) fun x2 =>
  jm_al (.inr (12, [.long 0, .long 0])) fun q8 =>
  jm_bd (jf_X12_init N q8 (0 : Int64) (1 : Int64)) fun x10 =>
  jm_bd (jm_it (fun z => jf_X9_length_L21 N a0 v1 x2 z.1 z.2) N ((some q8), (0 : Int32))) fun y =>
  jf_X9_length_k21_85 N y
set_option maxHeartbeats 4000000 in
set_option maxRecDepth 100000 in
theorem jt_X9_length (l : Launch) (g : GD) (b N : Nat) (a0 : Nat) (v1 : Int32) (v2 : Int32) (M M' : Mem) (r : (Option Nat)) (hf : (jf_X9_length N a0 v1 v2).1 M = some (r, M')) : jm_Met l g b yX9_length (ws_ yX9_length cX9_length 6 (some (.object "ChainParts$Fraction"))) 7 198 [va_rf (some a0), .int v1, .int v2] M M' (some (va_rf r)) := by
  refine jm_start (by decide) (jm_mono hf) (by rw [lg_sl_r, lg_sl_i, lg_sl_i, lg_sl_n]; exact Nat.le_of_ble_eq_true rfl) ?_
  intro p e s m args below meth c ls C0 hin hK hst hl
  obtain ⟨hx, hb, hml, hown, hts, hr, hlk⟩ := id C0
  have hown : s.vm.findClass RX9 = some m.cls := hown
  have C0 : jm_Cx p s m args meth c cX9_length 6 (some (.object "ChainParts$Fraction")) RX9 := C0
  rw [lv_args_r, lv_args_i, lv_args_i, lv_args_n] at hl
  have hl : lv_has ls 6 [(0, va_rf (some a0)), (1, .int v1), (2, .int v2)] := hl
  have K21_85 : ∀ (v4 : Option Nat) (Mm1 : Mem), (jf_X9_length_k21_85 N v4).1 Mm1 = some (r, M') → ∀ (H : Heap) (locs : List Loc) (cells slots : Nat) (ls : Array Slot), jm_St g b M M' Mm1 s (jm_rm 7 198 M M') H locs cells slots → lv_has ls 6 [(4, va_rf v4)] → W p l e (jm_rm 7 198 M M') s m args below meth c H locs cells slots (jm_MQ below g b (some (va_rf r)) M M' args s) (F0 m 85 ls []) := by
    intro v4 Mm1 hf H locs cells slots ls hst hl
    unfold jf_X9_length_k21_85 at hf
    refine jw_aload (r := v4) hx hb dX9_length_85 (lv_at hl 0 rfl) ?_
    obtain ⟨rfl, rfl⟩ := jm_ret_some hf
    exact jw_aret C0 (Or.inl ⟨_, rfl⟩) hst dX9_length_87
  have B21 : ∀ (a0 : Nat) (v1 : Int32) (v3 : Option Nat) (v4 : Option Nat) (v5 : Int32) (Mm13 : Mem) (xe21 : ((Option Nat × Int32) ⊕ Option Nat)) (Me21 : Mem), (jf_X9_length_L21 N a0 v1 v3 v4 v5).1 Mm13 = some (xe21, Me21) → jm_le Me21 M' → (jm_or (fun (z : Option Nat × Int32) => ∀ (H : Heap) (locs : List Loc) (cells slots : Nat) (ls : Array Slot), jm_St g b M M' Me21 s (jm_rm 7 198 M M') H locs cells slots → lv_has ls 6 [(0, va_rf (some a0)), (1, .int v1), (3, va_rf v3), (4, va_rf z.1), (5, .int z.2)] → W p l e (jm_rm 7 198 M M') s m args below meth c H locs cells slots (jm_MQ below g b (some (va_rf r)) M M' args s) (F0 m 21 ls [])) (fun (y : Option Nat) => ∀ (H : Heap) (locs : List Loc) (cells slots : Nat) (ls : Array Slot), jm_St g b M M' Me21 s (jm_rm 7 198 M M') H locs cells slots → lv_has ls 6 [(4, va_rf y)] → W p l e (jm_rm 7 198 M M') s m args below meth c H locs cells slots (jm_MQ below g b (some (va_rf r)) M M' args s) (F0 m 85 ls [])) xe21) → ∀ (H : Heap) (locs : List Loc) (cells slots : Nat) (ls : Array Slot), jm_St g b M M' Mm13 s (jm_rm 7 198 M M') H locs cells slots → lv_has ls 6 [(0, va_rf (some a0)), (1, .int v1), (3, va_rf v3), (4, va_rf v4), (5, .int v5)] → W p l e (jm_rm 7 198 M M') s m args below meth c H locs cells slots (jm_MQ below g b (some (va_rf r)) M M' args s) (F0 m 21 ls []) := by
    intro a0 v1 v3 v4 v5 Mm13 xe21 Me21 hf hle21 hk21
    intro H locs cells slots ls hst hl
    unfold jf_X9_length_L21 at hf
    refine lv_iload hx hb dX9_length_21 (lv_at hl 4 rfl) ?_
    refine jw_aload_n (r := v3) hx hb dX9_length_23 rfl (lv_at hl 2 rfl) ?_
    obtain ⟨x14, h15, hf⟩ := jm_rd_some hf
    refine jw_alen hx hb hK hst (show jm_ty[11]? = some (.object "ChainParts$Fraction") from rfl) h15 dX9_length_24 ?_
    refine lv_icmp_ge (tgt := 85) hx hb dX9_length_25 (by decide) (fun hc => ?_) (fun hc => ?_)
    · rw [if_pos hc] at hf
      obtain ⟨rfl, rfl⟩ := jm_ret_some hf
      exact jm_or_r hk21 _ _ _ _ _ hst (lv_sub hl [3] rfl)
    · rw [if_neg hc] at hf
      refine jw_aload (r := v4) hx hb dX9_length_28 (lv_at hl 3 rfl) ?_
      obtain ⟨q16, hq16, hf⟩ := jm_al_some hf
      refine jw_new (ci := 12) (C := RX12) (T := TX12) (N := 2) (fs := [.long 0, .long 0]) hx hb hts in_X12 tyX12 tyX12_ok hown (hts _ q830) (hts _ q832) (hts _ q92) hK hst rfl (fun j hj => by match j, hj with | 0, _ => rfl | 1, _ => rfl | k + 2, hj => omega) rfl (jm_le_tr (jm_mono hf) hle21) hq16 dX9_length_30 (fun H cells slots hst => ?_)
      generalize jm_new (.inr (12, [.long 0, .long 0])) Mm13 = Mm17 at hf hst
      refine lv_dup hx hb dX9_length_33 (va_rf_cat _) ?_
      refine jw_aload_n (r := v3) hx hb dX9_length_34 rfl (lv_at hl 2 rfl) ?_
      refine lv_iload hx hb dX9_length_35 (lv_at hl 4 rfl) ?_
      obtain ⟨x18, h19, hf⟩ := jm_rd_some hf
      refine jw_aald hx hb hK hst (show jm_ty[11]? = some (.object "ChainParts$Fraction") from rfl) rfl h19 dX9_length_37 ?_
      obtain ⟨x20, h21, hf⟩ := jm_rd_some hf
      refine jw_getJ hx hb hts hown hK hst (fl_X9_159 hts hK) h21 dX9_length_38 ?_
      refine jw_aload_n (r := (some a0)) hx hb dX9_length_41 rfl (lv_at hl 0 rfl) ?_
      obtain ⟨x22, h23, hf⟩ := jm_rd_some hf
      refine jw_getR hx hb hts hown hK hst (fl_X9_23 hts hK) h23 dX9_length_42 ?_
      refine lv_iload_n hx hb dX9_length_45 rfl (lv_at hl 1 rfl) ?_
      obtain ⟨x24, h25, hf⟩ := jm_rd_some hf
      refine jw_aald hx hb hK hst (show jm_ty[12]? = some (.array .int) from rfl) rfl h25 dX9_length_46 ?_
      refine lv_iload hx hb dX9_length_47 (lv_at hl 4 rfl) ?_
      obtain ⟨x26, h27, hf⟩ := jm_rd_some hf
      refine jw_iald hx hb hK hst h27 dX9_length_49 ?_
      refine lv_i2l hx hb dX9_length_50 rfl ?_
      refine lv_lmul hx hb dX9_length_51 ?_
      refine jw_aload_n (r := v3) hx hb dX9_length_52 rfl (lv_at hl 2 rfl) ?_
      refine lv_iload hx hb dX9_length_53 (lv_at hl 4 rfl) ?_
      obtain ⟨x28, h29, hf⟩ := jm_rd_some hf
      refine jw_aald hx hb hK hst (show jm_ty[11]? = some (.object "ChainParts$Fraction") from rfl) rfl h29 dX9_length_55 ?_
      obtain ⟨x30, h31, hf⟩ := jm_rd_some hf
      refine jw_getJ hx hb hts hown hK hst (fl_X9_163 hts hK) h31 dX9_length_56 ?_
      refine jw_aload_n (r := (some a0)) hx hb dX9_length_59 rfl (lv_at hl 0 rfl) ?_
      obtain ⟨x32, h33, hf⟩ := jm_rd_some hf
      refine jw_getR hx hb hts hown hK hst (fl_X9_15 hts hK) h33 dX9_length_60 ?_
      refine lv_iload hx hb dX9_length_63 (lv_at hl 4 rfl) ?_
      obtain ⟨x34, h35, hf⟩ := jm_rd_some hf
      refine jw_aald hx hb hK hst (show jm_ty[4]? = some (.object "ChainParts$EdgeCell") from rfl) rfl h35 dX9_length_65 ?_
      obtain ⟨x36, h37, hf⟩ := jm_rd_some hf
      refine jw_getI hx hb hts hown hK hst (fl_X9_84 hts hK) h37 dX9_length_66 ?_
      refine lv_i2l hx hb dX9_length_69 rfl ?_
      refine lv_lmul hx hb dX9_length_70 ?_
      obtain ⟨x38, Mm39, h40, hf⟩ := jm_bd_some hf
      refine jw_I (As := [.long (x20 * (x26.toInt64)), .long (x30 * (x36.toInt64))]) (rest := [va_rf (some q16), va_rf v4]) (rv := (some q16)) (jt_X12_init l g b N q16 (x20 * (x26.toInt64)) (x30 * (x36.toInt64)) Mm17 Mm39 x38 h40) C0 hK hst (jm_mono h40) (jm_le_tr (jm_mono hf) hle21) q833 q834 q92 q835 rfl hd_X12_init.2 ⟨Nat.le_of_ble_eq_true rfl, Nat.le_of_ble_eq_true rfl⟩ rfl rfl hl.1 rfl (by rw [cs_r, cs_r, cs_n]; exact Nat.le_of_ble_eq_true rfl) dX9_length_71 (fun H locs cells slots hst => ?_)
      refine W.eq (g2 := F0 m 74 ls [va_rf (some q16), va_rf v4]) rfl ?_
      obtain ⟨a44, h45, hf⟩ := jm_rd_some hf
      obtain ⟨fsa44, hea44, hr46⟩ := jm_cl_some h45
      obtain ⟨x41, Mm42, h43, hf⟩ := jm_bd_some hf
      refine jw_V (As := [va_rf (some q16)]) (rest := []) (C := RX12) (T := TX12) (N := 2) (rv := v4) (jt_X12_plus l g b N a44 (some q16) Mm39 Mm42 x41 h43) C0 hK hst (jm_mono h43) (jm_le_tr (jm_mono hf) hle21) q876 q860 q861 q92 q862 hd_X12_plus ⟨Nat.le_of_ble_eq_true rfl, Nat.le_of_ble_eq_true rfl⟩ hea44 hr46 rfl rfl hl.1 rfl (by rw [cs_n]; exact Nat.le_of_ble_eq_true rfl) dX9_length_74 (fun H locs cells slots hst => ?_)
      refine W.eq (g2 := F0 m 77 ls [va_rf x41]) rfl ?_
      refine jw_astore (i := 4) (r := x41) (lv' := [(4, va_rf x41), (0, va_rf (some a0)), (1, .int v1), (3, va_rf v3), (5, .int v5)]) hx hb dX9_length_77 hl (by decide) (by simp [va_rf_cat, cat_i, cat_j, cat_f]) (fun ls hl => ?_)
      refine lv_iinc (i := 5) (v := (v5 + 1)) (lv' := [(5, .int (v5 + 1)), (4, va_rf x41), (0, va_rf (some a0)), (1, .int v1), (3, va_rf v3)]) hx hb dX9_length_79 hl (k := 4) rfl (by rfl) (by decide) (by simp [va_rf_cat, cat_i, cat_j, cat_f]) (fun ls hl => ?_)
      refine lv_goto (tgt := 21) hx hb dX9_length_82 (by decide) ?_
      obtain ⟨rfl, rfl⟩ := jm_ret_some hf
      exact jm_or_l hk21 _ _ _ _ _ hst (lv_sub hl [2, 3, 4, 1, 0] rfl)
  unfold jf_X9_length at hf
  refine jw_aload_n (r := (some a0)) hx hb dX9_length_0 rfl (lv_at hl 0 rfl) ?_
  refine lv_iload_n hx hb dX9_length_1 rfl (lv_at hl 1 rfl) ?_
  refine lv_iload_n hx hb dX9_length_2 rfl (lv_at hl 2 rfl) ?_
  obtain ⟨a5, h6, hf⟩ := jm_rd_some hf
  obtain ⟨fsa5, hea5, hr7⟩ := jm_cl_some h6
  obtain ⟨x2, Mm3, h4, hf⟩ := jm_bd_some hf
  refine jw_V (As := [.int v1, .int v2]) (rest := []) (C := RX9) (T := TX9) (N := 4) (rv := (some a0)) (jt_X9_part l g b N a5 v1 v2 M Mm3 x2 h4) C0 hK hst (jm_mono h4) (jm_le_tr (jm_mono hf) jm_le_rf) q852 q813 q814 q84 q815 hd_X9_part ⟨Nat.le_of_ble_eq_true rfl, Nat.le_of_ble_eq_true rfl⟩ hea5 hr7 rfl rfl hl.1 rfl (by rw [cs_n]; exact Nat.le_of_ble_eq_true rfl) dX9_length_3 (fun H locs cells slots hst => ?_)
  refine W.eq (g2 := F0 m 6 ls [va_rf x2]) rfl ?_
  refine jw_astore_n (i := 3) (r := x2) (lv' := [(3, va_rf x2), (0, va_rf (some a0)), (1, .int v1), (2, .int v2)]) hx hb dX9_length_6 rfl hl (by decide) rfl (fun ls hl => ?_)
  obtain ⟨q8, hq8, hf⟩ := jm_al_some hf
  refine jw_new (ci := 12) (C := RX12) (T := TX12) (N := 2) (fs := [.long 0, .long 0]) hx hb hts in_X12 tyX12 tyX12_ok hown (hts _ q830) (hts _ q832) (hts _ q92) hK hst rfl (fun j hj => by match j, hj with | 0, _ => rfl | 1, _ => rfl | k + 2, hj => omega) rfl (jm_le_tr (jm_mono hf) jm_le_rf) hq8 dX9_length_7 (fun H cells slots hst => ?_)
  generalize jm_new (.inr (12, [.long 0, .long 0])) Mm3 = Mm9 at hf hst
  refine lv_dup hx hb dX9_length_10 (va_rf_cat _) ?_
  refine lv_lconst (v := 0) hx hb dX9_length_11 (by decide) ?_
  refine lv_lconst (v := 1) hx hb dX9_length_12 (by decide) ?_
  obtain ⟨x10, Mm11, h12, hf⟩ := jm_bd_some hf
  refine jw_I (As := [.long (0 : Int64), .long (1 : Int64)]) (rest := [va_rf (some q8)]) (rv := (some q8)) (jt_X12_init l g b N q8 (0 : Int64) (1 : Int64) Mm9 Mm11 x10 h12) C0 hK hst (jm_mono h12) (jm_le_tr (jm_mono hf) jm_le_rf) q833 q834 q92 q835 rfl hd_X12_init.2 ⟨Nat.le_of_ble_eq_true rfl, Nat.le_of_ble_eq_true rfl⟩ rfl rfl hl.1 rfl (by rw [cs_r, cs_n]; exact Nat.le_of_ble_eq_true rfl) dX9_length_13 (fun H locs cells slots hst => ?_)
  refine W.eq (g2 := F0 m 16 ls [va_rf (some q8)]) rfl ?_
  refine jw_astore (i := 4) (r := (some q8)) (lv' := [(4, va_rf (some q8)), (3, va_rf x2), (0, va_rf (some a0)), (1, .int v1), (2, .int v2)]) hx hb dX9_length_16 hl (by decide) (by simp [va_rf_cat, cat_i, cat_j, cat_f]) (fun ls hl => ?_)
  refine lv_iconst (v := 0) hx hb dX9_length_18 (by decide) ?_
  refine lv_istore (i := 5) (lv' := [(5, .int (0 : Int32)), (4, va_rf (some q8)), (3, va_rf x2), (0, va_rf (some a0)), (1, .int v1), (2, .int v2)]) hx hb dX9_length_19 hl (by decide) (by simp [va_rf_cat, cat_i, cat_j, cat_f]) (fun ls hl => ?_)
  obtain ⟨xl21, Ml21, hit21, hf⟩ := jm_bd_some hf
  have hlf21 : jm_le Ml21 M' := jm_le_tr (jm_mono hf) jm_le_rf
  have hwe21 : (fun (y : Option Nat) (Mz : Mem) => ∀ (H : Heap) (locs : List Loc) (cells slots : Nat) (ls : Array Slot), jm_St g b M M' Mz s (jm_rm 7 198 M M') H locs cells slots → lv_has ls 6 [(4, va_rf y)] → W p l e (jm_rm 7 198 M M') s m args below meth c H locs cells slots (jm_MQ below g b (some (va_rf r)) M M' args s) (F0 m 85 ls [])) xl21 Ml21 := fun H locs cells slots ls hst hl => K21_85 xl21 _ hf H locs cells slots ls hst hl
  refine jm_it_walk (Mf := M') (Wh := fun (z : Option Nat × Int32) (Mz : Mem) => ∀ (H : Heap) (locs : List Loc) (cells slots : Nat) (ls : Array Slot), jm_St g b M M' Mz s (jm_rm 7 198 M M') H locs cells slots → lv_has ls 6 [(0, va_rf (some a0)), (1, .int v1), (3, va_rf x2), (4, va_rf z.1), (5, .int z.2)] → W p l e (jm_rm 7 198 M M') s m args below meth c H locs cells slots (jm_MQ below g b (some (va_rf r)) M M' args s) (F0 m 21 ls [])) (We := fun (y : Option Nat) (Mz : Mem) => ∀ (H : Heap) (locs : List Loc) (cells slots : Nat) (ls : Array Slot), jm_St g b M M' Mz s (jm_rm 7 198 M M') H locs cells slots → lv_has ls 6 [(4, va_rf y)] → W p l e (jm_rm 7 198 M M') s m args below meth c H locs cells slots (jm_MQ below g b (some (va_rf r)) M M' args s) (F0 m 85 ls [])) ?_ N ((some q8), (0 : Int32)) Mm11 xl21 Ml21 hit21 hlf21 hwe21 _ _ _ _ _ hst (lv_sub hl [3, 4, 2, 1, 0] rfl)
  intro z Mm47 xe21 Me21 hf hle21 hk21 H locs cells slots ls hst hl
  obtain ⟨v4, v5⟩ := z
  have hf : (jf_X9_length_L21 N a0 v1 x2 v4 v5).1 Mm47 = some (xe21, Me21) := hf
  have hl : lv_has ls 6 [(0, va_rf (some a0)), (1, .int v1), (3, va_rf x2), (4, va_rf v4), (5, .int v5)] := hl
  exact B21 a0 v1 x2 v4 v5 _ _ _ hf hle21 hk21 _ _ _ _ _ hst (lv_sub hl [0, 1, 2, 3, 4] rfl)
theorem hd_X9_twisted : yX9_twisted.cls = RX9 ∧ yX9_twisted.cls ≠ "java/lang/invoke/MethodHandle" ∧ yX9_twisted.cls ≠ "java/lang/invoke/VarHandle" ∧ (parseMethodDescriptor yX9_twisted.desc).map (fun d => d.parameters.length) = some 1 := by decide +kernel
def jf_X9_trees_k25_155 (N : Nat) (v6 : Int64) : jm_P Int64 :=
  jm_ret v6
def jf_X9_trees_j149 (N : Nat) (a0 : Nat) (v1 : Int32) (v2 : Int32) (v3 : Option Nat) (v4 : Option Nat) (v5 : Int32) (v6 : Int64) (v8 : Int32) : jm_P ((Int64 × Int32) ⊕ Int64) :=
  jm_ret (.inl (v6, (v8 + 1)))
def jf_X9_trees_j134 (N : Nat) (a0 : Nat) (v1 : Int32) (v2 : Int32) (v3 : Option Nat) (v4 : Option Nat) (v5 : Int32) (v6 : Int64) (v8 : Int32) (v9 : Int64) (t0 : Int64) : jm_P ((Int64 × Int32) ⊕ Int64) :=
  jf_X9_trees_j149 N a0 v1 v2 v3 v4 v5 (v6 + ((v9 * t0) * t0)) v8
def jf_X9_trees_j133 (N : Nat) (a0 : Nat) (v1 : Int32) (v2 : Int32) (v3 : Option Nat) (v4 : Option Nat) (v5 : Int32) (v6 : Int64) (v8 : Int32) (v9 : Int64) : jm_P ((Int64 × Int32) ⊕ Int64) :=
  jf_X9_trees_j134 N a0 v1 v2 v3 v4 v5 v6 v8 v9 (1 : Int64)
def jf_X9_trees_k69_114 (N : Nat) (a0 : Nat) (v1 : Int32) (v2 : Int32) (v3 : Option Nat) (v4 : Option Nat) (v5 : Int32) (v6 : Int64) (v8 : Int32) (v9 : Int64) : jm_P ((Int64 × Int32) ⊕ Int64) :=
  if v1 = (2 : Int32) then (
    if v2 = (1 : Int32) then (
      jm_rd (jm_cl 9 (some a0)) fun a27 =>
      jm_bd (jf_X9_twisted N a27 v8) fun x24 =>
      jf_X9_trees_j134 N a0 v1 v2 v3 v4 v5 v6 v8 v9 x24)
    else
      jf_X9_trees_j133 N a0 v1 v2 v3 v4 v5 v6 v8 v9)
  else
    jf_X9_trees_j133 N a0 v1 v2 v3 v4 v5 v6 v8 v9
def jf_X9_trees_j105 (N : Nat) (a0 : Nat) (v1 : Int32) (v2 : Int32) (v3 : Option Nat) (v4 : Option Nat) (v5 : Int32) (v6 : Int64) (v8 : Int32) (v11 : Int32) (t0 : Int64) (t1 : Int64) : jm_P ((Int64 × Int32) ⊕ Int64) :=
  jm_ret (.inl ((t0 * t1), (v11 + 1)))
def jf_X9_trees_L69 (N : Nat) (a0 : Nat) (v1 : Int32) (v2 : Int32) (v3 : Option Nat) (v4 : Option Nat) (v5 : Int32) (v6 : Int64) (v8 : Int32) (v9 : Int64) (v11 : Int32) : jm_P ((Int64 × Int32) ⊕ Int64) :=
  jm_rd (jm_fI [11] 2 v3) fun x50 =>
  if x50 ≤ v11 then (
    jm_ret (.inr v9))
  else
    if v2 = (1 : Int32) then (
      jm_bd (jf_X0_has N v8 v11) fun x52 =>
      if x52 = 0 then (
        jf_X9_trees_j105 N a0 v1 v2 v3 v4 v5 v6 v8 v11 v9 (1 : Int64))
      else
        jm_rd (jm_ldI 0 v4 v11) fun x55 =>
        jf_X9_trees_j105 N a0 v1 v2 v3 v4 v5 v6 v8 v11 v9 (x55.toInt64))
    else
      jm_ret (.inr v9)
def jf_X9_trees_L25 (N : Nat) (a0 : Nat) (v1 : Int32) (v2 : Int32) (v3 : Option Nat) (v4 : Option Nat) (v5 : Int32) (v6 : Int64) (v8 : Int32) : jm_P ((Int64 × Int32) ⊕ Int64) :=
  jm_rd (jm_fI [11] 2 v3) fun x31 =>
  if ((1 : Int32) <<< (x31 &&& 31)) ≤ v8 then (
    jm_ret (.inr v6))
  else
    jm_bd (jf_J6_bitCount N v8) fun x33 =>
    if x33 = v5 then (
      jm_rd (jm_cl 11 v3) fun a39 =>
      jm_bd (jf_X11_some N a39 v8) fun x36 =>
      jm_rd (jm_cl 11 x36) fun a45 =>
      jm_bd (jf_X11_rank N a45 ) fun x42 =>
      if v5 ≤ x42 then (
        jm_bd (jm_it (fun z => jf_X9_trees_L69 N a0 v1 v2 v3 v4 v5 v6 v8 z.1 z.2) N ((1 : Int64), (0 : Int32))) fun y =>
        jf_X9_trees_k69_114 N a0 v1 v2 v3 v4 v5 v6 v8 y)
      else
        jf_X9_trees_j149 N a0 v1 v2 v3 v4 v5 v6 v8)
    else
      jf_X9_trees_j149 N a0 v1 v2 v3 v4 v5 v6 v8
def jf_X9_trees (N : Nat) (a0 : Nat) (v1 : Int32) (v2 : Int32) : jm_P Int64 :=
  jm_rd (jm_cl 9 (some a0)) fun a5 =>
  jm_bd (jf_X9_table N a5 v1) fun x2 =>
  jm_rd (jm_cl 9 (some a0)) fun a11 =>
  jm_bd (jf_X9_weights N a11 v1) fun x8 =>
  jm_rd (jm_cl 11 x2) fun a17 =>
  jm_bd (jf_X11_rank N a17 ) fun x14 =>
  jm_bd (jm_it (fun z => jf_X9_trees_L25 N a0 v1 v2 x2 x8 x14 z.1 z.2) N ((0 : Int64), (0 : Int32))) fun y =>
  jf_X9_trees_k25_155 N y
set_option maxHeartbeats 4000000 in
set_option maxRecDepth 100000 in
theorem jt_X9_trees (l : Launch) (g : GD) (b N : Nat) (a0 : Nat) (v1 : Int32) (v2 : Int32) (M M' : Mem) (r : Int64) (hf : (jf_X9_trees N a0 v1 v2).1 M = some (r, M')) : jm_Met l g b yX9_trees (ws_ yX9_trees cX9_trees 13 (some .long)) 5 145 [va_rf (some a0), .int v1, .int v2] M M' (some (.long r)) := by
  refine jm_start (by decide) (jm_mono hf) (by rw [lg_sl_r, lg_sl_i, lg_sl_i, lg_sl_n]; exact Nat.le_of_ble_eq_true rfl) ?_
  intro p e s m args below meth c ls C0 hin hK hst hl
  obtain ⟨hx, hb, hml, hown, hts, hr, hlk⟩ := id C0
  have hown : s.vm.findClass RX9 = some m.cls := hown
  have C0 : jm_Cx p s m args meth c cX9_trees 13 (some .long) RX9 := C0
  rw [lv_args_r, lv_args_i, lv_args_i, lv_args_n] at hl
  have hl : lv_has ls 13 [(0, va_rf (some a0)), (1, .int v1), (2, .int v2)] := hl
  have K25_155 : ∀ (v6 : Int64) (Mm1 : Mem), (jf_X9_trees_k25_155 N v6).1 Mm1 = some (r, M') → ∀ (H : Heap) (locs : List Loc) (cells slots : Nat) (ls : Array Slot), jm_St g b M M' Mm1 s (jm_rm 5 145 M M') H locs cells slots → lv_has ls 13 [(6, .long v6)] → W p l e (jm_rm 5 145 M M') s m args below meth c H locs cells slots (jm_MQ below g b (some (.long r)) M M' args s) (F0 m 155 ls []) := by
    intro v6 Mm1 hf H locs cells slots ls hst hl
    unfold jf_X9_trees_k25_155 at hf
    refine lv_lload hx hb dX9_trees_155 (lv_at hl 0 rfl) ?_
    obtain ⟨rfl, rfl⟩ := jm_ret_some hf
    exact jw_lret C0 hst dX9_trees_157
  have B25 : ∀ (a0 : Nat) (v1 : Int32) (v2 : Int32) (v3 : Option Nat) (v4 : Option Nat) (v5 : Int32) (v6 : Int64) (v8 : Int32) (Mm30 : Mem) (xe25 : ((Int64 × Int32) ⊕ Int64)) (Me25 : Mem), (jf_X9_trees_L25 N a0 v1 v2 v3 v4 v5 v6 v8).1 Mm30 = some (xe25, Me25) → jm_le Me25 M' → (jm_or (fun (z : Int64 × Int32) => ∀ (H : Heap) (locs : List Loc) (cells slots : Nat) (ls : Array Slot), jm_St g b M M' Me25 s (jm_rm 5 145 M M') H locs cells slots → lv_has ls 13 [(0, va_rf (some a0)), (1, .int v1), (2, .int v2), (3, va_rf v3), (4, va_rf v4), (5, .int v5), (6, .long z.1), (8, .int z.2)] → W p l e (jm_rm 5 145 M M') s m args below meth c H locs cells slots (jm_MQ below g b (some (.long r)) M M' args s) (F0 m 25 ls [])) (fun (y : Int64) => ∀ (H : Heap) (locs : List Loc) (cells slots : Nat) (ls : Array Slot), jm_St g b M M' Me25 s (jm_rm 5 145 M M') H locs cells slots → lv_has ls 13 [(6, .long y)] → W p l e (jm_rm 5 145 M M') s m args below meth c H locs cells slots (jm_MQ below g b (some (.long r)) M M' args s) (F0 m 155 ls [])) xe25) → ∀ (H : Heap) (locs : List Loc) (cells slots : Nat) (ls : Array Slot), jm_St g b M M' Mm30 s (jm_rm 5 145 M M') H locs cells slots → lv_has ls 13 [(0, va_rf (some a0)), (1, .int v1), (2, .int v2), (3, va_rf v3), (4, va_rf v4), (5, .int v5), (6, .long v6), (8, .int v8)] → W p l e (jm_rm 5 145 M M') s m args below meth c H locs cells slots (jm_MQ below g b (some (.long r)) M M' args s) (F0 m 25 ls []) := by
    intro a0 v1 v2 v3 v4 v5 v6 v8 Mm30 xe25 Me25 hf hle25 hk25
    have J149 : ∀ (v6 : Int64) (v8 : Int32) (Mm20 : Mem), (jf_X9_trees_j149 N a0 v1 v2 v3 v4 v5 v6 v8).1 Mm20 = some (xe25, Me25) → ∀ (H : Heap) (locs : List Loc) (cells slots : Nat) (ls : Array Slot), jm_St g b M M' Mm20 s (jm_rm 5 145 M M') H locs cells slots → lv_has ls 13 [(0, va_rf (some a0)), (1, .int v1), (2, .int v2), (3, va_rf v3), (4, va_rf v4), (5, .int v5), (6, .long v6), (8, .int v8)] → W p l e (jm_rm 5 145 M M') s m args below meth c H locs cells slots (jm_MQ below g b (some (.long r)) M M' args s) (F0 m 149 ls []) := by
      intro v6 v8 Mm20 hf H locs cells slots ls hst hl
      unfold jf_X9_trees_j149 at hf
      refine lv_iinc (i := 8) (v := (v8 + 1)) (lv' := [(8, .int (v8 + 1)), (0, va_rf (some a0)), (1, .int v1), (2, .int v2), (3, va_rf v3), (4, va_rf v4), (5, .int v5), (6, .long v6)]) hx hb dX9_trees_149 hl (k := 7) rfl (by rfl) (by decide) rfl (fun ls hl => ?_)
      refine lv_goto (tgt := 25) hx hb dX9_trees_152 (by decide) ?_
      obtain ⟨rfl, rfl⟩ := jm_ret_some hf
      exact jm_or_l hk25 _ _ _ _ _ hst (lv_sub hl [1, 2, 3, 4, 5, 6, 7, 0] rfl)
    have J134 : ∀ (v6 : Int64) (v8 : Int32) (v9 : Int64) (t0 : Int64) (Mm21 : Mem), (jf_X9_trees_j134 N a0 v1 v2 v3 v4 v5 v6 v8 v9 t0).1 Mm21 = some (xe25, Me25) → ∀ (H : Heap) (locs : List Loc) (cells slots : Nat) (ls : Array Slot), jm_St g b M M' Mm21 s (jm_rm 5 145 M M') H locs cells slots → lv_has ls 13 [(0, va_rf (some a0)), (1, .int v1), (2, .int v2), (3, va_rf v3), (4, va_rf v4), (5, .int v5), (6, .long v6), (8, .int v8), (9, .long v9)] → W p l e (jm_rm 5 145 M M') s m args below meth c H locs cells slots (jm_MQ below g b (some (.long r)) M M' args s) (F0 m 134 ls [.long t0]) := by
      intro v6 v8 v9 t0 Mm21 hf H locs cells slots ls hst hl
      unfold jf_X9_trees_j134 at hf
      refine lv_lstore (i := 11) (lv' := [(11, .long t0), (0, va_rf (some a0)), (1, .int v1), (2, .int v2), (3, va_rf v3), (4, va_rf v4), (5, .int v5), (6, .long v6), (8, .int v8), (9, .long v9)]) hx hb dX9_trees_134 hl (by decide) rfl (fun ls hl => ?_)
      refine lv_lload hx hb dX9_trees_136 (lv_at hl 7 rfl) ?_
      refine lv_lload hx hb dX9_trees_138 (lv_at hl 9 rfl) ?_
      refine lv_lload hx hb dX9_trees_140 (lv_at hl 0 rfl) ?_
      refine lv_lmul hx hb dX9_trees_142 ?_
      refine lv_lload hx hb dX9_trees_143 (lv_at hl 0 rfl) ?_
      refine lv_lmul hx hb dX9_trees_145 ?_
      refine lv_ladd hx hb dX9_trees_146 ?_
      refine lv_lstore (i := 6) (lv' := [(6, .long (v6 + ((v9 * t0) * t0))), (11, .long t0), (0, va_rf (some a0)), (1, .int v1), (2, .int v2), (3, va_rf v3), (4, va_rf v4), (5, .int v5), (8, .int v8), (9, .long v9)]) hx hb dX9_trees_147 hl (by decide) rfl (fun ls hl => ?_)
      exact J149 (v6 + ((v9 * t0) * t0)) v8 _ hf _ _ _ _ _ hst (lv_sub hl [2, 3, 4, 5, 6, 7, 0, 8] rfl)
    have J133 : ∀ (v6 : Int64) (v8 : Int32) (v9 : Int64) (Mm22 : Mem), (jf_X9_trees_j133 N a0 v1 v2 v3 v4 v5 v6 v8 v9).1 Mm22 = some (xe25, Me25) → ∀ (H : Heap) (locs : List Loc) (cells slots : Nat) (ls : Array Slot), jm_St g b M M' Mm22 s (jm_rm 5 145 M M') H locs cells slots → lv_has ls 13 [(0, va_rf (some a0)), (1, .int v1), (2, .int v2), (3, va_rf v3), (4, va_rf v4), (5, .int v5), (6, .long v6), (8, .int v8), (9, .long v9)] → W p l e (jm_rm 5 145 M M') s m args below meth c H locs cells slots (jm_MQ below g b (some (.long r)) M M' args s) (F0 m 133 ls []) := by
      intro v6 v8 v9 Mm22 hf H locs cells slots ls hst hl
      unfold jf_X9_trees_j133 at hf
      refine lv_lconst (v := 1) hx hb dX9_trees_133 (by decide) ?_
      exact J134 v6 v8 v9 (1 : Int64) _ hf _ _ _ _ _ hst (lv_sub hl [0, 1, 2, 3, 4, 5, 6, 7, 8] rfl)
    have K69_114 : ∀ (v6 : Int64) (v8 : Int32) (v9 : Int64) (Mm23 : Mem), (jf_X9_trees_k69_114 N a0 v1 v2 v3 v4 v5 v6 v8 v9).1 Mm23 = some (xe25, Me25) → ∀ (H : Heap) (locs : List Loc) (cells slots : Nat) (ls : Array Slot), jm_St g b M M' Mm23 s (jm_rm 5 145 M M') H locs cells slots → lv_has ls 13 [(0, va_rf (some a0)), (1, .int v1), (2, .int v2), (3, va_rf v3), (4, va_rf v4), (5, .int v5), (6, .long v6), (8, .int v8), (9, .long v9)] → W p l e (jm_rm 5 145 M M') s m args below meth c H locs cells slots (jm_MQ below g b (some (.long r)) M M' args s) (F0 m 114 ls []) := by
      intro v6 v8 v9 Mm23 hf H locs cells slots ls hst hl
      unfold jf_X9_trees_k69_114 at hf
      refine lv_iload_n hx hb dX9_trees_114 rfl (lv_at hl 1 rfl) ?_
      refine lv_iconst (v := 2) hx hb dX9_trees_115 (by decide) ?_
      refine lv_icmp_ne (tgt := 133) hx hb dX9_trees_116 (by decide) (fun hc => ?_) (fun hc => ?_)
      · rw [if_neg hc] at hf
        exact J133 v6 v8 v9 _ hf _ _ _ _ _ hst (lv_sub hl [0, 1, 2, 3, 4, 5, 6, 7, 8] rfl)
      · rw [if_pos hc] at hf
        refine lv_iload_n hx hb dX9_trees_119 rfl (lv_at hl 2 rfl) ?_
        refine lv_iconst (v := 1) hx hb dX9_trees_120 (by decide) ?_
        refine lv_icmp_ne (tgt := 133) hx hb dX9_trees_121 (by decide) (fun hc => ?_) (fun hc => ?_)
        · rw [if_neg hc] at hf
          exact J133 v6 v8 v9 _ hf _ _ _ _ _ hst (lv_sub hl [0, 1, 2, 3, 4, 5, 6, 7, 8] rfl)
        · rw [if_pos hc] at hf
          refine jw_aload_n (r := (some a0)) hx hb dX9_trees_124 rfl (lv_at hl 0 rfl) ?_
          refine lv_iload hx hb dX9_trees_125 (lv_at hl 7 rfl) ?_
          obtain ⟨a27, h28, hf⟩ := jm_rd_some hf
          obtain ⟨fsa27, hea27, hr29⟩ := jm_cl_some h28
          obtain ⟨x24, Mm25, h26, hf⟩ := jm_bd_some hf
          refine jw_V (As := [.int v8]) (rest := []) (C := RX9) (T := TX9) (N := 4) (rv := (some a0)) (jt_X9_twisted l g b N a27 v8 Mm23 Mm25 x24 h26) C0 hK hst (jm_mono h26) (jm_le_tr (jm_mono hf) hle25) q899 q744 q745 q84 q746 hd_X9_twisted ⟨Nat.le_of_ble_eq_true rfl, Nat.le_of_ble_eq_true rfl⟩ hea27 hr29 rfl rfl hl.1 rfl (by rw [cs_n]; exact Nat.le_of_ble_eq_true rfl) dX9_trees_127 (fun H locs cells slots hst => ?_)
          refine W.eq (g2 := F0 m 130 ls [.long x24]) rfl ?_
          refine lv_goto (tgt := 134) hx hb dX9_trees_130 (by decide) ?_
          exact J134 v6 v8 v9 x24 _ hf _ _ _ _ _ hst (lv_sub hl [0, 1, 2, 3, 4, 5, 6, 7, 8] rfl)
    have B69 : ∀ (a0 : Nat) (v1 : Int32) (v2 : Int32) (v3 : Option Nat) (v4 : Option Nat) (v5 : Int32) (v6 : Int64) (v8 : Int32) (v9 : Int64) (v11 : Int32) (Mm49 : Mem) (xe69 : ((Int64 × Int32) ⊕ Int64)) (Me69 : Mem), (jf_X9_trees_L69 N a0 v1 v2 v3 v4 v5 v6 v8 v9 v11).1 Mm49 = some (xe69, Me69) → jm_le Me69 M' → (jm_or (fun (z : Int64 × Int32) => ∀ (H : Heap) (locs : List Loc) (cells slots : Nat) (ls : Array Slot), jm_St g b M M' Me69 s (jm_rm 5 145 M M') H locs cells slots → lv_has ls 13 [(0, va_rf (some a0)), (1, .int v1), (2, .int v2), (3, va_rf v3), (4, va_rf v4), (5, .int v5), (6, .long v6), (8, .int v8), (9, .long z.1), (11, .int z.2)] → W p l e (jm_rm 5 145 M M') s m args below meth c H locs cells slots (jm_MQ below g b (some (.long r)) M M' args s) (F0 m 69 ls [])) (fun (y : Int64) => ∀ (H : Heap) (locs : List Loc) (cells slots : Nat) (ls : Array Slot), jm_St g b M M' Me69 s (jm_rm 5 145 M M') H locs cells slots → lv_has ls 13 [(0, va_rf (some a0)), (1, .int v1), (2, .int v2), (3, va_rf v3), (4, va_rf v4), (5, .int v5), (6, .long v6), (8, .int v8), (9, .long y)] → W p l e (jm_rm 5 145 M M') s m args below meth c H locs cells slots (jm_MQ below g b (some (.long r)) M M' args s) (F0 m 114 ls [])) xe69) → ∀ (H : Heap) (locs : List Loc) (cells slots : Nat) (ls : Array Slot), jm_St g b M M' Mm49 s (jm_rm 5 145 M M') H locs cells slots → lv_has ls 13 [(0, va_rf (some a0)), (1, .int v1), (2, .int v2), (3, va_rf v3), (4, va_rf v4), (5, .int v5), (6, .long v6), (8, .int v8), (9, .long v9), (11, .int v11)] → W p l e (jm_rm 5 145 M M') s m args below meth c H locs cells slots (jm_MQ below g b (some (.long r)) M M' args s) (F0 m 69 ls []) := by
      intro a0 v1 v2 v3 v4 v5 v6 v8 v9 v11 Mm49 xe69 Me69 hf hle69 hk69
      have J105 : ∀ (v11 : Int32) (t0 : Int64) (t1 : Int64) (Mm48 : Mem), (jf_X9_trees_j105 N a0 v1 v2 v3 v4 v5 v6 v8 v11 t0 t1).1 Mm48 = some (xe69, Me69) → ∀ (H : Heap) (locs : List Loc) (cells slots : Nat) (ls : Array Slot), jm_St g b M M' Mm48 s (jm_rm 5 145 M M') H locs cells slots → lv_has ls 13 [(0, va_rf (some a0)), (1, .int v1), (2, .int v2), (3, va_rf v3), (4, va_rf v4), (5, .int v5), (6, .long v6), (8, .int v8), (11, .int v11)] → W p l e (jm_rm 5 145 M M') s m args below meth c H locs cells slots (jm_MQ below g b (some (.long r)) M M' args s) (F0 m 105 ls [.long t1, .long t0]) := by
        intro v11 t0 t1 Mm48 hf H locs cells slots ls hst hl
        unfold jf_X9_trees_j105 at hf
        refine lv_lmul hx hb dX9_trees_105 ?_
        refine lv_lstore (i := 9) (lv' := [(9, .long (t0 * t1)), (0, va_rf (some a0)), (1, .int v1), (2, .int v2), (3, va_rf v3), (4, va_rf v4), (5, .int v5), (6, .long v6), (8, .int v8), (11, .int v11)]) hx hb dX9_trees_106 hl (by decide) rfl (fun ls hl => ?_)
        refine lv_iinc (i := 11) (v := (v11 + 1)) (lv' := [(11, .int (v11 + 1)), (9, .long (t0 * t1)), (0, va_rf (some a0)), (1, .int v1), (2, .int v2), (3, va_rf v3), (4, va_rf v4), (5, .int v5), (6, .long v6), (8, .int v8)]) hx hb dX9_trees_108 hl (k := 9) rfl (by rfl) (by decide) rfl (fun ls hl => ?_)
        refine lv_goto (tgt := 69) hx hb dX9_trees_111 (by decide) ?_
        obtain ⟨rfl, rfl⟩ := jm_ret_some hf
        exact jm_or_l hk69 _ _ _ _ _ hst (lv_sub hl [2, 3, 4, 5, 6, 7, 8, 9, 1, 0] rfl)
      intro H locs cells slots ls hst hl
      unfold jf_X9_trees_L69 at hf
      refine lv_iload hx hb dX9_trees_69 (lv_at hl 9 rfl) ?_
      refine jw_aload_n (r := v3) hx hb dX9_trees_71 rfl (lv_at hl 3 rfl) ?_
      obtain ⟨x50, h51, hf⟩ := jm_rd_some hf
      refine jw_getI hx hb hts hown hK hst (fl_X9_64 hts hK) h51 dX9_trees_72 ?_
      refine lv_icmp_ge (tgt := 114) hx hb dX9_trees_75 (by decide) (fun hc => ?_) (fun hc => ?_)
      · rw [if_pos hc] at hf
        obtain ⟨rfl, rfl⟩ := jm_ret_some hf
        exact jm_or_r hk69 _ _ _ _ _ hst (lv_sub hl [0, 1, 2, 3, 4, 5, 6, 7, 8] rfl)
      · rw [if_neg hc] at hf
        refine lv_iload_n hx hb dX9_trees_78 rfl (lv_at hl 2 rfl) ?_
        refine lv_iconst (v := 1) hx hb dX9_trees_79 (by decide) ?_
        refine lv_icmp_ne (tgt := 114) hx hb dX9_trees_80 (by decide) (fun hc => ?_) (fun hc => ?_)
        · rw [if_neg hc] at hf
          obtain ⟨rfl, rfl⟩ := jm_ret_some hf
          exact jm_or_r hk69 _ _ _ _ _ hst (lv_sub hl [0, 1, 2, 3, 4, 5, 6, 7, 8] rfl)
        · rw [if_pos hc] at hf
          refine lv_lload hx hb dX9_trees_83 (lv_at hl 8 rfl) ?_
          refine lv_iload hx hb dX9_trees_85 (lv_at hl 7 rfl) ?_
          refine lv_iload hx hb dX9_trees_87 (lv_at hl 9 rfl) ?_
          obtain ⟨x52, Mm53, h54, hf⟩ := jm_bd_some hf
          refine jw_SN (As := [.int v8, .int v11]) (rest := [.long v9]) (jt_X0_has l g b N v8 v11 Mm49 Mm53 x52 h54) C0 hK hst (jm_mono h54) (jm_le_tr (jm_mono hf) hle69) nq898 q758 q72 q759 hd_X0_has.2 ⟨Nat.le_of_ble_eq_true rfl, Nat.le_of_ble_eq_true rfl⟩ rfl hl.1 rfl (by rw [cs_j, cs_n]; exact Nat.le_of_ble_eq_true rfl) dX9_trees_89 (fun H locs cells slots hst => ?_)
          refine W.eq (g2 := F0 m 92 ls [.int x52, .long v9]) rfl ?_
          refine lv_if_eq (tgt := 104) hx hb dX9_trees_92 (by decide) (fun hc => ?_) (fun hc => ?_)
          · rw [if_pos hc] at hf
            refine lv_lconst (v := 1) hx hb dX9_trees_104 (by decide) ?_
            exact J105 v11 v9 (1 : Int64) _ hf _ _ _ _ _ hst (lv_sub hl [0, 1, 2, 3, 4, 5, 6, 7, 9] rfl)
          · rw [if_neg hc] at hf
            refine jw_aload (r := v4) hx hb dX9_trees_95 (lv_at hl 4 rfl) ?_
            refine lv_iload hx hb dX9_trees_97 (lv_at hl 9 rfl) ?_
            obtain ⟨x55, h56, hf⟩ := jm_rd_some hf
            refine jw_iald hx hb hK hst h56 dX9_trees_99 ?_
            refine lv_i2l hx hb dX9_trees_100 rfl ?_
            refine lv_goto (tgt := 105) hx hb dX9_trees_101 (by decide) ?_
            exact J105 v11 v9 (x55.toInt64) _ hf _ _ _ _ _ hst (lv_sub hl [0, 1, 2, 3, 4, 5, 6, 7, 9] rfl)
    intro H locs cells slots ls hst hl
    unfold jf_X9_trees_L25 at hf
    refine lv_iload hx hb dX9_trees_25 (lv_at hl 7 rfl) ?_
    refine lv_iconst (v := 1) hx hb dX9_trees_27 (by decide) ?_
    refine jw_aload_n (r := v3) hx hb dX9_trees_28 rfl (lv_at hl 3 rfl) ?_
    obtain ⟨x31, h32, hf⟩ := jm_rd_some hf
    refine jw_getI hx hb hts hown hK hst (fl_X9_64 hts hK) h32 dX9_trees_29 ?_
    refine lv_ishl hx hb dX9_trees_32 ?_
    refine lv_icmp_ge (tgt := 155) hx hb dX9_trees_33 (by decide) (fun hc => ?_) (fun hc => ?_)
    · rw [if_pos hc] at hf
      obtain ⟨rfl, rfl⟩ := jm_ret_some hf
      exact jm_or_r hk25 _ _ _ _ _ hst (lv_sub hl [6] rfl)
    · rw [if_neg hc] at hf
      refine lv_iload hx hb dX9_trees_36 (lv_at hl 7 rfl) ?_
      obtain ⟨x33, Mm34, h35, hf⟩ := jm_bd_some hf
      refine jw_S (As := [.int v8]) (rest := []) (jt_J6_bitCount l g b N v8 Mm30 Mm34 x33 h35) C0 hK hst (jm_mono h35) (jm_le_tr (jm_mono hf) hle25) q820 q752 q91 q753 hd_J6_bitCount.2 ⟨Nat.le_of_ble_eq_true rfl, Nat.le_of_ble_eq_true rfl⟩ rfl hl.1 rfl (by rw [cs_n]; exact Nat.le_of_ble_eq_true rfl) dX9_trees_38 (fun H locs cells slots hst => ?_)
      refine W.eq (g2 := F0 m 41 ls [.int x33]) rfl ?_
      refine lv_iload hx hb dX9_trees_41 (lv_at hl 5 rfl) ?_
      refine lv_icmp_ne (tgt := 149) hx hb dX9_trees_43 (by decide) (fun hc => ?_) (fun hc => ?_)
      · rw [if_neg hc] at hf
        exact J149 v6 v8 _ hf _ _ _ _ _ hst (lv_sub hl [0, 1, 2, 3, 4, 5, 6, 7] rfl)
      · rw [if_pos hc] at hf
        refine jw_aload_n (r := v3) hx hb dX9_trees_46 rfl (lv_at hl 3 rfl) ?_
        refine lv_iload hx hb dX9_trees_47 (lv_at hl 7 rfl) ?_
        obtain ⟨a39, h40, hf⟩ := jm_rd_some hf
        obtain ⟨fsa39, hea39, hr41⟩ := jm_cl_some h40
        obtain ⟨x36, Mm37, h38, hf⟩ := jm_bd_some hf
        refine jw_V (As := [.int v8]) (rest := []) (C := RX11) (T := TX11) (N := 3) (rv := v3) (jt_X11_some l g b N a39 v8 Mm34 Mm37 x36 h38) C0 hK hst (jm_mono h38) (jm_le_tr (jm_mono hf) hle25) q747 q748 q749 q90 q750 hd_X11_some ⟨Nat.le_of_ble_eq_true rfl, Nat.le_of_ble_eq_true rfl⟩ hea39 hr41 rfl rfl hl.1 rfl (by rw [cs_n]; exact Nat.le_of_ble_eq_true rfl) dX9_trees_49 (fun H locs cells slots hst => ?_)
        refine W.eq (g2 := F0 m 52 ls [va_rf x36]) rfl ?_
        obtain ⟨a45, h46, hf⟩ := jm_rd_some hf
        obtain ⟨fsa45, hea45, hr47⟩ := jm_cl_some h46
        obtain ⟨x42, Mm43, h44, hf⟩ := jm_bd_some hf
        refine jw_V (As := []) (rest := []) (C := RX11) (T := TX11) (N := 3) (rv := x36) (jt_X11_rank l g b N a45  Mm37 Mm43 x42 h44) C0 hK hst (jm_mono h44) (jm_le_tr (jm_mono hf) hle25) q686 q687 q688 q90 q689 hd_X11_rank ⟨Nat.le_of_ble_eq_true rfl, Nat.le_of_ble_eq_true rfl⟩ hea45 hr47 rfl rfl hl.1 rfl (by rw [cs_n]; exact Nat.le_of_ble_eq_true rfl) dX9_trees_52 (fun H locs cells slots hst => ?_)
        refine W.eq (g2 := F0 m 55 ls [.int x42]) rfl ?_
        refine lv_iload hx hb dX9_trees_55 (lv_at hl 5 rfl) ?_
        refine lv_icmp_ge (tgt := 63) hx hb dX9_trees_57 (by decide) (fun hc => ?_) (fun hc => ?_)
        · rw [if_pos hc] at hf
          refine lv_lconst (v := 1) hx hb dX9_trees_63 (by decide) ?_
          refine lv_lstore (i := 9) (lv' := [(9, .long (1 : Int64)), (0, va_rf (some a0)), (1, .int v1), (2, .int v2), (3, va_rf v3), (4, va_rf v4), (5, .int v5), (6, .long v6), (8, .int v8)]) hx hb dX9_trees_64 hl (by decide) rfl (fun ls hl => ?_)
          refine lv_iconst (v := 0) hx hb dX9_trees_66 (by decide) ?_
          refine lv_istore (i := 11) (lv' := [(11, .int (0 : Int32)), (9, .long (1 : Int64)), (0, va_rf (some a0)), (1, .int v1), (2, .int v2), (3, va_rf v3), (4, va_rf v4), (5, .int v5), (6, .long v6), (8, .int v8)]) hx hb dX9_trees_67 hl (by decide) rfl (fun ls hl => ?_)
          obtain ⟨xl69, Ml69, hit69, hf⟩ := jm_bd_some hf
          have hlf69 : jm_le Ml69 M' := jm_le_tr (jm_mono hf) hle25
          have hwe69 : (fun (y : Int64) (Mz : Mem) => ∀ (H : Heap) (locs : List Loc) (cells slots : Nat) (ls : Array Slot), jm_St g b M M' Mz s (jm_rm 5 145 M M') H locs cells slots → lv_has ls 13 [(0, va_rf (some a0)), (1, .int v1), (2, .int v2), (3, va_rf v3), (4, va_rf v4), (5, .int v5), (6, .long v6), (8, .int v8), (9, .long y)] → W p l e (jm_rm 5 145 M M') s m args below meth c H locs cells slots (jm_MQ below g b (some (.long r)) M M' args s) (F0 m 114 ls [])) xl69 Ml69 := fun H locs cells slots ls hst hl => K69_114 v6 v8 xl69 _ hf H locs cells slots ls hst hl
          refine jm_it_walk (Mf := M') (Wh := fun (z : Int64 × Int32) (Mz : Mem) => ∀ (H : Heap) (locs : List Loc) (cells slots : Nat) (ls : Array Slot), jm_St g b M M' Mz s (jm_rm 5 145 M M') H locs cells slots → lv_has ls 13 [(0, va_rf (some a0)), (1, .int v1), (2, .int v2), (3, va_rf v3), (4, va_rf v4), (5, .int v5), (6, .long v6), (8, .int v8), (9, .long z.1), (11, .int z.2)] → W p l e (jm_rm 5 145 M M') s m args below meth c H locs cells slots (jm_MQ below g b (some (.long r)) M M' args s) (F0 m 69 ls [])) (We := fun (y : Int64) (Mz : Mem) => ∀ (H : Heap) (locs : List Loc) (cells slots : Nat) (ls : Array Slot), jm_St g b M M' Mz s (jm_rm 5 145 M M') H locs cells slots → lv_has ls 13 [(0, va_rf (some a0)), (1, .int v1), (2, .int v2), (3, va_rf v3), (4, va_rf v4), (5, .int v5), (6, .long v6), (8, .int v8), (9, .long y)] → W p l e (jm_rm 5 145 M M') s m args below meth c H locs cells slots (jm_MQ below g b (some (.long r)) M M' args s) (F0 m 114 ls [])) ?_ N ((1 : Int64), (0 : Int32)) Mm43 xl69 Ml69 hit69 hlf69 hwe69 _ _ _ _ _ hst (lv_sub hl [2, 3, 4, 5, 6, 7, 8, 9, 1, 0] rfl)
          intro z Mm57 xe69 Me69 hf hle69 hk69 H locs cells slots ls hst hl
          obtain ⟨v9, v11⟩ := z
          have hf : (jf_X9_trees_L69 N a0 v1 v2 v3 v4 v5 v6 v8 v9 v11).1 Mm57 = some (xe69, Me69) := hf
          have hl : lv_has ls 13 [(0, va_rf (some a0)), (1, .int v1), (2, .int v2), (3, va_rf v3), (4, va_rf v4), (5, .int v5), (6, .long v6), (8, .int v8), (9, .long v9), (11, .int v11)] := hl
          exact B69 a0 v1 v2 v3 v4 v5 v6 v8 v9 v11 _ _ _ hf hle69 hk69 _ _ _ _ _ hst (lv_sub hl [0, 1, 2, 3, 4, 5, 6, 7, 8, 9] rfl)
        · rw [if_neg hc] at hf
          refine lv_goto (tgt := 149) hx hb dX9_trees_60 (by decide) ?_
          exact J149 v6 v8 _ hf _ _ _ _ _ hst (lv_sub hl [0, 1, 2, 3, 4, 5, 6, 7] rfl)
  unfold jf_X9_trees at hf
  refine jw_aload_n (r := (some a0)) hx hb dX9_trees_0 rfl (lv_at hl 0 rfl) ?_
  refine lv_iload_n hx hb dX9_trees_1 rfl (lv_at hl 1 rfl) ?_
  obtain ⟨a5, h6, hf⟩ := jm_rd_some hf
  obtain ⟨fsa5, hea5, hr7⟩ := jm_cl_some h6
  obtain ⟨x2, Mm3, h4, hf⟩ := jm_bd_some hf
  refine jw_V (As := [.int v1]) (rest := []) (C := RX9) (T := TX9) (N := 4) (rv := (some a0)) (jt_X9_table l g b N a5 v1 M Mm3 x2 h4) C0 hK hst (jm_mono h4) (jm_le_tr (jm_mono hf) jm_le_rf) q647 q612 q613 q84 q614 hd_X9_table ⟨Nat.le_of_ble_eq_true rfl, Nat.le_of_ble_eq_true rfl⟩ hea5 hr7 rfl rfl hl.1 rfl (by rw [cs_n]; exact Nat.le_of_ble_eq_true rfl) dX9_trees_2 (fun H locs cells slots hst => ?_)
  refine W.eq (g2 := F0 m 5 ls [va_rf x2]) rfl ?_
  refine jw_astore_n (i := 3) (r := x2) (lv' := [(3, va_rf x2), (0, va_rf (some a0)), (1, .int v1), (2, .int v2)]) hx hb dX9_trees_5 rfl hl (by decide) rfl (fun ls hl => ?_)
  refine jw_aload_n (r := (some a0)) hx hb dX9_trees_6 rfl (lv_at hl 1 rfl) ?_
  refine lv_iload_n hx hb dX9_trees_7 rfl (lv_at hl 2 rfl) ?_
  obtain ⟨a11, h12, hf⟩ := jm_rd_some hf
  obtain ⟨fsa11, hea11, hr13⟩ := jm_cl_some h12
  obtain ⟨x8, Mm9, h10, hf⟩ := jm_bd_some hf
  refine jw_V (As := [.int v1]) (rest := []) (C := RX9) (T := TX9) (N := 4) (rv := (some a0)) (jt_X9_weights l g b N a11 v1 Mm3 Mm9 x8 h10) C0 hK hst (jm_mono h10) (jm_le_tr (jm_mono hf) jm_le_rf) q658 q659 q660 q84 q661 hd_X9_weights ⟨Nat.le_of_ble_eq_true rfl, Nat.le_of_ble_eq_true rfl⟩ hea11 hr13 rfl rfl hl.1 rfl (by rw [cs_n]; exact Nat.le_of_ble_eq_true rfl) dX9_trees_8 (fun H locs cells slots hst => ?_)
  refine W.eq (g2 := F0 m 11 ls [va_rf x8]) rfl ?_
  refine jw_astore (i := 4) (r := x8) (lv' := [(4, va_rf x8), (3, va_rf x2), (0, va_rf (some a0)), (1, .int v1), (2, .int v2)]) hx hb dX9_trees_11 hl (by decide) (by simp [va_rf_cat, cat_i, cat_j, cat_f]) (fun ls hl => ?_)
  refine jw_aload_n (r := x2) hx hb dX9_trees_13 rfl (lv_at hl 1 rfl) ?_
  obtain ⟨a17, h18, hf⟩ := jm_rd_some hf
  obtain ⟨fsa17, hea17, hr19⟩ := jm_cl_some h18
  obtain ⟨x14, Mm15, h16, hf⟩ := jm_bd_some hf
  refine jw_V (As := []) (rest := []) (C := RX11) (T := TX11) (N := 3) (rv := x2) (jt_X11_rank l g b N a17  Mm9 Mm15 x14 h16) C0 hK hst (jm_mono h16) (jm_le_tr (jm_mono hf) jm_le_rf) q686 q687 q688 q90 q689 hd_X11_rank ⟨Nat.le_of_ble_eq_true rfl, Nat.le_of_ble_eq_true rfl⟩ hea17 hr19 rfl rfl hl.1 rfl (by rw [cs_n]; exact Nat.le_of_ble_eq_true rfl) dX9_trees_14 (fun H locs cells slots hst => ?_)
  refine W.eq (g2 := F0 m 17 ls [.int x14]) rfl ?_
  refine lv_istore (i := 5) (lv' := [(5, .int x14), (4, va_rf x8), (3, va_rf x2), (0, va_rf (some a0)), (1, .int v1), (2, .int v2)]) hx hb dX9_trees_17 hl (by decide) (by simp [va_rf_cat, cat_i, cat_j, cat_f]) (fun ls hl => ?_)
  refine lv_lconst (v := 0) hx hb dX9_trees_19 (by decide) ?_
  refine lv_lstore (i := 6) (lv' := [(6, .long (0 : Int64)), (5, .int x14), (4, va_rf x8), (3, va_rf x2), (0, va_rf (some a0)), (1, .int v1), (2, .int v2)]) hx hb dX9_trees_20 hl (by decide) rfl (fun ls hl => ?_)
  refine lv_iconst (v := 0) hx hb dX9_trees_22 (by decide) ?_
  refine lv_istore (i := 8) (lv' := [(8, .int (0 : Int32)), (6, .long (0 : Int64)), (5, .int x14), (4, va_rf x8), (3, va_rf x2), (0, va_rf (some a0)), (1, .int v1), (2, .int v2)]) hx hb dX9_trees_23 hl (by decide) rfl (fun ls hl => ?_)
  obtain ⟨xl25, Ml25, hit25, hf⟩ := jm_bd_some hf
  have hlf25 : jm_le Ml25 M' := jm_le_tr (jm_mono hf) jm_le_rf
  have hwe25 : (fun (y : Int64) (Mz : Mem) => ∀ (H : Heap) (locs : List Loc) (cells slots : Nat) (ls : Array Slot), jm_St g b M M' Mz s (jm_rm 5 145 M M') H locs cells slots → lv_has ls 13 [(6, .long y)] → W p l e (jm_rm 5 145 M M') s m args below meth c H locs cells slots (jm_MQ below g b (some (.long r)) M M' args s) (F0 m 155 ls [])) xl25 Ml25 := fun H locs cells slots ls hst hl => K25_155 xl25 _ hf H locs cells slots ls hst hl
  refine jm_it_walk (Mf := M') (Wh := fun (z : Int64 × Int32) (Mz : Mem) => ∀ (H : Heap) (locs : List Loc) (cells slots : Nat) (ls : Array Slot), jm_St g b M M' Mz s (jm_rm 5 145 M M') H locs cells slots → lv_has ls 13 [(0, va_rf (some a0)), (1, .int v1), (2, .int v2), (3, va_rf x2), (4, va_rf x8), (5, .int x14), (6, .long z.1), (8, .int z.2)] → W p l e (jm_rm 5 145 M M') s m args below meth c H locs cells slots (jm_MQ below g b (some (.long r)) M M' args s) (F0 m 25 ls [])) (We := fun (y : Int64) (Mz : Mem) => ∀ (H : Heap) (locs : List Loc) (cells slots : Nat) (ls : Array Slot), jm_St g b M M' Mz s (jm_rm 5 145 M M') H locs cells slots → lv_has ls 13 [(6, .long y)] → W p l e (jm_rm 5 145 M M') s m args below meth c H locs cells slots (jm_MQ below g b (some (.long r)) M M' args s) (F0 m 155 ls [])) ?_ N ((0 : Int64), (0 : Int32)) Mm15 xl25 Ml25 hit25 hlf25 hwe25 _ _ _ _ _ hst (lv_sub hl [5, 6, 7, 4, 3, 2, 1, 0] rfl)
  intro z Mm58 xe25 Me25 hf hle25 hk25 H locs cells slots ls hst hl
  obtain ⟨v6, v8⟩ := z
  have hf : (jf_X9_trees_L25 N a0 v1 v2 x2 x8 x14 v6 v8).1 Mm58 = some (xe25, Me25) := hf
  have hl : lv_has ls 13 [(0, va_rf (some a0)), (1, .int v1), (2, .int v2), (3, va_rf x2), (4, va_rf x8), (5, .int x14), (6, .long v6), (8, .int v8)] := hl
  exact B25 a0 v1 v2 x2 x8 x14 v6 v8 _ _ _ hf hle25 hk25 _ _ _ _ _ hst (lv_sub hl [0, 1, 2, 3, 4, 5, 6, 7] rfl)
theorem hd_X9_near : yX9_near.cls = RX9 ∧ yX9_near.cls ≠ "java/lang/invoke/MethodHandle" ∧ yX9_near.cls ≠ "java/lang/invoke/VarHandle" ∧ (parseMethodDescriptor yX9_near.desc).map (fun d => d.parameters.length) = some 1 := by decide +kernel
theorem hd_X11_within : yX11_within.cls = RX11 ∧ yX11_within.cls ≠ "java/lang/invoke/MethodHandle" ∧ yX11_within.cls ≠ "java/lang/invoke/VarHandle" ∧ (parseMethodDescriptor yX11_within.desc).map (fun d => d.parameters.length) = some 1 := by decide +kernel
def jf_X9_minors_k17_61 (N : Nat) (v4 : Int64) : jm_P Int64 :=
  jm_ret v4
def jf_X9_minors_j52 (N : Nat) (v2 : Option Nat) (v3 : Int32) (v6 : Int32) (t0 : Int64) (t1 : Int64) : jm_P ((Int64 × Int32) ⊕ Int64) :=
  jm_ret (.inl ((t0 + t1), (v6 + 1)))
def jf_X9_minors_L17 (N : Nat) (v2 : Option Nat) (v3 : Int32) (v4 : Int64) (v6 : Int32) : jm_P ((Int64 × Int32) ⊕ Int64) :=
  jm_rd (jm_fI [11] 2 v2) fun x16 =>
  if ((1 : Int32) <<< (x16 &&& 31)) ≤ v6 then (
    jm_ret (.inr v4))
  else
    jm_bd (jf_J6_bitCount N v6) fun x18 =>
    if x18 = v3 then (
      jm_rd (jm_cl 11 v2) fun a24 =>
      jm_bd (jf_X11_within N a24 v6) fun x21 =>
      jm_rd (jm_cl 11 x21) fun a30 =>
      jm_bd (jf_X11_determinant N a30 ) fun x27 =>
      jf_X9_minors_j52 N v2 v3 v6 v4 x27)
    else
      jf_X9_minors_j52 N v2 v3 v6 v4 (0 : Int64)
def jf_X9_minors (N : Nat) (a0 : Nat) (v1 : Int32) : jm_P Int64 :=
  jm_rd (jm_cl 9 (some a0)) fun a5 =>
  jm_bd (jf_X9_near N a5 v1) fun x2 =>
  jm_rd (jm_cl 11 x2) fun a11 =>
  jm_bd (jf_X11_rank N a11 ) fun x8 =>
  jm_bd (jm_it (fun z => jf_X9_minors_L17 N x2 x8 z.1 z.2) N ((0 : Int64), (0 : Int32))) fun y =>
  jf_X9_minors_k17_61 N y
set_option maxHeartbeats 4000000 in
set_option maxRecDepth 100000 in
theorem jt_X9_minors (l : Launch) (g : GD) (b N : Nat) (a0 : Nat) (v1 : Int32) (M M' : Mem) (r : Int64) (hf : (jf_X9_minors N a0 v1).1 M = some (r, M')) : jm_Met l g b yX9_minors (ws_ yX9_minors cX9_minors 7 (some .long)) 5 110 [va_rf (some a0), .int v1] M M' (some (.long r)) := by
  refine jm_start (by decide) (jm_mono hf) (by rw [lg_sl_r, lg_sl_i, lg_sl_n]; exact Nat.le_of_ble_eq_true rfl) ?_
  intro p e s m args below meth c ls C0 hin hK hst hl
  obtain ⟨hx, hb, hml, hown, hts, hr, hlk⟩ := id C0
  have hown : s.vm.findClass RX9 = some m.cls := hown
  have C0 : jm_Cx p s m args meth c cX9_minors 7 (some .long) RX9 := C0
  rw [lv_args_r, lv_args_i, lv_args_n] at hl
  have hl : lv_has ls 7 [(0, va_rf (some a0)), (1, .int v1)] := hl
  have K17_61 : ∀ (v4 : Int64) (Mm1 : Mem), (jf_X9_minors_k17_61 N v4).1 Mm1 = some (r, M') → ∀ (H : Heap) (locs : List Loc) (cells slots : Nat) (ls : Array Slot), jm_St g b M M' Mm1 s (jm_rm 5 110 M M') H locs cells slots → lv_has ls 7 [(4, .long v4)] → W p l e (jm_rm 5 110 M M') s m args below meth c H locs cells slots (jm_MQ below g b (some (.long r)) M M' args s) (F0 m 61 ls []) := by
    intro v4 Mm1 hf H locs cells slots ls hst hl
    unfold jf_X9_minors_k17_61 at hf
    refine lv_lload hx hb dX9_minors_61 (lv_at hl 0 rfl) ?_
    obtain ⟨rfl, rfl⟩ := jm_ret_some hf
    exact jw_lret C0 hst dX9_minors_63
  have B17 : ∀ (v2 : Option Nat) (v3 : Int32) (v4 : Int64) (v6 : Int32) (Mm15 : Mem) (xe17 : ((Int64 × Int32) ⊕ Int64)) (Me17 : Mem), (jf_X9_minors_L17 N v2 v3 v4 v6).1 Mm15 = some (xe17, Me17) → jm_le Me17 M' → (jm_or (fun (z : Int64 × Int32) => ∀ (H : Heap) (locs : List Loc) (cells slots : Nat) (ls : Array Slot), jm_St g b M M' Me17 s (jm_rm 5 110 M M') H locs cells slots → lv_has ls 7 [(2, va_rf v2), (3, .int v3), (4, .long z.1), (6, .int z.2)] → W p l e (jm_rm 5 110 M M') s m args below meth c H locs cells slots (jm_MQ below g b (some (.long r)) M M' args s) (F0 m 17 ls [])) (fun (y : Int64) => ∀ (H : Heap) (locs : List Loc) (cells slots : Nat) (ls : Array Slot), jm_St g b M M' Me17 s (jm_rm 5 110 M M') H locs cells slots → lv_has ls 7 [(4, .long y)] → W p l e (jm_rm 5 110 M M') s m args below meth c H locs cells slots (jm_MQ below g b (some (.long r)) M M' args s) (F0 m 61 ls [])) xe17) → ∀ (H : Heap) (locs : List Loc) (cells slots : Nat) (ls : Array Slot), jm_St g b M M' Mm15 s (jm_rm 5 110 M M') H locs cells slots → lv_has ls 7 [(2, va_rf v2), (3, .int v3), (4, .long v4), (6, .int v6)] → W p l e (jm_rm 5 110 M M') s m args below meth c H locs cells slots (jm_MQ below g b (some (.long r)) M M' args s) (F0 m 17 ls []) := by
    intro v2 v3 v4 v6 Mm15 xe17 Me17 hf hle17 hk17
    have J52 : ∀ (v6 : Int32) (t0 : Int64) (t1 : Int64) (Mm14 : Mem), (jf_X9_minors_j52 N v2 v3 v6 t0 t1).1 Mm14 = some (xe17, Me17) → ∀ (H : Heap) (locs : List Loc) (cells slots : Nat) (ls : Array Slot), jm_St g b M M' Mm14 s (jm_rm 5 110 M M') H locs cells slots → lv_has ls 7 [(2, va_rf v2), (3, .int v3), (6, .int v6)] → W p l e (jm_rm 5 110 M M') s m args below meth c H locs cells slots (jm_MQ below g b (some (.long r)) M M' args s) (F0 m 52 ls [.long t1, .long t0]) := by
      intro v6 t0 t1 Mm14 hf H locs cells slots ls hst hl
      unfold jf_X9_minors_j52 at hf
      refine lv_ladd hx hb dX9_minors_52 ?_
      refine lv_lstore (i := 4) (lv' := [(4, .long (t0 + t1)), (2, va_rf v2), (3, .int v3), (6, .int v6)]) hx hb dX9_minors_53 hl (by decide) rfl (fun ls hl => ?_)
      refine lv_iinc (i := 6) (v := (v6 + 1)) (lv' := [(6, .int (v6 + 1)), (4, .long (t0 + t1)), (2, va_rf v2), (3, .int v3)]) hx hb dX9_minors_55 hl (k := 3) rfl (by rfl) (by decide) rfl (fun ls hl => ?_)
      refine lv_goto (tgt := 17) hx hb dX9_minors_58 (by decide) ?_
      obtain ⟨rfl, rfl⟩ := jm_ret_some hf
      exact jm_or_l hk17 _ _ _ _ _ hst (lv_sub hl [2, 3, 1, 0] rfl)
    intro H locs cells slots ls hst hl
    unfold jf_X9_minors_L17 at hf
    refine lv_iload hx hb dX9_minors_17 (lv_at hl 3 rfl) ?_
    refine lv_iconst (v := 1) hx hb dX9_minors_19 (by decide) ?_
    refine jw_aload_n (r := v2) hx hb dX9_minors_20 rfl (lv_at hl 0 rfl) ?_
    obtain ⟨x16, h17, hf⟩ := jm_rd_some hf
    refine jw_getI hx hb hts hown hK hst (fl_X9_64 hts hK) h17 dX9_minors_21 ?_
    refine lv_ishl hx hb dX9_minors_24 ?_
    refine lv_icmp_ge (tgt := 61) hx hb dX9_minors_25 (by decide) (fun hc => ?_) (fun hc => ?_)
    · rw [if_pos hc] at hf
      obtain ⟨rfl, rfl⟩ := jm_ret_some hf
      exact jm_or_r hk17 _ _ _ _ _ hst (lv_sub hl [2] rfl)
    · rw [if_neg hc] at hf
      refine lv_lload hx hb dX9_minors_28 (lv_at hl 2 rfl) ?_
      refine lv_iload hx hb dX9_minors_30 (lv_at hl 3 rfl) ?_
      obtain ⟨x18, Mm19, h20, hf⟩ := jm_bd_some hf
      refine jw_S (As := [.int v6]) (rest := [.long v4]) (jt_J6_bitCount l g b N v6 Mm15 Mm19 x18 h20) C0 hK hst (jm_mono h20) (jm_le_tr (jm_mono hf) hle17) q820 q752 q91 q753 hd_J6_bitCount.2 ⟨Nat.le_of_ble_eq_true rfl, Nat.le_of_ble_eq_true rfl⟩ rfl hl.1 rfl (by rw [cs_j, cs_n]; exact Nat.le_of_ble_eq_true rfl) dX9_minors_32 (fun H locs cells slots hst => ?_)
      refine W.eq (g2 := F0 m 35 ls [.int x18, .long v4]) rfl ?_
      refine lv_iload_n hx hb dX9_minors_35 rfl (lv_at hl 1 rfl) ?_
      refine lv_icmp_ne (tgt := 51) hx hb dX9_minors_36 (by decide) (fun hc => ?_) (fun hc => ?_)
      · rw [if_neg hc] at hf
        refine lv_lconst (v := 0) hx hb dX9_minors_51 (by decide) ?_
        exact J52 v6 v4 (0 : Int64) _ hf _ _ _ _ _ hst (lv_sub hl [0, 1, 3] rfl)
      · rw [if_pos hc] at hf
        refine jw_aload_n (r := v2) hx hb dX9_minors_39 rfl (lv_at hl 0 rfl) ?_
        refine lv_iload hx hb dX9_minors_40 (lv_at hl 3 rfl) ?_
        obtain ⟨a24, h25, hf⟩ := jm_rd_some hf
        obtain ⟨fsa24, hea24, hr26⟩ := jm_cl_some h25
        obtain ⟨x21, Mm22, h23, hf⟩ := jm_bd_some hf
        refine jw_V (As := [.int v6]) (rest := [.long v4]) (C := RX11) (T := TX11) (N := 3) (rv := v2) (jt_X11_within l g b N a24 v6 Mm19 Mm22 x21 h23) C0 hK hst (jm_mono h23) (jm_le_tr (jm_mono hf) hle17) q909 q910 q911 q90 q912 hd_X11_within ⟨Nat.le_of_ble_eq_true rfl, Nat.le_of_ble_eq_true rfl⟩ hea24 hr26 rfl rfl hl.1 rfl (by rw [cs_j, cs_n]; exact Nat.le_of_ble_eq_true rfl) dX9_minors_42 (fun H locs cells slots hst => ?_)
        refine W.eq (g2 := F0 m 45 ls [va_rf x21, .long v4]) rfl ?_
        obtain ⟨a30, h31, hf⟩ := jm_rd_some hf
        obtain ⟨fsa30, hea30, hr32⟩ := jm_cl_some h31
        obtain ⟨x27, Mm28, h29, hf⟩ := jm_bd_some hf
        refine jw_V (As := []) (rest := [.long v4]) (C := RX11) (T := TX11) (N := 3) (rv := x21) (jt_X11_determinant l g b N a30  Mm22 Mm28 x27 h29) C0 hK hst (jm_mono h29) (jm_le_tr (jm_mono hf) hle17) q825 q826 q827 q90 q828 hd_X11_determinant ⟨Nat.le_of_ble_eq_true rfl, Nat.le_of_ble_eq_true rfl⟩ hea30 hr32 rfl rfl hl.1 rfl (by rw [cs_j, cs_n]; exact Nat.le_of_ble_eq_true rfl) dX9_minors_45 (fun H locs cells slots hst => ?_)
        refine W.eq (g2 := F0 m 48 ls [.long x27, .long v4]) rfl ?_
        refine lv_goto (tgt := 52) hx hb dX9_minors_48 (by decide) ?_
        exact J52 v6 v4 x27 _ hf _ _ _ _ _ hst (lv_sub hl [0, 1, 3] rfl)
  unfold jf_X9_minors at hf
  refine jw_aload_n (r := (some a0)) hx hb dX9_minors_0 rfl (lv_at hl 0 rfl) ?_
  refine lv_iload_n hx hb dX9_minors_1 rfl (lv_at hl 1 rfl) ?_
  obtain ⟨a5, h6, hf⟩ := jm_rd_some hf
  obtain ⟨fsa5, hea5, hr7⟩ := jm_cl_some h6
  obtain ⟨x2, Mm3, h4, hf⟩ := jm_bd_some hf
  refine jw_V (As := [.int v1]) (rest := []) (C := RX9) (T := TX9) (N := 4) (rv := (some a0)) (jt_X9_near l g b N a5 v1 M Mm3 x2 h4) C0 hK hst (jm_mono h4) (jm_le_tr (jm_mono hf) jm_le_rf) q908 q644 q645 q84 q646 hd_X9_near ⟨Nat.le_of_ble_eq_true rfl, Nat.le_of_ble_eq_true rfl⟩ hea5 hr7 rfl rfl hl.1 rfl (by rw [cs_n]; exact Nat.le_of_ble_eq_true rfl) dX9_minors_2 (fun H locs cells slots hst => ?_)
  refine W.eq (g2 := F0 m 5 ls [va_rf x2]) rfl ?_
  refine jw_astore_n (i := 2) (r := x2) (lv' := [(2, va_rf x2), (0, va_rf (some a0)), (1, .int v1)]) hx hb dX9_minors_5 rfl hl (by decide) rfl (fun ls hl => ?_)
  refine jw_aload_n (r := x2) hx hb dX9_minors_6 rfl (lv_at hl 0 rfl) ?_
  obtain ⟨a11, h12, hf⟩ := jm_rd_some hf
  obtain ⟨fsa11, hea11, hr13⟩ := jm_cl_some h12
  obtain ⟨x8, Mm9, h10, hf⟩ := jm_bd_some hf
  refine jw_V (As := []) (rest := []) (C := RX11) (T := TX11) (N := 3) (rv := x2) (jt_X11_rank l g b N a11  Mm3 Mm9 x8 h10) C0 hK hst (jm_mono h10) (jm_le_tr (jm_mono hf) jm_le_rf) q686 q687 q688 q90 q689 hd_X11_rank ⟨Nat.le_of_ble_eq_true rfl, Nat.le_of_ble_eq_true rfl⟩ hea11 hr13 rfl rfl hl.1 rfl (by rw [cs_n]; exact Nat.le_of_ble_eq_true rfl) dX9_minors_7 (fun H locs cells slots hst => ?_)
  refine W.eq (g2 := F0 m 10 ls [.int x8]) rfl ?_
  refine lv_istore_n (i := 3) (lv' := [(3, .int x8), (2, va_rf x2), (0, va_rf (some a0)), (1, .int v1)]) hx hb dX9_minors_10 rfl hl (by decide) (by simp [va_rf_cat, cat_i, cat_j, cat_f]) (fun ls hl => ?_)
  refine lv_lconst (v := 0) hx hb dX9_minors_11 (by decide) ?_
  refine lv_lstore (i := 4) (lv' := [(4, .long (0 : Int64)), (3, .int x8), (2, va_rf x2), (0, va_rf (some a0)), (1, .int v1)]) hx hb dX9_minors_12 hl (by decide) rfl (fun ls hl => ?_)
  refine lv_iconst (v := 0) hx hb dX9_minors_14 (by decide) ?_
  refine lv_istore (i := 6) (lv' := [(6, .int (0 : Int32)), (4, .long (0 : Int64)), (3, .int x8), (2, va_rf x2), (0, va_rf (some a0)), (1, .int v1)]) hx hb dX9_minors_15 hl (by decide) rfl (fun ls hl => ?_)
  obtain ⟨xl17, Ml17, hit17, hf⟩ := jm_bd_some hf
  have hlf17 : jm_le Ml17 M' := jm_le_tr (jm_mono hf) jm_le_rf
  have hwe17 : (fun (y : Int64) (Mz : Mem) => ∀ (H : Heap) (locs : List Loc) (cells slots : Nat) (ls : Array Slot), jm_St g b M M' Mz s (jm_rm 5 110 M M') H locs cells slots → lv_has ls 7 [(4, .long y)] → W p l e (jm_rm 5 110 M M') s m args below meth c H locs cells slots (jm_MQ below g b (some (.long r)) M M' args s) (F0 m 61 ls [])) xl17 Ml17 := fun H locs cells slots ls hst hl => K17_61 xl17 _ hf H locs cells slots ls hst hl
  refine jm_it_walk (Mf := M') (Wh := fun (z : Int64 × Int32) (Mz : Mem) => ∀ (H : Heap) (locs : List Loc) (cells slots : Nat) (ls : Array Slot), jm_St g b M M' Mz s (jm_rm 5 110 M M') H locs cells slots → lv_has ls 7 [(2, va_rf x2), (3, .int x8), (4, .long z.1), (6, .int z.2)] → W p l e (jm_rm 5 110 M M') s m args below meth c H locs cells slots (jm_MQ below g b (some (.long r)) M M' args s) (F0 m 17 ls [])) (We := fun (y : Int64) (Mz : Mem) => ∀ (H : Heap) (locs : List Loc) (cells slots : Nat) (ls : Array Slot), jm_St g b M M' Mz s (jm_rm 5 110 M M') H locs cells slots → lv_has ls 7 [(4, .long y)] → W p l e (jm_rm 5 110 M M') s m args below meth c H locs cells slots (jm_MQ below g b (some (.long r)) M M' args s) (F0 m 61 ls [])) ?_ N ((0 : Int64), (0 : Int32)) Mm9 xl17 Ml17 hit17 hlf17 hwe17 _ _ _ _ _ hst (lv_sub hl [3, 2, 1, 0] rfl)
  intro z Mm33 xe17 Me17 hf hle17 hk17 H locs cells slots ls hst hl
  obtain ⟨v4, v6⟩ := z
  have hf : (jf_X9_minors_L17 N x2 x8 v4 v6).1 Mm33 = some (xe17, Me17) := hf
  have hl : lv_has ls 7 [(2, va_rf x2), (3, .int x8), (4, .long v4), (6, .int v6)] := hl
  exact B17 x2 x8 v4 v6 _ _ _ hf hle17 hk17 _ _ _ _ _ hst (lv_sub hl [0, 1, 2, 3] rfl)
