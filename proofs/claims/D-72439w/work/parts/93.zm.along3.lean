/-! PLAIN LAW, 93.zm: along, whole: component -/
def ptC (d : Nat) : Int := if d = 1 then 6 else 1
section AO
variable {md : Nat → Bool} {N c s : Nat} {M0 M : Mem} {C : CX}
theorem alG_sc (hW : jWf C) {d : Nat} (hd : d = 1 ∨ d = 2) (j k : Nat) : alG C (smT (ptB C d) (ptS C d)) j k = ptC d * ptM C d j k := by
  unfold alG smT ptM ptC
  rcases hd with rfl | rfl
  · rw [if_pos rfl, ptG1_mul, ← ds_mul]
    refine jsum_cg fun e he => ?_
    unfold ptB
    rw [if_pos rfl, if_pos rfl]
    have := (ptW_6 hW he).1
    generalize (cEd C e 2 : Int) = w at *
    generalize ptW C e = u at *
    generalize cOne C (nt (ptS C 1) j) e = x
    generalize cOne C (nt (ptS C 1) k) e = y
    have e1 : x * w * (y * w) * u = x * (w * y) * (w * u) := by grind
    rw [e1, this, Int.mul_comm]
  · rw [if_neg (by decide), Int.one_mul]
    unfold ptG ptB
    rw [if_neg (by decide)]
    rfl
theorem alR_sc (hW : jWf C) {d ch : Nat} {X : Nat → Nat → Int} (hd : d = 1 ∨ d = 2) (hX : ∀ e, e < cE C → X e 0 = cCh C ch e) (j : Nat) : alR C (smT (ptB C d) (ptS C d)) X j = ptC d * ptR C d ch (nt (ptS C d) j) := by
  unfold alR smT ptC
  rcases hd with rfl | rfl
  · rw [if_pos rfl, ptR1_mul, ← ds_mul]
    refine jsum_cg fun e he => ?_
    unfold ptB
    rw [if_pos rfl, hX e he]
    have := (ptW_6 hW he).1
    generalize (cEd C e 2 : Int) = w at *
    generalize ptW C e = u at *
    generalize cOne C (nt (ptS C 1) j) e = x
    generalize cCh C ch e = y
    have e1 : x * w * y * u = x * y * (w * u) := by grind
    rw [e1, this, Int.mul_comm]
  · rw [if_neg (by decide), Int.one_mul]
    unfold ptR ptB
    rw [if_neg (by decide)]
    refine jsum_cg fun e he => ?_
    rw [if_neg (by decide), hX e he]
theorem mn_sc {n : Nat} {A : Nat → Nat → Int} {x : Int} : mn n (fun i j => x * A i j) = pr n (fun _ => x) * mn n A := mn_wrow (w := fun _ => x)
theorem ptC_pr {d n : Nat} (hd : d = 1 ∨ d = 2) (hn : n ≤ 4) : pr n (fun _ => ptC d) ≠ 0 ∧ (pr n (fun _ => ptC d)).natAbs ≤ 1296 := by
  have k1 : ∀ n, n < 5 → pr n (fun _ => ptC 1) ≠ 0 ∧ (pr n (fun _ => ptC 1)).natAbs ≤ 1296 := by decide
  have k2 : ∀ n, n < 5 → pr n (fun _ => ptC 2) ≠ 0 ∧ (pr n (fun _ => ptC 2)).natAbs ≤ 1296 := by decide
  rcases hd with rfl | rfl
  · exact k1 n (by omega)
  · exact k2 n (by omega)
theorem alD_sc (hW : jWf C) {d : Nat} (hd : d = 1 ∨ d = 2) : mn (ptn C d) (alG C (smT (ptB C d) (ptS C d))) = pr (ptn C d) (fun _ => ptC d) * ptD C d := by
  unfold ptD
  rw [← mn_sc]
  exact mn_cg fun i j _ _ => alG_sc hW hd i j
theorem alA_sc (hW : jWf C) {d ch : Nat} {X : Nat → Nat → Int} (hd : d = 1 ∨ d = 2) (hX : ∀ e, e < cE C → X e 0 = cCh C ch e) (e : Nat) : alA (ptn C d) (smT (ptB C d) (ptS C d)) (alG C (smT (ptB C d) (ptS C d))) (alR C (smT (ptB C d) (ptS C d)) X) e = pr (ptn C d) (fun _ => ptC d) * ptA C d ch e := by
  unfold alA ptA
  rw [← ds_mul]
  refine jsum_cg fun k _ => ?_
  have : mn (ptn C d) (cwd (alG C (smT (ptB C d) (ptS C d))) k (alR C (smT (ptB C d) (ptS C d)) X)) = pr (ptn C d) (fun _ => ptC d) * ptK C d ch k := by
    unfold ptK
    rw [← mn_sc]
    refine mn_cg fun i j _ _ => ?_
    unfold cwd
    by_cases c1 : j = k
    · rw [if_pos c1, if_pos c1]; exact alR_sc hW hd hX i
    · rw [if_neg c1, if_neg c1]; exact alG_sc hW hd i j
  rw [this]
  show ptB C d e (nt (ptS C d) k) * _ = _
  grind
theorem jx_along (hM : ∀ a, md a = true → a < M0.1) (hE : jExt md c s M0 M) {a t d ch : Nat} (h : jCx a C (jMk md M.2.2)) (hW : jWf C) (ht : jTb t (cE C) (ptN C d) (ptB C d) (jMk md M.2.2)) (hd : d = 1 ∨ d = 2) (hc : ch < 3) (hS : jSmK (cE C) (ptN C d) (ptB C d)) (hN : 1180591620717411303424 < N) :
    jo (jf_X9_along N a (some t) (nI ch)) M (jNew md (c + 230) (s + 1100) M0 M (fun q H => jQsP q (cE C) (cE C) (ptQ C d ch) H)) := by
  have h6 := hW.2.1
  have hn4 := ptn_le hW hd
  have hN5 := ptN_le hW (d := d)
  have nn : ptn C d * ptn C d ≤ 4 * 4 := Nat.mul_le_mul hn4 hn4
  have en : cE C * ptn C d ≤ 6 * 4 := Nat.mul_le_mul h6 hn4
  obtain ⟨u0, u1⟩ := ptC_pr hd hn4
  unfold jf_X9_along jf_X9_along_k5_51 jf_X9_along_k103_161
  refine jo_bd (jo_mono (jx_alSet hM hE ht h6 hN5 hS hN) ?_)
  rintro r M1 ⟨rfl, s1, E1⟩
  refine jT_cl ((ht.sub s1).sub jMk.sub) (jo_bd (jo_mono (jx_some (b := ptS C d) hM E1 (ht.sub s1) (by omega) (by omega) (by omega) (ptS_lt hW)) ?_))
  rintro r M2 ⟨tb, ar2, rr2, rf2, rfl, h2, E2⟩
  have hB2 : jTb tb (cE C) (ptn C d) (smT (ptB C d) (ptS C d)) (jMk md M2.2.2) := h2.tb
  have s12 := s1.tr h2.2.2.2.2
  -- the chain's table
  refine jX_al (E2.md hM) E2 fun q0 M3 hq0 _ e3 E3 => ?_
  have s3 : jSub (jMk md M2.2.2) (jMk md M3.2.2) := by rw [e3]; exact jSub.new hq0
  refine jx_nE ((h.kp (s12.tr s3).kp).kp jMk.sub.kp) ?_
  refine jX_in11 (K := 0) hM E3 s3 hq0 (by rw [e3, va_up_self]) (by omega) (by omega) (fun M4 ar4 rr4 rf4 h4 E4 => ?_)
  have s4 := s12.tr h4.2.2.2.2
  obtain ⟨va, ha⟩ := h.ob
  refine jo_cl (mkg (s4 _ _ ha)).2 (jo_bd (jo_mono (jx_column hM E4 (h.kp s4.kp) hW hc (by omega)) ?_))
  rintro r M5 ⟨q5, rfl, hq5, n5, s5, E5⟩
  obtain ⟨g5, g6, g7⟩ := hq5
  refine jT_cl ((h4.tb.sub s5).sub jMk.sub) (jo_bd (jo_mono (jx_and hM E5 (h4.tb.sub s5) (by omega) (by decide) (by omega) g6 g7) ?_))
  rintro r M6 ⟨tx, ar6, rr6, rf6, rfl, h6', E6⟩
  have s26 : jSub (jMk md M2.2.2) (jMk md M6.2.2) := h4.2.2.2.2.tr (s5.tr h6'.2.2.2.2)
  have hX : ∀ e, e < cE C → andT (fun _ _ => 0) 0 (cCh C ch) e 0 = cCh C ch e := fun e _ => by unfold andT; rw [if_neg (Nat.lt_irrefl 0)]
  -- the table of products
  refine jX_al (E6.md hM) E6 fun tg M7 hq7 _ e7 E7 => ?_
  have s7 : jSub (jMk md M6.2.2) (jMk md M7.2.2) := by rw [e7]; exact jSub.new hq7
  have hB7 : jTb tb (cE C) (ptn C d) (smT (ptB C d) (ptS C d)) M7.2.2 := (hB2.sub (s26.tr s7)).sub jMk.sub
  refine jT_cols hB7 (jT_cols hB7 ?_)
  refine jX_in11 (R := ptn C d) (K := ptn C d) hM E7 s7 hq7 (by rw [e7, va_up_self]) (by omega) (by omega) (fun M8 ar8 rr8 rf8 h8 E8 => ?_)
  have hC6 : jCx a C (jMk md M6.2.2) := h.kp (s12.tr s26).kp
  refine jo_bd (jo_mono (jx_alGram hC6 hW (hB2.sub s26) (by omega) (by omega) h8 E8) ?_)
  rintro _ M9 ⟨h9, E9⟩
  have bG : ∀ i j, i < ptn C d → j < ptn C d → (alG C (smT (ptB C d) (ptS C d)) i j).natAbs ≤ 324 := fun i j hi hj => by
    rw [alG_sc hW hd, Int.natAbs_mul]
    have := ptG_abs hW hd (nt_ptS hW hi) (nt_ptS hW hj)
    unfold ptC
    unfold ptM
    rcases hd with rfl | rfl
    · rw [if_pos rfl] at this ⊢
      exact Nat.le_trans (Nat.mul_le_mul_left _ this) (by decide)
    · rw [if_neg (by decide)] at this ⊢
      exact Nat.le_trans (Nat.mul_le_mul_left _ this) (by decide)
  have bR : ∀ j, j < ptn C d → (alR C (smT (ptB C d) (ptS C d)) (andT (fun _ _ => 0) 0 (cCh C ch)) j).natAbs ≤ 324 := fun j hj => by
    rw [alR_sc hW hd hX, Int.natAbs_mul]
    have := ptR_abs hW (ch := ch) hd hc (nt_ptS hW hj)
    unfold ptC
    rcases hd with rfl | rfl
    · rw [if_pos rfl] at this ⊢
      exact Nat.le_trans (Nat.mul_le_mul_left _ this) (by decide)
    · rw [if_neg (by decide)] at this ⊢
      exact Nat.le_trans (Nat.mul_le_mul_left _ this) (by decide)
  refine jN_cl h9.md (jo_bd (jo_mono (jx_det (Mx := 324) hM E9 h9.tb (by omega) (by omega) bG (jBd_pt _ hn4)) ?_))
  rintro r M10 ⟨rfl, s10, E10⟩
  have s6' := h9.2.2.2.2.tr s10
  have hC10 : jCx a C (jMk md M10.2.2) := hC6.kp s6'.kp
  refine jx_nE (hC10.kp jMk.sub.kp) (jo_ck (ckL (by omega)) ?_)
  rw [nI_tc (by omega)]
  refine jX_al (E10.md hM) E10 fun qa M11 hq11 _ e11 E11 => ?_
  have s11 : jSub (jMk md M10.2.2) (jMk md M11.2.2) := by rw [e11]; exact jSub.new hq11
  refine jo_bd (jo_mono (jx_alSolve (n := ptn C d) (B := smT (ptB C d) (ptS C d)) (X := andT (fun _ _ => 0) 0 (cCh C ch)) (Gm := alG C (smT (ptB C d) (ptS C d))) hC10 hW (hB2.sub (s26.tr s6')) (h6'.tb.sub s6') (h9.tb.sub s10) hn4 (by omega) hM hq11 ⟨fun _ => 0, by rw [e11, va_up_self], fun _ _ => rfl⟩ s11 E11 bG bR) ?_)
  rintro _ M12 ⟨q12, s12', E12⟩
  rw [alD_sc hW hd]
  have q13 : jRow qa (cE C) (fun e => pr (ptn C d) (fun _ => ptC d) * ptA C d ch e) (jMk md M12.2.2) := q12.cg fun e _ => alA_sc hW hd hX e
  have bD := ptD_abs hW hd
  have hPD : ptPD d ≤ 84934656 := by rcases hd with rfl | rfl <;> decide
  have hPA : ptPA d ≤ 18345885696 := by rcases hd with rfl | rfl <;> decide
  refine jo_mono (jx_alFr (hC10.kp s12'.kp) hW (by omega) hM q13 E12 (fun e he => ?_) ?_ (Int.mul_ne_zero u0 (ptD_ne hW hd))) ?_
  · rw [Int.natAbs_mul]
    have := ptA_abs hW (ch := ch) hd hc he
    have := Nat.mul_le_mul u1 (Nat.le_trans this hPA)
    omega
  · rw [Int.natAbs_mul]
    have := Nat.mul_le_mul u1 (Nat.le_trans bD hPD)
    omega
  · rintro r M13 ⟨q, rfl, s13, E13, g, g1, g2⟩
    refine ⟨q, rfl, ((s12.tr s26).tr s6').tr (s12'.tr s13), E13.mono (by omega) (by show s + 500 + 3 + cE C + cE C * sN (ptS C d) + 3 + cE C + cE C * 0 + 6 + 3 + cE C + cE C * (0 + 1) + 3 + ptn C d + ptn C d * ptn C d + 3 + ptn C d + ptn C d * ptn C d + ptn C d * ptn C d + cE C + 320 + 18 ≤ _; have : cE C * sN (ptS C d) ≤ 24 := en; omega), g, g1, fun e he => ?_⟩
    obtain ⟨b, b1, b2⟩ := g2 e he
    refine ⟨b, b1, ?_⟩
    rw [b2]
    show some (jFr (Rat.divInt (pr (ptn C d) (fun _ => ptC d) * ptA C d ch e) (pr (ptn C d) (fun _ => ptC d) * ptD C d))) = some (jFr (Rat.divInt (ptA C d ch e) (ptD C d)))
    rw [Rat.divInt_mul_left u0]
end AO
